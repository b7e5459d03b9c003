/-! ===== PURE 2: words by letters; sums, products, ways ===== -/
set_option maxRecDepth 100000
/-- the j-th letter from the right; the i-th from the left -/
def ld (q w j : Nat) : Nat := w / q ^ j % q
def dg (q n w i : Nat) : Nat := w / q ^ (n - 1 - i) % q
/-- a word out of its letters (from the right) -/
def wl (q : Nat) (h : Nat → Nat) : Nat → Nat
  | 0 => 0
  | n + 1 => wl q h n + h n * q ^ n
/-- a sum in the field -/
def fs (q : Nat) (t : Nat → Nat) : Nat → Nat
  | 0 => 0
  | n + 1 => fadd q (fs q t n) (t n)
/-- how many -/
def cn (t : Nat → Bool) : Nat → Nat
  | 0 => 0
  | n + 1 => cn t n + (if t n = true then 1 else 0)
theorem ld_lt {q : Nat} (hq : isQ q) (w j : Nat) : ld q w j < q := Nat.mod_lt _ (by have := hq.1; omega)
theorem dg_lt {q : Nat} (hq : isQ q) (n w i : Nat) : dg q n w i < q := Nat.mod_lt _ (by have := hq.1; omega)
theorem dg_ld (q n w i : Nat) : dg q n w i = ld q w (n - 1 - i) := rfl
theorem wl_congr {q : Nat} {f g : Nat → Nat} : ∀ {n : Nat}, (∀ j, j < n → f j = g j) → wl q f n = wl q g n
  | 0, _ => rfl
  | n + 1, h => by
    unfold wl
    rw [wl_congr (n := n) (fun j hj => h j (by omega)), h n (by omega)]
theorem fs_congr {q : Nat} {f g : Nat → Nat} : ∀ {n : Nat}, (∀ j, j < n → f j = g j) → fs q f n = fs q g n
  | 0, _ => rfl
  | n + 1, h => by
    unfold fs
    rw [fs_congr (n := n) (fun j hj => h j (by omega)), h n (by omega)]
theorem cn_congr {f g : Nat → Bool} : ∀ {n : Nat}, (∀ j, j < n → f j = g j) → cn f n = cn g n
  | 0, _ => rfl
  | n + 1, h => by
    unfold cn
    rw [cn_congr (n := n) (fun j hj => h j (by omega)), h n (by omega)]
theorem wl_shift (q : Nat) (f : Nat → Nat) : ∀ n, wl q f (n + 1) = f 0 + q * wl q (fun j => f (j + 1)) n
  | 0 => by simp [wl]
  | n + 1 => by
    rw [wl, wl_shift q f n, wl, Nat.mul_add, Nat.pow_succ]
    rw [show q * (f (n + 1) * q ^ n) = f (n + 1) * (q ^ n * q) from by rw [Nat.mul_left_comm, Nat.mul_comm q]]
    omega
theorem wl_lt {q : Nat} (hq : 0 < q) {f : Nat → Nat} : ∀ n, (∀ j, j < n → f j < q) → wl q f n < q ^ n
  | 0, _ => by simp [wl]
  | n + 1, h => by
    have h1 := wl_lt hq n (fun j hj => h j (by omega))
    have h2 := h n (by omega)
    rw [wl, Nat.pow_succ]
    have h3 : f n * q ^ n ≤ (q - 1) * q ^ n := Nat.mul_le_mul_right _ (by omega)
    have h4 : (q - 1) * q ^ n + q ^ n = q ^ n * q := by
      rw [← Nat.succ_mul, Nat.succ_eq_add_one, Nat.sub_add_cancel hq, Nat.mul_comm]
    omega
/-- the letters of a word that was put together -/
theorem ld_wl {q : Nat} (hq : 0 < q) {f : Nat → Nat} : ∀ (n : Nat), (∀ j, j < n → f j < q) → ∀ j, j < n → ld q (wl q f n) j = f j
  | 0, _, j, hj => by omega
  | n + 1, h, j, hj => by
    unfold ld
    rw [wl_shift]
    cases j with
    | zero =>
      rw [Nat.pow_zero, Nat.div_one, Nat.add_mul_mod_self_left, Nat.mod_eq_of_lt (h 0 (by omega))]
    | succ j =>
      rw [Nat.pow_succ, Nat.mul_comm (q ^ j) q, ← Nat.div_div_eq_div_mul, Nat.add_mul_div_left _ _ hq, Nat.div_eq_of_lt (h 0 (by omega)), Nat.zero_add]
      exact ld_wl hq n (fun j hj => h (j + 1) (by omega)) j (by omega)
/-- a word is put together out of its letters -/
theorem wl_ld {q : Nat} (hq : 0 < q) : ∀ (n w : Nat), w < q ^ n → wl q (ld q w) n = w
  | 0, w, h => by simp at h; simp [wl, h]
  | n + 1, w, h => by
    rw [wl_shift]
    have e : ∀ j, ld q w (j + 1) = ld q (w / q) j := fun j => by
      unfold ld
      rw [Nat.pow_succ, Nat.mul_comm (q ^ j) q, ← Nat.div_div_eq_div_mul]
    rw [wl_congr (fun j _ => e j), wl_ld hq n (w / q) (by rw [Nat.pow_succ] at h; exact Nat.div_lt_of_lt_mul (by rw [Nat.mul_comm]; exact h))]
    unfold ld
    rw [Nat.pow_zero, Nat.div_one]
    exact Nat.mod_add_div w q
theorem wl_inj {q : Nat} (hq : 0 < q) {n a b : Nat} (ha : a < q ^ n) (hb : b < q ^ n) (h : ∀ j, j < n → ld q a j = ld q b j) : a = b := by
  rw [← wl_ld hq n a ha, ← wl_ld hq n b hb]
  exact wl_congr h
/-- Horner's road from the left -/
def hv (q : Nat) (g : Nat → Nat) : Nat → Nat
  | 0 => 0
  | n + 1 => q * hv q g n + g n
theorem hv_wl (q n : Nat) (h : Nat → Nat) : ∀ i, i ≤ n → hv q (fun i => h (n - 1 - i)) i = wl q (fun j => h (n - i + j)) i
  | 0, _ => rfl
  | i + 1, hi => by
    rw [hv, hv_wl q n h i (by omega), wl_shift, Nat.add_comm]
    congr 1
    · rw [Nat.add_zero]
      congr 1
      omega
    · congr 1
      exact wl_congr (fun j _ => by congr 1; omega)
theorem hv_all (q n : Nat) (h : Nat → Nat) : hv q (fun i => h (n - 1 - i)) n = wl q h n := by
  rw [hv_wl q n h n (Nat.le_refl _)]
  exact wl_congr (fun j _ => by congr 1; omega)
theorem hv_congr {q : Nat} {f g : Nat → Nat} : ∀ {n : Nat}, (∀ j, j < n → f j = g j) → hv q f n = hv q g n
  | 0, _ => rfl
  | n + 1, h => by
    unfold hv
    rw [hv_congr (n := n) (fun j hj => h j (by omega)), h n (by omega)]
/-- both roads give the same -/
theorem fs_lt {q : Nat} (hq : isQ q) {t : Nat → Nat} : ∀ n, (∀ j, j < n → t j < q) → fs q t n < q
  | 0, _ => by have := hq.1; simp [fs]; omega
  | n + 1, h => fadd_lt hq (fs_lt hq n (fun j hj => h j (by omega))) (h n (by omega))
theorem fs_shift {q : Nat} (hq : isQ q) (t : Nat → Nat) : ∀ n, (∀ j, j < n + 1 → t j < q) → fs q t (n + 1) = fadd q (t 0) (fs q (fun j => t (j + 1)) n)
  | 0, h => by
    have h0 := h 0 (by omega)
    simp only [fs]
    rw [fadd_0l hq h0, fadd_0 hq h0]
  | n + 1, h => by
    rw [fs, fs_shift hq t n (fun j hj => h j (by omega))]
    rw [fadd_assoc hq (h 0 (by omega)) (fs_lt hq n (fun j hj => h (j + 1) (by omega))) (h (n + 1) (by omega))]
    rfl
theorem fs_rev {q : Nat} (hq : isQ q) : ∀ (n : Nat) (t : Nat → Nat), (∀ j, j < n → t j < q) → fs q (fun i => t (n - 1 - i)) n = fs q t n
  | 0, t, _ => rfl
  | n + 1, t, h => by
    rw [fs_shift hq t n h, fs]
    have e : fs q (fun i => t (n + 1 - 1 - i)) n = fs q (fun j => t (j + 1)) n := by
      rw [← fs_rev hq n (fun j => t (j + 1)) (fun j hj => h (j + 1) (by omega))]
      exact fs_congr (fun j hj => by congr 1; omega)
    rw [e, show n + 1 - 1 - n = 0 by omega]
    exact fadd_comm hq (fs_lt hq n (fun j hj => h (j + 1) (by omega))) (h 0 (by omega))
theorem cn_shift (t : Nat → Bool) : ∀ n, cn t (n + 1) = (if t 0 = true then 1 else 0) + cn (fun j => t (j + 1)) n
  | 0 => by simp [cn]
  | n + 1 => by
    rw [cn, cn_shift t n, cn]
    omega
theorem cn_rev : ∀ (n : Nat) (t : Nat → Bool), cn (fun i => t (n - 1 - i)) n = cn t n
  | 0, t => rfl
  | n + 1, t => by
    rw [cn_shift t n, cn]
    have e : cn (fun i => t (n + 1 - 1 - i)) n = cn (fun j => t (j + 1)) n := by
      rw [← cn_rev n (fun j => t (j + 1))]
      exact cn_congr (fun j hj => by congr 1; omega)
    rw [e, show n + 1 - 1 - n = 0 by omega]
    omega
theorem cn_le (t : Nat → Bool) : ∀ n, cn t n ≤ n
  | 0 => Nat.le_refl _
  | n + 1 => by
    have := cn_le t n
    rw [cn]
    split <;> omega
/-! sums of words, products, ways -/
def wsum (q n a b c : Nat) : Nat := wl q (fun j => fadd q (ld q a j) (fmul q c (ld q b j))) n
def wprod (q n a b : Nat) : Nat := fs q (fun j => fmul q (ld q a j) (ld q b j)) n
/-- the place i isn't lost -/
def keptAt (lost : Int32) (i : Nat) : Bool := decide (((lost >>> (nI i &&& 31)) &&& (1 : Int32)) = 0)
def wway (q n a b : Nat) (lost : Int32) : Nat := cn (fun i => keptAt lost i && decide (dg q n a i ≠ dg q n b i)) n
theorem wsum_lt {q n a b c : Nat} (hq : isQ q) (hc : c < q) : wsum q n a b c < q ^ n := wl_lt (by have := hq.1; omega) n (fun j _ => fadd_lt hq (ld_lt hq _ _) (fmul_lt hq hc (ld_lt hq _ _)))
theorem wprod_lt {q n a b : Nat} (hq : isQ q) : wprod q n a b < q := fs_lt hq n (fun j _ => fmul_lt hq (ld_lt hq _ _) (ld_lt hq _ _))
theorem ld_wsum {q n a b c j : Nat} (hq : isQ q) (hc : c < q) (hj : j < n) : ld q (wsum q n a b c) j = fadd q (ld q a j) (fmul q c (ld q b j)) := ld_wl (by have := hq.1; omega) n (fun j _ => fadd_lt hq (ld_lt hq _ _) (fmul_lt hq hc (ld_lt hq _ _))) j hj
theorem wsum_0 {q n a b : Nat} (hq : isQ q) (ha : a < q ^ n) : wsum q n a b 0 = a := by
  have h0 : 0 < q := by have := hq.1; omega
  refine wl_inj h0 (wsum_lt hq h0) ha (fun j hj => ?_)
  rw [ld_wsum hq h0 hj, fmul_0l hq (ld_lt hq _ _), fadd_0 hq (ld_lt hq _ _)]
/-- numbers that are small enough for all that is done with words -/
theorem qn_small {q n : Nat} (hq : isQ q) (hn : n ≤ 12) : q ^ n < 2 ^ 28 := pow_lt hq.lt (by omega)
theorem X1_letter {q n w i N : Nat} (hN : 20 ≤ N) (hq : isQ q) (hn : n ≤ 12) (hw : w < 2 ^ 62) (hi : i < n) : f_X1_letter N (nI q) (nI n) (lN w) (nI i) = some (nI (dg q n w i)) := by
  have q5 := hq.2
  have q2 := hq.1
  unfold f_X1_letter
  rw [nI_s1 (by omega), nI_sub (by omega), X1_power hN hq.lt (by omega), Option.bind_some, ldiv_N (by omega) (pow_pos hq) (by have := pow_lt hq.lt (show n - 1 - i < 13 by omega); omega), Option.bind_some, ps_l q (by omega), lrem_N (Nat.lt_of_le_of_lt (Nat.div_le_self _ _) (by omega)) (by omega) (by omega), Option.bind_some, ps_i]
  rfl
theorem X3_letter_eq (N : Nat) (a b : Int32) (w : Int64) (i : Int32) : f_X3_letter N a b w i = f_X1_letter N a b w i := rfl
theorem X3_letter {q n w i N : Nat} (hN : 20 ≤ N) (hq : isQ q) (hn : n ≤ 12) (hw : w < 2 ^ 62) (hi : i < n) : f_X3_letter N (nI q) (nI n) (lN w) (nI i) = some (nI (dg q n w i)) := X1_letter hN hq hn hw hi
