/-! ===== PURE J22: all words of a code, by number ===== -/
set_option maxRecDepth 100000
/-- the k-th word of a line: its digits times the rows, the last row first -/
def lk (q n r : Nat) (f : Nat → Nat) (k : Nat) : Nat → Nat
  | 0 => 0
  | t + 1 => wsum q n (lk q n r f k t) (f (r - 1 - t)) (k / q ^ t % q)
theorem lk_lt {q n r k : Nat} {f : Nat → Nat} (hq : isQ q) : ∀ t, lk q n r f k t < q ^ n
  | 0 => pow_pos hq
  | t + 1 => wsum_lt hq (Nat.mod_lt _ (by have := hq.1; omega))
theorem lk_up {q n r k : Nat} {f : Nat → Nat} (hq : isQ q) {s : Nat} (hk : k < q ^ s) : ∀ t, lk q n r f k (s + t) = lk q n r f k s
  | 0 => rfl
  | t + 1 => by
    show wsum q n (lk q n r f k (s + t)) (f (r - 1 - (s + t))) (k / q ^ (s + t) % q) = _
    have h1 : k < q ^ (s + t) := Nat.lt_of_lt_of_le hk (Nat.pow_le_pow_right (by have := hq.1; omega) (by omega))
    rw [Nat.div_eq_of_lt h1, Nat.zero_mod, wsum_0 hq (lk_lt hq _), lk_up hq hk t]
theorem lk_low {q n r x c t : Nat} {f : Nat → Nat} (hq : isQ q) : ∀ s, s ≤ t → lk q n r f (c * q ^ t + x) s = lk q n r f x s
  | 0, _ => rfl
  | s + 1, hs => by
    show wsum q n (lk q n r f (c * q ^ t + x) s) (f (r - 1 - s)) ((c * q ^ t + x) / q ^ s % q) = wsum q n (lk q n r f x s) (f (r - 1 - s)) (x / q ^ s % q)
    rw [lk_low hq s (by omega)]
    congr 1
    have e : c * q ^ t = q ^ s * (q * (c * q ^ (t - s - 1))) := by
      have h9 : q ^ t = q ^ s * (q * q ^ (t - s - 1)) := by
        rw [← Nat.pow_succ', ← Nat.pow_add]
        congr 1
        omega
      rw [h9, Nat.mul_left_comm c (q ^ s), Nat.mul_left_comm c q]
    rw [e, Nat.mul_add_div (pow_pos hq), Nat.mul_add_mod]
theorem lk_step {q n r x c t : Nat} {f : Nat → Nat} (hq : isQ q) (hx : x < q ^ t) (hc : c < q) (ht : t < r) : lk q n r f (c * q ^ t + x) r = wsum q n (lk q n r f x r) (f (r - 1 - t)) c := by
  have q2 := hq.1
  have hk : c * q ^ t + x < q ^ (t + 1) := by
    have h9 : (c + 1) * q ^ t ≤ q * q ^ t := Nat.mul_le_mul_right _ hc
    rw [Nat.succ_mul] at h9
    rw [Nat.pow_succ, Nat.mul_comm (q ^ t)]
    omega
  have h1 := lk_up (n := n) (r := r) (f := f) hq hk (r - (t + 1))
  have h2 := lk_up (n := n) (r := r) (f := f) hq hx (r - t)
  rw [show t + 1 + (r - (t + 1)) = r by omega] at h1
  rw [show t + (r - t) = r by omega] at h2
  rw [h1, h2]
  show wsum q n (lk q n r f (c * q ^ t + x) t) (f (r - 1 - t)) ((c * q ^ t + x) / q ^ t % q) = _
  rw [lk_low hq t (Nat.le_refl _), Nat.mul_comm c, Nat.mul_add_div (pow_pos hq), Nat.div_eq_of_lt hx, Nat.add_zero, Nat.mod_eq_of_lt hc]
theorem lk_0 {q n r : Nat} {f : Nat → Nat} (hq : isQ q) (t : Nat) : lk q n r f 0 t = 0 := by
  have h := lk_up (n := n) (r := r) (f := f) hq (s := 0) (k := 0) (by rw [Nat.pow_zero]; exact Nat.one_pos) t
  rw [Nat.zero_add] at h
  exact h
/-- a word's letters at the heads are the digits of its number -/
theorem lk_dg {q n m k : Nat} {W : Nat → Nat → Nat} (hq : isQ q) (hW : okR q n m W) {i : Nat} (hi : i < rk q n m W) : ∀ t, t ≤ rk q n m W → dg q n (lk q n (rk q n m W) (fw q n m W) k t) (hd q n m W i) = if rk q n m W - 1 - i < t then k / q ^ (rk q n m W - 1 - i) % q else 0
  | 0, _ => by
    show dg q n 0 _ = _
    rw [dg_0, if_neg (by omega)]
  | t + 1, ht => by
    have F := (frm_ok hq hW).1
    have q2 := hq.1
    have ih := lk_dg (k := k) hq hW hi t (by omega)
    have hc : k / q ^ t % q < q := Nat.mod_lt _ (by omega)
    have hrm := rk_le hq hW
    show dg q n (wsum q n (lk q n (rk q n m W) (fw q n m W) k t) (fw q n m W (rk q n m W - 1 - t)) (k / q ^ t % q)) (hd q n m W i) = _
    rw [dg_wsum hq hc (hd_lt hq hW hi), ih, dg_fw hq hW (by omega) (hd_lt hq hW hi)]
    by_cases e : rk q n m W - 1 - t = i
    · rw [e, F.2.2.2.2.1 i hi, fmul_1 hq hc, if_neg (by omega), if_pos (by omega), fadd_0l hq hc, show rk q n m W - 1 - i = t by omega]
    · rw [F.2.2.2.2.2.1 _ i (by omega) hi e, fmul_0 hq hc]
      by_cases e2 : rk q n m W - 1 - i < t
      · rw [if_pos e2, if_pos (by omega), fadd_0 hq (Nat.mod_lt _ (by omega))]
      · rw [if_neg e2, if_neg (by omega), fadd_0 hq (by omega)]
theorem lk_inj {q n m a b : Nat} {W : Nat → Nat → Nat} (hq : isQ q) (hW : okR q n m W) (ha : a < q ^ rk q n m W) (hb : b < q ^ rk q n m W) (h : lk q n (rk q n m W) (fw q n m W) a (rk q n m W) = lk q n (rk q n m W) (fw q n m W) b (rk q n m W)) : a = b := by
  refine wl_inj (by have := hq.1; omega) ha hb (fun j hj => ?_)
  have h1 := lk_dg (k := a) hq hW (i := rk q n m W - 1 - j) (by omega) _ (Nat.le_refl _)
  have h2 := lk_dg (k := b) hq hW (i := rk q n m W - 1 - j) (by omega) _ (Nat.le_refl _)
  rw [if_pos (by omega), show rk q n m W - 1 - (rk q n m W - 1 - j) = j by omega] at h1 h2
  show a / q ^ j % q = b / q ^ j % q
  rw [← h1, ← h2, h]
/-- the words of a code by number -/
noncomputable def lw (kd q n m : Nat) (w : Nat → Nat) (k : Nat) : Nat := if kd = 0 then w k else lk q n (rk q n m (wR q n w)) (fw q n m (wR q n w)) k (rk q n m (wR q n w))
theorem lw_lt {kd q n m k : Nat} {w : Nat → Nat} (hok : okc kd q n m w) (hk : k < szv kd q n m w) : lw kd q n m w k < q ^ n := by
  unfold szv at hk
  unfold lw
  split
  · rename_i e
    rw [if_pos e] at hk
    exact hok.2.2.2.2.2.1 k hk
  · exact lk_lt hok.1 _
theorem lw_inj {kd q n m a b : Nat} {w : Nat → Nat} (hok : okc kd q n m w) (ha : a < szv kd q n m w) (hb : b < szv kd q n m w) (h : lw kd q n m w a = lw kd q n m w b) : a = b := by
  unfold szv at ha hb
  unfold lw at h
  by_cases e : kd = 0
  · rw [if_pos e] at ha hb
    rw [if_pos e, if_pos e] at h
    rcases Nat.lt_trichotomy a b with hl | hl | hl
    · exact absurd h (hok.2.2.2.2.2.2 e a b hl hb)
    · exact hl
    · exact absurd h.symm (hok.2.2.2.2.2.2 e b a hl ha)
  · rw [if_neg e] at ha hb
    rw [if_neg e, if_neg e] at h
    exact lk_inj hok.1 (wR_ok hok.1) ha hb h
theorem lw_0 {kd q n m : Nat} {w : Nat → Nat} (hq : isQ q) (e : kd ≠ 0) : lw kd q n m w 0 = 0 := by
  unfold lw
  rw [if_neg e]
  exact lk_0 hq _
theorem szv_line {kd q n m : Nat} {w : Nat → Nat} (e : kd ≠ 0) : szv kd q n m w = q ^ rk q n m (wR q n w) := if_neg e
theorem szv_list {kd q n m : Nat} {w : Nat → Nat} (e : kd = 0) : szv kd q n m w = m := if_pos e
/-- both sides hold all words -/
def xW (x : Nat) (σ : SG) (L : Nat) (W : Nat → Nat) : Prop := (∃ fh, σ.2 x = some (eO 0 [.ref (x + 1), .ref (x + 2), .int (nI L), .ref (x + 3), .long fh, .ref (x + 4)])) ∧ ∃ g, σ.2 (x + 2) = some (eL 4096 g) ∧ ∀ k, k < L → g k = lN (W k)
def mW (st : MS) (q n L : Nat) (W : Nat → Nat) : Prop := st.2.2.1 11 = nI L ∧ (∀ k, k < L → st.2.1 10 k = lN (W k)) ∧ ∀ k, k < L → ∀ i, i < n → st.1 12 (12 * k + i) = nI (dg q n (W k) i)
