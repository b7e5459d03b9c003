/-! ===== PURE J34: turn ===== -/
set_option maxRecDepth 100000
theorem nI_or (a b : Nat) : nI a ||| nI b = nI (a ||| b) := by
  apply Int32.toBitVec_inj.mp
  simp [nI, BitVec.ofNat_or]
theorem sh_tab : ∀ i, i < 13 → (((((4 : Int32) * nI i).toInt64 &&& 63)).toBitVec.smod 64).toNat = 4 * i := by decide +kernel
theorem i64_shr (T s : Int64) (k : Nat) (hs : (s.toBitVec.smod 64).toNat = k) : (T >>> s).toInt = T.toInt / 2 ^ k := by
  show (T >>> s).toBitVec.toInt = _
  rw [Int64.toBitVec_shiftRight, BitVec.sshiftRight', BitVec.toInt_sshiftRight, hs, Int.shiftRight_eq_div_pow]
  rfl
theorem lN_shr {t i : Nat} (ht : t < 2 ^ 63) (hi : i < 13) : lN t >>> (((4 : Int32) * nI i).toInt64 &&& 63) = lN (t / 2 ^ (4 * i)) := by
  apply Int64.toInt_inj.mp
  have h1 : t / 2 ^ (4 * i) < 2 ^ 63 := Nat.lt_of_le_of_lt (Nat.div_le_self _ _) ht
  rw [i64_shr _ _ _ (sh_tab i hi), pk_lT ht, pk_lT h1]
  norm_cast
theorem lN_and15 (t : Nat) : (lN t &&& 15) = lN (t % 16) := by
  apply Int64.toBitVec_inj.mp
  apply BitVec.eq_of_toNat_eq
  rw [Int64.toBitVec_and, BitVec.toNat_and]
  show (BitVec.ofNat 64 t).toNat &&& 15 = (BitVec.ofNat 64 (t % 16)).toNat
  rw [BitVec.toNat_ofNat, BitVec.toNat_ofNat, show 15 = 2 ^ 4 - 1 from rfl, Nat.and_two_pow_sub_one_eq_mod]
  omega
theorem shr_0 {T : Int64} {n : Nat} (hn : n < 13) : (T >>> (((4 : Int32) * nI n).toInt64 &&& 63)) = 0 ↔ 0 ≤ T.toInt ∧ T.toInt < 2 ^ (4 * n) := by
  rw [← Int64.toInt_inj, i64_shr _ _ _ (sh_tab n hn), show (0 : Int64).toInt = 0 from rfl]
  have hp : (0 : Int) < 2 ^ (4 * n) := Int.pow_pos (by omega)
  constructor
  · intro h
    have h1 := Int.emod_add_mul_ediv T.toInt (2 ^ (4 * n))
    rw [h, Int.mul_zero, Int.add_zero] at h1
    rw [← h1]
    exact ⟨Int.emod_nonneg _ (by omega), Int.emod_lt_of_pos _ hp⟩
  · rintro ⟨h1, h2⟩
    exact Int.ediv_eq_zero_of_lt h1 h2
theorem shl_tab : ∀ n, n < 13 → ((1 : Int64) <<< (((4 : Int32) * nI n).toInt64 &&& 63)) = lN (2 ^ (4 * n)) := by decide +kernel
theorem one_shl : ∀ k, k < 16 → ((1 : Int32) <<< (nI k &&& 31)) = nI (2 ^ k) := by decide +kernel
theorem surj_le : ∀ (n m : Nat) (f : Nat → Nat), (∀ a, a < n → ∃ i, i < m ∧ f i = a) → n ≤ m
  | 0, m, f, h => Nat.zero_le _
  | n + 1, m, f, h => by
    obtain ⟨i0, h1, h2⟩ := h n (by omega)
    have := surj_le n (m - 1) (fun i => if i = i0 then f (m - 1) else f i) (fun a ha => by
      obtain ⟨i, h3, h4⟩ := h a (by omega)
      have hne : i ≠ i0 := fun e => by rw [e] at h4; omega
      by_cases e : i = m - 1
      · exact ⟨i0, by omega, by simp only [if_true]; rw [← e]; exact h4⟩
      · exact ⟨i, by omega, by simp only [hne, if_false]; exact h4⟩)
    omega
theorem surj_inj {n : Nat} {f : Nat → Nat} (h : ∀ a, a < n → ∃ i, i < n ∧ f i = a) {i j : Nat} (hij : i < j) (hj : j < n) : f i ≠ f j := by
  intro he
  have := surj_le n (n - 1) (fun k => if k = j then f (n - 1) else f k) (fun a ha => by
    obtain ⟨k, h3, h4⟩ := h a ha
    by_cases e : k = j
    · exact ⟨i, by omega, by simp only [show i ≠ j by omega, if_false]; rw [he, ← e]; exact h4⟩
    · by_cases e2 : k = n - 1
      · exact ⟨j, by omega, by simp only [if_true]; rw [← e2]; exact h4⟩
      · exact ⟨k, by omega, by simp only [e, if_false]; exact h4⟩)
  omega
/-- where a place comes -/
def nib (t i : Nat) : Nat := t / 2 ^ (4 * i) % 16
theorem nib_lt (t i : Nat) : nib t i < 16 := Nat.mod_lt _ (by decide)
theorem nib_of {t i : Nat} (ht : t < 2 ^ 63) (hi : i < 13) : ((lN t >>> (((4 : Int32) * nI i).toInt64 &&& 63)) &&& (15 : Int64)).toInt32 = nI (nib t i) := by
  rw [lN_shr ht hi, lN_and15, ps_i]
  rfl
/-- the places that were seen -/
def seenI (T : Int64) : Nat → Int32
  | 0 => 0
  | k + 1 => seenI T k ||| ((1 : Int32) <<< ((((T >>> (((4 : Int32) * nI k).toInt64 &&& 63)) &&& (15 : Int64)).toInt32) &&& 31))
def sn (t : Nat) : Nat → Nat
  | 0 => 0
  | k + 1 => sn t k ||| 2 ^ nib t k
theorem sn_lt (t : Nat) : ∀ k, sn t k < 2 ^ 16
  | 0 => (by decide : 0 < 2 ^ 16)
  | k + 1 => Nat.or_lt_two_pow (sn_lt t k) (Nat.pow_lt_pow_right (by decide) (nib_lt t k))
theorem seen_sn {t : Nat} (ht : t < 2 ^ 63) : ∀ k, k ≤ 12 → seenI (lN t) k = nI (sn t k)
  | 0, _ => rfl
  | k + 1, hk => by rw [seenI, seen_sn ht k (by omega), nib_of ht (by omega), one_shl _ (nib_lt t k), nI_or]; rfl
theorem sn_bit {t a : Nat} : ∀ k, (sn t k).testBit a = true ↔ ∃ i, i < k ∧ nib t i = a
  | 0 => ⟨fun h => by simp [sn] at h, fun ⟨i, h, _⟩ => by omega⟩
  | k + 1 => by
    rw [sn, Nat.testBit_or, Bool.or_eq_true, sn_bit k, Nat.testBit_two_pow, decide_eq_true_iff]
    constructor
    · rintro (⟨i, h1, h2⟩ | h)
      · exact ⟨i, by omega, h2⟩
      · exact ⟨k, by omega, h⟩
    · rintro ⟨i, h1, h2⟩
      by_cases e : i = k
      · subst e; exact Or.inr h2
      · exact Or.inl ⟨i, by omega, h2⟩
theorem mask_n : ∀ n, n < 13 → ((1 : Int32) <<< (nI n &&& 31)) - (1 : Int32) = nI (2 ^ n - 1) := by decide +kernel
/-- a turn -/
def isT (n t : Nat) : Prop := t < 2 ^ 63 ∧ (∀ i, i < n → nib t i < n) ∧ ∀ i j, i < j → j < n → nib t i ≠ nib t j
theorem turn_iff {n : Nat} (hn : n ≤ 12) (T : Int64) : (∃ t, T = lN t ∧ isT n t ∧ ¬ T < 0 ∧ ¬ ((1 : Int64) <<< (((4 : Int32) * nI n).toInt64 &&& 63)) ≤ T ∧ seenI T n = ((1 : Int32) <<< (nI n &&& 31)) - (1 : Int32) ∧ (T >>> (((4 : Int32) * nI n).toInt64 &&& 63)) = 0) ∨ ((T < 0 ∨ ((1 : Int64) <<< (((4 : Int32) * nI n).toInt64 &&& 63)) ≤ T ∨ ¬ seenI T n = ((1 : Int32) <<< (nI n &&& 31)) - (1 : Int32)) ∧ (¬ seenI T n = ((1 : Int32) <<< (nI n &&& 31)) - (1 : Int32) ∨ ¬ (T >>> (((4 : Int32) * nI n).toInt64 &&& 63)) = 0)) := by
  have p48 : 2 ^ (4 * n) ≤ 2 ^ 48 := Nat.pow_le_pow_right (by decide) (by omega)
  by_cases h0 : T < 0
  · refine Or.inr ⟨Or.inl h0, Or.inr fun h => ?_⟩
    have := ((shr_0 (by omega)).mp h).1
    rw [Int64.lt_iff_toInt_lt, show (0 : Int64).toInt = 0 from rfl] at h0
    omega
  · obtain ⟨t, ht, rfl⟩ := pk_lOf h0
    by_cases h1 : ((1 : Int64) <<< (((4 : Int32) * nI n).toInt64 &&& 63)) ≤ lN t
    · refine Or.inr ⟨Or.inr (Or.inl h1), Or.inr fun h => ?_⟩
      have h2 := ((shr_0 (by omega)).mp h).2
      rw [shl_tab n (by omega), pk_lLE (by omega) ht] at h1
      rw [pk_lT ht] at h2
      have h3 : ((2 ^ (4 * n) : Nat) : Int) = (2 : Int) ^ (4 * n) := by norm_cast
      omega
    · by_cases h2 : seenI (lN t) n = ((1 : Int32) <<< (nI n &&& 31)) - (1 : Int32)
      · have h3 := h1
        rw [shl_tab n (by omega), pk_lLE (by omega) ht] at h3
        have h4 := h2
        rw [seen_sn ht n hn, mask_n n (by omega), nI_eq (by have := sn_lt t n; omega) (by have := (two_le n (by omega)).2; omega)] at h4
        have hb : ∀ a, (∃ i, i < n ∧ nib t i = a) ↔ a < n := fun a => by
          rw [← sn_bit n, h4, Nat.testBit_two_pow_sub_one, decide_eq_true_iff]
        refine Or.inl ⟨t, rfl, ⟨ht, fun i hi => (hb _).mp ⟨i, hi, rfl⟩, fun i j hij hj => surj_inj (fun a ha => (hb a).mpr ha) hij hj⟩, h0, h1, h2, ?_⟩
        rw [shr_0 (by omega), pk_lT ht]
        have h5 : ((2 ^ (4 * n) : Nat) : Int) = (2 : Int) ^ (4 * n) := by norm_cast
        omega
      · exact Or.inr ⟨Or.inr (Or.inr h2), Or.inl h2⟩
theorem fmul_can {q c a b : Nat} (hq : isQ q) (hc : c < q) (h0 : c ≠ 0) (ha : a < q) (hb : b < q) (h : fmul q c a = fmul q c b) : a = b := by
  have e : ∀ x, x < q → fmul q (finv q c) (fmul q c x) = x := fun x hx => by rw [← fmul_assoc hq (finv_lt hq hc) hc hx, finv_mul hq hc h0, fmul_1l hq hx]
  rw [← e a ha, h, e b hb]
/-- the turned word -/
def tP (q n t c v : Nat) : Nat → Nat
  | 0 => 0
  | i + 1 => tP q n t c v i + q ^ (n - 1 - nib t i) * fmul q c (dg q n v i)
def thd (q n t c v : Nat) : Nat → (Nat → Nat)
  | 0 => fun _ => 0
  | i + 1 => fun j => if j = n - 1 - nib t i then fmul q c (dg q n v i) else thd q n t c v i j
theorem wl_upd {q j v : Nat} {h : Nat → Nat} (hj0 : h j = 0) : ∀ n, j < n → wl q (fun x => if x = j then v else h x) n = wl q h n + v * q ^ j
  | 0, hj => by omega
  | n + 1, hj => by
    rw [wl, wl]
    by_cases e : j = n
    · subst e
      rw [if_pos rfl, hj0, Nat.zero_mul, Nat.add_zero, wl_congr (f := fun x => if x = j then v else h x) (g := h) (n := j) (fun x hx => if_neg (by omega))]
    · rw [wl_upd hj0 n (by omega), if_neg (by omega)]
      omega
theorem thd_0 {q n t c v j : Nat} : ∀ k, (∀ i, i < k → j ≠ n - 1 - nib t i) → thd q n t c v k j = 0
  | 0, _ => rfl
  | k + 1, h => by
    rw [thd]
    dsimp only
    rw [if_neg (h k (by omega))]
    exact thd_0 k (fun i hi => h i (by omega))
theorem thd_at {q n t c v : Nat} (hT : isT n t) : ∀ k, k ≤ n → ∀ i, i < k → thd q n t c v k (n - 1 - nib t i) = fmul q c (dg q n v i)
  | 0, _, i, hi => by omega
  | k + 1, hk, i, hi => by
    rw [thd]
    dsimp only
    by_cases e : i = k
    · subst e; rw [if_pos rfl]
    · have h1 := hT.2.1 i (by omega)
      have h2 := hT.2.1 k (by omega)
      have h3 := hT.2.2 i k (by omega) (by omega)
      rw [if_neg (by omega)]
      exact thd_at hT k (by omega) i (by omega)
theorem thd_lt {q n t c v : Nat} (hq : isQ q) (hc : c < q) : ∀ k j, thd q n t c v k j < q
  | 0, j => by have := hq.1; show 0 < q; omega
  | k + 1, j => by
    rw [thd]
    dsimp only
    split
    · exact fmul_lt hq hc (dg_lt hq _ _ _)
    · exact thd_lt hq hc k j
theorem tP_wl {q n t c v : Nat} (hT : isT n t) : ∀ k, k ≤ n → tP q n t c v k = wl q (thd q n t c v k) n
  | 0, _ => by
    show 0 = wl q (fun _ => 0) n
    have : ∀ n, wl q (fun _ => 0) n = 0 := fun n => by
      induction n with
      | zero => rfl
      | succ n ih => rw [wl, ih]; simp
    rw [this]
  | k + 1, hk => by
    have h2 := hT.2.1 k (by omega)
    rw [tP, tP_wl hT k (by omega), thd, wl_upd (thd_0 k (fun i hi => by
      have h1 := hT.2.1 i (by omega)
      have h3 := hT.2.2 i k hi (by omega)
      omega)) n (by omega), Nat.mul_comm]
theorem tP_lt {q n t c v : Nat} (hq : isQ q) (hc : c < q) (hT : isT n t) : tP q n t c v n < q ^ n := by
  rw [tP_wl hT n (Nat.le_refl _)]
  exact wl_lt (by have := hq.1; omega) n (fun j _ => thd_lt hq hc n j)
theorem tP_part {q n t c v : Nat} (hq : isQ q) (hc : c < q) (hT : isT n t) (k : Nat) (hk : k ≤ n) : tP q n t c v k < q ^ n := by
  rw [tP_wl hT k hk]
  exact wl_lt (by have := hq.1; omega) n (fun j _ => thd_lt hq hc k j)
theorem tP_inj {q n t c a b : Nat} (hq : isQ q) (hc : c < q) (hc0 : c ≠ 0) (hT : isT n t) (ha : a < q ^ n) (hb : b < q ^ n) (h : tP q n t c a n = tP q n t c b n) : a = b := by
  refine dg_inj hq ha hb (fun i hi => ?_)
  rw [tP_wl hT n (Nat.le_refl _), tP_wl hT n (Nat.le_refl _)] at h
  have hni := hT.2.1 i hi
  have h1 := ld_wl (show 0 < q by have := hq.1; omega) n (fun j _ => thd_lt (t := t) (v := a) (n := n) hq hc n j) (n - 1 - nib t i) (by omega)
  have h2 := ld_wl (show 0 < q by have := hq.1; omega) n (fun j _ => thd_lt (t := t) (v := b) (n := n) hq hc n j) (n - 1 - nib t i) (by omega)
  rw [h, thd_at hT n (Nat.le_refl _) i hi] at h1
  rw [thd_at hT n (Nat.le_refl _) i hi] at h2
  have h3 : fmul q c (dg q n a i) = fmul q c (dg q n b i) := by rw [← h1, h2]
  exact fmul_can hq hc hc0 (dg_lt hq n a i) (dg_lt hq n b i) h3
