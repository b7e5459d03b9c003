/-! ===== PURE J19: shorter ===== -/
set_option maxRecDepth 100000
/-- the word that is kept, or none: listed words that have 0 there; of lines, the first row with a letter there is taken off the others -/
def shv (q n i v u : Nat) : Nat := if dg q n v i = 0 then v else wsum q n v u (fneg q (fmul q (dg q n v i) (finv q (dg q n u i))))
def shs (kd q n i f : Nat) (w : Nat → Nat) (k : Nat) : Bool := if kd = 0 then decide (dg q n (w k) i = 0) else decide (k ≠ f)
def shw (kd q n i f : Nat) (w : Nat → Nat) : Nat → Nat × (Nat → Nat)
  | 0 => (0, fun _ => 0)
  | k + 1 => if shs kd q n i f w k = true then ((shw kd q n i f w k).1 + 1, wset (shw kd q n i f w k).2 (shw kd q n i f w k).1 (wo q n (shv q n i (w k) (w f)) i)) else shw kd q n i f w k
theorem shv_lt {q n i v u : Nat} (hq : isQ q) (hv : v < q ^ n) : shv q n i v u < q ^ n := by
  unfold shv
  split
  · exact hv
  · exact wsum_lt hq (fneg_lt hq (fmul_lt hq (dg_lt hq _ _ _) (finv_lt hq (dg_lt hq _ _ _))))
/-- words with the same letter there: without it they are the same only if they were -/
theorem wo_inj {q n i a b : Nat} (hq : isQ q) (hi : i < n) (ha : a < q ^ n) (hb : b < q ^ n) (hd : dg q n a i = dg q n b i) (h : wo q n a i = wo q n b i) : a = b := by
  have q2 := hq.1
  unfold wo at h
  unfold dg at hd
  have hp0 := pow_pos (n := n - 1 - i) hq
  have m1 := Nat.mod_lt a hp0
  have m2 := Nat.mod_lt b hp0
  have d1 : (a / (q ^ (n - 1 - i) * q) * q ^ (n - 1 - i) + a % q ^ (n - 1 - i)) / q ^ (n - 1 - i) = a / (q ^ (n - 1 - i) * q) := by
    rw [Nat.mul_comm, Nat.mul_add_div hp0, Nat.div_eq_of_lt m1]; rfl
  have d2 : (b / (q ^ (n - 1 - i) * q) * q ^ (n - 1 - i) + b % q ^ (n - 1 - i)) / q ^ (n - 1 - i) = b / (q ^ (n - 1 - i) * q) := by
    rw [Nat.mul_comm, Nat.mul_add_div hp0, Nat.div_eq_of_lt m2]; rfl
  have e1 : a / (q ^ (n - 1 - i) * q) = b / (q ^ (n - 1 - i) * q) := by rw [← d1, ← d2, h]
  have e2 : a % q ^ (n - 1 - i) = b % q ^ (n - 1 - i) := by rw [e1] at h; omega
  have f1 : a / q ^ (n - 1 - i) = b / q ^ (n - 1 - i) := by
    rw [← Nat.div_add_mod (a / q ^ (n - 1 - i)) q, ← Nat.div_add_mod (b / q ^ (n - 1 - i)) q, hd, Nat.div_div_eq_div_mul, Nat.div_div_eq_div_mul, e1]
  rw [← Nat.div_add_mod a (q ^ (n - 1 - i)), ← Nat.div_add_mod b (q ^ (n - 1 - i)), f1, e2]
theorem shw_ok {kd q n i f m : Nat} {w : Nat → Nat} (hq : isQ q) (hi : i < n) (hw : ∀ k, k < m → w k < q ^ n) (hd : kd = 0 → ∀ j k, j < k → k < m → w j ≠ w k) : ∀ k, k ≤ m → (shw kd q n i f w k).1 ≤ k ∧ (∀ a, a < (shw kd q n i f w k).1 → (shw kd q n i f w k).2 a < q ^ (n - 1)) ∧ (kd = 0 → ∀ a, a < (shw kd q n i f w k).1 → ∃ k2, k2 < k ∧ dg q n (w k2) i = 0 ∧ (shw kd q n i f w k).2 a = wo q n (w k2) i) ∧ (kd = 0 → ∀ a b, a < b → b < (shw kd q n i f w k).1 → (shw kd q n i f w k).2 a ≠ (shw kd q n i f w k).2 b)
  | 0, _ => ⟨Nat.le_refl _, fun a ha => absurd ha (by simp [shw]), fun _ a ha => absurd ha (by simp [shw]), fun _ a b _ hb => absurd hb (by simp [shw])⟩
  | k + 1, hk => by
    obtain ⟨h1, h2, h3, h4⟩ := shw_ok (f := f) hq hi hw hd k (by omega)
    have hwk := hw k (by omega)
    have hv := wo_lt (i := i) hq (shv_lt (i := i) (u := w f) hq hwk) hi
    rw [shw]
    by_cases e : shs kd q n i f w k = true
    · rw [if_pos e]
      have e0 : kd = 0 → dg q n (w k) i = 0 ∧ shv q n i (w k) (w f) = w k := fun hk0 => by
        unfold shs at e
        rw [if_pos hk0] at e
        have := of_decide_eq_true e
        exact ⟨this, if_pos this⟩
      refine ⟨by dsimp only; omega, fun a ha => ?_, fun hk0 a ha => ?_, fun hk0 a b hab hb => ?_⟩
      · dsimp only at ha ⊢
        unfold wset
        split
        · exact hv
        · exact h2 a (by omega)
      · dsimp only at ha ⊢
        unfold wset
        split
        · exact ⟨k, by omega, (e0 hk0).1, by rw [(e0 hk0).2]⟩
        · obtain ⟨k2, c1, c2, c3⟩ := h3 hk0 a (by omega)
          exact ⟨k2, by omega, c2, c3⟩
      · dsimp only at hb ⊢
        unfold wset
        rw [if_neg (show ¬ a = (shw kd q n i f w k).1 by omega)]
        split
        · intro he
          obtain ⟨k2, c1, c2, c3⟩ := h3 hk0 a (by omega)
          rw [c3, (e0 hk0).2] at he
          exact hd hk0 k2 k c1 (by omega) (wo_inj hq hi (hw k2 (by omega)) hwk (by rw [c2, (e0 hk0).1]) he)
        · exact h4 hk0 a b hab (by omega)
    · rw [if_neg e]
      exact ⟨by omega, h2, fun hk0 a ha => by
        obtain ⟨k2, c1, c2, c3⟩ := h3 hk0 a ha
        exact ⟨k2, by omega, c2, c3⟩, h4⟩
