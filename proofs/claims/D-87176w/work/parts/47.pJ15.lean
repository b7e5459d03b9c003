/-! ===== PURE J15: a place is taken off: refusals, the word without it ===== -/
set_option maxRecDepth 100000
def wo (q n v i : Nat) : Nat := v / (q ^ (n - 1 - i) * q) * q ^ (n - 1 - i) + v % q ^ (n - 1 - i)
theorem X1_without {N q n v i : Nat} (hN : 20 ≤ N) (hq : isQ q) (hn : n ≤ 12) (hv : v < 2 ^ 62) (hi : i < n) : f_X1_without N (nI q) (nI n) (lN v) (nI i) = some (lN (wo q n v i)) := by
  have q5 := hq.2
  have q2 := hq.1
  have hp := pow_lt hq.lt (show n - 1 - i < 13 by omega)
  have hp0 := pow_pos (n := n - 1 - i) hq
  have hpq : q ^ (n - 1 - i) * q < 2 ^ 63 := by
    have : q ^ (n - 1 - i) * q ≤ 2 ^ 28 * 5 := Nat.mul_le_mul (by omega) q5
    omega
  have hpq0 : 0 < q ^ (n - 1 - i) * q := Nat.mul_pos hp0 (by omega)
  unfold f_X1_without
  rw [nI_s1 (by omega), nI_sub (by omega), X1_power hN hq.lt (by omega), Option.bind_some, ps_l q (by omega), lN_mul, ldiv_N (by omega) hpq0 hpq, Option.bind_some, lrem_N (by omega) hp0 (by omega), Option.bind_some, lN_mul, lN_add]
  rfl
theorem wo_lt {q n v i : Nat} (hq : isQ q) (hv : v < q ^ n) (hi : i < n) : wo q n v i < q ^ (n - 1) := by
  have q2 := hq.1
  have hp0 := pow_pos (n := n - 1 - i) hq
  have e1 : q ^ n = q ^ (n - 1 - i) * q * q ^ i := by
    rw [← Nat.pow_succ, ← Nat.pow_add]
    congr 1
    omega
  have e2 : q ^ (n - 1) = q ^ i * q ^ (n - 1 - i) := by
    rw [← Nat.pow_add]
    congr 1
    omega
  have h1 : v / (q ^ (n - 1 - i) * q) < q ^ i := Nat.div_lt_of_lt_mul (by rw [← e1]; exact hv)
  have h2 := Nat.mod_lt v hp0
  unfold wo
  rw [e2]
  have h3 : (v / (q ^ (n - 1 - i) * q) + 1) * q ^ (n - 1 - i) ≤ q ^ i * q ^ (n - 1 - i) := Nat.mul_le_mul_right _ h1
  rw [Nat.succ_mul] at h3
  omega
/-- refusals of both sides -/
theorem why_place {N x M : Nat} {own : Nat → Nat} {σ : SG} {st : MS} (j : J x M own σ st) (a b c : Int32) : (∃ r, ¬ r = 0 ∧ f_X1_whyPlace N σ x a b c = some r ∧ f_X3_lacksPlace N st a b c = some r) ∨ ∃ p i t kd q n m w d, p < 12 ∧ t < 12 ∧ i < n ∧ 2 ≤ n ∧ a = nI p ∧ b = nI i ∧ c = nI t ∧ aQ 3 σ (x + 1) (nI p) = some (some d) ∧ okc kd q n m w ∧ mPl st p kd q n m w ∧ xPl σ own (1 + p) kd q n m w d ∧ f_X1_whyPlace N σ x a b c = some 0 ∧ f_X3_lacksPlace N st a b c = some 0 := by
  unfold f_X1_whyPlace f_X3_lacksPlace
  simp only [X3_isPlace_eq, X3_isIn_eq]
  rcases pl_cases j N a with h | ⟨p, hp, rfl, h, hcase⟩
  · rw [h]
    exact Or.inl ⟨-1, by decide, rfl, rfl⟩
  · rw [h, Option.bind_some, if_neg i10, Option.bind_some, if_neg i10]
    rcases pl_cases j N c with hb | ⟨t, ht, rfl, hb, -⟩
    · rw [hb]
      exact Or.inl ⟨-1, by decide, rfl, rfl⟩
    · rw [hb, Option.bind_some, if_neg i10, Option.bind_some, if_neg i10]
      rcases hcase with ⟨h2, -, h3⟩ | ⟨kd, q, n, m, w, d, h2, h3, hok, hP, hX⟩
      · rw [j.codes, Option.bind_some, h2, h3]
        exact Or.inl ⟨-11, by decide, rfl, rfl⟩
      · obtain ⟨A, x1, x2, x3, x4, C⟩ := id hX
        have hn := hok.2.2.1
        have hn1 := hok.2.1
        simp only [j.codes, h3, if_true, Option.bind_some, h2, gI_of (k := 1) C.1 (cls_in kd) rfl, ald_N hp (show 12 < 2 ^ 31 by decide), hP.2.2.1]
        by_cases e : n = 1
        · rw [e]
          exact Or.inl ⟨-1, by decide, rfl, rfl⟩
        · have e1 : ¬ nI n = 1 := by rw [show (1 : Int32) = nI 1 from rfl, nI_eq (by omega) (by omega)]; exact e
          rw [if_neg e1, nI_s1 (by omega), show (0 : Int64) = lN 0 from rfl, ps_l (n - 1) (by omega)]
          rcases int_cases b 0 (n - 1) (by omega) with ⟨i, i1, i2, rfl⟩ | hb2
          · rw [isIn_yes (by omega) i1 i2, Option.bind_some, if_neg i10]
            exact Or.inr ⟨p, i, t, kd, q, n, m, w, d, hp, ht, by omega, by omega, rfl, rfl, rfl, h2, hok, hP, hX, rfl, rfl⟩
          · rw [isIn_no (by omega) (by omega) hb2]
            exact Or.inl ⟨-1, by decide, rfl, rfl⟩
