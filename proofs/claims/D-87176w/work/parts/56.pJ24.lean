/-! ===== PURE J24: lays of the model ===== -/
set_option maxRecDepth 100000
theorem ix12 (k i : Nat) : (12 : Int32) * nI k + nI i = nI (12 * k + i) := by rw [show (12 : Int32) = nI 12 from rfl, pk_mul, nI_add]
/-- the letters of one word -/
theorem X3_lays_word {N p kd q n m k v : Nat} {st : MS} {w : Nat → Nat} (hN : 5000 ≤ N) (hp : p < 12) (hq : isQ q) (hn : n ≤ 12) (hP : mPl st p kd q n m w) (hk : k < 4096) (hv : v < 2 ^ 62) : ∃ st', lp (f_X3_lays_b102 N (nI p) (nI k)) N (lN v, nI n - 1, st) = some st' ∧ Kp [12] [] [] st st' ∧ (∀ a, (∀ i, i < n → a ≠ 12 * k + i) → st'.1 12 a = st.1 12 a) ∧ ∀ i, i < n → st'.1 12 (12 * k + i) = nI (dg q n v i) := by
  have q5 := hq.2
  have q2 := hq.1
  refine lp_inv0 (P := fun t s => s.1 = lN (v / q ^ t) ∧ s.2.1 = dn n t ∧ Kp [12] [] [] st s.2.2 ∧ (∀ a, (∀ i, i < n → a ≠ 12 * k + i) → s.2.2.1 12 a = st.1 12 a) ∧ ∀ i, n - t ≤ i → i < n → s.2.2.1 12 (12 * k + i) = nI (dg q n v i)) (Q := fun s => Kp [12] [] [] st s ∧ (∀ a, (∀ i, i < n → a ≠ 12 * k + i) → s.1 12 a = st.1 12 a) ∧ ∀ i, i < n → s.1 12 (12 * k + i) = nI (dg q n v i)) n (by omega) ⟨by rw [Nat.pow_zero, Nat.div_one], dn_start n, Kp.refl _ _ _ _, fun _ _ => rfl, fun i h1 h2 => by omega⟩ ?_ ?_
  · rintro t ⟨x, y, s⟩ ht ⟨e1, e2, e3, e4, e5⟩
    dsimp only at e1 e2 e3 e4 e5
    subst e1 e2
    have s2 : s.1 2 p = nI q := by rw [e3.1 2 (by decide)]; exact hP.2.1
    unfold f_X3_lays_b102
    dsimp only
    rw [if_neg (dn_neg ht (by omega)), ald_N hp (by omega), Option.bind_some, s2, ps_l q (by omega), lrem_N (small_div _ hv) (by omega) (by omega), Option.bind_some, dn_lt ht, ix12, iast_N (show 12 * k + (n - 1 - t) < 49152 by omega) (by omega), Option.bind_some, sI_n (by decide), ald_N hp (by omega), Option.bind_some, s2, ps_l q (by omega), ldiv_N (small_div _ hv) (by omega) (by omega), Option.bind_some, ← dn_lt ht, dn_s ht, ps_i, div_succ]
    refine ⟨_, rfl, rfl, rfl, e3.sI (by decide) _, fun a ha => ?_, fun i h1 h2 => ?_⟩
    · dsimp only
      rw [sI_s, up_n' (ha _ (by omega))]
      exact e4 a ha
    · dsimp only
      rw [sI_s]
      by_cases e : i = n - 1 - t
      · rw [e, up_s']
        unfold dg
        rw [show n - 1 - (n - 1 - t) = t by omega]
      · rw [up_n' (by omega)]
        exact e5 i (by omega) h2
  · rintro ⟨x, y, s⟩ ⟨e1, e2, e3, e4, e5⟩
    dsimp only at e1 e2 e3 e4 e5
    subst e1 e2
    unfold f_X3_lays_b102
    dsimp only
    rw [if_pos (dn_fin n)]
    exact ⟨_, rfl, e3, e4, fun i hi => e5 i (by omega) hi⟩
/-- the letters of all words -/
theorem X3_lays_all {N p kd q n m L : Nat} {st : MS} {w W : Nat → Nat} (hN : 5000 ≤ N) (hp : p < 12) (hq : isQ q) (hn : n ≤ 12) (hP : mPl st p kd q n m w) (hL : L ≤ 4096) (h11 : st.2.2.1 11 = nI L) (h10 : ∀ k, k < L → st.2.1 10 k = lN (W k)) (hW : ∀ k, k < L → W k < q ^ n) : ∃ st', lp (f_X3_lays_b77 N (nI p)) N (0, st) = some st' ∧ Kp [12] [] [] st st' ∧ mW st' q n L W := by
  have hs := qn_small hq hn
  refine lp_inv0 (P := fun k s => s.1 = nI k ∧ Kp [12] [] [] st s.2 ∧ ∀ a, a < k → ∀ i, i < n → s.2.1 12 (12 * a + i) = nI (dg q n (W a) i)) (Q := fun s => Kp [12] [] [] st s ∧ mW s q n L W) L (by omega) ⟨rfl, Kp.refl _ _ _ _, fun a ha => by omega⟩ ?_ ?_
  · rintro k ⟨y, s⟩ hk ⟨e1, e2, e3⟩
    dsimp only at e1 e2 e3
    subst e1
    have hPs : mPl s p kd q n m w := hP.kp (e2.mk (by decide) (by decide))
    have hWk := hW k hk
    obtain ⟨s2, a1, a2, a3, a4⟩ := X3_lays_word (N := N) (k := k) (v := W k) hN hp hq hn hPs (by omega) (by omega)
    unfold f_X3_lays_b77
    dsimp only
    rw [e2.2.2.1 11 (by decide), h11, if_neg (nI_ge hk (by omega)), ald_N (show k < 4096 by omega) (by omega), Option.bind_some, e2.2.1 10 (by decide), h10 k hk, ald_N hp (by omega), Option.bind_some, hPs.2.2.1, a1, Option.bind_some, nI_1]
    refine ⟨_, rfl, rfl, e2.trans a2, fun a ha i hi => ?_⟩
    dsimp only
    by_cases e : a = k
    · rw [e]; exact a4 i hi
    · rw [a3 _ (fun i2 h2 => by omega)]
      exact e3 a (by omega) i hi
  · rintro ⟨y, s⟩ ⟨e1, e2, e3⟩
    dsimp only at e1 e2 e3
    subst e1
    unfold f_X3_lays_b77
    dsimp only
    rw [e2.2.2.1 11 (by decide), h11, if_pos (nI_le (Nat.le_refl _) (by omega))]
    exact ⟨_, rfl, e2, by rw [e2.2.2.1 11 (by decide)]; exact h11, fun k hk => by rw [e2.2.1 10 (by decide)]; exact h10 k hk, e3⟩
/-- listed words -/
theorem X3_lays_list {N p kd q n m : Nat} {st : MS} {w : Nat → Nat} (hN : 5000 ≤ N) (hp : p < 12) (hm : m ≤ 200) (hP : mPl st p kd q n m w) : ∃ st', lp (f_X3_lays_b35 N (nI p)) N (0, sV st 11 (nI m)) = some st' ∧ Kp [] [10] [11] st st' ∧ st'.2.2.1 11 = nI m ∧ ∀ k, k < m → st'.2.1 10 k = lN (w k) := by
  refine lp_inv0 (P := fun k s => s.1 = nI k ∧ Kp [] [10] [11] st s.2 ∧ s.2.2.2.1 11 = nI m ∧ ∀ a, a < k → s.2.2.1 10 a = lN (w a)) (Q := fun s => Kp [] [10] [11] st s ∧ s.2.2.1 11 = nI m ∧ ∀ k, k < m → s.2.1 10 k = lN (w k)) m (by omega) ⟨rfl, (Kp.refl _ _ _ _).sV (by decide) _, sV_s _ _ _, fun a ha => by omega⟩ ?_ ?_
  · rintro k ⟨y, s⟩ hk ⟨e1, e2, e3, e4⟩
    dsimp only at e1 e2 e3 e4
    subst e1
    unfold f_X3_lays_b35
    dsimp only
    rw [e3, if_neg (nI_ge hk (by omega)), ix200, ald_N (show 200 * p + k < 2400 by omega) (by omega), Option.bind_some, e2.2.1 5 (by decide), hP.2.2.2.2 k hk, last_N (show k < 4096 by omega) (by omega), Option.bind_some, nI_1]
    refine ⟨_, rfl, rfl, e2.sL (by decide) _, e3, fun a ha => ?_⟩
    dsimp only
    rw [sL_s]
    by_cases e : a = k
    · rw [e, pk_uLs]
    · rw [pk_uLn e]; exact e4 a (by omega)
  · rintro ⟨y, s⟩ ⟨e1, e2, e3, e4⟩
    dsimp only at e1 e2 e3 e4
    subst e1
    unfold f_X3_lays_b35
    dsimp only
    rw [e3, if_pos (nI_le (Nat.le_refl _) (by omega))]
    exact ⟨_, rfl, e2, e3, e4⟩
/-- the words of a line -/
theorem X3_laysLine {N p kd q n m : Nat} {st : MS} {w : Nat → Nat} (hN : 5000 ≤ N) (hp : p < 12) (hok : okc kd q n m w) (hk9 : kd ≠ 0) (hP : mPl st p kd q n m w) (h8 : st.2.2.1 8 = nI (rk q n m (wR q n w))) (h6 : ∀ k, k < rk q n m (wR q n w) → st.2.1 6 k = lN (fw q n m (wR q n w) k)) (hL : q ^ rk q n m (wR q n w) ≤ 4096) : ∃ st', f_X3_laysLine N st (nI p) = some st' ∧ Kp [] [10] [11] st st' ∧ st'.2.2.1 11 = nI (q ^ rk q n m (wR q n w)) ∧ ∀ k, k < q ^ rk q n m (wR q n w) → st'.2.1 10 k = lN (lw kd q n m w k) := by
  have hc : cap kd = 12 := if_neg hk9
  obtain ⟨hq, h1, h2, h3, hcap, h5, h6'⟩ := hok
  have q5 := hq.2
  have q2 := hq.1
  have hs := qn_small hq h2
  have hr := rk_le12 (n := n) (w := w) hq (show m ≤ 12 by omega)
  have hlw : ∀ k, lw kd q n m w k = lk q n (rk q n m (wR q n w)) (fw q n m (wR q n w)) k (rk q n m (wR q n w)) := fun k => if_neg hk9
  have hlt : ∀ k, lw kd q n m w k < 2 ^ 62 := fun k => by rw [hlw]; have := lk_lt (n := n) (r := rk q n m (wR q n w)) (k := k) (f := fw q n m (wR q n w)) hq (rk q n m (wR q n w)); omega
  -- what holds with L words laid
  have hI0 : ∀ s : MS, Kp [] [10] [11] st s → s.1 3 p = nI n ∧ s.2.2.1 8 = nI (rk q n m (wR q n w)) ∧ ∀ k, k < rk q n m (wR q n w) → s.2.1 6 k = lN (fw q n m (wR q n w) k) := fun s h => ⟨by rw [h.1 3 (by decide)]; exact hP.2.2.1, by rw [h.2.2.1 8 (by decide)]; exact h8, fun k hk => by rw [h.2.1 6 (by decide)]; exact h6 k hk⟩
  have in3 : ∀ t c, t < rk q n m (wR q n w) → 1 ≤ c → c < q → ∀ s : MS, Kp [] [10] [11] st s → s.2.2.1 11 = nI (c * q ^ t) → (∀ k, k < c * q ^ t → s.2.1 10 k = lN (lw kd q n m w k)) → ∃ s', lp (f_X3_laysLine_b42 N (nI p) (nI q) (nI (rk q n m (wR q n w) - 1 - t)) (nI c)) N (0, s) = some s' ∧ Kp [] [10] [11] st s' ∧ s'.2.2.1 11 = nI ((c + 1) * q ^ t) ∧ ∀ k, k < (c + 1) * q ^ t → s'.2.1 10 k = lN (lw kd q n m w k) := by
    intro t c ht c1 cq s hs1 hs2 hs3
    have hqt : (c + 1) * q ^ t ≤ 4096 := by
      have z1 : (c + 1) * q ^ t ≤ q * q ^ t := Nat.mul_le_mul_right _ cq
      have z2 : q ^ (t + 1) ≤ q ^ rk q n m (wR q n w) := Nat.pow_le_pow_right (by omega) ht
      rw [Nat.pow_succ, Nat.mul_comm (q ^ t)] at z2
      omega
    rw [Nat.succ_mul] at hqt ⊢
    have hq1 : q ^ t ≤ c * q ^ t := Nat.le_mul_of_pos_left _ c1
    refine lp_inv0 (P := fun y s => s.1 = nI y ∧ Kp [] [10] [11] st s.2 ∧ s.2.2.2.1 11 = nI (c * q ^ t + y) ∧ ∀ k, k < c * q ^ t + y → s.2.2.1 10 k = lN (lw kd q n m w k)) (Q := fun s => Kp [] [10] [11] st s ∧ s.2.2.1 11 = nI (c * q ^ t + q ^ t) ∧ ∀ k, k < c * q ^ t + q ^ t → s.2.1 10 k = lN (lw kd q n m w k)) (q ^ t) (by omega) ⟨rfl, hs1, hs2, hs3⟩ ?_ ?_
    · rintro y ⟨y', s⟩ hy ⟨e1, e2, e3, e4⟩
      dsimp only at e1 e2 e3 e4
      subst e1
      obtain ⟨i1, i2, i3⟩ := hI0 s e2
      have hfw := fw_lt hq (wR_ok (w := w) hq) (show rk q n m (wR q n w) - 1 - t < rk q n m (wR q n w) by omega)
      unfold f_X3_laysLine_b42
      dsimp only
      have e18 : ∀ f, (sL s 10 f).2.2.1 11 = nI (c * q ^ t + y) := fun f => e3
      rw [i2, show (nI (rk q n m (wR q n w)) - 1 - nI (rk q n m (wR q n w) - 1 - t) : Int32) = nI t by rw [nI_s1 (by omega), nI_sub (by omega)]; congr 1; omega, X3_power (by omega) hq.lt (by omega), Option.bind_some, ps_l y (by omega), if_neg (by rw [pk_lLE (by omega) (by omega)]; omega), ald_N hp (by omega), Option.bind_some, i1, ald_N (show y < 4096 by omega) (by omega), Option.bind_some, e4 y (by omega), ald_N (show rk q n m (wR q n w) - 1 - t < 12 by omega) (by omega), Option.bind_some, i3 _ (by omega), X3_sumOf (by omega) hq h2 (hlt y) (by omega) cq, Option.bind_some, e3, last_N (show c * q ^ t + y < 4096 by omega) (by omega), Option.bind_some, e18, nI_1, nI_1]
      refine ⟨_, rfl, rfl, (e2.sL (by decide) _).sV (by decide) _, by rw [← Nat.add_assoc]; exact sV_s _ _ _, fun k hk => ?_⟩
      show (sL s 10 (vp_updL (s.2.1 10) (c * q ^ t + y) (lN (wsum q n (lw kd q n m w y) (fw q n m (wR q n w) (rk q n m (wR q n w) - 1 - t)) c)))).2.1 10 k = _
      rw [sL_s]
      by_cases e : k = c * q ^ t + y
      · rw [e, pk_uLs, hlw, hlw, lk_step hq hy cq ht]
      · rw [pk_uLn e]; exact e4 k (by omega)
    · rintro ⟨y', s⟩ ⟨e1, e2, e3, e4⟩
      dsimp only at e1 e2 e3 e4
      subst e1
      obtain ⟨i1, i2, i3⟩ := hI0 s e2
      unfold f_X3_laysLine_b42
      dsimp only
      rw [i2, show (nI (rk q n m (wR q n w)) - 1 - nI (rk q n m (wR q n w) - 1 - t) : Int32) = nI t by rw [nI_s1 (by omega), nI_sub (by omega)]; congr 1; omega, X3_power (by omega) hq.lt (by omega), Option.bind_some, ps_l (q ^ t) (by omega), if_pos (by rw [pk_lLE (by omega) (by omega)]; omega)]
      exact ⟨_, rfl, e2, e3, e4⟩
  have in2 : ∀ t, t < rk q n m (wR q n w) → ∀ s : MS, Kp [] [10] [11] st s → s.2.2.1 11 = nI (q ^ t) → (∀ k, k < q ^ t → s.2.1 10 k = lN (lw kd q n m w k)) → ∃ s', lp (f_X3_laysLine_b33 N (nI p) (nI q) (nI (rk q n m (wR q n w) - 1 - t))) N (1, s) = some s' ∧ Kp [] [10] [11] st s' ∧ s'.2.2.1 11 = nI (q ^ (t + 1)) ∧ ∀ k, k < q ^ (t + 1) → s'.2.1 10 k = lN (lw kd q n m w k) := by
    intro t ht s hs1 hs2 hs3
    refine lp_inv0 (P := fun c s => s.1 = nI (c + 1) ∧ Kp [] [10] [11] st s.2 ∧ s.2.2.2.1 11 = nI ((c + 1) * q ^ t) ∧ ∀ k, k < (c + 1) * q ^ t → s.2.2.1 10 k = lN (lw kd q n m w k)) (Q := fun s => Kp [] [10] [11] st s ∧ s.2.2.1 11 = nI (q ^ (t + 1)) ∧ ∀ k, k < q ^ (t + 1) → s.2.1 10 k = lN (lw kd q n m w k)) (q - 1) (by omega) ⟨rfl, hs1, by rw [Nat.zero_add, Nat.one_mul]; exact hs2, by rw [Nat.zero_add, Nat.one_mul]; exact hs3⟩ ?_ ?_
    · rintro c ⟨y', s⟩ hy ⟨e1, e2, e3, e4⟩
      dsimp only at e1 e2 e3 e4
      subst e1
      obtain ⟨s', a1, a2, a3, a4⟩ := in3 t (c + 1) ht (by omega) (by omega) s e2 e3 e4
      unfold f_X3_laysLine_b33
      dsimp only
      rw [if_neg (nI_ge (by omega) (by omega)), a1, Option.bind_some, nI_1]
      exact ⟨_, rfl, rfl, a2, a3, a4⟩
    · rintro ⟨y', s⟩ ⟨e1, e2, e3, e4⟩
      dsimp only at e1 e2 e3 e4
      subst e1
      unfold f_X3_laysLine_b33
      dsimp only
      rw [if_pos (nI_le (by omega) (by omega))]
      rw [show (q - 1 + 1) * q ^ t = q ^ (t + 1) by rw [show q - 1 + 1 = q by omega, Nat.pow_succ, Nat.mul_comm]] at e3 e4
      exact ⟨_, rfl, e2, e3, e4⟩
  unfold f_X3_laysLine
  have e8 : ∀ f, (sV (sL st 10 f) 11 1).2.2.1 8 = nI (rk q n m (wR q n w)) := fun f => by
    show va_up st.2.2.1 11 1 8 = _
    rw [up_n (by decide)]; exact h8
  rw [ald_N hp (by omega), Option.bind_some, hP.2.1, show last (st.2.1 10) 4096 0 0 = _ from last_N (i := 0) (by decide) (by decide), Option.bind_some, e8]
  obtain ⟨s', a1, a2, a3, a4⟩ : ∃ s', lp (f_X3_laysLine_b26 N (nI p) (nI q)) N (nI (rk q n m (wR q n w)) - 1, sV (sL st 10 (vp_updL (st.2.1 10) 0 0)) 11 1) = some s' ∧ Kp [] [10] [11] st s' ∧ s'.2.2.1 11 = nI (q ^ rk q n m (wR q n w)) ∧ ∀ k, k < q ^ rk q n m (wR q n w) → s'.2.1 10 k = lN (lw kd q n m w k) := by
    refine lp_inv0 (P := fun t s => s.1 = dn (rk q n m (wR q n w)) t ∧ Kp [] [10] [11] st s.2 ∧ s.2.2.2.1 11 = nI (q ^ t) ∧ ∀ k, k < q ^ t → s.2.2.1 10 k = lN (lw kd q n m w k)) (Q := fun s => Kp [] [10] [11] st s ∧ s.2.2.1 11 = nI (q ^ rk q n m (wR q n w)) ∧ ∀ k, k < q ^ rk q n m (wR q n w) → s.2.1 10 k = lN (lw kd q n m w k)) (rk q n m (wR q n w)) (by omega) ⟨dn_start _, ((Kp.refl _ _ _ _).sL (by decide) _).sV (by decide) _, by rw [Nat.pow_zero]; exact sV_s _ _ _, fun k hk => ?_⟩ ?_ ?_
    · rw [Nat.pow_zero] at hk
      show (sL st 10 (vp_updL (st.2.1 10) 0 0)).2.1 10 k = _
      rw [sL_s, show k = 0 by omega, pk_uLs, lw_0 hq hk9]
      rfl
    · rintro t ⟨y', s⟩ ht ⟨e1, e2, e3, e4⟩
      dsimp only at e1 e2 e3 e4
      subst e1
      obtain ⟨s', b1, b2, b3, b4⟩ := in2 t ht s e2 e3 e4
      unfold f_X3_laysLine_b26
      dsimp only
      rw [if_neg (dn_neg ht (by omega)), dn_lt ht, b1, Option.bind_some, ← dn_lt ht, dn_s ht]
      exact ⟨_, rfl, rfl, b2, b3, b4⟩
    · rintro ⟨y', s⟩ ⟨e1, e2, e3, e4⟩
      dsimp only at e1 e2 e3 e4
      subst e1
      unfold f_X3_laysLine_b26
      dsimp only
      rw [if_pos (dn_fin _)]
      exact ⟨_, rfl, e2, e3, e4⟩
  rw [a1, Option.bind_some]
  exact ⟨s', rfl, a2, a3, a4⟩
theorem X3_lays {N p kd q n m : Nat} {st : MS} {w : Nat → Nat} (hN : 5000 ≤ N) (hp : p < 12) (hok : okc kd q n m w) (hP : mPl st p kd q n m w) : ∃ st', f_X3_lays N st (nI p) = some (st', if szv kd q n m w ≤ 4096 then 1 else 0) ∧ Kp [7, 12] [6, 10] [8, 11] st st' ∧ (szv kd q n m w ≤ 4096 → mW st' q n (szv kd q n m w) (lw kd q n m w)) := by
  have hm := hok.m200
  obtain ⟨s1, a1, a2, a3⟩ := X3_sizeOf hN hp hok hP
  have hq := hok.1
  have h2 := hok.2.2.1
  have hs := qn_small hq h2
  have hsz : szv kd q n m w < 2 ^ 31 := by
    unfold szv
    split
    · omega
    · rename_i e
      have hc : cap kd = 12 := if_neg e
      have hcap := hok.2.2.2.2.1
      have hr := rk_le12 (n := n) (w := w) hq (show m ≤ 12 by omega)
      have := qn_small hq hr
      omega
  unfold f_X3_lays
  rw [a1, Option.bind_some]
  dsimp only
  have hP1 : mPl s1 p kd q n m w := hP.kp a2.m678
  by_cases hL : szv kd q n m w ≤ 4096
  · rw [if_pos hL, if_pos (show lN (szv kd q n m w) ≤ 4096 by rw [show (4096 : Int64) = lN 4096 from rfl, pk_lLE (by omega) (by omega)]; exact hL), ald_N hp (by omega), Option.bind_some, hP1.1]
    by_cases e : kd = 0
    · rw [if_pos (show nI kd = 0 by rw [e]; rfl), ald_N hp (by omega), Option.bind_some, hP1.2.2.2.1]
      obtain ⟨s2, b1, b2, b3, b4⟩ := X3_lays_list hN hp hm hP1
      have hP2 : mPl s2 p kd q n m w := hP1.kp (b2.mk (by decide) (by decide))
      have hlw : ∀ k, lw kd q n m w k = w k := fun k => if_pos e
      obtain ⟨s3, c1, c2, c3⟩ := X3_lays_all (W := lw kd q n m w) hN hp hq h2 hP2 (show m ≤ 4096 by omega) b3 (fun k hk => by rw [hlw]; exact b4 k hk) (fun k hk => by rw [hlw]; exact hok.2.2.2.2.2.1 k hk)
      rw [b1, Option.bind_some, c1, Option.bind_some, rz_1, Option.bind_some, szv_list e]
      exact ⟨s3, rfl, ((a2.mono (by decide) (by decide) (by decide)).trans (b2.mono (by decide) (by decide) (by decide))).trans (c2.mono (by decide) (by decide) (by decide)), fun _ => c3⟩
    · obtain ⟨y1, y2, y3⟩ := a3 e
      rw [szv_line e] at hL
      obtain ⟨s2, b1, b2, b3, b4⟩ := X3_laysLine hN hp hok e hP1 y1 y3 hL
      have hP2 : mPl s2 p kd q n m w := hP1.kp (b2.mk (by decide) (by decide))
      obtain ⟨s3, c1, c2, c3⟩ := X3_lays_all (W := lw kd q n m w) hN hp hq h2 hP2 hL b3 b4 (fun k hk => lw_lt hok (by rw [szv_line e]; exact hk))
      rw [if_neg (nI_ne0 (by have := hok.2.2.2.1; omega) (by have := hok.2.2.2.1; omega)), b1, Option.bind_some, c1, Option.bind_some, rz_1, Option.bind_some, szv_line e]
      exact ⟨s3, rfl, ((a2.mono (by decide) (by decide) (by decide)).trans (b2.mono (by decide) (by decide) (by decide))).trans (c2.mono (by decide) (by decide) (by decide)), fun _ => c3⟩
  · rw [if_neg hL, if_neg (show ¬ lN (szv kd q n m w) ≤ 4096 by rw [show (4096 : Int64) = lN 4096 from rfl, pk_lLE (by omega) (by omega)]; exact hL), rz_0, Option.bind_some]
    exact ⟨s1, rfl, a2.mono (by decide) (by decide) (by decide), fun h => absurd h hL⟩
