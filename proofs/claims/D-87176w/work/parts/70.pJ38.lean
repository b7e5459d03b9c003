/-! ===== PURE J38: dual, checks ===== -/
set_option maxRecDepth 100000
theorem X3_dualOf {N p kd q n m : Nat} {st : MS} {w : Nat → Nat} (hN : 5000 ≤ N) (hp : p < 12) (hok : okc kd q n m w) (hk0 : kd ≠ 0) (hP : mPl st p kd q n m w) : ∃ st', f_X3_dualOf N st (nI p) = some (st', nI (dw q n m (wR q n w) n).1) ∧ Kp [7] [6, 9] [8] st st' ∧ ∀ a, a < (dw q n m (wR q n w) n).1 → st'.2.1 9 a = lN ((dw q n m (wR q n w) n).2 a) := by
  have hc : cap kd = 12 := if_neg hk0
  obtain ⟨hq, h1, h2, h3, hcap, h5, h6⟩ := hok
  have q5 := hq.2
  have q2 := hq.1
  have hs0 := qn_small hq h2
  have hm : m ≤ 12 := by omega
  have hr := rk_le12 (n := n) (w := w) hq hm
  obtain ⟨s1, a1, a2, a3, a4, a5⟩ := X3_clear (N := N) (by omega) hq h2 hm hp hP h5
  obtain ⟨r, b1, b2, b3, b4⟩ : ∃ r, lp (f_X3_dualOf_b28 N (nI q) (nI n)) N (0, 0, 0, s1) = some r ∧ r.1 = nI (dw q n m (wR q n w) n).1 ∧ Kp [] [9] [] s1 r.2 ∧ ∀ a, a < (dw q n m (wR q n w) n).1 → r.2.2.1 9 a = lN ((dw q n m (wR q n w) n).2 a) := by
    refine lp_inv0 (P := fun p (s : Int32 × Int32 × Int32 × MS) => s.1 = nI (dw q n m (wR q n w) p).1 ∧ s.2.1 = nI (hs q n m (wR q n w) p) ∧ s.2.2.1 = nI p ∧ Kp [] [9] [] s1 s.2.2.2 ∧ ∀ a, a < (dw q n m (wR q n w) p).1 → s.2.2.2.2.1 9 a = lN ((dw q n m (wR q n w) p).2 a)) (Q := fun (r : Int32 × MS) => r.1 = nI (dw q n m (wR q n w) n).1 ∧ Kp [] [9] [] s1 r.2 ∧ ∀ a, a < (dw q n m (wR q n w) n).1 → r.2.2.1 9 a = lN ((dw q n m (wR q n w) n).2 a)) n (by omega) ⟨rfl, rfl, rfl, Kp.refl _ _ _ _, fun a ha => absurd ha (by simp [dw])⟩ ?_ ?_
    · rintro i ⟨y1, y2, y3, s⟩ hi ⟨e1, e2, e3, e4, e5⟩
      dsimp only at e1 e2 e3 e4 e5
      subst e1 e2 e3
      have g8 : s.2.2.1 8 = nI (rk q n m (wR q n w)) := by rw [e4.2.2.1 8 (by decide)]; exact a3
      have g7 : ∀ k, k < rk q n m (wR q n w) → s.1 7 k = nI (hd q n m (wR q n w) k) := fun k hk => by rw [e4.1 7 (by decide)]; exact a4 k hk
      have g6 : ∀ k, k < rk q n m (wR q n w) → s.2.1 6 k = lN (fw q n m (wR q n w) k) := fun k hk => by rw [e4.2.1 6 (by decide)]; exact a5 k hk
      obtain ⟨o1, o2⟩ := dw_ok hq (wR_ok (n := n) (m := m) (w := w) hq) i (by omega)
      obtain ⟨p1, p2⟩ := hs_ok hq (wR_ok (n := n) (m := m) (w := w) hq) i (by omega)
      have skip : ∀ (_ : ¬ (hs q n m (wR q n w) i < rk q n m (wR q n w) ∧ hd q n m (wR q n w) (hs q n m (wR q n w) i) = i)), ∃ s', f_X3_dualOf_j61 N (nI q) (nI n) (nI (dw q n m (wR q n w) i).1) (nI (hs q n m (wR q n w) i)) (nI i) s = some (.inl s') ∧ s'.1 = nI (dw q n m (wR q n w) (i + 1)).1 ∧ s'.2.1 = nI (hs q n m (wR q n w) (i + 1)) ∧ s'.2.2.1 = nI (i + 1) ∧ Kp [] [9] [] s1 s'.2.2.2 ∧ ∀ a, a < (dw q n m (wR q n w) (i + 1)).1 → s'.2.2.2.2.1 9 a = lN ((dw q n m (wR q n w) (i + 1)).2 a) := by
        intro e
        have hin : lp (f_X3_dualOf_b76 N (nI q) (nI n) (nI (dw q n m (wR q n w) i).1) (nI (hs q n m (wR q n w) i)) (nI i) s) N (lN (q ^ (n - 1 - i)), 0) = some (lN (du q n m (wR q n w) i (rk q n m (wR q n w)))) := by
          refine lp_0 (S := fun k => (lN (du q n m (wR q n w) i k), nI k)) (rk q n m (wR q n w)) rfl (by omega) ?_ ?_
          · intro k hk
            have hfw := fw_lt hq (wR_ok (w := w) hq) hk
            have hh := hd_lt hq (wR_ok (w := w) hq) hk
            have hfm := fm_lt hq (wR_ok (w := w) hq) hk hi
            have hng := fneg_lt hq hfm
            unfold f_X3_dualOf_b76
            dsimp only
            rw [g8, if_neg (nI_ge hk (by omega)), ald_N (show k < 12 by omega) (by omega), Option.bind_some, g6 k hk, X3_letter (by omega) hq h2 (by omega) hi, Option.bind_some, dg_fw hq (wR_ok hq) hk hi, X3_minus hq hfm, Option.bind_some, ald_N (show k < 12 by omega) (by omega), Option.bind_some, g7 k hk, nI_s1 (by omega), nI_sub (by omega), X3_power (by omega) hq.lt (by omega), Option.bind_some, ps_l _ (by omega), lN_mul, lN_add, nI_1]
            rfl
          · unfold f_X3_dualOf_b76
            dsimp only
            rw [g8, if_pos (nI_le (Nat.le_refl _) (by omega))]
        unfold f_X3_dualOf_j61
        rw [nI_s1 (by omega), nI_sub (by omega), X3_power (by omega) hq.lt (by omega), Option.bind_some, hin, Option.bind_some, last_N (show (dw q n m (wR q n w) i).1 < 12 by omega) (by omega), Option.bind_some, nI_1, nI_1]
        refine ⟨_, rfl, ?_, ?_, rfl, e4.sL (by decide) _, fun a ha => ?_⟩
        · rw [dw, if_neg e]
        · rw [hs, if_neg e]
        · rw [dw, if_neg e] at ha ⊢
          dsimp only at ha ⊢
          rw [sL_s]
          unfold wset
          by_cases ea : a = (dw q n m (wR q n w) i).1
          · rw [ea, pk_uLs, if_pos rfl]
          · rw [pk_uLn ea, if_neg ea]; exact e5 a (by omega)
      unfold f_X3_dualOf_b28
      dsimp only
      rw [if_neg (nI_ge hi (by omega)), g8]
      by_cases e1 : hs q n m (wR q n w) i < rk q n m (wR q n w)
      · have hh := hd_lt hq (wR_ok (w := w) hq) e1
        rw [if_neg (nI_ge e1 (by omega)), ald_N (show hs q n m (wR q n w) i < 12 by omega) (by omega), Option.bind_some, g7 _ e1]
        by_cases e2 : hd q n m (wR q n w) (hs q n m (wR q n w) i) = i
        · rw [if_pos (by rw [e2]), nI_1, nI_1]
          refine ⟨_, rfl, ?_, ?_, rfl, e4, ?_⟩
          · rw [dw, if_pos ⟨e1, e2⟩]
          · rw [hs, if_pos ⟨e1, e2⟩]
          · rw [dw, if_pos ⟨e1, e2⟩]; exact e5
        · rw [if_neg (by rw [nI_eq (by omega) (by omega)]; exact e2)]
          exact skip (fun hh => e2 hh.2)
      · rw [if_pos (nI_le (by omega) (by omega))]
        exact skip (fun hh => e1 hh.1)
    · rintro ⟨y1, y2, y3, s⟩ ⟨e1, e2, e3, e4, e5⟩
      dsimp only at e1 e2 e3 e4 e5
      subst e1 e2 e3
      unfold f_X3_dualOf_b28
      dsimp only
      rw [if_pos (nI_le (Nat.le_refl _) (by omega))]
      exact ⟨_, rfl, rfl, e4, e5⟩
  unfold f_X3_dualOf
  rw [ald_N hp (by omega), Option.bind_some, hP.2.1, ald_N hp (by omega), Option.bind_some, hP.2.2.1, a1, Option.bind_some, b1, Option.bind_some, b2]
  exact ⟨r.2, rfl, (a2.mono (by decide) (by decide) (by decide)).trans (b3.mono (by decide) (by decide) (by decide)), b4⟩
theorem X3_dual_b {N t q n m : Nat} {st st0 : MS} {w : Nat → Nat} (hN : 5000 ≤ N) (ht : t < 12) (hm : m ≤ 12) (h0 : mPl st t 1 q n 0 w) (hMp : Mp st0 st t) (h9 : ∀ a, a < m → st.2.1 9 a = lN (w a)) : ∃ st', lp (f_X3_dual_b66 N (nI t) (nI m)) N (0, st) = some st' ∧ mPl st' t 1 q n m w ∧ Mp st0 st' t := by
  refine lp_inv0 (P := fun k (s : Int32 × MS) => s.1 = nI k ∧ mPl s.2 t 1 q n k w ∧ Mp st0 s.2 t ∧ Kp [4] [5] [] st s.2) (Q := fun (s : MS) => mPl s t 1 q n m w ∧ Mp st0 s t) m (by omega) ⟨rfl, h0, hMp, Kp.refl _ _ _ _⟩ ?_ ?_
  · rintro k ⟨y, s⟩ hk ⟨e1, e2, e3, e4⟩
    dsimp only at e1 e2 e3 e4
    subst e1
    obtain ⟨s2, b1, b2, b3, b4⟩ := X3_push (N := N) (v := w k) ht (by omega) e2
    unfold f_X3_dual_b66
    dsimp only
    rw [if_neg (nI_ge hk (by omega)), ald_N (show k < 12 by omega) (by omega), Option.bind_some, e4.2.1 9 (by decide), h9 k hk, b1, Option.bind_some, nI_1]
    refine ⟨_, rfl, rfl, b2.congr (fun a ha2 => ?_), e3.trans b3, e4.trans b4⟩
    unfold wset
    split
    · rename_i e; rw [e]
    · rfl
  · rintro ⟨y, s⟩ ⟨e1, e2, e3, e4⟩
    dsimp only at e1 e2 e3 e4
    subst e1
    unfold f_X3_dual_b66
    dsimp only
    rw [if_pos (nI_le (Nat.le_refl _) (by omega))]
    exact ⟨_, rfl, e2, e3⟩
theorem op_dual {N x M : Nat} {own : Nat → Nat} {σ : SG} {st : MS} (hN : 5000 ≤ N) (j : J x M own σ st) (a b : Int32) : Ok x M σ (f_X1_dual N σ x a b) (f_X3_dual N st a b) := by
  unfold f_X1_dual f_X3_dual
  simp only [X3_isPlace_eq]
  rcases pl_cases j N a with h | ⟨p, hp, rfl, h, hcase⟩
  · rw [h]
    exact Ok.nil j rfl rfl
  · simp only [h, Option.bind_some, i10, if_false]
    rcases pl_cases j N b with hb | ⟨t, ht, rfl, hb, -⟩
    · rw [hb]
      exact Ok.nil j rfl rfl
    · simp only [hb, Option.bind_some, i10, if_false, j.cc]
      rcases hcase with ⟨h2, -, h3⟩ | ⟨kd, q, n, m, w, c, h2, h3, hok, hP, hX⟩
      · rw [asks_none j h h2, h3]
        exact Ok.nil j rfl rfl
      · obtain ⟨A, x1, x2, x3, x4, C⟩ := id hX
        have hkd := hok.2.2.2.1
        rw [asks_1 j h h2 C.1 hkd, h3, Option.bind_some, Option.bind_some, if_pos rfl, ald_N hp (by omega), Option.bind_some, hP.1]
        by_cases e : kd = 0
        · rw [if_pos e, if_neg (by decide), if_pos (show nI kd = 0 by rw [e]; rfl)]
          exact Ok.nil j rfl rfl
        · have hc : cap kd = 12 := if_neg e
          have hcap := hok.2.2.2.2.1
          obtain ⟨τ, a1, F, a3, a4, a5, a6⟩ := new_form (N := N) (by omega) j hok e hX
          obtain ⟨τ2, b1, b2⟩ := X9_dual hN hok.1 hok.2.2.1 (by omega) F
          obtain ⟨s1, c1, c2, c3⟩ := X3_dualOf hN hp hok e hP
          have hk := c2.mk (by decide) (by decide)
          have hP1 := hP.kp hk
          obtain ⟨s2, d1, d2, d3, d4⟩ := X3_begin (N := N) (kd := 1) (q := q) (n := n) (st := s1) ht (dw q n m (wR q n w) n).2
          have hdw := (dw_ok hok.1 (wR_ok (n := n) (m := m) (w := w) hok.1) n (Nat.le_refl _)).1
          have hn := hok.2.2.1
          obtain ⟨s3, f1, f2, f3⟩ := X3_dual_b hN ht (show (dw q n m (wR q n w) n).1 ≤ 12 by omega) d2 ((hk.mp t).trans d3) (fun a ha => by rw [d4.2.1 9 (by decide)]; exact c3 a ha)
          obtain ⟨c0, τ3, g1, ⟨own', g2⟩, g3⟩ := j.put_new (N := N) (τ := τ2) (f := τ.1) (A := τ.1 + 1) ht (by have := b2.1; omega) (fun k hk => by rw [b2.2.1 k (by omega)]; exact a6 k hk) ⟨by omega, by have := b2.1; omega⟩ ⟨by omega, by have := b2.1; omega⟩ b2.2.2 (okc_dual hok) f2 f3
          obtain ⟨n1, n2⟩ := j.nObj 7 [.int 0, .int 0, .null, .null, .int 0]
          rw [if_neg e, if_pos rfl, if_neg (nI_ne0 (by omega) (by omega)), c1, Option.bind_some]
          dsimp only
          rw [ald_N hp (by omega), Option.bind_some, hP1.2.1, ald_N hp (by omega), Option.bind_some, hP1.2.2.1, show f_X3_begin N s1 (nI t) 1 (nI q) (nI n) = some s2 from d1, Option.bind_some, f1, Option.bind_some, n1, Option.bind_some, n2, h2, Option.bind_some, Option.bind_some, a1, Option.bind_some, F.2.2.1, Option.bind_some, b1, Option.bind_some, c0, Option.bind_some, g1, Option.bind_some]
          exact ⟨τ3, s3, _, own', rfl, rfl, g2, g3⟩
/-- what the checks tell -/
def ckv (q n v : Nat) (u : Nat → Nat) : Nat → Nat
  | 0 => 0
  | k + 1 => ckv q n v u k * q + wprod q n v (u k)
theorem op_checks {N x M : Nat} {own : Nat → Nat} {σ : SG} {st : MS} (hN : 5000 ≤ N) (j : J x M own σ st) (a : Int32) (b : Int64) : Ok x M σ (f_X1_checks N σ x a b) (f_X3_checks N st a b) := by
  unfold f_X1_checks f_X3_checks
  simp only [X3_isPlace_eq, j.cc, Option.bind_some]
  rcases pl_cases j N a with h | ⟨p, hp, rfl, h, hcase⟩
  · rw [whyW_no h, h]
    exact Ok.nil j rfl rfl
  · rw [h, Option.bind_some, if_neg i10]
    rcases hcase with ⟨h2, -, h3⟩ | ⟨kd, q, n, m, w, c, h2, h3, hok, hP, hX⟩
    · rw [whyW_none j h h2, h3]
      exact Ok.nil j rfl rfl
    · obtain ⟨A, x1, x2, x3, x4, C⟩ := id hX
      have hkd := hok.2.2.2.1
      have hq := hok.1
      have q5 := hq.2
      have hn := hok.2.2.1
      have hs := qn_small hq hn
      rw [whyW_some j h h2 C, h3, Option.bind_some, if_pos rfl, X3_hasWord hp hP]
      rcases isWord_cases (N := N) (by omega) hq hn b with ⟨v, hv, rfl, hi⟩ | hi
      · rw [hi, Option.bind_some, if_neg i10, Option.bind_some, if_pos rfl, asks_1 j h h2 C.1 hkd, Option.bind_some, Option.bind_some, rz_1, Option.bind_some, if_neg i10, ald_N hp (by omega), Option.bind_some, hP.1]
        by_cases e : kd = 0
        · rw [if_pos e, if_pos (show nI kd = 0 by rw [e]; rfl)]
          exact Ok.nil j rfl rfl
        · have hc : cap kd = 12 := if_neg e
          have hcap := hok.2.2.2.2.1
          obtain ⟨τ, a1, F, a3, a4, a5, a6⟩ := new_form (N := N) (by omega) j hok e hX
          obtain ⟨τ2, b1, b2⟩ := X9_dual hN hq hn (by omega) F
          obtain ⟨s1, c1, c2, c3⟩ := X3_dualOf hN hp hok e hP
          have hk := c2.mk (by decide) (by decide)
          have hP1 := hP.kp hk
          obtain ⟨o1, o2⟩ := dw_ok hq (wR_ok (n := n) (m := m) (w := w) hq) n (Nat.le_refl _)
          obtain ⟨D1, g, D2, D3⟩ := b2.2.2
          have X1l : lp (f_X1_checks_b54 N (lN v) τ.1 τ2) N (0, 0) = some (lN (ckv q n v (dw q n m (wR q n w) n).2 (dw q n m (wR q n w) n).1)) := by
            refine lp_0 (S := fun k => (lN (ckv q n v (dw q n m (wR q n w) n).2 k), nI k)) (dw q n m (wR q n w) n).1 rfl (by omega) ?_ ?_
            · intro k hk
              have hw := o2 k hk
              have hpr := wprod_lt (n := n) (a := v) (b := (dw q n m (wR q n w) n).2 k) hq
              unfold f_X1_checks_b54
              dsimp only
              rw [gI_of (k := 3) D1 (cls_in 1) rfl, Option.bind_some, if_neg (nI_ge hk (by omega)), gI_of (k := 0) D1 (cls_in 1) rfl, Option.bind_some, Option.bind_some, gI_of (k := 1) D1 (cls_in 1) rfl, Option.bind_some, gR_of D1 (cls_in 1) rfl, Option.bind_some, aL_of D2 (show k < 12 by omega) (by decide), Option.bind_some, D3 k hk, X1_productOf (by omega) hq hn (by omega) (by omega), Option.bind_some, ps_l q (by omega), ps_l _ (by omega), lN_mul, lN_add, nI_1]
              rfl
            · unfold f_X1_checks_b54
              dsimp only
              rw [gI_of (k := 3) D1 (cls_in 1) rfl, Option.bind_some, if_pos (nI_le (Nat.le_refl _) (by omega))]
          have X3l : lp (f_X3_checks_b62 N (nI p) (lN v) (nI (dw q n m (wR q n w) n).1) s1) N (0, 0) = some (lN (ckv q n v (dw q n m (wR q n w) n).2 (dw q n m (wR q n w) n).1)) := by
            refine lp_0 (S := fun k => (lN (ckv q n v (dw q n m (wR q n w) n).2 k), nI k)) (dw q n m (wR q n w) n).1 rfl (by omega) ?_ ?_
            · intro k hk
              have hw := o2 k hk
              have hpr := wprod_lt (n := n) (a := v) (b := (dw q n m (wR q n w) n).2 k) hq
              unfold f_X3_checks_b62
              dsimp only
              rw [if_neg (nI_ge hk (by omega)), ald_N hp (by omega), Option.bind_some, Option.bind_some, ald_N hp (by omega), Option.bind_some, hP1.2.1, hP1.2.2.1, ald_N (show k < 12 by omega) (by omega), Option.bind_some, c3 k hk, X3_productOf (by omega) hq hn (by omega) (by omega), Option.bind_some, ps_l q (by omega), ps_l _ (by omega), lN_mul, lN_add, nI_1, Nat.mul_comm q]
              rfl
            · unfold f_X3_checks_b62
              dsimp only
              rw [if_pos (nI_le (Nat.le_refl _) (by omega))]
          obtain ⟨n1, n2⟩ := j.nObj 7 [.int 0, .int 0, .null, .null, .int 0]
          unfold f_X1_checks_j21
          rw [if_neg e, if_pos rfl, if_neg (nI_ne0 (by omega) (by omega)), c1, Option.bind_some, Option.bind_some]
          dsimp only
          rw [X3l, Option.bind_some, n1, Option.bind_some, n2, h2, Option.bind_some, Option.bind_some, a1, Option.bind_some, F.2.2.1, Option.bind_some, b1, Option.bind_some]
          try dsimp only
          rw [X1l, Option.bind_some]
          have hle : σ.1 ≤ τ2.1 := by have := b2.1; omega
          have hkp : ∀ k, k < σ.1 → τ2.2 k = σ.2 k := fun k hk => by rw [b2.2.1 k (by omega)]; exact a6 k hk
          have hM := j.1.2.1
          exact ⟨τ2, s1, _, own, rfl, rfl, j.new hle hkp hk, hle, fun k k1 k2 => hkp k (by omega)⟩
      · rw [hi, Option.bind_some, if_pos rfl]
        exact Ok.nil j rfl rfl
