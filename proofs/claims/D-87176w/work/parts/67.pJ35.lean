/-! ===== PURE J35: turn (op) ===== -/
set_option maxRecDepth 100000
def kdt (kd : Nat) : Nat := if kd = 2 then 1 else kd
theorem kdt_le {kd : Nat} (h : kd ≤ 3) : kdt kd ≤ 3 := by
  unfold kdt
  split <;> omega
theorem cap_kdt (kd : Nat) : cap (kdt kd) = cap kd := by
  unfold kdt
  split
  · rename_i e; rw [e]; rfl
  · rfl
theorem okc_turn {kd q n m t c : Nat} {w : Nat → Nat} (hok : okc kd q n m w) (hc : c < q) (hc0 : c ≠ 0) (hT : isT n t) : okc (kdt kd) q n m (fun k => tP q n t c (w k) n) := by
  obtain ⟨hq, h1, h2, h3, h4, h5, h6⟩ := hok
  refine ⟨hq, h1, h2, kdt_le h3, by rw [cap_kdt]; exact h4, fun k hk => tP_lt hq hc hT, fun e a b hab hb he => ?_⟩
  have e0 : kd = 0 := by
    unfold kdt at e
    split at e <;> omega
  exact h6 e0 a b hab hb (tP_inj hq hc hc0 hT (h5 a (by omega)) (h5 b hb) he)
theorem X1_turn {N x kd q n m c A t cc kd2 : Nat} {b : Int32} {σ τ : SG} {w : Nat → Nat} (hN : 5000 ≤ N) (hok : okc kd q n m w) (hc : cc < q) (hT : isT n t) (C : xC σ c (cls kd) q n A m (cap kd) w) (hcs : c < σ.1) (hA : A < σ.1) (hk2 : cap kd2 = cap kd) (hτ : NC σ τ σ.1 kd2 q n 0 (fun k => tP q n t cc (w k) n)) : ∃ τ', lp (f_X1_turn_b112 N x (lN t) (nI cc) b (some c) σ.1) N (0, τ) = some τ' ∧ NC σ τ' σ.1 kd2 q n m (fun k => tP q n t cc (w k) n) := by
  have hm := hok.m200
  have hw := hok.w62
  obtain ⟨hq, h1, h2, h3, hcap, h5, h6⟩ := hok
  have q5 := hq.2
  have hs := qn_small hq h2
  have hcl := cap_le kd
  obtain ⟨C1, g, C2, C3⟩ := C
  have ht := hT.1
  refine lp_inv0 (P := fun k (s : Int32 × SG) => s.1 = nI k ∧ NC σ s.2 σ.1 kd2 q n k (fun k => tP q n t cc (w k) n)) (Q := fun (s : SG) => NC σ s σ.1 kd2 q n m (fun k => tP q n t cc (w k) n)) m (by omega) ⟨rfl, hτ⟩ ?_ ?_
  · rintro k ⟨y, s⟩ hk ⟨e1, e2⟩
    dsimp only at e1 e2
    subst e1
    have D1 : s.2 c = some (eO (cls kd) [.int (nI q), .int (nI n), .ref A, .int (nI m)]) := by rw [e2.2.1 c hcs]; exact C1
    have D2 : s.2 A = some (eL (cap kd) g) := by rw [e2.2.1 A hA]; exact C2
    obtain ⟨s2, a1, a2, -, -⟩ := e2.add (N := N) (v := tP q n t cc (w k) n) (by rw [hk2]; omega)
    have hin : lp (f_X1_turn_b128 N x (lN t) (nI cc) b c σ.1 (nI k) s) N (0, 0) = some (lN (tP q n t cc (w k) n)) := by
      refine lp_0 (S := fun i => (lN (tP q n t cc (w k) i), nI i)) n rfl (by omega) ?_ ?_
      · intro i hi
        have hni := hT.2.1 i hi
        have hd := dg_lt hq n (w k) i
        have hf := fmul_lt hq hc hd
        unfold f_X1_turn_b128
        dsimp only
        rw [gI_of (k := 1) D1 (cls_in kd) rfl, Option.bind_some, if_neg (nI_ge hi (by omega)), gI_of (k := 0) D1 (cls_in kd) rfl, Option.bind_some, Option.bind_some, nib_of ht (by omega), nI_s1 (by omega), nI_sub (by omega), X1_power (by omega) hq.lt (by omega), Option.bind_some, Option.bind_some, Option.bind_some, Option.bind_some, gR_of D1 (cls_in kd) rfl, Option.bind_some, aL_of D2 (show k < cap kd by omega) (by omega), Option.bind_some, C3 k hk, X1_letter (by omega) hq h2 (hw k hk) hi, Option.bind_some, X1_times hq hc hd, Option.bind_some, ps_l _ (by omega), lN_mul, lN_add, nI_1]
        rfl
      · unfold f_X1_turn_b128
        dsimp only
        rw [gI_of (k := 1) D1 (cls_in kd) rfl, Option.bind_some, if_pos (nI_le (Nat.le_refl _) (by omega))]
    unfold f_X1_turn_b112
    dsimp only
    rw [Option.bind_some, gI_of (k := 3) D1 (cls_in kd) rfl, Option.bind_some, if_neg (nI_ge hk (by omega)), hin, Option.bind_some, a1, Option.bind_some, nI_1]
    refine ⟨_, rfl, rfl, a2.congr (fun i hi => ?_)⟩
    unfold wset
    split
    · rename_i e; rw [e]
    · rfl
  · rintro ⟨y, s⟩ ⟨e1, e2⟩
    dsimp only at e1 e2
    subst e1
    have D1 : s.2 c = some (eO (cls kd) [.int (nI q), .int (nI n), .ref A, .int (nI m)]) := by rw [e2.2.1 c hcs]; exact C1
    unfold f_X1_turn_b112
    dsimp only
    rw [Option.bind_some, gI_of (k := 3) D1 (cls_in kd) rfl, Option.bind_some, if_pos (nI_le (Nat.le_refl _) (by omega))]
    exact ⟨_, rfl, e2⟩
theorem X3_turn {N p kd q n m t cc : Nat} {b : Int32} {st : MS} {w : Nat → Nat} (hN : 5000 ≤ N) (hp : p < 12) (hok : okc kd q n m w) (hc : cc < q) (hT : isT n t) (hP : mPl st p kd q n m w) : ∃ st1, lp (f_X3_turn_b128 N (nI p) (lN t) (nI cc) b (nI q) (nI n)) N (0, sV st 18 0) = some st1 ∧ Kp [] [17] [18] st st1 ∧ st1.2.2.1 18 = nI m ∧ ∀ i, i < m → st1.2.1 17 i = lN (tP q n t cc (w i) n) := by
  have hm := hok.m200
  have hw := hok.w62
  obtain ⟨hq, h1, h2, h3, hcap, h5, h6⟩ := hok
  have q5 := hq.2
  have hs := qn_small hq h2
  have ht := hT.1
  refine lp_inv0 (P := fun k (s : Int32 × MS) => s.1 = nI k ∧ Kp [] [17] [18] st s.2 ∧ s.2.2.2.1 18 = nI k ∧ ∀ i, i < k → s.2.2.1 17 i = lN (tP q n t cc (w i) n)) (Q := fun (s : MS) => Kp [] [17] [18] st s ∧ s.2.2.1 18 = nI m ∧ ∀ i, i < m → s.2.1 17 i = lN (tP q n t cc (w i) n)) m (by omega) ⟨rfl, (Kp.refl _ _ _ _).sV (by decide) _, sV_s _ _ _, fun a ha => by omega⟩ ?_ ?_
  · rintro k ⟨y, s⟩ hk ⟨e1, e2, e3, e4⟩
    dsimp only at e1 e2 e3 e4
    subst e1
    have s5 : s.2.1 5 (200 * p + k) = lN (w k) := by rw [e2.2.1 5 (by decide)]; exact hP.2.2.2.2 k hk
    have hin : lp (f_X3_turn_b145 N (nI p) (lN t) (nI cc) b (nI q) (nI n) (nI k) s) N (0, 0) = some (lN (tP q n t cc (w k) n)) := by
      refine lp_0 (S := fun i => (lN (tP q n t cc (w k) i), nI i)) n rfl (by omega) ?_ ?_
      · intro i hi
        have hni := hT.2.1 i hi
        have hd := dg_lt hq n (w k) i
        have hf := fmul_lt hq hc hd
        unfold f_X3_turn_b145
        dsimp only
        rw [if_neg (nI_ge hi (by omega)), ix200, ald_N (show 200 * p + k < 2400 by omega) (by omega), Option.bind_some, s5, X3_letter (by omega) hq h2 (hw k hk) hi, Option.bind_some, X3_times hq hc hd, Option.bind_some, nib_of ht (by omega), nI_s1 (by omega), nI_sub (by omega), X3_power (by omega) hq.lt (by omega), Option.bind_some, ps_l _ (by omega), lN_mul, lN_add, nI_1, Nat.mul_comm]
        rfl
      · unfold f_X3_turn_b145
        dsimp only
        rw [if_pos (nI_le (Nat.le_refl _) (by omega))]
    obtain ⟨N', rfl⟩ : ∃ N', N = N' + 1 := ⟨N - 1, by omega⟩
    unfold f_X3_turn_b128
    dsimp only
    rw [ald_N hp (by omega), Option.bind_some, e2.1 4 (by decide), hP.2.2.2.1, if_neg (nI_ge hk (by omega)), hin, Option.bind_some, X3_aside (N := N') (by omega) e3, Option.bind_some, nI_1]
    refine ⟨_, rfl, rfl, (e2.sL (by decide) _).sV (by decide) _, sV_s _ _ _, fun a ha => ?_⟩
    show (sL s 17 (vp_updL (s.2.1 17) k (lN (tP q n t cc (w k) n)))).2.1 17 a = _
    rw [sL_s]
    by_cases e : a = k
    · rw [e, pk_uLs]
    · rw [pk_uLn e]; exact e4 a (by omega)
  · rintro ⟨y, s⟩ ⟨e1, e2, e3, e4⟩
    dsimp only at e1 e2 e3 e4
    subst e1
    unfold f_X3_turn_b128
    dsimp only
    rw [ald_N hp (by omega), Option.bind_some, e2.1 4 (by decide), hP.2.2.2.1, if_pos (nI_le (Nat.le_refl _) (by omega))]
    exact ⟨_, rfl, e2, e3, e4⟩
theorem X1_seen {N n : Nat} {T : Int64} (hN : 5000 ≤ N) (hn : n ≤ 12) : lp (f_X1_isTurn_b5 N (nI n) T) N (0, 0) = some (seenI T n) := by
  refine lp_0 (S := fun k => (seenI T k, nI k)) n rfl (by omega) ?_ ?_
  · intro k hk
    unfold f_X1_isTurn_b5
    dsimp only
    rw [if_neg (nI_ge hk (by omega)), nI_1]
    rfl
  · unfold f_X1_isTurn_b5
    dsimp only
    rw [if_pos (nI_le (Nat.le_refl _) (by omega))]
theorem X3_seen {N n : Nat} {T : Int64} {a b c d : Int32} {st : MS} (hN : 5000 ≤ N) (hn : n ≤ 12) : lp (f_X3_turn_b50 N a T b c d (nI n) st) N (0, 0) = some (seenI T n) := by
  refine lp_0 (S := fun k => (seenI T k, nI k)) n rfl (by omega) ?_ ?_
  · intro k hk
    unfold f_X3_turn_b50
    dsimp only
    rw [if_neg (nI_ge hk (by omega)), nI_1]
    rfl
  · unfold f_X3_turn_b50
    dsimp only
    rw [if_pos (nI_le (Nat.le_refl _) (by omega))]
theorem op_turn {N x M : Nat} {own : Nat → Nat} {σ : SG} {st : MS} (hN : 5000 ≤ N) (j : J x M own σ st) (a : Int32) (T : Int64) (b d : Int32) : Ok x M σ (f_X1_turn N σ x a T b d) (f_X3_turn N st a T b d) := by
  unfold f_X1_turn f_X3_turn
  simp only [X3_isPlace_eq, X3_isIn_eq]
  rcases pl_cases j N a with h | ⟨p, hp, rfl, h, hcase⟩
  · rw [h]
    exact Ok.nil j rfl rfl
  · rw [h, Option.bind_some, if_neg i10, Option.bind_some, if_neg i10]
    rcases pl_cases j N d with hb | ⟨t2, ht2, rfl, hb, -⟩
    · rw [hb]
      exact Ok.nil j rfl rfl
    · rw [hb, Option.bind_some, if_neg i10, Option.bind_some, if_neg i10, j.codes, Option.bind_some]
      rcases hcase with ⟨h2, -, h3⟩ | ⟨kd, q, n, m, w, c, h2, h3, hok, hP, hX⟩
      · rw [h2, h3]
        exact Ok.nil j rfl rfl
      · obtain ⟨A, x1, x2, x3, x4, C⟩ := id hX
        have hq := hok.1
        have q5 := hq.2
        have q2 := hq.1
        have hn := hok.2.2.1
        have hkd := hok.2.2.2.1
        have e1q : (1 : Int64) = lN 1 := rfl
        simp only [h2, h3, Option.bind_some, if_true, gI_of (k := 0) C.1 (cls_in kd) rfl, gI_of (k := 1) C.1 (cls_in kd) rfl, ald_N hp (show 12 < 2 ^ 31 by omega), hP.2.1, hP.2.2.1, X3_seen hN hn, nI_s1 (show 0 < q by omega), ps_l (q - 1) (show q - 1 < 2 ^ 31 by omega)]
        unfold f_X1_isTurn
        rw [X1_seen hN hn, Option.bind_some]
        rcases turn_iff hn T with ⟨t, rfl, hT, g1, g2, g3, g4⟩ | ⟨g1, g2⟩
        · rw [if_neg g1, if_neg g2, if_pos g3, rz_1, Option.bind_some, if_neg i10, if_pos g3, if_pos g4, e1q]
          rcases int_cases b 1 (q - 1) (by omega) with ⟨cc, c1, c2, rfl⟩ | hc
          · rw [isIn_yes (by omega) c1 c2, Option.bind_some, if_neg i10, Option.bind_some, if_neg i10, isOwn C.1 hkd, Option.bind_some]
            obtain ⟨st1, s1, s2, s3, s4⟩ := X3_turn (b := nI t2) hN hp hok (show cc < q by omega) hT hP
            have hk := s2.mk (by decide) (by decide)
            have hP1 := hP.kp hk
            have hokt := okc_turn hok (show cc < q by omega) (show cc ≠ 0 by omega) hT
            have m3 : (if st1.1 1 p = (2 : Int32) then f_X3_turn_j251 N (nI q) (nI n) (1 : Int32) (nI t2) st1 else f_X3_turn_j251 N (nI q) (nI n) (st1.1 1 p) (nI t2) st1) = f_X3_turn_j251 N (nI q) (nI n) (nI (kdt kd)) (nI t2) st1 := by
              rw [hP1.1]
              unfold kdt
              by_cases e : kd = 2
              · rw [if_pos (show nI kd = 2 by rw [e]; rfl), if_pos e]
                rfl
              · rw [if_neg (show ¬ nI kd = 2 by rw [show (2 : Int32) = nI 2 from rfl, nI_eq (by omega) (by omega)]; exact e), if_neg e]
            rw [s1, Option.bind_some, m3]
            have fin : ∀ τ, NC σ τ σ.1 (kdt kd) q n 0 (fun k => tP q n t cc (w k) n) → Ok x M σ (f_X1_turn_j107 N x (lN t) (nI cc) (nI t2) (some c) σ.1 τ) (f_X3_turn_j251 N (nI q) (nI n) (nI (kdt kd)) (nI t2) st1) := by
              intro τ hτ
              obtain ⟨τ2, b1, b2⟩ := X1_turn (N := N) (x := x) (b := nI t2) hN hok (show cc < q by omega) hT C x1 x2 (cap_kdt kd) hτ
              obtain ⟨d0, τ3, st2, own', d1, d2, d3, d4⟩ := made_ends hN j ht2 hokt b2 hk s3 s4
              unfold f_X1_turn_j107 f_X3_turn_j251
              rw [b1, Option.bind_some, d0, Option.bind_some, d1, Option.bind_some, d2, Option.bind_some]
              exact ⟨τ3, st2, _, own', rfl, rfl, d3, d4⟩
            by_cases e : kd = 3
            · obtain ⟨τ, a1, a2, a3⟩ := X4_init (N := N) (kd := 3) (q := q) (n := n) (σ := σ) (fun k => tP q n t cc (w k) n)
              have hcn : (nO 5 [.int 0, .int 0, .null, .int 0] σ).2 c = some (eO (cls kd) [.int (nI q), .int (nI n), .ref A, .int (nI m)]) := by
                show va_up σ.2 σ.1 _ c = _
                rw [up_n (by omega)]
                exact C.1
              have hin : f_X7_init N (nO 5 [.int 0, .int 0, .null, .int 0] σ) σ.1 (nI q) (nI n) = some τ := by
                unfold f_X7_init f_X6_init
                rw [show f_X4_init N (nO 5 [.int 0, .int 0, .null, .int 0] σ) σ.1 (nI q) (nI n) 12 = some τ from a1]
                rfl
              rw [if_pos e, if_neg i10, gI_of (k := 0) hcn (cls_in kd) rfl, Option.bind_some, gI_of (k := 1) hcn (cls_in kd) rfl, Option.bind_some, hin, Option.bind_some]
              refine fin τ ?_
              rw [show kdt kd = 3 by rw [e]; rfl]
              exact a2
            · obtain ⟨τ, a1, a2, a3⟩ := X1_like (N := N) (n2 := n) C hkd x1 (fun k => tP q n t cc (w k) n)
              rw [if_neg e, if_pos rfl, a1, Option.bind_some]
              refine fin τ ?_
              rw [show kdt kd = kdl kd by unfold kdt kdl; split <;> split <;> omega]
              exact a2
          · rw [isIn_no (by omega) (by omega) hc]
            exact Ok.nil j rfl rfl
        · have hx1 : (if T < 0 then rz (0 : Int32) else if ((1 : Int64) <<< ((((4 : Int32) * nI n)).toInt64 &&& 63)) ≤ T then rz (0 : Int32) else if seenI T n = (((1 : Int32) <<< (nI n &&& 31)) - (1 : Int32)) then rz (1 : Int32) else rz (0 : Int32)) = some 0 := by
            rcases g1 with g1 | g1 | g1
            · rw [if_pos g1]; rfl
            · by_cases e1 : T < 0
              · rw [if_pos e1]; rfl
              · rw [if_neg e1, if_pos g1]; rfl
            · by_cases e1 : T < 0
              · rw [if_pos e1]; rfl
              · rw [if_neg e1, if_neg g1, ite_self]; rfl
          rw [hx1, Option.bind_some, if_pos rfl]
          refine Ok.nil j rfl ?_
          rcases g2 with g2 | g2
          · rw [if_neg g2]
          · rw [if_neg g2, ite_self]
