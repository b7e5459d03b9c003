/-! ===== PURE J41: same (op) ===== -/
set_option maxRecDepth 100000
noncomputable def lkv (q n ma mb : Nat) (wa wb : Nat → Nat) : Bool := decide (rk q n ma (wR q n wa) = rk q n mb (wR q n wb)) && alls (fun k => decide (fw q n ma (wR q n wa) k = fw q n mb (wR q n wb) k)) (rk q n ma (wR q n wa))
theorem X9_isLike {N f g q n ma mb : Nat} {σ0 σ1 u : SG} {wa wb : Nat → Nat} (hN : 5000 ≤ N) (hq : isQ q) (hn : n ≤ 12) (hma : ma ≤ 12) (hmb : mb ≤ 12) (F : Fdn σ0 u f q n ma wa) (G : Fdn σ1 u g q n mb wb) : f_X9_isLike N u f g = some (bI (lkv q n ma mb wa wb)) := by
  have hs := qn_small hq hn
  have ra := rk_le12 (n := n) (w := wa) hq hma
  have rb := rk_le12 (n := n) (w := wb) hq hmb
  unfold f_X9_isLike f_X9_isLike_j16 lkv
  rw [F.2.2.2.2.2.1, Option.bind_some, G.2.2.2.2.2.1, Option.bind_some]
  by_cases e : rk q n ma (wR q n wa) = rk q n mb (wR q n wb)
  · rw [if_pos (by rw [e]), decide_eq_true e, show (1 : Int32) = bI true from rfl, lp_and (fun k => decide (fw q n ma (wR q n wa) k = fw q n mb (wR q n wb) k)) (rk q n ma (wR q n wa)) true (by omega) ?_ ?_ ?_, Option.bind_some, rz_b]
    · intro k hk
      have f1 := fw_lt hq (wR_ok (w := wa) hq) hk
      have f2 := fw_lt hq (wR_ok (w := wb) hq) (show k < rk q n mb (wR q n wb) by omega)
      unfold f_X9_isLike_b19
      dsimp only
      rw [F.2.2.2.2.2.1, Option.bind_some, if_neg (nI_ge hk (by omega)), if_neg i10, F.2.2.1, Option.bind_some, F.row (by omega) hq hn hk, Option.bind_some, G.2.2.1, Option.bind_some, G.row (by omega) hq hn (by omega), Option.bind_some, nI_1]
      by_cases e2 : fw q n ma (wR q n wa) k = fw q n mb (wR q n wb) k
      · rw [if_pos (by rw [e2]), decide_eq_true e2]; rfl
      · rw [if_neg (by rw [pk_lEQ (by omega) (by omega)]; exact e2), decide_eq_false e2]; rfl
    · intro k hk
      unfold f_X9_isLike_b19
      dsimp only
      rw [F.2.2.2.2.2.1, Option.bind_some, if_neg (nI_ge hk (by omega)), if_pos rfl]
    · intro b
      unfold f_X9_isLike_b19
      dsimp only
      rw [F.2.2.2.2.2.1, Option.bind_some, if_pos (nI_le (Nat.le_refl _) (by omega))]
  · rw [if_neg (by rw [nI_eq (by omega) (by omega)]; exact e), decide_eq_false e, Bool.false_and, lp_0 (S := fun _ => ((0 : Int32), (0 : Int32))) (R := 0) (N := N) (s0 := (0, 0)) 0 rfl (by omega) (fun k hk => by omega) ?_, Option.bind_some]
    · rfl
    · unfold f_X9_isLike_b19
      dsimp only
      rw [F.2.2.2.2.2.1, Option.bind_some, if_pos rfl, ite_self]
theorem X3_same_copy {N r : Nat} {b : Int32} {st : MS} {w : Nat → Nat} (hN : 5000 ≤ N) (hr : r ≤ 12) (h6 : ∀ k, k < r → st.2.1 6 k = lN (w k)) : ∃ st', lp (f_X3_same_b99 N b (nI r)) N (0, st) = some st' ∧ Kp [] [9] [] st st' ∧ ∀ k, k < r → st'.2.1 9 k = lN (w k) := by
  refine lp_inv0 (P := fun k (s : Int32 × MS) => s.1 = nI k ∧ Kp [] [9] [] st s.2 ∧ ∀ i, i < k → s.2.2.1 9 i = lN (w i)) (Q := fun (s : MS) => Kp [] [9] [] st s ∧ ∀ k, k < r → s.2.1 9 k = lN (w k)) r (by omega) ⟨rfl, Kp.refl _ _ _ _, fun i hi => by omega⟩ ?_ ?_
  · rintro k ⟨y, s⟩ hk ⟨e1, e2, e3⟩
    dsimp only at e1 e2 e3
    subst e1
    unfold f_X3_same_b99
    dsimp only
    rw [if_neg (nI_ge hk (by omega)), ald_N (show k < 12 by omega) (by omega), Option.bind_some, e2.2.1 6 (by decide), h6 k hk, last_N (show k < 12 by omega) (by omega), Option.bind_some, nI_1]
    refine ⟨_, rfl, rfl, e2.sL (by decide) _, fun i hi => ?_⟩
    dsimp only
    rw [sL_s]
    by_cases e : i = k
    · rw [e, pk_uLs]
    · rw [pk_uLn e]; exact e3 i (by omega)
  · rintro ⟨y, s⟩ ⟨e1, e2, e3⟩
    dsimp only at e1 e2 e3
    subst e1
    unfold f_X3_same_b99
    dsimp only
    rw [if_pos (nI_le (Nat.le_refl _) (by omega))]
    exact ⟨_, rfl, e2, e3⟩
theorem j190_b {N : Nat} {u : MS} (b : Bool) : f_X3_same_j190 N (bI b) u = some (u, bI b) := by cases b <;> rfl
theorem lines_same {N x M p o kda kdb q n ma mb ca cb : Nat} {own : Nat → Nat} {σ : SG} {st : MS} {wa wb : Nat → Nat} (hN : 5000 ≤ N) (j : J x M own σ st) (hp : p < 12) (ho : o < 12) (hoka : okc kda q n ma wa) (hokb : okc kdb q n mb wb) (hP : mPl st p kda q n ma wa) (hPb : mPl st o kdb q n mb wb) (hXa : xPl σ own (1 + p) kda q n ma wa ca) (hXb : xPl σ own (1 + o) kdb q n mb wb cb) (ha : kda ≠ 0) (hb : kdb ≠ 0) : Ok x M σ (Option.bind (f_X9_init N (nO 7 [.int 0, .int 0, .null, .null, .int 0] σ) σ.1 ca) fun v47 => Option.bind (f_X9_init N (nO 7 [.int 0, .int 0, .null, .null, .int 0] v47) v47.1 cb) fun v49 => Option.bind (cC [7] v49 σ.1) fun _ => Option.bind (f_X9_isLike N v49 σ.1 v47.1) fun v50 => if v50 = 0 then some (v49, (0 : Int32)) else some (v49, (1 : Int32))) (Option.bind (f_X3_clear N st (nI p)) fun v15 => Option.bind (lp (f_X3_same_b99 N (nI o) (v15.2.2.1 8)) N (0, v15)) fun r99_18 => Option.bind (f_X3_clear N r99_18 (nI o)) fun v19 => if v15.2.2.1 8 = v19.2.2.1 8 then f_X3_same_j143 N (v15.2.2.1 8) 1 v19 else f_X3_same_j143 N (v15.2.2.1 8) 0 v19) := by
  have hq := hoka.1
  have hn := hoka.2.2.1
  have hs := qn_small hq hn
  have c1 : cap kda = 12 := if_neg ha
  have c2 : cap kdb = 12 := if_neg hb
  have hca := hoka.2.2.2.2.1
  have hcb := hokb.2.2.2.2.1
  have ra := rk_le12 (n := n) (w := wa) hq (show ma ≤ 12 by omega)
  have rb := rk_le12 (n := n) (w := wb) hq (show mb ≤ 12 by omega)
  obtain ⟨τ1, a1, F, a3, a4, a5, a6⟩ := new_form (N := N) (by omega) j hoka ha hXa
  have hXb' : xPl τ1 own (1 + o) kdb q n mb wb cb := hXb.keep a5 (fun a ha _ => ⟨a6 a ha, rfl⟩)
  obtain ⟨τ2, b1, G, b3, b4, b5, b6⟩ := new_form (N := N) (by omega) a3 hokb hb hXb'
  have F2 := F.keep b5 b6
  obtain ⟨s1, d1, d2, d3, d4, d5⟩ := X3_clear (N := N) (by omega) hq hn (by omega) hp hP hoka.2.2.2.2.2.1
  obtain ⟨s2, e1, e2, e3⟩ := X3_same_copy (b := nI o) hN ra d5
  have hP2 : mPl s2 o kdb q n mb wb := (hPb.kp d2.m678).kp (e2.mk (by decide) (by decide))
  obtain ⟨s3, f1, f2, f3, f4, f5⟩ := X3_clear (N := N) (by omega) hq hn (by omega) ho hP2 hokb.2.2.2.2.2.1
  have hk : Mk st s3 := (((d2.mono (I2 := [7]) (L2 := [6, 9]) (V2 := [8]) (by decide) (by decide) (by decide)).trans (e2.mono (by decide) (by decide) (by decide))).trans (f2.mono (by decide) (by decide) (by decide))).mk (by decide) (by decide)
  have g9 : ∀ k, k < rk q n ma (wR q n wa) → s3.2.1 9 k = lN (fw q n ma (wR q n wa) k) := fun k hk => by rw [f2.2.1 9 (by decide)]; exact e3 k hk
  have hmod : (if nI (rk q n ma (wR q n wa)) = nI (rk q n mb (wR q n wb)) then f_X3_same_j143 N (nI (rk q n ma (wR q n wa))) 1 s3 else f_X3_same_j143 N (nI (rk q n ma (wR q n wa))) 0 s3) = some (s3, bI (lkv q n ma mb wa wb)) := by
    unfold f_X3_same_j143 lkv
    by_cases e : rk q n ma (wR q n wa) = rk q n mb (wR q n wb)
    · rw [if_pos (by rw [e]), decide_eq_true e, show (1 : Int32) = bI true from rfl, lp_and (fun k => decide (fw q n ma (wR q n wa) k = fw q n mb (wR q n wb) k)) (rk q n ma (wR q n wa)) true (by omega) ?_ ?_ ?_, Option.bind_some, j190_b]
      · intro k hk
        have g1 := fw_lt hq (wR_ok (w := wa) hq) hk
        have g2 := fw_lt hq (wR_ok (w := wb) hq) (show k < rk q n mb (wR q n wb) by omega)
        unfold f_X3_same_b148
        dsimp only
        rw [if_neg (nI_ge hk (by omega)), if_neg i10, ald_N (show k < 12 by omega) (by omega), Option.bind_some, g9 k hk, ald_N (show k < 12 by omega) (by omega), Option.bind_some, f5 k (by omega), nI_1]
        by_cases e2 : fw q n ma (wR q n wa) k = fw q n mb (wR q n wb) k
        · rw [if_pos (by rw [e2]), decide_eq_true e2]; rfl
        · rw [if_neg (by rw [pk_lEQ (by omega) (by omega)]; exact e2), decide_eq_false e2]; rfl
      · intro k hk
        unfold f_X3_same_b148
        dsimp only
        rw [if_neg (nI_ge hk (by omega)), if_pos rfl]
      · intro b
        unfold f_X3_same_b148
        dsimp only
        rw [if_pos (nI_le (Nat.le_refl _) (by omega))]
    · rw [if_neg (by rw [nI_eq (by omega) (by omega)]; exact e), decide_eq_false e, Bool.false_and, lp_0 (S := fun _ => ((0 : Int32), (0 : Int32))) (R := 0) (N := N) (s0 := (0, 0)) 0 rfl (by omega) (fun k hk => by omega) ?_, Option.bind_some]
      · rfl
      · unfold f_X3_same_b148
        dsimp only
        rw [if_pos rfl, ite_self]
  rw [a1, Option.bind_some, b1, Option.bind_some, F2.2.2.1, Option.bind_some, X9_isLike hN hq hn (by omega) (by omega) F2 G, Option.bind_some, d1, Option.bind_some, d3, e1, Option.bind_some, f1, Option.bind_some, f3, hmod]
  cases lkv q n ma mb wa wb with
  | true => exact ⟨τ2, s3, _, own, rfl, rfl, b3.scrM hk, a4.trans b4⟩
  | false => exact ⟨τ2, s3, _, own, rfl, rfl, b3.scrM hk, a4.trans b4⟩
/-- one of them is listed: the model -/
theorem X3_j201 {N p o kda kdb q n ma mb : Nat} {st : MS} {wa wb : Nat → Nat} (hN : 5000 ≤ N) (hp : p < 12) (ho : o < 12) (hoka : okc kda q n ma wa) (hokb : okc kdb q n mb wb) (hP : mPl st p kda q n ma wa) (hPb : mPl st o kdb q n mb wb) : ∃ st', f_X3_same_j201 N (nI p) (nI o) st = some (st', if szv kda q n ma wa ≤ 4096 ∧ szv kdb q n mb wb ≤ 4096 then bI (decide (szv kdb q n mb wb = szv kda q n ma wa) && alls (fun k => hsw kdb q n mb wb (lw kda q n ma wa k)) (szv kda q n ma wa)) else -5) ∧ Mk st st' := by
  have hsz : ∀ {kd m : Nat} {w : Nat → Nat}, okc kd q n m w → szv kd q n m w < 2 ^ 31 := by
    intro kd m w hok
    have hm := hok.m200
    unfold szv
    split
    · omega
    · rename_i e
      have hc : cap kd = 12 := if_neg e
      have hcap := hok.2.2.2.2.1
      have hr := rk_le12 (n := n) (w := w) hok.1 (show m ≤ 12 by omega)
      have := qn_small hok.1 hr
      omega
  have z1 := hsz hoka
  have z2 := hsz hokb
  obtain ⟨s1, a1, a2, -⟩ := X3_sizeOf hN hp hoka hP
  obtain ⟨s2, b1, b2, -⟩ := X3_sizeOf hN ho hokb (hPb.kp a2.m678)
  have hP2 := (hP.kp a2.m678).kp b2.m678
  have hPb2 := (hPb.kp a2.m678).kp b2.m678
  obtain ⟨s3, c1, c2, c3⟩ := X3_lays hN hp hoka hP2
  have hPb3 := hPb2.kp (c2.mk (by decide) (by decide))
  have k12 : Kp [7] [6] [8] st s2 := a2.trans b2
  unfold f_X3_same_j201
  rw [a1, Option.bind_some]
  dsimp only
  by_cases e1 : szv kda q n ma wa ≤ 4096
  · rw [if_neg (show ¬ (4096 : Int64) < lN (szv kda q n ma wa) by rw [show (4096 : Int64) = lN 4096 from rfl, pk_lLT (by omega) (by omega)]; omega), b1, Option.bind_some]
    dsimp only
    by_cases e2 : szv kdb q n mb wb ≤ 4096
    · obtain ⟨s4, d1, d2⟩ := X3_hasAll hN ho hokb hPb3 (c3 e1) e1 (fun k hk => lw_lt hoka hk)
      rw [if_pos (show lN (szv kdb q n mb wb) ≤ 4096 by rw [show (4096 : Int64) = lN 4096 from rfl, pk_lLE (by omega) (by omega)]; exact e2), c1, Option.bind_some]
      dsimp only
      rw [d1, Option.bind_some, if_pos (show szv kda q n ma wa ≤ 4096 ∧ szv kdb q n mb wb ≤ 4096 from ⟨e1, e2⟩)]
      refine ⟨s4, ?_, ((k12.mono (I2 := [7, 12]) (L2 := [6, 10]) (V2 := [8, 11]) (by decide) (by decide) (by decide)).trans (c2.trans (d2.mono (by decide) (by decide) (by decide)))).mk (by decide) (by decide)⟩
      cases (decide (szv kdb q n mb wb = szv kda q n ma wa) && alls (fun k => hsw kdb q n mb wb (lw kda q n ma wa k)) (szv kda q n ma wa)) <;> rfl
    · rw [if_neg (show ¬ lN (szv kdb q n mb wb) ≤ 4096 by rw [show (4096 : Int64) = lN 4096 from rfl, pk_lLE (by omega) (by omega)]; exact e2), if_neg (fun h => e2 h.2)]
      exact ⟨s2, rfl, k12.m678⟩
  · rw [if_pos (show (4096 : Int64) < lN (szv kda q n ma wa) by rw [show (4096 : Int64) = lN 4096 from rfl, pk_lLT (by omega) (by omega)]; omega), if_neg (fun h => e1 h.1)]
    exact ⟨s1, rfl, a2.m678⟩
theorem listed_same {N x M p o kda kdb q n ma mb ca cb : Nat} {own : Nat → Nat} {σ : SG} {st : MS} {wa wb : Nat → Nat} (hN : 5000 ≤ N) (j : J x M own σ st) (hp : p < 12) (ho : o < 12) (hoka : okc kda q n ma wa) (hokb : okc kdb q n mb wb) (hP : mPl st p kda q n ma wa) (hPb : mPl st o kdb q n mb wb) (hXa : xPl σ own (1 + p) kda q n ma wa ca) (hXb : xPl σ own (1 + o) kdb q n mb wb cb) (hl : kda = 0 ∨ kdb = 0) : Ok x M σ (f_X1_same_j123 N x (some ca) (some cb) σ) (f_X3_same_j201 N (nI p) (nI o) st) := by
  obtain ⟨A, x1, x2, x3, x4, Ca⟩ := id hXa
  obtain ⟨B, y1, y2, y3, y4, Cb⟩ := id hXb
  obtain ⟨s4, d1, d2⟩ := X3_j201 hN hp ho hoka hokb hP hPb
  have m1 := hoka.m200
  have m2 := hokb.m200
  unfold f_X1_same_j123
  rw [isLine (N := N) Ca.1 hoka.2.2.2.1, Option.bind_some, isLine (N := N) Cb.1 hokb.2.2.2.1, Option.bind_some, Option.bind_some, d1]
  by_cases ea : kda = 0
  · have za : szv kda q n ma wa = ma := szv_list ea
    have hla : ∀ k, lw kda q n ma wa k = wa k := fun k => if_pos ea
    by_cases eb : kdb = 0
    · have zb : szv kdb q n mb wb = mb := szv_list eb
      obtain ⟨τ, t1, t2, t3⟩ := X1_j158 hN j hoka hokb hXa hXb hl
      rw [if_pos ea, if_pos eb, if_pos rfl, t1, if_pos ea, if_pos ⟨by omega, by omega⟩, za, zb]
      refine ⟨τ, s4, _, own, rfl, ?_, t2.scrM d2, t3⟩
      simp only [hla, eq_comm]
    · rw [if_pos ea, if_neg eb, if_neg (by decide), if_pos rfl]
      unfold f_X1_same_j149
      obtain ⟨τ, t1, t2, t3, t4, t5, t6⟩ := X1_lays (N := N) hN j (by omega) hokb hXb
      rw [Option.bind_some, j.cc, Option.bind_some, t1, Option.bind_some]
      dsimp only
      by_cases hL : szv kdb q n mb wb ≤ 4096
      · have hj := j.1
        obtain ⟨τ2, z1, z2, z3⟩ := X1_j158 hN t2 hoka hokb (hXa.keep t3.1 (fun a ha ho => ⟨t5.2 a ha (by omega), rfl⟩)) t4 hl
        rw [if_pos hL, if_neg i10, z1, if_pos ea, if_pos ⟨by omega, hL⟩, za]
        refine ⟨τ2, s4, _, own, rfl, ?_, z2.scrM d2, t3.trans z3⟩
        simp only [hla, eq_comm]
      · rw [if_neg hL, if_pos rfl, if_neg (fun h => hL h.2)]
        exact ⟨τ, s4, _, own, rfl, rfl, t2.scrM d2, t3⟩
  · have eb : kdb = 0 := hl.resolve_left ea
    subst eb
    have zb : szv 0 q n mb wb = mb := szv_list rfl
    rw [if_neg ea, if_pos rfl, if_neg (by decide), if_neg i10]
    unfold f_X1_same_j149
    obtain ⟨τ, t1, t2, t3, t4, t5, t6⟩ := X1_lays (N := N) hN j (by omega) hoka hXa
    rw [Option.bind_some, j.cc, Option.bind_some, t1, Option.bind_some]
    dsimp only
    by_cases hL : szv kda q n ma wa ≤ 4096
    · obtain ⟨τ2, z1, z2, z3⟩ := X1_j158 hN t2 hoka hokb t4 (hXb.keep t3.1 (fun a ha ho => ⟨t5.2 a ha (by omega), rfl⟩)) hl
      rw [if_pos hL, if_neg i10, z1, if_neg ea, if_pos ⟨hL, by omega⟩, zb]
      refine ⟨τ2, s4, _, own, rfl, ?_, z2.scrM d2, t3.trans z3⟩
      congr 2
      by_cases he : szv kda q n ma wa = mb
      · rw [decide_eq_true he, decide_eq_true he.symm, Bool.true_and, Bool.true_and]
        have hh := same_iff hoka ea hokb he
        have h9 : (fun k => hsw kda q n ma wa (wb k)) = (fun k => inl q n ma wa (wb k)) := by
          funext k
          exact if_neg ea
        have h8 : (fun k => hsw 0 q n mb wb (lw kda q n ma wa k)) = (fun k => fnd wb (lw kda q n ma wa k) mb) := by
          funext k
          exact if_pos rfl
        rw [h9, h8, hh]
      · rw [decide_eq_false he, decide_eq_false (fun h => he h.symm), Bool.false_and, Bool.false_and]
    · rw [if_neg hL, if_pos rfl, if_neg (fun h => hL h.1)]
      exact ⟨τ, s4, _, own, rfl, rfl, t2.scrM d2, t3⟩
theorem op_same {N x M : Nat} {own : Nat → Nat} {σ : SG} {st : MS} (hN : 5000 ≤ N) (j : J x M own σ st) (a b : Int32) : Ok x M σ (f_X1_same N σ x a b) (f_X3_same N st a b) := by
  unfold f_X1_same f_X3_same
  simp only [X3_isPlace_eq]
  rcases pl_cases j N a with h | ⟨p, hp, rfl, h, hcase⟩
  · rw [h]
    exact Ok.nil j rfl rfl
  · simp only [h, Option.bind_some, i10, if_false]
    rcases pl_cases j N b with hb | ⟨o, ho, rfl, hb, hcaseb⟩
    · rw [hb]
      exact Ok.nil j rfl rfl
    · simp only [hb, Option.bind_some, i10, if_false, j.codes]
      rcases hcase with ⟨h2, -, h3⟩ | ⟨kda, q, n, ma, wa, ca, h2, h3, hoka, hP, hXa⟩
      · rw [h2, h3]
        exact Ok.nil j rfl rfl
      · simp only [h2, h3, Option.bind_some, if_true]
        rcases hcaseb with ⟨g2, -, g3⟩ | ⟨kdb, qb, nb, mb, wb, cb, g2, g3, hokb, hPb, hXb⟩
        · rw [g2, g3]
          exact Ok.nil j rfl rfl
        · obtain ⟨A, x1, x2, x3, x4, Ca⟩ := id hXa
          obtain ⟨B, y1, y2, y3, y4, Cb⟩ := id hXb
          have q5 := hoka.1.2
          have q5b := hokb.1.2
          have hn := hoka.2.2.1
          have hnb := hokb.2.2.1
          have hka := hoka.2.2.2.1
          have hkb := hokb.2.2.2.1
          simp only [g2, g3, Option.bind_some, if_true, gI_of (k := 0) Ca.1 (cls_in kda) rfl, gI_of (k := 0) Cb.1 (cls_in kdb) rfl, gI_of (k := 1) Ca.1 (cls_in kda) rfl, gI_of (k := 1) Cb.1 (cls_in kdb) rfl, ald_N hp (show 12 < 2 ^ 31 by omega), ald_N ho (show 12 < 2 ^ 31 by omega), hP.1, hP.2.1, hP.2.2.1, hPb.1, hPb.2.1, hPb.2.2.1, isLine (N := N) Ca.1 hka, isLine (N := N) Cb.1 hkb]
          by_cases eq : q = qb
          · subst eq
            by_cases en : n = nb
            · subst en
              simp only [if_true]
              by_cases ea : kda = 0
              · rw [if_pos ea, if_pos rfl, if_pos (show nI kda = 0 by rw [ea]; rfl)]
                exact listed_same hN j hp ho hoka hokb hP hPb hXa hXb (Or.inl ea)
              · rw [if_neg ea, if_neg i10, if_neg (nI_ne0 (by omega) (by omega))]
                by_cases eb : kdb = 0
                · rw [if_pos eb, if_pos rfl, if_pos (show nI kdb = 0 by rw [eb]; rfl)]
                  exact listed_same hN j hp ho hoka hokb hP hPb hXa hXb (Or.inr eb)
                · rw [if_neg eb, if_neg i10, if_neg (nI_ne0 (by omega) (by omega))]
                  exact lines_same hN j hp ho hoka hokb hP hPb hXa hXb ea eb
            · simp only [if_true]
              rw [if_neg (by rw [nI_eq (by omega) (by omega)]; exact en), if_neg (by rw [nI_eq (by omega) (by omega)]; exact en)]
              exact Ok.nil j rfl rfl
          · rw [if_neg (by rw [nI_eq (by omega) (by omega)]; exact eq), if_neg (by rw [nI_eq (by omega) (by omega)]; exact eq)]
            exact Ok.nil j rfl rfl
