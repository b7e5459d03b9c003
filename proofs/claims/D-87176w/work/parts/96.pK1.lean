/-! ===== PURE K1: shelves: held, heft, toss, row ===== -/
set_option maxRecDepth 100000
theorem gQ_of {cs : List Nat} {σ : SG} {b k ci : Nat} {fs : List Value} {v : Option Nat} (h : σ.2 b = some (eO ci fs)) (hc : ci ∈ cs) (hk : fs[k]? = some (va_rf v)) : gQ cs σ b k = some v := by
  unfold gQ
  rw [gV_of h hc hk]
  cases v <;> rfl
theorem J.held {N x M d : Nat} {own : Nat → Nat} {σ : SG} {st : MS} (j : J x M own σ st) (hd : d < 6) : ∃ vo, σ.2 (shA x d) = some (eO 1 [va_rf vo]) ∧ sRel σ own st d (va_rf vo) ∧ f_X1_held N σ x (nI d) = some vo := by
  obtain ⟨g1, g2, g3, g4⟩ := j.get (N := N) hd
  obtain ⟨-, -, -, d1⟩ := j
  obtain ⟨v, e1, e2⟩ := d1 d hd
  obtain ⟨vo, rfl⟩ : ∃ vo, v = va_rf vo := by
    rcases e2 with ⟨h, -⟩ | ⟨_, _, _, _, _, c, h, -⟩ | ⟨b, _, _, h, -⟩ | ⟨b, _, _, h, -⟩
    · exact ⟨none, h⟩
    · exact ⟨some c, h⟩
    · exact ⟨some b, h⟩
    · exact ⟨some b, h⟩
  refine ⟨vo, e1, e2, ?_⟩
  unfold f_X1_held
  rw [g1, Option.bind_some, g2, Option.bind_some, g3, Option.bind_some, Option.bind_some, g4, Option.bind_some, gQ_of e1 (by decide) rfl, Option.bind_some]
theorem vo_null {vo : Option Nat} (h : va_rf vo = .null) : vo = none := by
  cases vo with
  | none => rfl
  | some a => cases h
theorem vo_ref {vo : Option Nat} {c : Nat} (h : va_rf vo = .ref c) : vo = some c := by
  cases vo with
  | none => cases h
  | some a => cases h; rfl
theorem kd_c {σ : SG} {c kk : Nat} {fs : List Value} (h : σ.2 c = some (eO (cls kk) fs)) : kd σ c = some 0 := by
  unfold kd
  rw [h]
  dsimp only
  rw [if_pos (cls_in kk)]
theorem kd_l {σ : SG} {c n : Nat} {f : Nat → Int64} (h : σ.2 c = some (eL n f)) : kd σ c = some 1 := by
  unfold kd
  rw [h]
  rfl
theorem kd_b {σ : SG} {c n : Nat} {f : Nat → Int32} (h : σ.2 c = some (eB n f)) : kd σ c = some 2 := by
  unfold kd
  rw [h]
  rfl
/-- only new cells of which nobody knows -/
theorem Ok.grow {α : Type} {x M k : Nat} {own : Nat → Nat} {σ : SG} {st : MS} {o1 : Option (SG × α)} {o3 : Option (MS × α)} {r : α} (j : J x M own σ st) (h1 : o1 = some ((σ.1 + k, σ.2), r)) (h3 : o3 = some (st, r)) : Ok x M σ o1 o3 :=
  ⟨_, st, r, own, h1, h3, j.new (Nat.le_add_right _ _) (fun _ _ => rfl) (Mk.refl _), Nat.le_add_right _ _, fun _ _ _ => rfl⟩
theorem n11 : ¬ (-11 : Int32) = 0 := by decide
theorem n12 : ¬ (-12 : Int32) = 0 := by decide
theorem n1 : ¬ (-1 : Int32) = 0 := by decide
theorem op_heft {N x M : Nat} {own : Nat → Nat} {σ : SG} {st : MS} (j : J x M own σ st) (a : Int32) : Ok x M σ (f_X1_heft N σ x a) ((f_X3_heft N st a).map (fun r => (st, r))) := by
  unfold f_X1_heft f_X3_heft f_X3_lacksCode
  simp only [X3_isShelf_eq]
  rcases shelf_cases N a with ⟨d, hd, rfl, ha⟩ | ha
  · obtain ⟨vo, e1, e2, e3⟩ := j.held (N := N) hd
    simp only [ha, Option.bind_some, i10, if_false, j.cc, e3, ald_N hd (show 6 < 2 ^ 31 by omega)]
    rcases e2 with ⟨h1, h2⟩ | ⟨kk, q, n, m, w, c, h1, hok, hX, h4, h5, h6, h7⟩ | ⟨b, m, f, h1, h2, h3, h4, h5, h6, h7, h8⟩ | ⟨b, m, f, h1, h2, h3, h4, h5, h6, h7, h8⟩
    · cases vo_null h1
      simp only [h2, if_true, Option.bind_some, n11, if_false]
      exact Ok.grow j rfl rfl
    · cases vo_ref h1
      obtain ⟨A, x1, x2, x3, x4, C, -⟩ := hX
      have hk := hok.2.2.2.1
      simp only [h4, kd_c C, if_true, show ((1 : Int32) = 0) = False from eq_false (by decide), if_false, Option.bind_some, h5, h7]
      have hg : ∀ ci, ci ∈ [3, 4, 5, 6] → gI [3, 4, 5, 6] σ c 3 = some (nI m) := fun ci _ => gI_of (k := 3) C (cls_in kk) rfl
      have hdv : dv_X4_heft N σ c = some (if kk = 0 then nI m else if kk = 2 then (100 + 10 * nI m) + 1000 else if kk = 3 then 2 * (100 + 10 * nI m) else 100 + 10 * nI m) := by
        unfold dv_X4_heft
        rw [C]
        have hg := gI_of (k := 3) C (cls_in kk) rfl
        have hcc := cC_of C (cls_in kk)
        rcases (show kk = 0 ∨ kk = 1 ∨ kk = 2 ∨ kk = 3 by omega) with rfl | rfl | rfl | rfl
        · show f_X4_heft N σ c = _
          unfold f_X4_heft
          rw [hg]; rfl
        · show f_X6_heft N σ c = _
          unfold f_X6_heft f_X4_heft
          rw [hcc, Option.bind_some, hg]; rfl
        · show f_X8_heft N σ c = _
          unfold f_X8_heft f_X6_heft f_X4_heft
          rw [hcc, Option.bind_some, Option.bind_some, hg]; rfl
        · show f_X7_heft N σ c = _
          unfold f_X7_heft f_X6_heft f_X4_heft
          rw [hcc, Option.bind_some, Option.bind_some, hg]; rfl
      rw [hdv]
      rcases (show kk = 0 ∨ kk = 1 ∨ kk = 2 ∨ kk = 3 by omega) with rfl | rfl | rfl | rfl <;> exact Ok.nil j rfl rfl
    · cases vo_ref h1
      simp only [h6, kd_b h4, show ((3 : Int32) = 0) = False from eq_false (by decide), show ((3 : Int32) = 1) = False from eq_false (by decide), if_false, Option.bind_some, n12]
      exact Ok.grow j rfl rfl
    · cases vo_ref h1
      simp only [h6, kd_l h4, show ((4 : Int32) = 0) = False from eq_false (by decide), show ((4 : Int32) = 1) = False from eq_false (by decide), if_false, Option.bind_some, n12]
      exact Ok.grow j rfl rfl
  · simp only [ha, Option.bind_some, if_true, n1, if_false]
    exact Ok.nil j rfl rfl
theorem op_toss {N x M : Nat} {own : Nat → Nat} {σ : SG} {st : MS} (j : J x M own σ st) (a : Int32) : Ok x M σ (f_X1_toss N σ x a) ((f_X3_toss N st a).map (fun r => (st, r))) := by
  unfold f_X1_toss f_X3_toss f_X3_lacksCode
  simp only [X3_isShelf_eq]
  rcases shelf_cases N a with ⟨d, hd, rfl, ha⟩ | ha
  · obtain ⟨vo, e1, e2, e3⟩ := j.held (N := N) hd
    simp only [ha, Option.bind_some, i10, if_false, j.cc, e3, ald_N hd (show 6 < 2 ^ 31 by omega)]
    rcases e2 with ⟨h1, h2⟩ | ⟨kk, q, n, m, w, c, h1, hok, hX, h4, h5, h6, h7⟩ | ⟨b, m, f, h1, h2, h3, h4, h5, h6, h7, h8⟩ | ⟨b, m, f, h1, h2, h3, h4, h5, h6, h7, h8⟩
    · cases vo_null h1
      simp only [h2, if_true, Option.bind_some, n11, if_false]
      exact Ok.nil j rfl rfl
    · cases vo_ref h1
      obtain ⟨A, x1, x2, x3, x4, C, -⟩ := hX
      have hk := hok.2.2.2.1
      have hg := gI_of (k := 1) C (cls_in kk) rfl
      simp only [h4, kd_c C, if_true, show ((1 : Int32) = 0) = False from eq_false (by decide), if_false, Option.bind_some, h5, h6, hg]
      have hc3 : cC [3] σ c = if kk = 0 then some () else none := by
        unfold cC
        rw [C]
        rcases (show kk = 0 ∨ kk = 1 ∨ kk = 2 ∨ kk = 3 by omega) with rfl | rfl | rfl | rfl <;> rfl
      have hc4 : cC [4, 5, 6] σ c = if kk = 0 then none else some () := by
        unfold cC
        rw [C]
        rcases (show kk = 0 ∨ kk = 1 ∨ kk = 2 ∨ kk = 3 by omega) with rfl | rfl | rfl | rfl <;> rfl
      rw [hc3, hc4]
      rcases (show kk = 0 ∨ kk = 1 ∨ kk = 2 ∨ kk = 3 by omega) with rfl | rfl | rfl | rfl <;> exact Ok.grow j rfl rfl
    · cases vo_ref h1
      simp only [h6, kd_b h4, show ((3 : Int32) = 0) = False from eq_false (by decide), show ((3 : Int32) = 1) = False from eq_false (by decide), if_false, Option.bind_some, n12]
      exact Ok.grow j rfl rfl
    · cases vo_ref h1
      simp only [h6, kd_l h4, show ((4 : Int32) = 0) = False from eq_false (by decide), show ((4 : Int32) = 1) = False from eq_false (by decide), if_false, Option.bind_some, n12]
      exact Ok.grow j rfl rfl
  · simp only [ha, Option.bind_some, if_true, n1, if_false]
    exact Ok.nil j rfl rfl
/-- the model lays a row of noughts -/
theorem X3_row {N d wt n : Nat} {st : MS} (hN : 5000 ≤ N) (hd : d < 6) (hn : n ≤ 60) : ∃ st', f_X3_row_j17 N (nI d) (nI wt) (nI n) st = some (st', 0) ∧ Ms st st' d ∧ st'.1 19 d = nI wt ∧ st'.1 22 d = nI n ∧ ∀ i, i < n → st'.2.1 23 (200 * d + i) = 0 := by
  unfold f_X3_row_j17
  rw [if_pos (show nI n ≤ 60 from nI_le (a := n) (b := 60) hn (by omega)), if_pos (show (0 : Int32) ≤ nI n from nI_le (a := 0) (Nat.zero_le _) (by omega)), iast_N hd (by omega), Option.bind_some, iast_N hd (by omega), Option.bind_some]
  generalize hs0 : sI (sI st 19 (upd (st.1 19) d (nI wt))) 22 (upd ((sI st 19 (upd (st.1 19) d (nI wt))).1 22) d (nI n)) = s0
  have h19 : ∀ e, s0.1 19 e = upd (st.1 19) d (nI wt) e := fun e => by rw [← hs0, sI_n (by decide), sI_s]
  have h22 : ∀ e, s0.1 22 e = upd (st.1 22) d (nI n) e := fun e => by rw [← hs0, sI_s, sI_n (by decide)]
  have hk : ∀ k, k ≠ 19 → k ≠ 22 → s0.1 k = st.1 k := fun k h1 h2 => by rw [← hs0, sI_n h2, sI_n h1]
  have hL : s0.2.1 = st.2.1 := by rw [← hs0]; rfl
  obtain ⟨st', a1, a2, a3, a4⟩ : ∃ st', lp (f_X3_row_b49 N (nI d) (nI n)) N (0, s0) = some st' ∧ Kp [] [23] [] s0 st' ∧ (∀ a, (a < 200 * d ∨ 200 * d + 200 ≤ a) → st'.2.1 23 a = s0.2.1 23 a) ∧ ∀ i, i < n → st'.2.1 23 (200 * d + i) = 0 := by
    refine lp_inv0 (P := fun i (s : Int32 × MS) => s.1 = nI i ∧ Kp [] [23] [] s0 s.2 ∧ (∀ a, (a < 200 * d ∨ 200 * d + 200 ≤ a) → s.2.2.1 23 a = s0.2.1 23 a) ∧ ∀ a, a < i → s.2.2.1 23 (200 * d + a) = 0) (Q := fun (s : MS) => Kp [] [23] [] s0 s ∧ (∀ a, (a < 200 * d ∨ 200 * d + 200 ≤ a) → s.2.1 23 a = s0.2.1 23 a) ∧ ∀ i, i < n → s.2.1 23 (200 * d + i) = 0) n (by omega) ⟨rfl, Kp.refl _ _ _ _, fun _ _ => rfl, fun a ha => by omega⟩ ?_ ?_
    · rintro i ⟨y, s⟩ hi ⟨e1, e2, e4, e5⟩
      dsimp only at e1 e2 e4 e5
      subst e1
      unfold f_X3_row_b49
      dsimp only
      rw [if_neg (nI_ge hi (by omega)), ix200, last_N (show 200 * d + i < 1200 by omega) (by omega), Option.bind_some, nI_1]
      refine ⟨_, rfl, rfl, e2.sL (by decide) _, fun a ha => ?_, fun a ha => ?_⟩
      · dsimp only
        rw [sL_s, pk_uLn (by omega)]
        exact e4 a ha
      · dsimp only
        rw [sL_s]
        by_cases e : a = i
        · rw [e, pk_uLs]
        · rw [pk_uLn (by omega)]; exact e5 a (by omega)
    · rintro ⟨y, s⟩ ⟨e1, e2, e4, e5⟩
      dsimp only at e1 e2 e4 e5
      subst e1
      unfold f_X3_row_b49
      dsimp only
      rw [if_pos (nI_le (Nat.le_refl _) (by omega))]
      exact ⟨_, rfl, e2, e4, e5⟩
  rw [a1, Option.bind_some]
  refine ⟨st', rfl, ⟨⟨by rw [a2.1 1 (by decide), hk 1 (by decide) (by decide)], by rw [a2.1 2 (by decide), hk 2 (by decide) (by decide)], by rw [a2.1 3 (by decide), hk 3 (by decide) (by decide)], by rw [a2.1 4 (by decide), hk 4 (by decide) (by decide)], by rw [a2.2.1 5 (by decide), hL]⟩, fun e he hed => ⟨?_, ?_, ?_, ?_, fun i hi => ?_⟩⟩, ?_, ?_, a4⟩
  · rw [a2.1 19 (by decide), h19, up_n' hed]
  · rw [a2.1 20 (by decide), hk 20 (by decide) (by decide)]
  · rw [a2.1 21 (by decide), hk 21 (by decide) (by decide)]
  · rw [a2.1 22 (by decide), h22, up_n' hed]
  · rw [a3 _ (by omega), hL]
  · rw [a2.1 19 (by decide), h19, up_s']
  · rw [a2.1 22 (by decide), h22, up_s']
theorem op_row {N x M : Nat} {own : Nat → Nat} {σ : SG} {st : MS} (hN : 5000 ≤ N) (j : J x M own σ st) (a b c : Int32) : Ok x M σ (f_X1_row N σ x a b c) (f_X3_row N st a b c) := by
  unfold f_X1_row f_X3_row
  simp only [X3_isShelf_eq]
  rcases shelf_cases N a with ⟨d, hd, rfl, ha⟩ | ha
  · simp only [ha, Option.bind_some, i10, if_false]
    rw [show (3 : Int64) = lN 3 from rfl, show (4 : Int64) = lN 4 from rfl]
    rcases int_cases b 3 4 (by omega) with ⟨wt, w1, w2, rfl⟩ | hb
    · rw [isIn_yes (by omega) w1 w2, Option.bind_some, if_neg i10]
      have hj1 := j.1
      have hs := shA_in (x := x) hd
      rcases int_cases c 0 60 (by omega) with ⟨n, n1, n2, rfl⟩ | hc
      · rw [if_pos (show nI n ≤ 60 from nI_le (a := n) (b := 60) n2 (by omega))]
        obtain ⟨st', a1, a2, a3, a4, a5⟩ := X3_row (wt := wt) (st := st) hN hd n2
        have key : ∀ t, t = 1 ∨ t = 2 → ∀ τ : SG, τ = (σ.1 + 1, va_up σ.2 σ.1 (some (.inl (t, nD t n)))) → sRel (uC τ (shA x d) (eO 1 [.ref σ.1])) (fun a => if a < σ.1 then own a else 13 + d) st' d (.ref σ.1) → Ok x M σ (Option.bind (gR [0] τ x 5) (fun v9 => Option.bind (cC [8] τ v9) (fun _ => Option.bind (f_J2_get N τ v9 (nI d)) (fun v10 => Option.bind v10 (fun b11 => Option.bind (cC [1] τ b11) (fun _ => Option.bind (pV [1] τ b11 0 (.ref σ.1)) (fun t12 => some (t12, (0 : Int32))))))))) (some (st', 0)) := by
          intro t ht τ hτ hv
          have k1 : ∀ a, a < σ.1 → τ.2 a = σ.2 a := fun a ha => by
            rw [hτ]
            exact up_n (by omega)
          have k0 : σ.1 ≤ τ.1 := by rw [hτ]; exact Nat.le_add_right _ _
          have jτ := j.new k0 k1 (Mk.refl _)
          obtain ⟨g1, g2, g3, g4⟩ := jτ.get (N := N) hd
          obtain ⟨t1, t2, t3⟩ := j.shelve (τ := τ) (st' := st') (v := .ref σ.1) hd k0 k1 a2 hv
          rw [g1, Option.bind_some, g2, Option.bind_some, g3, Option.bind_some, Option.bind_some, g4, Option.bind_some, t1, Option.bind_some]
          exact ⟨_, st', _, _, rfl, rfl, t2, t3⟩
        rcases (show wt = 3 ∨ wt = 4 by omega) with rfl | rfl
        · rw [if_pos (show nI 3 = 3 from rfl), if_neg (nI_pos (by omega)), if_pos (show nI 3 = 3 from rfl), nA_of n2 (by omega), Option.bind_some, a1]
          refine key 2 (Or.inr rfl) _ rfl (Or.inr (Or.inr (Or.inl ⟨σ.1, n, fun _ => 0, rfl, Nat.lt_succ_self _, if_neg (by omega), ?_, by omega, a3, a4, fun i hi => ⟨?_, (by decide : fits .byte (.int 0) = true)⟩⟩)))
          · rw [uC_n (by omega)]
            exact up_s
          · rw [a5 i hi]
            exact (by decide : (0 : Int64) = (0 : Int32).toInt64)
        · rw [if_neg (show ¬ nI 4 = 3 by decide), if_neg (nI_pos (by omega)), if_neg (show ¬ nI 4 = 3 by decide), if_pos (show nI 4 = 4 from rfl), nA_of n2 (by omega), Option.bind_some, a1]
          refine key 1 (Or.inl rfl) _ rfl (Or.inr (Or.inr (Or.inr ⟨σ.1, n, fun _ => 0, rfl, Nat.lt_succ_self _, if_neg (by omega), ?_, by omega, a3, a4, fun i hi => a5 i hi⟩)))
          rw [uC_n (by omega)]
          exact up_s
      · have hj : ∀ b, f_X3_row_j17 N (nI d) b c st = some (st, if c ≤ 60 then -14 else -1) := fun b => by
          unfold f_X3_row_j17
          by_cases h6 : c ≤ 60
          · rw [if_pos h6, if_pos h6, if_neg]
            intro h0
            rw [Int32.le_iff_toInt_le] at h0 h6
            exact hc ⟨h0, h6⟩
          · rw [if_neg h6, if_neg h6]
        have hm : (if nI wt = (3 : Int32) then f_X3_row_j17 N (nI d) (nI wt) c st else if nI wt = (4 : Int32) then f_X3_row_j17 N (nI d) (nI wt) c st else some (st, (-1 : Int32))) = some (st, if c ≤ 60 then -14 else -1) := by
          rcases (show wt = 3 ∨ wt = 4 by omega) with rfl | rfl
          · rw [if_pos (show nI 3 = 3 from rfl), hj]
          · rw [if_neg (show ¬ nI 4 = 3 by decide), if_pos (show nI 4 = 4 from rfl), hj]
        rw [hm]
        by_cases h6 : c ≤ 60
        · have h0 : c < 0 := by
            rw [Int32.lt_iff_toInt_lt]
            rw [Int32.le_iff_toInt_le] at h6
            refine Int.not_le.mp fun h => hc ⟨h, h6⟩
          rw [if_pos h6, if_pos h6, if_pos h0, if_pos h0]
          by_cases e : nI wt = (3 : Int32)
          · rw [if_pos e]; exact Ok.grow j rfl rfl
          · rw [if_neg e]; exact Ok.grow j rfl rfl
        · rw [if_neg h6, if_neg h6]
          exact Ok.nil j rfl rfl
    · rw [isIn_no (by omega) (by omega) hb, Option.bind_some, if_pos rfl]
      have hne : ∀ k : Nat, 3 ≤ k → k ≤ 4 → ¬ b = nI k := fun k hk h4 h => hb (by rw [h, nI_toInt (by omega)]; omega)
      rw [if_neg (show ¬ b = 3 from hne 3 (by omega) (by omega)), if_neg (show ¬ b = 4 from hne 4 (by omega) (by omega))]
      exact Ok.nil j rfl rfl
  · rw [ha]
    exact Ok.nil j rfl rfl
