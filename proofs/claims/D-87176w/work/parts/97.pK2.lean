/-! ===== PURE K2: calls that throw: word, element, law ===== -/
set_option maxRecDepth 100000
/-- J says nothing of the model's cells -/
theorem J.reg {x M : Nat} {own : Nat → Nat} {σ σ' : SG} {st : MS} (j : J x M own σ st) (h1 : σ'.1 = σ.1) (h2 : ∀ a, a < M ∨ M + 20 ≤ a → σ'.2 a = σ.2 a) : J x M own σ' st := by
  obtain ⟨⟨a1, a2, a3, a4⟩, ⟨⟨wc, fh, b1⟩, ⟨g2, b2⟩, ⟨g3, b3⟩, ⟨mc, b4⟩, ⟨g5, b5, b6⟩⟩, ⟨g, c1, c2⟩, d1⟩ := id j
  have own9 : ∀ a o, own a = o → o ≠ 99 → σ'.2 a = σ.2 a ∧ own a = own a := fun a o h0 h9 => by
    refine ⟨h2 a ?_, rfl⟩
    refine Classical.byContradiction fun h => ?_
    have := a4 a (by omega) (by omega)
    omega
  refine ⟨⟨a1, by omega, a3, a4⟩, ⟨⟨wc, fh, ?_⟩, ⟨g2, ?_⟩, ⟨g3, ?_⟩, ⟨mc, ?_⟩, ⟨g5, ?_, b6⟩⟩, ⟨g, ?_, fun p hp => ?_⟩, fun e he => ?_⟩
  · rw [h2 _ (by omega)]; exact b1
  · rw [h2 _ (by omega)]; exact b2
  · rw [h2 _ (by omega)]; exact b3
  · rw [h2 _ (by omega)]; exact b4
  · rw [h2 _ (by omega)]; exact b5
  · rw [h2 _ (by omega)]; exact c1
  · exact (c2 p hp).keep (by omega) (fun a ha ho => own9 a _ ho (by omega)) ⟨rfl, rfl, rfl, rfl, fun _ _ => rfl⟩
  · obtain ⟨v1, f1, f2⟩ := d1 e he
    have hse := shA_in (x := x) he
    exact ⟨v1, by rw [h2 _ (by omega)]; exact f1, f2.keep (by omega) (fun a ha ho => own9 a _ ho (by omega)) ⟨rfl, rfl, rfl, rfl, fun _ _ => rfl⟩⟩
/-- the model's object isn't touched; the array 'out' may be -/
def KO (M : Nat) (σ σ' : SG) : Prop := σ.1 ≤ σ'.1 ∧ ∀ a, M ≤ a → a < M + 19 → σ'.2 a = σ.2 a
theorem KM.ko {M : Nat} {σ σ' : SG} (h : KM M σ σ') : KO M σ σ' := ⟨h.1, fun a h1 h2 => h.2 a h1 (by omega)⟩
/-- a call that may throw -/
def OkT (x M : Nat) (σ : SG) (o1 : Option (SG × Int32)) (o3 : Option (MS × Int64)) : Prop := ∃ σ' st' k r own', o1 = some (σ', k) ∧ o3 = some (st', r) ∧ st'.2.2.1 0 = k ∧ (∃ g, σ'.2 (M + 19) = some (eL 1 g) ∧ (k = 0 → g 0 = r)) ∧ J x M own' σ' st' ∧ KO M σ σ'
theorem Mk.sV (st : MS) (k : Nat) (v : Int32) : Mk st (sV st k v) := ⟨rfl, rfl, rfl, rfl, rfl, rfl, rfl, rfl, rfl, rfl⟩
theorem Mk.trans {a b c : MS} (h : Mk a b) (h2 : Mk b c) : Mk a c := by
  obtain ⟨m1, m2, m3, m4, m5, m6, m7, m8, m9, m10⟩ := h
  obtain ⟨p1, p2, p3, p4, p5, p6, p7, p8, p9, p10⟩ := h2
  exact ⟨p1.trans m1, p2.trans m2, p3.trans m3, p4.trans m4, p5.trans m5, p6.trans m6, p7.trans m7, p8.trans m8, p9.trans m9, p10.trans m10⟩
theorem nle_1 : ¬ (1 : Int32) ≤ 0 := by decide
theorem nle_2 : ¬ (2 : Int32) ≤ 0 := by decide
/-- it was thrown -/
theorem OkT.thr {x M c : Nat} {own : Nat → Nat} {σ τ : SG} {s1 : MS} {o1 : Option (SG × Int32)} {o3 : Option (MS × Int64)} {k : Int32} {r : Int64} (j : J x M own τ s1) (hk : KM M σ τ) (ho : ∃ g, σ.2 (M + 19) = some (eL 1 g)) (h0 : ¬ k = 0) (h1 : o1 = some ((τ.1 + c, τ.2), k)) (h3 : o3 = some (sV s1 0 k, r)) : OkT x M σ o1 o3 := by
  obtain ⟨g, hg⟩ := ho
  have hM := j.1
  exact ⟨_, _, k, r, own, h1, h3, sV_s _ _ _, ⟨g, by rw [show ((τ.1 + c, τ.2) : SG).2 = τ.2 from rfl, hk.2 _ (by omega) (by omega)]; exact hg, fun h => absurd h h0⟩, j.new (Nat.le_add_right _ _) (fun _ _ => rfl) (Mk.sV _ _ _), Nat.le_trans hk.1 (Nat.le_add_right _ _), fun a h5 h6 => hk.2 a h5 (by omega)⟩
/-- it was answered -/
theorem OkT.ans {x M : Nat} {own : Nat → Nat} {σ τ : SG} {s1 : MS} {o1 : Option (SG × Int32)} {o3 : Option (MS × Int64)} {r : Int64} (j : J x M own τ s1) (hk : KM M σ τ) (ho : ∃ g, σ.2 (M + 19) = some (eL 1 g)) (h1 : o1 = Option.bind (wL τ (M + 19) 0 r) (fun t => some (t, 0))) (h3 : o3 = some (s1, r)) (h4 : s1.2.2.1 0 = 0) : OkT x M σ o1 o3 := by
  obtain ⟨g, hg⟩ := ho
  have hM := j.1
  have hg' : τ.2 (M + 19) = some (eL 1 g) := by rw [hk.2 _ (by omega) (by omega)]; exact hg
  have hw : wL τ (M + 19) 0 r = some (uC τ (M + 19) (eL 1 (vp_updL g 0 r))) := wL_of (i := 0) hg' (by omega) (by omega)
  rw [hw, Option.bind_some] at h1
  refine ⟨_, _, 0, r, own, h1, h3, h4, ⟨_, uC_s _ _ _, fun _ => pk_uLs⟩, j.reg rfl (fun a ha => uC_n (by omega)), hk.1, fun a h5 h6 => ?_⟩
  rw [uC_n (by omega)]
  exact hk.2 a h5 (by omega)
theorem op_word {N x M : Nat} {own : Nat → Nat} {σ : SG} {st : MS} (j : J x M own σ st) (ho : ∃ g, σ.2 (M + 19) = some (eL 1 g)) (a b : Int32) : OkT x M σ (f_X0_word N σ x a b (M + 19)) (f_X3_word N st a b) := by
  unfold f_X0_word f_X1_word t_X1_word f_X3_word f_X3_word_j43 f_X1_word_j42
  simp only [j.cc, Option.bind_some, X3_isPlace_eq, X3_isIn_eq, sV_s]
  rcases pl_cases j N a with h | ⟨p, hp, rfl, h, ⟨h2, -, h3⟩ | ⟨kk, q, n, m, w, cc, h2, h3, hok, hP, hX⟩⟩
  · simp only [h, Option.bind_some, if_true, nle_1, if_false]
    exact OkT.thr (c := 1) j (KM.refl _ _) ho i10 rfl rfl
  · simp only [h, h2, h3, Option.bind_some, i10, if_false, nle_2, j.codes]
    exact OkT.thr (c := 1) j (KM.refl _ _) ho (by decide) rfl rfl
  · obtain ⟨A, x1, x2, x3, x4, C, g, C2, C3⟩ := id hX
    have hm := hok.m200
    have hcap := hok.2.2.2.2.1
    have hcl := cap_le kk
    simp only [h, h2, h3, Option.bind_some, i10, if_false, if_true, j.codes, gI_of (k := 3) C (cls_in kk) rfl, gR_of (k := 2) C (cls_in kk) rfl, ald_N hp (show 12 < 2 ^ 31 by omega), hP.2.2.2.1]
    by_cases hm0 : m = 0
    · subst hm0
      simp only [isIn_neg N b, Option.bind_some, if_true, nle_2, if_false]
      exact OkT.thr (c := 1) j (KM.refl _ _) ho (by decide) rfl rfl
    · rw [nI_s1 (by omega), ps_l (m - 1) (by omega), show (0 : Int64) = lN 0 from rfl]
      rcases int_cases b 0 (m - 1) (by omega) with ⟨k, k1, k2, rfl⟩ | he
      · simp only [isIn_yes (N := N) (show m - 1 < 2 ^ 31 by omega) k1 k2, Option.bind_some, i10, if_false, aL_of C2 (show k < cap kk by omega) (by omega), ix200]
        have h5 : ald ((sV st 0 0).2.1 5) 2400 (nI (200 * p + k)) = some (lN (w k)) := by
          rw [ald_N (show 200 * p + k < 2400 by omega) (by omega)]
          exact congrArg some (hP.2.2.2.2 k (by omega))
        rw [if_pos (by decide), h5, Option.bind_some, C3 k (by omega)]
        exact OkT.ans (j.scrM (Mk.sV _ _ _)) (KM.refl _ _) ho rfl rfl (sV_s _ _ _)
      · simp only [isIn_no (N := N) (show 0 < 2 ^ 31 by omega) (show m - 1 < 2 ^ 31 by omega) he, Option.bind_some, if_true, nle_2, if_false]
        exact OkT.thr (c := 1) j (KM.refl _ _) ho (by decide) rfl rfl
/-- an index into a row, or not -/
theorem ix_cases {N m : Nat} (hm : m ≤ 200) (b : Int32) : (∃ k, k < m ∧ b = nI k ∧ f_X1_isIn N b.toInt64 0 ((nI m - 1 : Int32)).toInt64 = some 1) ∨ ((b < 0 ∨ m ≤ b.toNatClampNeg) ∧ f_X1_isIn N b.toInt64 0 ((nI m - 1 : Int32)).toInt64 = some 0) := by
  by_cases hm0 : m = 0
  · subst hm0
    exact Or.inr ⟨Or.inr (Nat.zero_le _), isIn_neg N b⟩
  · rw [nI_s1 (by omega), ps_l (m - 1) (by omega), show (0 : Int64) = lN 0 from rfl]
    rcases int_cases b 0 (m - 1) (by omega) with ⟨k, k1, k2, rfl⟩ | he
    · exact Or.inl ⟨k, by omega, rfl, isIn_yes (by omega) k1 k2⟩
    · refine Or.inr ⟨?_, isIn_no (by omega) (by omega) he⟩
      by_cases h0 : b < 0
      · exact Or.inl h0
      · right
        rw [Int32.lt_iff_toInt_lt] at h0
        have h0' : ¬ b.toInt < 0 := h0
        have : b.toNatClampNeg = b.toInt.toNat := rfl
        omega
theorem op_element {N x M : Nat} {own : Nat → Nat} {σ : SG} {st : MS} (j : J x M own σ st) (ho : ∃ g, σ.2 (M + 19) = some (eL 1 g)) (a b : Int32) : OkT x M σ (f_X0_element N σ x a b (M + 19)) (f_X3_element N st a b) := by
  unfold f_X0_element f_X1_element t_X1_element f_X3_element f_X3_element_j45
  simp only [j.cc, Option.bind_some, X3_isShelf_eq, X3_isIn_eq, sV_s]
  rcases shelf_cases N a with ⟨d, hd, rfl, ha⟩ | ha
  · obtain ⟨vo, e1, e2, e3⟩ := j.held (N := N) hd
    simp only [ha, Option.bind_some, i10, if_false, e3, ald_N hd (show 6 < 2 ^ 31 by omega)]
    rcases e2 with ⟨h1, h2⟩ | ⟨kk, q, n, m, w, c, h1, hok, hX, h4, h5, h6, h7⟩ | ⟨bb, m, f, h1, h2, h3, h4, h5, h6, h7, h8⟩ | ⟨bb, m, f, h1, h2, h3, h4, h5, h6, h7, h8⟩
    · cases vo_null h1
      simp only [iA, Option.bind_some, if_true, h2, show ((0 : Int32) < 3) = True from eq_true (by decide), nle_2, if_false]
      exact OkT.thr (c := 2) j (KM.refl _ _) ho (by decide) rfl rfl
    · cases vo_ref h1
      obtain ⟨A, x1, x2, x3, x4, C, -⟩ := hX
      simp only [iA, kd_c C, Option.bind_some, show ((0 : Nat) = 2) = False from eq_false (by decide), show (some 0 = some 1) = False from eq_false (by decide), if_false, if_true, h4, show ((1 : Int32) < 3) = True from eq_true (by decide), nle_2]
      exact OkT.thr (c := 4) j (KM.refl _ _) ho (by decide) rfl rfl
    · cases vo_ref h1
      simp only [iA, kd_b h4, Option.bind_some, if_true, i10, if_false, h6, show ((3 : Int32) < 3) = False from eq_false (by decide), h7]
      rcases ix_cases (N := N) h5 b with ⟨k, hk, rfl, hi⟩ | ⟨hb, hi⟩
      · have hoB : oB σ bb (nI k) = false := by
          unfold oB
          rw [h4]
          refine decide_eq_false fun h => ?_
          rcases h.2 with h | h
          · exact nI_pos (by omega) h
          · rw [nI_clamp (by omega)] at h; omega
        have haB : aB σ bb (nI k) = some (f k) := by
          unfold aB
          rw [h4]
          exact ald_N hk (by omega)
        have hld : ald ((sV st 0 0).2.1 23) 1200 (nI (200 * d + k)) = some ((f k).toInt64) := by
          rw [ald_N (show 200 * d + k < 1200 by omega) (by omega)]
          exact congrArg some (h8 k hk).1
        simp only [hi, Option.bind_some, i10, if_false, hoB, Bool.false_eq_true, haB, ix200, show ((0 : Int32) ≤ 0) = True from eq_true (by decide), if_true, hld]
        exact OkT.ans (j.scrM (Mk.sV _ _ _)) (KM.refl _ _) ho rfl rfl (sV_s _ _ _)
      · have hoB : oB σ bb b = true := by
          unfold oB
          rw [h4]
          exact decide_eq_true ⟨by omega, hb⟩
        simp only [hi, Option.bind_some, if_true, hoB, nle_2, if_false]
        exact OkT.thr (c := 4) j (KM.refl _ _) ho (by decide) rfl rfl
    · cases vo_ref h1
      simp only [iA, kd_l h4, Option.bind_some, show ((1 : Nat) = 2) = False from eq_false (by decide), if_true, if_false, h6, show ((4 : Int32) < 3) = False from eq_false (by decide), h7]
      rcases ix_cases (N := N) h5 b with ⟨k, hk, rfl, hi⟩ | ⟨hb, hi⟩
      · have hoL : oL σ bb (nI k) = false := by
          unfold oL
          rw [h4]
          refine decide_eq_false fun h => ?_
          rcases h.2 with h | h
          · exact nI_pos (by omega) h
          · rw [nI_clamp (by omega)] at h; omega
        have hld : ald ((sV st 0 0).2.1 23) 1200 (nI (200 * d + k)) = some (f k) := by
          rw [ald_N (show 200 * d + k < 1200 by omega) (by omega)]
          exact congrArg some (h8 k hk)
        simp only [hi, Option.bind_some, i10, if_false, hoL, Bool.false_eq_true, aL_of h4 hk (show m < 2 ^ 31 by omega), ix200, show ((0 : Int32) ≤ 0) = True from eq_true (by decide), if_true, hld]
        exact OkT.ans (j.scrM (Mk.sV _ _ _)) (KM.refl _ _) ho rfl rfl (sV_s _ _ _)
      · have hoL : oL σ bb b = true := by
          unfold oL
          rw [h4]
          exact decide_eq_true ⟨by omega, hb⟩
        simp only [hi, Option.bind_some, if_true, hoL, nle_2, if_false]
        exact OkT.thr (c := 4) j (KM.refl _ _) ho (by decide) rfl rfl
  · simp only [ha, Option.bind_some, if_true, nle_1, if_false]
    exact OkT.thr (c := 1) j (KM.refl _ _) ho i10 rfl rfl
/-- the sum of 'law' -/
def lws (q n w : Nat) (ct : Nat → Nat) : Nat → Int64
  | 0 => 0
  | k + 1 => lws q n w ct k + lN (ct k) * krt q n w k (w + 1)
theorem op_law {N x M : Nat} {own : Nat → Nat} {σ : SG} {st : MS} (hN : 5000 ≤ N) (j : J x M own σ st) (ho : ∃ g, σ.2 (M + 19) = some (eL 1 g)) (a b : Int32) : OkT x M σ (f_X0_law N σ x a b (M + 19)) (f_X3_law N st a b) := by
  unfold f_X0_law f_X1_law t_X1_law f_X3_law f_X3_law_j57
  simp only [j.cc, Option.bind_some, X3_isPlace_eq, X3_isIn_eq, sV_s]
  rcases pl_cases j N a with h | ⟨p, hp, rfl, h, ⟨h2, -, h3⟩ | ⟨kk, q, n, m, w, cc, h2, h3, hok, hP, hX⟩⟩
  · simp only [h, Option.bind_some, if_true, nle_1, if_false]
    exact OkT.thr (c := 1) j (KM.refl _ _) ho i10 rfl rfl
  · simp only [h, h2, h3, Option.bind_some, i10, if_false, nle_2, j.codes]
    exact OkT.thr (c := 1) j (KM.refl _ _) ho (by decide) rfl rfl
  · obtain ⟨A, x1, x2, x3, x4, C⟩ := id hX
    have hn := hok.2.2.1
    simp only [h, h2, h3, Option.bind_some, i10, if_false, if_true, j.codes, gI_of (k := 1) C.1 (cls_in kk) rfl, ald_N hp (show 12 < 2 ^ 31 by omega), hP.2.2.1]
    rw [ps_l n (by omega), show (0 : Int64) = lN 0 from rfl]
    rcases int_cases b 0 n (by omega) with ⟨v, d1, d2, rfl⟩ | hc
    · simp only [isIn_yes (N := N) (show n < 2 ^ 31 by omega) d1 d2, Option.bind_some, i10, if_false]
      rcases lays2 hN j hp h h2 hok hP hX with ⟨-, τ, st', t1, t2, t3, t4, t5⟩ | ⟨τ, st', t1, t2, t3, t4, hl⟩
      · simp only [t1, t3, Option.bind_some, show ((-5 : Int32) = 0) = False from eq_false (by decide), if_false, if_true, nle_2]
        exact OkT.thr (c := 1) t5 t4 ho (by decide) rfl rfl
      · have hl' := hl.sc (st1 := sV st' 0 0) ((Kp.refl [] [] [0] _).sV (by decide) 0) (Mk.sV _ _ _) (by decide) (by decide) (by decide)
        obtain ⟨τ', s2, y1, y2, y3, y4, y5, y6, y7⟩ := counts2 hN hl'
        generalize ctf kk q n (lw kk q n m w) (szv kk q n m w) = ct at y6 y7
        have hq := hok.1
        have X1l : lp (f_X1_law_b93 N x (nI v) cc τ') N (lN 0, 0) = some (lws q n v ct (n + 1)) := by
          refine lp_0 (S := fun k => (lws q n v ct k, nI k)) (n + 1) rfl (by omega) ?_ ?_
          · intro k hk
            unfold f_X1_law_b93
            dsimp only
            rw [y3.cn, Option.bind_some, if_neg (by rw [nI_ltI (by omega) (by omega)]; omega), y3.cs, Option.bind_some, y6.at (show k < 13 by omega), Option.bind_some, y3.cq, Option.bind_some, Option.bind_some, X1_turned (by omega) hq hn d2 (by omega), Option.bind_some, nI_1]
            rfl
          · unfold f_X1_law_b93
            dsimp only
            rw [y3.cn, Option.bind_some, if_pos (by rw [nI_ltI (by omega) (by omega)]; omega)]
        have X3l : lp (f_X3_law_b79 N (nI p) (nI v) s2) N (lN 0, 0) = some (lws q n v ct (n + 1)) := by
          have p3 := y3.2.2.2.2.2.1.2.2.1
          have p2 := y3.2.2.2.2.2.1.2.1
          refine lp_0 (S := fun k => (lws q n v ct k, nI k)) (n + 1) rfl (by omega) ?_ ?_
          · intro k hk
            unfold f_X3_law_b79
            dsimp only
            rw [ald_N hp (by omega), Option.bind_some, p3, if_neg (by rw [nI_ltI (by omega) (by omega)]; omega), ald_N (show k < 13 by omega) (by omega), Option.bind_some, y7 k (by omega), ald_N hp (by omega), Option.bind_some, p2, Option.bind_some, X3_turnsOf (by omega) hq hn d2 (by omega), Option.bind_some, nI_1]
            rfl
          · unfold f_X3_law_b79
            dsimp only
            rw [ald_N hp (by omega), Option.bind_some, p3, if_pos (by rw [nI_ltI (by omega) (by omega)]; omega)]
        simp only [t1, t3, Option.bind_some, if_true, i10, if_false, hl.1.codes, hl.2.2.2.1, hl.1.cc, show ((0 : Int32) ≤ 0) = True from eq_true (by decide), y1, y2]
        rw [X1l, X3l, Option.bind_some, Option.bind_some]
        exact OkT.ans y3.1 (t4.trans y4) ho rfl rfl (by rw [y5.2.2.1 0 (by decide), sV_s])
    · simp only [isIn_no (N := N) (show 0 < 2 ^ 31 by omega) (show n < 2 ^ 31 by omega) hc, Option.bind_some, if_true, nle_1, if_false]
      exact OkT.thr (c := 1) j (KM.refl _ _) ho i10 rfl rfl
