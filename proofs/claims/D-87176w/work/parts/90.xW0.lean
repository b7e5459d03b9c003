/-! ===== XW: their walks ===== -/
set_option maxRecDepth 100000
theorem hc_code {s : State} {args : Array Value} {y : MethodName} {b : ByteArray} {L : Nat} {r : Option FieldType} (h : Cond.code y b L r ∈ lw_all) (hts : ∀ w ∈ lw_all, w.before args s = true) : ∃ mk methY cY, s.methodNamed? y = some mk ∧ s.vm.method? mk = some methY ∧ methY.code = some cY ∧ cY.maxLocals = L ∧ parseMethodDescriptor y.desc = some methY.sig := by
  obtain ⟨mk, hn⟩ := Cond.code_named (hts _ h)
  obtain ⟨meth, c, h1, h2, -, h4, -, -, -, h5⟩ := Cond.code_spec hn (hts _ h)
  exact ⟨mk, meth, c, hn, h1, h2, h4, h5⟩
theorem hc_codeW {s : State} {args : Array Value} {y : MethodName} {b : ByteArray} {L : Nat} {r : Option FieldType} {hh : List (Nat × Nat × Nat × Nat)} (h : Cond.codeWith y b L r hh ∈ lw_all) (hts : ∀ w ∈ lw_all, w.before args s = true) : ∃ mk methY cY, s.methodNamed? y = some mk ∧ s.vm.method? mk = some methY ∧ methY.code = some cY ∧ cY.maxLocals = L ∧ parseMethodDescriptor y.desc = some methY.sig := by
  obtain ⟨mk, meth, c, hn, h1, h2, -, h4, -, -, -, h5⟩ := Cond.codeWith_spec (hts _ h)
  exact ⟨mk, meth, c, hn, h1, h2, h4, h5⟩
set_option maxHeartbeats 4000000 in
theorem met_X0_word (l : Launch) (htl : ∀ e, l.admits e → e.platform.stackTraces = false) (G : GG) (σ : SG) (N : Nat) (a0 : Nat) (a1 : Int32) (a2 : Int32) (a3 : Nat) (σf : SG) (rf : Int32) (hf : f_X0_word N σ a0 a1 a2 a3 = some (σf, rf)) : ConX l yX0_word cX0_word 5 (some .int) [(0, 9, 12, 13), (0, 9, 16, 15)] 12 10400 1 6 G σ [.ref a0, .int a1, .int a2, .ref a3] σf (some (.int rf)) := by
  refine con_ofX (by decide) (Nat.le_of_ble_eq_true rfl) ?_
  intro p e s m below meth c ls X hXt hK hH hl hS
  have hHs := hH
  have hx := X.1
  have hb := X.2.1
  have hml := X.2.2.2.1
  have hown : s.vm.findClass RX0 = some m.cls := X.2.2.2.2.1
  have hts := X.2.2.2.2.2.1
  have hl : lv_has ls 5 [(0, .ref a0), (1, .int a1), (2, .int a2), (3, .ref a3)] := hl
  unfold f_X0_word at hf
  refine lv_aload_n hx hb dX0_word_0 rfl (lv_at hl 3 rfl) ?_
  refine lv_iconst (v := (0 : Int32)) hx hb dX0_word_1 (by decide) ?_
  refine lv_aload_n hx hb dX0_word_2 rfl (lv_at hl 0 rfl) ?_
  refine lv_iload_n hx hb dX0_word_3 rfl (lv_at hl 1 rfl) ?_
  refine lv_iload_n hx hb dX0_word_4 rfl (lv_at hl 2 rfl) ?_
  obtain ⟨_, hw, hf⟩ := bd hf
  rcases hv : f_X1_word N σ a0 a1 a2 with _ | v1
  · rw [hv] at hf
    dsimp only at hf
    rcases hv2 : t_X1_word N σ a0 a1 a2 with _ | ⟨q1_, q2_, q3_⟩
    · rw [hv2] at hf
      cases hf
    · rw [hv2] at hf
      dsimp only at hf
      by_cases c_ : q2_ = "java/lang/IllegalArgumentException"
      · have hf := (if_pos c_).symm.trans hf
        subst c_
        refine x_callT (maxL := 4) (n := 2) (As := [.int a1, .int a2]) (rest := [.int (0 : Int32), .ref a3]) X hXt (Or.inr ⟨by decide, by decide, _, q948, Or.inl ⟨q956, rfl⟩⟩) (mett_X1_word l htl G σ N a0 a1 a2 q1_ _ q3_ hv2) (lw_meth q953) (hc_code q953 hts) q951 q952 q48 (by decide) (by decide +kernel) q950 (recv1 (w := (RX1, TX1, 6)) hw hK hH rfl) rfl rfl hl.1 (Nat.le_of_ble_eq_true rfl) ⟨by decide, by decide⟩ ⟨by decide, by decide⟩ dX0_word_5 hK hH hS (fun H locs hH hS hE => ?_)
        refine W.cs (cells' := 1) (slots' := 6) (by rfl) (by rfl) ?_
        refine lv_astore (lv' := [(4, .ref q3_), (0, .ref a0), (1, .int a1), (2, .int a2), (3, .ref a3)]) hx hb dX0_word_12 hl (by decide) rfl (fun ls hl => ?_)
        refine lv_iconst (v := (1 : Int32)) hx hb dX0_word_14 (by decide) ?_
        cases hf
        exact r_iret X dX0_word_15 (Nat.le_of_ble_eq_true rfl) (Nat.le_of_ble_eq_true rfl) rfl hH hS
      · have hf := (if_neg c_).symm.trans hf
        by_cases c_ : q2_ = "java/lang/IllegalStateException"
        · have hf := (if_pos c_).symm.trans hf
          subst c_
          refine x_callT (maxL := 4) (n := 2) (As := [.int a1, .int a2]) (rest := [.int (0 : Int32), .ref a3]) X hXt (Or.inr ⟨by decide, by decide, _, q948, Or.inr ⟨by decide +kernel, Or.inr ⟨by decide, by decide, _, q949, Or.inl ⟨q971, rfl⟩⟩⟩⟩) (mett_X1_word l htl G σ N a0 a1 a2 q1_ _ q3_ hv2) (lw_meth q953) (hc_code q953 hts) q951 q952 q48 (by decide) (by decide +kernel) q950 (recv1 (w := (RX1, TX1, 6)) hw hK hH rfl) rfl rfl hl.1 (Nat.le_of_ble_eq_true rfl) ⟨by decide, by decide⟩ ⟨by decide, by decide⟩ dX0_word_5 hK hH hS (fun H locs hH hS hE => ?_)
          refine W.cs (cells' := 1) (slots' := 6) (by rfl) (by rfl) ?_
          refine lv_astore (lv' := [(4, .ref q3_), (0, .ref a0), (1, .int a1), (2, .int a2), (3, .ref a3)]) hx hb dX0_word_16 hl (by decide) rfl (fun ls hl => ?_)
          refine lv_iconst (v := (2 : Int32)) hx hb dX0_word_18 (by decide) ?_
          cases hf
          exact r_iret X dX0_word_19 (Nat.le_of_ble_eq_true rfl) (Nat.le_of_ble_eq_true rfl) rfl hH hS
        · have hf := (if_neg c_).symm.trans hf
          cases hf
  · rw [hv] at hf
    dsimp only at hf
    refine c_V (As := [.int a1, .int a2]) (rest := [.int (0 : Int32), .ref a3]) (st1 := [.long v1, .int (0 : Int32), .ref a3]) X (met_X1_word l G σ N a0 a1 a2 v1 hv) cv_X1_word q950 (recv1 (w := (RX1, TX1, 6)) hw hK hH rfl) rfl rfl rfl hl.1 (Nat.le_of_ble_eq_true rfl) ⟨by decide, by decide⟩ ⟨by decide, by decide⟩ dX0_word_5 hK hH hS (fun H locs hH hS => ?_)
    refine W.cs (cells' := 0) (slots' := 0) (by rfl) (by rfl) ?_
    obtain ⟨t2, hv, hf⟩ := bd hf
    refine h_wL X hK hH hS hv dX0_word_8 (fun H locs hH hS => ?_)
    refine lv_goto (tgt := 20) hx hb dX0_word_9 (by decide) ?_
    refine lv_iconst (v := (0 : Int32)) hx hb dX0_word_20 (by decide) ?_
    cases hf
    exact r_iret X dX0_word_21 (Nat.le_of_ble_eq_true rfl) (Nat.le_of_ble_eq_true rfl) rfl hH hS
theorem csx_X0_word : CalSX yX0_word cX0_word 5 (some .int) [(0, 9, 12, 13), (0, 9, 16, 15)] 4 := ⟨q946, q47, q947, by decide +kernel, by decide +kernel, by decide +kernel⟩
set_option maxHeartbeats 4000000 in
theorem met_X0_law (l : Launch) (htl : ∀ e, l.admits e → e.platform.stackTraces = false) (G : GG) (σ : SG) (N : Nat) (a0 : Nat) (a1 : Int32) (a2 : Int32) (a3 : Nat) (σf : SG) (rf : Int32) (hf : f_X0_law N σ a0 a1 a2 a3 = some (σf, rf)) : ConX l yX0_law cX0_law 5 (some .int) [(0, 9, 12, 13), (0, 9, 16, 15)] 12 10400 17 191 G σ [.ref a0, .int a1, .int a2, .ref a3] σf (some (.int rf)) := by
  refine con_ofX (by decide) (Nat.le_of_ble_eq_true rfl) ?_
  intro p e s m below meth c ls X hXt hK hH hl hS
  have hHs := hH
  have hx := X.1
  have hb := X.2.1
  have hml := X.2.2.2.1
  have hown : s.vm.findClass RX0 = some m.cls := X.2.2.2.2.1
  have hts := X.2.2.2.2.2.1
  have hl : lv_has ls 5 [(0, .ref a0), (1, .int a1), (2, .int a2), (3, .ref a3)] := hl
  unfold f_X0_law at hf
  refine lv_aload_n hx hb dX0_law_0 rfl (lv_at hl 3 rfl) ?_
  refine lv_iconst (v := (0 : Int32)) hx hb dX0_law_1 (by decide) ?_
  refine lv_aload_n hx hb dX0_law_2 rfl (lv_at hl 0 rfl) ?_
  refine lv_iload_n hx hb dX0_law_3 rfl (lv_at hl 1 rfl) ?_
  refine lv_iload_n hx hb dX0_law_4 rfl (lv_at hl 2 rfl) ?_
  obtain ⟨_, hw, hf⟩ := bd hf
  rcases hv : f_X1_law N σ a0 a1 a2 with _ | v1
  · rw [hv] at hf
    dsimp only at hf
    rcases hv2 : t_X1_law N σ a0 a1 a2 with _ | ⟨q1_, q2_, q3_⟩
    · rw [hv2] at hf
      cases hf
    · rw [hv2] at hf
      dsimp only at hf
      by_cases c_ : q2_ = "java/lang/IllegalArgumentException"
      · have hf := (if_pos c_).symm.trans hf
        subst c_
        refine x_callT (maxL := 7) (n := 2) (As := [.int a1, .int a2]) (rest := [.int (0 : Int32), .ref a3]) X hXt (Or.inr ⟨by decide, by decide, _, q948, Or.inl ⟨q956, rfl⟩⟩) (mett_X1_law l htl G σ N a0 a1 a2 q1_ _ q3_ hv2) (lw_meth q990) (hc_code q990 hts) q988 q989 q48 (by decide) (by decide +kernel) q987 (recv1 (w := (RX1, TX1, 6)) hw hK hH rfl) rfl rfl hl.1 (Nat.le_of_ble_eq_true rfl) ⟨by decide, by decide⟩ ⟨by decide, by decide⟩ dX0_law_5 hK hH hS (fun H locs hH hS hE => ?_)
        refine W.cs (cells' := 17) (slots' := 191) (by rfl) (by rfl) ?_
        refine lv_astore (lv' := [(4, .ref q3_), (0, .ref a0), (1, .int a1), (2, .int a2), (3, .ref a3)]) hx hb dX0_law_12 hl (by decide) rfl (fun ls hl => ?_)
        refine lv_iconst (v := (1 : Int32)) hx hb dX0_law_14 (by decide) ?_
        cases hf
        exact r_iret X dX0_law_15 (Nat.le_of_ble_eq_true rfl) (Nat.le_of_ble_eq_true rfl) rfl hH hS
      · have hf := (if_neg c_).symm.trans hf
        by_cases c_ : q2_ = "java/lang/IllegalStateException"
        · have hf := (if_pos c_).symm.trans hf
          subst c_
          refine x_callT (maxL := 7) (n := 2) (As := [.int a1, .int a2]) (rest := [.int (0 : Int32), .ref a3]) X hXt (Or.inr ⟨by decide, by decide, _, q948, Or.inr ⟨by decide +kernel, Or.inr ⟨by decide, by decide, _, q949, Or.inl ⟨q971, rfl⟩⟩⟩⟩) (mett_X1_law l htl G σ N a0 a1 a2 q1_ _ q3_ hv2) (lw_meth q990) (hc_code q990 hts) q988 q989 q48 (by decide) (by decide +kernel) q987 (recv1 (w := (RX1, TX1, 6)) hw hK hH rfl) rfl rfl hl.1 (Nat.le_of_ble_eq_true rfl) ⟨by decide, by decide⟩ ⟨by decide, by decide⟩ dX0_law_5 hK hH hS (fun H locs hH hS hE => ?_)
          refine W.cs (cells' := 17) (slots' := 191) (by rfl) (by rfl) ?_
          refine lv_astore (lv' := [(4, .ref q3_), (0, .ref a0), (1, .int a1), (2, .int a2), (3, .ref a3)]) hx hb dX0_law_16 hl (by decide) rfl (fun ls hl => ?_)
          refine lv_iconst (v := (2 : Int32)) hx hb dX0_law_18 (by decide) ?_
          cases hf
          exact r_iret X dX0_law_19 (Nat.le_of_ble_eq_true rfl) (Nat.le_of_ble_eq_true rfl) rfl hH hS
        · have hf := (if_neg c_).symm.trans hf
          cases hf
  · rw [hv] at hf
    dsimp only at hf
    refine c_V (As := [.int a1, .int a2]) (rest := [.int (0 : Int32), .ref a3]) (st1 := [.long v1.2, .int (0 : Int32), .ref a3]) X (met_X1_law l G σ N a0 a1 a2 v1.1 v1.2 hv) cv_X1_law q987 (recv1 (w := (RX1, TX1, 6)) hw hK hH rfl) rfl rfl rfl hl.1 (Nat.le_of_ble_eq_true rfl) ⟨by decide, by decide⟩ ⟨by decide, by decide⟩ dX0_law_5 hK hH hS (fun H locs hH hS => ?_)
    refine W.cs (cells' := 16) (slots' := 185) (by rfl) (by rfl) ?_
    obtain ⟨t2, hv, hf⟩ := bd hf
    refine h_wL X hK hH hS hv dX0_law_8 (fun H locs hH hS => ?_)
    refine lv_goto (tgt := 20) hx hb dX0_law_9 (by decide) ?_
    refine lv_iconst (v := (0 : Int32)) hx hb dX0_law_20 (by decide) ?_
    cases hf
    exact r_iret X dX0_law_21 (Nat.le_of_ble_eq_true rfl) (Nat.le_of_ble_eq_true rfl) rfl hH hS
theorem csx_X0_law : CalSX yX0_law cX0_law 5 (some .int) [(0, 9, 12, 13), (0, 9, 16, 15)] 4 := ⟨q985, q47, q986, by decide +kernel, by decide +kernel, by decide +kernel⟩
set_option maxHeartbeats 4000000 in
theorem met_X0_element (l : Launch) (htl : ∀ e, l.admits e → e.platform.stackTraces = false) (G : GG) (σ : SG) (N : Nat) (a0 : Nat) (a1 : Int32) (a2 : Int32) (a3 : Nat) (σf : SG) (rf : Int32) (hf : f_X0_element N σ a0 a1 a2 a3 = some (σf, rf)) : ConX l yX0_element cX0_element 5 (some .int) [(0, 9, 12, 13), (0, 9, 16, 15)] 12 10400 4 1016 G σ [.ref a0, .int a1, .int a2, .ref a3] σf (some (.int rf)) := by
  refine con_ofX (by decide) (Nat.le_of_ble_eq_true rfl) ?_
  intro p e s m below meth c ls X hXt hK hH hl hS
  have hHs := hH
  have hx := X.1
  have hb := X.2.1
  have hml := X.2.2.2.1
  have hown : s.vm.findClass RX0 = some m.cls := X.2.2.2.2.1
  have hts := X.2.2.2.2.2.1
  have hl : lv_has ls 5 [(0, .ref a0), (1, .int a1), (2, .int a2), (3, .ref a3)] := hl
  unfold f_X0_element at hf
  refine lv_aload_n hx hb dX0_element_0 rfl (lv_at hl 3 rfl) ?_
  refine lv_iconst (v := (0 : Int32)) hx hb dX0_element_1 (by decide) ?_
  refine lv_aload_n hx hb dX0_element_2 rfl (lv_at hl 0 rfl) ?_
  refine lv_iload_n hx hb dX0_element_3 rfl (lv_at hl 1 rfl) ?_
  refine lv_iload_n hx hb dX0_element_4 rfl (lv_at hl 2 rfl) ?_
  obtain ⟨_, hw, hf⟩ := bd hf
  rcases hv : f_X1_element N σ a0 a1 a2 with _ | v1
  · rw [hv] at hf
    dsimp only at hf
    rcases hv2 : t_X1_element N σ a0 a1 a2 with _ | ⟨q1_, q2_, q3_⟩
    · rw [hv2] at hf
      cases hf
    · rw [hv2] at hf
      dsimp only at hf
      by_cases c_ : q2_ = "java/lang/IllegalArgumentException"
      · have hf := (if_pos c_).symm.trans hf
        subst c_
        refine x_callT (maxL := 5) (n := 2) (As := [.int a1, .int a2]) (rest := [.int (0 : Int32), .ref a3]) X hXt (Or.inr ⟨by decide, by decide, _, q948, Or.inl ⟨q956, rfl⟩⟩) (mett_X1_element l htl G σ N a0 a1 a2 q1_ _ q3_ hv2) (lw_methW q1000) (hc_codeW q1000 hts) q998 q999 q48 (by decide) (by decide +kernel) q997 (recv1 (w := (RX1, TX1, 6)) hw hK hH rfl) rfl rfl hl.1 (Nat.le_of_ble_eq_true rfl) ⟨by decide, by decide⟩ ⟨by decide, by decide⟩ dX0_element_5 hK hH hS (fun H locs hH hS hE => ?_)
        refine W.cs (cells' := 4) (slots' := 1016) (by rfl) (by rfl) ?_
        refine lv_astore (lv' := [(4, .ref q3_), (0, .ref a0), (1, .int a1), (2, .int a2), (3, .ref a3)]) hx hb dX0_element_12 hl (by decide) rfl (fun ls hl => ?_)
        refine lv_iconst (v := (1 : Int32)) hx hb dX0_element_14 (by decide) ?_
        cases hf
        exact r_iret X dX0_element_15 (Nat.le_of_ble_eq_true rfl) (Nat.le_of_ble_eq_true rfl) rfl hH hS
      · have hf := (if_neg c_).symm.trans hf
        by_cases c_ : q2_ = "java/lang/IllegalStateException"
        · have hf := (if_pos c_).symm.trans hf
          subst c_
          refine x_callT (maxL := 5) (n := 2) (As := [.int a1, .int a2]) (rest := [.int (0 : Int32), .ref a3]) X hXt (Or.inr ⟨by decide, by decide, _, q948, Or.inr ⟨by decide +kernel, Or.inr ⟨by decide, by decide, _, q949, Or.inl ⟨q971, rfl⟩⟩⟩⟩) (mett_X1_element l htl G σ N a0 a1 a2 q1_ _ q3_ hv2) (lw_methW q1000) (hc_codeW q1000 hts) q998 q999 q48 (by decide) (by decide +kernel) q997 (recv1 (w := (RX1, TX1, 6)) hw hK hH rfl) rfl rfl hl.1 (Nat.le_of_ble_eq_true rfl) ⟨by decide, by decide⟩ ⟨by decide, by decide⟩ dX0_element_5 hK hH hS (fun H locs hH hS hE => ?_)
          refine W.cs (cells' := 4) (slots' := 1016) (by rfl) (by rfl) ?_
          refine lv_astore (lv' := [(4, .ref q3_), (0, .ref a0), (1, .int a1), (2, .int a2), (3, .ref a3)]) hx hb dX0_element_16 hl (by decide) rfl (fun ls hl => ?_)
          refine lv_iconst (v := (2 : Int32)) hx hb dX0_element_18 (by decide) ?_
          cases hf
          exact r_iret X dX0_element_19 (Nat.le_of_ble_eq_true rfl) (Nat.le_of_ble_eq_true rfl) rfl hH hS
        · have hf := (if_neg c_).symm.trans hf
          cases hf
  · rw [hv] at hf
    dsimp only at hf
    refine c_VX (As := [.int a1, .int a2]) (rest := [.int (0 : Int32), .ref a3]) (st1 := [.long v1.2, .int (0 : Int32), .ref a3]) X (met_X1_element l htl G σ N a0 a1 a2 v1.1 v1.2 hv) cvx_X1_element q997 (recv1 (w := (RX1, TX1, 6)) hw hK hH rfl) rfl rfl rfl hl.1 (Nat.le_of_ble_eq_true rfl) ⟨by decide, by decide⟩ ⟨by decide, by decide⟩ dX0_element_5 hK hH hS (fun H locs hH hS => ?_)
    refine W.cs (cells' := 4) (slots' := 1016) (by rfl) (by rfl) ?_
    obtain ⟨t2, hv, hf⟩ := bd hf
    refine h_wL X hK hH hS hv dX0_element_8 (fun H locs hH hS => ?_)
    refine lv_goto (tgt := 20) hx hb dX0_element_9 (by decide) ?_
    refine lv_iconst (v := (0 : Int32)) hx hb dX0_element_20 (by decide) ?_
    cases hf
    exact r_iret X dX0_element_21 (Nat.le_of_ble_eq_true rfl) (Nat.le_of_ble_eq_true rfl) rfl hH hS
theorem csx_X0_element : CalSX yX0_element cX0_element 5 (some .int) [(0, 9, 12, 13), (0, 9, 16, 15)] 4 := ⟨q995, q47, q996, by decide +kernel, by decide +kernel, by decide +kernel⟩
