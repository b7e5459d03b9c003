/-! ===== XW: their walks ===== -/
set_option maxRecDepth 100000
theorem cu_X4_heft_3 : CalU "WordBench$Code" "WordBench$List" ⟨"WordBench$Code", "heft", "()I"⟩ yX4_heft cX4_heft 1 (some .int) 0 := ⟨q896, q901, q895, q910, q58, by decide +kernel, by decide +kernel, by decide +kernel⟩
theorem cu_X4_heft_4 : CalU "WordBench$Code" "WordBench$Line" ⟨"WordBench$Code", "heft", "()I"⟩ yX6_heft cX6_heft 1 (some .int) 0 := ⟨q896, q897, q898, q899, q60, by decide +kernel, by decide +kernel, by decide +kernel⟩
theorem cu_X4_heft_5 : CalU "WordBench$Code" "WordBench$Own" ⟨"WordBench$Code", "heft", "()I"⟩ yX7_heft cX7_heft 1 (some .int) 0 := ⟨q896, q902, q903, q904, q61, by decide +kernel, by decide +kernel, by decide +kernel⟩
theorem cu_X4_heft_6 : CalU "WordBench$Code" "WordBench$Ring" ⟨"WordBench$Code", "heft", "()I"⟩ yX8_heft cX8_heft 1 (some .int) 0 := ⟨q896, q906, q907, q908, q62, by decide +kernel, by decide +kernel, by decide +kernel⟩
theorem dr_X4_heft {p : Program} {l : Launch} {e : Env} {R : Room} {s : State} {m : MethodId} {args : Array Value} {below : List Frame} {meth : Method} {c : Code} {H : Heap} {locs : List Loc} {cells slots : Nat} {Q : State → Prop} {cc : ByteArray} {pc : Nat} {ls : Array Slot} {rest st0 st1 : List Value} {H0 : Heap} {G : GG} {σ : SG} {yo : MethodName} {nL idx : Nat} {rto : Option FieldType} (N : Nat) {b : Nat}  {u : Int32} (X : Cx p s m args meth c cc rto nL yo) (q1 : Cond.methodLink yo.cls idx ⟨"WordBench$Code", "heft", "()I"⟩ ∈ lw_all) (hv : dv_X4_heft N σ b  = some u) (hst : st0 = ([] : List Value).reverse ++ .ref b :: rest) (hs1 : ((some (.int u)) : Option Value).toList ++ rest = st1) (hls : ls.size = nL) (hrm : (rest.map fun v => v.category).sum ≤ 20) (hR : 2 + 1 ≤ R.frames ∧ 20 + (1 + 11) + 80 * 2 ≤ R.locals) (hf : cells + 0 ≤ R.cells ∧ slots + 0 ≤ R.slots) (hdg : decode cc pc = .ok (.invokevirtual idx, 3)) (hK : KK G s) (hH : HH G σ H) (hS : va_S (AG G) H0 H locs)
    (kk : ∀ (H1 : Heap) (locs1 : List Loc), HH G σ H1 → va_S (AG G) H0 H1 locs1 → W p l e R s m args below meth c H1 locs1 (cells + 0) (slots + 0) Q (F0 m (pc + 3) ls st1)) : W p l e R s m args below meth c H locs cells slots Q (F0 m pc ls st0) := by
  subst hs1
  unfold dv_X4_heft at hv
  split at hv
  · rename_i fs he
    exact r_U (C := "WordBench$List") (owner := "WordBench$Code") (x := ⟨"WordBench$Code", "heft", "()I"⟩) (n := 0) (As := []) X (met_X4_heft l G σ N b  u hv) cu_X4_heft_3 (va_Decl.of (X.2.2.2.2.2.1 _ q895) (X.2.2.2.2.2.1 _ q910)) q1 (recv_of_HH (w := (RX5, TX5, 4)) hK hH he rfl) rfl hst hls hrm ⟨by omega, by omega⟩ hf hdg hK hH hS kk
  · rename_i fs he
    exact r_U (C := "WordBench$Line") (owner := "WordBench$Code") (x := ⟨"WordBench$Code", "heft", "()I"⟩) (n := 0) (As := []) X (met_X6_heft l G σ N b  u hv) cu_X4_heft_4 (va_Decl.of (X.2.2.2.2.2.1 _ q895) (X.2.2.2.2.2.1 _ q910)) q1 (recv_of_HH (w := (RX6, TX6, 4)) hK hH he rfl) rfl hst hls hrm ⟨by omega, by omega⟩ hf hdg hK hH hS kk
  · rename_i fs he
    exact r_U (C := "WordBench$Own") (owner := "WordBench$Code") (x := ⟨"WordBench$Code", "heft", "()I"⟩) (n := 0) (As := []) X (met_X7_heft l G σ N b  u hv) cu_X4_heft_5 (va_Decl.of (X.2.2.2.2.2.1 _ q895) (X.2.2.2.2.2.1 _ q910)) q1 (recv_of_HH (w := (RX7, TX7, 4)) hK hH he rfl) rfl hst hls hrm ⟨by omega, by omega⟩ hf hdg hK hH hS kk
  · rename_i fs he
    exact r_U (C := "WordBench$Ring") (owner := "WordBench$Code") (x := ⟨"WordBench$Code", "heft", "()I"⟩) (n := 0) (As := []) X (met_X8_heft l G σ N b  u hv) cu_X4_heft_6 (va_Decl.of (X.2.2.2.2.2.1 _ q895) (X.2.2.2.2.2.1 _ q910)) q1 (recv_of_HH (w := (RX8, TX8, 4)) hK hH he rfl) rfl hst hls hrm ⟨by omega, by omega⟩ hf hdg hK hH hS kk
  · cases hv
theorem cvx_X1_row : CalVX "WordBench" yX1_row cX1_row 5 (some .int) [(29, 64, 65, 303)] 3 := ⟨q728, q729, q48, q730, by decide +kernel⟩
set_option maxHeartbeats 4000000 in
theorem met_X1_row (l : Launch) (htl : ∀ e, l.admits e → e.platform.stackTraces = false) (G : GG) (σ : SG) (N : Nat) (a0 : Nat) (a1 : Int32) (a2 : Int32) (a3 : Int32) (σf : SG) (rf : Int32) (hf : f_X1_row N σ a0 a1 a2 a3 = some (σf, rf)) : ConX l yX1_row cX1_row 5 (some .int) [(29, 64, 65, 303)] 10 10300 3 60 G σ [.ref a0, .int a1, .int a2, .int a3] σf (some (.int rf)) := by
  refine con_ofX (by decide) (Nat.le_of_ble_eq_true rfl) ?_
  intro p e s m below meth c ls X hXt hK hH hl hS
  have hHs := hH
  have hx := X.1
  have hb := X.2.1
  have hml := X.2.2.2.1
  have hown : s.vm.findClass RX1 = some m.cls := X.2.2.2.2.1
  have hts := X.2.2.2.2.2.1
  have hl : lv_has ls 5 [(0, .ref a0), (1, .int a1), (2, .int a2), (3, .int a3)] := hl
  unfold f_X1_row at hf
  refine lv_iload_n hx hb dX1_row_0 rfl (lv_at hl 1 rfl) ?_
  obtain ⟨v1, hv, hf⟩ := bd hf
  refine c_S (As := [.int a1]) (rest := []) (st1 := [.int v1]) X (met_X1_isShelf l G σ N a1 v1 hv) cs_X1_isShelf q672 rfl rfl rfl hl.1 (Nat.le_of_ble_eq_true rfl) ⟨Nat.le_of_ble_eq_true rfl, Nat.le_of_ble_eq_true rfl⟩ ⟨Nat.le_of_ble_eq_true rfl, Nat.le_of_ble_eq_true rfl⟩ dX1_row_1 hK hH hS (fun H locs hH hS => ?_)
  refine W.cs (cells' := 0) (slots' := 0) (by rfl) (by rfl) ?_
  refine lv_if_eq (tgt := 27) hx hb dX1_row_4 (by decide) (fun c_ => ?_) (fun c_ => ?_)
  · have hf := (if_pos c_).symm.trans hf
    refine lv_iconst (v := (-1 : Int32)) hx hb dX1_row_27 (by decide) ?_
    cases hf
    exact r_iret X dX1_row_28 (Nat.le_of_ble_eq_true rfl) (Nat.le_of_ble_eq_true rfl) rfl hH hS
  · have hf := (if_neg c_).symm.trans hf
    refine lv_iload_n hx hb dX1_row_7 rfl (lv_at hl 2 rfl) ?_
    refine lv_i2l (v := (a2).toInt64) hx hb dX1_row_8 rfl ?_
    refine lv_ldc2 (v := (3 : Int64)) hx hb hown (hts _ q818) dX1_row_9 ?_
    refine lv_ldc2 (v := (4 : Int64)) hx hb hown (hts _ q675) dX1_row_12 ?_
    obtain ⟨v2, hv, hf⟩ := bd hf
    refine c_S (As := [.long ((a2).toInt64), .long (3 : Int64), .long (4 : Int64)]) (rest := []) (st1 := [.int v2]) X (met_X1_isIn l G σ N ((a2).toInt64) (3 : Int64) (4 : Int64) v2 hv) cs_X1_isIn q86 rfl rfl rfl hl.1 (Nat.le_of_ble_eq_true rfl) ⟨Nat.le_of_ble_eq_true rfl, Nat.le_of_ble_eq_true rfl⟩ ⟨Nat.le_of_ble_eq_true rfl, Nat.le_of_ble_eq_true rfl⟩ dX1_row_15 hK hH hS (fun H locs hH hS => ?_)
    refine W.cs (cells' := 0) (slots' := 0) (by rfl) (by rfl) ?_
    refine lv_if_eq (tgt := 27) hx hb dX1_row_18 (by decide) (fun c_ => ?_) (fun c_ => ?_)
    · have hf := (if_pos c_).symm.trans hf
      refine lv_iconst (v := (-1 : Int32)) hx hb dX1_row_27 (by decide) ?_
      cases hf
      exact r_iret X dX1_row_28 (Nat.le_of_ble_eq_true rfl) (Nat.le_of_ble_eq_true rfl) rfl hH hS
    · have hf := (if_neg c_).symm.trans hf
      refine lv_iload_n hx hb dX1_row_21 rfl (lv_at hl 3 rfl) ?_
      refine lv_bipush (v := (60 : Int32)) hx hb dX1_row_22 (by decide) ?_
      refine lv_icmp_le (tgt := 29) hx hb dX1_row_24 (by decide) (fun c_ => ?_) (fun c_ => ?_)
      · have hf := (if_pos c_).symm.trans hf
        refine lv_iload_n hx hb dX1_row_29 rfl (lv_at hl 2 rfl) ?_
        refine lv_iconst (v := (3 : Int32)) hx hb dX1_row_30 (by decide) ?_
        refine lv_icmp_ne (tgt := 42) hx hb dX1_row_31 (by decide) (fun c_ => ?_) (fun c_ => ?_)
        · have hf := (if_neg c_).symm.trans hf
          refine lv_iload_n hx hb dX1_row_42 rfl (lv_at hl 3 rfl) ?_
          by_cases c_ : a3 < 0
          · have hf := (if_pos c_).symm.trans hf
            refine x_newNeg htl X hXt (Or.inr ⟨by decide, by decide, _, q731, Or.inl ⟨q796, rfl⟩⟩) hl.1 hK hHs hH hS c_ (by decide) ⟨by decide, by decide⟩ ⟨by decide, by decide⟩ dX1_row_43 (fun H hH hS => ?_)
            refine W.cs (cells' := 3) (slots' := 54) (by rfl) (by rfl) ?_
            refine lv_astore (lv' := [(4, .ref (σ.1 + 2)), (0, .ref a0), (1, .int a1), (2, .int a2), (3, .int a3)]) hx hb dX1_row_65 hl (by decide) rfl (fun ls hl => ?_)
            refine lv_bipush (v := (-14 : Int32)) hx hb dX1_row_67 (by decide) ?_
            cases hf
            exact r_iret X dX1_row_69 (Nat.le_of_ble_eq_true rfl) (Nat.le_of_ble_eq_true rfl) rfl hH hS
          · have hf := (if_neg c_).symm.trans hf
            obtain ⟨t3, hv, hf⟩ := bd hf
            refine h_newa (t := 1) (B := 60) (atype := .long) X hK hH hS (by decide) hv (by decide) q151 (Nat.le_of_ble_eq_true rfl) (Nat.le_of_ble_eq_true rfl) dX1_row_43 (fun H hH hS => ?_)
            refine W.cs (cells' := 1) (slots' := 60) (by rfl) (by rfl) ?_
            refine lv_astore (lv' := [(4, .ref ((σ).1)), (0, .ref a0), (1, .int a1), (2, .int a2), (3, .int a3)]) hx hb dX1_row_45 hl (by decide) rfl (fun ls hl => ?_)
            refine lv_aload_n hx hb dX1_row_47 rfl (lv_at hl 1 rfl) ?_
            obtain ⟨v4, hv, hf⟩ := bd hf
            refine h_gR X hK hH fo_X1_5 hv q654 dX1_row_48 ?_
            refine lv_iload_n hx hb dX1_row_51 rfl (lv_at hl 2 rfl) ?_
            obtain ⟨_, hw, hf⟩ := bd hf
            obtain ⟨v5, hv, hf⟩ := bd hf
            refine c_V (As := [.int a1]) (rest := []) (st1 := [va_rf v5]) X (met_J2_get l G t3 N v4 a1 v5 hv) cv_J2_get q676 (recv1 (w := (RJ2, TJ2, 3)) hw hK hH rfl) rfl rfl rfl hl.1 (Nat.le_of_ble_eq_true rfl) ⟨Nat.le_of_ble_eq_true rfl, Nat.le_of_ble_eq_true rfl⟩ ⟨Nat.le_of_ble_eq_true rfl, Nat.le_of_ble_eq_true rfl⟩ dX1_row_52 hK hH hS (fun H locs hH hS => ?_)
            refine W.cs (cells' := 1) (slots' := 60) (by rfl) (by rfl) ?_
            obtain ⟨b6, hq, hz⟩ := bd hf
            clear hf
            subst hq
            have hf := hz
            clear hz
            obtain ⟨_, hv, hf⟩ := bd hf
            refine h_cast X hK hH ca_Shelf hv q578 dX1_row_55 ?_
            refine lv_aload hx hb dX1_row_58 (lv_at hl 0 rfl) ?_
            obtain ⟨t7, hv, hf⟩ := bd hf
            refine h_put (ty := (.object "java/lang/Object")) X hK hH hS fo_X2_0 hv q584 (by decide +kernel) rfl rfl dX1_row_60 (fun H locs hH hS => ?_)
            refine lv_iconst (v := (0 : Int32)) hx hb dX1_row_63 (by decide) ?_
            cases hf
            exact r_iret X dX1_row_64 (Nat.le_of_ble_eq_true rfl) (Nat.le_of_ble_eq_true rfl) rfl hH hS
        · have hf := (if_pos c_).symm.trans hf
          refine lv_iload_n hx hb dX1_row_34 rfl (lv_at hl 3 rfl) ?_
          by_cases c_ : a3 < 0
          · have hf := (if_pos c_).symm.trans hf
            refine x_newNeg htl X hXt (Or.inr ⟨by decide, by decide, _, q731, Or.inl ⟨q796, rfl⟩⟩) hl.1 hK hHs hH hS c_ (by decide) ⟨by decide, by decide⟩ ⟨by decide, by decide⟩ dX1_row_35 (fun H hH hS => ?_)
            refine W.cs (cells' := 3) (slots' := 54) (by rfl) (by rfl) ?_
            refine lv_astore (lv' := [(4, .ref (σ.1 + 2)), (0, .ref a0), (1, .int a1), (2, .int a2), (3, .int a3)]) hx hb dX1_row_65 hl (by decide) rfl (fun ls hl => ?_)
            refine lv_bipush (v := (-14 : Int32)) hx hb dX1_row_67 (by decide) ?_
            cases hf
            exact r_iret X dX1_row_69 (Nat.le_of_ble_eq_true rfl) (Nat.le_of_ble_eq_true rfl) rfl hH hS
          · have hf := (if_neg c_).symm.trans hf
            obtain ⟨t8, hv, hf⟩ := bd hf
            refine h_newa (t := 2) (B := 60) (atype := .byte) X hK hH hS (by decide) hv (by decide) q726 (Nat.le_of_ble_eq_true rfl) (Nat.le_of_ble_eq_true rfl) dX1_row_35 (fun H hH hS => ?_)
            refine W.cs (cells' := 1) (slots' := 60) (by rfl) (by rfl) ?_
            refine lv_astore (lv' := [(4, .ref ((σ).1)), (0, .ref a0), (1, .int a1), (2, .int a2), (3, .int a3)]) hx hb dX1_row_37 hl (by decide) rfl (fun ls hl => ?_)
            refine lv_goto (tgt := 47) hx hb dX1_row_39 (by decide) ?_
            refine lv_aload_n hx hb dX1_row_47 rfl (lv_at hl 1 rfl) ?_
            obtain ⟨v9, hv, hf⟩ := bd hf
            refine h_gR X hK hH fo_X1_5 hv q654 dX1_row_48 ?_
            refine lv_iload_n hx hb dX1_row_51 rfl (lv_at hl 2 rfl) ?_
            obtain ⟨_, hw, hf⟩ := bd hf
            obtain ⟨v10, hv, hf⟩ := bd hf
            refine c_V (As := [.int a1]) (rest := []) (st1 := [va_rf v10]) X (met_J2_get l G t8 N v9 a1 v10 hv) cv_J2_get q676 (recv1 (w := (RJ2, TJ2, 3)) hw hK hH rfl) rfl rfl rfl hl.1 (Nat.le_of_ble_eq_true rfl) ⟨Nat.le_of_ble_eq_true rfl, Nat.le_of_ble_eq_true rfl⟩ ⟨Nat.le_of_ble_eq_true rfl, Nat.le_of_ble_eq_true rfl⟩ dX1_row_52 hK hH hS (fun H locs hH hS => ?_)
            refine W.cs (cells' := 1) (slots' := 60) (by rfl) (by rfl) ?_
            obtain ⟨b11, hq, hz⟩ := bd hf
            clear hf
            subst hq
            have hf := hz
            clear hz
            obtain ⟨_, hv, hf⟩ := bd hf
            refine h_cast X hK hH ca_Shelf hv q578 dX1_row_55 ?_
            refine lv_aload hx hb dX1_row_58 (lv_at hl 0 rfl) ?_
            obtain ⟨t12, hv, hf⟩ := bd hf
            refine h_put (ty := (.object "java/lang/Object")) X hK hH hS fo_X2_0 hv q584 (by decide +kernel) rfl rfl dX1_row_60 (fun H locs hH hS => ?_)
            refine lv_iconst (v := (0 : Int32)) hx hb dX1_row_63 (by decide) ?_
            cases hf
            exact r_iret X dX1_row_64 (Nat.le_of_ble_eq_true rfl) (Nat.le_of_ble_eq_true rfl) rfl hH hS
      · have hf := (if_neg c_).symm.trans hf
        refine lv_iconst (v := (-1 : Int32)) hx hb dX1_row_27 (by decide) ?_
        cases hf
        exact r_iret X dX1_row_28 (Nat.le_of_ble_eq_true rfl) (Nat.le_of_ble_eq_true rfl) rfl hH hS
set_option maxHeartbeats 4000000 in
theorem mett_X1_word (l : Launch) (htl : ∀ e, l.admits e → e.platform.stackTraces = false) (G : GG) (σ : SG) (N : Nat) (a0 : Nat) (a1 : Int32) (a2 : Int32) (σf : SG) (cf : String) (af : Nat) (hf : t_X1_word N σ a0 a1 a2 = some (σf, cf, af)) : ConT l yX1_word (ws_ yX1_word cX1_word 4 (some .long)) 10 10300 1 6 G σ [.ref a0, .int a1, .int a2] σf cf af := by
  refine con_ofT (by decide) (Nat.le_of_ble_eq_true rfl) ?_
  intro p e s m below meth c ls X hXt hK hH hl hS
  have hHs := hH
  have hx := X.1
  have hb := X.2.1
  have hml := X.2.2.2.1
  have hown : s.vm.findClass RX1 = some m.cls := X.2.2.2.2.1
  have hts := X.2.2.2.2.2.1
  have hl : lv_has ls 4 [(0, .ref a0), (1, .int a1), (2, .int a2)] := hl
  unfold t_X1_word at hf
  refine lv_iload_n hx hb dX1_word_0 rfl (lv_at hl 1 rfl) ?_
  obtain ⟨v1, hv, hf⟩ := bd hf
  refine c_S (As := [.int a1]) (rest := []) (st1 := [.int v1]) X (met_X1_isPlace l G σ N a1 v1 hv) cs_X1_isPlace q82 rfl rfl rfl hl.1 (Nat.le_of_ble_eq_true rfl) ⟨Nat.le_of_ble_eq_true rfl, Nat.le_of_ble_eq_true rfl⟩ ⟨Nat.le_of_ble_eq_true rfl, Nat.le_of_ble_eq_true rfl⟩ dX1_word_1 hK hH hS (fun H locs hH hS => ?_)
  refine W.cs (cells' := 0) (slots' := 0) (by rfl) (by rfl) ?_
  refine lv_if_ne (tgt := 15) hx hb dX1_word_4 (by decide) (fun c_ => ?_) (fun c_ => ?_)
  · have hf := (if_neg c_).symm.trans hf
    refine lv_aload_n hx hb dX1_word_15 rfl (lv_at hl 0 rfl) ?_
    obtain ⟨v2, hv, hf⟩ := bd hf
    refine h_gR X hK hH fo_X1_0 hv q649 dX1_word_16 ?_
    refine lv_iload_n hx hb dX1_word_19 rfl (lv_at hl 1 rfl) ?_
    obtain ⟨v3, hv, hf⟩ := bd hf
    refine h_aQ (by decide) X hK hH hv dX1_word_20 ?_
    refine q_astore_n (lv' := [(3, va_rf v3), (0, .ref a0), (1, .int a1), (2, .int a2)]) hx hb dX1_word_21 rfl hl (by decide) rfl (fun ls hl => ?_)
    refine q_aload_n hx hb dX1_word_22 rfl (lv_at hl 0 rfl) ?_
    rcases v3 with _ | b4
    · dsimp only at hf
      refine lv_ifnullN (tgt := 42) hx hb dX1_word_23 (by decide) ?_
      cases hf
      exact x_throw htl X hXt (by decide) hl.1 hK hHs hH hS (xa_ise hK hHs hts) (by decide +kernel) q969 q970 q68 ⟨by decide, by decide⟩ ⟨by decide, by decide⟩ (by decide) (by decide) dX1_word_42 dX1_word_45 dX1_word_46 dX1_word_49
    · dsimp only at hf
      refine lv_ifnull hx hb dX1_word_23 ?_
      refine lv_iload_n hx hb dX1_word_26 rfl (lv_at hl 3 rfl) ?_
      refine lv_i2l (v := (a2).toInt64) hx hb dX1_word_27 rfl ?_
      refine lv_lconst (v := (0 : Int64)) hx hb dX1_word_28 (by decide) ?_
      refine lv_aload_n hx hb dX1_word_29 rfl (lv_at hl 0 rfl) ?_
      obtain ⟨v5, hv, hf⟩ := bd hf
      refine h_gI X hK hH fo_Code_3 hv q141 dX1_word_30 ?_
      refine lv_iconst (v := (1 : Int32)) hx hb dX1_word_33 (by decide) ?_
      refine lv_isub hx hb dX1_word_34 ?_
      refine lv_i2l (v := ((v5 - (1 : Int32))).toInt64) hx hb dX1_word_35 rfl ?_
      obtain ⟨v6, hv, hf⟩ := bd hf
      refine c_S (As := [.long ((a2).toInt64), .long (0 : Int64), .long (((v5 - (1 : Int32))).toInt64)]) (rest := []) (st1 := [.int v6]) X (met_X1_isIn l G σ N ((a2).toInt64) (0 : Int64) (((v5 - (1 : Int32))).toInt64) v6 hv) cs_X1_isIn q86 rfl rfl rfl hl.1 (Nat.le_of_ble_eq_true rfl) ⟨Nat.le_of_ble_eq_true rfl, Nat.le_of_ble_eq_true rfl⟩ ⟨Nat.le_of_ble_eq_true rfl, Nat.le_of_ble_eq_true rfl⟩ dX1_word_36 hK hH hS (fun H locs hH hS => ?_)
      refine W.cs (cells' := 0) (slots' := 0) (by rfl) (by rfl) ?_
      refine lv_if_ne (tgt := 50) hx hb dX1_word_39 (by decide) (fun c_ => ?_) (fun c_ => ?_)
      · have hf := (if_neg c_).symm.trans hf
        cases hf
      · have hf := (if_pos c_).symm.trans hf
        cases hf
        exact x_throw htl X hXt (by decide) hl.1 hK hHs hH hS (xa_ise hK hHs hts) (by decide +kernel) q969 q970 q68 ⟨by decide, by decide⟩ ⟨by decide, by decide⟩ (by decide) (by decide) dX1_word_42 dX1_word_45 dX1_word_46 dX1_word_49
  · have hf := (if_pos c_).symm.trans hf
    cases hf
    exact x_throw htl X hXt (by decide) hl.1 hK hHs hH hS (xa_iae hK hHs hts) (by decide +kernel) q954 q955 q67 ⟨by decide, by decide⟩ ⟨by decide, by decide⟩ (by decide) (by decide) dX1_word_7 dX1_word_10 dX1_word_11 dX1_word_14
set_option maxHeartbeats 4000000 in
theorem mett_X1_law (l : Launch) (htl : ∀ e, l.admits e → e.platform.stackTraces = false) (G : GG) (σ : SG) (N : Nat) (a0 : Nat) (a1 : Int32) (a2 : Int32) (σf : SG) (cf : String) (af : Nat) (hf : t_X1_law N σ a0 a1 a2 = some (σf, cf, af)) : ConT l yX1_law (ws_ yX1_law cX1_law 7 (some .long)) 10 10300 17 191 G σ [.ref a0, .int a1, .int a2] σf cf af := by
  refine con_ofT (by decide) (Nat.le_of_ble_eq_true rfl) ?_
  intro p e s m below meth c ls X hXt hK hH hl hS
  have hHs := hH
  have hx := X.1
  have hb := X.2.1
  have hml := X.2.2.2.1
  have hown : s.vm.findClass RX1 = some m.cls := X.2.2.2.2.1
  have hts := X.2.2.2.2.2.1
  have hl : lv_has ls 7 [(0, .ref a0), (1, .int a1), (2, .int a2)] := hl
  unfold t_X1_law at hf
  refine lv_iload_n hx hb dX1_law_0 rfl (lv_at hl 1 rfl) ?_
  obtain ⟨v1, hv, hf⟩ := bd hf
  refine c_S (As := [.int a1]) (rest := []) (st1 := [.int v1]) X (met_X1_isPlace l G σ N a1 v1 hv) cs_X1_isPlace q82 rfl rfl rfl hl.1 (Nat.le_of_ble_eq_true rfl) ⟨Nat.le_of_ble_eq_true rfl, Nat.le_of_ble_eq_true rfl⟩ ⟨Nat.le_of_ble_eq_true rfl, Nat.le_of_ble_eq_true rfl⟩ dX1_law_1 hK hH hS (fun H locs hH hS => ?_)
  refine W.cs (cells' := 0) (slots' := 0) (by rfl) (by rfl) ?_
  refine lv_if_ne (tgt := 15) hx hb dX1_law_4 (by decide) (fun c_ => ?_) (fun c_ => ?_)
  · have hf := (if_neg c_).symm.trans hf
    refine lv_aload_n hx hb dX1_law_15 rfl (lv_at hl 0 rfl) ?_
    obtain ⟨v2, hv, hf⟩ := bd hf
    refine h_gR X hK hH fo_X1_0 hv q649 dX1_law_16 ?_
    refine lv_iload_n hx hb dX1_law_19 rfl (lv_at hl 1 rfl) ?_
    obtain ⟨v3, hv, hf⟩ := bd hf
    refine h_aQ (by decide) X hK hH hv dX1_law_20 ?_
    rcases v3 with _ | b4
    · dsimp only at hf
      refine lv_ifnonnullN hx hb dX1_law_21 ?_
      cases hf
      exact x_throw htl X hXt (by decide) hl.1 hK hHs hH hS (xa_ise hK hHs hts) (by decide +kernel) q969 q970 q68 ⟨by decide, by decide⟩ ⟨by decide, by decide⟩ (by decide) (by decide) dX1_law_24 dX1_law_27 dX1_law_28 dX1_law_31
    · dsimp only at hf
      refine lv_ifnonnull (tgt := 32) hx hb dX1_law_21 (by decide) ?_
      refine lv_iload_n hx hb dX1_law_32 rfl (lv_at hl 2 rfl) ?_
      refine lv_i2l (v := (a2).toInt64) hx hb dX1_law_33 rfl ?_
      refine lv_lconst (v := (0 : Int64)) hx hb dX1_law_34 (by decide) ?_
      refine lv_aload_n hx hb dX1_law_35 rfl (lv_at hl 0 rfl) ?_
      obtain ⟨v5, hv, hf⟩ := bd hf
      refine h_gR X hK hH fo_X1_0 hv q649 dX1_law_36 ?_
      refine lv_iload_n hx hb dX1_law_39 rfl (lv_at hl 1 rfl) ?_
      obtain ⟨v6, hv, hf⟩ := bd hf
      refine h_aQ (by decide) X hK hH hv dX1_law_40 ?_
      obtain ⟨b7, hq, hz⟩ := bd hf
      clear hf
      subst hq
      have hf := hz
      clear hz
      obtain ⟨v8, hv, hf⟩ := bd hf
      refine h_gI X hK hH fo_Code_1 hv q123 dX1_law_41 ?_
      refine lv_i2l (v := (v8).toInt64) hx hb dX1_law_44 rfl ?_
      obtain ⟨v9, hv, hf⟩ := bd hf
      refine c_S (As := [.long ((a2).toInt64), .long (0 : Int64), .long ((v8).toInt64)]) (rest := []) (st1 := [.int v9]) X (met_X1_isIn l G σ N ((a2).toInt64) (0 : Int64) ((v8).toInt64) v9 hv) cs_X1_isIn q86 rfl rfl rfl hl.1 (Nat.le_of_ble_eq_true rfl) ⟨Nat.le_of_ble_eq_true rfl, Nat.le_of_ble_eq_true rfl⟩ ⟨Nat.le_of_ble_eq_true rfl, Nat.le_of_ble_eq_true rfl⟩ dX1_law_45 hK hH hS (fun H locs hH hS => ?_)
      refine W.cs (cells' := 0) (slots' := 0) (by rfl) (by rfl) ?_
      refine lv_if_ne (tgt := 59) hx hb dX1_law_48 (by decide) (fun c_ => ?_) (fun c_ => ?_)
      · have hf := (if_neg c_).symm.trans hf
        refine lv_aload_n hx hb dX1_law_59 rfl (lv_at hl 0 rfl) ?_
        refine lv_iload_n hx hb dX1_law_60 rfl (lv_at hl 1 rfl) ?_
        obtain ⟨_, hw, hf⟩ := bd hf
        obtain ⟨v10, hv, hf⟩ := bd hf
        refine c_V (As := [.int a1]) (rest := []) (st1 := [.int v10.2]) X (met_X1_whyWords l G σ N a0 a1 v10.1 v10.2 hv) cv_X1_whyWords q419 (recv1 (w := (RX1, TX1, 6)) hw hK hH rfl) rfl rfl rfl hl.1 (Nat.le_of_ble_eq_true rfl) ⟨Nat.le_of_ble_eq_true rfl, Nat.le_of_ble_eq_true rfl⟩ ⟨Nat.le_of_ble_eq_true rfl, Nat.le_of_ble_eq_true rfl⟩ dX1_law_61 hK hH hS (fun H locs hH hS => ?_)
        refine W.cs (cells' := 16) (slots' := 185) (by rfl) (by rfl) ?_
        refine lv_if_eq (tgt := 75) hx hb dX1_law_64 (by decide) (fun c_ => ?_) (fun c_ => ?_)
        · have hf := (if_pos c_).symm.trans hf
          cases hf
        · have hf := (if_neg c_).symm.trans hf
          cases hf
          exact x_throw htl X hXt (by decide) hl.1 hK hHs hH hS (xa_ise hK hHs hts) (by decide +kernel) q969 q970 q68 ⟨by decide, by decide⟩ ⟨by decide, by decide⟩ (by decide) (by decide) dX1_law_67 dX1_law_70 dX1_law_71 dX1_law_74
      · have hf := (if_pos c_).symm.trans hf
        cases hf
        exact x_throw htl X hXt (by decide) hl.1 hK hHs hH hS (xa_iae hK hHs hts) (by decide +kernel) q954 q955 q67 ⟨by decide, by decide⟩ ⟨by decide, by decide⟩ (by decide) (by decide) dX1_law_51 dX1_law_54 dX1_law_55 dX1_law_58
  · have hf := (if_pos c_).symm.trans hf
    cases hf
    exact x_throw htl X hXt (by decide) hl.1 hK hHs hH hS (xa_iae hK hHs hts) (by decide +kernel) q954 q955 q67 ⟨by decide, by decide⟩ ⟨by decide, by decide⟩ (by decide) (by decide) dX1_law_7 dX1_law_10 dX1_law_11 dX1_law_14
theorem cvx_X1_element : CalVX "WordBench" yX1_element cX1_element 5 (some .long) [(21, 35, 43, 310), (36, 42, 43, 310), (21, 35, 53, 312), (36, 42, 53, 312), (21, 35, 63, 314), (36, 42, 63, 314)] 2 := ⟨q998, q999, q48, q1000, by decide +kernel⟩
set_option maxHeartbeats 4000000 in
theorem met_X1_element (l : Launch) (htl : ∀ e, l.admits e → e.platform.stackTraces = false) (G : GG) (σ : SG) (N : Nat) (a0 : Nat) (a1 : Int32) (a2 : Int32) (σf : SG) (rf : Int64) (hf : f_X1_element N σ a0 a1 a2 = some (σf, rf)) : ConX l yX1_element cX1_element 5 (some .long) [(21, 35, 43, 310), (36, 42, 43, 310), (21, 35, 53, 312), (36, 42, 53, 312), (21, 35, 63, 314), (36, 42, 63, 314)] 10 10300 4 1016 G σ [.ref a0, .int a1, .int a2] σf (some (.long rf)) := by
  refine con_ofX (by decide) (Nat.le_of_ble_eq_true rfl) ?_
  intro p e s m below meth c ls X hXt hK hH hl hS
  have hHs := hH
  have hx := X.1
  have hb := X.2.1
  have hml := X.2.2.2.1
  have hown : s.vm.findClass RX1 = some m.cls := X.2.2.2.2.1
  have hts := X.2.2.2.2.2.1
  have hl : lv_has ls 5 [(0, .ref a0), (1, .int a1), (2, .int a2)] := hl
  unfold f_X1_element at hf
  refine lv_iload_n hx hb dX1_element_0 rfl (lv_at hl 1 rfl) ?_
  obtain ⟨v1, hv, hf⟩ := bd hf
  refine c_S (As := [.int a1]) (rest := []) (st1 := [.int v1]) X (met_X1_isShelf l G σ N a1 v1 hv) cs_X1_isShelf q672 rfl rfl rfl hl.1 (Nat.le_of_ble_eq_true rfl) ⟨Nat.le_of_ble_eq_true rfl, Nat.le_of_ble_eq_true rfl⟩ ⟨Nat.le_of_ble_eq_true rfl, Nat.le_of_ble_eq_true rfl⟩ dX1_element_1 hK hH hS (fun H locs hH hS => ?_)
  refine W.cs (cells' := 0) (slots' := 0) (by rfl) (by rfl) ?_
  refine lv_if_ne (tgt := 15) hx hb dX1_element_4 (by decide) (fun c_ => ?_) (fun c_ => ?_)
  · have hf := (if_neg c_).symm.trans hf
    refine lv_aload_n hx hb dX1_element_15 rfl (lv_at hl 0 rfl) ?_
    refine lv_iload_n hx hb dX1_element_16 rfl (lv_at hl 1 rfl) ?_
    obtain ⟨_, hw, hf⟩ := bd hf
    obtain ⟨v2, hv, hf⟩ := bd hf
    refine c_V (As := [.int a1]) (rest := []) (st1 := [va_rf v2]) X (met_X1_held l G σ N a0 a1 v2 hv) cv_X1_held q842 (recv1 (w := (RX1, TX1, 6)) hw hK hH rfl) rfl rfl rfl hl.1 (Nat.le_of_ble_eq_true rfl) ⟨Nat.le_of_ble_eq_true rfl, Nat.le_of_ble_eq_true rfl⟩ ⟨Nat.le_of_ble_eq_true rfl, Nat.le_of_ble_eq_true rfl⟩ dX1_element_17 hK hH hS (fun H locs hH hS => ?_)
    refine W.cs (cells' := 0) (slots' := 0) (by rfl) (by rfl) ?_
    refine q_astore_n (lv' := [(3, va_rf v2), (0, .ref a0), (1, .int a1), (2, .int a2)]) hx hb dX1_element_20 rfl hl (by decide) rfl (fun ls hl => ?_)
    refine q_aload_n hx hb dX1_element_21 rfl (lv_at hl 0 rfl) ?_
    obtain ⟨v3, hv, hf⟩ := bd hf
    refine x_instB (v := v2) X hK hH hv q849 dX1_element_22 ?_
    refine lv_if_eq (tgt := 36) hx hb dX1_element_25 (by decide) (fun c_ => ?_) (fun c_ => ?_)
    · have hf := (if_pos c_).symm.trans hf
      refine q_aload_n hx hb dX1_element_36 rfl (lv_at hl 0 rfl) ?_
      rcases v2 with _ | b4
      · dsimp only at hf
        refine lv_castN hx hb dX1_element_37 ?_
        refine lv_iload_n hx hb dX1_element_40 rfl (lv_at hl 3 rfl) ?_
        cases hf
      · dsimp only at hf
        by_cases c_ : kd σ b4 = some 1
        · have hf := (if_pos c_).symm.trans hf
          refine x_castJ X hK hH c_ q850 dX1_element_37 ?_
          refine lv_iload_n hx hb dX1_element_40 rfl (lv_at hl 3 rfl) ?_
          by_cases c_ : oL σ b4 a2 = true
          · have hf := (if_pos c_).symm.trans hf
            cases hf
          · have hf := (if_neg c_).symm.trans hf
            obtain ⟨v5, hv, hf⟩ := bd hf
            refine h_aL X hK hH hv dX1_element_41 ?_
            cases hf
            exact r_lret X dX1_element_42 (Nat.le_of_ble_eq_true rfl) (Nat.le_of_ble_eq_true rfl) rfl hH hS
        · have hf := (if_neg c_).symm.trans hf
          by_cases c_ : kd σ b4 = some 0
          · have hf := (if_pos c_).symm.trans hf
            cases hf
          · have hf := (if_neg c_).symm.trans hf
            cases hf
    · have hf := (if_neg c_).symm.trans hf
      refine q_aload_n hx hb dX1_element_28 rfl (lv_at hl 0 rfl) ?_
      rcases v2 with _ | b6
      · dsimp only at hf
        refine lv_castN hx hb dX1_element_29 ?_
        refine lv_iload_n hx hb dX1_element_32 rfl (lv_at hl 3 rfl) ?_
        cases hf
      · dsimp only at hf
        by_cases c_ : kd σ b6 = some 2
        · have hf := (if_pos c_).symm.trans hf
          refine x_castB X hK hH c_ q849 dX1_element_29 ?_
          refine lv_iload_n hx hb dX1_element_32 rfl (lv_at hl 3 rfl) ?_
          by_cases c_ : oB σ b6 a2 = true
          · have hf := (if_pos c_).symm.trans hf
            cases hf
          · have hf := (if_neg c_).symm.trans hf
            obtain ⟨v7, hv, hf⟩ := bd hf
            refine h_aB X hK hH hv dX1_element_33 ?_
            refine lv_i2l (v := (v7).toInt64) hx hb dX1_element_34 rfl ?_
            cases hf
            exact r_lret X dX1_element_35 (Nat.le_of_ble_eq_true rfl) (Nat.le_of_ble_eq_true rfl) rfl hH hS
        · have hf := (if_neg c_).symm.trans hf
          cases hf
  · have hf := (if_pos c_).symm.trans hf
    cases hf
set_option maxHeartbeats 4000000 in
theorem mett_X1_element (l : Launch) (htl : ∀ e, l.admits e → e.platform.stackTraces = false) (G : GG) (σ : SG) (N : Nat) (a0 : Nat) (a1 : Int32) (a2 : Int32) (σf : SG) (cf : String) (af : Nat) (hf : t_X1_element N σ a0 a1 a2 = some (σf, cf, af)) : ConT l yX1_element (wsW_ yX1_element cX1_element 5 (some .long) [(21, 35, 43, 310), (36, 42, 43, 310), (21, 35, 53, 312), (36, 42, 53, 312), (21, 35, 63, 314), (36, 42, 63, 314)]) 10 10300 4 1016 G σ [.ref a0, .int a1, .int a2] σf cf af := by
  refine con_ofTX (by decide) (Nat.le_of_ble_eq_true rfl) ?_
  intro p e s m below meth c ls X hXt hK hH hl hS
  have hHs := hH
  have hx := X.1
  have hb := X.2.1
  have hml := X.2.2.2.1
  have hown : s.vm.findClass RX1 = some m.cls := X.2.2.2.2.1
  have hts := X.2.2.2.2.2.1
  have hl : lv_has ls 5 [(0, .ref a0), (1, .int a1), (2, .int a2)] := hl
  unfold t_X1_element at hf
  refine lv_iload_n hx hb dX1_element_0 rfl (lv_at hl 1 rfl) ?_
  obtain ⟨v1, hv, hf⟩ := bd hf
  refine c_S (As := [.int a1]) (rest := []) (st1 := [.int v1]) X (met_X1_isShelf l G σ N a1 v1 hv) cs_X1_isShelf q672 rfl rfl rfl hl.1 (Nat.le_of_ble_eq_true rfl) ⟨Nat.le_of_ble_eq_true rfl, Nat.le_of_ble_eq_true rfl⟩ ⟨Nat.le_of_ble_eq_true rfl, Nat.le_of_ble_eq_true rfl⟩ dX1_element_1 hK hH hS (fun H locs hH hS => ?_)
  refine W.cs (cells' := 0) (slots' := 0) (by rfl) (by rfl) ?_
  refine lv_if_ne (tgt := 15) hx hb dX1_element_4 (by decide) (fun c_ => ?_) (fun c_ => ?_)
  · have hf := (if_neg c_).symm.trans hf
    refine lv_aload_n hx hb dX1_element_15 rfl (lv_at hl 0 rfl) ?_
    refine lv_iload_n hx hb dX1_element_16 rfl (lv_at hl 1 rfl) ?_
    obtain ⟨_, hw, hf⟩ := bd hf
    obtain ⟨v2, hv, hf⟩ := bd hf
    refine c_V (As := [.int a1]) (rest := []) (st1 := [va_rf v2]) X (met_X1_held l G σ N a0 a1 v2 hv) cv_X1_held q842 (recv1 (w := (RX1, TX1, 6)) hw hK hH rfl) rfl rfl rfl hl.1 (Nat.le_of_ble_eq_true rfl) ⟨Nat.le_of_ble_eq_true rfl, Nat.le_of_ble_eq_true rfl⟩ ⟨Nat.le_of_ble_eq_true rfl, Nat.le_of_ble_eq_true rfl⟩ dX1_element_17 hK hH hS (fun H locs hH hS => ?_)
    refine W.cs (cells' := 0) (slots' := 0) (by rfl) (by rfl) ?_
    refine q_astore_n (lv' := [(3, va_rf v2), (0, .ref a0), (1, .int a1), (2, .int a2)]) hx hb dX1_element_20 rfl hl (by decide) rfl (fun ls hl => ?_)
    refine q_aload_n hx hb dX1_element_21 rfl (lv_at hl 0 rfl) ?_
    obtain ⟨v3, hv, hf⟩ := bd hf
    refine x_instB (v := v2) X hK hH hv q849 dX1_element_22 ?_
    refine lv_if_eq (tgt := 36) hx hb dX1_element_25 (by decide) (fun c_ => ?_) (fun c_ => ?_)
    · have hf := (if_pos c_).symm.trans hf
      refine q_aload_n hx hb dX1_element_36 rfl (lv_at hl 0 rfl) ?_
      rcases v2 with _ | b4
      · dsimp only at hf
        refine lv_castN hx hb dX1_element_37 ?_
        refine lv_iload_n hx hb dX1_element_40 rfl (lv_at hl 3 rfl) ?_
        refine x_laldN htl X hXt (Or.inl ⟨by decide, Or.inr ⟨by decide, by decide, _, q855, Or.inl ⟨q877, rfl⟩⟩⟩) hl.1 hK hHs hH hS (by decide) ⟨by decide, by decide⟩ ⟨by decide, by decide⟩ dX1_element_41 (fun H hH hS => ?_)
        refine W.cs (cells' := 1) (slots' := 8) (by rfl) (by rfl) ?_
        refine lv_astore (lv' := [(4, .ref (σ.1)), (3, .null), (0, .ref a0), (1, .int a1), (2, .int a2)]) hx hb dX1_element_43 hl (by decide) (by first | rfl | simp [va_cat]) (fun ls hl => ?_)
        cases hf
        exact x_throw htl X hXt (by decide) hl.1 hK hHs hH hS (xa_ise hK hHs hts) (by decide +kernel) q969 q970 q68 ⟨by decide, by decide⟩ ⟨by decide, by decide⟩ (by decide) (by decide) dX1_element_45 dX1_element_48 dX1_element_49 dX1_element_52
      · dsimp only at hf
        by_cases c_ : kd σ b4 = some 1
        · have hf := (if_pos c_).symm.trans hf
          refine x_castJ X hK hH c_ q850 dX1_element_37 ?_
          refine lv_iload_n hx hb dX1_element_40 rfl (lv_at hl 3 rfl) ?_
          by_cases c_ : oL σ b4 a2 = true
          · have hf := (if_pos c_).symm.trans hf
            obtain ⟨k_, f_, he_, hk_, ho_⟩ := oL_s c_
            refine x_laldO htl X hXt (Or.inl ⟨by decide, Or.inr ⟨by decide, by decide, _, q855, Or.inr ⟨by decide +kernel, Or.inl ⟨by decide, Or.inr ⟨by decide, by decide, _, q880, Or.inr ⟨by decide +kernel, Or.inl ⟨by decide, Or.inr ⟨by decide, by decide, _, q1001, Or.inl ⟨q838, rfl⟩⟩⟩⟩⟩⟩⟩⟩⟩) hl.1 hK hHs hH hS (by decide) he_ hk_ ho_ ⟨by decide, by decide⟩ ⟨by decide, by decide⟩ dX1_element_41 (fun H hH hS => ?_)
            refine W.cs (cells' := 3) (slots' := 222) (by rfl) (by rfl) ?_
            refine lv_astore (lv' := [(4, .ref (σ.1 + 2)), (3, .ref b4), (0, .ref a0), (1, .int a1), (2, .int a2)]) hx hb dX1_element_63 hl (by decide) rfl (fun ls hl => ?_)
            cases hf
            exact x_throw htl X hXt (by decide) hl.1 hK hHs hH hS (xa_ise hK hHs hts) (by decide +kernel) q969 q970 q68 ⟨by decide, by decide⟩ ⟨by decide, by decide⟩ (by decide) (by decide) dX1_element_65 dX1_element_68 dX1_element_69 dX1_element_72
          · have hf := (if_neg c_).symm.trans hf
            cases hf
        · have hf := (if_neg c_).symm.trans hf
          by_cases c_ : kd σ b4 = some 0
          · have hf := (if_pos c_).symm.trans hf
            refine x_castCJ htl X hXt (Or.inl ⟨by decide, Or.inr ⟨by decide, by decide, _, q855, Or.inr ⟨by decide +kernel, Or.inl ⟨by decide, Or.inr ⟨by decide, by decide, _, q880, Or.inl ⟨q892, rfl⟩⟩⟩⟩⟩⟩) hl.1 hK hHs hH hS (Nat.le_of_ble_eq_true rfl) c_ q850 ⟨by decide, by decide⟩ ⟨by decide, by decide⟩ dX1_element_37 (fun H hH hS => ?_)
            refine W.cs (cells' := 3) (slots' := 1010) (by rfl) (by rfl) ?_
            refine lv_astore (lv' := [(4, .ref (σ.1 + 2)), (3, .ref b4), (0, .ref a0), (1, .int a1), (2, .int a2)]) hx hb dX1_element_53 hl (by decide) rfl (fun ls hl => ?_)
            cases hf
            exact x_throw htl X hXt (by decide) hl.1 hK hHs hH hS (xa_ise hK hHs hts) (by decide +kernel) q969 q970 q68 ⟨by decide, by decide⟩ ⟨by decide, by decide⟩ (by decide) (by decide) dX1_element_55 dX1_element_58 dX1_element_59 dX1_element_62
          · have hf := (if_neg c_).symm.trans hf
            cases hf
    · have hf := (if_neg c_).symm.trans hf
      refine q_aload_n hx hb dX1_element_28 rfl (lv_at hl 0 rfl) ?_
      rcases v2 with _ | b6
      · dsimp only at hf
        refine lv_castN hx hb dX1_element_29 ?_
        refine lv_iload_n hx hb dX1_element_32 rfl (lv_at hl 3 rfl) ?_
        cases hf
      · dsimp only at hf
        by_cases c_ : kd σ b6 = some 2
        · have hf := (if_pos c_).symm.trans hf
          refine x_castB X hK hH c_ q849 dX1_element_29 ?_
          refine lv_iload_n hx hb dX1_element_32 rfl (lv_at hl 3 rfl) ?_
          by_cases c_ : oB σ b6 a2 = true
          · have hf := (if_pos c_).symm.trans hf
            obtain ⟨k_, f_, he_, hk_, ho_⟩ := oB_s c_
            refine x_baldO htl X hXt (Or.inr ⟨by decide, by decide, _, q855, Or.inr ⟨by decide +kernel, Or.inl ⟨by decide, Or.inr ⟨by decide, by decide, _, q880, Or.inr ⟨by decide +kernel, Or.inl ⟨by decide, Or.inr ⟨by decide, by decide, _, q1001, Or.inl ⟨q838, rfl⟩⟩⟩⟩⟩⟩⟩⟩) hl.1 hK hHs hH hS (by decide) he_ hk_ ho_ ⟨by decide, by decide⟩ ⟨by decide, by decide⟩ dX1_element_33 (fun H hH hS => ?_)
            refine W.cs (cells' := 3) (slots' := 222) (by rfl) (by rfl) ?_
            refine lv_astore (lv' := [(4, .ref (σ.1 + 2)), (3, .ref b6), (0, .ref a0), (1, .int a1), (2, .int a2)]) hx hb dX1_element_63 hl (by decide) rfl (fun ls hl => ?_)
            cases hf
            exact x_throw htl X hXt (by decide) hl.1 hK hHs hH hS (xa_ise hK hHs hts) (by decide +kernel) q969 q970 q68 ⟨by decide, by decide⟩ ⟨by decide, by decide⟩ (by decide) (by decide) dX1_element_65 dX1_element_68 dX1_element_69 dX1_element_72
          · have hf := (if_neg c_).symm.trans hf
            cases hf
        · have hf := (if_neg c_).symm.trans hf
          cases hf
  · have hf := (if_pos c_).symm.trans hf
    cases hf
    exact x_throw htl X hXt (by decide) hl.1 hK hHs hH hS (xa_iae hK hHs hts) (by decide +kernel) q954 q955 q67 ⟨by decide, by decide⟩ ⟨by decide, by decide⟩ (by decide) (by decide) dX1_element_7 dX1_element_10 dX1_element_11 dX1_element_14
theorem cvx_X1_heft : CalVX "WordBench" yX1_heft cX1_heft 3 (some .int) [(9, 20, 21, 310), (9, 20, 25, 312)] 1 := ⟨q852, q853, q48, q854, by decide +kernel⟩
set_option maxHeartbeats 4000000 in
theorem met_X1_heft (l : Launch) (htl : ∀ e, l.admits e → e.platform.stackTraces = false) (G : GG) (σ : SG) (N : Nat) (a0 : Nat) (a1 : Int32) (σf : SG) (rf : Int32) (hf : f_X1_heft N σ a0 a1 = some (σf, rf)) : ConX l yX1_heft cX1_heft 3 (some .int) [(9, 20, 21, 310), (9, 20, 25, 312)] 10 10300 3 1010 G σ [.ref a0, .int a1] σf (some (.int rf)) := by
  refine con_ofX (by decide) (Nat.le_of_ble_eq_true rfl) ?_
  intro p e s m below meth c ls X hXt hK hH hl hS
  have hHs := hH
  have hx := X.1
  have hb := X.2.1
  have hml := X.2.2.2.1
  have hown : s.vm.findClass RX1 = some m.cls := X.2.2.2.2.1
  have hts := X.2.2.2.2.2.1
  have hl : lv_has ls 3 [(0, .ref a0), (1, .int a1)] := hl
  unfold f_X1_heft at hf
  refine lv_iload_n hx hb dX1_heft_0 rfl (lv_at hl 1 rfl) ?_
  obtain ⟨v1, hv, hf⟩ := bd hf
  refine c_S (As := [.int a1]) (rest := []) (st1 := [.int v1]) X (met_X1_isShelf l G σ N a1 v1 hv) cs_X1_isShelf q672 rfl rfl rfl hl.1 (Nat.le_of_ble_eq_true rfl) ⟨Nat.le_of_ble_eq_true rfl, Nat.le_of_ble_eq_true rfl⟩ ⟨Nat.le_of_ble_eq_true rfl, Nat.le_of_ble_eq_true rfl⟩ dX1_heft_1 hK hH hS (fun H locs hH hS => ?_)
  refine W.cs (cells' := 0) (slots' := 0) (by rfl) (by rfl) ?_
  refine lv_if_ne (tgt := 9) hx hb dX1_heft_4 (by decide) (fun c_ => ?_) (fun c_ => ?_)
  · have hf := (if_neg c_).symm.trans hf
    refine lv_aload_n hx hb dX1_heft_9 rfl (lv_at hl 0 rfl) ?_
    refine lv_iload_n hx hb dX1_heft_10 rfl (lv_at hl 1 rfl) ?_
    obtain ⟨_, hw, hf⟩ := bd hf
    obtain ⟨v2, hv, hf⟩ := bd hf
    refine c_V (As := [.int a1]) (rest := []) (st1 := [va_rf v2]) X (met_X1_held l G σ N a0 a1 v2 hv) cv_X1_held q842 (recv1 (w := (RX1, TX1, 6)) hw hK hH rfl) rfl rfl rfl hl.1 (Nat.le_of_ble_eq_true rfl) ⟨Nat.le_of_ble_eq_true rfl, Nat.le_of_ble_eq_true rfl⟩ ⟨Nat.le_of_ble_eq_true rfl, Nat.le_of_ble_eq_true rfl⟩ dX1_heft_11 hK hH hS (fun H locs hH hS => ?_)
    refine W.cs (cells' := 0) (slots' := 0) (by rfl) (by rfl) ?_
    rcases v2 with _ | b3
    · dsimp only at hf
      refine lv_castN hx hb dX1_heft_14 ?_
      refine x_virtN (As := []) htl X hXt (Or.inr ⟨by decide, by decide, _, q855, Or.inl ⟨q877, rfl⟩⟩) hl.1 hK hHs hH hS (by decide) (va_Decl.of (hts _ q895) (hts _ q910)) q896 q894 (by decide +kernel) (by decide +kernel) rfl rfl ⟨by decide, by decide⟩ ⟨by decide, by decide⟩ dX1_heft_17 (fun H hH hS => ?_)
      refine W.cs (cells' := 1) (slots' := 8) (by rfl) (by rfl) ?_
      refine lv_astore_n (lv' := [(2, .ref (σ.1)), (0, .ref a0), (1, .int a1)]) hx hb dX1_heft_21 rfl hl (by decide) rfl (fun ls hl => ?_)
      refine lv_bipush (v := (-11 : Int32)) hx hb dX1_heft_22 (by decide) ?_
      cases hf
      exact r_iret X dX1_heft_24 (Nat.le_of_ble_eq_true rfl) (Nat.le_of_ble_eq_true rfl) rfl hH hS
    · dsimp only at hf
      by_cases c_ : kd σ b3 = some 0
      · have hf := (if_pos c_).symm.trans hf
        refine x_castC X hK hH c_ q550 dX1_heft_14 ?_
        obtain ⟨v4, hv, hf⟩ := bd hf
        refine dr_X4_heft N (rest := []) (st1 := [.int v4]) X q894 hv rfl rfl hl.1 (Nat.le_of_ble_eq_true rfl) ⟨Nat.le_of_ble_eq_true rfl, Nat.le_of_ble_eq_true rfl⟩ ⟨Nat.le_of_ble_eq_true rfl, Nat.le_of_ble_eq_true rfl⟩ dX1_heft_17 hK hH hS (fun H locs hH hS => ?_)
        refine W.cs (cells' := 0) (slots' := 0) (by rfl) (by rfl) ?_
        cases hf
        exact r_iret X dX1_heft_20 (Nat.le_of_ble_eq_true rfl) (Nat.le_of_ble_eq_true rfl) rfl hH hS
      · have hf := (if_neg c_).symm.trans hf
        by_cases c_ : kd σ b3 = some 1 ∨ kd σ b3 = some 2
        · have hf := (if_pos c_).symm.trans hf
          refine x_castAC htl X hXt (Or.inr ⟨by decide, by decide, _, q855, Or.inr ⟨by decide +kernel, Or.inr ⟨by decide, by decide, _, q880, Or.inl ⟨q892, rfl⟩⟩⟩⟩) hl.1 hK hHs hH hS (Nat.le_of_ble_eq_true rfl) c_ q550 ⟨by decide, by decide⟩ ⟨by decide, by decide⟩ dX1_heft_14 (fun H hH hS => ?_)
          refine W.cs (cells' := 3) (slots' := 1010) (by rfl) (by rfl) ?_
          refine lv_astore_n (lv' := [(2, .ref (σ.1 + 2)), (0, .ref a0), (1, .int a1)]) hx hb dX1_heft_25 rfl hl (by decide) rfl (fun ls hl => ?_)
          refine lv_bipush (v := (-12 : Int32)) hx hb dX1_heft_26 (by decide) ?_
          cases hf
          exact r_iret X dX1_heft_28 (Nat.le_of_ble_eq_true rfl) (Nat.le_of_ble_eq_true rfl) rfl hH hS
        · have hf := (if_neg c_).symm.trans hf
          cases hf
  · have hf := (if_pos c_).symm.trans hf
    refine lv_iconst (v := (-1 : Int32)) hx hb dX1_heft_7 (by decide) ?_
    cases hf
    exact r_iret X dX1_heft_8 (Nat.le_of_ble_eq_true rfl) (Nat.le_of_ble_eq_true rfl) rfl hH hS
