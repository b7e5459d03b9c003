/-! ===== XW2: sortOf, copy ===== -/
set_option maxRecDepth 100000
theorem cs_X1_sortOf : CalS yX1_sortOf cX1_sortOf 1 (some .int) 1 := ⟨q847, q48, q848, by decide +kernel, by decide +kernel, by decide +kernel⟩
theorem met_X1_sortOf (l : Launch) (G : GG) (σ : SG) (N : Nat) (v : Option Nat) (rf : Int32) (hf : f_X1_sortOf N σ v = some rf) : Con l yX1_sortOf cX1_sortOf 1 (some .int) 0 0 0 G σ [va_rf v] σ (some (.int rf)) := by
  unfold f_X1_sortOf at hf
  obtain ⟨v1, hv1, hf⟩ := bd hf
  rcases v with _ | b
  · refine con_of (av := [.null]) (by decide) (Nat.le_of_ble_eq_true rfl) ?_
    intro p e s m below meth c ls X hK hH hl hS
    have hx := X.1
    have hb := X.2.1
    have hl : lv_has ls 1 [(0, .null)] := hl
    refine lv_aload_n hx hb dX1_sortOf_0 rfl (lv_at hl 0 rfl) ?_
    refine x_instB (v := none) X hK hH hv1 q849 dX1_sortOf_1 ?_
    refine lv_if_eq (tgt := 11) hx hb dX1_sortOf_4 (by decide) (fun c_ => ?_) (fun c_ => ?_)
    · have hf := (if_pos c_).symm.trans hf
      obtain ⟨v2, hv2, hf⟩ := bd hf
      refine lv_aload_n hx hb dX1_sortOf_11 rfl (lv_at hl 0 rfl) ?_
      refine x_instJ (v := none) X hK hH hv2 q850 dX1_sortOf_12 ?_
      refine lv_if_eq (tgt := 22) hx hb dX1_sortOf_15 (by decide) (fun c_ => ?_) (fun c_ => ?_)
      · have hf := (if_pos c_).symm.trans hf
        refine lv_aload_n hx hb dX1_sortOf_22 rfl (lv_at hl 0 rfl) ?_
        refine lv_ifnonnullN hx hb dX1_sortOf_23 ?_
        refine lv_iconst (v := (0 : Int32)) hx hb dX1_sortOf_26 (by decide) ?_
        refine lv_goto (tgt := 31) hx hb dX1_sortOf_27 (by decide) ?_
        cases hf
        exact r_iret X dX1_sortOf_31 (Nat.le_of_ble_eq_true rfl) (Nat.le_of_ble_eq_true rfl) rfl hH hS
      · have hf := (if_neg c_).symm.trans hf
        refine lv_iconst (v := (4 : Int32)) hx hb dX1_sortOf_18 (by decide) ?_
        refine lv_goto (tgt := 31) hx hb dX1_sortOf_19 (by decide) ?_
        cases hf
        exact r_iret X dX1_sortOf_31 (Nat.le_of_ble_eq_true rfl) (Nat.le_of_ble_eq_true rfl) rfl hH hS
    · have hf := (if_neg c_).symm.trans hf
      refine lv_iconst (v := (3 : Int32)) hx hb dX1_sortOf_7 (by decide) ?_
      refine lv_goto (tgt := 31) hx hb dX1_sortOf_8 (by decide) ?_
      cases hf
      exact r_iret X dX1_sortOf_31 (Nat.le_of_ble_eq_true rfl) (Nat.le_of_ble_eq_true rfl) rfl hH hS
  · refine con_of (av := [.ref b]) (by decide) (Nat.le_of_ble_eq_true rfl) ?_
    intro p e s m below meth c ls X hK hH hl hS
    have hx := X.1
    have hb := X.2.1
    have hl : lv_has ls 1 [(0, .ref b)] := hl
    refine lv_aload_n hx hb dX1_sortOf_0 rfl (lv_at hl 0 rfl) ?_
    refine x_instB (v := some b) X hK hH hv1 q849 dX1_sortOf_1 ?_
    refine lv_if_eq (tgt := 11) hx hb dX1_sortOf_4 (by decide) (fun c_ => ?_) (fun c_ => ?_)
    · have hf := (if_pos c_).symm.trans hf
      obtain ⟨v2, hv2, hf⟩ := bd hf
      refine lv_aload_n hx hb dX1_sortOf_11 rfl (lv_at hl 0 rfl) ?_
      refine x_instJ (v := some b) X hK hH hv2 q850 dX1_sortOf_12 ?_
      refine lv_if_eq (tgt := 22) hx hb dX1_sortOf_15 (by decide) (fun c_ => ?_) (fun c_ => ?_)
      · have hf := (if_pos c_).symm.trans hf
        refine lv_aload_n hx hb dX1_sortOf_22 rfl (lv_at hl 0 rfl) ?_
        refine lv_ifnonnull (tgt := 30) hx hb dX1_sortOf_23 (by decide) ?_
        refine lv_iconst (v := (1 : Int32)) hx hb dX1_sortOf_30 (by decide) ?_
        cases hf
        exact r_iret X dX1_sortOf_31 (Nat.le_of_ble_eq_true rfl) (Nat.le_of_ble_eq_true rfl) rfl hH hS
      · have hf := (if_neg c_).symm.trans hf
        refine lv_iconst (v := (4 : Int32)) hx hb dX1_sortOf_18 (by decide) ?_
        refine lv_goto (tgt := 31) hx hb dX1_sortOf_19 (by decide) ?_
        cases hf
        exact r_iret X dX1_sortOf_31 (Nat.le_of_ble_eq_true rfl) (Nat.le_of_ble_eq_true rfl) rfl hH hS
    · have hf := (if_neg c_).symm.trans hf
      refine lv_iconst (v := (3 : Int32)) hx hb dX1_sortOf_7 (by decide) ?_
      refine lv_goto (tgt := 31) hx hb dX1_sortOf_8 (by decide) ?_
      cases hf
      exact r_iret X dX1_sortOf_31 (Nat.le_of_ble_eq_true rfl) (Nat.le_of_ble_eq_true rfl) rfl hH hS
theorem cvx_X1_copy : CalVX "WordBench" yX1_copy cX1_copy 11 (some .int) [(73, 87, 88, 320)] 5 := ⟨q820, q821, q48, q822, by decide +kernel⟩
set_option maxHeartbeats 4000000 in
theorem met_X1_copy (l : Launch) (htl : ∀ e, l.admits e → e.platform.stackTraces = false) (G : GG) (σ : SG) (N : Nat) (a0 : Nat) (a1 : Int32) (a2 : Int32) (a3 : Int32) (a4 : Int32) (a5 : Int32) (σf : SG) (rf : Int32) (hf : f_X1_copy N σ a0 a1 a2 a3 a4 a5 = some (σf, rf)) : ConX l yX1_copy cX1_copy 11 (some .int) [(73, 87, 88, 320)] 10 10300 3 1010 G σ [.ref a0, .int a1, .int a2, .int a3, .int a4, .int a5] σf (some (.int rf)) := by
  refine con_ofX (by decide) (Nat.le_of_ble_eq_true rfl) ?_
  intro p e s m below meth c ls X hXt hK hH hl hS
  have hHs := hH
  have hx := X.1
  have hb := X.2.1
  have hml := X.2.2.2.1
  have hown : s.vm.findClass RX1 = some m.cls := X.2.2.2.2.1
  have hts := X.2.2.2.2.2.1
  have hl : lv_has ls 11 [(0, .ref a0), (1, .int a1), (2, .int a2), (3, .int a3), (4, .int a4), (5, .int a5)] := hl
  unfold f_X1_copy at hf
  refine lv_iload_n hx hb dX1_copy_0 rfl (lv_at hl 1 rfl) ?_
  obtain ⟨v1, hv, hf⟩ := bd hf
  refine c_S (As := [.int a1]) (rest := []) (st1 := [.int v1]) X (met_X1_isShelf l G σ N a1 v1 hv) cs_X1_isShelf q672 rfl rfl rfl hl.1 (Nat.le_of_ble_eq_true rfl) ⟨Nat.le_of_ble_eq_true rfl, Nat.le_of_ble_eq_true rfl⟩ ⟨Nat.le_of_ble_eq_true rfl, Nat.le_of_ble_eq_true rfl⟩ dX1_copy_1 hK hH hS (fun H locs hH hS => ?_)
  refine W.cs (cells' := 0) (slots' := 0) (by rfl) (by rfl) ?_
  refine lv_if_eq (tgt := 14) hx hb dX1_copy_4 (by decide) (fun c_ => ?_) (fun c_ => ?_)
  · have hf := (if_pos c_).symm.trans hf
    refine lv_iconst (v := (-1 : Int32)) hx hb dX1_copy_14 (by decide) ?_
    cases hf
    exact r_iret X dX1_copy_15 (Nat.le_of_ble_eq_true rfl) (Nat.le_of_ble_eq_true rfl) rfl hH hS
  have hf := (if_neg c_).symm.trans hf
  refine lv_iload_n hx hb dX1_copy_7 rfl (lv_at hl 3 rfl) ?_
  obtain ⟨v2, hv, hf⟩ := bd hf
  refine c_S (As := [.int a3]) (rest := []) (st1 := [.int v2]) X (met_X1_isShelf l G σ N a3 v2 hv) cs_X1_isShelf q672 rfl rfl rfl hl.1 (Nat.le_of_ble_eq_true rfl) ⟨Nat.le_of_ble_eq_true rfl, Nat.le_of_ble_eq_true rfl⟩ ⟨Nat.le_of_ble_eq_true rfl, Nat.le_of_ble_eq_true rfl⟩ dX1_copy_8 hK hH hS (fun H locs hH hS => ?_)
  refine W.cs (cells' := 0) (slots' := 0) (by rfl) (by rfl) ?_
  refine lv_if_ne (tgt := 16) hx hb dX1_copy_11 (by decide) (fun c_ => ?_) (fun c_ => ?_)
  rotate_left
  · have hf := (if_pos c_).symm.trans hf
    refine lv_iconst (v := (-1 : Int32)) hx hb dX1_copy_14 (by decide) ?_
    cases hf
    exact r_iret X dX1_copy_15 (Nat.le_of_ble_eq_true rfl) (Nat.le_of_ble_eq_true rfl) rfl hH hS
  have hf := (if_neg c_).symm.trans hf
  refine lv_aload_n hx hb dX1_copy_16 rfl (lv_at hl 0 rfl) ?_
  refine lv_iload_n hx hb dX1_copy_17 rfl (lv_at hl 1 rfl) ?_
  obtain ⟨_, hw, hf⟩ := bd hf
  obtain ⟨v3, hv3, hf⟩ := bd hf
  refine c_V (As := [.int a1]) (rest := []) (st1 := [va_rf v3]) X (met_X1_held l G σ N a0 a1 v3 hv3) cv_X1_held q842 (recv1 (w := (RX1, TX1, 6)) hw hK hH rfl) rfl rfl rfl hl.1 (Nat.le_of_ble_eq_true rfl) ⟨Nat.le_of_ble_eq_true rfl, Nat.le_of_ble_eq_true rfl⟩ ⟨Nat.le_of_ble_eq_true rfl, Nat.le_of_ble_eq_true rfl⟩ dX1_copy_18 hK hH hS (fun H locs hH hS => ?_)
  refine W.cs (cells' := 0) (slots' := 0) (by rfl) (by rfl) ?_
  refine q_astore (lv' := [(6, va_rf v3), (0, .ref a0), (1, .int a1), (2, .int a2), (3, .int a3), (4, .int a4), (5, .int a5)]) hx hb dX1_copy_21 hl (by decide) rfl (fun ls hl => ?_)
  refine lv_aload_n hx hb dX1_copy_23 rfl (lv_at hl 1 rfl) ?_
  refine lv_iload_n hx hb dX1_copy_24 rfl (lv_at hl 4 rfl) ?_
  obtain ⟨_, hw, hf⟩ := bd hf
  obtain ⟨v4, hv4, hf⟩ := bd hf
  refine c_V (As := [.int a3]) (rest := []) (st1 := [va_rf v4]) X (met_X1_held l G σ N a0 a3 v4 hv4) cv_X1_held q842 (recv1 (w := (RX1, TX1, 6)) hw hK hH rfl) rfl rfl rfl hl.1 (Nat.le_of_ble_eq_true rfl) ⟨Nat.le_of_ble_eq_true rfl, Nat.le_of_ble_eq_true rfl⟩ ⟨Nat.le_of_ble_eq_true rfl, Nat.le_of_ble_eq_true rfl⟩ dX1_copy_25 hK hH hS (fun H locs hH hS => ?_)
  refine W.cs (cells' := 0) (slots' := 0) (by rfl) (by rfl) ?_
  refine q_astore (lv' := [(7, va_rf v4), (6, va_rf v3), (0, .ref a0), (1, .int a1), (2, .int a2), (3, .int a3), (4, .int a4), (5, .int a5)]) hx hb dX1_copy_28 hl (by decide) rfl (fun ls hl => ?_)
  refine q_aload hx hb dX1_copy_30 (lv_at hl 1 rfl) ?_
  obtain ⟨v5, hv5, hf⟩ := bd hf
  refine c_S (As := [va_rf v3]) (rest := []) (st1 := [.int v5]) X (met_X1_sortOf l G σ N v3 v5 hv5) cs_X1_sortOf q846 rfl rfl rfl hl.1 (Nat.le_of_ble_eq_true rfl) ⟨Nat.le_of_ble_eq_true rfl, Nat.le_of_ble_eq_true rfl⟩ ⟨Nat.le_of_ble_eq_true rfl, Nat.le_of_ble_eq_true rfl⟩ dX1_copy_32 hK hH hS (fun H locs hH hS => ?_)
  refine W.cs (cells' := 0) (slots' := 0) (by rfl) (by rfl) ?_
  refine lv_istore (lv' := [(8, .int v5), (7, va_rf v4), (6, va_rf v3), (0, .ref a0), (1, .int a1), (2, .int a2), (3, .int a3), (4, .int a4), (5, .int a5)]) hx hb dX1_copy_35 hl (by decide) rfl (fun ls hl => ?_)
  refine q_aload hx hb dX1_copy_37 (lv_at hl 1 rfl) ?_
  obtain ⟨v6, hv6, hf⟩ := bd hf
  refine c_S (As := [va_rf v4]) (rest := []) (st1 := [.int v6]) X (met_X1_sortOf l G σ N v4 v6 hv6) cs_X1_sortOf q846 rfl rfl rfl hl.1 (Nat.le_of_ble_eq_true rfl) ⟨Nat.le_of_ble_eq_true rfl, Nat.le_of_ble_eq_true rfl⟩ ⟨Nat.le_of_ble_eq_true rfl, Nat.le_of_ble_eq_true rfl⟩ dX1_copy_39 hK hH hS (fun H locs hH hS => ?_)
  refine W.cs (cells' := 0) (slots' := 0) (by rfl) (by rfl) ?_
  refine lv_istore (lv' := [(9, .int v6), (8, .int v5), (7, va_rf v4), (6, va_rf v3), (0, .ref a0), (1, .int a1), (2, .int a2), (3, .int a3), (4, .int a4), (5, .int a5)]) hx hb dX1_copy_42 hl (by decide) rfl (fun ls hl => ?_)
  refine lv_iload hx hb dX1_copy_44 (lv_at hl 1 rfl) ?_
  refine lv_if_eq (tgt := 54) hx hb dX1_copy_46 (by decide) (fun c_ => ?_) (fun c_ => ?_)
  · have hf := (if_pos c_).symm.trans hf
    refine lv_bipush (v := (-11 : Int32)) hx hb dX1_copy_54 (by decide) ?_
    cases hf
    exact r_iret X dX1_copy_56 (Nat.le_of_ble_eq_true rfl) (Nat.le_of_ble_eq_true rfl) rfl hH hS
  have hf := (if_neg c_).symm.trans hf
  refine lv_iload hx hb dX1_copy_49 (lv_at hl 0 rfl) ?_
  refine lv_if_ne (tgt := 57) hx hb dX1_copy_51 (by decide) (fun c_ => ?_) (fun c_ => ?_)
  rotate_left
  · have hf := (if_pos c_).symm.trans hf
    refine lv_bipush (v := (-11 : Int32)) hx hb dX1_copy_54 (by decide) ?_
    cases hf
    exact r_iret X dX1_copy_56 (Nat.le_of_ble_eq_true rfl) (Nat.le_of_ble_eq_true rfl) rfl hH hS
  have hf := (if_neg c_).symm.trans hf
  refine lv_iload hx hb dX1_copy_57 (lv_at hl 1 rfl) ?_
  refine lv_iconst (v := (1 : Int32)) hx hb dX1_copy_59 (by decide) ?_
  refine lv_icmp_eq (tgt := 70) hx hb dX1_copy_60 (by decide) (fun c_ => ?_) (fun c_ => ?_)
  · have hf := (if_pos c_).symm.trans hf
    refine lv_bipush (v := (-12 : Int32)) hx hb dX1_copy_70 (by decide) ?_
    cases hf
    exact r_iret X dX1_copy_72 (Nat.le_of_ble_eq_true rfl) (Nat.le_of_ble_eq_true rfl) rfl hH hS
  have hf := (if_neg c_).symm.trans hf
  refine lv_iload hx hb dX1_copy_63 (lv_at hl 1 rfl) ?_
  refine lv_iload hx hb dX1_copy_65 (lv_at hl 0 rfl) ?_
  refine lv_icmp_eq (tgt := 73) hx hb dX1_copy_67 (by decide) (fun c_ => ?_) (fun c_ => ?_)
  rotate_left
  · have hf := (if_neg c_).symm.trans hf
    refine lv_bipush (v := (-12 : Int32)) hx hb dX1_copy_70 (by decide) ?_
    cases hf
    exact r_iret X dX1_copy_72 (Nat.le_of_ble_eq_true rfl) (Nat.le_of_ble_eq_true rfl) rfl hH hS
  have hf := (if_pos c_).symm.trans hf
  obtain ⟨b1, h1, hf⟩ := bd hf
  obtain ⟨b2, h2, hf⟩ := bd hf
  subst h1
  subst h2
  refine q_aload hx hb dX1_copy_73 (lv_at hl 3 rfl) ?_
  refine lv_iload_n hx hb dX1_copy_75 rfl (lv_at hl 6 rfl) ?_
  refine q_aload hx hb dX1_copy_76 (lv_at hl 2 rfl) ?_
  refine lv_iload hx hb dX1_copy_78 (lv_at hl 8 rfl) ?_
  refine lv_iload hx hb dX1_copy_80 (lv_at hl 9 rfl) ?_
  refine W.eq (g2 := F0 m 82 ls [.int a5, .int a4, .ref b2, .int a2, .ref b1]) rfl ?_
  by_cases c_ : cpO σ b1 a2 b2 a4 a5 = true
  · have hf := (if_pos c_).symm.trans hf
    refine x_cpO (rest := []) htl X hXt (Or.inr ⟨by decide, by decide, _, q823, Or.inl ⟨q1421, rfl⟩⟩) hl.1 hK hHs hH hS (by decide) c_ q246 ⟨by decide, by decide⟩ ⟨by decide, by decide⟩ dX1_copy_82 (fun H hH hS => ?_)
    refine W.cs (cells' := 3) (slots' := 1010) (by rfl) (by rfl) ?_
    refine lv_astore (lv' := [(10, .ref (σ.1 + 2)), (9, .int v6), (8, .int v5), (7, .ref b2), (6, .ref b1), (0, .ref a0), (1, .int a1), (2, .int a2), (3, .int a3), (4, .int a4), (5, .int a5)]) hx hb dX1_copy_88 hl (by decide) rfl (fun ls hl => ?_)
    refine lv_bipush (v := (-13 : Int32)) hx hb dX1_copy_90 (by decide) ?_
    cases hf
    exact r_iret X dX1_copy_92 (Nat.le_of_ble_eq_true rfl) (Nat.le_of_ble_eq_true rfl) rfl hH hS
  · have hf := (if_neg c_).symm.trans hf
    obtain ⟨t, ht, hf⟩ := bd hf
    refine h_cpA (rest := []) X hK hH hS ht q246 hl.1 (Nat.le_of_ble_eq_true rfl) ⟨by decide, by decide⟩ dX1_copy_82 (fun H locs hH hS => ?_)
    refine lv_iload hx hb dX1_copy_85 (lv_at hl 9 rfl) ?_
    cases hf
    exact r_iret X dX1_copy_87 (Nat.le_of_ble_eq_true rfl) (Nat.le_of_ble_eq_true rfl) rfl hH hS
