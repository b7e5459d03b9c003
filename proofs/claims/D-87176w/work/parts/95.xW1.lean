/-! ===== XW: their walks ===== -/
set_option maxRecDepth 100000
theorem cu_fail : CalU "WordBench$Code" "WordBench$List" ⟨"WordBench$Code", "failure", "()LWordBench$Tossed;"⟩ yX4_failure cX4_failure 1 (some (.object "WordBench$Tossed")) 0 := ⟨q918, q941, q917, q944, q58, by decide +kernel, by decide +kernel, by decide +kernel⟩
theorem cvx_X1_toss : CalVX "WordBench" yX1_toss cX1_toss 3 (some .int) [(20, 32, 32, 329), (20, 32, 38, 310), (20, 32, 42, 312)] 1 := ⟨q912, q913, q48, q914, by decide +kernel⟩
set_option maxHeartbeats 4000000 in
theorem met_X1_toss (l : Launch) (htl : ∀ e, l.admits e → e.platform.stackTraces = false) (G : GG) (σ : SG) (N : Nat) (a0 : Nat) (a1 : Int32) (σf : SG) (rf : Int32) (hf : f_X1_toss N σ a0 a1 = some (σf, rf)) : ConX l yX1_toss cX1_toss 3 (some .int) [(20, 32, 32, 329), (20, 32, 38, 310), (20, 32, 42, 312)] 10 10300 3 1010 G σ [.ref a0, .int a1] σf (some (.int rf)) := by
  refine con_ofX (by decide) (Nat.le_of_ble_eq_true rfl) ?_
  intro p e s m below meth c ls X hXt hK hH hl hS
  have hHs := hH
  have hx := X.1
  have hb := X.2.1
  have hml := X.2.2.2.1
  have hown : s.vm.findClass RX1 = some m.cls := X.2.2.2.2.1
  have hts := X.2.2.2.2.2.1
  have hl : lv_has ls 3 [(0, .ref a0), (1, .int a1)] := hl
  unfold f_X1_toss at hf
  refine lv_iload_n hx hb dX1_toss_0 rfl (lv_at hl 1 rfl) ?_
  obtain ⟨v1, hv, hf⟩ := bd hf
  refine c_S (As := [.int a1]) (rest := []) (st1 := [.int v1]) X (met_X1_isShelf l G σ N a1 v1 hv) cs_X1_isShelf q672 rfl rfl rfl hl.1 (Nat.le_of_ble_eq_true rfl) ⟨Nat.le_of_ble_eq_true rfl, Nat.le_of_ble_eq_true rfl⟩ ⟨Nat.le_of_ble_eq_true rfl, Nat.le_of_ble_eq_true rfl⟩ dX1_toss_1 hK hH hS (fun H locs hH hS => ?_)
  refine W.cs (cells' := 0) (slots' := 0) (by rfl) (by rfl) ?_
  refine lv_if_ne (tgt := 9) hx hb dX1_toss_4 (by decide) (fun c_ => ?_) (fun c_ => ?_)
  · have hf := (if_neg c_).symm.trans hf
    refine lv_aload_n hx hb dX1_toss_9 rfl (lv_at hl 0 rfl) ?_
    refine lv_iload_n hx hb dX1_toss_10 rfl (lv_at hl 1 rfl) ?_
    obtain ⟨_, hw, hf⟩ := bd hf
    obtain ⟨v2, hv, hf⟩ := bd hf
    refine c_V (As := [.int a1]) (rest := []) (st1 := [va_rf v2]) X (met_X1_held l G σ N a0 a1 v2 hv) cv_X1_held q842 (recv1 (w := (RX1, TX1, 6)) hw hK hH rfl) rfl rfl rfl hl.1 (Nat.le_of_ble_eq_true rfl) ⟨Nat.le_of_ble_eq_true rfl, Nat.le_of_ble_eq_true rfl⟩ ⟨Nat.le_of_ble_eq_true rfl, Nat.le_of_ble_eq_true rfl⟩ dX1_toss_11 hK hH hS (fun H locs hH hS => ?_)
    refine W.cs (cells' := 0) (slots' := 0) (by rfl) (by rfl) ?_
    rcases v2 with _ | b3
    · dsimp only at hf
      refine lv_ifnonnullN hx hb dX1_toss_14 ?_
      refine lv_bipush (v := (-11 : Int32)) hx hb dX1_toss_17 (by decide) ?_
      cases hf
      exact r_iret X dX1_toss_19 (Nat.le_of_ble_eq_true rfl) (Nat.le_of_ble_eq_true rfl) rfl hH hS
    · dsimp only at hf
      refine lv_ifnonnull (tgt := 20) hx hb dX1_toss_14 (by decide) ?_
      refine lv_aload_n hx hb dX1_toss_20 rfl (lv_at hl 0 rfl) ?_
      refine lv_iload_n hx hb dX1_toss_21 rfl (lv_at hl 1 rfl) ?_
      obtain ⟨_, hw, hf⟩ := bd hf
      obtain ⟨v4, hv, hf⟩ := bd hf
      refine c_V (As := [.int a1]) (rest := []) (st1 := [va_rf v4]) X (met_X1_held l G σ N a0 a1 v4 hv) cv_X1_held q842 (recv1 (w := (RX1, TX1, 6)) hw hK hH rfl) rfl rfl rfl hl.1 (Nat.le_of_ble_eq_true rfl) ⟨Nat.le_of_ble_eq_true rfl, Nat.le_of_ble_eq_true rfl⟩ ⟨Nat.le_of_ble_eq_true rfl, Nat.le_of_ble_eq_true rfl⟩ dX1_toss_22 hK hH hS (fun H locs hH hS => ?_)
      refine W.cs (cells' := 0) (slots' := 0) (by rfl) (by rfl) ?_
      rcases v4 with _ | b5
      · dsimp only at hf
        refine lv_castN hx hb dX1_toss_25 ?_
        refine x_virtN (As := []) htl X hXt (Or.inr ⟨by decide, by decide, _, q915, Or.inr ⟨by decide +kernel, Or.inr ⟨by decide, by decide, _, q855, Or.inl ⟨q877, rfl⟩⟩⟩⟩) hl.1 hK hHs hH hS (by decide) (va_Decl.of (hts _ q917) (hts _ q944)) q918 q916 (by decide +kernel) (by decide +kernel) rfl rfl ⟨by decide, by decide⟩ ⟨by decide, by decide⟩ dX1_toss_28 (fun H hH hS => ?_)
        refine W.cs (cells' := 1) (slots' := 8) (by rfl) (by rfl) ?_
        refine lv_astore_n (lv' := [(2, .ref (σ.1)), (0, .ref a0), (1, .int a1)]) hx hb dX1_toss_38 rfl hl (by decide) rfl (fun ls hl => ?_)
        refine lv_bipush (v := (-15 : Int32)) hx hb dX1_toss_39 (by decide) ?_
        cases hf
        exact r_iret X dX1_toss_41 (Nat.le_of_ble_eq_true rfl) (Nat.le_of_ble_eq_true rfl) rfl hH hS
      · dsimp only at hf
        by_cases c_ : kd σ b5 = some 0
        · have hf := (if_pos c_).symm.trans hf
          refine x_castC X hK hH c_ q550 dX1_toss_25 ?_
          by_cases c_ : cC [3] σ b5 = some ()
          · have hf := (if_pos c_).symm.trans hf
            refine r_U (C := "WordBench$List") (owner := "WordBench$Code") (x := ⟨"WordBench$Code", "failure", "()LWordBench$Tossed;"⟩) (n := 0) (As := []) (rest := []) X (met_X4_failure l G σ b5) cu_fail (va_Decl.of (hts _ q917) (hts _ q944)) q916 (recv1 (w := (RX5, TX5, 4)) c_ hK hH rfl) rfl rfl hl.1 (Nat.le_of_ble_eq_true rfl) ⟨by decide, by decide⟩ ⟨by decide, by decide⟩ dX1_toss_28 hK hH hS (fun H locs hH hS => ?_)
            refine W.eq (g2 := F0 m 31 ls [.null]) rfl ?_
            refine W.cs (cells' := 0) (slots' := 0) (by rfl) (by rfl) ?_
            refine x_athrowN htl X hXt (Or.inr ⟨by decide, by decide, _, q915, Or.inr ⟨by decide +kernel, Or.inr ⟨by decide, by decide, _, q855, Or.inl ⟨q877, rfl⟩⟩⟩⟩) hl.1 hK hHs hH hS (by decide) ⟨by decide, by decide⟩ ⟨by decide, by decide⟩ dX1_toss_31 (fun H hH hS => ?_)
            refine W.cs (cells' := 1) (slots' := 8) (by rfl) (by rfl) ?_
            refine lv_astore_n (lv' := [(2, .ref (σ.1)), (0, .ref a0), (1, .int a1)]) hx hb dX1_toss_38 rfl hl (by decide) rfl (fun ls hl => ?_)
            refine lv_bipush (v := (-15 : Int32)) hx hb dX1_toss_39 (by decide) ?_
            cases hf
            exact r_iret X dX1_toss_41 (Nat.le_of_ble_eq_true rfl) (Nat.le_of_ble_eq_true rfl) rfl hH hS
          · have hf := (if_neg c_).symm.trans hf
            obtain ⟨_, hw, hf⟩ := bd hf
            obtain ⟨n_, hv, hf⟩ := bd hf
            cases hf
            have hH0 := hH
            refine x_fail (rest := []) htl X hw hv q916 hl.1 (Nat.le_of_ble_eq_true rfl) ⟨by decide, by decide⟩ ⟨by decide, by decide⟩ dX1_toss_28 hK hH hS (fun fs H locs hP hH hS => ?_)
            refine W.cs (cells' := 1) (slots' := 7) (by rfl) (by rfl) ?_
            have hA : ((σ.1 + 1, va_up σ.2 σ.1 (some (.inr (9, fs)))) : SG).2 σ.1 = some (.inr (9, fs)) := va_up_self _ _ _
            have hE : Ex s H "WordBench$Tossed" σ.1 := by
              obtain ⟨⟨_, _, cell, g1, g2, g3, _⟩, _⟩ := hH.2 σ.1 _ hA
              exact ⟨cell, g1, by rw [g2]; exact (hK.1.1 9 _ (show vwCl[9]? = some (RX10, TX10, 7) from rfl)).2.1, g3⟩
            have hg : gI [9] ((σ.1 + 1, va_up σ.2 σ.1 (some (.inr (9, fs)))) : SG) σ.1 6 = some rf := gI_of (k := 6) hA (by decide) hP.2
            refine x_athrowR (C := "WordBench$Tossed") (rest := []) X hXt (Or.inr ⟨by decide, by decide, _, q915, Or.inl ⟨q924, rfl⟩⟩) hK hH hS hE dX1_toss_31 (fun H locs hH hS => ?_)
            refine lv_astore_n (lv' := [(2, .ref (σ.1)), (0, .ref a0), (1, .int a1)]) hx hb dX1_toss_32 rfl hl (by decide) rfl (fun ls hl => ?_)
            refine lv_aload_n hx hb dX1_toss_33 rfl (lv_at hl 0 rfl) ?_
            refine h_gI X hK hH fo_X10_6 hg q936 dX1_toss_34 ?_
            refine r_iret X dX1_toss_37 (Nat.le_of_ble_eq_true rfl) (Nat.le_of_ble_eq_true rfl) rfl (hH.less rfl (fun a_ e_ he_ => ?_)) hS
            have hne : a_ ≠ σ.1 := Nat.ne_of_lt (hH0.lt he_)
            show va_up σ.2 σ.1 _ a_ = some e_
            rw [va_up_ne _ _ hne]
            exact he_
        · have hf := (if_neg c_).symm.trans hf
          by_cases c_ : kd σ b5 = some 1 ∨ kd σ b5 = some 2
          · have hf := (if_pos c_).symm.trans hf
            refine x_castAC htl X hXt (Or.inr ⟨by decide, by decide, _, q915, Or.inr ⟨by decide +kernel, Or.inr ⟨by decide, by decide, _, q855, Or.inr ⟨by decide +kernel, Or.inr ⟨by decide, by decide, _, q880, Or.inl ⟨q892, rfl⟩⟩⟩⟩⟩⟩) hl.1 hK hHs hH hS (Nat.le_of_ble_eq_true rfl) c_ q550 ⟨by decide, by decide⟩ ⟨by decide, by decide⟩ dX1_toss_25 (fun H hH hS => ?_)
            refine W.cs (cells' := 3) (slots' := 1010) (by rfl) (by rfl) ?_
            refine lv_astore_n (lv' := [(2, .ref (σ.1 + 2)), (0, .ref a0), (1, .int a1)]) hx hb dX1_toss_42 rfl hl (by decide) rfl (fun ls hl => ?_)
            refine lv_bipush (v := (-12 : Int32)) hx hb dX1_toss_43 (by decide) ?_
            cases hf
            exact r_iret X dX1_toss_45 (Nat.le_of_ble_eq_true rfl) (Nat.le_of_ble_eq_true rfl) rfl hH hS
          · have hf := (if_neg c_).symm.trans hf
            cases hf
  · have hf := (if_pos c_).symm.trans hf
    refine lv_iconst (v := (-1 : Int32)) hx hb dX1_toss_7 (by decide) ?_
    cases hf
    exact r_iret X dX1_toss_8 (Nat.le_of_ble_eq_true rfl) (Nat.le_of_ble_eq_true rfl) rfl hH hS
