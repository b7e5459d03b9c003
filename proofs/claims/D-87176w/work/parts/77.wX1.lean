set_option maxRecDepth 100000
theorem ci_J0_init : CalI yJ0_init cJ0_init 1 0 := ⟨q561, q49, q562, rfl, by decide +kernel⟩
set_option maxHeartbeats 4000000 in
theorem met_J0_init (l : Launch) (G : GG) (σ : SG) (N : Nat) (a0 : Nat) (hf : f_J0_init N a0 = some ()) : Con l yJ0_init cJ0_init 1 none 1 0 0 G σ [.ref a0] σ none := by
  refine con_of (by decide) (Nat.le_of_ble_eq_true rfl) ?_
  intro p e s m below meth c ls X hK hH hl hS
  have hx := X.1
  have hb := X.2.1
  have hml := X.2.2.2.1
  have hown : s.vm.findClass RJ0 = some m.cls := X.2.2.2.2.1
  have hts := X.2.2.2.2.2.1
  have hl : lv_has ls 1 [(0, .ref a0)] := hl
  unfold f_J0_init at hf
  refine lv_aload_n hx hb dJ0_init_0 rfl (lv_at hl 0 rfl) ?_
  refine W.objInit hx hb hown (hts _ q563) (hts _ q104) (hts _ q105) rfl (by rw [hml]; exact hl.1) rfl dJ0_init_1 (Nat.le_of_ble_eq_true rfl) (Nat.le_of_ble_eq_true rfl) ?_
  refine W.eq (g2 := F0 m 4 ls []) rfl ?_
  exact r_vret X dJ0_init_4 (Nat.le_of_ble_eq_true rfl) (Nat.le_of_ble_eq_true rfl) rfl hH hS
theorem cs_J12_checkIndex : CalS yJ12_checkIndex cJ12_checkIndex 3 (some .int) 3 := ⟨q684, q70, q685, by decide +kernel, by decide +kernel, by decide +kernel⟩
set_option maxHeartbeats 4000000 in
theorem met_J12_checkIndex (l : Launch) (G : GG) (σ : SG) (N : Nat) (a0 : Int32) (a1 : Int32) (rf : Int32) (hf : f_J12_checkIndex N a0 a1 = some rf) : Con l yJ12_checkIndex cJ12_checkIndex 3 (some .int) 0 0 0 G σ [.int a0, .int a1, .null] σ (some (.int rf)) := by
  refine con_of (by decide) (Nat.le_of_ble_eq_true rfl) ?_
  intro p e s m below meth c ls X hK hH hl hS
  have hx := X.1
  have hb := X.2.1
  have hml := X.2.2.2.1
  have hown : s.vm.findClass RJ12 = some m.cls := X.2.2.2.2.1
  have hts := X.2.2.2.2.2.1
  have hl : lv_has ls 3 [(0, .int a0), (1, .int a1), (2, .null)] := hl
  unfold f_J12_checkIndex at hf
  have J9 : ∀ (d0 : Int32) (d1 : Int32) (d2 : Option Nat), f_J12_checkIndex_j9 N d0 d1 d2 = some rf → ∀ (ls : Array Slot) (H : Heap) (locs : List Loc), lv_has ls 3 [(0, .int d0), (1, .int d1), (2, va_rf d2)] → HH G σ H → va_S (AG G) s.heap H locs → W p l e (rm_ 0 0 0) s m ([.int a0, .int a1, .null] : List Value).toArray below meth c H locs 0 0 (MQ below (PostC G σ (some (.int rf))) ([.int a0, .int a1, .null] : List Value).toArray s 0 0 (AG G)) (F0 m 9 ls []) := by
    intro d0 d1 d2 hf ls H locs hl hH hS
    unfold f_J12_checkIndex_j9 at hf
    refine q_aload_n hx hb dJ12_checkIndex_9 rfl (lv_at hl 2 rfl) ?_
    refine lv_iload_n hx hb dJ12_checkIndex_10 rfl (lv_at hl 0 rfl) ?_
    refine lv_iload_n hx hb dJ12_checkIndex_11 rfl (lv_at hl 1 rfl) ?_
    cases hf
  refine lv_iload_n hx hb dJ12_checkIndex_0 rfl (lv_at hl 0 rfl) ?_
  refine lv_if_lt (tgt := 9) hx hb dJ12_checkIndex_1 (by decide) (fun c_ => ?_) (fun c_ => ?_)
  · have hf := (if_pos c_).symm.trans hf
    exact J9 a0 a1 none hf _ _ _ (lv_sub hl [0, 1, 2] rfl) hH hS
  · have hf := (if_neg c_).symm.trans hf
    refine lv_iload_n hx hb dJ12_checkIndex_4 rfl (lv_at hl 0 rfl) ?_
    refine lv_iload_n hx hb dJ12_checkIndex_5 rfl (lv_at hl 1 rfl) ?_
    refine lv_icmp_lt (tgt := 16) hx hb dJ12_checkIndex_6 (by decide) (fun c_ => ?_) (fun c_ => ?_)
    · have hf := (if_pos c_).symm.trans hf
      refine lv_iload_n hx hb dJ12_checkIndex_16 rfl (lv_at hl 0 rfl) ?_
      cases hf
      exact r_iret X dJ12_checkIndex_17 (Nat.le_of_ble_eq_true rfl) (Nat.le_of_ble_eq_true rfl) rfl hH hS
    · have hf := (if_neg c_).symm.trans hf
      exact J9 a0 a1 none hf _ _ _ (lv_sub hl [0, 1, 2] rfl) hH hS
theorem cs_J11_checkIndex : CalS yJ11_checkIndex cJ11_checkIndex 2 (some .int) 2 := ⟨q681, q69, q682, by decide +kernel, by decide +kernel, by decide +kernel⟩
set_option maxHeartbeats 4000000 in
theorem met_J11_checkIndex (l : Launch) (G : GG) (σ : SG) (N : Nat) (a0 : Int32) (a1 : Int32) (rf : Int32) (hf : f_J11_checkIndex N a0 a1 = some rf) : Con l yJ11_checkIndex cJ11_checkIndex 2 (some .int) 1 0 0 G σ [.int a0, .int a1] σ (some (.int rf)) := by
  refine con_of (by decide) (Nat.le_of_ble_eq_true rfl) ?_
  intro p e s m below meth c ls X hK hH hl hS
  have hx := X.1
  have hb := X.2.1
  have hml := X.2.2.2.1
  have hown : s.vm.findClass RJ11 = some m.cls := X.2.2.2.2.1
  have hts := X.2.2.2.2.2.1
  have hl : lv_has ls 2 [(0, .int a0), (1, .int a1)] := hl
  unfold f_J11_checkIndex at hf
  refine lv_iload_n hx hb dJ11_checkIndex_0 rfl (lv_at hl 0 rfl) ?_
  refine lv_iload_n hx hb dJ11_checkIndex_1 rfl (lv_at hl 1 rfl) ?_
  refine lv_null hx hb dJ11_checkIndex_2 ?_
  obtain ⟨v1, hv, hf⟩ := bd hf
  refine c_S (As := [.int a0, .int a1, .null]) (rest := []) (st1 := [.int v1]) X (met_J12_checkIndex l G _ N a0 a1 v1 hv) cs_J12_checkIndex q683 rfl rfl rfl hl.1 (Nat.le_of_ble_eq_true rfl) ⟨Nat.le_of_ble_eq_true rfl, Nat.le_of_ble_eq_true rfl⟩ ⟨Nat.le_of_ble_eq_true rfl, Nat.le_of_ble_eq_true rfl⟩ dJ11_checkIndex_3 hK hH hS (fun H locs hH hS => ?_)
  refine W.cs (cells' := 0) (slots' := 0) (by rfl) (by rfl) ?_
  cases hf
  exact r_iret X dJ11_checkIndex_6 (Nat.le_of_ble_eq_true rfl) (Nat.le_of_ble_eq_true rfl) rfl hH hS
theorem ci_J1_init : CalI yJ1_init cJ1_init 1 0 := ⟨q558, q50, q559, rfl, by decide +kernel⟩
set_option maxHeartbeats 4000000 in
theorem met_J1_init (l : Launch) (G : GG) (σ : SG) (N : Nat) (a0 : Nat) (σf : SG) (hf : f_J1_init N σ a0 = some σf) : Con l yJ1_init cJ1_init 1 none 2 0 0 G σ [.ref a0] σf none := by
  refine con_of (by decide) (Nat.le_of_ble_eq_true rfl) ?_
  intro p e s m below meth c ls X hK hH hl hS
  have hx := X.1
  have hb := X.2.1
  have hml := X.2.2.2.1
  have hown : s.vm.findClass RJ1 = some m.cls := X.2.2.2.2.1
  have hts := X.2.2.2.2.2.1
  have hl : lv_has ls 1 [(0, .ref a0)] := hl
  unfold f_J1_init at hf
  refine lv_aload_n hx hb dJ1_init_0 rfl (lv_at hl 0 rfl) ?_
  obtain ⟨v1, hv, hf⟩ := bd hf
  refine r_I (As := []) (rest := []) X (met_J0_init l G σ N a0   hv) ci_J0_init q560 rfl rfl hl.1 (Nat.le_of_ble_eq_true rfl) ⟨Nat.le_of_ble_eq_true rfl, Nat.le_of_ble_eq_true rfl⟩ ⟨Nat.le_of_ble_eq_true rfl, Nat.le_of_ble_eq_true rfl⟩ dJ1_init_1 hK hH hS (fun H locs hH hS => ?_)
  refine W.cs (cells' := 0) (slots' := 0) (by rfl) (by rfl) ?_
  refine lv_aload_n hx hb dJ1_init_4 rfl (lv_at hl 0 rfl) ?_
  refine lv_iconst (v := (0 : Int32)) hx hb dJ1_init_5 (by decide) ?_
  obtain ⟨t2, hv, hf⟩ := bd hf
  refine h_put (ty := .int) X hK hH hS fo_J2_0 hv q568 (by decide +kernel) rfl rfl dJ1_init_6 (fun H locs hH hS => ?_)
  cases hf
  exact r_vret X dJ1_init_9 (Nat.le_of_ble_eq_true rfl) (Nat.le_of_ble_eq_true rfl) rfl hH hS
theorem cv_J2_grow_2 : CalV "java/util/ArrayList" yJ2_grow_2 cJ2_grow_2 4 (some (.array (.object "java/lang/Object"))) 1 := ⟨q602, qs15, q51, q603, by decide +kernel⟩
set_option maxHeartbeats 4000000 in
theorem met_J2_grow_2 (l : Launch) (G : GG) (σ : SG) (N : Nat) (z : Nat) (a0 : Nat) (a1 : Int32) (hz : G.2.2.2.2 = z) (σf : SG) (rf : Nat) (hf : f_J2_grow_2 N z σ a0 a1 = some (σf, rf)) : Con l yJ2_grow_2 cJ2_grow_2 4 (some (.array (.object "java/lang/Object"))) 1 1 10 G σ [.ref a0, .int a1] σf (some (.ref rf)) := by
  refine con_of (by decide) (Nat.le_of_ble_eq_true rfl) ?_
  intro p e s m below meth c ls X hK hH hl hS
  have hx := X.1
  have hb := X.2.1
  have hml := X.2.2.2.1
  have hown : s.vm.findClass RJ2 = some m.cls := X.2.2.2.2.1
  have hts := X.2.2.2.2.2.1
  have hl : lv_has ls 4 [(0, .ref a0), (1, .int a1)] := hl
  unfold f_J2_grow_2 at hf
  have J20 : ∀ (d0 : Nat) (d1 : Int32) (d2 : Int32) (u20 : SG), f_J2_grow_2_j20 N z d0 d1 d2 u20 = some (σf, rf) → ∀ (ls : Array Slot) (H : Heap) (locs : List Loc), lv_has ls 4 [(0, .ref d0), (1, .int d1), (2, .int d2)] → HH G u20 H → va_S (AG G) s.heap H locs → W p l e (rm_ 1 1 10) s m ([.ref a0, .int a1] : List Value).toArray below meth c H locs 0 0 (MQ below (PostC G σf (some (.ref rf))) ([.ref a0, .int a1] : List Value).toArray s 1 10 (AG G)) (F0 m 20 ls []) := by
    intro d0 d1 d2 u20 hf ls H locs hl hH hS
    unfold f_J2_grow_2_j20 at hf
    refine lv_iload_n hx hb dJ2_grow_2_20 rfl (lv_at hl 2 rfl) ?_
    refine lv_iload_n hx hb dJ2_grow_2_21 rfl (lv_at hl 1 rfl) ?_
    refine lv_iload_n hx hb dJ2_grow_2_22 rfl (lv_at hl 2 rfl) ?_
    refine lv_isub hx hb dJ2_grow_2_23 ?_
    refine lv_iload_n hx hb dJ2_grow_2_24 rfl (lv_at hl 2 rfl) ?_
    refine lv_iconst (v := (1 : Int32)) hx hb dJ2_grow_2_25 (by decide) ?_
    refine lv_ishr hx hb dJ2_grow_2_26 ?_
    cases hf
  refine lv_aload_n hx hb dJ2_grow_2_0 rfl (lv_at hl 0 rfl) ?_
  obtain ⟨v1, hv, hf⟩ := bd hf
  refine h_gR X hK hH fo_J2_1 hv q566 dJ2_grow_2_1 ?_
  obtain ⟨v2, hv, hf⟩ := bd hf
  refine h_aNz X hK hH hz hv dJ2_grow_2_4 ?_
  refine lv_istore_n (lv' := [(2, .int v2), (0, .ref a0), (1, .int a1)]) hx hb dJ2_grow_2_5 rfl hl (by decide) rfl (fun ls hl => ?_)
  refine lv_iload_n hx hb dJ2_grow_2_6 rfl (lv_at hl 0 rfl) ?_
  refine lv_if_gt (tgt := 20) hx hb dJ2_grow_2_7 (by decide) (fun c_ => ?_) (fun c_ => ?_)
  · have hf := (if_pos c_).symm.trans hf
    exact J20 a0 a1 v2 σ hf _ _ _ (lv_sub hl [1, 2, 0] rfl) hH hS
  · have hf := (if_neg c_).symm.trans hf
    refine lv_aload_n hx hb dJ2_grow_2_10 rfl (lv_at hl 1 rfl) ?_
    obtain ⟨v4, hv, hf⟩ := bd hf
    refine h_gR X hK hH fo_J2_1 hv q566 dJ2_grow_2_11 ?_
    refine h_getz X hK hH hz rfl dJ2_grow_2_14 ?_
    refine lv_acmp_eq (rx := (some v4)) (ry := (some z)) (tgt := 45) hx hb dJ2_grow_2_17 (by decide) (fun c_ => ?_) (fun c_ => ?_)
    · have hf := (if_pos c_).symm.trans hf
      refine lv_aload_n hx hb dJ2_grow_2_45 rfl (lv_at hl 1 rfl) ?_
      refine lv_bipush (v := (10 : Int32)) hx hb dJ2_grow_2_46 (by decide) ?_
      refine lv_iload_n hx hb dJ2_grow_2_48 rfl (lv_at hl 2 rfl) ?_
      refine va_mmax hx hb (hml.trans hl.1.symm) hown (hts _ q647) (hts _ q608) (hts _ q54) (hts _ q609) (Nat.le_of_ble_eq_true rfl) (Nat.le_of_ble_eq_true rfl) (Nat.le_of_ble_eq_true rfl) (Nat.le_of_ble_eq_true rfl) dJ2_grow_2_49 ?_
      obtain ⟨t5, hv, hf⟩ := bd hf
      refine h_newq (B := 10) X hK hH hS (by decide) hv (by decide) q648 (Nat.le_of_ble_eq_true rfl) (Nat.le_of_ble_eq_true rfl) dJ2_grow_2_52 (fun H hH hS => ?_)
      refine W.cs (cells' := 1) (slots' := 10) (by rfl) (by rfl) ?_
      refine lv_dup_x1 hx hb dJ2_grow_2_55 rfl rfl ?_
      obtain ⟨t6, hv, hf⟩ := bd hf
      refine h_put (ty := (.array (.object "java/lang/Object"))) X hK hH hS fo_J2_1 hv q566 (by decide +kernel) rfl rfl dJ2_grow_2_56 (fun H locs hH hS => ?_)
      cases hf
      exact r_aret X (Or.inr ⟨_, rfl⟩) (Or.inr ⟨_, rfl⟩) dJ2_grow_2_59 (Nat.le_of_ble_eq_true rfl) (Nat.le_of_ble_eq_true rfl) rfl hH hS
    · have hf := (if_neg c_).symm.trans hf
      exact J20 a0 a1 v2 σ hf _ _ _ (lv_sub hl [1, 2, 0] rfl) hH hS
theorem cv_J2_grow : CalV "java/util/ArrayList" yJ2_grow cJ2_grow 1 (some (.array (.object "java/lang/Object"))) 0 := ⟨q598, qs14, q51, q599, by decide +kernel⟩
set_option maxHeartbeats 4000000 in
theorem met_J2_grow (l : Launch) (G : GG) (σ : SG) (N : Nat) (z : Nat) (a0 : Nat) (hz : G.2.2.2.2 = z) (σf : SG) (rf : Nat) (hf : f_J2_grow N z σ a0 = some (σf, rf)) : Con l yJ2_grow cJ2_grow 1 (some (.array (.object "java/lang/Object"))) 2 1 10 G σ [.ref a0] σf (some (.ref rf)) := by
  refine con_of (by decide) (Nat.le_of_ble_eq_true rfl) ?_
  intro p e s m below meth c ls X hK hH hl hS
  have hx := X.1
  have hb := X.2.1
  have hml := X.2.2.2.1
  have hown : s.vm.findClass RJ2 = some m.cls := X.2.2.2.2.1
  have hts := X.2.2.2.2.2.1
  have hl : lv_has ls 1 [(0, .ref a0)] := hl
  unfold f_J2_grow at hf
  refine lv_aload_n hx hb dJ2_grow_0 rfl (lv_at hl 0 rfl) ?_
  refine lv_aload_n hx hb dJ2_grow_1 rfl (lv_at hl 0 rfl) ?_
  obtain ⟨v1, hv, hf⟩ := bd hf
  refine h_gI X hK hH fo_J2_2 hv q567 dJ2_grow_2 ?_
  refine lv_iconst (v := (1 : Int32)) hx hb dJ2_grow_5 (by decide) ?_
  refine lv_iadd hx hb dJ2_grow_6 ?_
  obtain ⟨_, hw, hf⟩ := bd hf
  obtain ⟨v2, hv, hf⟩ := bd hf
  refine c_V (As := [.int (v1 + (1 : Int32))]) (rest := []) (st1 := [.ref v2.2]) X (met_J2_grow_2 l G σ N z a0 (v1 + (1 : Int32)) hz v2.1 v2.2 hv) cv_J2_grow_2 q600 (recv1 (w := (RJ2, TJ2, 3)) hw hK hH rfl) rfl rfl rfl hl.1 (Nat.le_of_ble_eq_true rfl) ⟨Nat.le_of_ble_eq_true rfl, Nat.le_of_ble_eq_true rfl⟩ ⟨Nat.le_of_ble_eq_true rfl, Nat.le_of_ble_eq_true rfl⟩ dJ2_grow_7 hK hH hS (fun H locs hH hS => ?_)
  refine W.cs (cells' := 1) (slots' := 10) (by rfl) (by rfl) ?_
  cases hf
  exact r_aret X (Or.inr ⟨_, rfl⟩) (Or.inr ⟨_, rfl⟩) dJ2_grow_10 (Nat.le_of_ble_eq_true rfl) (Nat.le_of_ble_eq_true rfl) rfl hH hS
theorem cv_J2_add_2 : CalV "java/util/ArrayList" yJ2_add_2 cJ2_add_2 4 none 3 := ⟨q594, qs13, q51, q595, by decide +kernel⟩
set_option maxHeartbeats 4000000 in
theorem met_J2_add_2 (l : Launch) (G : GG) (σ : SG) (N : Nat) (z : Nat) (a0 : Nat) (a1 : Nat) (a2 : Nat) (a3 : Int32) (hz : G.2.2.2.2 = z) (σf : SG) (hf : f_J2_add_2 N z σ a0 a1 a2 a3 = some σf) : Con l yJ2_add_2 cJ2_add_2 4 none 3 1 10 G σ [.ref a0, .ref a1, .ref a2, .int a3] σf none := by
  refine con_of (by decide) (Nat.le_of_ble_eq_true rfl) ?_
  intro p e s m below meth c ls X hK hH hl hS
  have hx := X.1
  have hb := X.2.1
  have hml := X.2.2.2.1
  have hown : s.vm.findClass RJ2 = some m.cls := X.2.2.2.2.1
  have hts := X.2.2.2.2.2.1
  have hl : lv_has ls 4 [(0, .ref a0), (1, .ref a1), (2, .ref a2), (3, .int a3)] := hl
  unfold f_J2_add_2 at hf
  have J11 : ∀ (d0 : Nat) (d1 : Nat) (d2 : Nat) (d3 : Int32) (u11 : SG), f_J2_add_2_j11 N z d0 d1 d2 d3 u11 = some σf → ∀ (ls : Array Slot) (H : Heap) (locs : List Loc), lv_has ls 4 [(0, .ref d0), (1, .ref d1), (2, .ref d2), (3, .int d3)] → HH G u11 H → va_S (AG G) s.heap H locs → W p l e (rm_ 3 1 10) s m ([.ref a0, .ref a1, .ref a2, .int a3] : List Value).toArray below meth c H locs 1 10 (MQ below (PostC G σf none) ([.ref a0, .ref a1, .ref a2, .int a3] : List Value).toArray s 1 10 (AG G)) (F0 m 11 ls []) := by
    intro d0 d1 d2 d3 u11 hf ls H locs hl hH hS
    unfold f_J2_add_2_j11 at hf
    refine lv_aload_n hx hb dJ2_add_2_11 rfl (lv_at hl 2 rfl) ?_
    refine lv_iload_n hx hb dJ2_add_2_12 rfl (lv_at hl 3 rfl) ?_
    refine lv_aload_n hx hb dJ2_add_2_13 rfl (lv_at hl 1 rfl) ?_
    obtain ⟨t2, hv, hf⟩ := bd hf
    refine h_wQ (w := (some d1)) X hK hH hS (by decide) hv dJ2_add_2_14 (fun H locs hH hS => ?_)
    refine lv_aload_n hx hb dJ2_add_2_15 rfl (lv_at hl 0 rfl) ?_
    refine lv_iload_n hx hb dJ2_add_2_16 rfl (lv_at hl 3 rfl) ?_
    refine lv_iconst (v := (1 : Int32)) hx hb dJ2_add_2_17 (by decide) ?_
    refine lv_iadd hx hb dJ2_add_2_18 ?_
    obtain ⟨t3, hv, hf⟩ := bd hf
    refine h_put (ty := .int) X hK hH hS fo_J2_2 hv q567 (by decide +kernel) rfl rfl dJ2_add_2_19 (fun H locs hH hS => ?_)
    cases hf
    exact r_vret X dJ2_add_2_22 (Nat.le_of_ble_eq_true rfl) (Nat.le_of_ble_eq_true rfl) rfl hH hS
  refine lv_iload_n hx hb dJ2_add_2_0 rfl (lv_at hl 3 rfl) ?_
  refine lv_aload_n hx hb dJ2_add_2_1 rfl (lv_at hl 2 rfl) ?_
  obtain ⟨v1, hv, hf⟩ := bd hf
  refine h_aNz X hK hH hz hv dJ2_add_2_2 ?_
  refine lv_icmp_ne (tgt := 11) hx hb dJ2_add_2_3 (by decide) (fun c_ => ?_) (fun c_ => ?_)
  · have hf := (if_neg c_).symm.trans hf
    refine W.widen (k := 1) (n := 10) (Nat.le_of_ble_eq_true rfl) (Nat.le_of_ble_eq_true rfl) ?_
    exact J11 a0 a1 a2 a3 σ hf _ _ _ (lv_sub hl [0, 1, 2, 3] rfl) hH hS
  · have hf := (if_pos c_).symm.trans hf
    refine lv_aload_n hx hb dJ2_add_2_6 rfl (lv_at hl 0 rfl) ?_
    obtain ⟨_, hw, hf⟩ := bd hf
    obtain ⟨v4, hv, hf⟩ := bd hf
    refine c_V (As := []) (rest := []) (st1 := [.ref v4.2]) X (met_J2_grow l G σ N z a0  hz v4.1 v4.2 hv) cv_J2_grow q596 (recv1 (w := (RJ2, TJ2, 3)) hw hK hH rfl) rfl rfl rfl hl.1 (Nat.le_of_ble_eq_true rfl) ⟨Nat.le_of_ble_eq_true rfl, Nat.le_of_ble_eq_true rfl⟩ ⟨Nat.le_of_ble_eq_true rfl, Nat.le_of_ble_eq_true rfl⟩ dJ2_add_2_7 hK hH hS (fun H locs hH hS => ?_)
    refine W.cs (cells' := 1) (slots' := 10) (by rfl) (by rfl) ?_
    refine lv_astore_n (lv' := [(2, .ref v4.2), (0, .ref a0), (1, .ref a1), (3, .int a3)]) hx hb dJ2_add_2_10 rfl hl (by decide) rfl (fun ls hl => ?_)
    exact J11 a0 a1 v4.2 a3 v4.1 hf _ _ _ (lv_sub hl [1, 2, 0, 3] rfl) hH hS
theorem cv_J2_add : CalV "java/util/ArrayList" yJ2_add cJ2_add 2 (some .boolean) 1 := ⟨q589, q590, q51, q591, by decide +kernel⟩
set_option maxHeartbeats 4000000 in
theorem met_J2_add (l : Launch) (G : GG) (σ : SG) (N : Nat) (z : Nat) (a0 : Nat) (a1 : Nat) (hz : G.2.2.2.2 = z) (σf : SG) (rf : Int32) (hf : f_J2_add N z σ a0 a1 = some (σf, rf)) : Con l yJ2_add cJ2_add 2 (some .boolean) 4 1 10 G σ [.ref a0, .ref a1] σf (some (.int rf)) := by
  refine con_of (by decide) (Nat.le_of_ble_eq_true rfl) ?_
  intro p e s m below meth c ls X hK hH hl hS
  have hx := X.1
  have hb := X.2.1
  have hml := X.2.2.2.1
  have hown : s.vm.findClass RJ2 = some m.cls := X.2.2.2.2.1
  have hts := X.2.2.2.2.2.1
  have hl : lv_has ls 2 [(0, .ref a0), (1, .ref a1)] := hl
  unfold f_J2_add at hf
  refine lv_aload_n hx hb dJ2_add_0 rfl (lv_at hl 0 rfl) ?_
  refine lv_dup hx hb dJ2_add_1 rfl ?_
  obtain ⟨v1, hv, hf⟩ := bd hf
  refine h_gIS (ref0 := "java/util/AbstractList") X hK hH fo_J2_0 hv q569 q570 dJ2_add_2 ?_
  refine lv_iconst (v := (1 : Int32)) hx hb dJ2_add_5 (by decide) ?_
  refine lv_iadd hx hb dJ2_add_6 ?_
  obtain ⟨t2, hv, hf⟩ := bd hf
  refine h_putS (ref0 := "java/util/AbstractList") (ty := .int) X hK hH hS fo_J2_0 hv q569 q570 (by decide +kernel) rfl rfl dJ2_add_7 (fun H locs hH hS => ?_)
  refine lv_aload_n hx hb dJ2_add_10 rfl (lv_at hl 0 rfl) ?_
  refine lv_aload_n hx hb dJ2_add_11 rfl (lv_at hl 1 rfl) ?_
  refine lv_aload_n hx hb dJ2_add_12 rfl (lv_at hl 0 rfl) ?_
  obtain ⟨v3, hv, hf⟩ := bd hf
  refine h_gR X hK hH fo_J2_1 hv q566 dJ2_add_13 ?_
  refine lv_aload_n hx hb dJ2_add_16 rfl (lv_at hl 0 rfl) ?_
  obtain ⟨v4, hv, hf⟩ := bd hf
  refine h_gI X hK hH fo_J2_2 hv q567 dJ2_add_17 ?_
  obtain ⟨_, hw, hf⟩ := bd hf
  obtain ⟨v5, hv, hf⟩ := bd hf
  refine c_V (As := [.ref a1, .ref v3, .int v4]) (rest := []) (st1 := []) X (met_J2_add_2 l G t2 N z a0 a1 v3 v4 hz v5 hv) cv_J2_add_2 q592 (recv1 (w := (RJ2, TJ2, 3)) hw hK hH rfl) rfl rfl rfl hl.1 (Nat.le_of_ble_eq_true rfl) ⟨Nat.le_of_ble_eq_true rfl, Nat.le_of_ble_eq_true rfl⟩ ⟨Nat.le_of_ble_eq_true rfl, Nat.le_of_ble_eq_true rfl⟩ dJ2_add_20 hK hH hS (fun H locs hH hS => ?_)
  refine W.cs (cells' := 1) (slots' := 10) (by rfl) (by rfl) ?_
  refine lv_iconst (v := (1 : Int32)) hx hb dJ2_add_23 (by decide) ?_
  obtain ⟨v6, hv, hf⟩ := bd hf
  obtain ⟨hz, hv⟩ := rz_s hv
  subst hv
  cases hf
  exact r_zret X dJ2_add_24 (Nat.le_of_ble_eq_true rfl) (Nat.le_of_ble_eq_true rfl) hz rfl hH hS
theorem cv_J2_elementData : CalV "java/util/ArrayList" yJ2_elementData cJ2_elementData 2 (some (.object "java/lang/Object")) 1 := ⟨q687, q688, q51, q689, by decide +kernel⟩
set_option maxHeartbeats 4000000 in
theorem met_J2_elementData (l : Launch) (G : GG) (σ : SG) (N : Nat) (a0 : Nat) (a1 : Int32) (rf : Option Nat) (hf : f_J2_elementData N σ a0 a1 = some rf) : Con l yJ2_elementData cJ2_elementData 2 (some (.object "java/lang/Object")) 0 0 0 G σ [.ref a0, .int a1] σ (some (va_rf rf)) := by
  refine con_of (by decide) (Nat.le_of_ble_eq_true rfl) ?_
  intro p e s m below meth c ls X hK hH hl hS
  have hx := X.1
  have hb := X.2.1
  have hml := X.2.2.2.1
  have hown : s.vm.findClass RJ2 = some m.cls := X.2.2.2.2.1
  have hts := X.2.2.2.2.2.1
  have hl : lv_has ls 2 [(0, .ref a0), (1, .int a1)] := hl
  unfold f_J2_elementData at hf
  refine lv_aload_n hx hb dJ2_elementData_0 rfl (lv_at hl 0 rfl) ?_
  obtain ⟨v1, hv, hf⟩ := bd hf
  refine h_gR X hK hH fo_J2_1 hv q566 dJ2_elementData_1 ?_
  refine lv_iload_n hx hb dJ2_elementData_4 rfl (lv_at hl 1 rfl) ?_
  obtain ⟨v2, hv, hf⟩ := bd hf
  refine h_aQ (by decide) X hK hH hv dJ2_elementData_5 ?_
  cases hf
  exact r_aret X (Or.inl ⟨_, rfl⟩) (va_rf_or _) dJ2_elementData_6 (Nat.le_of_ble_eq_true rfl) (Nat.le_of_ble_eq_true rfl) rfl hH hS
theorem cv_J2_get : CalV "java/util/ArrayList" yJ2_get cJ2_get 2 (some (.object "java/lang/Object")) 1 := ⟨q677, q678, q51, q679, by decide +kernel⟩
set_option maxHeartbeats 4000000 in
theorem met_J2_get (l : Launch) (G : GG) (σ : SG) (N : Nat) (a0 : Nat) (a1 : Int32) (rf : Option Nat) (hf : f_J2_get N σ a0 a1 = some rf) : Con l yJ2_get cJ2_get 2 (some (.object "java/lang/Object")) 2 0 0 G σ [.ref a0, .int a1] σ (some (va_rf rf)) := by
  refine con_of (by decide) (Nat.le_of_ble_eq_true rfl) ?_
  intro p e s m below meth c ls X hK hH hl hS
  have hx := X.1
  have hb := X.2.1
  have hml := X.2.2.2.1
  have hown : s.vm.findClass RJ2 = some m.cls := X.2.2.2.2.1
  have hts := X.2.2.2.2.2.1
  have hl : lv_has ls 2 [(0, .ref a0), (1, .int a1)] := hl
  unfold f_J2_get at hf
  refine lv_iload_n hx hb dJ2_get_0 rfl (lv_at hl 1 rfl) ?_
  refine lv_aload_n hx hb dJ2_get_1 rfl (lv_at hl 0 rfl) ?_
  obtain ⟨v1, hv, hf⟩ := bd hf
  refine h_gI X hK hH fo_J2_2 hv q567 dJ2_get_2 ?_
  obtain ⟨v2, hv, hf⟩ := bd hf
  refine c_S (As := [.int a1, .int v1]) (rest := []) (st1 := [.int v2]) X (met_J11_checkIndex l G σ N a1 v1 v2 hv) cs_J11_checkIndex q680 rfl rfl rfl hl.1 (Nat.le_of_ble_eq_true rfl) ⟨Nat.le_of_ble_eq_true rfl, Nat.le_of_ble_eq_true rfl⟩ ⟨Nat.le_of_ble_eq_true rfl, Nat.le_of_ble_eq_true rfl⟩ dJ2_get_5 hK hH hS (fun H locs hH hS => ?_)
  refine W.cs (cells' := 0) (slots' := 0) (by rfl) (by rfl) ?_
  refine lv_pop hx hb dJ2_get_8 rfl ?_
  refine lv_aload_n hx hb dJ2_get_9 rfl (lv_at hl 0 rfl) ?_
  refine lv_iload_n hx hb dJ2_get_10 rfl (lv_at hl 1 rfl) ?_
  obtain ⟨_, hw, hf⟩ := bd hf
  obtain ⟨v3, hv, hf⟩ := bd hf
  refine c_V (As := [.int a1]) (rest := []) (st1 := [va_rf v3]) X (met_J2_elementData l G σ N a0 a1 v3 hv) cv_J2_elementData q686 (recv1 (w := (RJ2, TJ2, 3)) hw hK hH rfl) rfl rfl rfl hl.1 (Nat.le_of_ble_eq_true rfl) ⟨Nat.le_of_ble_eq_true rfl, Nat.le_of_ble_eq_true rfl⟩ ⟨Nat.le_of_ble_eq_true rfl, Nat.le_of_ble_eq_true rfl⟩ dJ2_get_11 hK hH hS (fun H locs hH hS => ?_)
  refine W.cs (cells' := 0) (slots' := 0) (by rfl) (by rfl) ?_
  cases hf
  exact r_aret X (Or.inl ⟨_, rfl⟩) (va_rf_or _) dJ2_get_14 (Nat.le_of_ble_eq_true rfl) (Nat.le_of_ble_eq_true rfl) rfl hH hS
theorem ci_J2_init : CalI yJ2_init cJ2_init 1 0 := ⟨q555, q51, q556, rfl, by decide +kernel⟩
set_option maxHeartbeats 4000000 in
theorem met_J2_init (l : Launch) (G : GG) (σ : SG) (N : Nat) (z : Nat) (a0 : Nat) (hz : G.2.2.2.2 = z) (σf : SG) (hf : f_J2_init N z σ a0 = some σf) : Con l yJ2_init cJ2_init 1 none 3 0 0 G σ [.ref a0] σf none := by
  refine con_of (by decide) (Nat.le_of_ble_eq_true rfl) ?_
  intro p e s m below meth c ls X hK hH hl hS
  have hx := X.1
  have hb := X.2.1
  have hml := X.2.2.2.1
  have hown : s.vm.findClass RJ2 = some m.cls := X.2.2.2.2.1
  have hts := X.2.2.2.2.2.1
  have hl : lv_has ls 1 [(0, .ref a0)] := hl
  unfold f_J2_init at hf
  refine lv_aload_n hx hb dJ2_init_0 rfl (lv_at hl 0 rfl) ?_
  obtain ⟨v1, hv, hf⟩ := bd hf
  refine r_I (As := []) (rest := []) X (met_J1_init l G σ N a0  v1 hv) ci_J1_init q557 rfl rfl hl.1 (Nat.le_of_ble_eq_true rfl) ⟨Nat.le_of_ble_eq_true rfl, Nat.le_of_ble_eq_true rfl⟩ ⟨Nat.le_of_ble_eq_true rfl, Nat.le_of_ble_eq_true rfl⟩ dJ2_init_1 hK hH hS (fun H locs hH hS => ?_)
  refine W.cs (cells' := 0) (slots' := 0) (by rfl) (by rfl) ?_
  refine lv_aload_n hx hb dJ2_init_4 rfl (lv_at hl 0 rfl) ?_
  refine h_getz X hK hH hz rfl dJ2_init_5 ?_
  obtain ⟨t2, hv, hf⟩ := bd hf
  refine h_put (ty := (.array (.object "java/lang/Object"))) X hK hH hS fo_J2_1 hv q566 (by decide +kernel) rfl rfl dJ2_init_8 (fun H locs hH hS => ?_)
  cases hf
  exact r_vret X dJ2_init_11 (Nat.le_of_ble_eq_true rfl) (Nat.le_of_ble_eq_true rfl) rfl hH hS
theorem cs_X1_isIn : CalS yX1_isIn cX1_isIn 6 (some .boolean) 3 := ⟨q87, q48, q88, by decide +kernel, by decide +kernel, by decide +kernel⟩
set_option maxHeartbeats 4000000 in
theorem met_X1_isIn (l : Launch) (G : GG) (σ : SG) (N : Nat) (a0 : Int64) (a2 : Int64) (a4 : Int64) (rf : Int32) (hf : f_X1_isIn N a0 a2 a4 = some rf) : Con l yX1_isIn cX1_isIn 6 (some .boolean) 0 0 0 G σ [.long a0, .long a2, .long a4] σ (some (.int rf)) := by
  refine con_of (by decide) (Nat.le_of_ble_eq_true rfl) ?_
  intro p e s m below meth c ls X hK hH hl hS
  have hx := X.1
  have hb := X.2.1
  have hml := X.2.2.2.1
  have hown : s.vm.findClass RX1 = some m.cls := X.2.2.2.2.1
  have hts := X.2.2.2.2.2.1
  have hl : lv_has ls 6 [(0, .long a0), (2, .long a2), (4, .long a4)] := hl
  unfold f_X1_isIn at hf
  refine lv_lload_n hx hb dX1_isIn_0 rfl (lv_at hl 0 rfl) ?_
  refine lv_lload_n hx hb dX1_isIn_1 rfl (lv_at hl 1 rfl) ?_
  refine W.lcmp hx hb dX1_isIn_2 ?_
  refine lv_if_lt (tgt := 17) hx hb dX1_isIn_3 (by decide) (fun c_ => ?_) (fun c_ => ?_)
  · have hf := (if_pos ((lg_cmp_lt a0 a2).mp c_)).symm.trans hf
    refine lv_iconst (v := (0 : Int32)) hx hb dX1_isIn_17 (by decide) ?_
    obtain ⟨hz, hv⟩ := rz_s hf
    subst hv
    exact r_zret X dX1_isIn_18 (Nat.le_of_ble_eq_true rfl) (Nat.le_of_ble_eq_true rfl) hz rfl hH hS
  · have hf := (if_neg (fun z => c_ ((lg_cmp_lt a0 a2).mpr z))).symm.trans hf
    refine lv_lload_n hx hb dX1_isIn_6 rfl (lv_at hl 0 rfl) ?_
    refine lv_lload hx hb dX1_isIn_7 (lv_at hl 2 rfl) ?_
    refine W.lcmp hx hb dX1_isIn_9 ?_
    refine lv_if_gt (tgt := 17) hx hb dX1_isIn_10 (by decide) (fun c_ => ?_) (fun c_ => ?_)
    · have hf := (if_pos ((lg_cmp_gt a0 a4).mp c_)).symm.trans hf
      refine lv_iconst (v := (0 : Int32)) hx hb dX1_isIn_17 (by decide) ?_
      obtain ⟨hz, hv⟩ := rz_s hf
      subst hv
      exact r_zret X dX1_isIn_18 (Nat.le_of_ble_eq_true rfl) (Nat.le_of_ble_eq_true rfl) hz rfl hH hS
    · have hf := (if_neg (fun z => c_ ((lg_cmp_gt a0 a4).mpr z))).symm.trans hf
      refine lv_iconst (v := (1 : Int32)) hx hb dX1_isIn_13 (by decide) ?_
      refine lv_goto (tgt := 18) hx hb dX1_isIn_14 (by decide) ?_
      obtain ⟨hz, hv⟩ := rz_s hf
      subst hv
      exact r_zret X dX1_isIn_18 (Nat.le_of_ble_eq_true rfl) (Nat.le_of_ble_eq_true rfl) hz rfl hH hS
theorem cs_X1_isPlace : CalS yX1_isPlace cX1_isPlace 1 (some .boolean) 1 := ⟨q83, q48, q84, by decide +kernel, by decide +kernel, by decide +kernel⟩
set_option maxHeartbeats 4000000 in
theorem met_X1_isPlace (l : Launch) (G : GG) (σ : SG) (N : Nat) (a0 : Int32) (rf : Int32) (hf : f_X1_isPlace N a0 = some rf) : Con l yX1_isPlace cX1_isPlace 1 (some .boolean) 1 0 0 G σ [.int a0] σ (some (.int rf)) := by
  refine con_of (by decide) (Nat.le_of_ble_eq_true rfl) ?_
  intro p e s m below meth c ls X hK hH hl hS
  have hx := X.1
  have hb := X.2.1
  have hml := X.2.2.2.1
  have hown : s.vm.findClass RX1 = some m.cls := X.2.2.2.2.1
  have hts := X.2.2.2.2.2.1
  have hl : lv_has ls 1 [(0, .int a0)] := hl
  unfold f_X1_isPlace at hf
  refine lv_iload_n hx hb dX1_isPlace_0 rfl (lv_at hl 0 rfl) ?_
  refine lv_i2l (v := (a0).toInt64) hx hb dX1_isPlace_1 rfl ?_
  refine lv_lconst (v := (0 : Int64)) hx hb dX1_isPlace_2 (by decide) ?_
  refine lv_ldc2 (v := (11 : Int64)) hx hb hown (hts _ q85) dX1_isPlace_3 ?_
  obtain ⟨v1, hv, hf⟩ := bd hf
  refine c_S (As := [.long ((a0).toInt64), .long (0 : Int64), .long (11 : Int64)]) (rest := []) (st1 := [.int v1]) X (met_X1_isIn l G _ N ((a0).toInt64) (0 : Int64) (11 : Int64) v1 hv) cs_X1_isIn q86 rfl rfl rfl hl.1 (Nat.le_of_ble_eq_true rfl) ⟨Nat.le_of_ble_eq_true rfl, Nat.le_of_ble_eq_true rfl⟩ ⟨Nat.le_of_ble_eq_true rfl, Nat.le_of_ble_eq_true rfl⟩ dX1_isPlace_6 hK hH hS (fun H locs hH hS => ?_)
  refine W.cs (cells' := 0) (slots' := 0) (by rfl) (by rfl) ?_
  obtain ⟨hz, hv⟩ := rz_s hf
  subst hv
  exact r_zret X dX1_isPlace_9 (Nat.le_of_ble_eq_true rfl) (Nat.le_of_ble_eq_true rfl) hz rfl hH hS
theorem cv_X1_asks : CalV "WordBench" yX1_asks cX1_asks 3 (some .int) 2 := ⟨q185, qs1, q48, q186, by decide +kernel⟩
set_option maxHeartbeats 4000000 in
theorem met_X1_asks (l : Launch) (G : GG) (σ : SG) (N : Nat) (a0 : Nat) (a1 : Int32) (a2 : Int32) (rf : Int32) (hf : f_X1_asks N σ a0 a1 a2 = some rf) : Con l yX1_asks cX1_asks 3 (some .int) 2 0 0 G σ [.ref a0, .int a1, .int a2] σ (some (.int rf)) := by
  refine con_of (by decide) (Nat.le_of_ble_eq_true rfl) ?_
  intro p e s m below meth c ls X hK hH hl hS
  have hx := X.1
  have hb := X.2.1
  have hml := X.2.2.2.1
  have hown : s.vm.findClass RX1 = some m.cls := X.2.2.2.2.1
  have hts := X.2.2.2.2.2.1
  have hl : lv_has ls 3 [(0, .ref a0), (1, .int a1), (2, .int a2)] := hl
  unfold f_X1_asks at hf
  refine lv_iload_n hx hb dX1_asks_0 rfl (lv_at hl 1 rfl) ?_
  obtain ⟨v1, hv, hf⟩ := bd hf
  refine c_S (As := [.int a1]) (rest := []) (st1 := [.int v1]) X (met_X1_isPlace l G σ N a1 v1 hv) cs_X1_isPlace q82 rfl rfl rfl hl.1 (Nat.le_of_ble_eq_true rfl) ⟨Nat.le_of_ble_eq_true rfl, Nat.le_of_ble_eq_true rfl⟩ ⟨Nat.le_of_ble_eq_true rfl, Nat.le_of_ble_eq_true rfl⟩ dX1_asks_1 hK hH hS (fun H locs hH hS => ?_)
  refine W.cs (cells' := 0) (slots' := 0) (by rfl) (by rfl) ?_
  refine lv_if_ne (tgt := 9) hx hb dX1_asks_4 (by decide) (fun c_ => ?_) (fun c_ => ?_)
  · have hf := (if_neg c_).symm.trans hf
    refine lv_aload_n hx hb dX1_asks_9 rfl (lv_at hl 0 rfl) ?_
    obtain ⟨v2, hv, hf⟩ := bd hf
    refine h_gR X hK hH fo_X1_0 hv q649 dX1_asks_10 ?_
    refine lv_iload_n hx hb dX1_asks_13 rfl (lv_at hl 1 rfl) ?_
    obtain ⟨v3, hv, hf⟩ := bd hf
    refine h_aQ (by decide) X hK hH hv dX1_asks_14 ?_
    rcases v3 with _ | b4
    · dsimp only at hf
      refine lv_ifnonnullN hx hb dX1_asks_15 ?_
      refine lv_bipush (v := (-11 : Int32)) hx hb dX1_asks_18 (by decide) ?_
      cases hf
      exact r_iret X dX1_asks_20 (Nat.le_of_ble_eq_true rfl) (Nat.le_of_ble_eq_true rfl) rfl hH hS
    · dsimp only at hf
      refine lv_ifnonnull (tgt := 21) hx hb dX1_asks_15 (by decide) ?_
      refine lv_iload_n hx hb dX1_asks_21 rfl (lv_at hl 2 rfl) ?_
      refine lv_if_eq (tgt := 42) hx hb dX1_asks_22 (by decide) (fun c_ => ?_) (fun c_ => ?_)
      · have hf := (if_pos c_).symm.trans hf
        refine lv_iconst (v := (0 : Int32)) hx hb dX1_asks_42 (by decide) ?_
        cases hf
        exact r_iret X dX1_asks_43 (Nat.le_of_ble_eq_true rfl) (Nat.le_of_ble_eq_true rfl) rfl hH hS
      · have hf := (if_neg c_).symm.trans hf
        refine lv_aload_n hx hb dX1_asks_25 rfl (lv_at hl 0 rfl) ?_
        obtain ⟨v5, hv, hf⟩ := bd hf
        refine h_gR X hK hH fo_X1_0 hv q649 dX1_asks_26 ?_
        refine lv_iload_n hx hb dX1_asks_29 rfl (lv_at hl 1 rfl) ?_
        obtain ⟨v6, hv, hf⟩ := bd hf
        refine h_aQ (by decide) X hK hH hv dX1_asks_30 ?_
        obtain ⟨v7, hv, hf⟩ := bd hf
        refine h_inst (w := v6) X hK hH ca_Line nc_Line hv q152 dX1_asks_31 ?_
        refine lv_if_ne (tgt := 42) hx hb dX1_asks_34 (by decide) (fun c_ => ?_) (fun c_ => ?_)
        · have hf := (if_neg c_).symm.trans hf
          refine lv_iconst (v := (0 : Int32)) hx hb dX1_asks_42 (by decide) ?_
          cases hf
          exact r_iret X dX1_asks_43 (Nat.le_of_ble_eq_true rfl) (Nat.le_of_ble_eq_true rfl) rfl hH hS
        · have hf := (if_pos c_).symm.trans hf
          refine lv_bipush (v := (-12 : Int32)) hx hb dX1_asks_37 (by decide) ?_
          refine lv_goto (tgt := 43) hx hb dX1_asks_39 (by decide) ?_
          cases hf
          exact r_iret X dX1_asks_43 (Nat.le_of_ble_eq_true rfl) (Nat.le_of_ble_eq_true rfl) rfl hH hS
  · have hf := (if_pos c_).symm.trans hf
    refine lv_iconst (v := (-1 : Int32)) hx hb dX1_asks_7 (by decide) ?_
    cases hf
    exact r_iret X dX1_asks_8 (Nat.le_of_ble_eq_true rfl) (Nat.le_of_ble_eq_true rfl) rfl hH hS
theorem cs_X1_power : CalS yX1_power cX1_power 5 (some .long) 2 := ⟨q191, q48, q192, by decide +kernel, by decide +kernel, by decide +kernel⟩
set_option maxHeartbeats 4000000 in
theorem met_X1_power (l : Launch) (G : GG) (σ : SG) (N : Nat) (a0 : Int32) (a1 : Int32) (rf : Int64) (hf : f_X1_power N a0 a1 = some rf) : Con l yX1_power cX1_power 5 (some .long) 0 0 0 G σ [.int a0, .int a1] σ (some (.long rf)) := by
  refine con_of (by decide) (Nat.le_of_ble_eq_true rfl) ?_
  intro p e s m below meth c ls X hK hH hl hS
  have hx := X.1
  have hb := X.2.1
  have hml := X.2.2.2.1
  have hown : s.vm.findClass RX1 = some m.cls := X.2.2.2.2.1
  have hts := X.2.2.2.2.2.1
  have hl : lv_has ls 5 [(0, .int a0), (1, .int a1)] := hl
  unfold f_X1_power at hf
  have L5 : ∀ (c0 : Int32) (c1 : Int32) (n : Nat) (s5 : (Int64 × Int32)) (r5 : Int64), lp (f_X1_power_b5 N c0 c1) n s5 = some r5 → (∀ (ls : Array Slot) (H : Heap) (locs : List Loc), lv_has ls 5 [(2, .long r5)] → HH G σ H → va_S (AG G) s.heap H locs → W p l e (rm_ 0 0 0) s m ([.int a0, .int a1] : List Value).toArray below meth c H locs 0 0 (MQ below (PostC G σ (some (.long rf))) ([.int a0, .int a1] : List Value).toArray s 0 0 (AG G)) (F0 m 22 ls [])) → ∀ (ls : Array Slot) (H : Heap) (locs : List Loc), lv_has ls 5 [(0, .int c0), (1, .int c1), (2, .long s5.1), (4, .int s5.2)] → HH G σ H → va_S (AG G) s.heap H locs → W p l e (rm_ 0 0 0) s m ([.int a0, .int a1] : List Value).toArray below meth c H locs 0 0 (MQ below (PostC G σ (some (.long rf))) ([.int a0, .int a1] : List Value).toArray s 0 0 (AG G)) (F0 m 5 ls []) := by
    intro c0 c1 n s5 r5 hr hq
    refine lp_ind (P := fun s5 => ∀ (ls : Array Slot) (H : Heap) (locs : List Loc), lv_has ls 5 [(0, .int c0), (1, .int c1), (2, .long s5.1), (4, .int s5.2)] → HH G σ H → va_S (AG G) s.heap H locs → W p l e (rm_ 0 0 0) s m ([.int a0, .int a1] : List Value).toArray below meth c H locs 0 0 (MQ below (PostC G σ (some (.long rf))) ([.int a0, .int a1] : List Value).toArray s 0 0 (AG G)) (F0 m 5 ls [])) (Q := fun r5 => ∀ (ls : Array Slot) (H : Heap) (locs : List Loc), lv_has ls 5 [(2, .long r5)] → HH G σ H → va_S (AG G) s.heap H locs → W p l e (rm_ 0 0 0) s m ([.int a0, .int a1] : List Value).toArray below meth c H locs 0 0 (MQ below (PostC G σ (some (.long rf))) ([.int a0, .int a1] : List Value).toArray s 0 0 (AG G)) (F0 m 22 ls [])) ?_ n s5 r5 hr hq
    intro s5 x5 hf hx5 ls H locs hl hH hS
    unfold f_X1_power_b5 at hf
    refine lv_iload hx hb dX1_power_5 (lv_at hl 3 rfl) ?_
    refine lv_iload_n hx hb dX1_power_7 rfl (lv_at hl 1 rfl) ?_
    refine lv_icmp_ge (tgt := 22) hx hb dX1_power_8 (by decide) (fun c_ => ?_) (fun c_ => ?_)
    · have hf := (if_pos c_).symm.trans hf
      cases hf
      exact hx5 _ _ _ (lv_sub hl [2] rfl) hH hS
    · have hf := (if_neg c_).symm.trans hf
      refine lv_lload_n hx hb dX1_power_11 rfl (lv_at hl 2 rfl) ?_
      refine lv_iload_n hx hb dX1_power_12 rfl (lv_at hl 0 rfl) ?_
      refine lv_i2l (v := (c0).toInt64) hx hb dX1_power_13 rfl ?_
      refine lv_lmul hx hb dX1_power_14 ?_
      refine lv_lstore_n (lv' := [(2, .long (s5.1 * ((c0).toInt64))), (0, .int c0), (1, .int c1), (4, .int s5.2)]) hx hb dX1_power_15 rfl hl (by decide) rfl (fun ls hl => ?_)
      refine lv_iinc (v := (s5.2 + 1)) (lv' := [(4, .int (s5.2 + 1)), (2, .long (s5.1 * ((c0).toInt64))), (0, .int c0), (1, .int c1)]) hx hb dX1_power_16 hl (k := 3) rfl rfl (by decide) rfl (fun ls hl => ?_)
      refine lv_goto (tgt := 5) hx hb dX1_power_19 (by decide) ?_
      cases hf
      exact hx5 _ _ _ (lv_sub hl [2, 3, 1, 0] rfl) hH hS
  refine lv_lconst (v := (1 : Int64)) hx hb dX1_power_0 (by decide) ?_
  refine lv_lstore_n (lv' := [(2, .long (1 : Int64)), (0, .int a0), (1, .int a1)]) hx hb dX1_power_1 rfl hl (by decide) rfl (fun ls hl => ?_)
  refine lv_iconst (v := (0 : Int32)) hx hb dX1_power_2 (by decide) ?_
  refine lv_istore (lv' := [(4, .int (0 : Int32)), (2, .long (1 : Int64)), (0, .int a0), (1, .int a1)]) hx hb dX1_power_3 hl (by decide) rfl (fun ls hl => ?_)
  obtain ⟨r5_1, hr, hf⟩ := bd hf
  refine L5 a0 a1 N _ r5_1 hr ?_ _ _ _ (lv_sub hl [2, 3, 1, 0] rfl) hH hS
  intro ls H locs hl hH hS
  refine lv_lload_n hx hb dX1_power_22 rfl (lv_at hl 0 rfl) ?_
  cases hf
  exact r_lret X dX1_power_23 (Nat.le_of_ble_eq_true rfl) (Nat.le_of_ble_eq_true rfl) rfl hH hS
theorem cs_X1_isWord : CalS yX1_isWord cX1_isWord 4 (some .boolean) 3 := ⟨q188, q48, q189, by decide +kernel, by decide +kernel, by decide +kernel⟩
set_option maxHeartbeats 4000000 in
theorem met_X1_isWord (l : Launch) (G : GG) (σ : SG) (N : Nat) (a0 : Int32) (a1 : Int32) (a2 : Int64) (rf : Int32) (hf : f_X1_isWord N a0 a1 a2 = some rf) : Con l yX1_isWord cX1_isWord 4 (some .boolean) 1 0 0 G σ [.int a0, .int a1, .long a2] σ (some (.int rf)) := by
  refine con_of (by decide) (Nat.le_of_ble_eq_true rfl) ?_
  intro p e s m below meth c ls X hK hH hl hS
  have hx := X.1
  have hb := X.2.1
  have hml := X.2.2.2.1
  have hown : s.vm.findClass RX1 = some m.cls := X.2.2.2.2.1
  have hts := X.2.2.2.2.2.1
  have hl : lv_has ls 4 [(0, .int a0), (1, .int a1), (2, .long a2)] := hl
  unfold f_X1_isWord at hf
  refine lv_lload_n hx hb dX1_isWord_0 rfl (lv_at hl 2 rfl) ?_
  refine lv_lconst (v := (0 : Int64)) hx hb dX1_isWord_1 (by decide) ?_
  refine W.lcmp hx hb dX1_isWord_2 ?_
  refine lv_if_lt (tgt := 20) hx hb dX1_isWord_3 (by decide) (fun c_ => ?_) (fun c_ => ?_)
  · have hf := (if_pos ((lg_cmp_lt a2 (0 : Int64)).mp c_)).symm.trans hf
    refine lv_iconst (v := (0 : Int32)) hx hb dX1_isWord_20 (by decide) ?_
    obtain ⟨hz, hv⟩ := rz_s hf
    subst hv
    exact r_zret X dX1_isWord_21 (Nat.le_of_ble_eq_true rfl) (Nat.le_of_ble_eq_true rfl) hz rfl hH hS
  · have hf := (if_neg (fun z => c_ ((lg_cmp_lt a2 (0 : Int64)).mpr z))).symm.trans hf
    refine lv_lload_n hx hb dX1_isWord_6 rfl (lv_at hl 2 rfl) ?_
    refine lv_iload_n hx hb dX1_isWord_7 rfl (lv_at hl 0 rfl) ?_
    refine lv_iload_n hx hb dX1_isWord_8 rfl (lv_at hl 1 rfl) ?_
    obtain ⟨v1, hv, hf⟩ := bd hf
    refine c_S (As := [.int a0, .int a1]) (rest := [.long a2]) (st1 := [.long v1, .long a2]) X (met_X1_power l G _ N a0 a1 v1 hv) cs_X1_power q190 rfl rfl rfl hl.1 (Nat.le_of_ble_eq_true rfl) ⟨Nat.le_of_ble_eq_true rfl, Nat.le_of_ble_eq_true rfl⟩ ⟨Nat.le_of_ble_eq_true rfl, Nat.le_of_ble_eq_true rfl⟩ dX1_isWord_9 hK hH hS (fun H locs hH hS => ?_)
    refine W.cs (cells' := 0) (slots' := 0) (by rfl) (by rfl) ?_
    refine W.lcmp hx hb dX1_isWord_12 ?_
    refine lv_if_ge (tgt := 20) hx hb dX1_isWord_13 (by decide) (fun c_ => ?_) (fun c_ => ?_)
    · have hf := (if_pos ((lg_cmp_ge a2 v1).mp c_)).symm.trans hf
      refine lv_iconst (v := (0 : Int32)) hx hb dX1_isWord_20 (by decide) ?_
      obtain ⟨hz, hv⟩ := rz_s hf
      subst hv
      exact r_zret X dX1_isWord_21 (Nat.le_of_ble_eq_true rfl) (Nat.le_of_ble_eq_true rfl) hz rfl hH hS
    · have hf := (if_neg (fun z => c_ ((lg_cmp_ge a2 v1).mpr z))).symm.trans hf
      refine lv_iconst (v := (1 : Int32)) hx hb dX1_isWord_16 (by decide) ?_
      refine lv_goto (tgt := 21) hx hb dX1_isWord_17 (by decide) ?_
      obtain ⟨hz, hv⟩ := rz_s hf
      subst hv
      exact r_zret X dX1_isWord_21 (Nat.le_of_ble_eq_true rfl) (Nat.le_of_ble_eq_true rfl) hz rfl hH hS
theorem cv_X5_has : CalV "WordBench$List" yX5_has cX5_has 5 (some .boolean) 1 := ⟨q203, q204, q59, q205, by decide +kernel⟩
set_option maxHeartbeats 4000000 in
theorem met_X5_has (l : Launch) (G : GG) (σ : SG) (N : Nat) (a0 : Nat) (a1 : Int64) (rf : Int32) (hf : f_X5_has N σ a0 a1 = some rf) : Con l yX5_has cX5_has 5 (some .boolean) 0 0 0 G σ [.ref a0, .long a1] σ (some (.int rf)) := by
  refine con_of (by decide) (Nat.le_of_ble_eq_true rfl) ?_
  intro p e s m below meth c ls X hK hH hl hS
  have hx := X.1
  have hb := X.2.1
  have hml := X.2.2.2.1
  have hown : s.vm.findClass RX5 = some m.cls := X.2.2.2.2.1
  have hts := X.2.2.2.2.2.1
  have hl : lv_has ls 5 [(0, .ref a0), (1, .long a1)] := hl
  unfold f_X5_has at hf
  have L5 : ∀ (c0 : Nat) (c1 : Int64) (n : Nat) (s5 : (Int32 × Int32)) (r5 : Int32), lp (f_X5_has_b5 N c0 c1 σ) n s5 = some r5 → (∀ (ls : Array Slot) (H : Heap) (locs : List Loc), lv_has ls 5 [(3, .int r5)] → HH G σ H → va_S (AG G) s.heap H locs → W p l e (rm_ 0 0 0) s m ([.ref a0, .long a1] : List Value).toArray below meth c H locs 0 0 (MQ below (PostC G σ (some (.int rf))) ([.ref a0, .long a1] : List Value).toArray s 0 0 (AG G)) (F0 m 40 ls [])) → ∀ (ls : Array Slot) (H : Heap) (locs : List Loc), lv_has ls 5 [(0, .ref c0), (1, .long c1), (3, .int s5.1), (4, .int s5.2)] → HH G σ H → va_S (AG G) s.heap H locs → W p l e (rm_ 0 0 0) s m ([.ref a0, .long a1] : List Value).toArray below meth c H locs 0 0 (MQ below (PostC G σ (some (.int rf))) ([.ref a0, .long a1] : List Value).toArray s 0 0 (AG G)) (F0 m 5 ls []) := by
    intro c0 c1 n s5 r5 hr hq
    refine lp_ind (P := fun s5 => ∀ (ls : Array Slot) (H : Heap) (locs : List Loc), lv_has ls 5 [(0, .ref c0), (1, .long c1), (3, .int s5.1), (4, .int s5.2)] → HH G σ H → va_S (AG G) s.heap H locs → W p l e (rm_ 0 0 0) s m ([.ref a0, .long a1] : List Value).toArray below meth c H locs 0 0 (MQ below (PostC G σ (some (.int rf))) ([.ref a0, .long a1] : List Value).toArray s 0 0 (AG G)) (F0 m 5 ls [])) (Q := fun r5 => ∀ (ls : Array Slot) (H : Heap) (locs : List Loc), lv_has ls 5 [(3, .int r5)] → HH G σ H → va_S (AG G) s.heap H locs → W p l e (rm_ 0 0 0) s m ([.ref a0, .long a1] : List Value).toArray below meth c H locs 0 0 (MQ below (PostC G σ (some (.int rf))) ([.ref a0, .long a1] : List Value).toArray s 0 0 (AG G)) (F0 m 40 ls [])) ?_ n s5 r5 hr hq
    intro s5 x5 hf hx5 ls H locs hl hH hS
    unfold f_X5_has_b5 at hf
    have J32 : ∀ (d4 : Int32) (k0 : Int32) (k1 : Int32), f_X5_has_j32 N c0 c1 σ d4 k0 k1 = some x5 → ∀ (ls : Array Slot) (H : Heap) (locs : List Loc), lv_has ls 5 [(0, .ref c0), (1, .long c1), (4, .int d4)] → HH G σ H → va_S (AG G) s.heap H locs → W p l e (rm_ 0 0 0) s m ([.ref a0, .long a1] : List Value).toArray below meth c H locs 0 0 (MQ below (PostC G σ (some (.int rf))) ([.ref a0, .long a1] : List Value).toArray s 0 0 (AG G)) (F0 m 32 ls [.int k0, .int k1]) := by
      intro d4 k0 k1 hf ls H locs hl hH hS
      unfold f_X5_has_j32 at hf
      refine lv_ior hx hb dX5_has_32 ?_
      refine lv_istore_n (lv' := [(3, .int (k1 ||| k0)), (0, .ref c0), (1, .long c1), (4, .int d4)]) hx hb dX5_has_33 rfl hl (by decide) rfl (fun ls hl => ?_)
      refine lv_iinc (v := (d4 + 1)) (lv' := [(4, .int (d4 + 1)), (3, .int (k1 ||| k0)), (0, .ref c0), (1, .long c1)]) hx hb dX5_has_34 hl (k := 3) rfl rfl (by decide) rfl (fun ls hl => ?_)
      refine lv_goto (tgt := 5) hx hb dX5_has_37 (by decide) ?_
      cases hf
      exact hx5 _ _ _ (lv_sub hl [2, 3, 1, 0] rfl) hH hS
    refine lv_iload hx hb dX5_has_5 (lv_at hl 3 rfl) ?_
    refine lv_aload_n hx hb dX5_has_7 rfl (lv_at hl 0 rfl) ?_
    obtain ⟨v1, hv, hf⟩ := bd hf
    refine h_gIS (ref0 := "WordBench$Code") X hK hH fo_Code_3 hv q136 q137 dX5_has_8 ?_
    refine lv_icmp_ge (tgt := 40) hx hb dX5_has_11 (by decide) (fun c_ => ?_) (fun c_ => ?_)
    · have hf := (if_pos c_).symm.trans hf
      cases hf
      exact hx5 _ _ _ (lv_sub hl [2] rfl) hH hS
    · have hf := (if_neg c_).symm.trans hf
      refine lv_iload_n hx hb dX5_has_14 rfl (lv_at hl 2 rfl) ?_
      refine lv_aload_n hx hb dX5_has_15 rfl (lv_at hl 0 rfl) ?_
      obtain ⟨v2, hv, hf⟩ := bd hf
      refine h_gRS (ref0 := "WordBench$Code") X hK hH fo_Code_2 hv q126 q127 dX5_has_16 ?_
      refine lv_iload hx hb dX5_has_19 (lv_at hl 3 rfl) ?_
      obtain ⟨v3, hv, hf⟩ := bd hf
      refine h_aL X hK hH hv dX5_has_21 ?_
      refine lv_lload_n hx hb dX5_has_22 rfl (lv_at hl 1 rfl) ?_
      refine W.lcmp hx hb dX5_has_23 ?_
      refine lv_if_ne (tgt := 31) hx hb dX5_has_24 (by decide) (fun c_ => ?_) (fun c_ => ?_)
      · have hf := (if_neg (fun z => c_ ((lg_cmp_eq v3 c1).mpr z))).symm.trans hf
        refine lv_iconst (v := (0 : Int32)) hx hb dX5_has_31 (by decide) ?_
        exact J32 s5.2 (0 : Int32) s5.1 hf _ _ _ (lv_sub hl [0, 1, 3] rfl) hH hS
      · have hf := (if_pos ((lg_cmp_eq v3 c1).mp c_)).symm.trans hf
        refine lv_iconst (v := (1 : Int32)) hx hb dX5_has_27 (by decide) ?_
        refine lv_goto (tgt := 32) hx hb dX5_has_28 (by decide) ?_
        exact J32 s5.2 (1 : Int32) s5.1 hf _ _ _ (lv_sub hl [0, 1, 3] rfl) hH hS
  refine lv_iconst (v := (0 : Int32)) hx hb dX5_has_0 (by decide) ?_
  refine lv_istore_n (lv' := [(3, .int (0 : Int32)), (0, .ref a0), (1, .long a1)]) hx hb dX5_has_1 rfl hl (by decide) rfl (fun ls hl => ?_)
  refine lv_iconst (v := (0 : Int32)) hx hb dX5_has_2 (by decide) ?_
  refine lv_istore (lv' := [(4, .int (0 : Int32)), (3, .int (0 : Int32)), (0, .ref a0), (1, .long a1)]) hx hb dX5_has_3 hl (by decide) rfl (fun ls hl => ?_)
  obtain ⟨r5_4, hr, hf⟩ := bd hf
  refine L5 a0 a1 N _ r5_4 hr ?_ _ _ _ (lv_sub hl [2, 3, 1, 0] rfl) hH hS
  intro ls H locs hl hH hS
  refine lv_iload_n hx hb dX5_has_40 rfl (lv_at hl 0 rfl) ?_
  obtain ⟨hz, hv⟩ := rz_s hf
  subst hv
  exact r_zret X dX5_has_41 (Nat.le_of_ble_eq_true rfl) (Nat.le_of_ble_eq_true rfl) hz rfl hH hS
-- no selects for own class
set_option maxHeartbeats 4000000 in
theorem met_X5_refuses (l : Launch) (G : GG) (σ : SG) (N : Nat) (a0 : Nat) (a1 : Int64) (rf : Int32) (hf : f_X5_refuses N σ a0 a1 = some rf) : Con l yX5_refuses cX5_refuses 3 (some .int) 1 0 0 G σ [.ref a0, .long a1] σ (some (.int rf)) := by
  refine con_of (by decide) (Nat.le_of_ble_eq_true rfl) ?_
  intro p e s m below meth c ls X hK hH hl hS
  have hx := X.1
  have hb := X.2.1
  have hml := X.2.2.2.1
  have hown : s.vm.findClass RX5 = some m.cls := X.2.2.2.2.1
  have hts := X.2.2.2.2.2.1
  have hl : lv_has ls 3 [(0, .ref a0), (1, .long a1)] := hl
  unfold f_X5_refuses at hf
  refine lv_aload_n hx hb dX5_refuses_0 rfl (lv_at hl 0 rfl) ?_
  refine lv_lload_n hx hb dX5_refuses_1 rfl (lv_at hl 1 rfl) ?_
  obtain ⟨_, hw, hf⟩ := bd hf
  obtain ⟨v1, hv, hf⟩ := bd hf
  refine c_V (As := [.long a1]) (rest := []) (st1 := [.int v1]) X (met_X5_has l G σ N a0 a1 v1 hv) cv_X5_has q202 (recv1 (w := (RX5, TX5, 4)) hw hK hH rfl) rfl rfl rfl hl.1 (Nat.le_of_ble_eq_true rfl) ⟨Nat.le_of_ble_eq_true rfl, Nat.le_of_ble_eq_true rfl⟩ ⟨Nat.le_of_ble_eq_true rfl, Nat.le_of_ble_eq_true rfl⟩ dX5_refuses_2 hK hH hS (fun H locs hH hS => ?_)
  refine W.cs (cells' := 0) (slots' := 0) (by rfl) (by rfl) ?_
  refine lv_if_eq (tgt := 13) hx hb dX5_refuses_5 (by decide) (fun c_ => ?_) (fun c_ => ?_)
  · have hf := (if_pos c_).symm.trans hf
    refine lv_aload_n hx hb dX5_refuses_13 rfl (lv_at hl 0 rfl) ?_
    obtain ⟨v2, hv, hf⟩ := bd hf
    refine h_gIS (ref0 := "WordBench$Code") X hK hH fo_Code_3 hv q136 q137 dX5_refuses_14 ?_
    refine lv_sipush (v := (200 : Int32)) hx hb dX5_refuses_17 (by decide) ?_
    refine lv_icmp_ne (tgt := 28) hx hb dX5_refuses_20 (by decide) (fun c_ => ?_) (fun c_ => ?_)
    · have hf := (if_neg c_).symm.trans hf
      refine lv_iconst (v := (0 : Int32)) hx hb dX5_refuses_28 (by decide) ?_
      cases hf
      exact r_iret X dX5_refuses_29 (Nat.le_of_ble_eq_true rfl) (Nat.le_of_ble_eq_true rfl) rfl hH hS
    · have hf := (if_pos c_).symm.trans hf
      refine lv_bipush (v := (-6 : Int32)) hx hb dX5_refuses_23 (by decide) ?_
      refine lv_goto (tgt := 29) hx hb dX5_refuses_25 (by decide) ?_
      cases hf
      exact r_iret X dX5_refuses_29 (Nat.le_of_ble_eq_true rfl) (Nat.le_of_ble_eq_true rfl) rfl hH hS
  · have hf := (if_neg c_).symm.trans hf
    refine lv_bipush (v := (-3 : Int32)) hx hb dX5_refuses_8 (by decide) ?_
    refine lv_goto (tgt := 29) hx hb dX5_refuses_10 (by decide) ?_
    cases hf
    exact r_iret X dX5_refuses_29 (Nat.le_of_ble_eq_true rfl) (Nat.le_of_ble_eq_true rfl) rfl hH hS
-- no selects for own class
set_option maxHeartbeats 4000000 in
theorem met_X6_refuses (l : Launch) (G : GG) (σ : SG) (N : Nat) (a0 : Nat) (a1 : Int64) (rf : Int32) (hf : f_X6_refuses N σ a0 a1 = some rf) : Con l yX6_refuses cX6_refuses 3 (some .int) 0 0 0 G σ [.ref a0, .long a1] σ (some (.int rf)) := by
  refine con_of (by decide) (Nat.le_of_ble_eq_true rfl) ?_
  intro p e s m below meth c ls X hK hH hl hS
  have hx := X.1
  have hb := X.2.1
  have hml := X.2.2.2.1
  have hown : s.vm.findClass RX6 = some m.cls := X.2.2.2.2.1
  have hts := X.2.2.2.2.2.1
  have hl : lv_has ls 3 [(0, .ref a0), (1, .long a1)] := hl
  unfold f_X6_refuses at hf
  refine lv_aload_n hx hb dX6_refuses_0 rfl (lv_at hl 0 rfl) ?_
  obtain ⟨v1, hv, hf⟩ := bd hf
  refine h_gIS (ref0 := "WordBench$Code") X hK hH fo_Code_3 hv q134 q135 dX6_refuses_1 ?_
  refine lv_bipush (v := (12 : Int32)) hx hb dX6_refuses_4 (by decide) ?_
  refine lv_icmp_ne (tgt := 14) hx hb dX6_refuses_6 (by decide) (fun c_ => ?_) (fun c_ => ?_)
  · have hf := (if_neg c_).symm.trans hf
    refine lv_iconst (v := (0 : Int32)) hx hb dX6_refuses_14 (by decide) ?_
    cases hf
    exact r_iret X dX6_refuses_15 (Nat.le_of_ble_eq_true rfl) (Nat.le_of_ble_eq_true rfl) rfl hH hS
  · have hf := (if_pos c_).symm.trans hf
    refine lv_bipush (v := (-6 : Int32)) hx hb dX6_refuses_9 (by decide) ?_
    refine lv_goto (tgt := 15) hx hb dX6_refuses_11 (by decide) ?_
    cases hf
    exact r_iret X dX6_refuses_15 (Nat.le_of_ble_eq_true rfl) (Nat.le_of_ble_eq_true rfl) rfl hH hS
theorem cs_X1_times : CalS yX1_times cX1_times 3 (some .int) 3 := ⟨q213, q48, q214, by decide +kernel, by decide +kernel, by decide +kernel⟩
set_option maxHeartbeats 4000000 in
theorem met_X1_times (l : Launch) (G : GG) (σ : SG) (N : Nat) (a0 : Int32) (a1 : Int32) (a2 : Int32) (rf : Int32) (hf : f_X1_times N a0 a1 a2 = some rf) : Con l yX1_times cX1_times 3 (some .int) 0 0 0 G σ [.int a0, .int a1, .int a2] σ (some (.int rf)) := by
  refine con_of (by decide) (Nat.le_of_ble_eq_true rfl) ?_
  intro p e s m below meth c ls X hK hH hl hS
  have hx := X.1
  have hb := X.2.1
  have hml := X.2.2.2.1
  have hown : s.vm.findClass RX1 = some m.cls := X.2.2.2.2.1
  have hts := X.2.2.2.2.2.1
  have hl : lv_has ls 3 [(0, .int a0), (1, .int a1), (2, .int a2)] := hl
  unfold f_X1_times at hf
  refine lv_iload_n hx hb dX1_times_0 rfl (lv_at hl 0 rfl) ?_
  refine lv_iconst (v := (4 : Int32)) hx hb dX1_times_1 (by decide) ?_
  refine lv_icmp_eq (tgt := 11) hx hb dX1_times_2 (by decide) (fun c_ => ?_) (fun c_ => ?_)
  · have hf := (if_pos c_).symm.trans hf
    refine lv_iload_n hx hb dX1_times_11 rfl (lv_at hl 1 rfl) ?_
    refine lv_if_eq (tgt := 19) hx hb dX1_times_12 (by decide) (fun c_ => ?_) (fun c_ => ?_)
    · have hf := (if_pos c_).symm.trans hf
      refine lv_iconst (v := (0 : Int32)) hx hb dX1_times_19 (by decide) ?_
      cases hf
      exact r_iret X dX1_times_20 (Nat.le_of_ble_eq_true rfl) (Nat.le_of_ble_eq_true rfl) rfl hH hS
    · have hf := (if_neg c_).symm.trans hf
      refine lv_iload_n hx hb dX1_times_15 rfl (lv_at hl 2 rfl) ?_
      refine lv_if_ne (tgt := 21) hx hb dX1_times_16 (by decide) (fun c_ => ?_) (fun c_ => ?_)
      · have hf := (if_neg c_).symm.trans hf
        refine lv_iload_n hx hb dX1_times_21 rfl (lv_at hl 1 rfl) ?_
        refine lv_iload_n hx hb dX1_times_22 rfl (lv_at hl 2 rfl) ?_
        refine lv_iadd hx hb dX1_times_23 ?_
        refine lv_iconst (v := (2 : Int32)) hx hb dX1_times_24 (by decide) ?_
        refine lv_isub hx hb dX1_times_25 ?_
        refine lv_iconst (v := (3 : Int32)) hx hb dX1_times_26 (by decide) ?_
        obtain ⟨v1, hv, hf⟩ := bd hf
        refine r_irem hx hb hv dX1_times_27 ?_
        refine lv_iconst (v := (1 : Int32)) hx hb dX1_times_28 (by decide) ?_
        refine lv_iadd hx hb dX1_times_29 ?_
        cases hf
        exact r_iret X dX1_times_30 (Nat.le_of_ble_eq_true rfl) (Nat.le_of_ble_eq_true rfl) rfl hH hS
      · have hf := (if_pos c_).symm.trans hf
        refine lv_iconst (v := (0 : Int32)) hx hb dX1_times_19 (by decide) ?_
        cases hf
        exact r_iret X dX1_times_20 (Nat.le_of_ble_eq_true rfl) (Nat.le_of_ble_eq_true rfl) rfl hH hS
  · have hf := (if_neg c_).symm.trans hf
    refine lv_iload_n hx hb dX1_times_5 rfl (lv_at hl 1 rfl) ?_
    refine lv_iload_n hx hb dX1_times_6 rfl (lv_at hl 2 rfl) ?_
    refine lv_imul hx hb dX1_times_7 ?_
    refine lv_iload_n hx hb dX1_times_8 rfl (lv_at hl 0 rfl) ?_
    obtain ⟨v2, hv, hf⟩ := bd hf
    refine r_irem hx hb hv dX1_times_9 ?_
    cases hf
    exact r_iret X dX1_times_10 (Nat.le_of_ble_eq_true rfl) (Nat.le_of_ble_eq_true rfl) rfl hH hS
theorem cs_X1_added : CalS yX1_added cX1_added 3 (some .int) 3 := ⟨q216, q48, q217, by decide +kernel, by decide +kernel, by decide +kernel⟩
set_option maxHeartbeats 4000000 in
theorem met_X1_added (l : Launch) (G : GG) (σ : SG) (N : Nat) (a0 : Int32) (a1 : Int32) (a2 : Int32) (rf : Int32) (hf : f_X1_added N a0 a1 a2 = some rf) : Con l yX1_added cX1_added 3 (some .int) 0 0 0 G σ [.int a0, .int a1, .int a2] σ (some (.int rf)) := by
  refine con_of (by decide) (Nat.le_of_ble_eq_true rfl) ?_
  intro p e s m below meth c ls X hK hH hl hS
  have hx := X.1
  have hb := X.2.1
  have hml := X.2.2.2.1
  have hown : s.vm.findClass RX1 = some m.cls := X.2.2.2.2.1
  have hts := X.2.2.2.2.2.1
  have hl : lv_has ls 3 [(0, .int a0), (1, .int a1), (2, .int a2)] := hl
  unfold f_X1_added at hf
  refine lv_iload_n hx hb dX1_added_0 rfl (lv_at hl 0 rfl) ?_
  refine lv_iconst (v := (4 : Int32)) hx hb dX1_added_1 (by decide) ?_
  refine lv_icmp_ne (tgt := 11) hx hb dX1_added_2 (by decide) (fun c_ => ?_) (fun c_ => ?_)
  · have hf := (if_neg c_).symm.trans hf
    refine lv_iload_n hx hb dX1_added_11 rfl (lv_at hl 1 rfl) ?_
    refine lv_iload_n hx hb dX1_added_12 rfl (lv_at hl 2 rfl) ?_
    refine lv_iadd hx hb dX1_added_13 ?_
    refine lv_iload_n hx hb dX1_added_14 rfl (lv_at hl 0 rfl) ?_
    obtain ⟨v1, hv, hf⟩ := bd hf
    refine r_irem hx hb hv dX1_added_15 ?_
    cases hf
    exact r_iret X dX1_added_16 (Nat.le_of_ble_eq_true rfl) (Nat.le_of_ble_eq_true rfl) rfl hH hS
  · have hf := (if_pos c_).symm.trans hf
    refine lv_iload_n hx hb dX1_added_5 rfl (lv_at hl 1 rfl) ?_
    refine lv_iload_n hx hb dX1_added_6 rfl (lv_at hl 2 rfl) ?_
    refine lv_ixor hx hb dX1_added_7 ?_
    refine lv_goto (tgt := 16) hx hb dX1_added_8 (by decide) ?_
    cases hf
    exact r_iret X dX1_added_16 (Nat.le_of_ble_eq_true rfl) (Nat.le_of_ble_eq_true rfl) rfl hH hS
theorem cs_X1_productOf : CalS yX1_productOf cX1_productOf 12 (some .int) 4 := ⟨q210, q48, q211, by decide +kernel, by decide +kernel, by decide +kernel⟩
set_option maxHeartbeats 4000000 in
theorem met_X1_productOf (l : Launch) (G : GG) (σ : SG) (N : Nat) (a0 : Int32) (a1 : Int32) (a2 : Int64) (a4 : Int64) (rf : Int32) (hf : f_X1_productOf N a0 a1 a2 a4 = some rf) : Con l yX1_productOf cX1_productOf 12 (some .int) 1 0 0 G σ [.int a0, .int a1, .long a2, .long a4] σ (some (.int rf)) := by
  refine con_of (by decide) (Nat.le_of_ble_eq_true rfl) ?_
  intro p e s m below meth c ls X hK hH hl hS
  have hx := X.1
  have hb := X.2.1
  have hml := X.2.2.2.1
  have hown : s.vm.findClass RX1 = some m.cls := X.2.2.2.2.1
  have hts := X.2.2.2.2.2.1
  have hl : lv_has ls 12 [(0, .int a0), (1, .int a1), (2, .long a2), (4, .long a4)] := hl
  unfold f_X1_productOf at hf
  have L13 : ∀ (c0 : Int32) (c1 : Int32) (n : Nat) (s13 : (Int32 × Int64 × Int64 × Int32)) (r13 : Int32), lp (f_X1_productOf_b13 N c0 c1) n s13 = some r13 → (∀ (ls : Array Slot) (H : Heap) (locs : List Loc), lv_has ls 12 [(6, .int r13)] → HH G σ H → va_S (AG G) s.heap H locs → W p l e (rm_ 1 0 0) s m ([.int a0, .int a1, .long a2, .long a4] : List Value).toArray below meth c H locs 0 0 (MQ below (PostC G σ (some (.int rf))) ([.int a0, .int a1, .long a2, .long a4] : List Value).toArray s 0 0 (AG G)) (F0 m 63 ls [])) → ∀ (ls : Array Slot) (H : Heap) (locs : List Loc), lv_has ls 12 [(0, .int c0), (1, .int c1), (6, .int s13.1), (7, .long s13.2.1), (9, .long s13.2.2.1), (11, .int s13.2.2.2)] → HH G σ H → va_S (AG G) s.heap H locs → W p l e (rm_ 1 0 0) s m ([.int a0, .int a1, .long a2, .long a4] : List Value).toArray below meth c H locs 0 0 (MQ below (PostC G σ (some (.int rf))) ([.int a0, .int a1, .long a2, .long a4] : List Value).toArray s 0 0 (AG G)) (F0 m 13 ls []) := by
    intro c0 c1 n s13 r13 hr hq
    refine lp_ind (P := fun s13 => ∀ (ls : Array Slot) (H : Heap) (locs : List Loc), lv_has ls 12 [(0, .int c0), (1, .int c1), (6, .int s13.1), (7, .long s13.2.1), (9, .long s13.2.2.1), (11, .int s13.2.2.2)] → HH G σ H → va_S (AG G) s.heap H locs → W p l e (rm_ 1 0 0) s m ([.int a0, .int a1, .long a2, .long a4] : List Value).toArray below meth c H locs 0 0 (MQ below (PostC G σ (some (.int rf))) ([.int a0, .int a1, .long a2, .long a4] : List Value).toArray s 0 0 (AG G)) (F0 m 13 ls [])) (Q := fun r13 => ∀ (ls : Array Slot) (H : Heap) (locs : List Loc), lv_has ls 12 [(6, .int r13)] → HH G σ H → va_S (AG G) s.heap H locs → W p l e (rm_ 1 0 0) s m ([.int a0, .int a1, .long a2, .long a4] : List Value).toArray below meth c H locs 0 0 (MQ below (PostC G σ (some (.int rf))) ([.int a0, .int a1, .long a2, .long a4] : List Value).toArray s 0 0 (AG G)) (F0 m 63 ls [])) ?_ n s13 r13 hr hq
    intro s13 x13 hf hx13 ls H locs hl hH hS
    unfold f_X1_productOf_b13 at hf
    refine lv_iload hx hb dX1_productOf_13 (lv_at hl 5 rfl) ?_
    refine lv_iload_n hx hb dX1_productOf_15 rfl (lv_at hl 1 rfl) ?_
    refine lv_icmp_ge (tgt := 63) hx hb dX1_productOf_16 (by decide) (fun c_ => ?_) (fun c_ => ?_)
    · have hf := (if_pos c_).symm.trans hf
      cases hf
      exact hx13 _ _ _ (lv_sub hl [2] rfl) hH hS
    · have hf := (if_neg c_).symm.trans hf
      refine lv_iload_n hx hb dX1_productOf_19 rfl (lv_at hl 0 rfl) ?_
      refine lv_iload hx hb dX1_productOf_20 (lv_at hl 2 rfl) ?_
      refine lv_iload_n hx hb dX1_productOf_22 rfl (lv_at hl 0 rfl) ?_
      refine lv_lload hx hb dX1_productOf_23 (lv_at hl 3 rfl) ?_
      refine lv_iload_n hx hb dX1_productOf_25 rfl (lv_at hl 0 rfl) ?_
      refine lv_i2l (v := (c0).toInt64) hx hb dX1_productOf_26 rfl ?_
      obtain ⟨v1, hv, hf⟩ := bd hf
      refine r_lrem hx hb hv dX1_productOf_27 ?_
      refine lv_l2i (v := (v1).toInt32) hx hb dX1_productOf_28 rfl ?_
      refine lv_lload hx hb dX1_productOf_29 (lv_at hl 4 rfl) ?_
      refine lv_iload_n hx hb dX1_productOf_31 rfl (lv_at hl 0 rfl) ?_
      refine lv_i2l (v := (c0).toInt64) hx hb dX1_productOf_32 rfl ?_
      obtain ⟨v2, hv, hf⟩ := bd hf
      refine r_lrem hx hb hv dX1_productOf_33 ?_
      refine lv_l2i (v := (v2).toInt32) hx hb dX1_productOf_34 rfl ?_
      obtain ⟨v3, hv, hf⟩ := bd hf
      refine c_S (As := [.int c0, .int ((v1).toInt32), .int ((v2).toInt32)]) (rest := [.int s13.1, .int c0]) (st1 := [.int v3, .int s13.1, .int c0]) X (met_X1_times l G _ N c0 ((v1).toInt32) ((v2).toInt32) v3 hv) cs_X1_times q212 rfl rfl rfl hl.1 (Nat.le_of_ble_eq_true rfl) ⟨Nat.le_of_ble_eq_true rfl, Nat.le_of_ble_eq_true rfl⟩ ⟨Nat.le_of_ble_eq_true rfl, Nat.le_of_ble_eq_true rfl⟩ dX1_productOf_35 hK hH hS (fun H locs hH hS => ?_)
      refine W.cs (cells' := 0) (slots' := 0) (by rfl) (by rfl) ?_
      obtain ⟨v4, hv, hf⟩ := bd hf
      refine c_S (As := [.int c0, .int s13.1, .int v3]) (rest := []) (st1 := [.int v4]) X (met_X1_added l G _ N c0 s13.1 v3 v4 hv) cs_X1_added q215 rfl rfl rfl hl.1 (Nat.le_of_ble_eq_true rfl) ⟨Nat.le_of_ble_eq_true rfl, Nat.le_of_ble_eq_true rfl⟩ ⟨Nat.le_of_ble_eq_true rfl, Nat.le_of_ble_eq_true rfl⟩ dX1_productOf_38 hK hH hS (fun H locs hH hS => ?_)
      refine W.cs (cells' := 0) (slots' := 0) (by rfl) (by rfl) ?_
      refine lv_istore (lv' := [(6, .int v4), (0, .int c0), (1, .int c1), (7, .long s13.2.1), (9, .long s13.2.2.1), (11, .int s13.2.2.2)]) hx hb dX1_productOf_41 hl (by decide) rfl (fun ls hl => ?_)
      refine lv_lload hx hb dX1_productOf_43 (lv_at hl 3 rfl) ?_
      refine lv_iload_n hx hb dX1_productOf_45 rfl (lv_at hl 1 rfl) ?_
      refine lv_i2l (v := (c0).toInt64) hx hb dX1_productOf_46 rfl ?_
      obtain ⟨v5, hv, hf⟩ := bd hf
      refine r_ldiv hx hb hv dX1_productOf_47 ?_
      refine lv_lstore (lv' := [(7, .long v5), (6, .int v4), (0, .int c0), (1, .int c1), (9, .long s13.2.2.1), (11, .int s13.2.2.2)]) hx hb dX1_productOf_48 hl (by decide) rfl (fun ls hl => ?_)
      refine lv_lload hx hb dX1_productOf_50 (lv_at hl 4 rfl) ?_
      refine lv_iload_n hx hb dX1_productOf_52 rfl (lv_at hl 2 rfl) ?_
      refine lv_i2l (v := (c0).toInt64) hx hb dX1_productOf_53 rfl ?_
      obtain ⟨v6, hv, hf⟩ := bd hf
      refine r_ldiv hx hb hv dX1_productOf_54 ?_
      refine lv_lstore (lv' := [(9, .long v6), (7, .long v5), (6, .int v4), (0, .int c0), (1, .int c1), (11, .int s13.2.2.2)]) hx hb dX1_productOf_55 hl (by decide) rfl (fun ls hl => ?_)
      refine lv_iinc (v := (s13.2.2.2 + 1)) (lv' := [(11, .int (s13.2.2.2 + 1)), (9, .long v6), (7, .long v5), (6, .int v4), (0, .int c0), (1, .int c1)]) hx hb dX1_productOf_57 hl (k := 5) rfl rfl (by decide) rfl (fun ls hl => ?_)
      refine lv_goto (tgt := 13) hx hb dX1_productOf_60 (by decide) ?_
      cases hf
      exact hx13 _ _ _ (lv_sub hl [4, 5, 3, 2, 1, 0] rfl) hH hS
  refine lv_iconst (v := (0 : Int32)) hx hb dX1_productOf_0 (by decide) ?_
  refine lv_istore (lv' := [(6, .int (0 : Int32)), (0, .int a0), (1, .int a1), (2, .long a2), (4, .long a4)]) hx hb dX1_productOf_1 hl (by decide) rfl (fun ls hl => ?_)
  refine lv_lload_n hx hb dX1_productOf_3 rfl (lv_at hl 3 rfl) ?_
  refine lv_lstore (lv' := [(7, .long a2), (6, .int (0 : Int32)), (0, .int a0), (1, .int a1), (2, .long a2), (4, .long a4)]) hx hb dX1_productOf_4 hl (by decide) rfl (fun ls hl => ?_)
  refine lv_lload hx hb dX1_productOf_6 (lv_at hl 5 rfl) ?_
  refine lv_lstore (lv' := [(9, .long a4), (7, .long a2), (6, .int (0 : Int32)), (0, .int a0), (1, .int a1), (2, .long a2), (4, .long a4)]) hx hb dX1_productOf_8 hl (by decide) rfl (fun ls hl => ?_)
  refine lv_iconst (v := (0 : Int32)) hx hb dX1_productOf_10 (by decide) ?_
  refine lv_istore (lv' := [(11, .int (0 : Int32)), (9, .long a4), (7, .long a2), (6, .int (0 : Int32)), (0, .int a0), (1, .int a1), (2, .long a2), (4, .long a4)]) hx hb dX1_productOf_11 hl (by decide) rfl (fun ls hl => ?_)
  obtain ⟨r13_7, hr, hf⟩ := bd hf
  refine L13 a0 a1 N _ r13_7 hr ?_ _ _ _ (lv_sub hl [4, 5, 3, 2, 1, 0] rfl) hH hS
  intro ls H locs hl hH hS
  refine lv_iload hx hb dX1_productOf_63 (lv_at hl 0 rfl) ?_
  cases hf
  exact r_iret X dX1_productOf_65 (Nat.le_of_ble_eq_true rfl) (Nat.le_of_ble_eq_true rfl) rfl hH hS
-- no selects for own class
set_option maxHeartbeats 4000000 in
theorem met_X7_refuses (l : Launch) (G : GG) (σ : SG) (N : Nat) (a0 : Nat) (a1 : Int64) (rf : Int32) (hf : f_X7_refuses N σ a0 a1 = some rf) : Con l yX7_refuses cX7_refuses 5 (some .int) 2 0 0 G σ [.ref a0, .long a1] σ (some (.int rf)) := by
  refine con_of (by decide) (Nat.le_of_ble_eq_true rfl) ?_
  intro p e s m below meth c ls X hK hH hl hS
  have hx := X.1
  have hb := X.2.1
  have hml := X.2.2.2.1
  have hown : s.vm.findClass RX7 = some m.cls := X.2.2.2.2.1
  have hts := X.2.2.2.2.2.1
  have hl : lv_has ls 5 [(0, .ref a0), (1, .long a1)] := hl
  unfold f_X7_refuses at hf
  have L25 : ∀ (c0 : Nat) (c1 : Int64) (n : Nat) (s25 : (Int32 × Int32)) (r25 : Int32), lp (f_X7_refuses_b25 N c0 c1 σ) n s25 = some r25 → (∀ (ls : Array Slot) (H : Heap) (locs : List Loc), lv_has ls 5 [(0, .ref c0), (1, .long c1), (3, .int r25)] → HH G σ H → va_S (AG G) s.heap H locs → W p l e (rm_ 2 0 0) s m ([.ref a0, .long a1] : List Value).toArray below meth c H locs 0 0 (MQ below (PostC G σ (some (.int rf))) ([.ref a0, .long a1] : List Value).toArray s 0 0 (AG G)) (F0 m 70 ls [])) → ∀ (ls : Array Slot) (H : Heap) (locs : List Loc), lv_has ls 5 [(0, .ref c0), (1, .long c1), (3, .int s25.1), (4, .int s25.2)] → HH G σ H → va_S (AG G) s.heap H locs → W p l e (rm_ 2 0 0) s m ([.ref a0, .long a1] : List Value).toArray below meth c H locs 0 0 (MQ below (PostC G σ (some (.int rf))) ([.ref a0, .long a1] : List Value).toArray s 0 0 (AG G)) (F0 m 25 ls []) := by
    intro c0 c1 n s25 r25 hr hq
    refine lp_ind (P := fun s25 => ∀ (ls : Array Slot) (H : Heap) (locs : List Loc), lv_has ls 5 [(0, .ref c0), (1, .long c1), (3, .int s25.1), (4, .int s25.2)] → HH G σ H → va_S (AG G) s.heap H locs → W p l e (rm_ 2 0 0) s m ([.ref a0, .long a1] : List Value).toArray below meth c H locs 0 0 (MQ below (PostC G σ (some (.int rf))) ([.ref a0, .long a1] : List Value).toArray s 0 0 (AG G)) (F0 m 25 ls [])) (Q := fun r25 => ∀ (ls : Array Slot) (H : Heap) (locs : List Loc), lv_has ls 5 [(0, .ref c0), (1, .long c1), (3, .int r25)] → HH G σ H → va_S (AG G) s.heap H locs → W p l e (rm_ 2 0 0) s m ([.ref a0, .long a1] : List Value).toArray below meth c H locs 0 0 (MQ below (PostC G σ (some (.int rf))) ([.ref a0, .long a1] : List Value).toArray s 0 0 (AG G)) (F0 m 70 ls [])) ?_ n s25 r25 hr hq
    intro s25 x25 hf hx25 ls H locs hl hH hS
    unfold f_X7_refuses_b25 at hf
    have J62 : ∀ (d4 : Int32) (k0 : Int32) (k1 : Int32), f_X7_refuses_j62 N c0 c1 σ d4 k0 k1 = some x25 → ∀ (ls : Array Slot) (H : Heap) (locs : List Loc), lv_has ls 5 [(0, .ref c0), (1, .long c1), (4, .int d4)] → HH G σ H → va_S (AG G) s.heap H locs → W p l e (rm_ 2 0 0) s m ([.ref a0, .long a1] : List Value).toArray below meth c H locs 0 0 (MQ below (PostC G σ (some (.int rf))) ([.ref a0, .long a1] : List Value).toArray s 0 0 (AG G)) (F0 m 62 ls [.int k0, .int k1]) := by
      intro d4 k0 k1 hf ls H locs hl hH hS
      unfold f_X7_refuses_j62 at hf
      refine lv_iand hx hb dX7_refuses_62 ?_
      refine lv_istore_n (lv' := [(3, .int (k1 &&& k0)), (0, .ref c0), (1, .long c1), (4, .int d4)]) hx hb dX7_refuses_63 rfl hl (by decide) rfl (fun ls hl => ?_)
      refine lv_iinc (v := (d4 + 1)) (lv' := [(4, .int (d4 + 1)), (3, .int (k1 &&& k0)), (0, .ref c0), (1, .long c1)]) hx hb dX7_refuses_64 hl (k := 3) rfl rfl (by decide) rfl (fun ls hl => ?_)
      refine lv_goto (tgt := 25) hx hb dX7_refuses_67 (by decide) ?_
      cases hf
      exact hx25 _ _ _ (lv_sub hl [2, 3, 1, 0] rfl) hH hS
    refine lv_iload hx hb dX7_refuses_25 (lv_at hl 3 rfl) ?_
    refine lv_aload_n hx hb dX7_refuses_27 rfl (lv_at hl 0 rfl) ?_
    obtain ⟨v4, hv, hf⟩ := bd hf
    refine h_gIS (ref0 := "WordBench$Code") X hK hH fo_Code_3 hv q138 q139 dX7_refuses_28 ?_
    refine lv_icmp_ge (tgt := 70) hx hb dX7_refuses_31 (by decide) (fun c_ => ?_) (fun c_ => ?_)
    · have hf := (if_pos c_).symm.trans hf
      cases hf
      exact hx25 _ _ _ (lv_sub hl [0, 1, 2] rfl) hH hS
    · have hf := (if_neg c_).symm.trans hf
      refine lv_iload_n hx hb dX7_refuses_34 rfl (lv_at hl 2 rfl) ?_
      refine lv_aload_n hx hb dX7_refuses_35 rfl (lv_at hl 0 rfl) ?_
      obtain ⟨v5, hv, hf⟩ := bd hf
      refine h_gIS (ref0 := "WordBench$Code") X hK hH fo_Code_0 hv q108 q109 dX7_refuses_36 ?_
      refine lv_aload_n hx hb dX7_refuses_39 rfl (lv_at hl 0 rfl) ?_
      obtain ⟨v6, hv, hf⟩ := bd hf
      refine h_gIS (ref0 := "WordBench$Code") X hK hH fo_Code_1 hv q119 q120 dX7_refuses_40 ?_
      refine lv_lload_n hx hb dX7_refuses_43 rfl (lv_at hl 1 rfl) ?_
      refine lv_aload_n hx hb dX7_refuses_44 rfl (lv_at hl 0 rfl) ?_
      obtain ⟨v7, hv, hf⟩ := bd hf
      refine h_gRS (ref0 := "WordBench$Code") X hK hH fo_Code_2 hv q128 q129 dX7_refuses_45 ?_
      refine lv_iload hx hb dX7_refuses_48 (lv_at hl 3 rfl) ?_
      obtain ⟨v8, hv, hf⟩ := bd hf
      refine h_aL X hK hH hv dX7_refuses_50 ?_
      obtain ⟨v9, hv, hf⟩ := bd hf
      refine c_SN (host := "WordBench") (As := [.int v5, .int v6, .long c1, .long v8]) (rest := [.int s25.1]) (st1 := [.int v9, .int s25.1]) X (met_X1_productOf l G σ N v5 v6 c1 v8 v9 hv) cs_X1_productOf q209 rfl rfl rfl hl.1 (Nat.le_of_ble_eq_true rfl) ⟨Nat.le_of_ble_eq_true rfl, Nat.le_of_ble_eq_true rfl⟩ ⟨Nat.le_of_ble_eq_true rfl, Nat.le_of_ble_eq_true rfl⟩ dX7_refuses_51 hK hH hS (fun H locs hH hS => ?_)
      refine W.cs (cells' := 0) (slots' := 0) (by rfl) (by rfl) ?_
      refine lv_if_ne (tgt := 61) hx hb dX7_refuses_54 (by decide) (fun c_ => ?_) (fun c_ => ?_)
      · have hf := (if_neg c_).symm.trans hf
        refine lv_iconst (v := (0 : Int32)) hx hb dX7_refuses_61 (by decide) ?_
        exact J62 s25.2 (0 : Int32) s25.1 hf _ _ _ (lv_sub hl [0, 1, 3] rfl) hH hS
      · have hf := (if_pos c_).symm.trans hf
        refine lv_iconst (v := (1 : Int32)) hx hb dX7_refuses_57 (by decide) ?_
        refine lv_goto (tgt := 62) hx hb dX7_refuses_58 (by decide) ?_
        exact J62 s25.2 (1 : Int32) s25.1 hf _ _ _ (lv_sub hl [0, 1, 3] rfl) hH hS
  have J21 : ∀ (d0 : Nat) (d1 : Int64) (k0 : Int32), f_X7_refuses_j21 N σ d0 d1 k0 = some rf → ∀ (ls : Array Slot) (H : Heap) (locs : List Loc), lv_has ls 5 [(0, .ref d0), (1, .long d1)] → HH G σ H → va_S (AG G) s.heap H locs → W p l e (rm_ 2 0 0) s m ([.ref a0, .long a1] : List Value).toArray below meth c H locs 0 0 (MQ below (PostC G σ (some (.int rf))) ([.ref a0, .long a1] : List Value).toArray s 0 0 (AG G)) (F0 m 21 ls [.int k0]) := by
    intro d0 d1 k0 hf ls H locs hl hH hS
    unfold f_X7_refuses_j21 at hf
    refine lv_istore_n (lv' := [(3, .int k0), (0, .ref d0), (1, .long d1)]) hx hb dX7_refuses_21 rfl hl (by decide) rfl (fun ls hl => ?_)
    refine lv_iconst (v := (0 : Int32)) hx hb dX7_refuses_22 (by decide) ?_
    refine lv_istore (lv' := [(4, .int (0 : Int32)), (3, .int k0), (0, .ref d0), (1, .long d1)]) hx hb dX7_refuses_23 hl (by decide) rfl (fun ls hl => ?_)
    obtain ⟨r25_10, hr, hf⟩ := bd hf
    refine L25 d0 d1 N _ r25_10 hr ?_ _ _ _ (lv_sub hl [2, 3, 1, 0] rfl) hH hS
    intro ls H locs hl hH hS
    refine lv_iload_n hx hb dX7_refuses_70 rfl (lv_at hl 2 rfl) ?_
    refine lv_if_eq (tgt := 82) hx hb dX7_refuses_71 (by decide) (fun c_ => ?_) (fun c_ => ?_)
    · have hf := (if_pos c_).symm.trans hf
      refine lv_bipush (v := (-3 : Int32)) hx hb dX7_refuses_82 (by decide) ?_
      cases hf
      exact r_iret X dX7_refuses_84 (Nat.le_of_ble_eq_true rfl) (Nat.le_of_ble_eq_true rfl) rfl hH hS
    · have hf := (if_neg c_).symm.trans hf
      refine lv_aload_n hx hb dX7_refuses_74 rfl (lv_at hl 0 rfl) ?_
      refine lv_lload_n hx hb dX7_refuses_75 rfl (lv_at hl 1 rfl) ?_
      obtain ⟨_, hw, hf⟩ := bd hf
      obtain ⟨v11, hv, hf⟩ := bd hf
      refine c_Su (n := 1) (As := [.long d1]) (rest := []) (st1 := [.int v11]) X (met_X6_refuses l G σ N d0 d1 v11 hv) ⟨q1418, q173, q197, q198, q60, by decide +kernel, by decide +kernel⟩ q218 hw rfl rfl rfl hl.1 (Nat.le_of_ble_eq_true rfl) ⟨Nat.le_of_ble_eq_true rfl, Nat.le_of_ble_eq_true rfl⟩ ⟨Nat.le_of_ble_eq_true rfl, Nat.le_of_ble_eq_true rfl⟩ dX7_refuses_76 hK hH hS (fun H locs hH hS => ?_)
      refine W.cs (cells' := 0) (slots' := 0) (by rfl) (by rfl) ?_
      refine lv_goto (tgt := 84) hx hb dX7_refuses_79 (by decide) ?_
      cases hf
      exact r_iret X dX7_refuses_84 (Nat.le_of_ble_eq_true rfl) (Nat.le_of_ble_eq_true rfl) rfl hH hS
  refine lv_aload_n hx hb dX7_refuses_0 rfl (lv_at hl 0 rfl) ?_
  obtain ⟨v1, hv, hf⟩ := bd hf
  refine h_gIS (ref0 := "WordBench$Code") X hK hH fo_Code_0 hv q108 q109 dX7_refuses_1 ?_
  refine lv_aload_n hx hb dX7_refuses_4 rfl (lv_at hl 0 rfl) ?_
  obtain ⟨v2, hv, hf⟩ := bd hf
  refine h_gIS (ref0 := "WordBench$Code") X hK hH fo_Code_1 hv q119 q120 dX7_refuses_5 ?_
  refine lv_lload_n hx hb dX7_refuses_8 rfl (lv_at hl 1 rfl) ?_
  refine lv_lload_n hx hb dX7_refuses_9 rfl (lv_at hl 1 rfl) ?_
  obtain ⟨v3, hv, hf⟩ := bd hf
  refine c_SN (host := "WordBench") (As := [.int v1, .int v2, .long a1, .long a1]) (rest := []) (st1 := [.int v3]) X (met_X1_productOf l G σ N v1 v2 a1 a1 v3 hv) cs_X1_productOf q209 rfl rfl rfl hl.1 (Nat.le_of_ble_eq_true rfl) ⟨Nat.le_of_ble_eq_true rfl, Nat.le_of_ble_eq_true rfl⟩ ⟨Nat.le_of_ble_eq_true rfl, Nat.le_of_ble_eq_true rfl⟩ dX7_refuses_10 hK hH hS (fun H locs hH hS => ?_)
  refine W.cs (cells' := 0) (slots' := 0) (by rfl) (by rfl) ?_
  refine lv_if_ne (tgt := 20) hx hb dX7_refuses_13 (by decide) (fun c_ => ?_) (fun c_ => ?_)
  · have hf := (if_neg c_).symm.trans hf
    refine lv_iconst (v := (0 : Int32)) hx hb dX7_refuses_20 (by decide) ?_
    exact J21 a0 a1 (0 : Int32) hf _ _ _ (lv_sub hl [0, 1] rfl) hH hS
  · have hf := (if_pos c_).symm.trans hf
    refine lv_iconst (v := (1 : Int32)) hx hb dX7_refuses_16 (by decide) ?_
    refine lv_goto (tgt := 21) hx hb dX7_refuses_17 (by decide) ?_
    exact J21 a0 a1 (1 : Int32) hf _ _ _ (lv_sub hl [0, 1] rfl) hH hS
-- no selects for own class
set_option maxHeartbeats 4000000 in
theorem met_X8_refuses (l : Launch) (G : GG) (σ : SG) (N : Nat) (a0 : Nat) (a1 : Int64) (rf : Int32) (hf : f_X8_refuses N a0 a1 = some rf) : Con l yX8_refuses cX8_refuses 3 (some .int) 0 0 0 G σ [.ref a0, .long a1] σ (some (.int rf)) := by
  refine con_of (by decide) (Nat.le_of_ble_eq_true rfl) ?_
  intro p e s m below meth c ls X hK hH hl hS
  have hx := X.1
  have hb := X.2.1
  have hml := X.2.2.2.1
  have hown : s.vm.findClass RX8 = some m.cls := X.2.2.2.2.1
  have hts := X.2.2.2.2.2.1
  have hl : lv_has ls 3 [(0, .ref a0), (1, .long a1)] := hl
  unfold f_X8_refuses at hf
  refine lv_bipush (v := (-12 : Int32)) hx hb dX8_refuses_0 (by decide) ?_
  cases hf
  exact r_iret X dX8_refuses_2 (Nat.le_of_ble_eq_true rfl) (Nat.le_of_ble_eq_true rfl) rfl hH hS
-- no selects for own class
set_option maxHeartbeats 4000000 in
theorem met_X4_add (l : Launch) (G : GG) (σ : SG) (N : Nat) (a0 : Nat) (a1 : Int64) (σf : SG) (hf : f_X4_add N σ a0 a1 = some σf) : Con l yX4_add cX4_add 3 none 0 0 0 G σ [.ref a0, .long a1] σf none := by
  refine con_of (by decide) (Nat.le_of_ble_eq_true rfl) ?_
  intro p e s m below meth c ls X hK hH hl hS
  have hx := X.1
  have hb := X.2.1
  have hml := X.2.2.2.1
  have hown : s.vm.findClass RX4 = some m.cls := X.2.2.2.2.1
  have hts := X.2.2.2.2.2.1
  have hl : lv_has ls 3 [(0, .ref a0), (1, .long a1)] := hl
  unfold f_X4_add at hf
  refine lv_aload_n hx hb dX4_add_0 rfl (lv_at hl 0 rfl) ?_
  obtain ⟨v1, hv, hf⟩ := bd hf
  refine h_gR X hK hH fo_Code_2 hv q124 dX4_add_1 ?_
  refine lv_aload_n hx hb dX4_add_4 rfl (lv_at hl 0 rfl) ?_
  obtain ⟨v2, hv, hf⟩ := bd hf
  refine h_gI X hK hH fo_Code_3 hv q140 dX4_add_5 ?_
  refine lv_lload_n hx hb dX4_add_8 rfl (lv_at hl 1 rfl) ?_
  obtain ⟨t3, hv, hf⟩ := bd hf
  refine h_wL X hK hH hS hv dX4_add_9 (fun H locs hH hS => ?_)
  refine lv_aload_n hx hb dX4_add_10 rfl (lv_at hl 0 rfl) ?_
  refine lv_dup hx hb dX4_add_11 rfl ?_
  obtain ⟨v4, hv, hf⟩ := bd hf
  refine h_gI X hK hH fo_Code_3 hv q140 dX4_add_12 ?_
  refine lv_iconst (v := (1 : Int32)) hx hb dX4_add_15 (by decide) ?_
  refine lv_iadd hx hb dX4_add_16 ?_
  obtain ⟨t5, hv, hf⟩ := bd hf
  refine h_put (ty := .int) X hK hH hS fo_Code_3 hv q140 (by decide +kernel) rfl rfl dX4_add_17 (fun H locs hH hS => ?_)
  cases hf
  exact r_vret X dX4_add_20 (Nat.le_of_ble_eq_true rfl) (Nat.le_of_ble_eq_true rfl) rfl hH hS
theorem cu_X4_refuses_3 : CalU "WordBench$Code" "WordBench$List" ⟨"WordBench$Code", "refuses", "(J)I"⟩ yX5_refuses cX5_refuses 3 (some .int) 1 := ⟨q195, q199, q200, q201, q59, by decide +kernel, by decide +kernel, by decide +kernel⟩
theorem cu_X4_refuses_4 : CalU "WordBench$Code" "WordBench$Line" ⟨"WordBench$Code", "refuses", "(J)I"⟩ yX6_refuses cX6_refuses 3 (some .int) 1 := ⟨q195, q196, q197, q198, q60, by decide +kernel, by decide +kernel, by decide +kernel⟩
theorem cu_X4_refuses_5 : CalU "WordBench$Code" "WordBench$Own" ⟨"WordBench$Code", "refuses", "(J)I"⟩ yX7_refuses cX7_refuses 5 (some .int) 1 := ⟨q195, q206, q207, q208, q61, by decide +kernel, by decide +kernel, by decide +kernel⟩
theorem cu_X4_refuses_6 : CalU "WordBench$Code" "WordBench$Ring" ⟨"WordBench$Code", "refuses", "(J)I"⟩ yX8_refuses cX8_refuses 3 (some .int) 1 := ⟨q195, q219, q220, q221, q62, by decide +kernel, by decide +kernel, by decide +kernel⟩
theorem dr_X4_refuses {p : Program} {l : Launch} {e : Env} {R : Room} {s : State} {m : MethodId} {args : Array Value} {below : List Frame} {meth : Method} {c : Code} {H : Heap} {locs : List Loc} {cells slots : Nat} {Q : State → Prop} {cc : ByteArray} {pc : Nat} {ls : Array Slot} {rest st0 st1 : List Value} {H0 : Heap} {G : GG} {σ : SG} {yo : MethodName} {nL idx : Nat} {rto : Option FieldType} (N : Nat) {b : Nat} {a0 : Int64} {u : Int32} (X : Cx p s m args meth c cc rto nL yo) (q1 : Cond.methodLink yo.cls idx ⟨"WordBench$Code", "refuses", "(J)I"⟩ ∈ lw_all) (hv : dv_X4_refuses N σ b a0 = some u) (hst : st0 = ([.long a0] : List Value).reverse ++ .ref b :: rest) (hs1 : ((some (.int u)) : Option Value).toList ++ rest = st1) (hls : ls.size = nL) (hrm : (rest.map fun v => v.category).sum ≤ 20) (hR : 2 + 1 ≤ R.frames ∧ 20 + (5 + 11) + 80 * 2 ≤ R.locals) (hf : cells + 0 ≤ R.cells ∧ slots + 0 ≤ R.slots) (hdg : decode cc pc = .ok (.invokevirtual idx, 3)) (hK : KK G s) (hH : HH G σ H) (hS : va_S (AG G) H0 H locs)
    (kk : ∀ (H1 : Heap) (locs1 : List Loc), HH G σ H1 → va_S (AG G) H0 H1 locs1 → W p l e R s m args below meth c H1 locs1 (cells + 0) (slots + 0) Q (F0 m (pc + 3) ls st1)) : W p l e R s m args below meth c H locs cells slots Q (F0 m pc ls st0) := by
  subst hs1
  unfold dv_X4_refuses at hv
  split at hv
  · rename_i fs he
    exact r_U (C := "WordBench$List") (owner := "WordBench$Code") (x := ⟨"WordBench$Code", "refuses", "(J)I"⟩) (n := 1) (As := [.long a0]) X (met_X5_refuses l G σ N b a0 u hv) cu_X4_refuses_3 (va_Decl.abs (hK.2.1 _ q194 rfl)) q1 (recv_of_HH (w := (RX5, TX5, 4)) hK hH he rfl) rfl hst hls hrm ⟨by omega, by omega⟩ hf hdg hK hH hS kk
  · rename_i fs he
    exact r_U (C := "WordBench$Line") (owner := "WordBench$Code") (x := ⟨"WordBench$Code", "refuses", "(J)I"⟩) (n := 1) (As := [.long a0]) X (met_X6_refuses l G σ N b a0 u hv) cu_X4_refuses_4 (va_Decl.abs (hK.2.1 _ q194 rfl)) q1 (recv_of_HH (w := (RX6, TX6, 4)) hK hH he rfl) rfl hst hls hrm ⟨by omega, by omega⟩ hf hdg hK hH hS kk
  · rename_i fs he
    exact r_U (C := "WordBench$Own") (owner := "WordBench$Code") (x := ⟨"WordBench$Code", "refuses", "(J)I"⟩) (n := 1) (As := [.long a0]) X (met_X7_refuses l G σ N b a0 u hv) cu_X4_refuses_5 (va_Decl.abs (hK.2.1 _ q194 rfl)) q1 (recv_of_HH (w := (RX7, TX7, 4)) hK hH he rfl) rfl hst hls hrm ⟨by omega, by omega⟩ hf hdg hK hH hS kk
  · rename_i fs he
    exact r_U (C := "WordBench$Ring") (owner := "WordBench$Code") (x := ⟨"WordBench$Code", "refuses", "(J)I"⟩) (n := 1) (As := [.long a0]) X (met_X8_refuses l G σ N b a0 u hv) cu_X4_refuses_6 (va_Decl.abs (hK.2.1 _ q194 rfl)) q1 (recv_of_HH (w := (RX8, TX8, 4)) hK hH he rfl) rfl hst hls hrm ⟨by omega, by omega⟩ hf hdg hK hH hS kk
  · cases hv
theorem cu_X4_add_3 : CalU "WordBench$Code" "WordBench$List" ⟨"WordBench$Code", "add", "(J)V"⟩ yX4_add cX4_add 3 none 1 := ⟨q224, q226, q223, q229, q58, by decide +kernel, by decide +kernel, by decide +kernel⟩
theorem cu_X4_add_4 : CalU "WordBench$Code" "WordBench$Line" ⟨"WordBench$Code", "add", "(J)V"⟩ yX4_add cX4_add 3 none 1 := ⟨q224, q225, q223, q229, q58, by decide +kernel, by decide +kernel, by decide +kernel⟩
theorem cu_X4_add_5 : CalU "WordBench$Code" "WordBench$Own" ⟨"WordBench$Code", "add", "(J)V"⟩ yX4_add cX4_add 3 none 1 := ⟨q224, q227, q223, q229, q58, by decide +kernel, by decide +kernel, by decide +kernel⟩
theorem cu_X4_add_6 : CalU "WordBench$Code" "WordBench$Ring" ⟨"WordBench$Code", "add", "(J)V"⟩ yX4_add cX4_add 3 none 1 := ⟨q224, q228, q223, q229, q58, by decide +kernel, by decide +kernel, by decide +kernel⟩
theorem dr_X4_add {p : Program} {l : Launch} {e : Env} {R : Room} {s : State} {m : MethodId} {args : Array Value} {below : List Frame} {meth : Method} {c : Code} {H : Heap} {locs : List Loc} {cells slots : Nat} {Q : State → Prop} {cc : ByteArray} {pc : Nat} {ls : Array Slot} {rest st0 st1 : List Value} {H0 : Heap} {G : GG} {σ : SG} {yo : MethodName} {nL idx : Nat} {rto : Option FieldType} (N : Nat) {b : Nat} {a0 : Int64} {u : SG} (X : Cx p s m args meth c cc rto nL yo) (q1 : Cond.methodLink yo.cls idx ⟨"WordBench$Code", "add", "(J)V"⟩ ∈ lw_all) (hv : dv_X4_add N σ b a0 = some u) (hst : st0 = ([.long a0] : List Value).reverse ++ .ref b :: rest) (hs1 : (none : Option Value).toList ++ rest = st1) (hls : ls.size = nL) (hrm : (rest.map fun v => v.category).sum ≤ 20) (hR : 0 + 1 ≤ R.frames ∧ 20 + (3 + 11) + 80 * 0 ≤ R.locals) (hf : cells + 0 ≤ R.cells ∧ slots + 0 ≤ R.slots) (hdg : decode cc pc = .ok (.invokevirtual idx, 3)) (hK : KK G s) (hH : HH G σ H) (hS : va_S (AG G) H0 H locs)
    (kk : ∀ (H1 : Heap) (locs1 : List Loc), HH G u H1 → va_S (AG G) H0 H1 locs1 → W p l e R s m args below meth c H1 locs1 (cells + 0) (slots + 0) Q (F0 m (pc + 3) ls st1)) : W p l e R s m args below meth c H locs cells slots Q (F0 m pc ls st0) := by
  subst hs1
  unfold dv_X4_add at hv
  split at hv
  · rename_i fs he
    exact r_U (C := "WordBench$List") (owner := "WordBench$Code") (x := ⟨"WordBench$Code", "add", "(J)V"⟩) (n := 1) (As := [.long a0]) X (met_X4_add l G σ N b a0 u hv) cu_X4_add_3 (va_Decl.of (X.2.2.2.2.2.1 _ q223) (X.2.2.2.2.2.1 _ q229)) q1 (recv_of_HH (w := (RX5, TX5, 4)) hK hH he rfl) rfl hst hls hrm ⟨by omega, by omega⟩ hf hdg hK hH hS kk
  · rename_i fs he
    exact r_U (C := "WordBench$Line") (owner := "WordBench$Code") (x := ⟨"WordBench$Code", "add", "(J)V"⟩) (n := 1) (As := [.long a0]) X (met_X4_add l G σ N b a0 u hv) cu_X4_add_4 (va_Decl.of (X.2.2.2.2.2.1 _ q223) (X.2.2.2.2.2.1 _ q229)) q1 (recv_of_HH (w := (RX6, TX6, 4)) hK hH he rfl) rfl hst hls hrm ⟨by omega, by omega⟩ hf hdg hK hH hS kk
  · rename_i fs he
    exact r_U (C := "WordBench$Own") (owner := "WordBench$Code") (x := ⟨"WordBench$Code", "add", "(J)V"⟩) (n := 1) (As := [.long a0]) X (met_X4_add l G σ N b a0 u hv) cu_X4_add_5 (va_Decl.of (X.2.2.2.2.2.1 _ q223) (X.2.2.2.2.2.1 _ q229)) q1 (recv_of_HH (w := (RX7, TX7, 4)) hK hH he rfl) rfl hst hls hrm ⟨by omega, by omega⟩ hf hdg hK hH hS kk
  · rename_i fs he
    exact r_U (C := "WordBench$Ring") (owner := "WordBench$Code") (x := ⟨"WordBench$Code", "add", "(J)V"⟩) (n := 1) (As := [.long a0]) X (met_X4_add l G σ N b a0 u hv) cu_X4_add_6 (va_Decl.of (X.2.2.2.2.2.1 _ q223) (X.2.2.2.2.2.1 _ q229)) q1 (recv_of_HH (w := (RX8, TX8, 4)) hK hH he rfl) rfl hst hls hrm ⟨by omega, by omega⟩ hf hdg hK hH hS kk
  · cases hv
theorem cv_X1_add : CalV "WordBench" yX1_add cX1_add 6 (some .int) 2 := ⟨q180, q181, q48, q182, by decide +kernel⟩
set_option maxHeartbeats 4000000 in
theorem met_X1_add (l : Launch) (G : GG) (σ : SG) (N : Nat) (a0 : Nat) (a1 : Int32) (a2 : Int64) (σf : SG) (rf : Int32) (hf : f_X1_add N σ a0 a1 a2 = some (σf, rf)) : Con l yX1_add cX1_add 6 (some .int) 3 0 0 G σ [.ref a0, .int a1, .long a2] σf (some (.int rf)) := by
  refine con_of (by decide) (Nat.le_of_ble_eq_true rfl) ?_
  intro p e s m below meth c ls X hK hH hl hS
  have hx := X.1
  have hb := X.2.1
  have hml := X.2.2.2.1
  have hown : s.vm.findClass RX1 = some m.cls := X.2.2.2.2.1
  have hts := X.2.2.2.2.2.1
  have hl : lv_has ls 6 [(0, .ref a0), (1, .int a1), (2, .long a2)] := hl
  unfold f_X1_add at hf
  refine lv_aload_n hx hb dX1_add_0 rfl (lv_at hl 0 rfl) ?_
  refine lv_iload_n hx hb dX1_add_1 rfl (lv_at hl 1 rfl) ?_
  refine lv_iconst (v := (0 : Int32)) hx hb dX1_add_2 (by decide) ?_
  obtain ⟨_, hw, hf⟩ := bd hf
  obtain ⟨v1, hv, hf⟩ := bd hf
  refine c_V (As := [.int a1, .int (0 : Int32)]) (rest := []) (st1 := [.int v1]) X (met_X1_asks l G σ N a0 a1 (0 : Int32) v1 hv) cv_X1_asks q183 (recv1 (w := (RX1, TX1, 6)) hw hK hH rfl) rfl rfl rfl hl.1 (Nat.le_of_ble_eq_true rfl) ⟨Nat.le_of_ble_eq_true rfl, Nat.le_of_ble_eq_true rfl⟩ ⟨Nat.le_of_ble_eq_true rfl, Nat.le_of_ble_eq_true rfl⟩ dX1_add_3 hK hH hS (fun H locs hH hS => ?_)
  refine W.cs (cells' := 0) (slots' := 0) (by rfl) (by rfl) ?_
  refine lv_istore (lv' := [(4, .int v1), (0, .ref a0), (1, .int a1), (2, .long a2)]) hx hb dX1_add_6 hl (by decide) rfl (fun ls hl => ?_)
  refine lv_iload hx hb dX1_add_8 (lv_at hl 0 rfl) ?_
  refine lv_if_eq (tgt := 16) hx hb dX1_add_10 (by decide) (fun c_ => ?_) (fun c_ => ?_)
  · have hf := (if_pos c_).symm.trans hf
    refine lv_aload_n hx hb dX1_add_16 rfl (lv_at hl 1 rfl) ?_
    obtain ⟨v2, hv, hf⟩ := bd hf
    refine h_gR X hK hH fo_X1_0 hv q649 dX1_add_17 ?_
    refine lv_iload_n hx hb dX1_add_20 rfl (lv_at hl 2 rfl) ?_
    obtain ⟨v3, hv, hf⟩ := bd hf
    refine h_aQ (by decide) X hK hH hv dX1_add_21 ?_
    refine q_astore (lv' := [(5, va_rf v3), (4, .int v1), (0, .ref a0), (1, .int a1), (2, .long a2)]) hx hb dX1_add_22 hl (by decide) rfl (fun ls hl => ?_)
    refine q_aload hx hb dX1_add_24 (lv_at hl 0 rfl) ?_
    obtain ⟨b4, hq, hz⟩ := bd hf
    clear hf
    subst hq
    have hf := hz
    clear hz
    obtain ⟨v5, hv, hf⟩ := bd hf
    refine h_gI X hK hH fo_Code_0 hv q116 dX1_add_26 ?_
    refine lv_aload hx hb dX1_add_29 (lv_at hl 0 rfl) ?_
    obtain ⟨v6, hv, hf⟩ := bd hf
    refine h_gI X hK hH fo_Code_1 hv q123 dX1_add_31 ?_
    refine lv_lload_n hx hb dX1_add_34 rfl (lv_at hl 4 rfl) ?_
    obtain ⟨v7, hv, hf⟩ := bd hf
    refine c_S (As := [.int v5, .int v6, .long a2]) (rest := []) (st1 := [.int v7]) X (met_X1_isWord l G σ N v5 v6 a2 v7 hv) cs_X1_isWord q187 rfl rfl rfl hl.1 (Nat.le_of_ble_eq_true rfl) ⟨Nat.le_of_ble_eq_true rfl, Nat.le_of_ble_eq_true rfl⟩ ⟨Nat.le_of_ble_eq_true rfl, Nat.le_of_ble_eq_true rfl⟩ dX1_add_35 hK hH hS (fun H locs hH hS => ?_)
    refine W.cs (cells' := 0) (slots' := 0) (by rfl) (by rfl) ?_
    refine lv_if_ne (tgt := 43) hx hb dX1_add_38 (by decide) (fun c_ => ?_) (fun c_ => ?_)
    · have hf := (if_neg c_).symm.trans hf
      refine lv_aload hx hb dX1_add_43 (lv_at hl 0 rfl) ?_
      refine lv_lload_n hx hb dX1_add_45 rfl (lv_at hl 4 rfl) ?_
      obtain ⟨v8, hv, hf⟩ := bd hf
      refine dr_X4_refuses N (rest := []) (st1 := [.int v8]) X q193 hv rfl rfl hl.1 (Nat.le_of_ble_eq_true rfl) ⟨Nat.le_of_ble_eq_true rfl, Nat.le_of_ble_eq_true rfl⟩ ⟨Nat.le_of_ble_eq_true rfl, Nat.le_of_ble_eq_true rfl⟩ dX1_add_46 hK hH hS (fun H locs hH hS => ?_)
      refine W.cs (cells' := 0) (slots' := 0) (by rfl) (by rfl) ?_
      refine lv_istore (lv' := [(4, .int v8), (5, .ref b4), (0, .ref a0), (1, .int a1), (2, .long a2)]) hx hb dX1_add_49 hl (by decide) rfl (fun ls hl => ?_)
      refine lv_iload hx hb dX1_add_51 (lv_at hl 0 rfl) ?_
      refine lv_if_eq (tgt := 59) hx hb dX1_add_53 (by decide) (fun c_ => ?_) (fun c_ => ?_)
      · have hf := (if_pos c_).symm.trans hf
        refine lv_aload hx hb dX1_add_59 (lv_at hl 1 rfl) ?_
        refine lv_lload_n hx hb dX1_add_61 rfl (lv_at hl 4 rfl) ?_
        obtain ⟨v9, hv, hf⟩ := bd hf
        refine dr_X4_add N (rest := []) (st1 := []) X q222 hv rfl rfl hl.1 (Nat.le_of_ble_eq_true rfl) ⟨Nat.le_of_ble_eq_true rfl, Nat.le_of_ble_eq_true rfl⟩ ⟨Nat.le_of_ble_eq_true rfl, Nat.le_of_ble_eq_true rfl⟩ dX1_add_62 hK hH hS (fun H locs hH hS => ?_)
        refine W.cs (cells' := 0) (slots' := 0) (by rfl) (by rfl) ?_
        refine lv_aload hx hb dX1_add_65 (lv_at hl 1 rfl) ?_
        obtain ⟨v10, hv, hf⟩ := bd hf
        refine h_gI X hK hH fo_Code_3 hv q141 dX1_add_67 ?_
        cases hf
        exact r_iret X dX1_add_70 (Nat.le_of_ble_eq_true rfl) (Nat.le_of_ble_eq_true rfl) rfl hH hS
      · have hf := (if_neg c_).symm.trans hf
        refine lv_iload hx hb dX1_add_56 (lv_at hl 0 rfl) ?_
        cases hf
        exact r_iret X dX1_add_58 (Nat.le_of_ble_eq_true rfl) (Nat.le_of_ble_eq_true rfl) rfl hH hS
    · have hf := (if_pos c_).symm.trans hf
      refine lv_iconst (v := (-1 : Int32)) hx hb dX1_add_41 (by decide) ?_
      cases hf
      exact r_iret X dX1_add_42 (Nat.le_of_ble_eq_true rfl) (Nat.le_of_ble_eq_true rfl) rfl hH hS
  · have hf := (if_neg c_).symm.trans hf
    refine lv_iload hx hb dX1_add_13 (lv_at hl 0 rfl) ?_
    cases hf
    exact r_iret X dX1_add_15 (Nat.le_of_ble_eq_true rfl) (Nat.le_of_ble_eq_true rfl) rfl hH hS
theorem cs_X1_against : CalS yX1_against cX1_against 2 (some .int) 2 := ⟨q303, q48, q304, by decide +kernel, by decide +kernel, by decide +kernel⟩
set_option maxHeartbeats 4000000 in
theorem met_X1_against (l : Launch) (G : GG) (σ : SG) (N : Nat) (a0 : Int32) (a1 : Int32) (rf : Int32) (hf : f_X1_against N a0 a1 = some rf) : Con l yX1_against cX1_against 2 (some .int) 0 0 0 G σ [.int a0, .int a1] σ (some (.int rf)) := by
  refine con_of (by decide) (Nat.le_of_ble_eq_true rfl) ?_
  intro p e s m below meth c ls X hK hH hl hS
  have hx := X.1
  have hb := X.2.1
  have hml := X.2.2.2.1
  have hown : s.vm.findClass RX1 = some m.cls := X.2.2.2.2.1
  have hts := X.2.2.2.2.2.1
  have hl : lv_has ls 2 [(0, .int a0), (1, .int a1)] := hl
  unfold f_X1_against at hf
  refine lv_iload_n hx hb dX1_against_0 rfl (lv_at hl 0 rfl) ?_
  refine lv_iconst (v := (4 : Int32)) hx hb dX1_against_1 (by decide) ?_
  refine lv_icmp_ne (tgt := 9) hx hb dX1_against_2 (by decide) (fun c_ => ?_) (fun c_ => ?_)
  · have hf := (if_neg c_).symm.trans hf
    refine lv_iload_n hx hb dX1_against_9 rfl (lv_at hl 0 rfl) ?_
    refine lv_iload_n hx hb dX1_against_10 rfl (lv_at hl 1 rfl) ?_
    refine lv_isub hx hb dX1_against_11 ?_
    refine lv_iload_n hx hb dX1_against_12 rfl (lv_at hl 0 rfl) ?_
    obtain ⟨v1, hv, hf⟩ := bd hf
    refine r_irem hx hb hv dX1_against_13 ?_
    cases hf
    exact r_iret X dX1_against_14 (Nat.le_of_ble_eq_true rfl) (Nat.le_of_ble_eq_true rfl) rfl hH hS
  · have hf := (if_pos c_).symm.trans hf
    refine lv_iload_n hx hb dX1_against_5 rfl (lv_at hl 1 rfl) ?_
    refine lv_goto (tgt := 14) hx hb dX1_against_6 (by decide) ?_
    cases hf
    exact r_iret X dX1_against_14 (Nat.le_of_ble_eq_true rfl) (Nat.le_of_ble_eq_true rfl) rfl hH hS
theorem cs_X1_isField : CalS yX1_isField cX1_isField 2 (some .boolean) 2 := ⟨q90, q48, q91, by decide +kernel, by decide +kernel, by decide +kernel⟩
set_option maxHeartbeats 4000000 in
theorem met_X1_isField (l : Launch) (G : GG) (σ : SG) (N : Nat) (a0 : Int32) (a1 : Int32) (rf : Int32) (hf : f_X1_isField N a0 a1 = some rf) : Con l yX1_isField cX1_isField 2 (some .boolean) 1 0 0 G σ [.int a0, .int a1] σ (some (.int rf)) := by
  refine con_of (by decide) (Nat.le_of_ble_eq_true rfl) ?_
  intro p e s m below meth c ls X hK hH hl hS
  have hx := X.1
  have hb := X.2.1
  have hml := X.2.2.2.1
  have hown : s.vm.findClass RX1 = some m.cls := X.2.2.2.2.1
  have hts := X.2.2.2.2.2.1
  have hl : lv_has ls 2 [(0, .int a0), (1, .int a1)] := hl
  unfold f_X1_isField at hf
  refine lv_iload_n hx hb dX1_isField_0 rfl (lv_at hl 0 rfl) ?_
  refine lv_i2l (v := (a0).toInt64) hx hb dX1_isField_1 rfl ?_
  refine lv_ldc2 (v := (2 : Int64)) hx hb hown (hts _ q92) dX1_isField_2 ?_
  refine lv_ldc2 (v := (5 : Int64)) hx hb hown (hts _ q93) dX1_isField_5 ?_
  obtain ⟨v1, hv, hf⟩ := bd hf
  refine c_S (As := [.long ((a0).toInt64), .long (2 : Int64), .long (5 : Int64)]) (rest := []) (st1 := [.int v1]) X (met_X1_isIn l G _ N ((a0).toInt64) (2 : Int64) (5 : Int64) v1 hv) cs_X1_isIn q86 rfl rfl rfl hl.1 (Nat.le_of_ble_eq_true rfl) ⟨Nat.le_of_ble_eq_true rfl, Nat.le_of_ble_eq_true rfl⟩ ⟨Nat.le_of_ble_eq_true rfl, Nat.le_of_ble_eq_true rfl⟩ dX1_isField_8 hK hH hS (fun H locs hH hS => ?_)
  refine W.cs (cells' := 0) (slots' := 0) (by rfl) (by rfl) ?_
  refine lv_if_eq (tgt := 30) hx hb dX1_isField_11 (by decide) (fun c_ => ?_) (fun c_ => ?_)
  · have hf := (if_pos c_).symm.trans hf
    refine lv_iconst (v := (0 : Int32)) hx hb dX1_isField_30 (by decide) ?_
    obtain ⟨hz, hv⟩ := rz_s hf
    subst hv
    exact r_zret X dX1_isField_31 (Nat.le_of_ble_eq_true rfl) (Nat.le_of_ble_eq_true rfl) hz rfl hH hS
  · have hf := (if_neg c_).symm.trans hf
    refine lv_iload_n hx hb dX1_isField_14 rfl (lv_at hl 1 rfl) ?_
    refine lv_i2l (v := (a1).toInt64) hx hb dX1_isField_15 rfl ?_
    refine lv_lconst (v := (1 : Int64)) hx hb dX1_isField_16 (by decide) ?_
    refine lv_ldc2 (v := (12 : Int64)) hx hb hown (hts _ q94) dX1_isField_17 ?_
    obtain ⟨v2, hv, hf⟩ := bd hf
    refine c_S (As := [.long ((a1).toInt64), .long (1 : Int64), .long (12 : Int64)]) (rest := []) (st1 := [.int v2]) X (met_X1_isIn l G _ N ((a1).toInt64) (1 : Int64) (12 : Int64) v2 hv) cs_X1_isIn q86 rfl rfl rfl hl.1 (Nat.le_of_ble_eq_true rfl) ⟨Nat.le_of_ble_eq_true rfl, Nat.le_of_ble_eq_true rfl⟩ ⟨Nat.le_of_ble_eq_true rfl, Nat.le_of_ble_eq_true rfl⟩ dX1_isField_20 hK hH hS (fun H locs hH hS => ?_)
    refine W.cs (cells' := 0) (slots' := 0) (by rfl) (by rfl) ?_
    refine lv_if_eq (tgt := 30) hx hb dX1_isField_23 (by decide) (fun c_ => ?_) (fun c_ => ?_)
    · have hf := (if_pos c_).symm.trans hf
      refine lv_iconst (v := (0 : Int32)) hx hb dX1_isField_30 (by decide) ?_
      obtain ⟨hz, hv⟩ := rz_s hf
      subst hv
      exact r_zret X dX1_isField_31 (Nat.le_of_ble_eq_true rfl) (Nat.le_of_ble_eq_true rfl) hz rfl hH hS
    · have hf := (if_neg c_).symm.trans hf
      refine lv_iconst (v := (1 : Int32)) hx hb dX1_isField_26 (by decide) ?_
      refine lv_goto (tgt := 31) hx hb dX1_isField_27 (by decide) ?_
      obtain ⟨hz, hv⟩ := rz_s hf
      subst hv
      exact r_zret X dX1_isField_31 (Nat.le_of_ble_eq_true rfl) (Nat.le_of_ble_eq_true rfl) hz rfl hH hS
theorem cs_X1_areWords : CalS yX1_areWords cX1_areWords 6 (some .boolean) 4 := ⟨q371, q48, q372, by decide +kernel, by decide +kernel, by decide +kernel⟩
set_option maxHeartbeats 4000000 in
theorem met_X1_areWords (l : Launch) (G : GG) (σ : SG) (N : Nat) (a0 : Int32) (a1 : Int32) (a2 : Int64) (a4 : Int64) (rf : Int32) (hf : f_X1_areWords N a0 a1 a2 a4 = some rf) : Con l yX1_areWords cX1_areWords 6 (some .boolean) 2 0 0 G σ [.int a0, .int a1, .long a2, .long a4] σ (some (.int rf)) := by
  refine con_of (by decide) (Nat.le_of_ble_eq_true rfl) ?_
  intro p e s m below meth c ls X hK hH hl hS
  have hx := X.1
  have hb := X.2.1
  have hml := X.2.2.2.1
  have hown : s.vm.findClass RX1 = some m.cls := X.2.2.2.2.1
  have hts := X.2.2.2.2.2.1
  have hl : lv_has ls 6 [(0, .int a0), (1, .int a1), (2, .long a2), (4, .long a4)] := hl
  unfold f_X1_areWords at hf
  refine lv_iload_n hx hb dX1_areWords_0 rfl (lv_at hl 0 rfl) ?_
  refine lv_iload_n hx hb dX1_areWords_1 rfl (lv_at hl 1 rfl) ?_
  obtain ⟨v1, hv, hf⟩ := bd hf
  refine c_S (As := [.int a0, .int a1]) (rest := []) (st1 := [.int v1]) X (met_X1_isField l G _ N a0 a1 v1 hv) cs_X1_isField q89 rfl rfl rfl hl.1 (Nat.le_of_ble_eq_true rfl) ⟨Nat.le_of_ble_eq_true rfl, Nat.le_of_ble_eq_true rfl⟩ ⟨Nat.le_of_ble_eq_true rfl, Nat.le_of_ble_eq_true rfl⟩ dX1_areWords_2 hK hH hS (fun H locs hH hS => ?_)
  refine W.cs (cells' := 0) (slots' := 0) (by rfl) (by rfl) ?_
  refine lv_if_eq (tgt := 31) hx hb dX1_areWords_5 (by decide) (fun c_ => ?_) (fun c_ => ?_)
  · have hf := (if_pos c_).symm.trans hf
    refine lv_iconst (v := (0 : Int32)) hx hb dX1_areWords_31 (by decide) ?_
    obtain ⟨hz, hv⟩ := rz_s hf
    subst hv
    exact r_zret X dX1_areWords_32 (Nat.le_of_ble_eq_true rfl) (Nat.le_of_ble_eq_true rfl) hz rfl hH hS
  · have hf := (if_neg c_).symm.trans hf
    refine lv_iload_n hx hb dX1_areWords_8 rfl (lv_at hl 0 rfl) ?_
    refine lv_iload_n hx hb dX1_areWords_9 rfl (lv_at hl 1 rfl) ?_
    refine lv_lload_n hx hb dX1_areWords_10 rfl (lv_at hl 2 rfl) ?_
    obtain ⟨v2, hv, hf⟩ := bd hf
    refine c_S (As := [.int a0, .int a1, .long a2]) (rest := []) (st1 := [.int v2]) X (met_X1_isWord l G _ N a0 a1 a2 v2 hv) cs_X1_isWord q187 rfl rfl rfl hl.1 (Nat.le_of_ble_eq_true rfl) ⟨Nat.le_of_ble_eq_true rfl, Nat.le_of_ble_eq_true rfl⟩ ⟨Nat.le_of_ble_eq_true rfl, Nat.le_of_ble_eq_true rfl⟩ dX1_areWords_11 hK hH hS (fun H locs hH hS => ?_)
    refine W.cs (cells' := 0) (slots' := 0) (by rfl) (by rfl) ?_
    refine lv_if_eq (tgt := 31) hx hb dX1_areWords_14 (by decide) (fun c_ => ?_) (fun c_ => ?_)
    · have hf := (if_pos c_).symm.trans hf
      refine lv_iconst (v := (0 : Int32)) hx hb dX1_areWords_31 (by decide) ?_
      obtain ⟨hz, hv⟩ := rz_s hf
      subst hv
      exact r_zret X dX1_areWords_32 (Nat.le_of_ble_eq_true rfl) (Nat.le_of_ble_eq_true rfl) hz rfl hH hS
    · have hf := (if_neg c_).symm.trans hf
      refine lv_iload_n hx hb dX1_areWords_17 rfl (lv_at hl 0 rfl) ?_
      refine lv_iload_n hx hb dX1_areWords_18 rfl (lv_at hl 1 rfl) ?_
      refine lv_lload hx hb dX1_areWords_19 (lv_at hl 3 rfl) ?_
      obtain ⟨v3, hv, hf⟩ := bd hf
      refine c_S (As := [.int a0, .int a1, .long a4]) (rest := []) (st1 := [.int v3]) X (met_X1_isWord l G _ N a0 a1 a4 v3 hv) cs_X1_isWord q187 rfl rfl rfl hl.1 (Nat.le_of_ble_eq_true rfl) ⟨Nat.le_of_ble_eq_true rfl, Nat.le_of_ble_eq_true rfl⟩ ⟨Nat.le_of_ble_eq_true rfl, Nat.le_of_ble_eq_true rfl⟩ dX1_areWords_21 hK hH hS (fun H locs hH hS => ?_)
      refine W.cs (cells' := 0) (slots' := 0) (by rfl) (by rfl) ?_
      refine lv_if_eq (tgt := 31) hx hb dX1_areWords_24 (by decide) (fun c_ => ?_) (fun c_ => ?_)
      · have hf := (if_pos c_).symm.trans hf
        refine lv_iconst (v := (0 : Int32)) hx hb dX1_areWords_31 (by decide) ?_
        obtain ⟨hz, hv⟩ := rz_s hf
        subst hv
        exact r_zret X dX1_areWords_32 (Nat.le_of_ble_eq_true rfl) (Nat.le_of_ble_eq_true rfl) hz rfl hH hS
      · have hf := (if_neg c_).symm.trans hf
        refine lv_iconst (v := (1 : Int32)) hx hb dX1_areWords_27 (by decide) ?_
        refine lv_goto (tgt := 32) hx hb dX1_areWords_28 (by decide) ?_
        obtain ⟨hz, hv⟩ := rz_s hf
        subst hv
        exact r_zret X dX1_areWords_32 (Nat.le_of_ble_eq_true rfl) (Nat.le_of_ble_eq_true rfl) hz rfl hH hS
theorem cs_X1_chosen : CalS yX1_chosen cX1_chosen 5 (some .long) 2 := ⟨q452, q48, q453, by decide +kernel, by decide +kernel, by decide +kernel⟩
set_option maxHeartbeats 4000000 in
theorem met_X1_chosen (l : Launch) (G : GG) (σ : SG) (N : Nat) (a0 : Int32) (a1 : Int32) (rf : Int64) (hf : f_X1_chosen N a0 a1 = some rf) : Con l yX1_chosen cX1_chosen 5 (some .long) 0 0 0 G σ [.int a0, .int a1] σ (some (.long rf)) := by
  refine con_of (by decide) (Nat.le_of_ble_eq_true rfl) ?_
  intro p e s m below meth c ls X hK hH hl hS
  have hx := X.1
  have hb := X.2.1
  have hml := X.2.2.2.1
  have hown : s.vm.findClass RX1 = some m.cls := X.2.2.2.2.1
  have hts := X.2.2.2.2.2.1
  have hl : lv_has ls 5 [(0, .int a0), (1, .int a1)] := hl
  unfold f_X1_chosen at hf
  have L16 : ∀ (c0 : Int32) (c1 : Int32) (n : Nat) (s16 : (Int64 × Int32)) (r16 : Int64), lp (f_X1_chosen_b16 N c0 c1) n s16 = some r16 → (∀ (ls : Array Slot) (H : Heap) (locs : List Loc), lv_has ls 5 [(2, .long r16)] → HH G σ H → va_S (AG G) s.heap H locs → W p l e (rm_ 0 0 0) s m ([.int a0, .int a1] : List Value).toArray below meth c H locs 0 0 (MQ below (PostC G σ (some (.long rf))) ([.int a0, .int a1] : List Value).toArray s 0 0 (AG G)) (F0 m 42 ls [])) → ∀ (ls : Array Slot) (H : Heap) (locs : List Loc), lv_has ls 5 [(0, .int c0), (1, .int c1), (2, .long s16.1), (4, .int s16.2)] → HH G σ H → va_S (AG G) s.heap H locs → W p l e (rm_ 0 0 0) s m ([.int a0, .int a1] : List Value).toArray below meth c H locs 0 0 (MQ below (PostC G σ (some (.long rf))) ([.int a0, .int a1] : List Value).toArray s 0 0 (AG G)) (F0 m 16 ls []) := by
    intro c0 c1 n s16 r16 hr hq
    refine lp_ind (P := fun s16 => ∀ (ls : Array Slot) (H : Heap) (locs : List Loc), lv_has ls 5 [(0, .int c0), (1, .int c1), (2, .long s16.1), (4, .int s16.2)] → HH G σ H → va_S (AG G) s.heap H locs → W p l e (rm_ 0 0 0) s m ([.int a0, .int a1] : List Value).toArray below meth c H locs 0 0 (MQ below (PostC G σ (some (.long rf))) ([.int a0, .int a1] : List Value).toArray s 0 0 (AG G)) (F0 m 16 ls [])) (Q := fun r16 => ∀ (ls : Array Slot) (H : Heap) (locs : List Loc), lv_has ls 5 [(2, .long r16)] → HH G σ H → va_S (AG G) s.heap H locs → W p l e (rm_ 0 0 0) s m ([.int a0, .int a1] : List Value).toArray below meth c H locs 0 0 (MQ below (PostC G σ (some (.long rf))) ([.int a0, .int a1] : List Value).toArray s 0 0 (AG G)) (F0 m 42 ls [])) ?_ n s16 r16 hr hq
    intro s16 x16 hf hx16 ls H locs hl hH hS
    unfold f_X1_chosen_b16 at hf
    refine lv_iload hx hb dX1_chosen_16 (lv_at hl 3 rfl) ?_
    refine lv_iload_n hx hb dX1_chosen_18 rfl (lv_at hl 1 rfl) ?_
    refine lv_icmp_gt (tgt := 42) hx hb dX1_chosen_19 (by decide) (fun c_ => ?_) (fun c_ => ?_)
    · have hf := (if_pos c_).symm.trans hf
      cases hf
      exact hx16 _ _ _ (lv_sub hl [2] rfl) hH hS
    · have hf := (if_neg c_).symm.trans hf
      refine lv_lload_n hx hb dX1_chosen_22 rfl (lv_at hl 2 rfl) ?_
      refine lv_iload_n hx hb dX1_chosen_23 rfl (lv_at hl 0 rfl) ?_
      refine lv_iload_n hx hb dX1_chosen_24 rfl (lv_at hl 1 rfl) ?_
      refine lv_isub hx hb dX1_chosen_25 ?_
      refine lv_iload hx hb dX1_chosen_26 (lv_at hl 3 rfl) ?_
      refine lv_iadd hx hb dX1_chosen_28 ?_
      refine lv_i2l (v := (((c0 - c1) + s16.2)).toInt64) hx hb dX1_chosen_29 rfl ?_
      refine lv_lmul hx hb dX1_chosen_30 ?_
      refine lv_iload hx hb dX1_chosen_31 (lv_at hl 3 rfl) ?_
      refine lv_i2l (v := (s16.2).toInt64) hx hb dX1_chosen_33 rfl ?_
      obtain ⟨v1, hv, hf⟩ := bd hf
      refine r_ldiv hx hb hv dX1_chosen_34 ?_
      refine lv_lstore_n (lv' := [(2, .long v1), (0, .int c0), (1, .int c1), (4, .int s16.2)]) hx hb dX1_chosen_35 rfl hl (by decide) rfl (fun ls hl => ?_)
      refine lv_iinc (v := (s16.2 + 1)) (lv' := [(4, .int (s16.2 + 1)), (2, .long v1), (0, .int c0), (1, .int c1)]) hx hb dX1_chosen_36 hl (k := 3) rfl rfl (by decide) rfl (fun ls hl => ?_)
      refine lv_goto (tgt := 16) hx hb dX1_chosen_39 (by decide) ?_
      cases hf
      exact hx16 _ _ _ (lv_sub hl [2, 3, 1, 0] rfl) hH hS
  refine lv_iload_n hx hb dX1_chosen_0 rfl (lv_at hl 1 rfl) ?_
  refine lv_if_lt (tgt := 9) hx hb dX1_chosen_1 (by decide) (fun c_ => ?_) (fun c_ => ?_)
  · have hf := (if_pos c_).symm.trans hf
    refine lv_lconst (v := (0 : Int64)) hx hb dX1_chosen_9 (by decide) ?_
    cases hf
    exact r_lret X dX1_chosen_10 (Nat.le_of_ble_eq_true rfl) (Nat.le_of_ble_eq_true rfl) rfl hH hS
  · have hf := (if_neg c_).symm.trans hf
    refine lv_iload_n hx hb dX1_chosen_4 rfl (lv_at hl 1 rfl) ?_
    refine lv_iload_n hx hb dX1_chosen_5 rfl (lv_at hl 0 rfl) ?_
    refine lv_icmp_le (tgt := 11) hx hb dX1_chosen_6 (by decide) (fun c_ => ?_) (fun c_ => ?_)
    · have hf := (if_pos c_).symm.trans hf
      refine lv_lconst (v := (1 : Int64)) hx hb dX1_chosen_11 (by decide) ?_
      refine lv_lstore_n (lv' := [(2, .long (1 : Int64)), (0, .int a0), (1, .int a1)]) hx hb dX1_chosen_12 rfl hl (by decide) rfl (fun ls hl => ?_)
      refine lv_iconst (v := (1 : Int32)) hx hb dX1_chosen_13 (by decide) ?_
      refine lv_istore (lv' := [(4, .int (1 : Int32)), (2, .long (1 : Int64)), (0, .int a0), (1, .int a1)]) hx hb dX1_chosen_14 hl (by decide) rfl (fun ls hl => ?_)
      obtain ⟨r16_2, hr, hf⟩ := bd hf
      refine L16 a0 a1 N _ r16_2 hr ?_ _ _ _ (lv_sub hl [2, 3, 1, 0] rfl) hH hS
      intro ls H locs hl hH hS
      refine lv_lload_n hx hb dX1_chosen_42 rfl (lv_at hl 0 rfl) ?_
      cases hf
      exact r_lret X dX1_chosen_43 (Nat.le_of_ble_eq_true rfl) (Nat.le_of_ble_eq_true rfl) rfl hH hS
    · have hf := (if_neg c_).symm.trans hf
      refine lv_lconst (v := (0 : Int64)) hx hb dX1_chosen_9 (by decide) ?_
      cases hf
      exact r_lret X dX1_chosen_10 (Nat.le_of_ble_eq_true rfl) (Nat.le_of_ble_eq_true rfl) rfl hH hS
theorem cs_X1_ball : CalS yX1_ball cX1_ball 6 (some .long) 3 := ⟨q449, q48, q450, by decide +kernel, by decide +kernel, by decide +kernel⟩
set_option maxHeartbeats 4000000 in
theorem met_X1_ball (l : Launch) (G : GG) (σ : SG) (N : Nat) (a0 : Int32) (a1 : Int32) (a2 : Int32) (rf : Int64) (hf : f_X1_ball N a0 a1 a2 = some rf) : Con l yX1_ball cX1_ball 6 (some .long) 1 0 0 G σ [.int a0, .int a1, .int a2] σ (some (.long rf)) := by
  refine con_of (by decide) (Nat.le_of_ble_eq_true rfl) ?_
  intro p e s m below meth c ls X hK hH hl hS
  have hx := X.1
  have hb := X.2.1
  have hml := X.2.2.2.1
  have hown : s.vm.findClass RX1 = some m.cls := X.2.2.2.2.1
  have hts := X.2.2.2.2.2.1
  have hl : lv_has ls 6 [(0, .int a0), (1, .int a1), (2, .int a2)] := hl
  unfold f_X1_ball at hf
  have L5 : ∀ (c0 : Int32) (c1 : Int32) (c2 : Int32) (n : Nat) (s5 : (Int64 × Int32)) (r5 : Int64), lp (f_X1_ball_b5 N c0 c1 c2) n s5 = some r5 → (∀ (ls : Array Slot) (H : Heap) (locs : List Loc), lv_has ls 6 [(3, .long r5)] → HH G σ H → va_S (AG G) s.heap H locs → W p l e (rm_ 1 0 0) s m ([.int a0, .int a1, .int a2] : List Value).toArray below meth c H locs 0 0 (MQ below (PostC G σ (some (.long rf))) ([.int a0, .int a1, .int a2] : List Value).toArray s 0 0 (AG G)) (F0 m 35 ls [])) → ∀ (ls : Array Slot) (H : Heap) (locs : List Loc), lv_has ls 6 [(0, .int c0), (1, .int c1), (2, .int c2), (3, .long s5.1), (5, .int s5.2)] → HH G σ H → va_S (AG G) s.heap H locs → W p l e (rm_ 1 0 0) s m ([.int a0, .int a1, .int a2] : List Value).toArray below meth c H locs 0 0 (MQ below (PostC G σ (some (.long rf))) ([.int a0, .int a1, .int a2] : List Value).toArray s 0 0 (AG G)) (F0 m 5 ls []) := by
    intro c0 c1 c2 n s5 r5 hr hq
    refine lp_ind (P := fun s5 => ∀ (ls : Array Slot) (H : Heap) (locs : List Loc), lv_has ls 6 [(0, .int c0), (1, .int c1), (2, .int c2), (3, .long s5.1), (5, .int s5.2)] → HH G σ H → va_S (AG G) s.heap H locs → W p l e (rm_ 1 0 0) s m ([.int a0, .int a1, .int a2] : List Value).toArray below meth c H locs 0 0 (MQ below (PostC G σ (some (.long rf))) ([.int a0, .int a1, .int a2] : List Value).toArray s 0 0 (AG G)) (F0 m 5 ls [])) (Q := fun r5 => ∀ (ls : Array Slot) (H : Heap) (locs : List Loc), lv_has ls 6 [(3, .long r5)] → HH G σ H → va_S (AG G) s.heap H locs → W p l e (rm_ 1 0 0) s m ([.int a0, .int a1, .int a2] : List Value).toArray below meth c H locs 0 0 (MQ below (PostC G σ (some (.long rf))) ([.int a0, .int a1, .int a2] : List Value).toArray s 0 0 (AG G)) (F0 m 35 ls [])) ?_ n s5 r5 hr hq
    intro s5 x5 hf hx5 ls H locs hl hH hS
    unfold f_X1_ball_b5 at hf
    refine lv_iload hx hb dX1_ball_5 (lv_at hl 4 rfl) ?_
    refine lv_iload_n hx hb dX1_ball_7 rfl (lv_at hl 2 rfl) ?_
    refine lv_icmp_gt (tgt := 35) hx hb dX1_ball_8 (by decide) (fun c_ => ?_) (fun c_ => ?_)
    · have hf := (if_pos c_).symm.trans hf
      cases hf
      exact hx5 _ _ _ (lv_sub hl [3] rfl) hH hS
    · have hf := (if_neg c_).symm.trans hf
      refine lv_lload_n hx hb dX1_ball_11 rfl (lv_at hl 3 rfl) ?_
      refine lv_iload_n hx hb dX1_ball_12 rfl (lv_at hl 1 rfl) ?_
      refine lv_iload hx hb dX1_ball_13 (lv_at hl 4 rfl) ?_
      obtain ⟨v1, hv, hf⟩ := bd hf
      refine c_S (As := [.int c1, .int s5.2]) (rest := [.long s5.1]) (st1 := [.long v1, .long s5.1]) X (met_X1_chosen l G _ N c1 s5.2 v1 hv) cs_X1_chosen q451 rfl rfl rfl hl.1 (Nat.le_of_ble_eq_true rfl) ⟨Nat.le_of_ble_eq_true rfl, Nat.le_of_ble_eq_true rfl⟩ ⟨Nat.le_of_ble_eq_true rfl, Nat.le_of_ble_eq_true rfl⟩ dX1_ball_15 hK hH hS (fun H locs hH hS => ?_)
      refine W.cs (cells' := 0) (slots' := 0) (by rfl) (by rfl) ?_
      refine lv_iload_n hx hb dX1_ball_18 rfl (lv_at hl 0 rfl) ?_
      refine lv_iconst (v := (1 : Int32)) hx hb dX1_ball_19 (by decide) ?_
      refine lv_isub hx hb dX1_ball_20 ?_
      refine lv_iload hx hb dX1_ball_21 (lv_at hl 4 rfl) ?_
      obtain ⟨v2, hv, hf⟩ := bd hf
      refine c_S (As := [.int (c0 - (1 : Int32)), .int s5.2]) (rest := [.long v1, .long s5.1]) (st1 := [.long v2, .long v1, .long s5.1]) X (met_X1_power l G _ N (c0 - (1 : Int32)) s5.2 v2 hv) cs_X1_power q190 rfl rfl rfl hl.1 (Nat.le_of_ble_eq_true rfl) ⟨Nat.le_of_ble_eq_true rfl, Nat.le_of_ble_eq_true rfl⟩ ⟨Nat.le_of_ble_eq_true rfl, Nat.le_of_ble_eq_true rfl⟩ dX1_ball_23 hK hH hS (fun H locs hH hS => ?_)
      refine W.cs (cells' := 0) (slots' := 0) (by rfl) (by rfl) ?_
      refine lv_lmul hx hb dX1_ball_26 ?_
      refine lv_ladd hx hb dX1_ball_27 ?_
      refine lv_lstore_n (lv' := [(3, .long (s5.1 + (v1 * v2))), (0, .int c0), (1, .int c1), (2, .int c2), (5, .int s5.2)]) hx hb dX1_ball_28 rfl hl (by decide) rfl (fun ls hl => ?_)
      refine lv_iinc (v := (s5.2 + 1)) (lv' := [(5, .int (s5.2 + 1)), (3, .long (s5.1 + (v1 * v2))), (0, .int c0), (1, .int c1), (2, .int c2)]) hx hb dX1_ball_29 hl (k := 4) rfl rfl (by decide) rfl (fun ls hl => ?_)
      refine lv_goto (tgt := 5) hx hb dX1_ball_32 (by decide) ?_
      cases hf
      exact hx5 _ _ _ (lv_sub hl [2, 3, 4, 1, 0] rfl) hH hS
  refine lv_lconst (v := (0 : Int64)) hx hb dX1_ball_0 (by decide) ?_
  refine lv_lstore_n (lv' := [(3, .long (0 : Int64)), (0, .int a0), (1, .int a1), (2, .int a2)]) hx hb dX1_ball_1 rfl hl (by decide) rfl (fun ls hl => ?_)
  refine lv_iconst (v := (0 : Int32)) hx hb dX1_ball_2 (by decide) ?_
  refine lv_istore (lv' := [(5, .int (0 : Int32)), (3, .long (0 : Int64)), (0, .int a0), (1, .int a1), (2, .int a2)]) hx hb dX1_ball_3 hl (by decide) rfl (fun ls hl => ?_)
  obtain ⟨r5_3, hr, hf⟩ := bd hf
  refine L5 a0 a1 a2 N _ r5_3 hr ?_ _ _ _ (lv_sub hl [2, 3, 4, 1, 0] rfl) hH hS
  intro ls H locs hl hH hS
  refine lv_lload_n hx hb dX1_ball_35 rfl (lv_at hl 0 rfl) ?_
  cases hf
  exact r_lret X dX1_ball_36 (Nat.le_of_ble_eq_true rfl) (Nat.le_of_ble_eq_true rfl) rfl hH hS
theorem cs_X1_letters : CalS yX1_letters cX1_letters 8 (some (.array .int)) 3 := ⟨q288, q48, q289, by decide +kernel, by decide +kernel, by decide +kernel⟩
set_option maxHeartbeats 4000000 in
theorem met_X1_letters (l : Launch) (G : GG) (σ : SG) (N : Nat) (a0 : Int32) (a1 : Int32) (a2 : Int64) (σf : SG) (rf : Nat) (hf : f_X1_letters N σ a0 a1 a2 = some (σf, rf)) : Con l yX1_letters cX1_letters 8 (some (.array .int)) 0 1 12 G σ [.int a0, .int a1, .long a2] σf (some (.ref rf)) := by
  refine con_of (by decide) (Nat.le_of_ble_eq_true rfl) ?_
  intro p e s m below meth c ls X hK hH hl hS
  have hx := X.1
  have hb := X.2.1
  have hml := X.2.2.2.1
  have hown : s.vm.findClass RX1 = some m.cls := X.2.2.2.2.1
  have hts := X.2.2.2.2.2.1
  have hl : lv_has ls 8 [(0, .int a0), (1, .int a1), (2, .long a2)] := hl
  unfold f_X1_letters at hf
  have L13 : ∀ (c0 : Int32) (c4 : Nat) (n : Nat) (s13 : (Int64 × Int32 × SG)) (r13 : SG), lp (f_X1_letters_b13 N c0 c4) n s13 = some r13 → (∀ (ls : Array Slot) (H : Heap) (locs : List Loc), lv_has ls 8 [(4, .ref c4)] → HH G r13 H → va_S (AG G) s.heap H locs → W p l e (rm_ 0 1 12) s m ([.int a0, .int a1, .long a2] : List Value).toArray below meth c H locs 1 12 (MQ below (PostC G σf (some (.ref rf))) ([.int a0, .int a1, .long a2] : List Value).toArray s 1 12 (AG G)) (F0 m 42 ls [])) → ∀ (ls : Array Slot) (H : Heap) (locs : List Loc), lv_has ls 8 [(0, .int c0), (4, .ref c4), (5, .long s13.1), (7, .int s13.2.1)] → HH G s13.2.2 H → va_S (AG G) s.heap H locs → W p l e (rm_ 0 1 12) s m ([.int a0, .int a1, .long a2] : List Value).toArray below meth c H locs 1 12 (MQ below (PostC G σf (some (.ref rf))) ([.int a0, .int a1, .long a2] : List Value).toArray s 1 12 (AG G)) (F0 m 13 ls []) := by
    intro c0 c4 n s13 r13 hr hq
    refine lp_ind (P := fun s13 => ∀ (ls : Array Slot) (H : Heap) (locs : List Loc), lv_has ls 8 [(0, .int c0), (4, .ref c4), (5, .long s13.1), (7, .int s13.2.1)] → HH G s13.2.2 H → va_S (AG G) s.heap H locs → W p l e (rm_ 0 1 12) s m ([.int a0, .int a1, .long a2] : List Value).toArray below meth c H locs 1 12 (MQ below (PostC G σf (some (.ref rf))) ([.int a0, .int a1, .long a2] : List Value).toArray s 1 12 (AG G)) (F0 m 13 ls [])) (Q := fun r13 => ∀ (ls : Array Slot) (H : Heap) (locs : List Loc), lv_has ls 8 [(4, .ref c4)] → HH G r13 H → va_S (AG G) s.heap H locs → W p l e (rm_ 0 1 12) s m ([.int a0, .int a1, .long a2] : List Value).toArray below meth c H locs 1 12 (MQ below (PostC G σf (some (.ref rf))) ([.int a0, .int a1, .long a2] : List Value).toArray s 1 12 (AG G)) (F0 m 42 ls [])) ?_ n s13 r13 hr hq
    intro s13 x13 hf hx13 ls H locs hl hH hS
    unfold f_X1_letters_b13 at hf
    refine lv_iload hx hb dX1_letters_13 (lv_at hl 3 rfl) ?_
    refine lv_if_lt (tgt := 42) hx hb dX1_letters_15 (by decide) (fun c_ => ?_) (fun c_ => ?_)
    · have hf := (if_pos c_).symm.trans hf
      cases hf
      exact hx13 _ _ _ (lv_sub hl [1] rfl) hH hS
    · have hf := (if_neg c_).symm.trans hf
      refine lv_aload hx hb dX1_letters_18 (lv_at hl 1 rfl) ?_
      refine lv_iload hx hb dX1_letters_20 (lv_at hl 3 rfl) ?_
      refine lv_lload hx hb dX1_letters_22 (lv_at hl 2 rfl) ?_
      refine lv_iload_n hx hb dX1_letters_24 rfl (lv_at hl 0 rfl) ?_
      refine lv_i2l (v := (c0).toInt64) hx hb dX1_letters_25 rfl ?_
      obtain ⟨v2, hv, hf⟩ := bd hf
      refine r_lrem hx hb hv dX1_letters_26 ?_
      refine lv_l2i (v := (v2).toInt32) hx hb dX1_letters_27 rfl ?_
      obtain ⟨t3, hv, hf⟩ := bd hf
      refine h_wI X hK hH hS hv dX1_letters_28 (fun H locs hH hS => ?_)
      refine lv_lload hx hb dX1_letters_29 (lv_at hl 2 rfl) ?_
      refine lv_iload_n hx hb dX1_letters_31 rfl (lv_at hl 0 rfl) ?_
      refine lv_i2l (v := (c0).toInt64) hx hb dX1_letters_32 rfl ?_
      obtain ⟨v4, hv, hf⟩ := bd hf
      refine r_ldiv hx hb hv dX1_letters_33 ?_
      refine lv_lstore (lv' := [(5, .long v4), (0, .int c0), (4, .ref c4), (7, .int s13.2.1)]) hx hb dX1_letters_34 hl (by decide) rfl (fun ls hl => ?_)
      refine lv_iinc (v := (s13.2.1 + (-1))) (lv' := [(7, .int (s13.2.1 + (-1))), (5, .long v4), (0, .int c0), (4, .ref c4)]) hx hb dX1_letters_36 hl (k := 3) rfl rfl (by decide) rfl (fun ls hl => ?_)
      refine lv_goto (tgt := 13) hx hb dX1_letters_39 (by decide) ?_
      cases hf
      exact hx13 _ _ _ (lv_sub hl [2, 3, 1, 0] rfl) hH hS
  refine lv_iload_n hx hb dX1_letters_0 rfl (lv_at hl 1 rfl) ?_
  obtain ⟨t1, hv, hf⟩ := bd hf
  refine h_newa (t := 0) (B := 12) (atype := .int) X hK hH hS (by decide) hv (by decide) q245 (Nat.le_of_ble_eq_true rfl) (Nat.le_of_ble_eq_true rfl) dX1_letters_1 (fun H hH hS => ?_)
  refine W.cs (cells' := 1) (slots' := 12) (by rfl) (by rfl) ?_
  refine lv_astore (lv' := [(4, .ref ((σ).1)), (0, .int a0), (1, .int a1), (2, .long a2)]) hx hb dX1_letters_3 hl (by decide) rfl (fun ls hl => ?_)
  refine lv_lload_n hx hb dX1_letters_5 rfl (lv_at hl 3 rfl) ?_
  refine lv_lstore (lv' := [(5, .long a2), (4, .ref ((σ).1)), (0, .int a0), (1, .int a1), (2, .long a2)]) hx hb dX1_letters_6 hl (by decide) rfl (fun ls hl => ?_)
  refine lv_iload_n hx hb dX1_letters_8 rfl (lv_at hl 3 rfl) ?_
  refine lv_iconst (v := (1 : Int32)) hx hb dX1_letters_9 (by decide) ?_
  refine lv_isub hx hb dX1_letters_10 ?_
  refine lv_istore (lv' := [(7, .int (a1 - (1 : Int32))), (5, .long a2), (4, .ref ((σ).1)), (0, .int a0), (1, .int a1), (2, .long a2)]) hx hb dX1_letters_11 hl (by decide) rfl (fun ls hl => ?_)
  obtain ⟨r13_5, hr, hf⟩ := bd hf
  refine L13 a0 ((σ).1) N _ r13_5 hr ?_ _ _ _ (lv_sub hl [3, 2, 1, 0] rfl) hH hS
  intro ls H locs hl hH hS
  refine lv_aload hx hb dX1_letters_42 (lv_at hl 0 rfl) ?_
  cases hf
  exact r_aret X (Or.inr ⟨_, rfl⟩) (Or.inr ⟨_, rfl⟩) dX1_letters_44 (Nat.le_of_ble_eq_true rfl) (Nat.le_of_ble_eq_true rfl) rfl hH hS
theorem cs_X1_inverse : CalS yX1_inverse cX1_inverse 3 (some .int) 2 := ⟨q295, q48, q296, by decide +kernel, by decide +kernel, by decide +kernel⟩
set_option maxHeartbeats 4000000 in
theorem met_X1_inverse (l : Launch) (G : GG) (σ : SG) (N : Nat) (a0 : Int32) (a1 : Int32) (rf : Int32) (hf : f_X1_inverse N a0 a1 = some rf) : Con l yX1_inverse cX1_inverse 3 (some .int) 1 0 0 G σ [.int a0, .int a1] σ (some (.int rf)) := by
  refine con_of (by decide) (Nat.le_of_ble_eq_true rfl) ?_
  intro p e s m below meth c ls X hK hH hl hS
  have hx := X.1
  have hb := X.2.1
  have hml := X.2.2.2.1
  have hown : s.vm.findClass RX1 = some m.cls := X.2.2.2.2.1
  have hts := X.2.2.2.2.2.1
  have hl : lv_has ls 3 [(0, .int a0), (1, .int a1)] := hl
  unfold f_X1_inverse at hf
  have L2 : ∀ (c0 : Int32) (c1 : Int32) (n : Nat) (s2 : Int32) (r2 : Int32), lp (f_X1_inverse_b2 N c0 c1) n s2 = some r2 → (∀ (ls : Array Slot) (H : Heap) (locs : List Loc), lv_has ls 3 [(2, .int r2)] → HH G σ H → va_S (AG G) s.heap H locs → W p l e (rm_ 1 0 0) s m ([.int a0, .int a1] : List Value).toArray below meth c H locs 0 0 (MQ below (PostC G σ (some (.int rf))) ([.int a0, .int a1] : List Value).toArray s 0 0 (AG G)) (F0 m 18 ls [])) → ∀ (ls : Array Slot) (H : Heap) (locs : List Loc), lv_has ls 3 [(0, .int c0), (1, .int c1), (2, .int s2)] → HH G σ H → va_S (AG G) s.heap H locs → W p l e (rm_ 1 0 0) s m ([.int a0, .int a1] : List Value).toArray below meth c H locs 0 0 (MQ below (PostC G σ (some (.int rf))) ([.int a0, .int a1] : List Value).toArray s 0 0 (AG G)) (F0 m 2 ls []) := by
    intro c0 c1 n s2 r2 hr hq
    refine lp_ind (P := fun s2 => ∀ (ls : Array Slot) (H : Heap) (locs : List Loc), lv_has ls 3 [(0, .int c0), (1, .int c1), (2, .int s2)] → HH G σ H → va_S (AG G) s.heap H locs → W p l e (rm_ 1 0 0) s m ([.int a0, .int a1] : List Value).toArray below meth c H locs 0 0 (MQ below (PostC G σ (some (.int rf))) ([.int a0, .int a1] : List Value).toArray s 0 0 (AG G)) (F0 m 2 ls [])) (Q := fun r2 => ∀ (ls : Array Slot) (H : Heap) (locs : List Loc), lv_has ls 3 [(2, .int r2)] → HH G σ H → va_S (AG G) s.heap H locs → W p l e (rm_ 1 0 0) s m ([.int a0, .int a1] : List Value).toArray below meth c H locs 0 0 (MQ below (PostC G σ (some (.int rf))) ([.int a0, .int a1] : List Value).toArray s 0 0 (AG G)) (F0 m 18 ls [])) ?_ n s2 r2 hr hq
    intro s2 x2 hf hx2 ls H locs hl hH hS
    unfold f_X1_inverse_b2 at hf
    refine lv_iload_n hx hb dX1_inverse_2 rfl (lv_at hl 0 rfl) ?_
    refine lv_iload_n hx hb dX1_inverse_3 rfl (lv_at hl 1 rfl) ?_
    refine lv_iload_n hx hb dX1_inverse_4 rfl (lv_at hl 2 rfl) ?_
    obtain ⟨v1, hv, hf⟩ := bd hf
    refine c_S (As := [.int c0, .int c1, .int s2]) (rest := []) (st1 := [.int v1]) X (met_X1_times l G _ N c0 c1 s2 v1 hv) cs_X1_times q212 rfl rfl rfl hl.1 (Nat.le_of_ble_eq_true rfl) ⟨Nat.le_of_ble_eq_true rfl, Nat.le_of_ble_eq_true rfl⟩ ⟨Nat.le_of_ble_eq_true rfl, Nat.le_of_ble_eq_true rfl⟩ dX1_inverse_5 hK hH hS (fun H locs hH hS => ?_)
    refine W.cs (cells' := 0) (slots' := 0) (by rfl) (by rfl) ?_
    refine lv_iconst (v := (1 : Int32)) hx hb dX1_inverse_8 (by decide) ?_
    refine lv_icmp_eq (tgt := 18) hx hb dX1_inverse_9 (by decide) (fun c_ => ?_) (fun c_ => ?_)
    · have hf := (if_pos c_).symm.trans hf
      cases hf
      exact hx2 _ _ _ (lv_sub hl [2] rfl) hH hS
    · have hf := (if_neg c_).symm.trans hf
      refine lv_iinc (v := (s2 + 1)) (lv' := [(2, .int (s2 + 1)), (0, .int c0), (1, .int c1)]) hx hb dX1_inverse_12 hl (k := 2) rfl rfl (by decide) rfl (fun ls hl => ?_)
      refine lv_goto (tgt := 2) hx hb dX1_inverse_15 (by decide) ?_
      cases hf
      exact hx2 _ _ _ (lv_sub hl [1, 2, 0] rfl) hH hS
  refine lv_iconst (v := (1 : Int32)) hx hb dX1_inverse_0 (by decide) ?_
  refine lv_istore_n (lv' := [(2, .int (1 : Int32)), (0, .int a0), (1, .int a1)]) hx hb dX1_inverse_1 rfl hl (by decide) rfl (fun ls hl => ?_)
  obtain ⟨r2_2, hr, hf⟩ := bd hf
  refine L2 a0 a1 N _ r2_2 hr ?_ _ _ _ (lv_sub hl [1, 2, 0] rfl) hH hS
  intro ls H locs hl hH hS
  refine lv_iload_n hx hb dX1_inverse_18 rfl (lv_at hl 0 rfl) ?_
  cases hf
  exact r_iret X dX1_inverse_19 (Nat.le_of_ble_eq_true rfl) (Nat.le_of_ble_eq_true rfl) rfl hH hS
theorem cv_X9_takes : CalV "WordBench$Form" yX9_takes cX9_takes 6 none 3 := ⟨q300, qs3, q63, q301, by decide +kernel⟩
set_option maxHeartbeats 4000000 in
theorem met_X9_takes (l : Launch) (G : GG) (σ : SG) (N : Nat) (a0 : Nat) (a1 : Nat) (a2 : Nat) (a3 : Int32) (σf : SG) (hf : f_X9_takes N σ a0 a1 a2 a3 = some σf) : Con l yX9_takes cX9_takes 6 none 1 0 0 G σ [.ref a0, .ref a1, .ref a2, .int a3] σf none := by
  refine con_of (by decide) (Nat.le_of_ble_eq_true rfl) ?_
  intro p e s m below meth c ls X hK hH hl hS
  have hx := X.1
  have hb := X.2.1
  have hml := X.2.2.2.1
  have hown : s.vm.findClass RX9 = some m.cls := X.2.2.2.2.1
  have hts := X.2.2.2.2.2.1
  have hl : lv_has ls 6 [(0, .ref a0), (1, .ref a1), (2, .ref a2), (3, .int a3)] := hl
  unfold f_X9_takes at hf
  have L13 : ∀ (c0 : Nat) (c1 : Nat) (c2 : Nat) (c4 : Int32) (n : Nat) (s13 : (Int32 × SG)) (r13 : SG), lp (f_X9_takes_b13 N c0 c1 c2 c4) n s13 = some r13 → (∀ (ls : Array Slot) (H : Heap) (locs : List Loc), lv_has ls 6 [] → HH G r13 H → va_S (AG G) s.heap H locs → W p l e (rm_ 1 0 0) s m ([.ref a0, .ref a1, .ref a2, .int a3] : List Value).toArray below meth c H locs 0 0 (MQ below (PostC G σf none) ([.ref a0, .ref a1, .ref a2, .int a3] : List Value).toArray s 0 0 (AG G)) (F0 m 56 ls [])) → ∀ (ls : Array Slot) (H : Heap) (locs : List Loc), lv_has ls 6 [(0, .ref c0), (1, .ref c1), (2, .ref c2), (4, .int c4), (5, .int s13.1)] → HH G s13.2 H → va_S (AG G) s.heap H locs → W p l e (rm_ 1 0 0) s m ([.ref a0, .ref a1, .ref a2, .int a3] : List Value).toArray below meth c H locs 0 0 (MQ below (PostC G σf none) ([.ref a0, .ref a1, .ref a2, .int a3] : List Value).toArray s 0 0 (AG G)) (F0 m 13 ls []) := by
    intro c0 c1 c2 c4 n s13 r13 hr hq
    refine lp_ind (P := fun s13 => ∀ (ls : Array Slot) (H : Heap) (locs : List Loc), lv_has ls 6 [(0, .ref c0), (1, .ref c1), (2, .ref c2), (4, .int c4), (5, .int s13.1)] → HH G s13.2 H → va_S (AG G) s.heap H locs → W p l e (rm_ 1 0 0) s m ([.ref a0, .ref a1, .ref a2, .int a3] : List Value).toArray below meth c H locs 0 0 (MQ below (PostC G σf none) ([.ref a0, .ref a1, .ref a2, .int a3] : List Value).toArray s 0 0 (AG G)) (F0 m 13 ls [])) (Q := fun r13 => ∀ (ls : Array Slot) (H : Heap) (locs : List Loc), lv_has ls 6 [] → HH G r13 H → va_S (AG G) s.heap H locs → W p l e (rm_ 1 0 0) s m ([.ref a0, .ref a1, .ref a2, .int a3] : List Value).toArray below meth c H locs 0 0 (MQ below (PostC G σf none) ([.ref a0, .ref a1, .ref a2, .int a3] : List Value).toArray s 0 0 (AG G)) (F0 m 56 ls [])) ?_ n s13 r13 hr hq
    intro s13 x13 hf hx13 ls H locs hl hH hS
    unfold f_X9_takes_b13 at hf
    refine lv_iload hx hb dX9_takes_13 (lv_at hl 4 rfl) ?_
    refine lv_aload_n hx hb dX9_takes_15 rfl (lv_at hl 0 rfl) ?_
    obtain ⟨v3, hv, hf⟩ := bd hf
    refine h_gI X hK hH fo_X9_1 hv q307 dX9_takes_16 ?_
    refine lv_icmp_ge (tgt := 56) hx hb dX9_takes_19 (by decide) (fun c_ => ?_) (fun c_ => ?_)
    · have hf := (if_pos c_).symm.trans hf
      cases hf
      exact hx13 _ _ _ (lv_sub hl [] rfl) hH hS
    · have hf := (if_neg c_).symm.trans hf
      refine lv_aload_n hx hb dX9_takes_22 rfl (lv_at hl 1 rfl) ?_
      refine lv_iload hx hb dX9_takes_23 (lv_at hl 4 rfl) ?_
      refine lv_aload_n hx hb dX9_takes_25 rfl (lv_at hl 0 rfl) ?_
      obtain ⟨v4, hv, hf⟩ := bd hf
      refine h_gI X hK hH fo_X9_0 hv q306 dX9_takes_26 ?_
      refine lv_aload_n hx hb dX9_takes_29 rfl (lv_at hl 1 rfl) ?_
      refine lv_iload hx hb dX9_takes_30 (lv_at hl 4 rfl) ?_
      obtain ⟨v5, hv, hf⟩ := bd hf
      refine h_aI X hK hH hv dX9_takes_32 ?_
      refine lv_aload_n hx hb dX9_takes_33 rfl (lv_at hl 0 rfl) ?_
      obtain ⟨v6, hv, hf⟩ := bd hf
      refine h_gI X hK hH fo_X9_0 hv q306 dX9_takes_34 ?_
      refine lv_iload hx hb dX9_takes_37 (lv_at hl 3 rfl) ?_
      refine lv_aload_n hx hb dX9_takes_39 rfl (lv_at hl 2 rfl) ?_
      refine lv_iload hx hb dX9_takes_40 (lv_at hl 4 rfl) ?_
      obtain ⟨v7, hv, hf⟩ := bd hf
      refine h_aI X hK hH hv dX9_takes_42 ?_
      obtain ⟨v8, hv, hf⟩ := bd hf
      refine c_SN (host := "WordBench") (As := [.int v6, .int c4, .int v7]) (rest := [.int v5, .int v4, .int s13.1, .ref c1]) (st1 := [.int v8, .int v5, .int v4, .int s13.1, .ref c1]) X (met_X1_times l G s13.2 N v6 c4 v7 v8 hv) cs_X1_times q297 rfl rfl rfl hl.1 (Nat.le_of_ble_eq_true rfl) ⟨Nat.le_of_ble_eq_true rfl, Nat.le_of_ble_eq_true rfl⟩ ⟨Nat.le_of_ble_eq_true rfl, Nat.le_of_ble_eq_true rfl⟩ dX9_takes_43 hK hH hS (fun H locs hH hS => ?_)
      refine W.cs (cells' := 0) (slots' := 0) (by rfl) (by rfl) ?_
      obtain ⟨v9, hv, hf⟩ := bd hf
      refine c_SN (host := "WordBench") (As := [.int v4, .int v5, .int v8]) (rest := [.int s13.1, .ref c1]) (st1 := [.int v9, .int s13.1, .ref c1]) X (met_X1_added l G s13.2 N v4 v5 v8 v9 hv) cs_X1_added q305 rfl rfl rfl hl.1 (Nat.le_of_ble_eq_true rfl) ⟨Nat.le_of_ble_eq_true rfl, Nat.le_of_ble_eq_true rfl⟩ ⟨Nat.le_of_ble_eq_true rfl, Nat.le_of_ble_eq_true rfl⟩ dX9_takes_46 hK hH hS (fun H locs hH hS => ?_)
      refine W.cs (cells' := 0) (slots' := 0) (by rfl) (by rfl) ?_
      obtain ⟨t10, hv, hf⟩ := bd hf
      refine h_wI X hK hH hS hv dX9_takes_49 (fun H locs hH hS => ?_)
      refine lv_iinc (v := (s13.1 + 1)) (lv' := [(5, .int (s13.1 + 1)), (0, .ref c0), (1, .ref c1), (2, .ref c2), (4, .int c4)]) hx hb dX9_takes_50 hl (k := 4) rfl rfl (by decide) rfl (fun ls hl => ?_)
      refine lv_goto (tgt := 13) hx hb dX9_takes_53 (by decide) ?_
      cases hf
      exact hx13 _ _ _ (lv_sub hl [1, 2, 3, 4, 0] rfl) hH hS
  refine lv_aload_n hx hb dX9_takes_0 rfl (lv_at hl 0 rfl) ?_
  obtain ⟨v1, hv, hf⟩ := bd hf
  refine h_gI X hK hH fo_X9_0 hv q306 dX9_takes_1 ?_
  refine lv_iload_n hx hb dX9_takes_4 rfl (lv_at hl 3 rfl) ?_
  obtain ⟨v2, hv, hf⟩ := bd hf
  refine c_SN (host := "WordBench") (As := [.int v1, .int a3]) (rest := []) (st1 := [.int v2]) X (met_X1_against l G σ N v1 a3 v2 hv) cs_X1_against q302 rfl rfl rfl hl.1 (Nat.le_of_ble_eq_true rfl) ⟨Nat.le_of_ble_eq_true rfl, Nat.le_of_ble_eq_true rfl⟩ ⟨Nat.le_of_ble_eq_true rfl, Nat.le_of_ble_eq_true rfl⟩ dX9_takes_5 hK hH hS (fun H locs hH hS => ?_)
  refine W.cs (cells' := 0) (slots' := 0) (by rfl) (by rfl) ?_
  refine lv_istore (lv' := [(4, .int v2), (0, .ref a0), (1, .ref a1), (2, .ref a2), (3, .int a3)]) hx hb dX9_takes_8 hl (by decide) rfl (fun ls hl => ?_)
  refine lv_iconst (v := (0 : Int32)) hx hb dX9_takes_10 (by decide) ?_
  refine lv_istore (lv' := [(5, .int (0 : Int32)), (4, .int v2), (0, .ref a0), (1, .ref a1), (2, .ref a2), (3, .int a3)]) hx hb dX9_takes_11 hl (by decide) rfl (fun ls hl => ?_)
  obtain ⟨r13_11, hr, hf⟩ := bd hf
  refine L13 a0 a1 a2 v2 N _ r13_11 hr ?_ _ _ _ (lv_sub hl [2, 3, 4, 1, 0] rfl) hH hS
  intro ls H locs hl hH hS
  cases hf
  exact r_vret X dX9_takes_56 (Nat.le_of_ble_eq_true rfl) (Nat.le_of_ble_eq_true rfl) rfl hH hS
theorem cv_X9_clears : CalV "WordBench$Form" yX9_clears cX9_clears 6 none 1 := ⟨q292, qs2, q63, q293, by decide +kernel⟩
set_option maxHeartbeats 4000000 in
theorem met_X9_clears (l : Launch) (G : GG) (σ : SG) (N : Nat) (a0 : Nat) (a1 : Int32) (σf : SG) (hf : f_X9_clears N σ a0 a1 = some σf) : Con l yX9_clears cX9_clears 6 none 2 0 0 G σ [.ref a0, .int a1] σf none := by
  refine con_of (by decide) (Nat.le_of_ble_eq_true rfl) ?_
  intro p e s m below meth c ls X hK hH hl hS
  have hx := X.1
  have hb := X.2.1
  have hml := X.2.2.2.1
  have hown : s.vm.findClass RX9 = some m.cls := X.2.2.2.2.1
  have hts := X.2.2.2.2.2.1
  have hl : lv_has ls 6 [(0, .ref a0), (1, .int a1)] := hl
  unfold f_X9_clears at hf
  have L5 : ∀ (c0 : Nat) (c1 : Int32) (t5 : SG) (n : Nat) (s5 : Int32) (r5 : Int32), lp (f_X9_clears_b5 N c0 c1 t5) n s5 = some r5 → (∀ (ls : Array Slot) (H : Heap) (locs : List Loc), lv_has ls 6 [(0, .ref c0), (1, .int c1), (2, .int r5)] → HH G t5 H → va_S (AG G) s.heap H locs → W p l e (rm_ 2 0 0) s m ([.ref a0, .int a1] : List Value).toArray below meth c H locs 0 0 (MQ below (PostC G σf none) ([.ref a0, .int a1] : List Value).toArray s 0 0 (AG G)) (F0 m 31 ls [])) → ∀ (ls : Array Slot) (H : Heap) (locs : List Loc), lv_has ls 6 [(0, .ref c0), (1, .int c1), (2, .int s5)] → HH G t5 H → va_S (AG G) s.heap H locs → W p l e (rm_ 2 0 0) s m ([.ref a0, .int a1] : List Value).toArray below meth c H locs 0 0 (MQ below (PostC G σf none) ([.ref a0, .int a1] : List Value).toArray s 0 0 (AG G)) (F0 m 5 ls []) := by
    intro c0 c1 t5 n s5 r5 hr hq
    refine lp_ind (P := fun s5 => ∀ (ls : Array Slot) (H : Heap) (locs : List Loc), lv_has ls 6 [(0, .ref c0), (1, .int c1), (2, .int s5)] → HH G t5 H → va_S (AG G) s.heap H locs → W p l e (rm_ 2 0 0) s m ([.ref a0, .int a1] : List Value).toArray below meth c H locs 0 0 (MQ below (PostC G σf none) ([.ref a0, .int a1] : List Value).toArray s 0 0 (AG G)) (F0 m 5 ls [])) (Q := fun r5 => ∀ (ls : Array Slot) (H : Heap) (locs : List Loc), lv_has ls 6 [(0, .ref c0), (1, .int c1), (2, .int r5)] → HH G t5 H → va_S (AG G) s.heap H locs → W p l e (rm_ 2 0 0) s m ([.ref a0, .int a1] : List Value).toArray below meth c H locs 0 0 (MQ below (PostC G σf none) ([.ref a0, .int a1] : List Value).toArray s 0 0 (AG G)) (F0 m 31 ls [])) ?_ n s5 r5 hr hq
    intro s5 x5 hf hx5 ls H locs hl hH hS
    unfold f_X9_clears_b5 at hf
    refine lv_iload_n hx hb dX9_clears_5 rfl (lv_at hl 2 rfl) ?_
    refine lv_aload_n hx hb dX9_clears_6 rfl (lv_at hl 0 rfl) ?_
    obtain ⟨v2, hv, hf⟩ := bd hf
    refine h_gR X hK hH fo_X9_2 hv q308 dX9_clears_7 ?_
    obtain ⟨v3, hv, hf⟩ := bd hf
    refine h_aN X hK hH hv dX9_clears_10 ?_
    refine lv_icmp_ge (tgt := 31) hx hb dX9_clears_11 (by decide) (fun c_ => ?_) (fun c_ => ?_)
    · have hf := (if_pos c_).symm.trans hf
      cases hf
      exact hx5 _ _ _ (lv_sub hl [0, 1, 2] rfl) hH hS
    · have hf := (if_neg c_).symm.trans hf
      refine lv_aload_n hx hb dX9_clears_14 rfl (lv_at hl 0 rfl) ?_
      obtain ⟨v4, hv, hf⟩ := bd hf
      refine h_gR X hK hH fo_X9_2 hv q308 dX9_clears_15 ?_
      refine lv_iload_n hx hb dX9_clears_18 rfl (lv_at hl 2 rfl) ?_
      obtain ⟨v5, hv, hf⟩ := bd hf
      refine h_aQ (by decide) X hK hH hv dX9_clears_19 ?_
      refine lv_iload_n hx hb dX9_clears_20 rfl (lv_at hl 1 rfl) ?_
      obtain ⟨b6, hq, hz⟩ := bd hf
      clear hf
      subst hq
      have hf := hz
      clear hz
      obtain ⟨v7, hv, hf⟩ := bd hf
      refine h_aI X hK hH hv dX9_clears_21 ?_
      refine lv_if_ne (tgt := 31) hx hb dX9_clears_22 (by decide) (fun c_ => ?_) (fun c_ => ?_)
      · have hf := (if_neg c_).symm.trans hf
        cases hf
        exact hx5 _ _ _ (lv_sub hl [0, 1, 2] rfl) hH hS
      · have hf := (if_pos c_).symm.trans hf
        refine lv_iinc (v := (s5 + 1)) (lv' := [(2, .int (s5 + 1)), (0, .ref c0), (1, .int c1)]) hx hb dX9_clears_25 hl (k := 2) rfl rfl (by decide) rfl (fun ls hl => ?_)
        refine lv_goto (tgt := 5) hx hb dX9_clears_28 (by decide) ?_
        cases hf
        exact hx5 _ _ _ (lv_sub hl [1, 2, 0] rfl) hH hS
  have L48 : ∀ (c0 : Nat) (c1 : Int32) (c3 : Option Nat) (n : Nat) (s48 : (Int32 × SG)) (r48 : SG), lp (f_X9_clears_b48 N c0 c1 c3) n s48 = some r48 → (∀ (ls : Array Slot) (H : Heap) (locs : List Loc), lv_has ls 6 [(0, .ref c0), (1, .int c1), (3, va_rf c3)] → HH G r48 H → va_S (AG G) s.heap H locs → W p l e (rm_ 2 0 0) s m ([.ref a0, .int a1] : List Value).toArray below meth c H locs 0 0 (MQ below (PostC G σf none) ([.ref a0, .int a1] : List Value).toArray s 0 0 (AG G)) (F0 m 76 ls [])) → ∀ (ls : Array Slot) (H : Heap) (locs : List Loc), lv_has ls 6 [(0, .ref c0), (1, .int c1), (2, .int s48.1), (3, va_rf c3)] → HH G s48.2 H → va_S (AG G) s.heap H locs → W p l e (rm_ 2 0 0) s m ([.ref a0, .int a1] : List Value).toArray below meth c H locs 0 0 (MQ below (PostC G σf none) ([.ref a0, .int a1] : List Value).toArray s 0 0 (AG G)) (F0 m 48 ls []) := by
    intro c0 c1 c3 n s48 r48 hr hq
    refine lp_ind (P := fun s48 => ∀ (ls : Array Slot) (H : Heap) (locs : List Loc), lv_has ls 6 [(0, .ref c0), (1, .int c1), (2, .int s48.1), (3, va_rf c3)] → HH G s48.2 H → va_S (AG G) s.heap H locs → W p l e (rm_ 2 0 0) s m ([.ref a0, .int a1] : List Value).toArray below meth c H locs 0 0 (MQ below (PostC G σf none) ([.ref a0, .int a1] : List Value).toArray s 0 0 (AG G)) (F0 m 48 ls [])) (Q := fun r48 => ∀ (ls : Array Slot) (H : Heap) (locs : List Loc), lv_has ls 6 [(0, .ref c0), (1, .int c1), (3, va_rf c3)] → HH G r48 H → va_S (AG G) s.heap H locs → W p l e (rm_ 2 0 0) s m ([.ref a0, .int a1] : List Value).toArray below meth c H locs 0 0 (MQ below (PostC G σf none) ([.ref a0, .int a1] : List Value).toArray s 0 0 (AG G)) (F0 m 76 ls [])) ?_ n s48 r48 hr hq
    intro s48 x48 hf hx48 ls H locs hl hH hS
    unfold f_X9_clears_b48 at hf
    refine lv_iload_n hx hb dX9_clears_48 rfl (lv_at hl 2 rfl) ?_
    refine lv_aload_n hx hb dX9_clears_49 rfl (lv_at hl 0 rfl) ?_
    obtain ⟨v13, hv, hf⟩ := bd hf
    refine h_gI X hK hH fo_X9_4 hv q311 dX9_clears_50 ?_
    refine lv_icmp_le (tgt := 76) hx hb dX9_clears_53 (by decide) (fun c_ => ?_) (fun c_ => ?_)
    · have hf := (if_pos c_).symm.trans hf
      cases hf
      exact hx48 _ _ _ (lv_sub hl [0, 1, 3] rfl) hH hS
    · have hf := (if_neg c_).symm.trans hf
      refine lv_aload_n hx hb dX9_clears_56 rfl (lv_at hl 0 rfl) ?_
      obtain ⟨v14, hv, hf⟩ := bd hf
      refine h_gR X hK hH fo_X9_2 hv q308 dX9_clears_57 ?_
      refine lv_iload_n hx hb dX9_clears_60 rfl (lv_at hl 2 rfl) ?_
      refine lv_aload_n hx hb dX9_clears_61 rfl (lv_at hl 0 rfl) ?_
      obtain ⟨v15, hv, hf⟩ := bd hf
      refine h_gR X hK hH fo_X9_2 hv q308 dX9_clears_62 ?_
      refine lv_iload_n hx hb dX9_clears_65 rfl (lv_at hl 2 rfl) ?_
      refine lv_iconst (v := (1 : Int32)) hx hb dX9_clears_66 (by decide) ?_
      refine lv_isub hx hb dX9_clears_67 ?_
      obtain ⟨v16, hv, hf⟩ := bd hf
      refine h_aQ (by decide) X hK hH hv dX9_clears_68 ?_
      obtain ⟨t17, hv, hf⟩ := bd hf
      refine h_wQ (w := v16) X hK hH hS (by decide) hv dX9_clears_69 (fun H locs hH hS => ?_)
      refine lv_iinc (v := (s48.1 + (-1))) (lv' := [(2, .int (s48.1 + (-1))), (0, .ref c0), (1, .int c1), (3, va_rf c3)]) hx hb dX9_clears_70 hl (k := 2) rfl rfl (by decide) rfl (fun ls hl => ?_)
      refine lv_goto (tgt := 48) hx hb dX9_clears_73 (by decide) ?_
      cases hf
      exact hx48 _ _ _ (lv_sub hl [1, 2, 0, 3] rfl) hH hS
  have L101 : ∀ (c0 : Nat) (c1 : Int32) (c3 : Nat) (c4 : Int32) (n : Nat) (s101 : (Int32 × SG)) (r101 : SG), lp (f_X9_clears_b101 N c0 c1 c3 c4) n s101 = some r101 → (∀ (ls : Array Slot) (H : Heap) (locs : List Loc), lv_has ls 6 [(0, .ref c0), (1, .int c1), (3, .ref c3)] → HH G r101 H → va_S (AG G) s.heap H locs → W p l e (rm_ 2 0 0) s m ([.ref a0, .int a1] : List Value).toArray below meth c H locs 0 0 (MQ below (PostC G σf none) ([.ref a0, .int a1] : List Value).toArray s 0 0 (AG G)) (F0 m 133 ls [])) → ∀ (ls : Array Slot) (H : Heap) (locs : List Loc), lv_has ls 6 [(0, .ref c0), (1, .int c1), (3, .ref c3), (4, .int c4), (5, .int s101.1)] → HH G s101.2 H → va_S (AG G) s.heap H locs → W p l e (rm_ 2 0 0) s m ([.ref a0, .int a1] : List Value).toArray below meth c H locs 0 0 (MQ below (PostC G σf none) ([.ref a0, .int a1] : List Value).toArray s 0 0 (AG G)) (F0 m 101 ls []) := by
    intro c0 c1 c3 c4 n s101 r101 hr hq
    refine lp_ind (P := fun s101 => ∀ (ls : Array Slot) (H : Heap) (locs : List Loc), lv_has ls 6 [(0, .ref c0), (1, .int c1), (3, .ref c3), (4, .int c4), (5, .int s101.1)] → HH G s101.2 H → va_S (AG G) s.heap H locs → W p l e (rm_ 2 0 0) s m ([.ref a0, .int a1] : List Value).toArray below meth c H locs 0 0 (MQ below (PostC G σf none) ([.ref a0, .int a1] : List Value).toArray s 0 0 (AG G)) (F0 m 101 ls [])) (Q := fun r101 => ∀ (ls : Array Slot) (H : Heap) (locs : List Loc), lv_has ls 6 [(0, .ref c0), (1, .int c1), (3, .ref c3)] → HH G r101 H → va_S (AG G) s.heap H locs → W p l e (rm_ 2 0 0) s m ([.ref a0, .int a1] : List Value).toArray below meth c H locs 0 0 (MQ below (PostC G σf none) ([.ref a0, .int a1] : List Value).toArray s 0 0 (AG G)) (F0 m 133 ls [])) ?_ n s101 r101 hr hq
    intro s101 x101 hf hx101 ls H locs hl hH hS
    unfold f_X9_clears_b101 at hf
    refine lv_iload hx hb dX9_clears_101 (lv_at hl 4 rfl) ?_
    refine lv_aload_n hx hb dX9_clears_103 rfl (lv_at hl 0 rfl) ?_
    obtain ⟨v26, hv, hf⟩ := bd hf
    refine h_gI X hK hH fo_X9_1 hv q307 dX9_clears_104 ?_
    refine lv_icmp_ge (tgt := 133) hx hb dX9_clears_107 (by decide) (fun c_ => ?_) (fun c_ => ?_)
    · have hf := (if_pos c_).symm.trans hf
      cases hf
      exact hx101 _ _ _ (lv_sub hl [0, 1, 2] rfl) hH hS
    · have hf := (if_neg c_).symm.trans hf
      refine lv_aload_n hx hb dX9_clears_110 rfl (lv_at hl 2 rfl) ?_
      refine lv_iload hx hb dX9_clears_111 (lv_at hl 4 rfl) ?_
      refine lv_aload_n hx hb dX9_clears_113 rfl (lv_at hl 0 rfl) ?_
      obtain ⟨v27, hv, hf⟩ := bd hf
      refine h_gI X hK hH fo_X9_0 hv q306 dX9_clears_114 ?_
      refine lv_iload hx hb dX9_clears_117 (lv_at hl 3 rfl) ?_
      refine lv_aload_n hx hb dX9_clears_119 rfl (lv_at hl 2 rfl) ?_
      refine lv_iload hx hb dX9_clears_120 (lv_at hl 4 rfl) ?_
      obtain ⟨v28, hv, hf⟩ := bd hf
      refine h_aI X hK hH hv dX9_clears_122 ?_
      obtain ⟨v29, hv, hf⟩ := bd hf
      refine c_SN (host := "WordBench") (As := [.int v27, .int c4, .int v28]) (rest := [.int s101.1, .ref c3]) (st1 := [.int v29, .int s101.1, .ref c3]) X (met_X1_times l G s101.2 N v27 c4 v28 v29 hv) cs_X1_times q297 rfl rfl rfl hl.1 (Nat.le_of_ble_eq_true rfl) ⟨Nat.le_of_ble_eq_true rfl, Nat.le_of_ble_eq_true rfl⟩ ⟨Nat.le_of_ble_eq_true rfl, Nat.le_of_ble_eq_true rfl⟩ dX9_clears_123 hK hH hS (fun H locs hH hS => ?_)
      refine W.cs (cells' := 0) (slots' := 0) (by rfl) (by rfl) ?_
      obtain ⟨t30, hv, hf⟩ := bd hf
      refine h_wI X hK hH hS hv dX9_clears_126 (fun H locs hH hS => ?_)
      refine lv_iinc (v := (s101.1 + 1)) (lv' := [(5, .int (s101.1 + 1)), (0, .ref c0), (1, .int c1), (3, .ref c3), (4, .int c4)]) hx hb dX9_clears_127 hl (k := 4) rfl rfl (by decide) rfl (fun ls hl => ?_)
      refine lv_goto (tgt := 101) hx hb dX9_clears_130 (by decide) ?_
      cases hf
      exact hx101 _ _ _ (lv_sub hl [1, 2, 3, 4, 0] rfl) hH hS
  have L136 : ∀ (c0 : Nat) (c1 : Int32) (c3 : Nat) (n : Nat) (s136 : (Int32 × SG)) (r136 : SG), lp (f_X9_clears_b136 N c0 c1 c3) n s136 = some r136 → (∀ (ls : Array Slot) (H : Heap) (locs : List Loc), lv_has ls 6 [(0, .ref c0), (1, .int c1)] → HH G r136 H → va_S (AG G) s.heap H locs → W p l e (rm_ 2 0 0) s m ([.ref a0, .int a1] : List Value).toArray below meth c H locs 0 0 (MQ below (PostC G σf none) ([.ref a0, .int a1] : List Value).toArray s 0 0 (AG G)) (F0 m 182 ls [])) → ∀ (ls : Array Slot) (H : Heap) (locs : List Loc), lv_has ls 6 [(0, .ref c0), (1, .int c1), (3, .ref c3), (5, .int s136.1)] → HH G s136.2 H → va_S (AG G) s.heap H locs → W p l e (rm_ 2 0 0) s m ([.ref a0, .int a1] : List Value).toArray below meth c H locs 0 0 (MQ below (PostC G σf none) ([.ref a0, .int a1] : List Value).toArray s 0 0 (AG G)) (F0 m 136 ls []) := by
    intro c0 c1 c3 n s136 r136 hr hq
    refine lp_ind (P := fun s136 => ∀ (ls : Array Slot) (H : Heap) (locs : List Loc), lv_has ls 6 [(0, .ref c0), (1, .int c1), (3, .ref c3), (5, .int s136.1)] → HH G s136.2 H → va_S (AG G) s.heap H locs → W p l e (rm_ 2 0 0) s m ([.ref a0, .int a1] : List Value).toArray below meth c H locs 0 0 (MQ below (PostC G σf none) ([.ref a0, .int a1] : List Value).toArray s 0 0 (AG G)) (F0 m 136 ls [])) (Q := fun r136 => ∀ (ls : Array Slot) (H : Heap) (locs : List Loc), lv_has ls 6 [(0, .ref c0), (1, .int c1)] → HH G r136 H → va_S (AG G) s.heap H locs → W p l e (rm_ 2 0 0) s m ([.ref a0, .int a1] : List Value).toArray below meth c H locs 0 0 (MQ below (PostC G σf none) ([.ref a0, .int a1] : List Value).toArray s 0 0 (AG G)) (F0 m 182 ls [])) ?_ n s136 r136 hr hq
    intro s136 x136 hf hx136 ls H locs hl hH hS
    unfold f_X9_clears_b136 at hf
    refine lv_iload hx hb dX9_clears_136 (lv_at hl 3 rfl) ?_
    refine lv_aload_n hx hb dX9_clears_138 rfl (lv_at hl 0 rfl) ?_
    obtain ⟨v32, hv, hf⟩ := bd hf
    refine h_gR X hK hH fo_X9_2 hv q308 dX9_clears_139 ?_
    obtain ⟨v33, hv, hf⟩ := bd hf
    refine h_aN X hK hH hv dX9_clears_142 ?_
    refine lv_icmp_ge (tgt := 182) hx hb dX9_clears_143 (by decide) (fun c_ => ?_) (fun c_ => ?_)
    · have hf := (if_pos c_).symm.trans hf
      cases hf
      exact hx136 _ _ _ (lv_sub hl [0, 1] rfl) hH hS
    · have hf := (if_neg c_).symm.trans hf
      refine lv_iload hx hb dX9_clears_146 (lv_at hl 3 rfl) ?_
      refine lv_aload_n hx hb dX9_clears_148 rfl (lv_at hl 0 rfl) ?_
      obtain ⟨v34, hv, hf⟩ := bd hf
      refine h_gI X hK hH fo_X9_4 hv q311 dX9_clears_149 ?_
      refine lv_icmp_eq (tgt := 176) hx hb dX9_clears_152 (by decide) (fun c_ => ?_) (fun c_ => ?_)
      · have hf := (if_pos c_).symm.trans hf
        refine lv_iinc (v := (s136.1 + 1)) (lv' := [(5, .int (s136.1 + 1)), (0, .ref c0), (1, .int c1), (3, .ref c3)]) hx hb dX9_clears_176 hl (k := 3) rfl rfl (by decide) rfl (fun ls hl => ?_)
        refine lv_goto (tgt := 136) hx hb dX9_clears_179 (by decide) ?_
        cases hf
        exact hx136 _ _ _ (lv_sub hl [1, 2, 3, 0] rfl) hH hS
      · have hf := (if_neg c_).symm.trans hf
        refine lv_aload_n hx hb dX9_clears_155 rfl (lv_at hl 0 rfl) ?_
        refine lv_aload_n hx hb dX9_clears_156 rfl (lv_at hl 0 rfl) ?_
        obtain ⟨v35, hv, hf⟩ := bd hf
        refine h_gR X hK hH fo_X9_2 hv q308 dX9_clears_157 ?_
        refine lv_iload hx hb dX9_clears_160 (lv_at hl 3 rfl) ?_
        obtain ⟨v36, hv, hf⟩ := bd hf
        refine h_aQ (by decide) X hK hH hv dX9_clears_162 ?_
        refine lv_aload_n hx hb dX9_clears_163 rfl (lv_at hl 2 rfl) ?_
        refine lv_aload_n hx hb dX9_clears_164 rfl (lv_at hl 0 rfl) ?_
        obtain ⟨v37, hv, hf⟩ := bd hf
        refine h_gR X hK hH fo_X9_2 hv q308 dX9_clears_165 ?_
        refine lv_iload hx hb dX9_clears_168 (lv_at hl 3 rfl) ?_
        obtain ⟨v38, hv, hf⟩ := bd hf
        refine h_aQ (by decide) X hK hH hv dX9_clears_170 ?_
        refine lv_iload_n hx hb dX9_clears_171 rfl (lv_at hl 1 rfl) ?_
        obtain ⟨b39, hq, hz⟩ := bd hf
        clear hf
        subst hq
        have hf := hz
        clear hz
        obtain ⟨v40, hv, hf⟩ := bd hf
        refine h_aI X hK hH hv dX9_clears_172 ?_
        obtain ⟨b41, hq, hz⟩ := bd hf
        clear hf
        subst hq
        have hf := hz
        clear hz
        obtain ⟨_, hw, hf⟩ := bd hf
        obtain ⟨v42, hv, hf⟩ := bd hf
        refine c_V (As := [.ref b41, .ref c3, .int v40]) (rest := []) (st1 := []) X (met_X9_takes l G s136.2 N c0 b41 c3 v40 v42 hv) cv_X9_takes q298 (recv1 (w := (RX9, TX9, 5)) hw hK hH rfl) rfl rfl rfl hl.1 (Nat.le_of_ble_eq_true rfl) ⟨Nat.le_of_ble_eq_true rfl, Nat.le_of_ble_eq_true rfl⟩ ⟨Nat.le_of_ble_eq_true rfl, Nat.le_of_ble_eq_true rfl⟩ dX9_clears_173 hK hH hS (fun H locs hH hS => ?_)
        refine W.cs (cells' := 0) (slots' := 0) (by rfl) (by rfl) ?_
        refine lv_iinc (v := (s136.1 + 1)) (lv' := [(5, .int (s136.1 + 1)), (0, .ref c0), (1, .int c1), (3, .ref c3)]) hx hb dX9_clears_176 hl (k := 3) rfl rfl (by decide) rfl (fun ls hl => ?_)
        refine lv_goto (tgt := 136) hx hb dX9_clears_179 (by decide) ?_
        cases hf
        exact hx136 _ _ _ (lv_sub hl [1, 2, 3, 0] rfl) hH hS
  have J31 : ∀ (d0 : Nat) (d1 : Int32) (d2 : Int32) (u31 : SG), f_X9_clears_j31 N d0 d1 d2 u31 = some σf → ∀ (ls : Array Slot) (H : Heap) (locs : List Loc), lv_has ls 6 [(0, .ref d0), (1, .int d1), (2, .int d2)] → HH G u31 H → va_S (AG G) s.heap H locs → W p l e (rm_ 2 0 0) s m ([.ref a0, .int a1] : List Value).toArray below meth c H locs 0 0 (MQ below (PostC G σf none) ([.ref a0, .int a1] : List Value).toArray s 0 0 (AG G)) (F0 m 31 ls []) := by
    intro d0 d1 d2 u31 hf ls H locs hl hH hS
    unfold f_X9_clears_j31 at hf
    refine lv_iload_n hx hb dX9_clears_31 rfl (lv_at hl 2 rfl) ?_
    refine lv_aload_n hx hb dX9_clears_32 rfl (lv_at hl 0 rfl) ?_
    obtain ⟨v9, hv, hf⟩ := bd hf
    refine h_gR X hK hH fo_X9_2 hv q308 dX9_clears_33 ?_
    obtain ⟨v10, hv, hf⟩ := bd hf
    refine h_aN X hK hH hv dX9_clears_36 ?_
    refine lv_icmp_lt (tgt := 41) hx hb dX9_clears_37 (by decide) (fun c_ => ?_) (fun c_ => ?_)
    · have hf := (if_pos c_).symm.trans hf
      refine lv_aload_n hx hb dX9_clears_41 rfl (lv_at hl 0 rfl) ?_
      obtain ⟨v11, hv, hf⟩ := bd hf
      refine h_gR X hK hH fo_X9_2 hv q308 dX9_clears_42 ?_
      refine lv_iload_n hx hb dX9_clears_45 rfl (lv_at hl 2 rfl) ?_
      obtain ⟨v12, hv, hf⟩ := bd hf
      refine h_aQ (by decide) X hK hH hv dX9_clears_46 ?_
      refine q_astore_n (lv' := [(3, va_rf v12), (0, .ref d0), (1, .int d1), (2, .int d2)]) hx hb dX9_clears_47 rfl hl (by decide) rfl (fun ls hl => ?_)
      obtain ⟨r48_18, hr, hf⟩ := bd hf
      refine L48 d0 d1 v12 N _ r48_18 hr ?_ _ _ _ (lv_sub hl [1, 2, 3, 0] rfl) hH hS
      intro ls H locs hl hH hS
      refine lv_aload_n hx hb dX9_clears_76 rfl (lv_at hl 0 rfl) ?_
      obtain ⟨v19, hv, hf⟩ := bd hf
      refine h_gR X hK hH fo_X9_2 hv q308 dX9_clears_77 ?_
      refine lv_aload_n hx hb dX9_clears_80 rfl (lv_at hl 0 rfl) ?_
      obtain ⟨v20, hv, hf⟩ := bd hf
      refine h_gI X hK hH fo_X9_4 hv q311 dX9_clears_81 ?_
      refine q_aload_n hx hb dX9_clears_84 rfl (lv_at hl 2 rfl) ?_
      obtain ⟨t21, hv, hf⟩ := bd hf
      refine h_wQ (w := v12) X hK hH hS (by decide) hv dX9_clears_85 (fun H locs hH hS => ?_)
      refine lv_aload_n hx hb dX9_clears_86 rfl (lv_at hl 0 rfl) ?_
      obtain ⟨v22, hv, hf⟩ := bd hf
      refine h_gI X hK hH fo_X9_0 hv q306 dX9_clears_87 ?_
      refine q_aload_n hx hb dX9_clears_90 rfl (lv_at hl 2 rfl) ?_
      refine lv_iload_n hx hb dX9_clears_91 rfl (lv_at hl 1 rfl) ?_
      obtain ⟨b23, hq, hz⟩ := bd hf
      clear hf
      subst hq
      have hf := hz
      clear hz
      obtain ⟨v24, hv, hf⟩ := bd hf
      refine h_aI X hK hH hv dX9_clears_92 ?_
      obtain ⟨v25, hv, hf⟩ := bd hf
      refine c_SN (host := "WordBench") (As := [.int v22, .int v24]) (rest := []) (st1 := [.int v25]) X (met_X1_inverse l G t21 N v22 v24 v25 hv) cs_X1_inverse q294 rfl rfl rfl hl.1 (Nat.le_of_ble_eq_true rfl) ⟨Nat.le_of_ble_eq_true rfl, Nat.le_of_ble_eq_true rfl⟩ ⟨Nat.le_of_ble_eq_true rfl, Nat.le_of_ble_eq_true rfl⟩ dX9_clears_93 hK hH hS (fun H locs hH hS => ?_)
      refine W.cs (cells' := 0) (slots' := 0) (by rfl) (by rfl) ?_
      refine lv_istore (lv' := [(4, .int v25), (0, .ref d0), (1, .int d1), (3, .ref b23)]) hx hb dX9_clears_96 hl (by decide) rfl (fun ls hl => ?_)
      refine lv_iconst (v := (0 : Int32)) hx hb dX9_clears_98 (by decide) ?_
      refine lv_istore (lv' := [(5, .int (0 : Int32)), (4, .int v25), (0, .ref d0), (1, .int d1), (3, .ref b23)]) hx hb dX9_clears_99 hl (by decide) rfl (fun ls hl => ?_)
      obtain ⟨r101_31, hr, hf⟩ := bd hf
      refine L101 d0 d1 b23 v25 N _ r101_31 hr ?_ _ _ _ (lv_sub hl [2, 3, 4, 1, 0] rfl) hH hS
      intro ls H locs hl hH hS
      refine lv_iconst (v := (0 : Int32)) hx hb dX9_clears_133 (by decide) ?_
      refine lv_istore (lv' := [(5, .int (0 : Int32)), (0, .ref d0), (1, .int d1), (3, .ref b23)]) hx hb dX9_clears_134 hl (by decide) rfl (fun ls hl => ?_)
      obtain ⟨r136_43, hr, hf⟩ := bd hf
      refine L136 d0 d1 b23 N _ r136_43 hr ?_ _ _ _ (lv_sub hl [1, 2, 3, 0] rfl) hH hS
      intro ls H locs hl hH hS
      refine lv_aload_n hx hb dX9_clears_182 rfl (lv_at hl 0 rfl) ?_
      obtain ⟨v44, hv, hf⟩ := bd hf
      refine h_gR X hK hH fo_X9_3 hv q309 dX9_clears_183 ?_
      refine lv_aload_n hx hb dX9_clears_186 rfl (lv_at hl 0 rfl) ?_
      obtain ⟨v45, hv, hf⟩ := bd hf
      refine h_gI X hK hH fo_X9_4 hv q311 dX9_clears_187 ?_
      refine lv_iload_n hx hb dX9_clears_190 rfl (lv_at hl 1 rfl) ?_
      obtain ⟨t46, hv, hf⟩ := bd hf
      refine h_wI X hK hH hS hv dX9_clears_191 (fun H locs hH hS => ?_)
      refine lv_aload_n hx hb dX9_clears_192 rfl (lv_at hl 0 rfl) ?_
      refine lv_dup hx hb dX9_clears_193 rfl ?_
      obtain ⟨v47, hv, hf⟩ := bd hf
      refine h_gI X hK hH fo_X9_4 hv q311 dX9_clears_194 ?_
      refine lv_iconst (v := (1 : Int32)) hx hb dX9_clears_197 (by decide) ?_
      refine lv_iadd hx hb dX9_clears_198 ?_
      obtain ⟨t48, hv, hf⟩ := bd hf
      refine h_put (ty := .int) X hK hH hS fo_X9_4 hv q311 (by decide +kernel) rfl rfl dX9_clears_199 (fun H locs hH hS => ?_)
      cases hf
      exact r_vret X dX9_clears_202 (Nat.le_of_ble_eq_true rfl) (Nat.le_of_ble_eq_true rfl) rfl hH hS
    · have hf := (if_neg c_).symm.trans hf
      cases hf
      exact r_vret X dX9_clears_40 (Nat.le_of_ble_eq_true rfl) (Nat.le_of_ble_eq_true rfl) rfl hH hS
  refine lv_aload_n hx hb dX9_clears_0 rfl (lv_at hl 0 rfl) ?_
  obtain ⟨v1, hv, hf⟩ := bd hf
  refine h_gI X hK hH fo_X9_4 hv q311 dX9_clears_1 ?_
  refine lv_istore_n (lv' := [(2, .int v1), (0, .ref a0), (1, .int a1)]) hx hb dX9_clears_4 rfl hl (by decide) rfl (fun ls hl => ?_)
  obtain ⟨r5_8, hr, hf⟩ := bd hf
  refine L5 a0 a1 σ N _ r5_8 hr ?_ _ _ _ (lv_sub hl [1, 2, 0] rfl) hH hS
  intro ls H locs hl hH hS
  exact J31 a0 a1 r5_8 σ hf _ _ _ (lv_sub hl [0, 1, 2] rfl) hH hS
theorem ci_X9_init : CalI yX9_init cX9_init 3 1 := ⟨q282, q63, q283, rfl, by decide +kernel⟩
set_option maxHeartbeats 4000000 in
theorem met_X9_init (l : Launch) (G : GG) (σ : SG) (N : Nat) (a0 : Nat) (a1 : Nat) (σf : SG) (hf : f_X9_init N σ a0 a1 = some σf) : Con l yX9_init cX9_init 3 none 3 15 180 G σ [.ref a0, .ref a1] σf none := by
  refine con_of (by decide) (Nat.le_of_ble_eq_true rfl) ?_
  intro p e s m below meth c ls X hK hH hl hS
  have hx := X.1
  have hb := X.2.1
  have hml := X.2.2.2.1
  have hown : s.vm.findClass RX9 = some m.cls := X.2.2.2.2.1
  have hts := X.2.2.2.2.2.1
  have hl : lv_has ls 3 [(0, .ref a0), (1, .ref a1)] := hl
  unfold f_X9_init at hf
  have L43 : ∀ (c0 : Nat) (c1 : Nat) (n43 : Nat) (s43 : (Int32 × SG)) (r43 : SG), lp (f_X9_init_b43 N c0 c1) n43 s43 = some r43 → (∀ (ls : Array Slot) (H : Heap) (locs : List Loc), lv_has ls 3 [(0, .ref c0)] → HH G r43 H → va_S (AG G) s.heap H locs → W p l e (rm_ 3 15 180) s m ([.ref a0, .ref a1] : List Value).toArray below meth c H locs 15 180 (MQ below (PostC G σf none) ([.ref a0, .ref a1] : List Value).toArray s 15 180 (AG G)) (F0 m 80 ls [])) → n43 ≤ 13 → ∀ (ls : Array Slot) (H : Heap) (locs : List Loc), lv_has ls 3 [(0, .ref c0), (1, .ref c1), (2, .int s43.1)] → HH G s43.2 H → va_S (AG G) s.heap H locs → W p l e (rm_ 3 15 180) s m ([.ref a0, .ref a1] : List Value).toArray below meth c H locs (0 + 2 + (13 - n43) * 1) (0 + 24 + (13 - n43) * 12) (MQ below (PostC G σf none) ([.ref a0, .ref a1] : List Value).toArray s 15 180 (AG G)) (F0 m 43 ls []) := by
    intro c0 c1 n43 s43 r43 hr hq
    refine lp_indN (P := fun n43 s43 => n43 ≤ 13 → ∀ (ls : Array Slot) (H : Heap) (locs : List Loc), lv_has ls 3 [(0, .ref c0), (1, .ref c1), (2, .int s43.1)] → HH G s43.2 H → va_S (AG G) s.heap H locs → W p l e (rm_ 3 15 180) s m ([.ref a0, .ref a1] : List Value).toArray below meth c H locs (0 + 2 + (13 - n43) * 1) (0 + 24 + (13 - n43) * 12) (MQ below (PostC G σf none) ([.ref a0, .ref a1] : List Value).toArray s 15 180 (AG G)) (F0 m 43 ls [])) (Q := fun r43 => ∀ (ls : Array Slot) (H : Heap) (locs : List Loc), lv_has ls 3 [(0, .ref c0)] → HH G r43 H → va_S (AG G) s.heap H locs → W p l e (rm_ 3 15 180) s m ([.ref a0, .ref a1] : List Value).toArray below meth c H locs 15 180 (MQ below (PostC G σf none) ([.ref a0, .ref a1] : List Value).toArray s 15 180 (AG G)) (F0 m 80 ls [])) ?_ n43 s43 r43 hr hq
    intro n43 s43 x43 hf hx43 hn ls H locs hl hH hS
    refine W.eq rfl ?_
    unfold f_X9_init_b43 at hf
    refine W.widen (k := (0 + 2 + (13 - (n43 + 1)) * 1)) (n := (0 + 24 + (13 - (n43 + 1)) * 12)) (by omega) (by omega) ?_
    refine lv_iload_n hx hb dX9_init_43 rfl (lv_at hl 2 rfl) ?_
    refine lv_aload_n hx hb dX9_init_44 rfl (lv_at hl 1 rfl) ?_
    obtain ⟨v11, hv, hf⟩ := bd hf
    refine h_gI X hK hH fo_Code_3 hv q133 dX9_init_45 ?_
    refine lv_icmp_ge (tgt := 80) hx hb dX9_init_48 (by decide) (fun c_ => ?_) (fun c_ => ?_)
    · have hf := (if_pos c_).symm.trans hf
      cases hf
      refine W.widen (k := 15) (n := 180) (by omega) (by omega) ?_
      exact hx43 _ _ _ (lv_sub hl [0] rfl) hH hS
    · have hf := (if_neg c_).symm.trans hf
      refine lv_aload_n hx hb dX9_init_51 rfl (lv_at hl 0 rfl) ?_
      obtain ⟨v12, hv, hf⟩ := bd hf
      refine h_gR X hK hH fo_X9_2 hv q308 dX9_init_52 ?_
      refine lv_iload_n hx hb dX9_init_55 rfl (lv_at hl 2 rfl) ?_
      refine lv_aload_n hx hb dX9_init_56 rfl (lv_at hl 0 rfl) ?_
      obtain ⟨v13, hv, hf⟩ := bd hf
      refine h_gI X hK hH fo_X9_0 hv q306 dX9_init_57 ?_
      refine lv_aload_n hx hb dX9_init_60 rfl (lv_at hl 0 rfl) ?_
      obtain ⟨v14, hv, hf⟩ := bd hf
      refine h_gI X hK hH fo_X9_1 hv q307 dX9_init_61 ?_
      refine lv_aload_n hx hb dX9_init_64 rfl (lv_at hl 1 rfl) ?_
      obtain ⟨v15, hv, hf⟩ := bd hf
      refine h_gR X hK hH fo_Code_2 hv q125 dX9_init_65 ?_
      refine lv_iload_n hx hb dX9_init_68 rfl (lv_at hl 2 rfl) ?_
      obtain ⟨v16, hv, hf⟩ := bd hf
      refine h_aL X hK hH hv dX9_init_69 ?_
      obtain ⟨v17, hv, hf⟩ := bd hf
      refine c_SN (host := "WordBench") (As := [.int v13, .int v14, .long v16]) (rest := [.int s43.1, .ref v12]) (st1 := [.ref v17.2, .int s43.1, .ref v12]) X (met_X1_letters l G s43.2 N v13 v14 v16 v17.1 v17.2 hv) cs_X1_letters q287 rfl rfl rfl hl.1 (Nat.le_of_ble_eq_true rfl) ⟨Nat.le_of_ble_eq_true rfl, Nat.le_of_ble_eq_true rfl⟩ ⟨by show _ ≤ _; first | omega | (dsimp only [rm_]; omega), by show _ ≤ _; first | omega | (dsimp only [rm_]; omega)⟩ dX9_init_70 hK hH hS (fun H locs hH hS => ?_)
      refine W.cs (cells' := (1 + 2 + (13 - (n43 + 1)) * 1)) (slots' := (12 + 24 + (13 - (n43 + 1)) * 12)) (by omega) (by omega) ?_
      obtain ⟨t18, hv, hf⟩ := bd hf
      refine h_wQ (w := (some v17.2)) X hK hH hS (by decide) hv dX9_init_73 (fun H locs hH hS => ?_)
      refine lv_iinc (v := (s43.1 + 1)) (lv' := [(2, .int (s43.1 + 1)), (0, .ref c0), (1, .ref c1)]) hx hb dX9_init_74 hl (k := 2) rfl rfl (by decide) rfl (fun ls hl => ?_)
      refine lv_goto (tgt := 43) hx hb dX9_init_77 (by decide) ?_
      cases hf
      refine W.widen (k := (0 + 2 + (13 - n43) * 1)) (n := (0 + 24 + (13 - n43) * 12)) (by omega) (by omega) ?_
      exact hx43 (by omega) _ _ _ (lv_sub hl [1, 2, 0] rfl) hH hS
  have L82 : ∀ (c0 : Nat) (n : Nat) (s82 : (Int32 × SG)) (r82 : SG), lp (f_X9_init_b82 N c0) n s82 = some r82 → (∀ (ls : Array Slot) (H : Heap) (locs : List Loc), lv_has ls 3 [] → HH G r82 H → va_S (AG G) s.heap H locs → W p l e (rm_ 3 15 180) s m ([.ref a0, .ref a1] : List Value).toArray below meth c H locs 15 180 (MQ below (PostC G σf none) ([.ref a0, .ref a1] : List Value).toArray s 15 180 (AG G)) (F0 m 101 ls [])) → ∀ (ls : Array Slot) (H : Heap) (locs : List Loc), lv_has ls 3 [(0, .ref c0), (2, .int s82.1)] → HH G s82.2 H → va_S (AG G) s.heap H locs → W p l e (rm_ 3 15 180) s m ([.ref a0, .ref a1] : List Value).toArray below meth c H locs 15 180 (MQ below (PostC G σf none) ([.ref a0, .ref a1] : List Value).toArray s 15 180 (AG G)) (F0 m 82 ls []) := by
    intro c0 n s82 r82 hr hq
    refine lp_ind (P := fun s82 => ∀ (ls : Array Slot) (H : Heap) (locs : List Loc), lv_has ls 3 [(0, .ref c0), (2, .int s82.1)] → HH G s82.2 H → va_S (AG G) s.heap H locs → W p l e (rm_ 3 15 180) s m ([.ref a0, .ref a1] : List Value).toArray below meth c H locs 15 180 (MQ below (PostC G σf none) ([.ref a0, .ref a1] : List Value).toArray s 15 180 (AG G)) (F0 m 82 ls [])) (Q := fun r82 => ∀ (ls : Array Slot) (H : Heap) (locs : List Loc), lv_has ls 3 [] → HH G r82 H → va_S (AG G) s.heap H locs → W p l e (rm_ 3 15 180) s m ([.ref a0, .ref a1] : List Value).toArray below meth c H locs 15 180 (MQ below (PostC G σf none) ([.ref a0, .ref a1] : List Value).toArray s 15 180 (AG G)) (F0 m 101 ls [])) ?_ n s82 r82 hr hq
    intro s82 x82 hf hx82 ls H locs hl hH hS
    unfold f_X9_init_b82 at hf
    refine lv_iload_n hx hb dX9_init_82 rfl (lv_at hl 1 rfl) ?_
    refine lv_aload_n hx hb dX9_init_83 rfl (lv_at hl 0 rfl) ?_
    obtain ⟨v20, hv, hf⟩ := bd hf
    refine h_gI X hK hH fo_X9_1 hv q307 dX9_init_84 ?_
    refine lv_icmp_ge (tgt := 101) hx hb dX9_init_87 (by decide) (fun c_ => ?_) (fun c_ => ?_)
    · have hf := (if_pos c_).symm.trans hf
      cases hf
      exact hx82 _ _ _ (lv_sub hl [] rfl) hH hS
    · have hf := (if_neg c_).symm.trans hf
      refine lv_aload_n hx hb dX9_init_90 rfl (lv_at hl 0 rfl) ?_
      refine lv_iload_n hx hb dX9_init_91 rfl (lv_at hl 1 rfl) ?_
      obtain ⟨_, hw, hf⟩ := bd hf
      obtain ⟨v21, hv, hf⟩ := bd hf
      refine c_V (As := [.int s82.1]) (rest := []) (st1 := []) X (met_X9_clears l G s82.2 N c0 s82.1 v21 hv) cv_X9_clears q290 (recv1 (w := (RX9, TX9, 5)) hw hK hH rfl) rfl rfl rfl hl.1 (Nat.le_of_ble_eq_true rfl) ⟨Nat.le_of_ble_eq_true rfl, Nat.le_of_ble_eq_true rfl⟩ ⟨Nat.le_of_ble_eq_true rfl, Nat.le_of_ble_eq_true rfl⟩ dX9_init_92 hK hH hS (fun H locs hH hS => ?_)
      refine W.cs (cells' := 15) (slots' := 180) (by rfl) (by rfl) ?_
      refine lv_iinc (v := (s82.1 + 1)) (lv' := [(2, .int (s82.1 + 1)), (0, .ref c0)]) hx hb dX9_init_95 hl (k := 1) rfl rfl (by decide) rfl (fun ls hl => ?_)
      refine lv_goto (tgt := 82) hx hb dX9_init_98 (by decide) ?_
      cases hf
      exact hx82 _ _ _ (lv_sub hl [1, 0] rfl) hH hS
  refine lv_aload_n hx hb dX9_init_0 rfl (lv_at hl 0 rfl) ?_
  refine W.objInit hx hb hown (hts _ q284) (hts _ q104) (hts _ q105) rfl (by rw [hml]; exact hl.1) rfl dX9_init_1 (Nat.le_of_ble_eq_true rfl) (Nat.le_of_ble_eq_true rfl) ?_
  refine W.eq (g2 := F0 m 4 ls []) rfl ?_
  refine lv_aload_n hx hb dX9_init_4 rfl (lv_at hl 0 rfl) ?_
  refine lv_aload_n hx hb dX9_init_5 rfl (lv_at hl 1 rfl) ?_
  obtain ⟨v1, hv, hf⟩ := bd hf
  refine h_gI X hK hH fo_Code_0 hv q107 dX9_init_6 ?_
  obtain ⟨t2, hv, hf⟩ := bd hf
  refine h_putF (ty := .int) X hK hH hS fo_X9_0 hv q306 rfl rfl (by decide +kernel) rfl rfl dX9_init_9 (fun H locs hH hS => ?_)
  refine lv_aload_n hx hb dX9_init_12 rfl (lv_at hl 0 rfl) ?_
  refine lv_aload_n hx hb dX9_init_13 rfl (lv_at hl 1 rfl) ?_
  obtain ⟨v3, hv, hf⟩ := bd hf
  refine h_gI X hK hH fo_Code_1 hv q118 dX9_init_14 ?_
  obtain ⟨t4, hv, hf⟩ := bd hf
  refine h_putF (ty := .int) X hK hH hS fo_X9_1 hv q307 rfl rfl (by decide +kernel) rfl rfl dX9_init_17 (fun H locs hH hS => ?_)
  refine lv_aload_n hx hb dX9_init_20 rfl (lv_at hl 0 rfl) ?_
  refine lv_aload_n hx hb dX9_init_21 rfl (lv_at hl 1 rfl) ?_
  obtain ⟨v5, hv, hf⟩ := bd hf
  refine h_gI X hK hH fo_Code_3 hv q133 dX9_init_22 ?_
  obtain ⟨t6, hv, hf⟩ := bd hf
  refine h_newI2 (B := 12) X hK hH hS hv (by decide) q285 (Nat.le_of_ble_eq_true rfl) (Nat.le_of_ble_eq_true rfl) dX9_init_25 (fun H hH hS => ?_)
  refine W.cs (cells' := 1) (slots' := 12) (by rfl) (by rfl) ?_
  obtain ⟨t7, hv, hf⟩ := bd hf
  refine h_putF (ty := (.array (.array .int))) X hK hH hS fo_X9_2 hv q308 rfl rfl (by decide +kernel) rfl rfl dX9_init_28 (fun H locs hH hS => ?_)
  refine lv_aload_n hx hb dX9_init_31 rfl (lv_at hl 0 rfl) ?_
  refine lv_aload_n hx hb dX9_init_32 rfl (lv_at hl 1 rfl) ?_
  obtain ⟨v8, hv, hf⟩ := bd hf
  refine h_gI X hK hH fo_Code_3 hv q133 dX9_init_33 ?_
  obtain ⟨t9, hv, hf⟩ := bd hf
  refine h_newa (t := 0) (B := 12) (atype := .int) X hK hH hS (by decide) hv (by decide) q245 (Nat.le_of_ble_eq_true rfl) (Nat.le_of_ble_eq_true rfl) dX9_init_36 (fun H hH hS => ?_)
  refine W.cs (cells' := 2) (slots' := 24) (by rfl) (by rfl) ?_
  obtain ⟨t10, hv, hf⟩ := bd hf
  refine h_putF (ty := (.array .int)) X hK hH hS fo_X9_3 hv q309 rfl rfl (by decide +kernel) rfl rfl dX9_init_38 (fun H locs hH hS => ?_)
  refine lv_iconst (v := (0 : Int32)) hx hb dX9_init_41 (by decide) ?_
  refine lv_istore_n (lv' := [(2, .int (0 : Int32)), (0, .ref a0), (1, .ref a1)]) hx hb dX9_init_42 rfl hl (by decide) rfl (fun ls hl => ?_)
  obtain ⟨r43_19, hr, hf⟩ := bd hf
  refine W.widen (k := (0 + 2 + (13 - 13) * 1)) (n := (0 + 24 + (13 - 13) * 12)) (by omega) (by omega) ?_
  refine L43 a0 a1 13 _ r43_19 hr ?_ (Nat.le_refl _) _ _ _ (lv_sub hl [1, 2, 0] rfl) hH hS
  intro ls H locs hl hH hS
  refine lv_iconst (v := (0 : Int32)) hx hb dX9_init_80 (by decide) ?_
  refine lv_istore_n (lv' := [(2, .int (0 : Int32)), (0, .ref a0)]) hx hb dX9_init_81 rfl hl (by decide) rfl (fun ls hl => ?_)
  obtain ⟨r82_22, hr, hf⟩ := bd hf
  refine L82 a0 N _ r82_22 hr ?_ _ _ _ (lv_sub hl [1, 0] rfl) hH hS
  intro ls H locs hl hH hS
  cases hf
  exact r_vret X dX9_init_101 (Nat.le_of_ble_eq_true rfl) (Nat.le_of_ble_eq_true rfl) rfl hH hS
theorem cs_X1_wordOf : CalS yX1_wordOf cX1_wordOf 8 (some .long) 2 := ⟨q250, q48, q251, by decide +kernel, by decide +kernel, by decide +kernel⟩
set_option maxHeartbeats 4000000 in
theorem met_X1_wordOf (l : Launch) (G : GG) (σ : SG) (N : Nat) (a0 : Int32) (a1 : Nat) (rf : Int64) (hf : f_X1_wordOf N σ a0 a1 = some rf) : Con l yX1_wordOf cX1_wordOf 8 (some .long) 0 0 0 G σ [.int a0, .ref a1] σ (some (.long rf)) := by
  refine con_of (by decide) (Nat.le_of_ble_eq_true rfl) ?_
  intro p e s m below meth c ls X hK hH hl hS
  have hx := X.1
  have hb := X.2.1
  have hml := X.2.2.2.1
  have hown : s.vm.findClass RX1 = some m.cls := X.2.2.2.2.1
  have hts := X.2.2.2.2.2.1
  have hl : lv_has ls 8 [(0, .int a0), (1, .ref a1)] := hl
  unfold f_X1_wordOf at hf
  have L13 : ∀ (c0 : Int32) (c4 : Nat) (c5 : Int32) (n : Nat) (s13 : (Int64 × Int32)) (r13 : Int64), lp (f_X1_wordOf_b13 N c0 c4 c5 σ) n s13 = some r13 → (∀ (ls : Array Slot) (H : Heap) (locs : List Loc), lv_has ls 8 [(2, .long r13)] → HH G σ H → va_S (AG G) s.heap H locs → W p l e (rm_ 0 0 0) s m ([.int a0, .ref a1] : List Value).toArray below meth c H locs 0 0 (MQ below (PostC G σ (some (.long rf))) ([.int a0, .ref a1] : List Value).toArray s 0 0 (AG G)) (F0 m 42 ls [])) → ∀ (ls : Array Slot) (H : Heap) (locs : List Loc), lv_has ls 8 [(0, .int c0), (2, .long s13.1), (4, .ref c4), (5, .int c5), (6, .int s13.2)] → HH G σ H → va_S (AG G) s.heap H locs → W p l e (rm_ 0 0 0) s m ([.int a0, .ref a1] : List Value).toArray below meth c H locs 0 0 (MQ below (PostC G σ (some (.long rf))) ([.int a0, .ref a1] : List Value).toArray s 0 0 (AG G)) (F0 m 13 ls []) := by
    intro c0 c4 c5 n s13 r13 hr hq
    refine lp_ind (P := fun s13 => ∀ (ls : Array Slot) (H : Heap) (locs : List Loc), lv_has ls 8 [(0, .int c0), (2, .long s13.1), (4, .ref c4), (5, .int c5), (6, .int s13.2)] → HH G σ H → va_S (AG G) s.heap H locs → W p l e (rm_ 0 0 0) s m ([.int a0, .ref a1] : List Value).toArray below meth c H locs 0 0 (MQ below (PostC G σ (some (.long rf))) ([.int a0, .ref a1] : List Value).toArray s 0 0 (AG G)) (F0 m 13 ls [])) (Q := fun r13 => ∀ (ls : Array Slot) (H : Heap) (locs : List Loc), lv_has ls 8 [(2, .long r13)] → HH G σ H → va_S (AG G) s.heap H locs → W p l e (rm_ 0 0 0) s m ([.int a0, .ref a1] : List Value).toArray below meth c H locs 0 0 (MQ below (PostC G σ (some (.long rf))) ([.int a0, .ref a1] : List Value).toArray s 0 0 (AG G)) (F0 m 42 ls [])) ?_ n s13 r13 hr hq
    intro s13 x13 hf hx13 ls H locs hl hH hS
    unfold f_X1_wordOf_b13 at hf
    refine lv_iload hx hb dX1_wordOf_13 (lv_at hl 4 rfl) ?_
    refine lv_iload hx hb dX1_wordOf_15 (lv_at hl 3 rfl) ?_
    refine lv_icmp_ge (tgt := 42) hx hb dX1_wordOf_17 (by decide) (fun c_ => ?_) (fun c_ => ?_)
    · have hf := (if_pos c_).symm.trans hf
      cases hf
      exact hx13 _ _ _ (lv_sub hl [1] rfl) hH hS
    · have hf := (if_neg c_).symm.trans hf
      refine lv_aload hx hb dX1_wordOf_20 (lv_at hl 2 rfl) ?_
      refine lv_iload hx hb dX1_wordOf_22 (lv_at hl 4 rfl) ?_
      obtain ⟨v2, hv, hf⟩ := bd hf
      refine h_aI X hK hH hv dX1_wordOf_24 ?_
      refine lv_istore (lv' := [(7, .int v2), (0, .int c0), (2, .long s13.1), (4, .ref c4), (5, .int c5), (6, .int s13.2)]) hx hb dX1_wordOf_25 hl (by decide) rfl (fun ls hl => ?_)
      refine lv_lload_n hx hb dX1_wordOf_27 rfl (lv_at hl 2 rfl) ?_
      refine lv_iload_n hx hb dX1_wordOf_28 rfl (lv_at hl 1 rfl) ?_
      refine lv_i2l (v := (c0).toInt64) hx hb dX1_wordOf_29 rfl ?_
      refine lv_lmul hx hb dX1_wordOf_30 ?_
      refine lv_iload hx hb dX1_wordOf_31 (lv_at hl 0 rfl) ?_
      refine lv_i2l (v := (v2).toInt64) hx hb dX1_wordOf_33 rfl ?_
      refine lv_ladd hx hb dX1_wordOf_34 ?_
      refine lv_lstore_n (lv' := [(2, .long ((s13.1 * ((c0).toInt64)) + ((v2).toInt64))), (7, .int v2), (0, .int c0), (4, .ref c4), (5, .int c5), (6, .int s13.2)]) hx hb dX1_wordOf_35 rfl hl (by decide) rfl (fun ls hl => ?_)
      refine lv_iinc (v := (s13.2 + 1)) (lv' := [(6, .int (s13.2 + 1)), (2, .long ((s13.1 * ((c0).toInt64)) + ((v2).toInt64))), (7, .int v2), (0, .int c0), (4, .ref c4), (5, .int c5)]) hx hb dX1_wordOf_36 hl (k := 5) rfl rfl (by decide) rfl (fun ls hl => ?_)
      refine lv_goto (tgt := 13) hx hb dX1_wordOf_39 (by decide) ?_
      cases hf
      exact hx13 _ _ _ (lv_sub hl [3, 1, 4, 5, 0] rfl) hH hS
  refine lv_lconst (v := (0 : Int64)) hx hb dX1_wordOf_0 (by decide) ?_
  refine lv_lstore_n (lv' := [(2, .long (0 : Int64)), (0, .int a0), (1, .ref a1)]) hx hb dX1_wordOf_1 rfl hl (by decide) rfl (fun ls hl => ?_)
  refine lv_aload_n hx hb dX1_wordOf_2 rfl (lv_at hl 2 rfl) ?_
  refine lv_astore (lv' := [(4, .ref a1), (2, .long (0 : Int64)), (0, .int a0), (1, .ref a1)]) hx hb dX1_wordOf_3 hl (by decide) rfl (fun ls hl => ?_)
  refine lv_aload hx hb dX1_wordOf_5 (lv_at hl 0 rfl) ?_
  obtain ⟨v1, hv, hf⟩ := bd hf
  refine h_aN X hK hH hv dX1_wordOf_7 ?_
  refine lv_istore (lv' := [(5, .int v1), (4, .ref a1), (2, .long (0 : Int64)), (0, .int a0), (1, .ref a1)]) hx hb dX1_wordOf_8 hl (by decide) rfl (fun ls hl => ?_)
  refine lv_iconst (v := (0 : Int32)) hx hb dX1_wordOf_10 (by decide) ?_
  refine lv_istore (lv' := [(6, .int (0 : Int32)), (5, .int v1), (4, .ref a1), (2, .long (0 : Int64)), (0, .int a0), (1, .ref a1)]) hx hb dX1_wordOf_11 hl (by decide) rfl (fun ls hl => ?_)
  obtain ⟨r13_3, hr, hf⟩ := bd hf
  refine L13 a0 a1 v1 N _ r13_3 hr ?_ _ _ _ (lv_sub hl [4, 3, 2, 1, 0] rfl) hH hS
  intro ls H locs hl hH hS
  refine lv_lload_n hx hb dX1_wordOf_42 rfl (lv_at hl 0 rfl) ?_
  cases hf
  exact r_lret X dX1_wordOf_43 (Nat.le_of_ble_eq_true rfl) (Nat.le_of_ble_eq_true rfl) rfl hH hS
theorem cv_X9_row : CalV "WordBench$Form" yX9_row cX9_row 2 (some .long) 1 := ⟨q355, q356, q63, q357, by decide +kernel⟩
set_option maxHeartbeats 4000000 in
theorem met_X9_row (l : Launch) (G : GG) (σ : SG) (N : Nat) (a0 : Nat) (a1 : Int32) (rf : Int64) (hf : f_X9_row N σ a0 a1 = some rf) : Con l yX9_row cX9_row 2 (some .long) 1 0 0 G σ [.ref a0, .int a1] σ (some (.long rf)) := by
  refine con_of (by decide) (Nat.le_of_ble_eq_true rfl) ?_
  intro p e s m below meth c ls X hK hH hl hS
  have hx := X.1
  have hb := X.2.1
  have hml := X.2.2.2.1
  have hown : s.vm.findClass RX9 = some m.cls := X.2.2.2.2.1
  have hts := X.2.2.2.2.2.1
  have hl : lv_has ls 2 [(0, .ref a0), (1, .int a1)] := hl
  unfold f_X9_row at hf
  refine lv_aload_n hx hb dX9_row_0 rfl (lv_at hl 0 rfl) ?_
  obtain ⟨v1, hv, hf⟩ := bd hf
  refine h_gI X hK hH fo_X9_0 hv q306 dX9_row_1 ?_
  refine lv_aload_n hx hb dX9_row_4 rfl (lv_at hl 0 rfl) ?_
  obtain ⟨v2, hv, hf⟩ := bd hf
  refine h_gR X hK hH fo_X9_2 hv q308 dX9_row_5 ?_
  refine lv_iload_n hx hb dX9_row_8 rfl (lv_at hl 1 rfl) ?_
  obtain ⟨v3, hv, hf⟩ := bd hf
  refine h_aQ (by decide) X hK hH hv dX9_row_9 ?_
  obtain ⟨b4, hq, hz⟩ := bd hf
  clear hf
  subst hq
  have hf := hz
  clear hz
  obtain ⟨v5, hv, hf⟩ := bd hf
  refine c_SN (host := "WordBench") (As := [.int v1, .ref b4]) (rest := []) (st1 := [.long v5]) X (met_X1_wordOf l G σ N v1 b4 v5 hv) cs_X1_wordOf q358 rfl rfl rfl hl.1 (Nat.le_of_ble_eq_true rfl) ⟨Nat.le_of_ble_eq_true rfl, Nat.le_of_ble_eq_true rfl⟩ ⟨Nat.le_of_ble_eq_true rfl, Nat.le_of_ble_eq_true rfl⟩ dX9_row_10 hK hH hS (fun H locs hH hS => ?_)
  refine W.cs (cells' := 0) (slots' := 0) (by rfl) (by rfl) ?_
  cases hf
  exact r_lret X dX9_row_13 (Nat.le_of_ble_eq_true rfl) (Nat.le_of_ble_eq_true rfl) rfl hH hS
theorem cs_X1_sumOf : CalS yX1_sumOf cX1_sumOf 16 (some .long) 5 := ⟨q363, q48, q364, by decide +kernel, by decide +kernel, by decide +kernel⟩
set_option maxHeartbeats 4000000 in
theorem met_X1_sumOf (l : Launch) (G : GG) (σ : SG) (N : Nat) (a0 : Int32) (a1 : Int32) (a2 : Int64) (a4 : Int64) (a6 : Int32) (rf : Int64) (hf : f_X1_sumOf N a0 a1 a2 a4 a6 = some rf) : Con l yX1_sumOf cX1_sumOf 16 (some .long) 1 0 0 G σ [.int a0, .int a1, .long a2, .long a4, .int a6] σ (some (.long rf)) := by
  refine con_of (by decide) (Nat.le_of_ble_eq_true rfl) ?_
  intro p e s m below meth c ls X hK hH hl hS
  have hx := X.1
  have hb := X.2.1
  have hml := X.2.2.2.1
  have hown : s.vm.findClass RX1 = some m.cls := X.2.2.2.2.1
  have hts := X.2.2.2.2.2.1
  have hl : lv_has ls 16 [(0, .int a0), (1, .int a1), (2, .long a2), (4, .long a4), (6, .int a6)] := hl
  unfold f_X1_sumOf at hf
  have L16 : ∀ (c0 : Int32) (c1 : Int32) (c6 : Int32) (n : Nat) (s16 : (Int64 × Int64 × Int64 × Int64 × Int32)) (r16 : Int64), lp (f_X1_sumOf_b16 N c0 c1 c6) n s16 = some r16 → (∀ (ls : Array Slot) (H : Heap) (locs : List Loc), lv_has ls 16 [(11, .long r16)] → HH G σ H → va_S (AG G) s.heap H locs → W p l e (rm_ 1 0 0) s m ([.int a0, .int a1, .long a2, .long a4, .int a6] : List Value).toArray below meth c H locs 0 0 (MQ below (PostC G σ (some (.long rf))) ([.int a0, .int a1, .long a2, .long a4, .int a6] : List Value).toArray s 0 0 (AG G)) (F0 m 80 ls [])) → ∀ (ls : Array Slot) (H : Heap) (locs : List Loc), lv_has ls 16 [(0, .int c0), (1, .int c1), (6, .int c6), (7, .long s16.1), (9, .long s16.2.1), (11, .long s16.2.2.1), (13, .long s16.2.2.2.1), (15, .int s16.2.2.2.2)] → HH G σ H → va_S (AG G) s.heap H locs → W p l e (rm_ 1 0 0) s m ([.int a0, .int a1, .long a2, .long a4, .int a6] : List Value).toArray below meth c H locs 0 0 (MQ below (PostC G σ (some (.long rf))) ([.int a0, .int a1, .long a2, .long a4, .int a6] : List Value).toArray s 0 0 (AG G)) (F0 m 16 ls []) := by
    intro c0 c1 c6 n s16 r16 hr hq
    refine lp_ind (P := fun s16 => ∀ (ls : Array Slot) (H : Heap) (locs : List Loc), lv_has ls 16 [(0, .int c0), (1, .int c1), (6, .int c6), (7, .long s16.1), (9, .long s16.2.1), (11, .long s16.2.2.1), (13, .long s16.2.2.2.1), (15, .int s16.2.2.2.2)] → HH G σ H → va_S (AG G) s.heap H locs → W p l e (rm_ 1 0 0) s m ([.int a0, .int a1, .long a2, .long a4, .int a6] : List Value).toArray below meth c H locs 0 0 (MQ below (PostC G σ (some (.long rf))) ([.int a0, .int a1, .long a2, .long a4, .int a6] : List Value).toArray s 0 0 (AG G)) (F0 m 16 ls [])) (Q := fun r16 => ∀ (ls : Array Slot) (H : Heap) (locs : List Loc), lv_has ls 16 [(11, .long r16)] → HH G σ H → va_S (AG G) s.heap H locs → W p l e (rm_ 1 0 0) s m ([.int a0, .int a1, .long a2, .long a4, .int a6] : List Value).toArray below meth c H locs 0 0 (MQ below (PostC G σ (some (.long rf))) ([.int a0, .int a1, .long a2, .long a4, .int a6] : List Value).toArray s 0 0 (AG G)) (F0 m 80 ls [])) ?_ n s16 r16 hr hq
    intro s16 x16 hf hx16 ls H locs hl hH hS
    unfold f_X1_sumOf_b16 at hf
    refine lv_iload hx hb dX1_sumOf_16 (lv_at hl 7 rfl) ?_
    refine lv_iload_n hx hb dX1_sumOf_18 rfl (lv_at hl 1 rfl) ?_
    refine lv_icmp_ge (tgt := 80) hx hb dX1_sumOf_19 (by decide) (fun c_ => ?_) (fun c_ => ?_)
    · have hf := (if_pos c_).symm.trans hf
      cases hf
      exact hx16 _ _ _ (lv_sub hl [5] rfl) hH hS
    · have hf := (if_neg c_).symm.trans hf
      refine lv_lload hx hb dX1_sumOf_22 (lv_at hl 5 rfl) ?_
      refine lv_lload hx hb dX1_sumOf_24 (lv_at hl 6 rfl) ?_
      refine lv_iload_n hx hb dX1_sumOf_26 rfl (lv_at hl 0 rfl) ?_
      refine lv_lload hx hb dX1_sumOf_27 (lv_at hl 3 rfl) ?_
      refine lv_iload_n hx hb dX1_sumOf_29 rfl (lv_at hl 0 rfl) ?_
      refine lv_i2l (v := (c0).toInt64) hx hb dX1_sumOf_30 rfl ?_
      obtain ⟨v1, hv, hf⟩ := bd hf
      refine r_lrem hx hb hv dX1_sumOf_31 ?_
      refine lv_l2i (v := (v1).toInt32) hx hb dX1_sumOf_32 rfl ?_
      refine lv_iload_n hx hb dX1_sumOf_33 rfl (lv_at hl 0 rfl) ?_
      refine lv_iload hx hb dX1_sumOf_34 (lv_at hl 2 rfl) ?_
      refine lv_lload hx hb dX1_sumOf_36 (lv_at hl 4 rfl) ?_
      refine lv_iload_n hx hb dX1_sumOf_38 rfl (lv_at hl 0 rfl) ?_
      refine lv_i2l (v := (c0).toInt64) hx hb dX1_sumOf_39 rfl ?_
      obtain ⟨v2, hv, hf⟩ := bd hf
      refine r_lrem hx hb hv dX1_sumOf_40 ?_
      refine lv_l2i (v := (v2).toInt32) hx hb dX1_sumOf_41 rfl ?_
      obtain ⟨v3, hv, hf⟩ := bd hf
      refine c_S (As := [.int c0, .int c6, .int ((v2).toInt32)]) (rest := [.int ((v1).toInt32), .int c0, .long s16.2.2.2.1, .long s16.2.2.1]) (st1 := [.int v3, .int ((v1).toInt32), .int c0, .long s16.2.2.2.1, .long s16.2.2.1]) X (met_X1_times l G _ N c0 c6 ((v2).toInt32) v3 hv) cs_X1_times q212 rfl rfl rfl hl.1 (Nat.le_of_ble_eq_true rfl) ⟨Nat.le_of_ble_eq_true rfl, Nat.le_of_ble_eq_true rfl⟩ ⟨Nat.le_of_ble_eq_true rfl, Nat.le_of_ble_eq_true rfl⟩ dX1_sumOf_42 hK hH hS (fun H locs hH hS => ?_)
      refine W.cs (cells' := 0) (slots' := 0) (by rfl) (by rfl) ?_
      obtain ⟨v4, hv, hf⟩ := bd hf
      refine c_S (As := [.int c0, .int ((v1).toInt32), .int v3]) (rest := [.long s16.2.2.2.1, .long s16.2.2.1]) (st1 := [.int v4, .long s16.2.2.2.1, .long s16.2.2.1]) X (met_X1_added l G _ N c0 ((v1).toInt32) v3 v4 hv) cs_X1_added q215 rfl rfl rfl hl.1 (Nat.le_of_ble_eq_true rfl) ⟨Nat.le_of_ble_eq_true rfl, Nat.le_of_ble_eq_true rfl⟩ ⟨Nat.le_of_ble_eq_true rfl, Nat.le_of_ble_eq_true rfl⟩ dX1_sumOf_45 hK hH hS (fun H locs hH hS => ?_)
      refine W.cs (cells' := 0) (slots' := 0) (by rfl) (by rfl) ?_
      refine lv_i2l (v := (v4).toInt64) hx hb dX1_sumOf_48 rfl ?_
      refine lv_lmul hx hb dX1_sumOf_49 ?_
      refine lv_ladd hx hb dX1_sumOf_50 ?_
      refine lv_lstore (lv' := [(11, .long (s16.2.2.1 + (s16.2.2.2.1 * ((v4).toInt64)))), (0, .int c0), (1, .int c1), (6, .int c6), (7, .long s16.1), (9, .long s16.2.1), (13, .long s16.2.2.2.1), (15, .int s16.2.2.2.2)]) hx hb dX1_sumOf_51 hl (by decide) rfl (fun ls hl => ?_)
      refine lv_lload hx hb dX1_sumOf_53 (lv_at hl 6 rfl) ?_
      refine lv_iload_n hx hb dX1_sumOf_55 rfl (lv_at hl 1 rfl) ?_
      refine lv_i2l (v := (c0).toInt64) hx hb dX1_sumOf_56 rfl ?_
      refine lv_lmul hx hb dX1_sumOf_57 ?_
      refine lv_lstore (lv' := [(13, .long (s16.2.2.2.1 * ((c0).toInt64))), (11, .long (s16.2.2.1 + (s16.2.2.2.1 * ((v4).toInt64)))), (0, .int c0), (1, .int c1), (6, .int c6), (7, .long s16.1), (9, .long s16.2.1), (15, .int s16.2.2.2.2)]) hx hb dX1_sumOf_58 hl (by decide) rfl (fun ls hl => ?_)
      refine lv_lload hx hb dX1_sumOf_60 (lv_at hl 5 rfl) ?_
      refine lv_iload_n hx hb dX1_sumOf_62 rfl (lv_at hl 2 rfl) ?_
      refine lv_i2l (v := (c0).toInt64) hx hb dX1_sumOf_63 rfl ?_
      obtain ⟨v5, hv, hf⟩ := bd hf
      refine r_ldiv hx hb hv dX1_sumOf_64 ?_
      refine lv_lstore (lv' := [(7, .long v5), (13, .long (s16.2.2.2.1 * ((c0).toInt64))), (11, .long (s16.2.2.1 + (s16.2.2.2.1 * ((v4).toInt64)))), (0, .int c0), (1, .int c1), (6, .int c6), (9, .long s16.2.1), (15, .int s16.2.2.2.2)]) hx hb dX1_sumOf_65 hl (by decide) rfl (fun ls hl => ?_)
      refine lv_lload hx hb dX1_sumOf_67 (lv_at hl 6 rfl) ?_
      refine lv_iload_n hx hb dX1_sumOf_69 rfl (lv_at hl 3 rfl) ?_
      refine lv_i2l (v := (c0).toInt64) hx hb dX1_sumOf_70 rfl ?_
      obtain ⟨v6, hv, hf⟩ := bd hf
      refine r_ldiv hx hb hv dX1_sumOf_71 ?_
      refine lv_lstore (lv' := [(9, .long v6), (7, .long v5), (13, .long (s16.2.2.2.1 * ((c0).toInt64))), (11, .long (s16.2.2.1 + (s16.2.2.2.1 * ((v4).toInt64)))), (0, .int c0), (1, .int c1), (6, .int c6), (15, .int s16.2.2.2.2)]) hx hb dX1_sumOf_72 hl (by decide) rfl (fun ls hl => ?_)
      refine lv_iinc (v := (s16.2.2.2.2 + 1)) (lv' := [(15, .int (s16.2.2.2.2 + 1)), (9, .long v6), (7, .long v5), (13, .long (s16.2.2.2.1 * ((c0).toInt64))), (11, .long (s16.2.2.1 + (s16.2.2.2.1 * ((v4).toInt64)))), (0, .int c0), (1, .int c1), (6, .int c6)]) hx hb dX1_sumOf_74 hl (k := 7) rfl rfl (by decide) rfl (fun ls hl => ?_)
      refine lv_goto (tgt := 16) hx hb dX1_sumOf_77 (by decide) ?_
      cases hf
      exact hx16 _ _ _ (lv_sub hl [5, 6, 7, 2, 1, 4, 3, 0] rfl) hH hS
  refine lv_lload_n hx hb dX1_sumOf_0 rfl (lv_at hl 2 rfl) ?_
  refine lv_lstore (lv' := [(7, .long a2), (0, .int a0), (1, .int a1), (2, .long a2), (4, .long a4), (6, .int a6)]) hx hb dX1_sumOf_1 hl (by decide) rfl (fun ls hl => ?_)
  refine lv_lload hx hb dX1_sumOf_3 (lv_at hl 4 rfl) ?_
  refine lv_lstore (lv' := [(9, .long a4), (7, .long a2), (0, .int a0), (1, .int a1), (2, .long a2), (4, .long a4), (6, .int a6)]) hx hb dX1_sumOf_5 hl (by decide) rfl (fun ls hl => ?_)
  refine lv_lconst (v := (0 : Int64)) hx hb dX1_sumOf_7 (by decide) ?_
  refine lv_lstore (lv' := [(11, .long (0 : Int64)), (9, .long a4), (7, .long a2), (0, .int a0), (1, .int a1), (2, .long a2), (4, .long a4), (6, .int a6)]) hx hb dX1_sumOf_8 hl (by decide) rfl (fun ls hl => ?_)
  refine lv_lconst (v := (1 : Int64)) hx hb dX1_sumOf_10 (by decide) ?_
  refine lv_lstore (lv' := [(13, .long (1 : Int64)), (11, .long (0 : Int64)), (9, .long a4), (7, .long a2), (0, .int a0), (1, .int a1), (2, .long a2), (4, .long a4), (6, .int a6)]) hx hb dX1_sumOf_11 hl (by decide) rfl (fun ls hl => ?_)
  refine lv_iconst (v := (0 : Int32)) hx hb dX1_sumOf_13 (by decide) ?_
  refine lv_istore (lv' := [(15, .int (0 : Int32)), (13, .long (1 : Int64)), (11, .long (0 : Int64)), (9, .long a4), (7, .long a2), (0, .int a0), (1, .int a1), (2, .long a2), (4, .long a4), (6, .int a6)]) hx hb dX1_sumOf_14 hl (by decide) rfl (fun ls hl => ?_)
  obtain ⟨r16_7, hr, hf⟩ := bd hf
  refine L16 a0 a1 a6 N _ r16_7 hr ?_ _ _ _ (lv_sub hl [5, 6, 9, 4, 3, 2, 1, 0] rfl) hH hS
  intro ls H locs hl hH hS
  refine lv_lload hx hb dX1_sumOf_80 (lv_at hl 0 rfl) ?_
  cases hf
  exact r_lret X dX1_sumOf_82 (Nat.le_of_ble_eq_true rfl) (Nat.le_of_ble_eq_true rfl) rfl hH hS
theorem cv_X1_lays : CalV "WordBench" yX1_lays cX1_lays 8 (some .boolean) 1 := ⟨q425, qs6, q48, q426, by decide +kernel⟩
set_option maxHeartbeats 4000000 in
theorem met_X1_lays (l : Launch) (G : GG) (σ : SG) (N : Nat) (a0 : Nat) (a1 : Nat) (σf : SG) (rf : Int32) (hf : f_X1_lays N σ a0 a1 = some (σf, rf)) : Con l yX1_lays cX1_lays 8 (some .boolean) 4 16 185 G σ [.ref a0, .ref a1] σf (some (.int rf)) := by
  refine con_of (by decide) (Nat.le_of_ble_eq_true rfl) ?_
  intro p e s m below meth c ls X hK hH hl hS
  have hx := X.1
  have hb := X.2.1
  have hml := X.2.2.2.1
  have hown : s.vm.findClass RX1 = some m.cls := X.2.2.2.2.1
  have hts := X.2.2.2.2.2.1
  have hl : lv_has ls 8 [(0, .ref a0), (1, .ref a1)] := hl
  unfold f_X1_lays at hf
  have L81 : ∀ (c0 : Nat) (c1 : Nat) (c2 : Nat) (n : Nat) (s81 : (Int32 × SG)) (r81 : SG), lp (f_X1_lays_b81 N c0 c1 c2) n s81 = some r81 → (∀ (ls : Array Slot) (H : Heap) (locs : List Loc), lv_has ls 8 [] → HH G r81 H → va_S (AG G) s.heap H locs → W p l e (rm_ 4 16 185) s m ([.ref a0, .ref a1] : List Value).toArray below meth c H locs 16 185 (MQ below (PostC G σf (some (.int rf))) ([.ref a0, .ref a1] : List Value).toArray s 16 185 (AG G)) (F0 m 165 ls [])) → ∀ (ls : Array Slot) (H : Heap) (locs : List Loc), lv_has ls 8 [(0, .ref c0), (1, .ref c1), (2, .ref c2), (3, .int s81.1)] → HH G s81.2 H → va_S (AG G) s.heap H locs → W p l e (rm_ 4 16 185) s m ([.ref a0, .ref a1] : List Value).toArray below meth c H locs 16 185 (MQ below (PostC G σf (some (.int rf))) ([.ref a0, .ref a1] : List Value).toArray s 16 185 (AG G)) (F0 m 81 ls []) := by
    intro c0 c1 c2 n s81 r81 hr hq
    refine lp_ind (P := fun s81 => ∀ (ls : Array Slot) (H : Heap) (locs : List Loc), lv_has ls 8 [(0, .ref c0), (1, .ref c1), (2, .ref c2), (3, .int s81.1)] → HH G s81.2 H → va_S (AG G) s.heap H locs → W p l e (rm_ 4 16 185) s m ([.ref a0, .ref a1] : List Value).toArray below meth c H locs 16 185 (MQ below (PostC G σf (some (.int rf))) ([.ref a0, .ref a1] : List Value).toArray s 16 185 (AG G)) (F0 m 81 ls [])) (Q := fun r81 => ∀ (ls : Array Slot) (H : Heap) (locs : List Loc), lv_has ls 8 [] → HH G r81 H → va_S (AG G) s.heap H locs → W p l e (rm_ 4 16 185) s m ([.ref a0, .ref a1] : List Value).toArray below meth c H locs 16 185 (MQ below (PostC G σf (some (.int rf))) ([.ref a0, .ref a1] : List Value).toArray s 16 185 (AG G)) (F0 m 165 ls [])) ?_ n s81 r81 hr hq
    intro s81 x81 hf hx81 ls H locs hl hH hS
    unfold f_X1_lays_b81 at hf
    have L103 : ∀ (c0 : Nat) (c1 : Nat) (c2 : Nat) (c3 : Int32) (t103 : SG) (n : Nat) (s103 : (Int64 × Int32 × Int32)) (r103 : Int64), lp (f_X1_lays_b103 N c0 c1 c2 c3 t103) n s103 = some r103 → (∀ (ls : Array Slot) (H : Heap) (locs : List Loc), lv_has ls 8 [(0, .ref c0), (1, .ref c1), (2, .ref c2), (3, .int c3), (4, .long r103)] → HH G t103 H → va_S (AG G) s.heap H locs → W p l e (rm_ 4 16 185) s m ([.ref a0, .ref a1] : List Value).toArray below meth c H locs 16 185 (MQ below (PostC G σf (some (.int rf))) ([.ref a0, .ref a1] : List Value).toArray s 16 185 (AG G)) (F0 m 151 ls [])) → ∀ (ls : Array Slot) (H : Heap) (locs : List Loc), lv_has ls 8 [(0, .ref c0), (1, .ref c1), (2, .ref c2), (3, .int c3), (4, .long s103.1), (6, .int s103.2.1), (7, .int s103.2.2)] → HH G t103 H → va_S (AG G) s.heap H locs → W p l e (rm_ 4 16 185) s m ([.ref a0, .ref a1] : List Value).toArray below meth c H locs 16 185 (MQ below (PostC G σf (some (.int rf))) ([.ref a0, .ref a1] : List Value).toArray s 16 185 (AG G)) (F0 m 103 ls []) := by
      intro c0 c1 c2 c3 t103 n s103 r103 hr hq
      refine lp_ind (P := fun s103 => ∀ (ls : Array Slot) (H : Heap) (locs : List Loc), lv_has ls 8 [(0, .ref c0), (1, .ref c1), (2, .ref c2), (3, .int c3), (4, .long s103.1), (6, .int s103.2.1), (7, .int s103.2.2)] → HH G t103 H → va_S (AG G) s.heap H locs → W p l e (rm_ 4 16 185) s m ([.ref a0, .ref a1] : List Value).toArray below meth c H locs 16 185 (MQ below (PostC G σf (some (.int rf))) ([.ref a0, .ref a1] : List Value).toArray s 16 185 (AG G)) (F0 m 103 ls [])) (Q := fun r103 => ∀ (ls : Array Slot) (H : Heap) (locs : List Loc), lv_has ls 8 [(0, .ref c0), (1, .ref c1), (2, .ref c2), (3, .int c3), (4, .long r103)] → HH G t103 H → va_S (AG G) s.heap H locs → W p l e (rm_ 4 16 185) s m ([.ref a0, .ref a1] : List Value).toArray below meth c H locs 16 185 (MQ below (PostC G σf (some (.int rf))) ([.ref a0, .ref a1] : List Value).toArray s 16 185 (AG G)) (F0 m 151 ls [])) ?_ n s103 r103 hr hq
      intro s103 x103 hf hx103 ls H locs hl hH hS
      unfold f_X1_lays_b103 at hf
      refine lv_iload hx hb dX1_lays_103 (lv_at hl 6 rfl) ?_
      refine lv_if_lt (tgt := 151) hx hb dX1_lays_105 (by decide) (fun c_ => ?_) (fun c_ => ?_)
      · have hf := (if_pos c_).symm.trans hf
        cases hf
        exact hx103 _ _ _ (lv_sub hl [0, 1, 2, 3, 4] rfl) hH hS
      · have hf := (if_neg c_).symm.trans hf
        refine lv_aload_n hx hb dX1_lays_108 rfl (lv_at hl 1 rfl) ?_
        obtain ⟨v13, hv, hf⟩ := bd hf
        refine h_gI X hK hH fo_Code_0 hv q116 dX1_lays_109 ?_
        refine lv_aload_n hx hb dX1_lays_112 rfl (lv_at hl 1 rfl) ?_
        obtain ⟨v14, hv, hf⟩ := bd hf
        refine h_gI X hK hH fo_Code_1 hv q123 dX1_lays_113 ?_
        refine lv_lload hx hb dX1_lays_116 (lv_at hl 4 rfl) ?_
        refine lv_aload_n hx hb dX1_lays_118 rfl (lv_at hl 2 rfl) ?_
        refine lv_iload hx hb dX1_lays_119 (lv_at hl 6 rfl) ?_
        obtain ⟨_, hw, hf⟩ := bd hf
        obtain ⟨v15, hv, hf⟩ := bd hf
        refine c_V (As := [.int s103.2.2]) (rest := [.long s103.1, .int v14, .int v13]) (st1 := [.long v15, .long s103.1, .int v14, .int v13]) X (met_X9_row l G t103 N c2 s103.2.2 v15 hv) cv_X9_row q391 (recv1 (w := (RX9, TX9, 5)) hw hK hH rfl) rfl rfl rfl hl.1 (Nat.le_of_ble_eq_true rfl) ⟨Nat.le_of_ble_eq_true rfl, Nat.le_of_ble_eq_true rfl⟩ ⟨Nat.le_of_ble_eq_true rfl, Nat.le_of_ble_eq_true rfl⟩ dX1_lays_121 hK hH hS (fun H locs hH hS => ?_)
        refine W.cs (cells' := 16) (slots' := 185) (by rfl) (by rfl) ?_
        refine lv_iload hx hb dX1_lays_124 (lv_at hl 5 rfl) ?_
        refine lv_aload_n hx hb dX1_lays_126 rfl (lv_at hl 1 rfl) ?_
        obtain ⟨v16, hv, hf⟩ := bd hf
        refine h_gI X hK hH fo_Code_0 hv q116 dX1_lays_127 ?_
        obtain ⟨v17, hv, hf⟩ := bd hf
        refine r_irem hx hb hv dX1_lays_130 ?_
        obtain ⟨v18, hv, hf⟩ := bd hf
        refine c_S (As := [.int v13, .int v14, .long s103.1, .long v15, .int v17]) (rest := []) (st1 := [.long v18]) X (met_X1_sumOf l G t103 N v13 v14 s103.1 v15 v17 v18 hv) cs_X1_sumOf q373 rfl rfl rfl hl.1 (Nat.le_of_ble_eq_true rfl) ⟨Nat.le_of_ble_eq_true rfl, Nat.le_of_ble_eq_true rfl⟩ ⟨Nat.le_of_ble_eq_true rfl, Nat.le_of_ble_eq_true rfl⟩ dX1_lays_131 hK hH hS (fun H locs hH hS => ?_)
        refine W.cs (cells' := 16) (slots' := 185) (by rfl) (by rfl) ?_
        refine lv_lstore (lv' := [(4, .long v18), (0, .ref c0), (1, .ref c1), (2, .ref c2), (3, .int c3), (6, .int s103.2.1), (7, .int s103.2.2)]) hx hb dX1_lays_134 hl (by decide) rfl (fun ls hl => ?_)
        refine lv_iload hx hb dX1_lays_136 (lv_at hl 5 rfl) ?_
        refine lv_aload_n hx hb dX1_lays_138 rfl (lv_at hl 2 rfl) ?_
        obtain ⟨v19, hv, hf⟩ := bd hf
        refine h_gI X hK hH fo_Code_0 hv q116 dX1_lays_139 ?_
        obtain ⟨v20, hv, hf⟩ := bd hf
        refine r_idiv hx hb hv dX1_lays_142 ?_
        refine lv_istore (lv' := [(6, .int v20), (4, .long v18), (0, .ref c0), (1, .ref c1), (2, .ref c2), (3, .int c3), (7, .int s103.2.2)]) hx hb dX1_lays_143 hl (by decide) rfl (fun ls hl => ?_)
        refine lv_iinc (v := (s103.2.2 + (-1))) (lv' := [(7, .int (s103.2.2 + (-1))), (6, .int v20), (4, .long v18), (0, .ref c0), (1, .ref c1), (2, .ref c2), (3, .int c3)]) hx hb dX1_lays_145 hl (k := 6) rfl rfl (by decide) rfl (fun ls hl => ?_)
        refine lv_goto (tgt := 103) hx hb dX1_lays_148 (by decide) ?_
        cases hf
        exact hx103 _ _ _ (lv_sub hl [3, 4, 5, 6, 2, 1, 0] rfl) hH hS
    refine lv_iload_n hx hb dX1_lays_81 rfl (lv_at hl 3 rfl) ?_
    refine lv_aload_n hx hb dX1_lays_82 rfl (lv_at hl 0 rfl) ?_
    obtain ⟨v11, hv, hf⟩ := bd hf
    refine h_gI X hK hH fo_X1_2 hv q651 dX1_lays_83 ?_
    refine lv_icmp_ge (tgt := 165) hx hb dX1_lays_86 (by decide) (fun c_ => ?_) (fun c_ => ?_)
    · have hf := (if_pos c_).symm.trans hf
      cases hf
      exact hx81 _ _ _ (lv_sub hl [] rfl) hH hS
    · have hf := (if_neg c_).symm.trans hf
      refine lv_lconst (v := (0 : Int64)) hx hb dX1_lays_89 (by decide) ?_
      refine lv_lstore (lv' := [(4, .long (0 : Int64)), (0, .ref c0), (1, .ref c1), (2, .ref c2), (3, .int s81.1)]) hx hb dX1_lays_90 hl (by decide) rfl (fun ls hl => ?_)
      refine lv_iload_n hx hb dX1_lays_92 rfl (lv_at hl 4 rfl) ?_
      refine lv_istore (lv' := [(6, .int s81.1), (4, .long (0 : Int64)), (0, .ref c0), (1, .ref c1), (2, .ref c2), (3, .int s81.1)]) hx hb dX1_lays_93 hl (by decide) rfl (fun ls hl => ?_)
      refine lv_aload_n hx hb dX1_lays_95 rfl (lv_at hl 4 rfl) ?_
      obtain ⟨v12, hv, hf⟩ := bd hf
      refine h_gI X hK hH fo_X9_4 hv q312 dX1_lays_96 ?_
      refine lv_iconst (v := (1 : Int32)) hx hb dX1_lays_99 (by decide) ?_
      refine lv_isub hx hb dX1_lays_100 ?_
      refine lv_istore (lv' := [(7, .int (v12 - (1 : Int32))), (6, .int s81.1), (4, .long (0 : Int64)), (0, .ref c0), (1, .ref c1), (2, .ref c2), (3, .int s81.1)]) hx hb dX1_lays_101 hl (by decide) rfl (fun ls hl => ?_)
      obtain ⟨r103_21, hr, hf⟩ := bd hf
      refine L103 c0 c1 c2 s81.1 s81.2 N _ r103_21 hr ?_ _ _ _ (lv_sub hl [3, 4, 5, 6, 2, 1, 0] rfl) hH hS
      intro ls H locs hl hH hS
      refine lv_aload_n hx hb dX1_lays_151 rfl (lv_at hl 0 rfl) ?_
      obtain ⟨v22, hv, hf⟩ := bd hf
      refine h_gR X hK hH fo_X1_1 hv q650 dX1_lays_152 ?_
      refine lv_iload_n hx hb dX1_lays_155 rfl (lv_at hl 3 rfl) ?_
      refine lv_lload hx hb dX1_lays_156 (lv_at hl 4 rfl) ?_
      obtain ⟨t23, hv, hf⟩ := bd hf
      refine h_wL X hK hH hS hv dX1_lays_158 (fun H locs hH hS => ?_)
      refine lv_iinc (v := (s81.1 + 1)) (lv' := [(3, .int (s81.1 + 1)), (0, .ref c0), (1, .ref c1), (2, .ref c2), (4, .long r103_21)]) hx hb dX1_lays_159 hl (k := 3) rfl rfl (by decide) rfl (fun ls hl => ?_)
      refine lv_goto (tgt := 81) hx hb dX1_lays_162 (by decide) ?_
      cases hf
      exact hx81 _ _ _ (lv_sub hl [1, 2, 3, 0] rfl) hH hS
  refine lv_aload_n hx hb dX1_lays_0 rfl (lv_at hl 1 rfl) ?_
  obtain ⟨v1, hv, hf⟩ := bd hf
  refine h_inst (w := (some a1)) X hK hH ca_Line nc_Line hv q152 dX1_lays_1 ?_
  refine lv_if_ne (tgt := 34) hx hb dX1_lays_4 (by decide) (fun c_ => ?_) (fun c_ => ?_)
  · have hf := (if_neg c_).symm.trans hf
    obtain ⟨t2, hv, hf⟩ := bd hf
    refine h_new (ci := 7) (fs := [.int 0, .int 0, .null, .null, .int 0]) X hK hH hS tyX9 tyX9_ok in_X9 rfl q279 q280 q63 df_X9 (Nat.le_of_ble_eq_true rfl) (Nat.le_of_ble_eq_true rfl) dX1_lays_34 (fun H hH hS => ?_)
    rw [Option.some.inj hv] at hH
    refine W.cs (cells' := 1) (slots' := 5) (by rfl) (by rfl) ?_
    refine lv_dup hx hb dX1_lays_37 rfl ?_
    refine lv_aload_n hx hb dX1_lays_38 rfl (lv_at hl 1 rfl) ?_
    obtain ⟨v3, hv, hf⟩ := bd hf
    refine r_I (As := [.ref a1]) (rest := [.ref ((σ).1)]) X (met_X9_init l G t2 N ((σ).1) a1 v3 hv) ci_X9_init q281 rfl rfl hl.1 (Nat.le_of_ble_eq_true rfl) ⟨Nat.le_of_ble_eq_true rfl, Nat.le_of_ble_eq_true rfl⟩ ⟨Nat.le_of_ble_eq_true rfl, Nat.le_of_ble_eq_true rfl⟩ dX1_lays_39 hK hH hS (fun H locs hH hS => ?_)
    refine W.cs (cells' := 16) (slots' := 185) (by rfl) (by rfl) ?_
    refine lv_astore_n (lv' := [(2, .ref ((σ).1)), (0, .ref a0), (1, .ref a1)]) hx hb dX1_lays_42 rfl hl (by decide) rfl (fun ls hl => ?_)
    refine lv_aload_n hx hb dX1_lays_43 rfl (lv_at hl 2 rfl) ?_
    obtain ⟨v4, hv, hf⟩ := bd hf
    refine h_gI X hK hH fo_Code_0 hv q116 dX1_lays_44 ?_
    refine lv_aload_n hx hb dX1_lays_47 rfl (lv_at hl 0 rfl) ?_
    obtain ⟨v5, hv, hf⟩ := bd hf
    refine h_gI X hK hH fo_X9_4 hv q312 dX1_lays_48 ?_
    obtain ⟨v6, hv, hf⟩ := bd hf
    refine c_S (As := [.int v4, .int v5]) (rest := []) (st1 := [.long v6]) X (met_X1_power l G v3 N v4 v5 v6 hv) cs_X1_power q190 rfl rfl rfl hl.1 (Nat.le_of_ble_eq_true rfl) ⟨Nat.le_of_ble_eq_true rfl, Nat.le_of_ble_eq_true rfl⟩ ⟨Nat.le_of_ble_eq_true rfl, Nat.le_of_ble_eq_true rfl⟩ dX1_lays_51 hK hH hS (fun H locs hH hS => ?_)
    refine W.cs (cells' := 16) (slots' := 185) (by rfl) (by rfl) ?_
    refine lv_ldc2 (v := (4096 : Int64)) hx hb hown (hts _ q427) dX1_lays_54 ?_
    refine W.lcmp hx hb dX1_lays_57 ?_
    refine lv_if_le (tgt := 63) hx hb dX1_lays_58 (by decide) (fun c_ => ?_) (fun c_ => ?_)
    · have hf := (if_pos ((lg_cmp_le v6 (4096 : Int64)).mp c_)).symm.trans hf
      refine lv_aload_n hx hb dX1_lays_63 rfl (lv_at hl 1 rfl) ?_
      refine lv_aload_n hx hb dX1_lays_64 rfl (lv_at hl 2 rfl) ?_
      obtain ⟨v7, hv, hf⟩ := bd hf
      refine h_gI X hK hH fo_Code_0 hv q116 dX1_lays_65 ?_
      refine lv_aload_n hx hb dX1_lays_68 rfl (lv_at hl 0 rfl) ?_
      obtain ⟨v8, hv, hf⟩ := bd hf
      refine h_gI X hK hH fo_X9_4 hv q312 dX1_lays_69 ?_
      obtain ⟨v9, hv, hf⟩ := bd hf
      refine c_S (As := [.int v7, .int v8]) (rest := [.ref a0]) (st1 := [.long v9, .ref a0]) X (met_X1_power l G v3 N v7 v8 v9 hv) cs_X1_power q190 rfl rfl rfl hl.1 (Nat.le_of_ble_eq_true rfl) ⟨Nat.le_of_ble_eq_true rfl, Nat.le_of_ble_eq_true rfl⟩ ⟨Nat.le_of_ble_eq_true rfl, Nat.le_of_ble_eq_true rfl⟩ dX1_lays_72 hK hH hS (fun H locs hH hS => ?_)
      refine W.cs (cells' := 16) (slots' := 185) (by rfl) (by rfl) ?_
      refine lv_l2i (v := (v9).toInt32) hx hb dX1_lays_75 rfl ?_
      obtain ⟨t10, hv, hf⟩ := bd hf
      refine h_put (ty := .int) X hK hH hS fo_X1_2 hv q651 (by decide +kernel) rfl rfl dX1_lays_76 (fun H locs hH hS => ?_)
      refine lv_iconst (v := (0 : Int32)) hx hb dX1_lays_79 (by decide) ?_
      refine lv_istore_n (lv' := [(3, .int (0 : Int32)), (2, .ref ((σ).1)), (0, .ref a0), (1, .ref a1)]) hx hb dX1_lays_80 rfl hl (by decide) rfl (fun ls hl => ?_)
      obtain ⟨r81_24, hr, hf⟩ := bd hf
      refine L81 a0 a1 ((σ).1) N _ r81_24 hr ?_ _ _ _ (lv_sub hl [2, 3, 1, 0] rfl) hH hS
      intro ls H locs hl hH hS
      refine lv_iconst (v := (1 : Int32)) hx hb dX1_lays_165 (by decide) ?_
      obtain ⟨v25, hv, hf⟩ := bd hf
      obtain ⟨hz, hv⟩ := rz_s hv
      subst hv
      cases hf
      exact r_zret X dX1_lays_166 (Nat.le_of_ble_eq_true rfl) (Nat.le_of_ble_eq_true rfl) hz rfl hH hS
    · have hf := (if_neg (fun z => c_ ((lg_cmp_le v6 (4096 : Int64)).mpr z))).symm.trans hf
      refine lv_iconst (v := (0 : Int32)) hx hb dX1_lays_61 (by decide) ?_
      obtain ⟨v26, hv, hf⟩ := bd hf
      obtain ⟨hz, hv⟩ := rz_s hv
      subst hv
      cases hf
      exact r_zret X dX1_lays_62 (Nat.le_of_ble_eq_true rfl) (Nat.le_of_ble_eq_true rfl) hz rfl hH hS
  · have hf := (if_pos c_).symm.trans hf
    refine lv_aload_n hx hb dX1_lays_7 rfl (lv_at hl 1 rfl) ?_
    obtain ⟨v27, hv, hf⟩ := bd hf
    refine h_gR X hK hH fo_Code_2 hv q132 dX1_lays_8 ?_
    refine lv_iconst (v := (0 : Int32)) hx hb dX1_lays_11 (by decide) ?_
    refine lv_aload_n hx hb dX1_lays_12 rfl (lv_at hl 0 rfl) ?_
    obtain ⟨v28, hv, hf⟩ := bd hf
    refine h_gR X hK hH fo_X1_1 hv q650 dX1_lays_13 ?_
    refine lv_iconst (v := (0 : Int32)) hx hb dX1_lays_16 (by decide) ?_
    refine lv_aload_n hx hb dX1_lays_17 rfl (lv_at hl 1 rfl) ?_
    obtain ⟨v29, hv, hf⟩ := bd hf
    refine h_gI X hK hH fo_Code_3 hv q141 dX1_lays_18 ?_
    obtain ⟨t30, hv, hf⟩ := bd hf
    refine h_cpL X hK hH hS hv q246 hl.1 (Nat.le_of_ble_eq_true rfl) ⟨Nat.le_of_ble_eq_true rfl, Nat.le_of_ble_eq_true rfl⟩ dX1_lays_21 (fun H locs hH hS => ?_)
    refine lv_aload_n hx hb dX1_lays_24 rfl (lv_at hl 0 rfl) ?_
    refine lv_aload_n hx hb dX1_lays_25 rfl (lv_at hl 1 rfl) ?_
    obtain ⟨v31, hv, hf⟩ := bd hf
    refine h_gI X hK hH fo_Code_3 hv q141 dX1_lays_26 ?_
    obtain ⟨t32, hv, hf⟩ := bd hf
    refine h_put (ty := .int) X hK hH hS fo_X1_2 hv q651 (by decide +kernel) rfl rfl dX1_lays_29 (fun H locs hH hS => ?_)
    refine lv_iconst (v := (1 : Int32)) hx hb dX1_lays_32 (by decide) ?_
    obtain ⟨v33, hv, hf⟩ := bd hf
    obtain ⟨hz, hv⟩ := rz_s hv
    subst hv
    cases hf
    exact r_zret X dX1_lays_33 (Nat.le_of_ble_eq_true rfl) (Nat.le_of_ble_eq_true rfl) hz rfl hH hS
theorem cv_X1_whyWords : CalV "WordBench" yX1_whyWords cX1_whyWords 3 (some .int) 1 := ⟨q421, qs5, q48, q422, by decide +kernel⟩
set_option maxHeartbeats 4000000 in
theorem met_X1_whyWords (l : Launch) (G : GG) (σ : SG) (N : Nat) (a0 : Nat) (a1 : Int32) (σf : SG) (rf : Int32) (hf : f_X1_whyWords N σ a0 a1 = some (σf, rf)) : Con l yX1_whyWords cX1_whyWords 3 (some .int) 5 16 185 G σ [.ref a0, .int a1] σf (some (.int rf)) := by
  refine con_of (by decide) (Nat.le_of_ble_eq_true rfl) ?_
  intro p e s m below meth c ls X hK hH hl hS
  have hx := X.1
  have hb := X.2.1
  have hml := X.2.2.2.1
  have hown : s.vm.findClass RX1 = some m.cls := X.2.2.2.2.1
  have hts := X.2.2.2.2.2.1
  have hl : lv_has ls 3 [(0, .ref a0), (1, .int a1)] := hl
  unfold f_X1_whyWords at hf
  refine lv_aload_n hx hb dX1_whyWords_0 rfl (lv_at hl 0 rfl) ?_
  refine lv_iload_n hx hb dX1_whyWords_1 rfl (lv_at hl 1 rfl) ?_
  refine lv_iconst (v := (0 : Int32)) hx hb dX1_whyWords_2 (by decide) ?_
  obtain ⟨_, hw, hf⟩ := bd hf
  obtain ⟨v1, hv, hf⟩ := bd hf
  refine c_V (As := [.int a1, .int (0 : Int32)]) (rest := []) (st1 := [.int v1]) X (met_X1_asks l G σ N a0 a1 (0 : Int32) v1 hv) cv_X1_asks q183 (recv1 (w := (RX1, TX1, 6)) hw hK hH rfl) rfl rfl rfl hl.1 (Nat.le_of_ble_eq_true rfl) ⟨Nat.le_of_ble_eq_true rfl, Nat.le_of_ble_eq_true rfl⟩ ⟨Nat.le_of_ble_eq_true rfl, Nat.le_of_ble_eq_true rfl⟩ dX1_whyWords_3 hK hH hS (fun H locs hH hS => ?_)
  refine W.cs (cells' := 0) (slots' := 0) (by rfl) (by rfl) ?_
  refine lv_istore_n (lv' := [(2, .int v1), (0, .ref a0), (1, .int a1)]) hx hb dX1_whyWords_6 rfl hl (by decide) rfl (fun ls hl => ?_)
  refine lv_iload_n hx hb dX1_whyWords_7 rfl (lv_at hl 0 rfl) ?_
  refine lv_if_eq (tgt := 15) hx hb dX1_whyWords_8 (by decide) (fun c_ => ?_) (fun c_ => ?_)
  · have hf := (if_pos c_).symm.trans hf
    refine lv_aload_n hx hb dX1_whyWords_15 rfl (lv_at hl 1 rfl) ?_
    refine lv_aload_n hx hb dX1_whyWords_16 rfl (lv_at hl 1 rfl) ?_
    obtain ⟨v2, hv, hf⟩ := bd hf
    refine h_gR X hK hH fo_X1_0 hv q649 dX1_whyWords_17 ?_
    refine lv_iload_n hx hb dX1_whyWords_20 rfl (lv_at hl 2 rfl) ?_
    obtain ⟨v3, hv, hf⟩ := bd hf
    refine h_aQ (by decide) X hK hH hv dX1_whyWords_21 ?_
    obtain ⟨b4, hq, hz⟩ := bd hf
    clear hf
    subst hq
    have hf := hz
    clear hz
    obtain ⟨_, hw, hf⟩ := bd hf
    obtain ⟨v5, hv, hf⟩ := bd hf
    refine c_V (As := [.ref b4]) (rest := []) (st1 := [.int v5.2]) X (met_X1_lays l G σ N a0 b4 v5.1 v5.2 hv) cv_X1_lays q423 (recv1 (w := (RX1, TX1, 6)) hw hK hH rfl) rfl rfl rfl hl.1 (Nat.le_of_ble_eq_true rfl) ⟨Nat.le_of_ble_eq_true rfl, Nat.le_of_ble_eq_true rfl⟩ ⟨Nat.le_of_ble_eq_true rfl, Nat.le_of_ble_eq_true rfl⟩ dX1_whyWords_22 hK hH hS (fun H locs hH hS => ?_)
    refine W.cs (cells' := 16) (slots' := 185) (by rfl) (by rfl) ?_
    refine lv_if_eq (tgt := 32) hx hb dX1_whyWords_25 (by decide) (fun c_ => ?_) (fun c_ => ?_)
    · have hf := (if_pos c_).symm.trans hf
      refine lv_bipush (v := (-5 : Int32)) hx hb dX1_whyWords_32 (by decide) ?_
      cases hf
      exact r_iret X dX1_whyWords_34 (Nat.le_of_ble_eq_true rfl) (Nat.le_of_ble_eq_true rfl) rfl hH hS
    · have hf := (if_neg c_).symm.trans hf
      refine lv_iconst (v := (0 : Int32)) hx hb dX1_whyWords_28 (by decide) ?_
      refine lv_goto (tgt := 34) hx hb dX1_whyWords_29 (by decide) ?_
      cases hf
      exact r_iret X dX1_whyWords_34 (Nat.le_of_ble_eq_true rfl) (Nat.le_of_ble_eq_true rfl) rfl hH hS
  · have hf := (if_neg c_).symm.trans hf
    refine lv_iload_n hx hb dX1_whyWords_11 rfl (lv_at hl 0 rfl) ?_
    refine lv_goto (tgt := 34) hx hb dX1_whyWords_12 (by decide) ?_
    cases hf
    exact r_iret X dX1_whyWords_34 (Nat.le_of_ble_eq_true rfl) (Nat.le_of_ble_eq_true rfl) rfl hH hS
theorem cs_X1_wayOf : CalS yX1_wayOf cX1_wayOf 13 (some .int) 5 := ⟨q380, q48, q381, by decide +kernel, by decide +kernel, by decide +kernel⟩
set_option maxHeartbeats 4000000 in
theorem met_X1_wayOf (l : Launch) (G : GG) (σ : SG) (N : Nat) (a0 : Int32) (a1 : Int32) (a2 : Int64) (a4 : Int64) (a6 : Int32) (rf : Int32) (hf : f_X1_wayOf N a0 a1 a2 a4 a6 = some rf) : Con l yX1_wayOf cX1_wayOf 13 (some .int) 0 0 0 G σ [.int a0, .int a1, .long a2, .long a4, .int a6] σ (some (.int rf)) := by
  refine con_of (by decide) (Nat.le_of_ble_eq_true rfl) ?_
  intro p e s m below meth c ls X hK hH hl hS
  have hx := X.1
  have hb := X.2.1
  have hml := X.2.2.2.1
  have hown : s.vm.findClass RX1 = some m.cls := X.2.2.2.2.1
  have hts := X.2.2.2.2.2.1
  have hl : lv_has ls 13 [(0, .int a0), (1, .int a1), (2, .long a2), (4, .long a4), (6, .int a6)] := hl
  unfold f_X1_wayOf at hf
  have L15 : ∀ (c0 : Int32) (c6 : Int32) (n : Nat) (s15 : (Int32 × Int64 × Int64 × Int32)) (r15 : Int32), lp (f_X1_wayOf_b15 N c0 c6) n s15 = some r15 → (∀ (ls : Array Slot) (H : Heap) (locs : List Loc), lv_has ls 13 [(7, .int r15)] → HH G σ H → va_S (AG G) s.heap H locs → W p l e (rm_ 0 0 0) s m ([.int a0, .int a1, .long a2, .long a4, .int a6] : List Value).toArray below meth c H locs 0 0 (MQ below (PostC G σ (some (.int rf))) ([.int a0, .int a1, .long a2, .long a4, .int a6] : List Value).toArray s 0 0 (AG G)) (F0 m 74 ls [])) → ∀ (ls : Array Slot) (H : Heap) (locs : List Loc), lv_has ls 13 [(0, .int c0), (6, .int c6), (7, .int s15.1), (8, .long s15.2.1), (10, .long s15.2.2.1), (12, .int s15.2.2.2)] → HH G σ H → va_S (AG G) s.heap H locs → W p l e (rm_ 0 0 0) s m ([.int a0, .int a1, .long a2, .long a4, .int a6] : List Value).toArray below meth c H locs 0 0 (MQ below (PostC G σ (some (.int rf))) ([.int a0, .int a1, .long a2, .long a4, .int a6] : List Value).toArray s 0 0 (AG G)) (F0 m 15 ls []) := by
    intro c0 c6 n s15 r15 hr hq
    refine lp_ind (P := fun s15 => ∀ (ls : Array Slot) (H : Heap) (locs : List Loc), lv_has ls 13 [(0, .int c0), (6, .int c6), (7, .int s15.1), (8, .long s15.2.1), (10, .long s15.2.2.1), (12, .int s15.2.2.2)] → HH G σ H → va_S (AG G) s.heap H locs → W p l e (rm_ 0 0 0) s m ([.int a0, .int a1, .long a2, .long a4, .int a6] : List Value).toArray below meth c H locs 0 0 (MQ below (PostC G σ (some (.int rf))) ([.int a0, .int a1, .long a2, .long a4, .int a6] : List Value).toArray s 0 0 (AG G)) (F0 m 15 ls [])) (Q := fun r15 => ∀ (ls : Array Slot) (H : Heap) (locs : List Loc), lv_has ls 13 [(7, .int r15)] → HH G σ H → va_S (AG G) s.heap H locs → W p l e (rm_ 0 0 0) s m ([.int a0, .int a1, .long a2, .long a4, .int a6] : List Value).toArray below meth c H locs 0 0 (MQ below (PostC G σ (some (.int rf))) ([.int a0, .int a1, .long a2, .long a4, .int a6] : List Value).toArray s 0 0 (AG G)) (F0 m 74 ls [])) ?_ n s15 r15 hr hq
    intro s15 x15 hf hx15 ls H locs hl hH hS
    unfold f_X1_wayOf_b15 at hf
    have J51 : ∀ (d8 : Int64) (d10 : Int64) (d12 : Int32) (k0 : Int32) (k1 : Int32), f_X1_wayOf_j51 N c0 c6 d8 d10 d12 k0 k1 = some x15 → ∀ (ls : Array Slot) (H : Heap) (locs : List Loc), lv_has ls 13 [(0, .int c0), (6, .int c6), (8, .long d8), (10, .long d10), (12, .int d12)] → HH G σ H → va_S (AG G) s.heap H locs → W p l e (rm_ 0 0 0) s m ([.int a0, .int a1, .long a2, .long a4, .int a6] : List Value).toArray below meth c H locs 0 0 (MQ below (PostC G σ (some (.int rf))) ([.int a0, .int a1, .long a2, .long a4, .int a6] : List Value).toArray s 0 0 (AG G)) (F0 m 51 ls [.int k0, .int k1]) := by
      intro d8 d10 d12 k0 k1 hf ls H locs hl hH hS
      unfold f_X1_wayOf_j51 at hf
      refine lv_iadd hx hb dX1_wayOf_51 ?_
      refine lv_istore (lv' := [(7, .int (k1 + k0)), (0, .int c0), (6, .int c6), (8, .long d8), (10, .long d10), (12, .int d12)]) hx hb dX1_wayOf_52 hl (by decide) rfl (fun ls hl => ?_)
      refine lv_lload hx hb dX1_wayOf_54 (lv_at hl 3 rfl) ?_
      refine lv_iload_n hx hb dX1_wayOf_56 rfl (lv_at hl 1 rfl) ?_
      refine lv_i2l (v := (c0).toInt64) hx hb dX1_wayOf_57 rfl ?_
      obtain ⟨v3, hv, hf⟩ := bd hf
      refine r_ldiv hx hb hv dX1_wayOf_58 ?_
      refine lv_lstore (lv' := [(8, .long v3), (7, .int (k1 + k0)), (0, .int c0), (6, .int c6), (10, .long d10), (12, .int d12)]) hx hb dX1_wayOf_59 hl (by decide) rfl (fun ls hl => ?_)
      refine lv_lload hx hb dX1_wayOf_61 (lv_at hl 4 rfl) ?_
      refine lv_iload_n hx hb dX1_wayOf_63 rfl (lv_at hl 2 rfl) ?_
      refine lv_i2l (v := (c0).toInt64) hx hb dX1_wayOf_64 rfl ?_
      obtain ⟨v4, hv, hf⟩ := bd hf
      refine r_ldiv hx hb hv dX1_wayOf_65 ?_
      refine lv_lstore (lv' := [(10, .long v4), (8, .long v3), (7, .int (k1 + k0)), (0, .int c0), (6, .int c6), (12, .int d12)]) hx hb dX1_wayOf_66 hl (by decide) rfl (fun ls hl => ?_)
      refine lv_iinc (v := (d12 + (-1))) (lv' := [(12, .int (d12 + (-1))), (10, .long v4), (8, .long v3), (7, .int (k1 + k0)), (0, .int c0), (6, .int c6)]) hx hb dX1_wayOf_68 hl (k := 5) rfl rfl (by decide) rfl (fun ls hl => ?_)
      refine lv_goto (tgt := 15) hx hb dX1_wayOf_71 (by decide) ?_
      cases hf
      exact hx15 _ _ _ (lv_sub hl [4, 5, 3, 2, 1, 0] rfl) hH hS
    refine lv_iload hx hb dX1_wayOf_15 (lv_at hl 5 rfl) ?_
    refine lv_if_lt (tgt := 74) hx hb dX1_wayOf_17 (by decide) (fun c_ => ?_) (fun c_ => ?_)
    · have hf := (if_pos c_).symm.trans hf
      cases hf
      exact hx15 _ _ _ (lv_sub hl [2] rfl) hH hS
    · have hf := (if_neg c_).symm.trans hf
      refine lv_iload hx hb dX1_wayOf_20 (lv_at hl 2 rfl) ?_
      refine lv_lload hx hb dX1_wayOf_22 (lv_at hl 3 rfl) ?_
      refine lv_iload_n hx hb dX1_wayOf_24 rfl (lv_at hl 0 rfl) ?_
      refine lv_i2l (v := (c0).toInt64) hx hb dX1_wayOf_25 rfl ?_
      obtain ⟨v1, hv, hf⟩ := bd hf
      refine r_lrem hx hb hv dX1_wayOf_26 ?_
      refine lv_lload hx hb dX1_wayOf_27 (lv_at hl 4 rfl) ?_
      refine lv_iload_n hx hb dX1_wayOf_29 rfl (lv_at hl 0 rfl) ?_
      refine lv_i2l (v := (c0).toInt64) hx hb dX1_wayOf_30 rfl ?_
      obtain ⟨v2, hv, hf⟩ := bd hf
      refine r_lrem hx hb hv dX1_wayOf_31 ?_
      refine W.lcmp hx hb dX1_wayOf_32 ?_
      refine lv_if_eq (tgt := 50) hx hb dX1_wayOf_33 (by decide) (fun c_ => ?_) (fun c_ => ?_)
      · have hf := (if_pos ((lg_cmp_eq v1 v2).mp c_)).symm.trans hf
        refine lv_iconst (v := (0 : Int32)) hx hb dX1_wayOf_50 (by decide) ?_
        exact J51 s15.2.1 s15.2.2.1 s15.2.2.2 (0 : Int32) s15.1 hf _ _ _ (lv_sub hl [0, 1, 3, 4, 5] rfl) hH hS
      · have hf := (if_neg (fun z => c_ ((lg_cmp_eq v1 v2).mpr z))).symm.trans hf
        refine lv_iload hx hb dX1_wayOf_36 (lv_at hl 1 rfl) ?_
        refine lv_iload hx hb dX1_wayOf_38 (lv_at hl 5 rfl) ?_
        refine lv_ishr hx hb dX1_wayOf_40 ?_
        refine lv_iconst (v := (1 : Int32)) hx hb dX1_wayOf_41 (by decide) ?_
        refine lv_iand hx hb dX1_wayOf_42 ?_
        refine lv_if_ne (tgt := 50) hx hb dX1_wayOf_43 (by decide) (fun c_ => ?_) (fun c_ => ?_)
        · have hf := (if_neg c_).symm.trans hf
          refine lv_iconst (v := (0 : Int32)) hx hb dX1_wayOf_50 (by decide) ?_
          exact J51 s15.2.1 s15.2.2.1 s15.2.2.2 (0 : Int32) s15.1 hf _ _ _ (lv_sub hl [0, 1, 3, 4, 5] rfl) hH hS
        · have hf := (if_pos c_).symm.trans hf
          refine lv_iconst (v := (1 : Int32)) hx hb dX1_wayOf_46 (by decide) ?_
          refine lv_goto (tgt := 51) hx hb dX1_wayOf_47 (by decide) ?_
          exact J51 s15.2.1 s15.2.2.1 s15.2.2.2 (1 : Int32) s15.1 hf _ _ _ (lv_sub hl [0, 1, 3, 4, 5] rfl) hH hS
  refine lv_iconst (v := (0 : Int32)) hx hb dX1_wayOf_0 (by decide) ?_
  refine lv_istore (lv' := [(7, .int (0 : Int32)), (0, .int a0), (1, .int a1), (2, .long a2), (4, .long a4), (6, .int a6)]) hx hb dX1_wayOf_1 hl (by decide) rfl (fun ls hl => ?_)
  refine lv_lload_n hx hb dX1_wayOf_3 rfl (lv_at hl 3 rfl) ?_
  refine lv_lstore (lv' := [(8, .long a2), (7, .int (0 : Int32)), (0, .int a0), (1, .int a1), (2, .long a2), (4, .long a4), (6, .int a6)]) hx hb dX1_wayOf_4 hl (by decide) rfl (fun ls hl => ?_)
  refine lv_lload hx hb dX1_wayOf_6 (lv_at hl 5 rfl) ?_
  refine lv_lstore (lv' := [(10, .long a4), (8, .long a2), (7, .int (0 : Int32)), (0, .int a0), (1, .int a1), (2, .long a2), (4, .long a4), (6, .int a6)]) hx hb dX1_wayOf_8 hl (by decide) rfl (fun ls hl => ?_)
  refine lv_iload_n hx hb dX1_wayOf_10 rfl (lv_at hl 4 rfl) ?_
  refine lv_iconst (v := (1 : Int32)) hx hb dX1_wayOf_11 (by decide) ?_
  refine lv_isub hx hb dX1_wayOf_12 ?_
  refine lv_istore (lv' := [(12, .int (a1 - (1 : Int32))), (10, .long a4), (8, .long a2), (7, .int (0 : Int32)), (0, .int a0), (1, .int a1), (2, .long a2), (4, .long a4), (6, .int a6)]) hx hb dX1_wayOf_13 hl (by decide) rfl (fun ls hl => ?_)
  obtain ⟨r15_5, hr, hf⟩ := bd hf
  refine L15 a0 a6 N _ r15_5 hr ?_ _ _ _ (lv_sub hl [4, 8, 3, 2, 1, 0] rfl) hH hS
  intro ls H locs hl hH hS
  refine lv_iload hx hb dX1_wayOf_74 (lv_at hl 0 rfl) ?_
  cases hf
  exact r_iret X dX1_wayOf_76 (Nat.le_of_ble_eq_true rfl) (Nat.le_of_ble_eq_true rfl) rfl hH hS
theorem cv_X1_counts : CalV "WordBench" yX1_counts cX1_counts 4 none 1 := ⟨q434, qs8, q48, q435, by decide +kernel⟩
set_option maxHeartbeats 4000000 in
theorem met_X1_counts (l : Launch) (G : GG) (σ : SG) (N : Nat) (a0 : Nat) (a1 : Nat) (σf : SG) (hf : f_X1_counts N σ a0 a1 = some σf) : Con l yX1_counts cX1_counts 4 none 1 0 0 G σ [.ref a0, .ref a1] σf none := by
  refine con_of (by decide) (Nat.le_of_ble_eq_true rfl) ?_
  intro p e s m below meth c ls X hK hH hl hS
  have hx := X.1
  have hb := X.2.1
  have hml := X.2.2.2.1
  have hown : s.vm.findClass RX1 = some m.cls := X.2.2.2.2.1
  have hts := X.2.2.2.2.2.1
  have hl : lv_has ls 4 [(0, .ref a0), (1, .ref a1)] := hl
  unfold f_X1_counts at hf
  have L2 : ∀ (c0 : Nat) (c1 : Nat) (n : Nat) (s2 : (Int32 × SG)) (r2 : SG), lp (f_X1_counts_b2 N c0 c1) n s2 = some r2 → (∀ (ls : Array Slot) (H : Heap) (locs : List Loc), lv_has ls 4 [(0, .ref c0), (1, .ref c1)] → HH G r2 H → va_S (AG G) s.heap H locs → W p l e (rm_ 1 0 0) s m ([.ref a0, .ref a1] : List Value).toArray below meth c H locs 0 0 (MQ below (PostC G σf none) ([.ref a0, .ref a1] : List Value).toArray s 0 0 (AG G)) (F0 m 21 ls [])) → ∀ (ls : Array Slot) (H : Heap) (locs : List Loc), lv_has ls 4 [(0, .ref c0), (1, .ref c1), (2, .int s2.1)] → HH G s2.2 H → va_S (AG G) s.heap H locs → W p l e (rm_ 1 0 0) s m ([.ref a0, .ref a1] : List Value).toArray below meth c H locs 0 0 (MQ below (PostC G σf none) ([.ref a0, .ref a1] : List Value).toArray s 0 0 (AG G)) (F0 m 2 ls []) := by
    intro c0 c1 n s2 r2 hr hq
    refine lp_ind (P := fun s2 => ∀ (ls : Array Slot) (H : Heap) (locs : List Loc), lv_has ls 4 [(0, .ref c0), (1, .ref c1), (2, .int s2.1)] → HH G s2.2 H → va_S (AG G) s.heap H locs → W p l e (rm_ 1 0 0) s m ([.ref a0, .ref a1] : List Value).toArray below meth c H locs 0 0 (MQ below (PostC G σf none) ([.ref a0, .ref a1] : List Value).toArray s 0 0 (AG G)) (F0 m 2 ls [])) (Q := fun r2 => ∀ (ls : Array Slot) (H : Heap) (locs : List Loc), lv_has ls 4 [(0, .ref c0), (1, .ref c1)] → HH G r2 H → va_S (AG G) s.heap H locs → W p l e (rm_ 1 0 0) s m ([.ref a0, .ref a1] : List Value).toArray below meth c H locs 0 0 (MQ below (PostC G σf none) ([.ref a0, .ref a1] : List Value).toArray s 0 0 (AG G)) (F0 m 21 ls [])) ?_ n s2 r2 hr hq
    intro s2 x2 hf hx2 ls H locs hl hH hS
    unfold f_X1_counts_b2 at hf
    refine lv_iload_n hx hb dX1_counts_2 rfl (lv_at hl 2 rfl) ?_
    refine lv_bipush (v := (12 : Int32)) hx hb dX1_counts_3 (by decide) ?_
    refine lv_icmp_gt (tgt := 21) hx hb dX1_counts_5 (by decide) (fun c_ => ?_) (fun c_ => ?_)
    · have hf := (if_pos c_).symm.trans hf
      cases hf
      exact hx2 _ _ _ (lv_sub hl [0, 1] rfl) hH hS
    · have hf := (if_neg c_).symm.trans hf
      refine lv_aload_n hx hb dX1_counts_8 rfl (lv_at hl 0 rfl) ?_
      obtain ⟨v1, hv, hf⟩ := bd hf
      refine h_gR X hK hH fo_X1_3 hv q652 dX1_counts_9 ?_
      refine lv_iload_n hx hb dX1_counts_12 rfl (lv_at hl 2 rfl) ?_
      refine lv_lconst (v := (0 : Int64)) hx hb dX1_counts_13 (by decide) ?_
      obtain ⟨t2, hv, hf⟩ := bd hf
      refine h_wL X hK hH hS hv dX1_counts_14 (fun H locs hH hS => ?_)
      refine lv_iinc (v := (s2.1 + 1)) (lv' := [(2, .int (s2.1 + 1)), (0, .ref c0), (1, .ref c1)]) hx hb dX1_counts_15 hl (k := 2) rfl rfl (by decide) rfl (fun ls hl => ?_)
      refine lv_goto (tgt := 2) hx hb dX1_counts_18 (by decide) ?_
      cases hf
      exact hx2 _ _ _ (lv_sub hl [1, 2, 0] rfl) hH hS
  have L75 : ∀ (c0 : Nat) (c1 : Nat) (n : Nat) (s75 : (Int32 × SG)) (r75 : SG), lp (f_X1_counts_b75 N c0 c1) n s75 = some r75 → (∀ (ls : Array Slot) (H : Heap) (locs : List Loc), lv_has ls 4 [(0, .ref c0), (1, .ref c1)] → HH G r75 H → va_S (AG G) s.heap H locs → W p l e (rm_ 1 0 0) s m ([.ref a0, .ref a1] : List Value).toArray below meth c H locs 0 0 (MQ below (PostC G σf none) ([.ref a0, .ref a1] : List Value).toArray s 0 0 (AG G)) (F0 m 138 ls [])) → ∀ (ls : Array Slot) (H : Heap) (locs : List Loc), lv_has ls 4 [(0, .ref c0), (1, .ref c1), (2, .int s75.1)] → HH G s75.2 H → va_S (AG G) s.heap H locs → W p l e (rm_ 1 0 0) s m ([.ref a0, .ref a1] : List Value).toArray below meth c H locs 0 0 (MQ below (PostC G σf none) ([.ref a0, .ref a1] : List Value).toArray s 0 0 (AG G)) (F0 m 75 ls []) := by
    intro c0 c1 n s75 r75 hr hq
    refine lp_ind (P := fun s75 => ∀ (ls : Array Slot) (H : Heap) (locs : List Loc), lv_has ls 4 [(0, .ref c0), (1, .ref c1), (2, .int s75.1)] → HH G s75.2 H → va_S (AG G) s.heap H locs → W p l e (rm_ 1 0 0) s m ([.ref a0, .ref a1] : List Value).toArray below meth c H locs 0 0 (MQ below (PostC G σf none) ([.ref a0, .ref a1] : List Value).toArray s 0 0 (AG G)) (F0 m 75 ls [])) (Q := fun r75 => ∀ (ls : Array Slot) (H : Heap) (locs : List Loc), lv_has ls 4 [(0, .ref c0), (1, .ref c1)] → HH G r75 H → va_S (AG G) s.heap H locs → W p l e (rm_ 1 0 0) s m ([.ref a0, .ref a1] : List Value).toArray below meth c H locs 0 0 (MQ below (PostC G σf none) ([.ref a0, .ref a1] : List Value).toArray s 0 0 (AG G)) (F0 m 138 ls [])) ?_ n s75 r75 hr hq
    intro s75 x75 hf hx75 ls H locs hl hH hS
    unfold f_X1_counts_b75 at hf
    have L85 : ∀ (c0 : Nat) (c1 : Nat) (c2 : Int32) (n : Nat) (s85 : (Int32 × SG)) (r85 : SG), lp (f_X1_counts_b85 N c0 c1 c2) n s85 = some r85 → (∀ (ls : Array Slot) (H : Heap) (locs : List Loc), lv_has ls 4 [(0, .ref c0), (1, .ref c1), (2, .int c2)] → HH G r85 H → va_S (AG G) s.heap H locs → W p l e (rm_ 1 0 0) s m ([.ref a0, .ref a1] : List Value).toArray below meth c H locs 0 0 (MQ below (PostC G σf none) ([.ref a0, .ref a1] : List Value).toArray s 0 0 (AG G)) (F0 m 132 ls [])) → ∀ (ls : Array Slot) (H : Heap) (locs : List Loc), lv_has ls 4 [(0, .ref c0), (1, .ref c1), (2, .int c2), (3, .int s85.1)] → HH G s85.2 H → va_S (AG G) s.heap H locs → W p l e (rm_ 1 0 0) s m ([.ref a0, .ref a1] : List Value).toArray below meth c H locs 0 0 (MQ below (PostC G σf none) ([.ref a0, .ref a1] : List Value).toArray s 0 0 (AG G)) (F0 m 85 ls []) := by
      intro c0 c1 c2 n s85 r85 hr hq
      refine lp_ind (P := fun s85 => ∀ (ls : Array Slot) (H : Heap) (locs : List Loc), lv_has ls 4 [(0, .ref c0), (1, .ref c1), (2, .int c2), (3, .int s85.1)] → HH G s85.2 H → va_S (AG G) s.heap H locs → W p l e (rm_ 1 0 0) s m ([.ref a0, .ref a1] : List Value).toArray below meth c H locs 0 0 (MQ below (PostC G σf none) ([.ref a0, .ref a1] : List Value).toArray s 0 0 (AG G)) (F0 m 85 ls [])) (Q := fun r85 => ∀ (ls : Array Slot) (H : Heap) (locs : List Loc), lv_has ls 4 [(0, .ref c0), (1, .ref c1), (2, .int c2)] → HH G r85 H → va_S (AG G) s.heap H locs → W p l e (rm_ 1 0 0) s m ([.ref a0, .ref a1] : List Value).toArray below meth c H locs 0 0 (MQ below (PostC G σf none) ([.ref a0, .ref a1] : List Value).toArray s 0 0 (AG G)) (F0 m 132 ls [])) ?_ n s85 r85 hr hq
      intro s85 x85 hf hx85 ls H locs hl hH hS
      unfold f_X1_counts_b85 at hf
      refine lv_iload_n hx hb dX1_counts_85 rfl (lv_at hl 3 rfl) ?_
      refine lv_aload_n hx hb dX1_counts_86 rfl (lv_at hl 0 rfl) ?_
      obtain ⟨v6, hv, hf⟩ := bd hf
      refine h_gI X hK hH fo_X1_2 hv q651 dX1_counts_87 ?_
      refine lv_icmp_ge (tgt := 132) hx hb dX1_counts_90 (by decide) (fun c_ => ?_) (fun c_ => ?_)
      · have hf := (if_pos c_).symm.trans hf
        cases hf
        exact hx85 _ _ _ (lv_sub hl [0, 1, 2] rfl) hH hS
      · have hf := (if_neg c_).symm.trans hf
        refine lv_aload_n hx hb dX1_counts_93 rfl (lv_at hl 0 rfl) ?_
        obtain ⟨v7, hv, hf⟩ := bd hf
        refine h_gR X hK hH fo_X1_3 hv q652 dX1_counts_94 ?_
        refine lv_aload_n hx hb dX1_counts_97 rfl (lv_at hl 1 rfl) ?_
        obtain ⟨v8, hv, hf⟩ := bd hf
        refine h_gI X hK hH fo_Code_0 hv q116 dX1_counts_98 ?_
        refine lv_aload_n hx hb dX1_counts_101 rfl (lv_at hl 1 rfl) ?_
        obtain ⟨v9, hv, hf⟩ := bd hf
        refine h_gI X hK hH fo_Code_1 hv q123 dX1_counts_102 ?_
        refine lv_aload_n hx hb dX1_counts_105 rfl (lv_at hl 0 rfl) ?_
        obtain ⟨v10, hv, hf⟩ := bd hf
        refine h_gR X hK hH fo_X1_1 hv q650 dX1_counts_106 ?_
        refine lv_iload_n hx hb dX1_counts_109 rfl (lv_at hl 2 rfl) ?_
        obtain ⟨v11, hv, hf⟩ := bd hf
        refine h_aL X hK hH hv dX1_counts_110 ?_
        refine lv_aload_n hx hb dX1_counts_111 rfl (lv_at hl 0 rfl) ?_
        obtain ⟨v12, hv, hf⟩ := bd hf
        refine h_gR X hK hH fo_X1_1 hv q650 dX1_counts_112 ?_
        refine lv_iload_n hx hb dX1_counts_115 rfl (lv_at hl 3 rfl) ?_
        obtain ⟨v13, hv, hf⟩ := bd hf
        refine h_aL X hK hH hv dX1_counts_116 ?_
        refine lv_iconst (v := (0 : Int32)) hx hb dX1_counts_117 (by decide) ?_
        obtain ⟨v14, hv, hf⟩ := bd hf
        refine c_S (As := [.int v8, .int v9, .long v11, .long v13, .int (0 : Int32)]) (rest := [.ref v7]) (st1 := [.int v14, .ref v7]) X (met_X1_wayOf l G s85.2 N v8 v9 v11 v13 (0 : Int32) v14 hv) cs_X1_wayOf q379 rfl rfl rfl hl.1 (Nat.le_of_ble_eq_true rfl) ⟨Nat.le_of_ble_eq_true rfl, Nat.le_of_ble_eq_true rfl⟩ ⟨Nat.le_of_ble_eq_true rfl, Nat.le_of_ble_eq_true rfl⟩ dX1_counts_118 hK hH hS (fun H locs hH hS => ?_)
        refine W.cs (cells' := 0) (slots' := 0) (by rfl) (by rfl) ?_
        refine lv_dup2_11 hx hb dX1_counts_121 rfl rfl ?_
        obtain ⟨v15, hv, hf⟩ := bd hf
        refine h_aL X hK hH hv dX1_counts_122 ?_
        refine lv_lconst (v := (1 : Int64)) hx hb dX1_counts_123 (by decide) ?_
        refine lv_ladd hx hb dX1_counts_124 ?_
        obtain ⟨t16, hv, hf⟩ := bd hf
        refine h_wL X hK hH hS hv dX1_counts_125 (fun H locs hH hS => ?_)
        refine lv_iinc (v := (s85.1 + 1)) (lv' := [(3, .int (s85.1 + 1)), (0, .ref c0), (1, .ref c1), (2, .int c2)]) hx hb dX1_counts_126 hl (k := 3) rfl rfl (by decide) rfl (fun ls hl => ?_)
        refine lv_goto (tgt := 85) hx hb dX1_counts_129 (by decide) ?_
        cases hf
        exact hx85 _ _ _ (lv_sub hl [1, 2, 3, 0] rfl) hH hS
    refine lv_iload_n hx hb dX1_counts_75 rfl (lv_at hl 2 rfl) ?_
    refine lv_aload_n hx hb dX1_counts_76 rfl (lv_at hl 0 rfl) ?_
    obtain ⟨v5, hv, hf⟩ := bd hf
    refine h_gI X hK hH fo_X1_2 hv q651 dX1_counts_77 ?_
    refine lv_icmp_ge (tgt := 138) hx hb dX1_counts_80 (by decide) (fun c_ => ?_) (fun c_ => ?_)
    · have hf := (if_pos c_).symm.trans hf
      cases hf
      exact hx75 _ _ _ (lv_sub hl [0, 1] rfl) hH hS
    · have hf := (if_neg c_).symm.trans hf
      refine lv_iconst (v := (0 : Int32)) hx hb dX1_counts_83 (by decide) ?_
      refine lv_istore_n (lv' := [(3, .int (0 : Int32)), (0, .ref c0), (1, .ref c1), (2, .int s75.1)]) hx hb dX1_counts_84 rfl hl (by decide) rfl (fun ls hl => ?_)
      obtain ⟨r85_17, hr, hf⟩ := bd hf
      refine L85 c0 c1 s75.1 N _ r85_17 hr ?_ _ _ _ (lv_sub hl [1, 2, 3, 0] rfl) hH hS
      intro ls H locs hl hH hS
      refine lv_iinc (v := (s75.1 + 1)) (lv' := [(2, .int (s75.1 + 1)), (0, .ref c0), (1, .ref c1)]) hx hb dX1_counts_132 hl (k := 2) rfl rfl (by decide) rfl (fun ls hl => ?_)
      refine lv_goto (tgt := 75) hx hb dX1_counts_135 (by decide) ?_
      cases hf
      exact hx75 _ _ _ (lv_sub hl [1, 2, 0] rfl) hH hS
  have L153 : ∀ (c0 : Nat) (c1 : Nat) (t153 : SG) (n : Nat) (s153 : (Int32 × Int32)) (r153 : Int32), lp (f_X1_counts_b153 N c0 c1 t153) n s153 = some r153 → (∀ (ls : Array Slot) (H : Heap) (locs : List Loc), lv_has ls 4 [(0, .ref c0), (1, .ref c1), (2, .int r153)] → HH G t153 H → va_S (AG G) s.heap H locs → W p l e (rm_ 1 0 0) s m ([.ref a0, .ref a1] : List Value).toArray below meth c H locs 0 0 (MQ below (PostC G σf none) ([.ref a0, .ref a1] : List Value).toArray s 0 0 (AG G)) (F0 m 194 ls [])) → ∀ (ls : Array Slot) (H : Heap) (locs : List Loc), lv_has ls 4 [(0, .ref c0), (1, .ref c1), (2, .int s153.1), (3, .int s153.2)] → HH G t153 H → va_S (AG G) s.heap H locs → W p l e (rm_ 1 0 0) s m ([.ref a0, .ref a1] : List Value).toArray below meth c H locs 0 0 (MQ below (PostC G σf none) ([.ref a0, .ref a1] : List Value).toArray s 0 0 (AG G)) (F0 m 153 ls []) := by
    intro c0 c1 t153 n s153 r153 hr hq
    refine lp_ind (P := fun s153 => ∀ (ls : Array Slot) (H : Heap) (locs : List Loc), lv_has ls 4 [(0, .ref c0), (1, .ref c1), (2, .int s153.1), (3, .int s153.2)] → HH G t153 H → va_S (AG G) s.heap H locs → W p l e (rm_ 1 0 0) s m ([.ref a0, .ref a1] : List Value).toArray below meth c H locs 0 0 (MQ below (PostC G σf none) ([.ref a0, .ref a1] : List Value).toArray s 0 0 (AG G)) (F0 m 153 ls [])) (Q := fun r153 => ∀ (ls : Array Slot) (H : Heap) (locs : List Loc), lv_has ls 4 [(0, .ref c0), (1, .ref c1), (2, .int r153)] → HH G t153 H → va_S (AG G) s.heap H locs → W p l e (rm_ 1 0 0) s m ([.ref a0, .ref a1] : List Value).toArray below meth c H locs 0 0 (MQ below (PostC G σf none) ([.ref a0, .ref a1] : List Value).toArray s 0 0 (AG G)) (F0 m 194 ls [])) ?_ n s153 r153 hr hq
    intro s153 x153 hf hx153 ls H locs hl hH hS
    unfold f_X1_counts_b153 at hf
    refine lv_iload_n hx hb dX1_counts_153 rfl (lv_at hl 3 rfl) ?_
    refine lv_aload_n hx hb dX1_counts_154 rfl (lv_at hl 1 rfl) ?_
    obtain ⟨v20, hv, hf⟩ := bd hf
    refine h_gI X hK hH fo_Code_1 hv q123 dX1_counts_155 ?_
    refine lv_icmp_gt (tgt := 194) hx hb dX1_counts_158 (by decide) (fun c_ => ?_) (fun c_ => ?_)
    · have hf := (if_pos c_).symm.trans hf
      cases hf
      exact hx153 _ _ _ (lv_sub hl [0, 1, 2] rfl) hH hS
    · have hf := (if_neg c_).symm.trans hf
      refine lv_iload_n hx hb dX1_counts_161 rfl (lv_at hl 2 rfl) ?_
      refine lv_if_eq (tgt := 194) hx hb dX1_counts_162 (by decide) (fun c_ => ?_) (fun c_ => ?_)
      · have hf := (if_pos c_).symm.trans hf
        cases hf
        exact hx153 _ _ _ (lv_sub hl [0, 1, 2] rfl) hH hS
      · have hf := (if_neg c_).symm.trans hf
        refine lv_aload_n hx hb dX1_counts_165 rfl (lv_at hl 0 rfl) ?_
        obtain ⟨v21, hv, hf⟩ := bd hf
        refine h_gR X hK hH fo_X1_3 hv q652 dX1_counts_166 ?_
        refine lv_iload_n hx hb dX1_counts_169 rfl (lv_at hl 3 rfl) ?_
        obtain ⟨v22, hv, hf⟩ := bd hf
        refine h_aL X hK hH hv dX1_counts_170 ?_
        refine lv_aload_n hx hb dX1_counts_171 rfl (lv_at hl 0 rfl) ?_
        obtain ⟨v23, hv, hf⟩ := bd hf
        refine h_gI X hK hH fo_X1_2 hv q651 dX1_counts_172 ?_
        refine lv_i2l (v := (v23).toInt64) hx hb dX1_counts_175 rfl ?_
        obtain ⟨v24, hv, hf⟩ := bd hf
        refine r_lrem hx hb hv dX1_counts_176 ?_
        refine lv_lconst (v := (0 : Int64)) hx hb dX1_counts_177 (by decide) ?_
        refine W.lcmp hx hb dX1_counts_178 ?_
        refine lv_if_ne (tgt := 186) hx hb dX1_counts_179 (by decide) (fun c_ => ?_) (fun c_ => ?_)
        · have hf := (if_neg (fun z => c_ ((lg_cmp_eq v24 (0 : Int64)).mpr z))).symm.trans hf
          refine lv_iconst (v := (0 : Int32)) hx hb dX1_counts_186 (by decide) ?_
          refine lv_istore_n (lv' := [(2, .int (0 : Int32)), (0, .ref c0), (1, .ref c1), (3, .int s153.2)]) hx hb dX1_counts_187 rfl hl (by decide) rfl (fun ls hl => ?_)
          refine lv_iinc (v := (s153.2 + 1)) (lv' := [(3, .int (s153.2 + 1)), (2, .int (0 : Int32)), (0, .ref c0), (1, .ref c1)]) hx hb dX1_counts_188 hl (k := 3) rfl rfl (by decide) rfl (fun ls hl => ?_)
          refine lv_goto (tgt := 153) hx hb dX1_counts_191 (by decide) ?_
          cases hf
          exact hx153 _ _ _ (lv_sub hl [2, 3, 1, 0] rfl) hH hS
        · have hf := (if_pos ((lg_cmp_eq v24 (0 : Int64)).mp c_)).symm.trans hf
          refine lv_iconst (v := (1 : Int32)) hx hb dX1_counts_182 (by decide) ?_
          refine lv_goto (tgt := 187) hx hb dX1_counts_183 (by decide) ?_
          refine lv_istore_n (lv' := [(2, .int (1 : Int32)), (0, .ref c0), (1, .ref c1), (3, .int s153.2)]) hx hb dX1_counts_187 rfl hl (by decide) rfl (fun ls hl => ?_)
          refine lv_iinc (v := (s153.2 + 1)) (lv' := [(3, .int (s153.2 + 1)), (2, .int (1 : Int32)), (0, .ref c0), (1, .ref c1)]) hx hb dX1_counts_188 hl (k := 3) rfl rfl (by decide) rfl (fun ls hl => ?_)
          refine lv_goto (tgt := 153) hx hb dX1_counts_191 (by decide) ?_
          cases hf
          exact hx153 _ _ _ (lv_sub hl [2, 3, 1, 0] rfl) hH hS
  have L196 : ∀ (c0 : Nat) (c1 : Nat) (c2 : Int32) (n : Nat) (s196 : (Int32 × SG)) (r196 : SG), lp (f_X1_counts_b196 N c0 c1 c2) n s196 = some r196 → (∀ (ls : Array Slot) (H : Heap) (locs : List Loc), lv_has ls 4 [] → HH G r196 H → va_S (AG G) s.heap H locs → W p l e (rm_ 1 0 0) s m ([.ref a0, .ref a1] : List Value).toArray below meth c H locs 0 0 (MQ below (PostC G σf none) ([.ref a0, .ref a1] : List Value).toArray s 0 0 (AG G)) (F0 m 228 ls [])) → ∀ (ls : Array Slot) (H : Heap) (locs : List Loc), lv_has ls 4 [(0, .ref c0), (1, .ref c1), (2, .int c2), (3, .int s196.1)] → HH G s196.2 H → va_S (AG G) s.heap H locs → W p l e (rm_ 1 0 0) s m ([.ref a0, .ref a1] : List Value).toArray below meth c H locs 0 0 (MQ below (PostC G σf none) ([.ref a0, .ref a1] : List Value).toArray s 0 0 (AG G)) (F0 m 196 ls []) := by
    intro c0 c1 c2 n s196 r196 hr hq
    refine lp_ind (P := fun s196 => ∀ (ls : Array Slot) (H : Heap) (locs : List Loc), lv_has ls 4 [(0, .ref c0), (1, .ref c1), (2, .int c2), (3, .int s196.1)] → HH G s196.2 H → va_S (AG G) s.heap H locs → W p l e (rm_ 1 0 0) s m ([.ref a0, .ref a1] : List Value).toArray below meth c H locs 0 0 (MQ below (PostC G σf none) ([.ref a0, .ref a1] : List Value).toArray s 0 0 (AG G)) (F0 m 196 ls [])) (Q := fun r196 => ∀ (ls : Array Slot) (H : Heap) (locs : List Loc), lv_has ls 4 [] → HH G r196 H → va_S (AG G) s.heap H locs → W p l e (rm_ 1 0 0) s m ([.ref a0, .ref a1] : List Value).toArray below meth c H locs 0 0 (MQ below (PostC G σf none) ([.ref a0, .ref a1] : List Value).toArray s 0 0 (AG G)) (F0 m 228 ls [])) ?_ n s196 r196 hr hq
    intro s196 x196 hf hx196 ls H locs hl hH hS
    unfold f_X1_counts_b196 at hf
    refine lv_iload_n hx hb dX1_counts_196 rfl (lv_at hl 3 rfl) ?_
    refine lv_aload_n hx hb dX1_counts_197 rfl (lv_at hl 1 rfl) ?_
    obtain ⟨v26, hv, hf⟩ := bd hf
    refine h_gI X hK hH fo_Code_1 hv q123 dX1_counts_198 ?_
    refine lv_icmp_gt (tgt := 228) hx hb dX1_counts_201 (by decide) (fun c_ => ?_) (fun c_ => ?_)
    · have hf := (if_pos c_).symm.trans hf
      cases hf
      exact hx196 _ _ _ (lv_sub hl [] rfl) hH hS
    · have hf := (if_neg c_).symm.trans hf
      refine lv_iload_n hx hb dX1_counts_204 rfl (lv_at hl 2 rfl) ?_
      refine lv_if_eq (tgt := 228) hx hb dX1_counts_205 (by decide) (fun c_ => ?_) (fun c_ => ?_)
      · have hf := (if_pos c_).symm.trans hf
        cases hf
        exact hx196 _ _ _ (lv_sub hl [] rfl) hH hS
      · have hf := (if_neg c_).symm.trans hf
        refine lv_aload_n hx hb dX1_counts_208 rfl (lv_at hl 0 rfl) ?_
        obtain ⟨v27, hv, hf⟩ := bd hf
        refine h_gR X hK hH fo_X1_3 hv q652 dX1_counts_209 ?_
        refine lv_iload_n hx hb dX1_counts_212 rfl (lv_at hl 3 rfl) ?_
        refine lv_dup2_11 hx hb dX1_counts_213 rfl rfl ?_
        obtain ⟨v28, hv, hf⟩ := bd hf
        refine h_aL X hK hH hv dX1_counts_214 ?_
        refine lv_aload_n hx hb dX1_counts_215 rfl (lv_at hl 0 rfl) ?_
        obtain ⟨v29, hv, hf⟩ := bd hf
        refine h_gI X hK hH fo_X1_2 hv q651 dX1_counts_216 ?_
        refine lv_i2l (v := (v29).toInt64) hx hb dX1_counts_219 rfl ?_
        obtain ⟨v30, hv, hf⟩ := bd hf
        refine r_ldiv hx hb hv dX1_counts_220 ?_
        obtain ⟨t31, hv, hf⟩ := bd hf
        refine h_wL X hK hH hS hv dX1_counts_221 (fun H locs hH hS => ?_)
        refine lv_iinc (v := (s196.1 + 1)) (lv' := [(3, .int (s196.1 + 1)), (0, .ref c0), (1, .ref c1), (2, .int c2)]) hx hb dX1_counts_222 hl (k := 3) rfl rfl (by decide) rfl (fun ls hl => ?_)
        refine lv_goto (tgt := 196) hx hb dX1_counts_225 (by decide) ?_
        cases hf
        exact hx196 _ _ _ (lv_sub hl [1, 2, 3, 0] rfl) hH hS
  have J150 : ∀ (d0 : Nat) (d1 : Nat) (k0 : Int32) (u150 : SG), f_X1_counts_j150 N d0 d1 k0 u150 = some σf → ∀ (ls : Array Slot) (H : Heap) (locs : List Loc), lv_has ls 4 [(0, .ref d0), (1, .ref d1)] → HH G u150 H → va_S (AG G) s.heap H locs → W p l e (rm_ 1 0 0) s m ([.ref a0, .ref a1] : List Value).toArray below meth c H locs 0 0 (MQ below (PostC G σf none) ([.ref a0, .ref a1] : List Value).toArray s 0 0 (AG G)) (F0 m 150 ls [.int k0]) := by
    intro d0 d1 k0 u150 hf ls H locs hl hH hS
    unfold f_X1_counts_j150 at hf
    refine lv_istore_n (lv' := [(2, .int k0), (0, .ref d0), (1, .ref d1)]) hx hb dX1_counts_150 rfl hl (by decide) rfl (fun ls hl => ?_)
    refine lv_iconst (v := (0 : Int32)) hx hb dX1_counts_151 (by decide) ?_
    refine lv_istore_n (lv' := [(3, .int (0 : Int32)), (2, .int k0), (0, .ref d0), (1, .ref d1)]) hx hb dX1_counts_152 rfl hl (by decide) rfl (fun ls hl => ?_)
    obtain ⟨r153_25, hr, hf⟩ := bd hf
    refine L153 d0 d1 u150 N _ r153_25 hr ?_ _ _ _ (lv_sub hl [2, 3, 1, 0] rfl) hH hS
    intro ls H locs hl hH hS
    refine lv_iconst (v := (0 : Int32)) hx hb dX1_counts_194 (by decide) ?_
    refine lv_istore_n (lv' := [(3, .int (0 : Int32)), (0, .ref d0), (1, .ref d1), (2, .int r153_25)]) hx hb dX1_counts_195 rfl hl (by decide) rfl (fun ls hl => ?_)
    obtain ⟨r196_32, hr, hf⟩ := bd hf
    refine L196 d0 d1 r153_25 N _ r196_32 hr ?_ _ _ _ (lv_sub hl [1, 2, 3, 0] rfl) hH hS
    intro ls H locs hl hH hS
    cases hf
    exact r_vret X dX1_counts_228 (Nat.le_of_ble_eq_true rfl) (Nat.le_of_ble_eq_true rfl) rfl hH hS
  have L30 : ∀ (c0 : Nat) (c1 : Nat) (n : Nat) (s30 : (Int32 × SG)) (r30 : SG), lp (f_X1_counts_b30 N c0 c1) n s30 = some r30 → (∀ (ls : Array Slot) (H : Heap) (locs : List Loc), lv_has ls 4 [] → HH G r30 H → va_S (AG G) s.heap H locs → W p l e (rm_ 1 0 0) s m ([.ref a0, .ref a1] : List Value).toArray below meth c H locs 0 0 (MQ below (PostC G σf none) ([.ref a0, .ref a1] : List Value).toArray s 0 0 (AG G)) (F0 m 72 ls [])) → ∀ (ls : Array Slot) (H : Heap) (locs : List Loc), lv_has ls 4 [(0, .ref c0), (1, .ref c1), (2, .int s30.1)] → HH G s30.2 H → va_S (AG G) s.heap H locs → W p l e (rm_ 1 0 0) s m ([.ref a0, .ref a1] : List Value).toArray below meth c H locs 0 0 (MQ below (PostC G σf none) ([.ref a0, .ref a1] : List Value).toArray s 0 0 (AG G)) (F0 m 30 ls []) := by
    intro c0 c1 n s30 r30 hr hq
    refine lp_ind (P := fun s30 => ∀ (ls : Array Slot) (H : Heap) (locs : List Loc), lv_has ls 4 [(0, .ref c0), (1, .ref c1), (2, .int s30.1)] → HH G s30.2 H → va_S (AG G) s.heap H locs → W p l e (rm_ 1 0 0) s m ([.ref a0, .ref a1] : List Value).toArray below meth c H locs 0 0 (MQ below (PostC G σf none) ([.ref a0, .ref a1] : List Value).toArray s 0 0 (AG G)) (F0 m 30 ls [])) (Q := fun r30 => ∀ (ls : Array Slot) (H : Heap) (locs : List Loc), lv_has ls 4 [] → HH G r30 H → va_S (AG G) s.heap H locs → W p l e (rm_ 1 0 0) s m ([.ref a0, .ref a1] : List Value).toArray below meth c H locs 0 0 (MQ below (PostC G σf none) ([.ref a0, .ref a1] : List Value).toArray s 0 0 (AG G)) (F0 m 72 ls [])) ?_ n s30 r30 hr hq
    intro s30 x30 hf hx30 ls H locs hl hH hS
    unfold f_X1_counts_b30 at hf
    refine lv_iload_n hx hb dX1_counts_30 rfl (lv_at hl 2 rfl) ?_
    refine lv_aload_n hx hb dX1_counts_31 rfl (lv_at hl 0 rfl) ?_
    obtain ⟨v33, hv, hf⟩ := bd hf
    refine h_gI X hK hH fo_X1_2 hv q651 dX1_counts_32 ?_
    refine lv_icmp_ge (tgt := 72) hx hb dX1_counts_35 (by decide) (fun c_ => ?_) (fun c_ => ?_)
    · have hf := (if_pos c_).symm.trans hf
      cases hf
      exact hx30 _ _ _ (lv_sub hl [] rfl) hH hS
    · have hf := (if_neg c_).symm.trans hf
      refine lv_aload_n hx hb dX1_counts_38 rfl (lv_at hl 0 rfl) ?_
      obtain ⟨v34, hv, hf⟩ := bd hf
      refine h_gR X hK hH fo_X1_3 hv q652 dX1_counts_39 ?_
      refine lv_aload_n hx hb dX1_counts_42 rfl (lv_at hl 1 rfl) ?_
      obtain ⟨v35, hv, hf⟩ := bd hf
      refine h_gI X hK hH fo_Code_0 hv q116 dX1_counts_43 ?_
      refine lv_aload_n hx hb dX1_counts_46 rfl (lv_at hl 1 rfl) ?_
      obtain ⟨v36, hv, hf⟩ := bd hf
      refine h_gI X hK hH fo_Code_1 hv q123 dX1_counts_47 ?_
      refine lv_aload_n hx hb dX1_counts_50 rfl (lv_at hl 0 rfl) ?_
      obtain ⟨v37, hv, hf⟩ := bd hf
      refine h_gR X hK hH fo_X1_1 hv q650 dX1_counts_51 ?_
      refine lv_iload_n hx hb dX1_counts_54 rfl (lv_at hl 2 rfl) ?_
      obtain ⟨v38, hv, hf⟩ := bd hf
      refine h_aL X hK hH hv dX1_counts_55 ?_
      refine lv_lconst (v := (0 : Int64)) hx hb dX1_counts_56 (by decide) ?_
      refine lv_iconst (v := (0 : Int32)) hx hb dX1_counts_57 (by decide) ?_
      obtain ⟨v39, hv, hf⟩ := bd hf
      refine c_S (As := [.int v35, .int v36, .long v38, .long (0 : Int64), .int (0 : Int32)]) (rest := [.ref v34]) (st1 := [.int v39, .ref v34]) X (met_X1_wayOf l G s30.2 N v35 v36 v38 (0 : Int64) (0 : Int32) v39 hv) cs_X1_wayOf q379 rfl rfl rfl hl.1 (Nat.le_of_ble_eq_true rfl) ⟨Nat.le_of_ble_eq_true rfl, Nat.le_of_ble_eq_true rfl⟩ ⟨Nat.le_of_ble_eq_true rfl, Nat.le_of_ble_eq_true rfl⟩ dX1_counts_58 hK hH hS (fun H locs hH hS => ?_)
      refine W.cs (cells' := 0) (slots' := 0) (by rfl) (by rfl) ?_
      refine lv_dup2_11 hx hb dX1_counts_61 rfl rfl ?_
      obtain ⟨v40, hv, hf⟩ := bd hf
      refine h_aL X hK hH hv dX1_counts_62 ?_
      refine lv_lconst (v := (1 : Int64)) hx hb dX1_counts_63 (by decide) ?_
      refine lv_ladd hx hb dX1_counts_64 ?_
      obtain ⟨t41, hv, hf⟩ := bd hf
      refine h_wL X hK hH hS hv dX1_counts_65 (fun H locs hH hS => ?_)
      refine lv_iinc (v := (s30.1 + 1)) (lv' := [(2, .int (s30.1 + 1)), (0, .ref c0), (1, .ref c1)]) hx hb dX1_counts_66 hl (k := 2) rfl rfl (by decide) rfl (fun ls hl => ?_)
      refine lv_goto (tgt := 30) hx hb dX1_counts_69 (by decide) ?_
      cases hf
      exact hx30 _ _ _ (lv_sub hl [1, 2, 0] rfl) hH hS
  refine lv_iconst (v := (0 : Int32)) hx hb dX1_counts_0 (by decide) ?_
  refine lv_istore_n (lv' := [(2, .int (0 : Int32)), (0, .ref a0), (1, .ref a1)]) hx hb dX1_counts_1 rfl hl (by decide) rfl (fun ls hl => ?_)
  obtain ⟨r2_3, hr, hf⟩ := bd hf
  refine L2 a0 a1 N _ r2_3 hr ?_ _ _ _ (lv_sub hl [1, 2, 0] rfl) hH hS
  intro ls H locs hl hH hS
  refine lv_aload_n hx hb dX1_counts_21 rfl (lv_at hl 1 rfl) ?_
  obtain ⟨v4, hv, hf⟩ := bd hf
  refine h_inst (w := (some a1)) X hK hH ca_Line nc_Line hv q152 dX1_counts_22 ?_
  refine lv_if_eq (tgt := 73) hx hb dX1_counts_25 (by decide) (fun c_ => ?_) (fun c_ => ?_)
  · have hf := (if_pos c_).symm.trans hf
    refine lv_iconst (v := (0 : Int32)) hx hb dX1_counts_73 (by decide) ?_
    refine lv_istore_n (lv' := [(2, .int (0 : Int32)), (0, .ref a0), (1, .ref a1)]) hx hb dX1_counts_74 rfl hl (by decide) rfl (fun ls hl => ?_)
    obtain ⟨r75_18, hr, hf⟩ := bd hf
    refine L75 a0 a1 N _ r75_18 hr ?_ _ _ _ (lv_sub hl [1, 2, 0] rfl) hH hS
    intro ls H locs hl hH hS
    refine lv_aload_n hx hb dX1_counts_138 rfl (lv_at hl 0 rfl) ?_
    obtain ⟨v19, hv, hf⟩ := bd hf
    refine h_gI X hK hH fo_X1_2 hv q651 dX1_counts_139 ?_
    refine lv_if_le (tgt := 149) hx hb dX1_counts_142 (by decide) (fun c_ => ?_) (fun c_ => ?_)
    · have hf := (if_pos c_).symm.trans hf
      refine lv_iconst (v := (0 : Int32)) hx hb dX1_counts_149 (by decide) ?_
      exact J150 a0 a1 (0 : Int32) r75_18 hf _ _ _ (lv_sub hl [0, 1] rfl) hH hS
    · have hf := (if_neg c_).symm.trans hf
      refine lv_iconst (v := (1 : Int32)) hx hb dX1_counts_145 (by decide) ?_
      refine lv_goto (tgt := 150) hx hb dX1_counts_146 (by decide) ?_
      exact J150 a0 a1 (1 : Int32) r75_18 hf _ _ _ (lv_sub hl [0, 1] rfl) hH hS
  · have hf := (if_neg c_).symm.trans hf
    refine lv_iconst (v := (0 : Int32)) hx hb dX1_counts_28 (by decide) ?_
    refine lv_istore_n (lv' := [(2, .int (0 : Int32)), (0, .ref a0), (1, .ref a1)]) hx hb dX1_counts_29 rfl hl (by decide) rfl (fun ls hl => ?_)
    obtain ⟨r30_42, hr, hf⟩ := bd hf
    refine L30 a0 a1 N _ r30_42 hr ?_ _ _ _ (lv_sub hl [1, 2, 0] rfl) hH hS
    intro ls H locs hl hH hS
    cases hf
    exact r_vret X dX1_counts_72 (Nat.le_of_ble_eq_true rfl) (Nat.le_of_ble_eq_true rfl) rfl hH hS
theorem cv_X1_beat : CalV "WordBench" yX1_beat cX1_beat 7 (some .int) 1 := ⟨q441, q442, q48, q443, by decide +kernel⟩
set_option maxHeartbeats 4000000 in
theorem met_X1_beat (l : Launch) (G : GG) (σ : SG) (N : Nat) (a0 : Nat) (a1 : Int32) (σf : SG) (rf : Int32) (hf : f_X1_beat N σ a0 a1 = some (σf, rf)) : Con l yX1_beat cX1_beat 7 (some .int) 6 16 185 G σ [.ref a0, .int a1] σf (some (.int rf)) := by
  refine con_of (by decide) (Nat.le_of_ble_eq_true rfl) ?_
  intro p e s m below meth c ls X hK hH hl hS
  have hx := X.1
  have hb := X.2.1
  have hml := X.2.2.2.1
  have hown : s.vm.findClass RX1 = some m.cls := X.2.2.2.2.1
  have hts := X.2.2.2.2.2.1
  have hl : lv_has ls 7 [(0, .ref a0), (1, .int a1)] := hl
  unfold f_X1_beat at hf
  have L27 : ∀ (c0 : Nat) (c1 : Int32) (t27 : SG) (n : Nat) (s27 : (Int32 × Int32)) (r27 : Int32), lp (f_X1_beat_b27 N c0 c1 t27) n s27 = some r27 → (∀ (ls : Array Slot) (H : Heap) (locs : List Loc), lv_has ls 7 [(3, .int r27)] → HH G t27 H → va_S (AG G) s.heap H locs → W p l e (rm_ 6 16 185) s m ([.ref a0, .int a1] : List Value).toArray below meth c H locs 16 185 (MQ below (PostC G σf (some (.int rf))) ([.ref a0, .int a1] : List Value).toArray s 16 185 (AG G)) (F0 m 88 ls [])) → ∀ (ls : Array Slot) (H : Heap) (locs : List Loc), lv_has ls 7 [(0, .ref c0), (1, .int c1), (3, .int s27.1), (4, .int s27.2)] → HH G t27 H → va_S (AG G) s.heap H locs → W p l e (rm_ 6 16 185) s m ([.ref a0, .int a1] : List Value).toArray below meth c H locs 16 185 (MQ below (PostC G σf (some (.int rf))) ([.ref a0, .int a1] : List Value).toArray s 16 185 (AG G)) (F0 m 27 ls []) := by
    intro c0 c1 t27 n s27 r27 hr hq
    refine lp_ind (P := fun s27 => ∀ (ls : Array Slot) (H : Heap) (locs : List Loc), lv_has ls 7 [(0, .ref c0), (1, .int c1), (3, .int s27.1), (4, .int s27.2)] → HH G t27 H → va_S (AG G) s.heap H locs → W p l e (rm_ 6 16 185) s m ([.ref a0, .int a1] : List Value).toArray below meth c H locs 16 185 (MQ below (PostC G σf (some (.int rf))) ([.ref a0, .int a1] : List Value).toArray s 16 185 (AG G)) (F0 m 27 ls [])) (Q := fun r27 => ∀ (ls : Array Slot) (H : Heap) (locs : List Loc), lv_has ls 7 [(3, .int r27)] → HH G t27 H → va_S (AG G) s.heap H locs → W p l e (rm_ 6 16 185) s m ([.ref a0, .int a1] : List Value).toArray below meth c H locs 16 185 (MQ below (PostC G σf (some (.int rf))) ([.ref a0, .int a1] : List Value).toArray s 16 185 (AG G)) (F0 m 88 ls [])) ?_ n s27 r27 hr hq
    intro s27 x27 hf hx27 ls H locs hl hH hS
    unfold f_X1_beat_b27 at hf
    have L61 : ∀ (c0 : Nat) (c1 : Int32) (c4 : Int32) (t61 : SG) (n : Nat) (s61 : (Int32 × Int32)) (r61 : Int32), lp (f_X1_beat_b61 N c0 c1 c4 t61) n s61 = some r61 → (∀ (ls : Array Slot) (H : Heap) (locs : List Loc), lv_has ls 7 [(0, .ref c0), (1, .int c1), (3, .int r61), (4, .int c4)] → HH G t61 H → va_S (AG G) s.heap H locs → W p l e (rm_ 6 16 185) s m ([.ref a0, .int a1] : List Value).toArray below meth c H locs 16 185 (MQ below (PostC G σf (some (.int rf))) ([.ref a0, .int a1] : List Value).toArray s 16 185 (AG G)) (F0 m 82 ls [])) → ∀ (ls : Array Slot) (H : Heap) (locs : List Loc), lv_has ls 7 [(0, .ref c0), (1, .int c1), (3, .int s61.1), (4, .int c4), (5, .int s61.2)] → HH G t61 H → va_S (AG G) s.heap H locs → W p l e (rm_ 6 16 185) s m ([.ref a0, .int a1] : List Value).toArray below meth c H locs 16 185 (MQ below (PostC G σf (some (.int rf))) ([.ref a0, .int a1] : List Value).toArray s 16 185 (AG G)) (F0 m 61 ls []) := by
      intro c0 c1 c4 t61 n s61 r61 hr hq
      refine lp_ind (P := fun s61 => ∀ (ls : Array Slot) (H : Heap) (locs : List Loc), lv_has ls 7 [(0, .ref c0), (1, .int c1), (3, .int s61.1), (4, .int c4), (5, .int s61.2)] → HH G t61 H → va_S (AG G) s.heap H locs → W p l e (rm_ 6 16 185) s m ([.ref a0, .int a1] : List Value).toArray below meth c H locs 16 185 (MQ below (PostC G σf (some (.int rf))) ([.ref a0, .int a1] : List Value).toArray s 16 185 (AG G)) (F0 m 61 ls [])) (Q := fun r61 => ∀ (ls : Array Slot) (H : Heap) (locs : List Loc), lv_has ls 7 [(0, .ref c0), (1, .int c1), (3, .int r61), (4, .int c4)] → HH G t61 H → va_S (AG G) s.heap H locs → W p l e (rm_ 6 16 185) s m ([.ref a0, .int a1] : List Value).toArray below meth c H locs 16 185 (MQ below (PostC G σf (some (.int rf))) ([.ref a0, .int a1] : List Value).toArray s 16 185 (AG G)) (F0 m 82 ls [])) ?_ n s61 r61 hr hq
      intro s61 x61 hf hx61 ls H locs hl hH hS
      unfold f_X1_beat_b61 at hf
      refine lv_iload hx hb dX1_beat_61 (lv_at hl 4 rfl) ?_
      refine lv_if_eq (tgt := 82) hx hb dX1_beat_63 (by decide) (fun c_ => ?_) (fun c_ => ?_)
      · have hf := (if_pos c_).symm.trans hf
        cases hf
        exact hx61 _ _ _ (lv_sub hl [0, 1, 2, 3] rfl) hH hS
      · have hf := (if_neg c_).symm.trans hf
        refine lv_iload_n hx hb dX1_beat_66 rfl (lv_at hl 2 rfl) ?_
        refine lv_iload hx hb dX1_beat_67 (lv_at hl 4 rfl) ?_
        obtain ⟨v12, hv, hf⟩ := bd hf
        refine r_irem hx hb hv dX1_beat_69 ?_
        refine lv_istore (lv' := [(6, .int v12), (0, .ref c0), (1, .int c1), (3, .int s61.1), (4, .int c4), (5, .int s61.2)]) hx hb dX1_beat_70 hl (by decide) rfl (fun ls hl => ?_)
        refine lv_iload hx hb dX1_beat_72 (lv_at hl 5 rfl) ?_
        refine lv_istore_n (lv' := [(3, .int s61.2), (6, .int v12), (0, .ref c0), (1, .int c1), (4, .int c4), (5, .int s61.2)]) hx hb dX1_beat_74 rfl hl (by decide) rfl (fun ls hl => ?_)
        refine lv_iload hx hb dX1_beat_75 (lv_at hl 1 rfl) ?_
        refine lv_istore (lv' := [(5, .int v12), (3, .int s61.2), (6, .int v12), (0, .ref c0), (1, .int c1), (4, .int c4)]) hx hb dX1_beat_77 hl (by decide) rfl (fun ls hl => ?_)
        refine lv_goto (tgt := 61) hx hb dX1_beat_79 (by decide) ?_
        cases hf
        exact hx61 _ _ _ (lv_sub hl [3, 4, 1, 5, 0] rfl) hH hS
    refine lv_iload hx hb dX1_beat_27 (lv_at hl 3 rfl) ?_
    refine lv_aload_n hx hb dX1_beat_29 rfl (lv_at hl 0 rfl) ?_
    obtain ⟨v6, hv, hf⟩ := bd hf
    refine h_gR X hK hH fo_X1_0 hv q649 dX1_beat_30 ?_
    refine lv_iload_n hx hb dX1_beat_33 rfl (lv_at hl 1 rfl) ?_
    obtain ⟨v7, hv, hf⟩ := bd hf
    refine h_aQ (by decide) X hK hH hv dX1_beat_34 ?_
    obtain ⟨b8, hq, hz⟩ := bd hf
    clear hf
    subst hq
    have hf := hz
    clear hz
    obtain ⟨v9, hv, hf⟩ := bd hf
    refine h_gI X hK hH fo_Code_1 hv q123 dX1_beat_35 ?_
    refine lv_icmp_gt (tgt := 88) hx hb dX1_beat_38 (by decide) (fun c_ => ?_) (fun c_ => ?_)
    · have hf := (if_pos c_).symm.trans hf
      cases hf
      exact hx27 _ _ _ (lv_sub hl [2] rfl) hH hS
    · have hf := (if_neg c_).symm.trans hf
      refine lv_aload_n hx hb dX1_beat_41 rfl (lv_at hl 0 rfl) ?_
      obtain ⟨v10, hv, hf⟩ := bd hf
      refine h_gR X hK hH fo_X1_3 hv q652 dX1_beat_42 ?_
      refine lv_iload hx hb dX1_beat_45 (lv_at hl 3 rfl) ?_
      obtain ⟨v11, hv, hf⟩ := bd hf
      refine h_aL X hK hH hv dX1_beat_47 ?_
      refine lv_lconst (v := (0 : Int64)) hx hb dX1_beat_48 (by decide) ?_
      refine W.lcmp hx hb dX1_beat_49 ?_
      refine lv_if_ne (tgt := 57) hx hb dX1_beat_50 (by decide) (fun c_ => ?_) (fun c_ => ?_)
      · have hf := (if_neg (fun z => c_ ((lg_cmp_eq v11 (0 : Int64)).mpr z))).symm.trans hf
        refine lv_iload hx hb dX1_beat_57 (lv_at hl 3 rfl) ?_
        refine lv_istore (lv' := [(5, .int s27.2), (0, .ref c0), (1, .int c1), (3, .int s27.1), (4, .int s27.2)]) hx hb dX1_beat_59 hl (by decide) rfl (fun ls hl => ?_)
        obtain ⟨r61_13, hr, hf⟩ := bd hf
        refine L61 c0 c1 s27.2 t27 N _ r61_13 hr ?_ _ _ _ (lv_sub hl [1, 2, 3, 4, 0] rfl) hH hS
        intro ls H locs hl hH hS
        refine lv_iinc (v := (s27.2 + 1)) (lv' := [(4, .int (s27.2 + 1)), (0, .ref c0), (1, .int c1), (3, .int r61_13)]) hx hb dX1_beat_82 hl (k := 3) rfl rfl (by decide) rfl (fun ls hl => ?_)
        refine lv_goto (tgt := 27) hx hb dX1_beat_85 (by decide) ?_
        cases hf
        exact hx27 _ _ _ (lv_sub hl [1, 2, 3, 0] rfl) hH hS
      · have hf := (if_pos ((lg_cmp_eq v11 (0 : Int64)).mp c_)).symm.trans hf
        refine lv_iconst (v := (0 : Int32)) hx hb dX1_beat_53 (by decide) ?_
        refine lv_goto (tgt := 59) hx hb dX1_beat_54 (by decide) ?_
        refine lv_istore (lv' := [(5, .int (0 : Int32)), (0, .ref c0), (1, .int c1), (3, .int s27.1), (4, .int s27.2)]) hx hb dX1_beat_59 hl (by decide) rfl (fun ls hl => ?_)
        obtain ⟨r61_14, hr, hf⟩ := bd hf
        refine L61 c0 c1 s27.2 t27 N _ r61_14 hr ?_ _ _ _ (lv_sub hl [1, 2, 3, 4, 0] rfl) hH hS
        intro ls H locs hl hH hS
        refine lv_iinc (v := (s27.2 + 1)) (lv' := [(4, .int (s27.2 + 1)), (0, .ref c0), (1, .int c1), (3, .int r61_14)]) hx hb dX1_beat_82 hl (k := 3) rfl rfl (by decide) rfl (fun ls hl => ?_)
        refine lv_goto (tgt := 27) hx hb dX1_beat_85 (by decide) ?_
        cases hf
        exact hx27 _ _ _ (lv_sub hl [1, 2, 3, 0] rfl) hH hS
  refine lv_aload_n hx hb dX1_beat_0 rfl (lv_at hl 0 rfl) ?_
  refine lv_iload_n hx hb dX1_beat_1 rfl (lv_at hl 1 rfl) ?_
  obtain ⟨_, hw, hf⟩ := bd hf
  obtain ⟨v1, hv, hf⟩ := bd hf
  refine c_V (As := [.int a1]) (rest := []) (st1 := [.int v1.2]) X (met_X1_whyWords l G σ N a0 a1 v1.1 v1.2 hv) cv_X1_whyWords q419 (recv1 (w := (RX1, TX1, 6)) hw hK hH rfl) rfl rfl rfl hl.1 (Nat.le_of_ble_eq_true rfl) ⟨Nat.le_of_ble_eq_true rfl, Nat.le_of_ble_eq_true rfl⟩ ⟨Nat.le_of_ble_eq_true rfl, Nat.le_of_ble_eq_true rfl⟩ dX1_beat_2 hK hH hS (fun H locs hH hS => ?_)
  refine W.cs (cells' := 16) (slots' := 185) (by rfl) (by rfl) ?_
  refine lv_istore_n (lv' := [(2, .int v1.2), (0, .ref a0), (1, .int a1)]) hx hb dX1_beat_5 rfl hl (by decide) rfl (fun ls hl => ?_)
  refine lv_iload_n hx hb dX1_beat_6 rfl (lv_at hl 0 rfl) ?_
  refine lv_if_eq (tgt := 12) hx hb dX1_beat_7 (by decide) (fun c_ => ?_) (fun c_ => ?_)
  · have hf := (if_pos c_).symm.trans hf
    refine lv_aload_n hx hb dX1_beat_12 rfl (lv_at hl 1 rfl) ?_
    refine lv_aload_n hx hb dX1_beat_13 rfl (lv_at hl 1 rfl) ?_
    obtain ⟨v2, hv, hf⟩ := bd hf
    refine h_gR X hK hH fo_X1_0 hv q649 dX1_beat_14 ?_
    refine lv_iload_n hx hb dX1_beat_17 rfl (lv_at hl 2 rfl) ?_
    obtain ⟨v3, hv, hf⟩ := bd hf
    refine h_aQ (by decide) X hK hH hv dX1_beat_18 ?_
    obtain ⟨b4, hq, hz⟩ := bd hf
    clear hf
    subst hq
    have hf := hz
    clear hz
    obtain ⟨_, hw, hf⟩ := bd hf
    obtain ⟨v5, hv, hf⟩ := bd hf
    refine c_V (As := [.ref b4]) (rest := []) (st1 := []) X (met_X1_counts l G v1.1 N a0 b4 v5 hv) cv_X1_counts q432 (recv1 (w := (RX1, TX1, 6)) hw hK hH rfl) rfl rfl rfl hl.1 (Nat.le_of_ble_eq_true rfl) ⟨Nat.le_of_ble_eq_true rfl, Nat.le_of_ble_eq_true rfl⟩ ⟨Nat.le_of_ble_eq_true rfl, Nat.le_of_ble_eq_true rfl⟩ dX1_beat_19 hK hH hS (fun H locs hH hS => ?_)
    refine W.cs (cells' := 16) (slots' := 185) (by rfl) (by rfl) ?_
    refine lv_iconst (v := (0 : Int32)) hx hb dX1_beat_22 (by decide) ?_
    refine lv_istore_n (lv' := [(3, .int (0 : Int32)), (2, .int v1.2), (0, .ref a0), (1, .int a1)]) hx hb dX1_beat_23 rfl hl (by decide) rfl (fun ls hl => ?_)
    refine lv_iconst (v := (1 : Int32)) hx hb dX1_beat_24 (by decide) ?_
    refine lv_istore (lv' := [(4, .int (1 : Int32)), (3, .int (0 : Int32)), (2, .int v1.2), (0, .ref a0), (1, .int a1)]) hx hb dX1_beat_25 hl (by decide) rfl (fun ls hl => ?_)
    obtain ⟨r27_15, hr, hf⟩ := bd hf
    refine L27 a0 a1 v5 N _ r27_15 hr ?_ _ _ _ (lv_sub hl [3, 4, 1, 0] rfl) hH hS
    intro ls H locs hl hH hS
    refine lv_iload_n hx hb dX1_beat_88 rfl (lv_at hl 0 rfl) ?_
    cases hf
    exact r_iret X dX1_beat_89 (Nat.le_of_ble_eq_true rfl) (Nat.le_of_ble_eq_true rfl) rfl hH hS
  · have hf := (if_neg c_).symm.trans hf
    refine lv_iload_n hx hb dX1_beat_10 rfl (lv_at hl 0 rfl) ?_
    cases hf
    exact r_iret X dX1_beat_11 (Nat.le_of_ble_eq_true rfl) (Nat.le_of_ble_eq_true rfl) rfl hH hS
theorem cv_X1_bound : CalV "WordBench" yX1_bound cX1_bound 5 (some .long) 4 := ⟨q445, q446, q48, q447, by decide +kernel⟩
set_option maxHeartbeats 4000000 in
theorem met_X1_bound (l : Launch) (G : GG) (σ : SG) (N : Nat) (a0 : Nat) (a1 : Int32) (a2 : Int32) (a3 : Int32) (a4 : Int32) (rf : Int64) (hf : f_X1_bound N a0 a1 a2 a3 a4 = some rf) : Con l yX1_bound cX1_bound 5 (some .long) 2 0 0 G σ [.ref a0, .int a1, .int a2, .int a3, .int a4] σ (some (.long rf)) := by
  refine con_of (by decide) (Nat.le_of_ble_eq_true rfl) ?_
  intro p e s m below meth c ls X hK hH hl hS
  have hx := X.1
  have hb := X.2.1
  have hml := X.2.2.2.1
  have hown : s.vm.findClass RX1 = some m.cls := X.2.2.2.2.1
  have hts := X.2.2.2.2.2.1
  have hl : lv_has ls 5 [(0, .ref a0), (1, .int a1), (2, .int a2), (3, .int a3), (4, .int a4)] := hl
  unfold f_X1_bound at hf
  refine lv_iload_n hx hb dX1_bound_0 rfl (lv_at hl 1 rfl) ?_
  refine lv_iload_n hx hb dX1_bound_1 rfl (lv_at hl 2 rfl) ?_
  obtain ⟨v1, hv, hf⟩ := bd hf
  refine c_S (As := [.int a1, .int a2]) (rest := []) (st1 := [.int v1]) X (met_X1_isField l G _ N a1 a2 v1 hv) cs_X1_isField q89 rfl rfl rfl hl.1 (Nat.le_of_ble_eq_true rfl) ⟨Nat.le_of_ble_eq_true rfl, Nat.le_of_ble_eq_true rfl⟩ ⟨Nat.le_of_ble_eq_true rfl, Nat.le_of_ble_eq_true rfl⟩ dX1_bound_2 hK hH hS (fun H locs hH hS => ?_)
  refine W.cs (cells' := 0) (slots' := 0) (by rfl) (by rfl) ?_
  refine lv_if_eq (tgt := 30) hx hb dX1_bound_5 (by decide) (fun c_ => ?_) (fun c_ => ?_)
  · have hf := (if_pos c_).symm.trans hf
    refine lv_ldc2 (v := (-1 : Int64)) hx hb hown (hts _ q374) dX1_bound_30 ?_
    cases hf
    exact r_lret X dX1_bound_33 (Nat.le_of_ble_eq_true rfl) (Nat.le_of_ble_eq_true rfl) rfl hH hS
  · have hf := (if_neg c_).symm.trans hf
    refine lv_iload_n hx hb dX1_bound_8 rfl (lv_at hl 3 rfl) ?_
    refine lv_i2l (v := (a3).toInt64) hx hb dX1_bound_9 rfl ?_
    refine lv_lconst (v := (1 : Int64)) hx hb dX1_bound_10 (by decide) ?_
    refine lv_iload_n hx hb dX1_bound_11 rfl (lv_at hl 2 rfl) ?_
    refine lv_i2l (v := (a2).toInt64) hx hb dX1_bound_12 rfl ?_
    obtain ⟨v2, hv, hf⟩ := bd hf
    refine c_S (As := [.long ((a3).toInt64), .long (1 : Int64), .long ((a2).toInt64)]) (rest := []) (st1 := [.int v2]) X (met_X1_isIn l G _ N ((a3).toInt64) (1 : Int64) ((a2).toInt64) v2 hv) cs_X1_isIn q86 rfl rfl rfl hl.1 (Nat.le_of_ble_eq_true rfl) ⟨Nat.le_of_ble_eq_true rfl, Nat.le_of_ble_eq_true rfl⟩ ⟨Nat.le_of_ble_eq_true rfl, Nat.le_of_ble_eq_true rfl⟩ dX1_bound_13 hK hH hS (fun H locs hH hS => ?_)
    refine W.cs (cells' := 0) (slots' := 0) (by rfl) (by rfl) ?_
    refine lv_if_eq (tgt := 30) hx hb dX1_bound_16 (by decide) (fun c_ => ?_) (fun c_ => ?_)
    · have hf := (if_pos c_).symm.trans hf
      refine lv_ldc2 (v := (-1 : Int64)) hx hb hown (hts _ q374) dX1_bound_30 ?_
      cases hf
      exact r_lret X dX1_bound_33 (Nat.le_of_ble_eq_true rfl) (Nat.le_of_ble_eq_true rfl) rfl hH hS
    · have hf := (if_neg c_).symm.trans hf
      refine lv_iload hx hb dX1_bound_19 (lv_at hl 4 rfl) ?_
      refine lv_i2l (v := (a4).toInt64) hx hb dX1_bound_21 rfl ?_
      refine lv_lconst (v := (0 : Int64)) hx hb dX1_bound_22 (by decide) ?_
      refine lv_lconst (v := (1 : Int64)) hx hb dX1_bound_23 (by decide) ?_
      obtain ⟨v3, hv, hf⟩ := bd hf
      refine c_S (As := [.long ((a4).toInt64), .long (0 : Int64), .long (1 : Int64)]) (rest := []) (st1 := [.int v3]) X (met_X1_isIn l G _ N ((a4).toInt64) (0 : Int64) (1 : Int64) v3 hv) cs_X1_isIn q86 rfl rfl rfl hl.1 (Nat.le_of_ble_eq_true rfl) ⟨Nat.le_of_ble_eq_true rfl, Nat.le_of_ble_eq_true rfl⟩ ⟨Nat.le_of_ble_eq_true rfl, Nat.le_of_ble_eq_true rfl⟩ dX1_bound_24 hK hH hS (fun H locs hH hS => ?_)
      refine W.cs (cells' := 0) (slots' := 0) (by rfl) (by rfl) ?_
      refine lv_if_ne (tgt := 34) hx hb dX1_bound_27 (by decide) (fun c_ => ?_) (fun c_ => ?_)
      · have hf := (if_neg c_).symm.trans hf
        refine lv_iload hx hb dX1_bound_34 (lv_at hl 4 rfl) ?_
        refine lv_if_ne (tgt := 58) hx hb dX1_bound_36 (by decide) (fun c_ => ?_) (fun c_ => ?_)
        · have hf := (if_neg c_).symm.trans hf
          refine lv_iload_n hx hb dX1_bound_58 rfl (lv_at hl 1 rfl) ?_
          refine lv_iload_n hx hb dX1_bound_59 rfl (lv_at hl 2 rfl) ?_
          refine lv_iload_n hx hb dX1_bound_60 rfl (lv_at hl 3 rfl) ?_
          refine lv_isub hx hb dX1_bound_61 ?_
          refine lv_iconst (v := (1 : Int32)) hx hb dX1_bound_62 (by decide) ?_
          refine lv_iadd hx hb dX1_bound_63 ?_
          obtain ⟨v4, hv, hf⟩ := bd hf
          refine c_S (As := [.int a1, .int ((a2 - a3) + (1 : Int32))]) (rest := []) (st1 := [.long v4]) X (met_X1_power l G _ N a1 ((a2 - a3) + (1 : Int32)) v4 hv) cs_X1_power q190 rfl rfl rfl hl.1 (Nat.le_of_ble_eq_true rfl) ⟨Nat.le_of_ble_eq_true rfl, Nat.le_of_ble_eq_true rfl⟩ ⟨Nat.le_of_ble_eq_true rfl, Nat.le_of_ble_eq_true rfl⟩ dX1_bound_64 hK hH hS (fun H locs hH hS => ?_)
          refine W.cs (cells' := 0) (slots' := 0) (by rfl) (by rfl) ?_
          cases hf
          exact r_lret X dX1_bound_67 (Nat.le_of_ble_eq_true rfl) (Nat.le_of_ble_eq_true rfl) rfl hH hS
        · have hf := (if_pos c_).symm.trans hf
          refine lv_iload_n hx hb dX1_bound_39 rfl (lv_at hl 1 rfl) ?_
          refine lv_iload_n hx hb dX1_bound_40 rfl (lv_at hl 2 rfl) ?_
          obtain ⟨v5, hv, hf⟩ := bd hf
          refine c_S (As := [.int a1, .int a2]) (rest := []) (st1 := [.long v5]) X (met_X1_power l G _ N a1 a2 v5 hv) cs_X1_power q190 rfl rfl rfl hl.1 (Nat.le_of_ble_eq_true rfl) ⟨Nat.le_of_ble_eq_true rfl, Nat.le_of_ble_eq_true rfl⟩ ⟨Nat.le_of_ble_eq_true rfl, Nat.le_of_ble_eq_true rfl⟩ dX1_bound_41 hK hH hS (fun H locs hH hS => ?_)
          refine W.cs (cells' := 0) (slots' := 0) (by rfl) (by rfl) ?_
          refine lv_iload_n hx hb dX1_bound_44 rfl (lv_at hl 1 rfl) ?_
          refine lv_iload_n hx hb dX1_bound_45 rfl (lv_at hl 2 rfl) ?_
          refine lv_iload_n hx hb dX1_bound_46 rfl (lv_at hl 3 rfl) ?_
          refine lv_iconst (v := (1 : Int32)) hx hb dX1_bound_47 (by decide) ?_
          refine lv_isub hx hb dX1_bound_48 ?_
          refine lv_iconst (v := (2 : Int32)) hx hb dX1_bound_49 (by decide) ?_
          obtain ⟨v6, hv, hf⟩ := bd hf
          refine r_idiv hx hb hv dX1_bound_50 ?_
          obtain ⟨v7, hv, hf⟩ := bd hf
          refine c_S (As := [.int a1, .int a2, .int v6]) (rest := [.long v5]) (st1 := [.long v7, .long v5]) X (met_X1_ball l G _ N a1 a2 v6 v7 hv) cs_X1_ball q448 rfl rfl rfl hl.1 (Nat.le_of_ble_eq_true rfl) ⟨Nat.le_of_ble_eq_true rfl, Nat.le_of_ble_eq_true rfl⟩ ⟨Nat.le_of_ble_eq_true rfl, Nat.le_of_ble_eq_true rfl⟩ dX1_bound_51 hK hH hS (fun H locs hH hS => ?_)
          refine W.cs (cells' := 0) (slots' := 0) (by rfl) (by rfl) ?_
          obtain ⟨v8, hv, hf⟩ := bd hf
          refine r_ldiv hx hb hv dX1_bound_54 ?_
          refine lv_goto (tgt := 67) hx hb dX1_bound_55 (by decide) ?_
          cases hf
          exact r_lret X dX1_bound_67 (Nat.le_of_ble_eq_true rfl) (Nat.le_of_ble_eq_true rfl) rfl hH hS
      · have hf := (if_pos c_).symm.trans hf
        refine lv_ldc2 (v := (-1 : Int64)) hx hb hown (hts _ q374) dX1_bound_30 ?_
        cases hf
        exact r_lret X dX1_bound_33 (Nat.le_of_ble_eq_true rfl) (Nat.le_of_ble_eq_true rfl) rfl hH hS
theorem cv_X1_whyWord : CalV "WordBench" yX1_whyWord cX1_whyWord 4 (some .int) 2 := ⟨q345, qs4, q48, q346, by decide +kernel⟩
set_option maxHeartbeats 4000000 in
theorem met_X1_whyWord (l : Launch) (G : GG) (σ : SG) (N : Nat) (a0 : Nat) (a1 : Int32) (a2 : Int64) (rf : Int32) (hf : f_X1_whyWord N σ a0 a1 a2 = some rf) : Con l yX1_whyWord cX1_whyWord 4 (some .int) 2 0 0 G σ [.ref a0, .int a1, .long a2] σ (some (.int rf)) := by
  refine con_of (by decide) (Nat.le_of_ble_eq_true rfl) ?_
  intro p e s m below meth c ls X hK hH hl hS
  have hx := X.1
  have hb := X.2.1
  have hml := X.2.2.2.1
  have hown : s.vm.findClass RX1 = some m.cls := X.2.2.2.2.1
  have hts := X.2.2.2.2.2.1
  have hl : lv_has ls 4 [(0, .ref a0), (1, .int a1), (2, .long a2)] := hl
  unfold f_X1_whyWord at hf
  refine lv_iload_n hx hb dX1_whyWord_0 rfl (lv_at hl 1 rfl) ?_
  obtain ⟨v1, hv, hf⟩ := bd hf
  refine c_S (As := [.int a1]) (rest := []) (st1 := [.int v1]) X (met_X1_isPlace l G σ N a1 v1 hv) cs_X1_isPlace q82 rfl rfl rfl hl.1 (Nat.le_of_ble_eq_true rfl) ⟨Nat.le_of_ble_eq_true rfl, Nat.le_of_ble_eq_true rfl⟩ ⟨Nat.le_of_ble_eq_true rfl, Nat.le_of_ble_eq_true rfl⟩ dX1_whyWord_1 hK hH hS (fun H locs hH hS => ?_)
  refine W.cs (cells' := 0) (slots' := 0) (by rfl) (by rfl) ?_
  refine lv_if_ne (tgt := 9) hx hb dX1_whyWord_4 (by decide) (fun c_ => ?_) (fun c_ => ?_)
  · have hf := (if_neg c_).symm.trans hf
    refine lv_aload_n hx hb dX1_whyWord_9 rfl (lv_at hl 0 rfl) ?_
    obtain ⟨v2, hv, hf⟩ := bd hf
    refine h_gR X hK hH fo_X1_0 hv q649 dX1_whyWord_10 ?_
    refine lv_iload_n hx hb dX1_whyWord_13 rfl (lv_at hl 1 rfl) ?_
    obtain ⟨v3, hv, hf⟩ := bd hf
    refine h_aQ (by decide) X hK hH hv dX1_whyWord_14 ?_
    rcases v3 with _ | b4
    · dsimp only at hf
      refine lv_ifnonnullN hx hb dX1_whyWord_15 ?_
      refine lv_bipush (v := (-11 : Int32)) hx hb dX1_whyWord_18 (by decide) ?_
      cases hf
      exact r_iret X dX1_whyWord_20 (Nat.le_of_ble_eq_true rfl) (Nat.le_of_ble_eq_true rfl) rfl hH hS
    · dsimp only at hf
      refine lv_ifnonnull (tgt := 21) hx hb dX1_whyWord_15 (by decide) ?_
      refine lv_aload_n hx hb dX1_whyWord_21 rfl (lv_at hl 0 rfl) ?_
      obtain ⟨v5, hv, hf⟩ := bd hf
      refine h_gR X hK hH fo_X1_0 hv q649 dX1_whyWord_22 ?_
      refine lv_iload_n hx hb dX1_whyWord_25 rfl (lv_at hl 1 rfl) ?_
      obtain ⟨v6, hv, hf⟩ := bd hf
      refine h_aQ (by decide) X hK hH hv dX1_whyWord_26 ?_
      obtain ⟨b7, hq, hz⟩ := bd hf
      clear hf
      subst hq
      have hf := hz
      clear hz
      obtain ⟨v8, hv, hf⟩ := bd hf
      refine h_gI X hK hH fo_Code_0 hv q116 dX1_whyWord_27 ?_
      refine lv_aload_n hx hb dX1_whyWord_30 rfl (lv_at hl 0 rfl) ?_
      obtain ⟨v9, hv, hf⟩ := bd hf
      refine h_gR X hK hH fo_X1_0 hv q649 dX1_whyWord_31 ?_
      refine lv_iload_n hx hb dX1_whyWord_34 rfl (lv_at hl 1 rfl) ?_
      obtain ⟨v10, hv, hf⟩ := bd hf
      refine h_aQ (by decide) X hK hH hv dX1_whyWord_35 ?_
      obtain ⟨b11, hq, hz⟩ := bd hf
      clear hf
      subst hq
      have hf := hz
      clear hz
      obtain ⟨v12, hv, hf⟩ := bd hf
      refine h_gI X hK hH fo_Code_1 hv q123 dX1_whyWord_36 ?_
      refine lv_lload_n hx hb dX1_whyWord_39 rfl (lv_at hl 2 rfl) ?_
      obtain ⟨v13, hv, hf⟩ := bd hf
      refine c_S (As := [.int v8, .int v12, .long a2]) (rest := []) (st1 := [.int v13]) X (met_X1_isWord l G σ N v8 v12 a2 v13 hv) cs_X1_isWord q187 rfl rfl rfl hl.1 (Nat.le_of_ble_eq_true rfl) ⟨Nat.le_of_ble_eq_true rfl, Nat.le_of_ble_eq_true rfl⟩ ⟨Nat.le_of_ble_eq_true rfl, Nat.le_of_ble_eq_true rfl⟩ dX1_whyWord_40 hK hH hS (fun H locs hH hS => ?_)
      refine W.cs (cells' := 0) (slots' := 0) (by rfl) (by rfl) ?_
      refine lv_if_eq (tgt := 50) hx hb dX1_whyWord_43 (by decide) (fun c_ => ?_) (fun c_ => ?_)
      · have hf := (if_pos c_).symm.trans hf
        refine lv_iconst (v := (-1 : Int32)) hx hb dX1_whyWord_50 (by decide) ?_
        cases hf
        exact r_iret X dX1_whyWord_51 (Nat.le_of_ble_eq_true rfl) (Nat.le_of_ble_eq_true rfl) rfl hH hS
      · have hf := (if_neg c_).symm.trans hf
        refine lv_iconst (v := (0 : Int32)) hx hb dX1_whyWord_46 (by decide) ?_
        refine lv_goto (tgt := 51) hx hb dX1_whyWord_47 (by decide) ?_
        cases hf
        exact r_iret X dX1_whyWord_51 (Nat.le_of_ble_eq_true rfl) (Nat.le_of_ble_eq_true rfl) rfl hH hS
  · have hf := (if_pos c_).symm.trans hf
    refine lv_iconst (v := (-1 : Int32)) hx hb dX1_whyWord_7 (by decide) ?_
    cases hf
    exact r_iret X dX1_whyWord_8 (Nat.le_of_ble_eq_true rfl) (Nat.le_of_ble_eq_true rfl) rfl hH hS
theorem ci_X4_init : CalI yX4_init cX4_init 4 3 := ⟨q101, q58, q102, rfl, by decide +kernel⟩
set_option maxHeartbeats 4000000 in
theorem met_X4_init (l : Launch) (G : GG) (σ : SG) (N : Nat) (a0 : Nat) (a1 : Int32) (a2 : Int32) (a3 : Int32) (σf : SG) (hf : f_X4_init N σ a0 a1 a2 a3 = some σf) : Con l yX4_init cX4_init 4 none 1 1 200 G σ [.ref a0, .int a1, .int a2, .int a3] σf none := by
  refine con_of (by decide) (Nat.le_of_ble_eq_true rfl) ?_
  intro p e s m below meth c ls X hK hH hl hS
  have hx := X.1
  have hb := X.2.1
  have hml := X.2.2.2.1
  have hown : s.vm.findClass RX4 = some m.cls := X.2.2.2.2.1
  have hts := X.2.2.2.2.2.1
  have hl : lv_has ls 4 [(0, .ref a0), (1, .int a1), (2, .int a2), (3, .int a3)] := hl
  unfold f_X4_init at hf
  refine lv_aload_n hx hb dX4_init_0 rfl (lv_at hl 0 rfl) ?_
  refine W.objInit hx hb hown (hts _ q103) (hts _ q104) (hts _ q105) rfl (by rw [hml]; exact hl.1) rfl dX4_init_1 (Nat.le_of_ble_eq_true rfl) (Nat.le_of_ble_eq_true rfl) ?_
  refine W.eq (g2 := F0 m 4 ls []) rfl ?_
  refine lv_aload_n hx hb dX4_init_4 rfl (lv_at hl 0 rfl) ?_
  refine lv_iload_n hx hb dX4_init_5 rfl (lv_at hl 1 rfl) ?_
  obtain ⟨t1, hv, hf⟩ := bd hf
  refine h_putF (ty := .int) X hK hH hS fo_Code_0 hv q106 rfl rfl (by decide +kernel) rfl rfl dX4_init_6 (fun H locs hH hS => ?_)
  refine lv_aload_n hx hb dX4_init_9 rfl (lv_at hl 0 rfl) ?_
  refine lv_iload_n hx hb dX4_init_10 rfl (lv_at hl 2 rfl) ?_
  obtain ⟨t2, hv, hf⟩ := bd hf
  refine h_putF (ty := .int) X hK hH hS fo_Code_1 hv q117 rfl rfl (by decide +kernel) rfl rfl dX4_init_11 (fun H locs hH hS => ?_)
  refine lv_aload_n hx hb dX4_init_14 rfl (lv_at hl 0 rfl) ?_
  refine lv_iload_n hx hb dX4_init_15 rfl (lv_at hl 3 rfl) ?_
  obtain ⟨t3, hv, hf⟩ := bd hf
  refine h_newa (t := 1) (B := 200) (atype := .long) X hK hH hS (by decide) hv (by decide) q151 (Nat.le_of_ble_eq_true rfl) (Nat.le_of_ble_eq_true rfl) dX4_init_16 (fun H hH hS => ?_)
  refine W.cs (cells' := 1) (slots' := 200) (by rfl) (by rfl) ?_
  obtain ⟨t4, hv, hf⟩ := bd hf
  refine h_putF (ty := (.array .long)) X hK hH hS fo_Code_2 hv q124 rfl rfl (by decide +kernel) rfl rfl dX4_init_18 (fun H locs hH hS => ?_)
  cases hf
  exact r_vret X dX4_init_21 (Nat.le_of_ble_eq_true rfl) (Nat.le_of_ble_eq_true rfl) rfl hH hS
theorem ci_X6_init : CalI yX6_init cX6_init 3 2 := ⟨q155, q60, q156, rfl, by decide +kernel⟩
set_option maxHeartbeats 4000000 in
theorem met_X6_init (l : Launch) (G : GG) (σ : SG) (N : Nat) (a0 : Nat) (a1 : Int32) (a2 : Int32) (σf : SG) (hf : f_X6_init N σ a0 a1 a2 = some σf) : Con l yX6_init cX6_init 3 none 2 1 200 G σ [.ref a0, .int a1, .int a2] σf none := by
  refine con_of (by decide) (Nat.le_of_ble_eq_true rfl) ?_
  intro p e s m below meth c ls X hK hH hl hS
  have hx := X.1
  have hb := X.2.1
  have hml := X.2.2.2.1
  have hown : s.vm.findClass RX6 = some m.cls := X.2.2.2.2.1
  have hts := X.2.2.2.2.2.1
  have hl : lv_has ls 3 [(0, .ref a0), (1, .int a1), (2, .int a2)] := hl
  unfold f_X6_init at hf
  refine lv_aload_n hx hb dX6_init_0 rfl (lv_at hl 0 rfl) ?_
  refine lv_iload_n hx hb dX6_init_1 rfl (lv_at hl 1 rfl) ?_
  refine lv_iload_n hx hb dX6_init_2 rfl (lv_at hl 2 rfl) ?_
  refine lv_bipush (v := (12 : Int32)) hx hb dX6_init_3 (by decide) ?_
  obtain ⟨v1, hv, hf⟩ := bd hf
  refine r_I (As := [.int a1, .int a2, .int (12 : Int32)]) (rest := []) X (met_X4_init l G σ N a0 a1 a2 (12 : Int32) v1 hv) ci_X4_init q157 rfl rfl hl.1 (Nat.le_of_ble_eq_true rfl) ⟨Nat.le_of_ble_eq_true rfl, Nat.le_of_ble_eq_true rfl⟩ ⟨Nat.le_of_ble_eq_true rfl, Nat.le_of_ble_eq_true rfl⟩ dX6_init_5 hK hH hS (fun H locs hH hS => ?_)
  refine W.cs (cells' := 1) (slots' := 200) (by rfl) (by rfl) ?_
  cases hf
  exact r_vret X dX6_init_8 (Nat.le_of_ble_eq_true rfl) (Nat.le_of_ble_eq_true rfl) rfl hH hS
theorem cu_X6_add_4 : CalU "WordBench$Code" "WordBench$Line" ⟨"WordBench$Line", "add", "(J)V"⟩ yX4_add cX4_add 3 none 1 := ⟨q407, q408, q223, q229, q58, by decide +kernel, by decide +kernel, by decide +kernel⟩
theorem cu_X6_add_5 : CalU "WordBench$Code" "WordBench$Own" ⟨"WordBench$Line", "add", "(J)V"⟩ yX4_add cX4_add 3 none 1 := ⟨q407, q409, q223, q229, q58, by decide +kernel, by decide +kernel, by decide +kernel⟩
theorem cu_X6_add_6 : CalU "WordBench$Code" "WordBench$Ring" ⟨"WordBench$Line", "add", "(J)V"⟩ yX4_add cX4_add 3 none 1 := ⟨q407, q410, q223, q229, q58, by decide +kernel, by decide +kernel, by decide +kernel⟩
theorem dr_X6_add {p : Program} {l : Launch} {e : Env} {R : Room} {s : State} {m : MethodId} {args : Array Value} {below : List Frame} {meth : Method} {c : Code} {H : Heap} {locs : List Loc} {cells slots : Nat} {Q : State → Prop} {cc : ByteArray} {pc : Nat} {ls : Array Slot} {rest st0 st1 : List Value} {H0 : Heap} {G : GG} {σ : SG} {yo : MethodName} {nL idx : Nat} {rto : Option FieldType} (N : Nat) {b : Nat} {a0 : Int64} {u : SG} (X : Cx p s m args meth c cc rto nL yo) (q1 : Cond.methodLink yo.cls idx ⟨"WordBench$Line", "add", "(J)V"⟩ ∈ lw_all) (hv : dv_X6_add N σ b a0 = some u) (hst : st0 = ([.long a0] : List Value).reverse ++ .ref b :: rest) (hs1 : (none : Option Value).toList ++ rest = st1) (hls : ls.size = nL) (hrm : (rest.map fun v => v.category).sum ≤ 20) (hR : 0 + 1 ≤ R.frames ∧ 20 + (3 + 11) + 80 * 0 ≤ R.locals) (hf : cells + 0 ≤ R.cells ∧ slots + 0 ≤ R.slots) (hdg : decode cc pc = .ok (.invokevirtual idx, 3)) (hK : KK G s) (hH : HH G σ H) (hS : va_S (AG G) H0 H locs)
    (kk : ∀ (H1 : Heap) (locs1 : List Loc), HH G u H1 → va_S (AG G) H0 H1 locs1 → W p l e R s m args below meth c H1 locs1 (cells + 0) (slots + 0) Q (F0 m (pc + 3) ls st1)) : W p l e R s m args below meth c H locs cells slots Q (F0 m pc ls st0) := by
  subst hs1
  unfold dv_X6_add at hv
  split at hv
  · rename_i fs he
    exact r_U (C := "WordBench$Line") (owner := "WordBench$Code") (x := ⟨"WordBench$Line", "add", "(J)V"⟩) (n := 1) (As := [.long a0]) X (met_X4_add l G σ N b a0 u hv) cu_X6_add_4 (va_Decl.of (X.2.2.2.2.2.1 _ q223) (X.2.2.2.2.2.1 _ q229)) q1 (recv_of_HH (w := (RX6, TX6, 4)) hK hH he rfl) rfl hst hls hrm ⟨by omega, by omega⟩ hf hdg hK hH hS kk
  · rename_i fs he
    exact r_U (C := "WordBench$Own") (owner := "WordBench$Code") (x := ⟨"WordBench$Line", "add", "(J)V"⟩) (n := 1) (As := [.long a0]) X (met_X4_add l G σ N b a0 u hv) cu_X6_add_5 (va_Decl.of (X.2.2.2.2.2.1 _ q223) (X.2.2.2.2.2.1 _ q229)) q1 (recv_of_HH (w := (RX7, TX7, 4)) hK hH he rfl) rfl hst hls hrm ⟨by omega, by omega⟩ hf hdg hK hH hS kk
  · rename_i fs he
    exact r_U (C := "WordBench$Ring") (owner := "WordBench$Code") (x := ⟨"WordBench$Line", "add", "(J)V"⟩) (n := 1) (As := [.long a0]) X (met_X4_add l G σ N b a0 u hv) cu_X6_add_6 (va_Decl.of (X.2.2.2.2.2.1 _ q223) (X.2.2.2.2.2.1 _ q229)) q1 (recv_of_HH (w := (RX8, TX8, 4)) hK hH he rfl) rfl hst hls hrm ⟨by omega, by omega⟩ hf hdg hK hH hS kk
  · cases hv
theorem cv_X9_dual : CalV "WordBench$Form" yX9_dual cX9_dual 6 (some (.object "WordBench$Code")) 0 := ⟨q401, q402, q63, q403, by decide +kernel⟩
set_option maxHeartbeats 4000000 in
theorem met_X9_dual (l : Launch) (G : GG) (σ : SG) (N : Nat) (a0 : Nat) (σf : SG) (rf : Nat) (hf : f_X9_dual N σ a0 = some (σf, rf)) : Con l yX9_dual cX9_dual 6 (some (.object "WordBench$Code")) 3 15 360 G σ [.ref a0] σf (some (.ref rf)) := by
  refine con_of (by decide) (Nat.le_of_ble_eq_true rfl) ?_
  intro p e s m below meth c ls X hK hH hl hS
  have hx := X.1
  have hb := X.2.1
  have hml := X.2.2.2.1
  have hown : s.vm.findClass RX9 = some m.cls := X.2.2.2.2.1
  have hts := X.2.2.2.2.2.1
  have hl : lv_has ls 6 [(0, .ref a0)] := hl
  unfold f_X9_dual at hf
  have L20 : ∀ (c0 : Nat) (c1 : Nat) (n20 : Nat) (s20 : (Int32 × Int32 × SG)) (r20 : SG), lp (f_X9_dual_b20 N c0 c1) n20 s20 = some r20 → (∀ (ls : Array Slot) (H : Heap) (locs : List Loc), lv_has ls 6 [(1, .ref c1)] → HH G r20 H → va_S (AG G) s.heap H locs → W p l e (rm_ 3 15 360) s m ([.ref a0] : List Value).toArray below meth c H locs 15 360 (MQ below (PostC G σf (some (.ref rf))) ([.ref a0] : List Value).toArray s 15 360 (AG G)) (F0 m 128 ls [])) → n20 ≤ 13 → ∀ (ls : Array Slot) (H : Heap) (locs : List Loc), lv_has ls 6 [(0, .ref c0), (1, .ref c1), (2, .int s20.1), (3, .int s20.2.1)] → HH G s20.2.2 H → va_S (AG G) s.heap H locs → W p l e (rm_ 3 15 360) s m ([.ref a0] : List Value).toArray below meth c H locs (0 + 2 + (13 - n20) * 1) (0 + 204 + (13 - n20) * 12) (MQ below (PostC G σf (some (.ref rf))) ([.ref a0] : List Value).toArray s 15 360 (AG G)) (F0 m 20 ls []) := by
    intro c0 c1 n20 s20 r20 hr hq
    refine lp_indN (P := fun n20 s20 => n20 ≤ 13 → ∀ (ls : Array Slot) (H : Heap) (locs : List Loc), lv_has ls 6 [(0, .ref c0), (1, .ref c1), (2, .int s20.1), (3, .int s20.2.1)] → HH G s20.2.2 H → va_S (AG G) s.heap H locs → W p l e (rm_ 3 15 360) s m ([.ref a0] : List Value).toArray below meth c H locs (0 + 2 + (13 - n20) * 1) (0 + 204 + (13 - n20) * 12) (MQ below (PostC G σf (some (.ref rf))) ([.ref a0] : List Value).toArray s 15 360 (AG G)) (F0 m 20 ls [])) (Q := fun r20 => ∀ (ls : Array Slot) (H : Heap) (locs : List Loc), lv_has ls 6 [(1, .ref c1)] → HH G r20 H → va_S (AG G) s.heap H locs → W p l e (rm_ 3 15 360) s m ([.ref a0] : List Value).toArray below meth c H locs 15 360 (MQ below (PostC G σf (some (.ref rf))) ([.ref a0] : List Value).toArray s 15 360 (AG G)) (F0 m 128 ls [])) ?_ n20 s20 r20 hr hq
    intro n20 s20 x20 hf hx20 hn ls H locs hl hH hS
    refine W.eq rfl ?_
    unfold f_X9_dual_b20 at hf
    refine W.widen (k := (0 + 2 + (13 - (n20 + 1)) * 1)) (n := (0 + 204 + (13 - (n20 + 1)) * 12)) (by omega) (by omega) ?_
    have L68 : ∀ (c0 : Nat) (c1 : Nat) (c2 : Int32) (c3 : Int32) (c4 : Nat) (n : Nat) (s68 : (Int32 × SG)) (r68 : SG), lp (f_X9_dual_b68 N c0 c1 c2 c3 c4) n s68 = some r68 → (∀ (ls : Array Slot) (H : Heap) (locs : List Loc), lv_has ls 6 [(0, .ref c0), (1, .ref c1), (2, .int c2), (3, .int c3), (4, .ref c4)] → HH G r68 H → va_S (AG G) s.heap H locs → W p l e (rm_ 3 15 360) s m ([.ref a0] : List Value).toArray below meth c H locs (1 + 2 + (13 - (n20 + 1)) * 1) (12 + 204 + (13 - (n20 + 1)) * 12) (MQ below (PostC G σf (some (.ref rf))) ([.ref a0] : List Value).toArray s 15 360 (AG G)) (F0 m 109 ls [])) → ∀ (ls : Array Slot) (H : Heap) (locs : List Loc), lv_has ls 6 [(0, .ref c0), (1, .ref c1), (2, .int c2), (3, .int c3), (4, .ref c4), (5, .int s68.1)] → HH G s68.2 H → va_S (AG G) s.heap H locs → W p l e (rm_ 3 15 360) s m ([.ref a0] : List Value).toArray below meth c H locs (1 + 2 + (13 - (n20 + 1)) * 1) (12 + 204 + (13 - (n20 + 1)) * 12) (MQ below (PostC G σf (some (.ref rf))) ([.ref a0] : List Value).toArray s 15 360 (AG G)) (F0 m 68 ls []) := by
      intro c0 c1 c2 c3 c4 n s68 r68 hr hq
      refine lp_ind (P := fun s68 => ∀ (ls : Array Slot) (H : Heap) (locs : List Loc), lv_has ls 6 [(0, .ref c0), (1, .ref c1), (2, .int c2), (3, .int c3), (4, .ref c4), (5, .int s68.1)] → HH G s68.2 H → va_S (AG G) s.heap H locs → W p l e (rm_ 3 15 360) s m ([.ref a0] : List Value).toArray below meth c H locs (1 + 2 + (13 - (n20 + 1)) * 1) (12 + 204 + (13 - (n20 + 1)) * 12) (MQ below (PostC G σf (some (.ref rf))) ([.ref a0] : List Value).toArray s 15 360 (AG G)) (F0 m 68 ls [])) (Q := fun r68 => ∀ (ls : Array Slot) (H : Heap) (locs : List Loc), lv_has ls 6 [(0, .ref c0), (1, .ref c1), (2, .int c2), (3, .int c3), (4, .ref c4)] → HH G r68 H → va_S (AG G) s.heap H locs → W p l e (rm_ 3 15 360) s m ([.ref a0] : List Value).toArray below meth c H locs (1 + 2 + (13 - (n20 + 1)) * 1) (12 + 204 + (13 - (n20 + 1)) * 12) (MQ below (PostC G σf (some (.ref rf))) ([.ref a0] : List Value).toArray s 15 360 (AG G)) (F0 m 109 ls [])) ?_ n s68 r68 hr hq
      intro s68 x68 hf hx68 ls H locs hl hH hS
      unfold f_X9_dual_b68 at hf
      refine lv_iload hx hb dX9_dual_68 (lv_at hl 5 rfl) ?_
      refine lv_aload_n hx hb dX9_dual_70 rfl (lv_at hl 0 rfl) ?_
      obtain ⟨v10, hv, hf⟩ := bd hf
      refine h_gI X hK hH fo_X9_4 hv q311 dX9_dual_71 ?_
      refine lv_icmp_ge (tgt := 109) hx hb dX9_dual_74 (by decide) (fun c_ => ?_) (fun c_ => ?_)
      · have hf := (if_pos c_).symm.trans hf
        cases hf
        exact hx68 _ _ _ (lv_sub hl [0, 1, 2, 3, 4] rfl) hH hS
      · have hf := (if_neg c_).symm.trans hf
        refine lv_aload hx hb dX9_dual_77 (lv_at hl 4 rfl) ?_
        refine lv_aload_n hx hb dX9_dual_79 rfl (lv_at hl 0 rfl) ?_
        obtain ⟨v11, hv, hf⟩ := bd hf
        refine h_gR X hK hH fo_X9_3 hv q309 dX9_dual_80 ?_
        refine lv_iload hx hb dX9_dual_83 (lv_at hl 5 rfl) ?_
        obtain ⟨v12, hv, hf⟩ := bd hf
        refine h_aI X hK hH hv dX9_dual_85 ?_
        refine lv_aload_n hx hb dX9_dual_86 rfl (lv_at hl 0 rfl) ?_
        obtain ⟨v13, hv, hf⟩ := bd hf
        refine h_gI X hK hH fo_X9_0 hv q306 dX9_dual_87 ?_
        refine lv_aload_n hx hb dX9_dual_90 rfl (lv_at hl 0 rfl) ?_
        obtain ⟨v14, hv, hf⟩ := bd hf
        refine h_gR X hK hH fo_X9_2 hv q308 dX9_dual_91 ?_
        refine lv_iload hx hb dX9_dual_94 (lv_at hl 5 rfl) ?_
        obtain ⟨v15, hv, hf⟩ := bd hf
        refine h_aQ (by decide) X hK hH hv dX9_dual_96 ?_
        refine lv_iload_n hx hb dX9_dual_97 rfl (lv_at hl 3 rfl) ?_
        obtain ⟨b16, hq, hz⟩ := bd hf
        clear hf
        subst hq
        have hf := hz
        clear hz
        obtain ⟨v17, hv, hf⟩ := bd hf
        refine h_aI X hK hH hv dX9_dual_98 ?_
        obtain ⟨v18, hv, hf⟩ := bd hf
        refine c_SN (host := "WordBench") (As := [.int v13, .int v17]) (rest := [.int v12, .ref c4]) (st1 := [.int v18, .int v12, .ref c4]) X (met_X1_against l G s68.2 N v13 v17 v18 hv) cs_X1_against q302 rfl rfl rfl hl.1 (Nat.le_of_ble_eq_true rfl) ⟨Nat.le_of_ble_eq_true rfl, Nat.le_of_ble_eq_true rfl⟩ ⟨by show _ ≤ _; first | omega | (dsimp only [rm_]; omega), by show _ ≤ _; first | omega | (dsimp only [rm_]; omega)⟩ dX9_dual_99 hK hH hS (fun H locs hH hS => ?_)
        refine W.cs (cells' := (1 + 2 + (13 - (n20 + 1)) * 1)) (slots' := (12 + 204 + (13 - (n20 + 1)) * 12)) (by omega) (by omega) ?_
        obtain ⟨t19, hv, hf⟩ := bd hf
        refine h_wI X hK hH hS hv dX9_dual_102 (fun H locs hH hS => ?_)
        refine lv_iinc (v := (s68.1 + 1)) (lv' := [(5, .int (s68.1 + 1)), (0, .ref c0), (1, .ref c1), (2, .int c2), (3, .int c3), (4, .ref c4)]) hx hb dX9_dual_103 hl (k := 5) rfl rfl (by decide) rfl (fun ls hl => ?_)
        refine lv_goto (tgt := 68) hx hb dX9_dual_106 (by decide) ?_
        cases hf
        exact hx68 _ _ _ (lv_sub hl [1, 2, 3, 4, 5, 0] rfl) hH hS
    have J52 : ∀ (d2 : Int32) (d3 : Int32) (u52 : SG), f_X9_dual_j52 N c0 c1 d2 d3 u52 = some x20 → ∀ (ls : Array Slot) (H : Heap) (locs : List Loc), lv_has ls 6 [(0, .ref c0), (1, .ref c1), (2, .int d2), (3, .int d3)] → HH G u52 H → va_S (AG G) s.heap H locs → W p l e (rm_ 3 15 360) s m ([.ref a0] : List Value).toArray below meth c H locs (0 + 2 + (13 - (n20 + 1)) * 1) (0 + 204 + (13 - (n20 + 1)) * 12) (MQ below (PostC G σf (some (.ref rf))) ([.ref a0] : List Value).toArray s 15 360 (AG G)) (F0 m 52 ls []) := by
      intro d2 d3 u52 hf ls H locs hl hH hS
      unfold f_X9_dual_j52 at hf
      refine lv_aload_n hx hb dX9_dual_52 rfl (lv_at hl 0 rfl) ?_
      obtain ⟨v7, hv, hf⟩ := bd hf
      refine h_gI X hK hH fo_X9_1 hv q307 dX9_dual_53 ?_
      obtain ⟨t8, hv, hf⟩ := bd hf
      refine h_newa (t := 0) (B := 12) (atype := .int) X hK hH hS (by decide) hv (by decide) q245 (by show _ ≤ _; first | omega | (dsimp only [rm_]; omega)) (by show _ ≤ _; first | omega | (dsimp only [rm_]; omega)) dX9_dual_56 (fun H hH hS => ?_)
      refine W.cs (cells' := (1 + 2 + (13 - (n20 + 1)) * 1)) (slots' := (12 + 204 + (13 - (n20 + 1)) * 12)) (by omega) (by omega) ?_
      refine lv_astore (lv' := [(4, .ref ((u52).1)), (0, .ref c0), (1, .ref c1), (2, .int d2), (3, .int d3)]) hx hb dX9_dual_58 hl (by decide) rfl (fun ls hl => ?_)
      refine lv_aload hx hb dX9_dual_60 (lv_at hl 0 rfl) ?_
      refine lv_iload_n hx hb dX9_dual_62 rfl (lv_at hl 4 rfl) ?_
      refine lv_iconst (v := (1 : Int32)) hx hb dX9_dual_63 (by decide) ?_
      obtain ⟨t9, hv, hf⟩ := bd hf
      refine h_wI X hK hH hS hv dX9_dual_64 (fun H locs hH hS => ?_)
      refine lv_iconst (v := (0 : Int32)) hx hb dX9_dual_65 (by decide) ?_
      refine lv_istore (lv' := [(5, .int (0 : Int32)), (4, .ref ((u52).1)), (0, .ref c0), (1, .ref c1), (2, .int d2), (3, .int d3)]) hx hb dX9_dual_66 hl (by decide) rfl (fun ls hl => ?_)
      obtain ⟨r68_20, hr, hf⟩ := bd hf
      refine L68 c0 c1 d2 d3 ((u52).1) N _ r68_20 hr ?_ _ _ _ (lv_sub hl [2, 3, 4, 5, 1, 0] rfl) hH hS
      intro ls H locs hl hH hS
      refine lv_aload_n hx hb dX9_dual_109 rfl (lv_at hl 1 rfl) ?_
      refine lv_aload_n hx hb dX9_dual_110 rfl (lv_at hl 0 rfl) ?_
      obtain ⟨v21, hv, hf⟩ := bd hf
      refine h_gI X hK hH fo_X9_0 hv q306 dX9_dual_111 ?_
      refine lv_aload hx hb dX9_dual_114 (lv_at hl 4 rfl) ?_
      obtain ⟨v22, hv, hf⟩ := bd hf
      refine c_SN (host := "WordBench") (As := [.int v21, .ref ((u52).1)]) (rest := [.ref c1]) (st1 := [.long v22, .ref c1]) X (met_X1_wordOf l G r68_20 N v21 ((u52).1) v22 hv) cs_X1_wordOf q358 rfl rfl rfl hl.1 (Nat.le_of_ble_eq_true rfl) ⟨Nat.le_of_ble_eq_true rfl, Nat.le_of_ble_eq_true rfl⟩ ⟨by show _ ≤ _; first | omega | (dsimp only [rm_]; omega), by show _ ≤ _; first | omega | (dsimp only [rm_]; omega)⟩ dX9_dual_116 hK hH hS (fun H locs hH hS => ?_)
      refine W.cs (cells' := (1 + 2 + (13 - (n20 + 1)) * 1)) (slots' := (12 + 204 + (13 - (n20 + 1)) * 12)) (by omega) (by omega) ?_
      obtain ⟨v23, hv, hf⟩ := bd hf
      refine dr_X6_add N (rest := []) (st1 := []) X q406 hv rfl rfl hl.1 (Nat.le_of_ble_eq_true rfl) ⟨Nat.le_of_ble_eq_true rfl, Nat.le_of_ble_eq_true rfl⟩ ⟨by show _ ≤ _; first | omega | (dsimp only [rm_]; omega), by show _ ≤ _; first | omega | (dsimp only [rm_]; omega)⟩ dX9_dual_119 hK hH hS (fun H locs hH hS => ?_)
      refine W.cs (cells' := (1 + 2 + (13 - (n20 + 1)) * 1)) (slots' := (12 + 204 + (13 - (n20 + 1)) * 12)) (by omega) (by omega) ?_
      refine lv_iinc (v := (d3 + 1)) (lv' := [(3, .int (d3 + 1)), (0, .ref c0), (1, .ref c1), (2, .int d2), (4, .ref ((u52).1))]) hx hb dX9_dual_122 hl (k := 3) rfl rfl (by decide) rfl (fun ls hl => ?_)
      refine lv_goto (tgt := 20) hx hb dX9_dual_125 (by decide) ?_
      cases hf
      refine W.widen (k := (0 + 2 + (13 - n20) * 1)) (n := (0 + 204 + (13 - n20) * 12)) (by omega) (by omega) ?_
      exact hx20 (by omega) _ _ _ (lv_sub hl [1, 2, 3, 0] rfl) hH hS
    refine lv_iload_n hx hb dX9_dual_20 rfl (lv_at hl 3 rfl) ?_
    refine lv_aload_n hx hb dX9_dual_21 rfl (lv_at hl 0 rfl) ?_
    obtain ⟨v5, hv, hf⟩ := bd hf
    refine h_gI X hK hH fo_X9_1 hv q307 dX9_dual_22 ?_
    refine lv_icmp_ge (tgt := 128) hx hb dX9_dual_25 (by decide) (fun c_ => ?_) (fun c_ => ?_)
    · have hf := (if_pos c_).symm.trans hf
      cases hf
      refine W.widen (k := 15) (n := 360) (by omega) (by omega) ?_
      exact hx20 _ _ _ (lv_sub hl [1] rfl) hH hS
    · have hf := (if_neg c_).symm.trans hf
      refine lv_iload_n hx hb dX9_dual_28 rfl (lv_at hl 2 rfl) ?_
      refine lv_aload_n hx hb dX9_dual_29 rfl (lv_at hl 0 rfl) ?_
      obtain ⟨v6, hv, hf⟩ := bd hf
      refine h_gI X hK hH fo_X9_4 hv q311 dX9_dual_30 ?_
      refine lv_icmp_ge (tgt := 52) hx hb dX9_dual_33 (by decide) (fun c_ => ?_) (fun c_ => ?_)
      · have hf := (if_pos c_).symm.trans hf
        exact J52 s20.1 s20.2.1 s20.2.2 hf _ _ _ (lv_sub hl [0, 1, 2, 3] rfl) hH hS
      · have hf := (if_neg c_).symm.trans hf
        refine lv_aload_n hx hb dX9_dual_36 rfl (lv_at hl 0 rfl) ?_
        obtain ⟨v24, hv, hf⟩ := bd hf
        refine h_gR X hK hH fo_X9_3 hv q309 dX9_dual_37 ?_
        refine lv_iload_n hx hb dX9_dual_40 rfl (lv_at hl 2 rfl) ?_
        obtain ⟨v25, hv, hf⟩ := bd hf
        refine h_aI X hK hH hv dX9_dual_41 ?_
        refine lv_iload_n hx hb dX9_dual_42 rfl (lv_at hl 3 rfl) ?_
        refine lv_icmp_ne (tgt := 52) hx hb dX9_dual_43 (by decide) (fun c_ => ?_) (fun c_ => ?_)
        · have hf := (if_neg c_).symm.trans hf
          exact J52 s20.1 s20.2.1 s20.2.2 hf _ _ _ (lv_sub hl [0, 1, 2, 3] rfl) hH hS
        · have hf := (if_pos c_).symm.trans hf
          refine lv_iinc (v := (s20.1 + 1)) (lv' := [(2, .int (s20.1 + 1)), (0, .ref c0), (1, .ref c1), (3, .int s20.2.1)]) hx hb dX9_dual_46 hl (k := 2) rfl rfl (by decide) rfl (fun ls hl => ?_)
          refine lv_goto (tgt := 122) hx hb dX9_dual_49 (by decide) ?_
          refine lv_iinc (v := (s20.2.1 + 1)) (lv' := [(3, .int (s20.2.1 + 1)), (2, .int (s20.1 + 1)), (0, .ref c0), (1, .ref c1)]) hx hb dX9_dual_122 hl (k := 3) rfl rfl (by decide) rfl (fun ls hl => ?_)
          refine lv_goto (tgt := 20) hx hb dX9_dual_125 (by decide) ?_
          cases hf
          refine W.widen (k := (0 + 2 + (13 - n20) * 1)) (n := (0 + 204 + (13 - n20) * 12)) (by omega) (by omega) ?_
          exact hx20 (by omega) _ _ _ (lv_sub hl [2, 3, 1, 0] rfl) hH hS
  obtain ⟨t1, hv, hf⟩ := bd hf
  refine h_new (ci := 4) (fs := [.int 0, .int 0, .null, .int 0]) X hK hH hS tyX6 tyX6_ok in_X6 rfl q404 q153 q60 df_X6 (Nat.le_of_ble_eq_true rfl) (Nat.le_of_ble_eq_true rfl) dX9_dual_0 (fun H hH hS => ?_)
  rw [Option.some.inj hv] at hH
  refine W.cs (cells' := 1) (slots' := 4) (by rfl) (by rfl) ?_
  refine lv_dup hx hb dX9_dual_3 rfl ?_
  refine lv_aload_n hx hb dX9_dual_4 rfl (lv_at hl 0 rfl) ?_
  obtain ⟨v2, hv, hf⟩ := bd hf
  refine h_gI X hK hH fo_X9_0 hv q306 dX9_dual_5 ?_
  refine lv_aload_n hx hb dX9_dual_8 rfl (lv_at hl 0 rfl) ?_
  obtain ⟨v3, hv, hf⟩ := bd hf
  refine h_gI X hK hH fo_X9_1 hv q307 dX9_dual_9 ?_
  obtain ⟨v4, hv, hf⟩ := bd hf
  refine r_I (As := [.int v2, .int v3]) (rest := [.ref ((σ).1)]) X (met_X6_init l G t1 N ((σ).1) v2 v3 v4 hv) ci_X6_init q405 rfl rfl hl.1 (Nat.le_of_ble_eq_true rfl) ⟨Nat.le_of_ble_eq_true rfl, Nat.le_of_ble_eq_true rfl⟩ ⟨Nat.le_of_ble_eq_true rfl, Nat.le_of_ble_eq_true rfl⟩ dX9_dual_12 hK hH hS (fun H locs hH hS => ?_)
  refine W.cs (cells' := 2) (slots' := 204) (by rfl) (by rfl) ?_
  refine lv_astore_n (lv' := [(1, .ref ((σ).1)), (0, .ref a0)]) hx hb dX9_dual_15 rfl hl (by decide) rfl (fun ls hl => ?_)
  refine lv_iconst (v := (0 : Int32)) hx hb dX9_dual_16 (by decide) ?_
  refine lv_istore_n (lv' := [(2, .int (0 : Int32)), (1, .ref ((σ).1)), (0, .ref a0)]) hx hb dX9_dual_17 rfl hl (by decide) rfl (fun ls hl => ?_)
  refine lv_iconst (v := (0 : Int32)) hx hb dX9_dual_18 (by decide) ?_
  refine lv_istore_n (lv' := [(3, .int (0 : Int32)), (2, .int (0 : Int32)), (1, .ref ((σ).1)), (0, .ref a0)]) hx hb dX9_dual_19 rfl hl (by decide) rfl (fun ls hl => ?_)
  obtain ⟨r20_26, hr, hf⟩ := bd hf
  refine W.widen (k := (0 + 2 + (13 - 13) * 1)) (n := (0 + 204 + (13 - 13) * 12)) (by omega) (by omega) ?_
  refine L20 a0 ((σ).1) 13 _ r20_26 hr ?_ (Nat.le_refl _) _ _ _ (lv_sub hl [3, 2, 1, 0] rfl) hH hS
  intro ls H locs hl hH hS
  refine lv_aload_n hx hb dX9_dual_128 rfl (lv_at hl 0 rfl) ?_
  cases hf
  exact r_aret X (Or.inl ⟨_, rfl⟩) (Or.inr ⟨_, rfl⟩) dX9_dual_129 (Nat.le_of_ble_eq_true rfl) (Nat.le_of_ble_eq_true rfl) rfl hH hS
theorem cv_X1_checks : CalV "WordBench" yX1_checks cX1_checks 9 (some .long) 2 := ⟨q412, q413, q48, q414, by decide +kernel⟩
set_option maxHeartbeats 4000000 in
theorem met_X1_checks (l : Launch) (G : GG) (σ : SG) (N : Nat) (a0 : Nat) (a1 : Int32) (a2 : Int64) (σf : SG) (rf : Int64) (hf : f_X1_checks N σ a0 a1 a2 = some (σf, rf)) : Con l yX1_checks cX1_checks 9 (some .long) 4 31 545 G σ [.ref a0, .int a1, .long a2] σf (some (.long rf)) := by
  refine con_of (by decide) (Nat.le_of_ble_eq_true rfl) ?_
  intro p e s m below meth c ls X hK hH hl hS
  have hx := X.1
  have hb := X.2.1
  have hml := X.2.2.2.1
  have hown : s.vm.findClass RX1 = some m.cls := X.2.2.2.2.1
  have hts := X.2.2.2.2.2.1
  have hl : lv_has ls 9 [(0, .ref a0), (1, .int a1), (2, .long a2)] := hl
  unfold f_X1_checks at hf
  have L54 : ∀ (c2 : Int64) (c5 : Nat) (t54 : SG) (n : Nat) (s54 : (Int64 × Int32)) (r54 : Int64), lp (f_X1_checks_b54 N c2 c5 t54) n s54 = some r54 → (∀ (ls : Array Slot) (H : Heap) (locs : List Loc), lv_has ls 9 [(6, .long r54)] → HH G t54 H → va_S (AG G) s.heap H locs → W p l e (rm_ 4 31 545) s m ([.ref a0, .int a1, .long a2] : List Value).toArray below meth c H locs 31 545 (MQ below (PostC G σf (some (.long rf))) ([.ref a0, .int a1, .long a2] : List Value).toArray s 31 545 (AG G)) (F0 m 105 ls [])) → ∀ (ls : Array Slot) (H : Heap) (locs : List Loc), lv_has ls 9 [(2, .long c2), (5, .ref c5), (6, .long s54.1), (8, .int s54.2)] → HH G t54 H → va_S (AG G) s.heap H locs → W p l e (rm_ 4 31 545) s m ([.ref a0, .int a1, .long a2] : List Value).toArray below meth c H locs 31 545 (MQ below (PostC G σf (some (.long rf))) ([.ref a0, .int a1, .long a2] : List Value).toArray s 31 545 (AG G)) (F0 m 54 ls []) := by
    intro c2 c5 t54 n s54 r54 hr hq
    refine lp_ind (P := fun s54 => ∀ (ls : Array Slot) (H : Heap) (locs : List Loc), lv_has ls 9 [(2, .long c2), (5, .ref c5), (6, .long s54.1), (8, .int s54.2)] → HH G t54 H → va_S (AG G) s.heap H locs → W p l e (rm_ 4 31 545) s m ([.ref a0, .int a1, .long a2] : List Value).toArray below meth c H locs 31 545 (MQ below (PostC G σf (some (.long rf))) ([.ref a0, .int a1, .long a2] : List Value).toArray s 31 545 (AG G)) (F0 m 54 ls [])) (Q := fun r54 => ∀ (ls : Array Slot) (H : Heap) (locs : List Loc), lv_has ls 9 [(6, .long r54)] → HH G t54 H → va_S (AG G) s.heap H locs → W p l e (rm_ 4 31 545) s m ([.ref a0, .int a1, .long a2] : List Value).toArray below meth c H locs 31 545 (MQ below (PostC G σf (some (.long rf))) ([.ref a0, .int a1, .long a2] : List Value).toArray s 31 545 (AG G)) (F0 m 105 ls [])) ?_ n s54 r54 hr hq
    intro s54 x54 hf hx54 ls H locs hl hH hS
    unfold f_X1_checks_b54 at hf
    refine lv_iload hx hb dX1_checks_54 (lv_at hl 3 rfl) ?_
    refine lv_aload hx hb dX1_checks_56 (lv_at hl 1 rfl) ?_
    obtain ⟨v8, hv, hf⟩ := bd hf
    refine h_gI X hK hH fo_Code_3 hv q141 dX1_checks_58 ?_
    refine lv_icmp_ge (tgt := 105) hx hb dX1_checks_61 (by decide) (fun c_ => ?_) (fun c_ => ?_)
    · have hf := (if_pos c_).symm.trans hf
      cases hf
      exact hx54 _ _ _ (lv_sub hl [2] rfl) hH hS
    · have hf := (if_neg c_).symm.trans hf
      refine lv_lload hx hb dX1_checks_64 (lv_at hl 2 rfl) ?_
      refine lv_aload hx hb dX1_checks_66 (lv_at hl 1 rfl) ?_
      obtain ⟨v9, hv, hf⟩ := bd hf
      refine h_gI X hK hH fo_Code_0 hv q116 dX1_checks_68 ?_
      refine lv_i2l (v := (v9).toInt64) hx hb dX1_checks_71 rfl ?_
      refine lv_lmul hx hb dX1_checks_72 ?_
      refine lv_aload hx hb dX1_checks_73 (lv_at hl 1 rfl) ?_
      obtain ⟨v10, hv, hf⟩ := bd hf
      refine h_gI X hK hH fo_Code_0 hv q116 dX1_checks_75 ?_
      refine lv_aload hx hb dX1_checks_78 (lv_at hl 1 rfl) ?_
      obtain ⟨v11, hv, hf⟩ := bd hf
      refine h_gI X hK hH fo_Code_1 hv q123 dX1_checks_80 ?_
      refine lv_lload_n hx hb dX1_checks_83 rfl (lv_at hl 0 rfl) ?_
      refine lv_aload hx hb dX1_checks_84 (lv_at hl 1 rfl) ?_
      obtain ⟨v12, hv, hf⟩ := bd hf
      refine h_gR X hK hH fo_Code_2 hv q132 dX1_checks_86 ?_
      refine lv_iload hx hb dX1_checks_89 (lv_at hl 3 rfl) ?_
      obtain ⟨v13, hv, hf⟩ := bd hf
      refine h_aL X hK hH hv dX1_checks_91 ?_
      obtain ⟨v14, hv, hf⟩ := bd hf
      refine c_S (As := [.int v10, .int v11, .long c2, .long v13]) (rest := [.long (s54.1 * ((v9).toInt64))]) (st1 := [.int v14, .long (s54.1 * ((v9).toInt64))]) X (met_X1_productOf l G t54 N v10 v11 c2 v13 v14 hv) cs_X1_productOf q386 rfl rfl rfl hl.1 (Nat.le_of_ble_eq_true rfl) ⟨Nat.le_of_ble_eq_true rfl, Nat.le_of_ble_eq_true rfl⟩ ⟨Nat.le_of_ble_eq_true rfl, Nat.le_of_ble_eq_true rfl⟩ dX1_checks_92 hK hH hS (fun H locs hH hS => ?_)
      refine W.cs (cells' := 31) (slots' := 545) (by rfl) (by rfl) ?_
      refine lv_i2l (v := (v14).toInt64) hx hb dX1_checks_95 rfl ?_
      refine lv_ladd hx hb dX1_checks_96 ?_
      refine lv_lstore (lv' := [(6, .long ((s54.1 * ((v9).toInt64)) + ((v14).toInt64))), (2, .long c2), (5, .ref c5), (8, .int s54.2)]) hx hb dX1_checks_97 hl (by decide) rfl (fun ls hl => ?_)
      refine lv_iinc (v := (s54.2 + 1)) (lv' := [(8, .int (s54.2 + 1)), (6, .long ((s54.1 * ((v9).toInt64)) + ((v14).toInt64))), (2, .long c2), (5, .ref c5)]) hx hb dX1_checks_99 hl (k := 3) rfl rfl (by decide) rfl (fun ls hl => ?_)
      refine lv_goto (tgt := 54) hx hb dX1_checks_102 (by decide) ?_
      cases hf
      exact hx54 _ _ _ (lv_sub hl [2, 3, 1, 0] rfl) hH hS
  have J21 : ∀ (d0 : Nat) (d1 : Int32) (d2 : Int64) (d4 : Int32) (u21 : SG), f_X1_checks_j21 N d0 d1 d2 d4 u21 = some (σf, rf) → ∀ (ls : Array Slot) (H : Heap) (locs : List Loc), lv_has ls 9 [(0, .ref d0), (1, .int d1), (2, .long d2), (4, .int d4)] → HH G u21 H → va_S (AG G) s.heap H locs → W p l e (rm_ 4 31 545) s m ([.ref a0, .int a1, .long a2] : List Value).toArray below meth c H locs 0 0 (MQ below (PostC G σf (some (.long rf))) ([.ref a0, .int a1, .long a2] : List Value).toArray s 31 545 (AG G)) (F0 m 21 ls []) := by
    intro d0 d1 d2 d4 u21 hf ls H locs hl hH hS
    unfold f_X1_checks_j21 at hf
    refine lv_iload hx hb dX1_checks_21 (lv_at hl 3 rfl) ?_
    refine lv_if_eq (tgt := 30) hx hb dX1_checks_23 (by decide) (fun c_ => ?_) (fun c_ => ?_)
    · have hf := (if_pos c_).symm.trans hf
      obtain ⟨t2, hv, hf⟩ := bd hf
      refine h_new (ci := 7) (fs := [.int 0, .int 0, .null, .null, .int 0]) X hK hH hS tyX9 tyX9_ok in_X9 rfl q279 q280 q63 df_X9 (Nat.le_of_ble_eq_true rfl) (Nat.le_of_ble_eq_true rfl) dX1_checks_30 (fun H hH hS => ?_)
      rw [Option.some.inj hv] at hH
      refine W.cs (cells' := 1) (slots' := 5) (by rfl) (by rfl) ?_
      refine lv_dup hx hb dX1_checks_33 rfl ?_
      refine lv_aload_n hx hb dX1_checks_34 rfl (lv_at hl 0 rfl) ?_
      obtain ⟨v3, hv, hf⟩ := bd hf
      refine h_gR X hK hH fo_X1_0 hv q649 dX1_checks_35 ?_
      refine lv_iload_n hx hb dX1_checks_38 rfl (lv_at hl 1 rfl) ?_
      obtain ⟨v4, hv, hf⟩ := bd hf
      refine h_aQ (by decide) X hK hH hv dX1_checks_39 ?_
      obtain ⟨b5, hq, hz⟩ := bd hf
      clear hf
      subst hq
      have hf := hz
      clear hz
      obtain ⟨v6, hv, hf⟩ := bd hf
      refine r_I (As := [.ref b5]) (rest := [.ref ((u21).1)]) X (met_X9_init l G t2 N ((u21).1) b5 v6 hv) ci_X9_init q281 rfl rfl hl.1 (Nat.le_of_ble_eq_true rfl) ⟨Nat.le_of_ble_eq_true rfl, Nat.le_of_ble_eq_true rfl⟩ ⟨Nat.le_of_ble_eq_true rfl, Nat.le_of_ble_eq_true rfl⟩ dX1_checks_40 hK hH hS (fun H locs hH hS => ?_)
      refine W.cs (cells' := 16) (slots' := 185) (by rfl) (by rfl) ?_
      obtain ⟨_, hw, hf⟩ := bd hf
      obtain ⟨v7, hv, hf⟩ := bd hf
      refine c_V (As := []) (rest := []) (st1 := [.ref v7.2]) X (met_X9_dual l G v6 N ((u21).1)  v7.1 v7.2 hv) cv_X9_dual q400 (recv1 (w := (RX9, TX9, 5)) hw hK hH rfl) rfl rfl rfl hl.1 (Nat.le_of_ble_eq_true rfl) ⟨Nat.le_of_ble_eq_true rfl, Nat.le_of_ble_eq_true rfl⟩ ⟨Nat.le_of_ble_eq_true rfl, Nat.le_of_ble_eq_true rfl⟩ dX1_checks_43 hK hH hS (fun H locs hH hS => ?_)
      refine W.cs (cells' := 31) (slots' := 545) (by rfl) (by rfl) ?_
      refine lv_astore (lv' := [(5, .ref v7.2), (0, .ref d0), (1, .int d1), (2, .long d2), (4, .int d4)]) hx hb dX1_checks_46 hl (by decide) rfl (fun ls hl => ?_)
      refine lv_lconst (v := (0 : Int64)) hx hb dX1_checks_48 (by decide) ?_
      refine lv_lstore (lv' := [(6, .long (0 : Int64)), (5, .ref v7.2), (0, .ref d0), (1, .int d1), (2, .long d2), (4, .int d4)]) hx hb dX1_checks_49 hl (by decide) rfl (fun ls hl => ?_)
      refine lv_iconst (v := (0 : Int32)) hx hb dX1_checks_51 (by decide) ?_
      refine lv_istore (lv' := [(8, .int (0 : Int32)), (6, .long (0 : Int64)), (5, .ref v7.2), (0, .ref d0), (1, .int d1), (2, .long d2), (4, .int d4)]) hx hb dX1_checks_52 hl (by decide) rfl (fun ls hl => ?_)
      obtain ⟨r54_15, hr, hf⟩ := bd hf
      refine L54 d2 v7.2 v7.1 N _ r54_15 hr ?_ _ _ _ (lv_sub hl [5, 2, 1, 0] rfl) hH hS
      intro ls H locs hl hH hS
      refine lv_lload hx hb dX1_checks_105 (lv_at hl 0 rfl) ?_
      cases hf
      exact r_lret X dX1_checks_107 (Nat.le_of_ble_eq_true rfl) (Nat.le_of_ble_eq_true rfl) rfl hH hS
    · have hf := (if_neg c_).symm.trans hf
      refine lv_iload hx hb dX1_checks_26 (lv_at hl 3 rfl) ?_
      refine lv_i2l (v := (d4).toInt64) hx hb dX1_checks_28 rfl ?_
      cases hf
      exact r_lret X dX1_checks_29 (Nat.le_of_ble_eq_true rfl) (Nat.le_of_ble_eq_true rfl) rfl hH hS
  refine lv_aload_n hx hb dX1_checks_0 rfl (lv_at hl 0 rfl) ?_
  refine lv_iload_n hx hb dX1_checks_1 rfl (lv_at hl 1 rfl) ?_
  refine lv_lload_n hx hb dX1_checks_2 rfl (lv_at hl 2 rfl) ?_
  obtain ⟨_, hw, hf⟩ := bd hf
  obtain ⟨v1, hv, hf⟩ := bd hf
  refine c_V (As := [.int a1, .long a2]) (rest := []) (st1 := [.int v1]) X (met_X1_whyWord l G σ N a0 a1 a2 v1 hv) cv_X1_whyWord q343 (recv1 (w := (RX1, TX1, 6)) hw hK hH rfl) rfl rfl rfl hl.1 (Nat.le_of_ble_eq_true rfl) ⟨Nat.le_of_ble_eq_true rfl, Nat.le_of_ble_eq_true rfl⟩ ⟨Nat.le_of_ble_eq_true rfl, Nat.le_of_ble_eq_true rfl⟩ dX1_checks_3 hK hH hS (fun H locs hH hS => ?_)
  refine W.cs (cells' := 0) (slots' := 0) (by rfl) (by rfl) ?_
  refine lv_istore (lv' := [(4, .int v1), (0, .ref a0), (1, .int a1), (2, .long a2)]) hx hb dX1_checks_6 hl (by decide) rfl (fun ls hl => ?_)
  refine lv_iload hx hb dX1_checks_8 (lv_at hl 0 rfl) ?_
  refine lv_if_ne (tgt := 21) hx hb dX1_checks_10 (by decide) (fun c_ => ?_) (fun c_ => ?_)
  · have hf := (if_neg c_).symm.trans hf
    exact J21 a0 a1 a2 v1 σ hf _ _ _ (lv_sub hl [1, 2, 3, 0] rfl) hH hS
  · have hf := (if_pos c_).symm.trans hf
    refine lv_aload_n hx hb dX1_checks_13 rfl (lv_at hl 1 rfl) ?_
    refine lv_iload_n hx hb dX1_checks_14 rfl (lv_at hl 2 rfl) ?_
    refine lv_iconst (v := (1 : Int32)) hx hb dX1_checks_15 (by decide) ?_
    obtain ⟨_, hw, hf⟩ := bd hf
    obtain ⟨v16, hv, hf⟩ := bd hf
    refine c_V (As := [.int a1, .int (1 : Int32)]) (rest := []) (st1 := [.int v16]) X (met_X1_asks l G σ N a0 a1 (1 : Int32) v16 hv) cv_X1_asks q183 (recv1 (w := (RX1, TX1, 6)) hw hK hH rfl) rfl rfl rfl hl.1 (Nat.le_of_ble_eq_true rfl) ⟨Nat.le_of_ble_eq_true rfl, Nat.le_of_ble_eq_true rfl⟩ ⟨Nat.le_of_ble_eq_true rfl, Nat.le_of_ble_eq_true rfl⟩ dX1_checks_16 hK hH hS (fun H locs hH hS => ?_)
    refine W.cs (cells' := 0) (slots' := 0) (by rfl) (by rfl) ?_
    refine lv_istore (lv' := [(4, .int v16), (0, .ref a0), (1, .int a1), (2, .long a2)]) hx hb dX1_checks_19 hl (by decide) rfl (fun ls hl => ?_)
    exact J21 a0 a1 a2 v16 σ hf _ _ _ (lv_sub hl [1, 2, 3, 0] rfl) hH hS
theorem cs_X1_comes : CalS yX1_comes cX1_comes 3 none 2 := ⟨q509, q48, q510, by decide +kernel, by decide +kernel, by decide +kernel⟩
set_option maxHeartbeats 4000000 in
theorem met_X1_comes (l : Launch) (G : GG) (σ : SG) (N : Nat) (a0 : Nat) (a1 : Int64) (σf : SG) (hf : f_X1_comes N σ a0 a1 = some σf) : Con l yX1_comes cX1_comes 3 none 1 0 0 G σ [.ref a0, .long a1] σf none := by
  refine con_of (by decide) (Nat.le_of_ble_eq_true rfl) ?_
  intro p e s m below meth c ls X hK hH hl hS
  have hx := X.1
  have hb := X.2.1
  have hml := X.2.2.2.1
  have hown : s.vm.findClass RX1 = some m.cls := X.2.2.2.2.1
  have hts := X.2.2.2.2.2.1
  have hl : lv_has ls 3 [(0, .ref a0), (1, .long a1)] := hl
  unfold f_X1_comes at hf
  have J19 : ∀ (d0 : Nat) (d1 : Int64) (u19 : SG), f_X1_comes_j19 N d0 d1 u19 = some σf → ∀ (ls : Array Slot) (H : Heap) (locs : List Loc), lv_has ls 3 [(0, .ref d0), (1, .long d1)] → HH G u19 H → va_S (AG G) s.heap H locs → W p l e (rm_ 1 0 0) s m ([.ref a0, .long a1] : List Value).toArray below meth c H locs 0 0 (MQ below (PostC G σf none) ([.ref a0, .long a1] : List Value).toArray s 0 0 (AG G)) (F0 m 19 ls []) := by
    intro d0 d1 u19 hf ls H locs hl hH hS
    unfold f_X1_comes_j19 at hf
    refine lv_aload_n hx hb dX1_comes_19 rfl (lv_at hl 0 rfl) ?_
    refine lv_lload_n hx hb dX1_comes_20 rfl (lv_at hl 1 rfl) ?_
    obtain ⟨v2, hv, hf⟩ := bd hf
    refine dr_X4_add N (rest := []) (st1 := []) X q222 hv rfl rfl hl.1 (Nat.le_of_ble_eq_true rfl) ⟨Nat.le_of_ble_eq_true rfl, Nat.le_of_ble_eq_true rfl⟩ ⟨Nat.le_of_ble_eq_true rfl, Nat.le_of_ble_eq_true rfl⟩ dX1_comes_21 hK hH hS (fun H locs hH hS => ?_)
    refine W.cs (cells' := 0) (slots' := 0) (by rfl) (by rfl) ?_
    cases hf
    exact r_vret X dX1_comes_24 (Nat.le_of_ble_eq_true rfl) (Nat.le_of_ble_eq_true rfl) rfl hH hS
  refine lv_aload_n hx hb dX1_comes_0 rfl (lv_at hl 0 rfl) ?_
  obtain ⟨v1, hv, hf⟩ := bd hf
  refine h_inst (w := (some a0)) X hK hH ca_List nc_List hv q95 dX1_comes_1 ?_
  refine lv_if_eq (tgt := 19) hx hb dX1_comes_4 (by decide) (fun c_ => ?_) (fun c_ => ?_)
  · have hf := (if_pos c_).symm.trans hf
    exact J19 a0 a1 σ hf _ _ _ (lv_sub hl [0, 1] rfl) hH hS
  · have hf := (if_neg c_).symm.trans hf
    refine lv_aload_n hx hb dX1_comes_7 rfl (lv_at hl 0 rfl) ?_
    obtain ⟨_, hv, hf⟩ := bd hf
    refine h_cast X hK hH ca_List hv q95 dX1_comes_8 ?_
    refine lv_lload_n hx hb dX1_comes_11 rfl (lv_at hl 1 rfl) ?_
    obtain ⟨_, hw, hf⟩ := bd hf
    obtain ⟨v3, hv, hf⟩ := bd hf
    refine c_V (As := [.long a1]) (rest := []) (st1 := [.int v3]) X (met_X5_has l G σ N a0 a1 v3 hv) cv_X5_has q365 (recv1 (w := (RX5, TX5, 4)) hw hK hH rfl) rfl rfl rfl hl.1 (Nat.le_of_ble_eq_true rfl) ⟨Nat.le_of_ble_eq_true rfl, Nat.le_of_ble_eq_true rfl⟩ ⟨Nat.le_of_ble_eq_true rfl, Nat.le_of_ble_eq_true rfl⟩ dX1_comes_12 hK hH hS (fun H locs hH hS => ?_)
    refine W.cs (cells' := 0) (slots' := 0) (by rfl) (by rfl) ?_
    refine lv_if_eq (tgt := 19) hx hb dX1_comes_15 (by decide) (fun c_ => ?_) (fun c_ => ?_)
    · have hf := (if_pos c_).symm.trans hf
      exact J19 a0 a1 σ hf _ _ _ (lv_sub hl [0, 1] rfl) hH hS
    · have hf := (if_neg c_).symm.trans hf
      cases hf
      exact r_vret X dX1_comes_18 (Nat.le_of_ble_eq_true rfl) (Nat.le_of_ble_eq_true rfl) rfl hH hS
theorem cv_X1_whyHoles : CalV "WordBench" yX1_whyHoles cX1_whyHoles 4 (some .int) 1 := ⟨q473, qs10, q48, q474, by decide +kernel⟩
set_option maxHeartbeats 4000000 in
theorem met_X1_whyHoles (l : Launch) (G : GG) (σ : SG) (N : Nat) (a0 : Nat) (a1 : Int32) (σf : SG) (rf : Int32) (hf : f_X1_whyHoles N σ a0 a1 = some (σf, rf)) : Con l yX1_whyHoles cX1_whyHoles 4 (some .int) 5 16 185 G σ [.ref a0, .int a1] σf (some (.int rf)) := by
  refine con_of (by decide) (Nat.le_of_ble_eq_true rfl) ?_
  intro p e s m below meth c ls X hK hH hl hS
  have hx := X.1
  have hb := X.2.1
  have hml := X.2.2.2.1
  have hown : s.vm.findClass RX1 = some m.cls := X.2.2.2.2.1
  have hts := X.2.2.2.2.2.1
  have hl : lv_has ls 4 [(0, .ref a0), (1, .int a1)] := hl
  unfold f_X1_whyHoles at hf
  refine lv_aload_n hx hb dX1_whyHoles_0 rfl (lv_at hl 0 rfl) ?_
  refine lv_iload_n hx hb dX1_whyHoles_1 rfl (lv_at hl 1 rfl) ?_
  refine lv_iconst (v := (0 : Int32)) hx hb dX1_whyHoles_2 (by decide) ?_
  obtain ⟨_, hw, hf⟩ := bd hf
  obtain ⟨v1, hv, hf⟩ := bd hf
  refine c_V (As := [.int a1, .int (0 : Int32)]) (rest := []) (st1 := [.int v1]) X (met_X1_asks l G σ N a0 a1 (0 : Int32) v1 hv) cv_X1_asks q183 (recv1 (w := (RX1, TX1, 6)) hw hK hH rfl) rfl rfl rfl hl.1 (Nat.le_of_ble_eq_true rfl) ⟨Nat.le_of_ble_eq_true rfl, Nat.le_of_ble_eq_true rfl⟩ ⟨Nat.le_of_ble_eq_true rfl, Nat.le_of_ble_eq_true rfl⟩ dX1_whyHoles_3 hK hH hS (fun H locs hH hS => ?_)
  refine W.cs (cells' := 0) (slots' := 0) (by rfl) (by rfl) ?_
  refine lv_istore_n (lv' := [(2, .int v1), (0, .ref a0), (1, .int a1)]) hx hb dX1_whyHoles_6 rfl hl (by decide) rfl (fun ls hl => ?_)
  refine lv_iload_n hx hb dX1_whyHoles_7 rfl (lv_at hl 0 rfl) ?_
  refine lv_if_eq (tgt := 13) hx hb dX1_whyHoles_8 (by decide) (fun c_ => ?_) (fun c_ => ?_)
  · have hf := (if_pos c_).symm.trans hf
    refine lv_aload_n hx hb dX1_whyHoles_13 rfl (lv_at hl 1 rfl) ?_
    obtain ⟨v2, hv, hf⟩ := bd hf
    refine h_gR X hK hH fo_X1_0 hv q649 dX1_whyHoles_14 ?_
    refine lv_iload_n hx hb dX1_whyHoles_17 rfl (lv_at hl 2 rfl) ?_
    obtain ⟨v3, hv, hf⟩ := bd hf
    refine h_aQ (by decide) X hK hH hv dX1_whyHoles_18 ?_
    obtain ⟨b4, hq, hz⟩ := bd hf
    clear hf
    subst hq
    have hf := hz
    clear hz
    obtain ⟨v5, hv, hf⟩ := bd hf
    refine h_gI X hK hH fo_Code_0 hv q116 dX1_whyHoles_19 ?_
    refine lv_aload_n hx hb dX1_whyHoles_22 rfl (lv_at hl 1 rfl) ?_
    obtain ⟨v6, hv, hf⟩ := bd hf
    refine h_gR X hK hH fo_X1_0 hv q649 dX1_whyHoles_23 ?_
    refine lv_iload_n hx hb dX1_whyHoles_26 rfl (lv_at hl 2 rfl) ?_
    obtain ⟨v7, hv, hf⟩ := bd hf
    refine h_aQ (by decide) X hK hH hv dX1_whyHoles_27 ?_
    obtain ⟨b8, hq, hz⟩ := bd hf
    clear hf
    subst hq
    have hf := hz
    clear hz
    obtain ⟨v9, hv, hf⟩ := bd hf
    refine h_gI X hK hH fo_Code_1 hv q123 dX1_whyHoles_28 ?_
    obtain ⟨v10, hv, hf⟩ := bd hf
    refine c_S (As := [.int v5, .int v9]) (rest := []) (st1 := [.long v10]) X (met_X1_power l G σ N v5 v9 v10 hv) cs_X1_power q190 rfl rfl rfl hl.1 (Nat.le_of_ble_eq_true rfl) ⟨Nat.le_of_ble_eq_true rfl, Nat.le_of_ble_eq_true rfl⟩ ⟨Nat.le_of_ble_eq_true rfl, Nat.le_of_ble_eq_true rfl⟩ dX1_whyHoles_31 hK hH hS (fun H locs hH hS => ?_)
    refine W.cs (cells' := 0) (slots' := 0) (by rfl) (by rfl) ?_
    refine lv_ldc2 (v := (1024 : Int64)) hx hb hown (hts _ q475) dX1_whyHoles_34 ?_
    refine W.lcmp hx hb dX1_whyHoles_37 ?_
    refine lv_if_le (tgt := 44) hx hb dX1_whyHoles_38 (by decide) (fun c_ => ?_) (fun c_ => ?_)
    · have hf := (if_pos ((lg_cmp_le v10 (1024 : Int64)).mp c_)).symm.trans hf
      refine lv_aload_n hx hb dX1_whyHoles_44 rfl (lv_at hl 1 rfl) ?_
      refine lv_aload_n hx hb dX1_whyHoles_45 rfl (lv_at hl 1 rfl) ?_
      obtain ⟨v11, hv, hf⟩ := bd hf
      refine h_gR X hK hH fo_X1_0 hv q649 dX1_whyHoles_46 ?_
      refine lv_iload_n hx hb dX1_whyHoles_49 rfl (lv_at hl 2 rfl) ?_
      obtain ⟨v12, hv, hf⟩ := bd hf
      refine h_aQ (by decide) X hK hH hv dX1_whyHoles_50 ?_
      obtain ⟨b13, hq, hz⟩ := bd hf
      clear hf
      subst hq
      have hf := hz
      clear hz
      obtain ⟨_, hw, hf⟩ := bd hf
      obtain ⟨v14, hv, hf⟩ := bd hf
      refine c_V (As := [.ref b13]) (rest := []) (st1 := [.int v14.2]) X (met_X1_lays l G σ N a0 b13 v14.1 v14.2 hv) cv_X1_lays q423 (recv1 (w := (RX1, TX1, 6)) hw hK hH rfl) rfl rfl rfl hl.1 (Nat.le_of_ble_eq_true rfl) ⟨Nat.le_of_ble_eq_true rfl, Nat.le_of_ble_eq_true rfl⟩ ⟨Nat.le_of_ble_eq_true rfl, Nat.le_of_ble_eq_true rfl⟩ dX1_whyHoles_51 hK hH hS (fun H locs hH hS => ?_)
      refine W.cs (cells' := 16) (slots' := 185) (by rfl) (by rfl) ?_
      refine lv_istore_n (lv' := [(3, .int v14.2), (2, .int v1), (0, .ref a0), (1, .int a1)]) hx hb dX1_whyHoles_54 rfl hl (by decide) rfl (fun ls hl => ?_)
      refine lv_aload_n hx hb dX1_whyHoles_55 rfl (lv_at hl 2 rfl) ?_
      obtain ⟨v15, hv, hf⟩ := bd hf
      refine h_gI X hK hH fo_X1_2 hv q651 dX1_whyHoles_56 ?_
      refine lv_if_ne (tgt := 67) hx hb dX1_whyHoles_59 (by decide) (fun c_ => ?_) (fun c_ => ?_)
      · have hf := (if_neg c_).symm.trans hf
        refine lv_iconst (v := (0 : Int32)) hx hb dX1_whyHoles_67 (by decide) ?_
        cases hf
        exact r_iret X dX1_whyHoles_68 (Nat.le_of_ble_eq_true rfl) (Nat.le_of_ble_eq_true rfl) rfl hH hS
      · have hf := (if_pos c_).symm.trans hf
        refine lv_bipush (v := (-2 : Int32)) hx hb dX1_whyHoles_62 (by decide) ?_
        refine lv_goto (tgt := 68) hx hb dX1_whyHoles_64 (by decide) ?_
        cases hf
        exact r_iret X dX1_whyHoles_68 (Nat.le_of_ble_eq_true rfl) (Nat.le_of_ble_eq_true rfl) rfl hH hS
    · have hf := (if_neg (fun z => c_ ((lg_cmp_le v10 (1024 : Int64)).mpr z))).symm.trans hf
      refine lv_bipush (v := (-5 : Int32)) hx hb dX1_whyHoles_41 (by decide) ?_
      cases hf
      exact r_iret X dX1_whyHoles_43 (Nat.le_of_ble_eq_true rfl) (Nat.le_of_ble_eq_true rfl) rfl hH hS
  · have hf := (if_neg c_).symm.trans hf
    refine lv_iload_n hx hb dX1_whyHoles_11 rfl (lv_at hl 0 rfl) ?_
    cases hf
    exact r_iret X dX1_whyHoles_12 (Nat.le_of_ble_eq_true rfl) (Nat.le_of_ble_eq_true rfl) rfl hH hS
theorem cv_X1_readBy : CalV "WordBench" yX1_readBy cX1_readBy 9 (some .int) 3 := ⟨q460, qs9, q48, q461, by decide +kernel⟩
set_option maxHeartbeats 4000000 in
theorem met_X1_readBy (l : Launch) (G : GG) (σ : SG) (N : Nat) (a0 : Nat) (a1 : Nat) (a2 : Int64) (a4 : Int32) (rf : Int32) (hf : f_X1_readBy N σ a0 a1 a2 a4 = some rf) : Con l yX1_readBy cX1_readBy 9 (some .int) 1 0 0 G σ [.ref a0, .ref a1, .long a2, .int a4] σ (some (.int rf)) := by
  refine con_of (by decide) (Nat.le_of_ble_eq_true rfl) ?_
  intro p e s m below meth c ls X hK hH hl hS
  have hx := X.1
  have hb := X.2.1
  have hml := X.2.2.2.1
  have hown : s.vm.findClass RX1 = some m.cls := X.2.2.2.2.1
  have hts := X.2.2.2.2.2.1
  have hl : lv_has ls 9 [(0, .ref a0), (1, .ref a1), (2, .long a2), (4, .int a4)] := hl
  unfold f_X1_readBy at hf
  have L11 : ∀ (c0 : Nat) (c1 : Nat) (c2 : Int64) (c4 : Int32) (n : Nat) (s11 : (Int32 × Int32 × Int32)) (r11 : Int32), lp (f_X1_readBy_b11 N c0 c1 c2 c4 σ) n s11 = some r11 → (∀ (ls : Array Slot) (H : Heap) (locs : List Loc), lv_has ls 9 [(5, .int r11)] → HH G σ H → va_S (AG G) s.heap H locs → W p l e (rm_ 1 0 0) s m ([.ref a0, .ref a1, .long a2, .int a4] : List Value).toArray below meth c H locs 0 0 (MQ below (PostC G σ (some (.int rf))) ([.ref a0, .ref a1, .long a2, .int a4] : List Value).toArray s 0 0 (AG G)) (F0 m 67 ls [])) → ∀ (ls : Array Slot) (H : Heap) (locs : List Loc), lv_has ls 9 [(0, .ref c0), (1, .ref c1), (2, .long c2), (4, .int c4), (5, .int s11.1), (6, .int s11.2.1), (7, .int s11.2.2)] → HH G σ H → va_S (AG G) s.heap H locs → W p l e (rm_ 1 0 0) s m ([.ref a0, .ref a1, .long a2, .int a4] : List Value).toArray below meth c H locs 0 0 (MQ below (PostC G σ (some (.int rf))) ([.ref a0, .ref a1, .long a2, .int a4] : List Value).toArray s 0 0 (AG G)) (F0 m 11 ls []) := by
    intro c0 c1 c2 c4 n s11 r11 hr hq
    refine lp_ind (P := fun s11 => ∀ (ls : Array Slot) (H : Heap) (locs : List Loc), lv_has ls 9 [(0, .ref c0), (1, .ref c1), (2, .long c2), (4, .int c4), (5, .int s11.1), (6, .int s11.2.1), (7, .int s11.2.2)] → HH G σ H → va_S (AG G) s.heap H locs → W p l e (rm_ 1 0 0) s m ([.ref a0, .ref a1, .long a2, .int a4] : List Value).toArray below meth c H locs 0 0 (MQ below (PostC G σ (some (.int rf))) ([.ref a0, .ref a1, .long a2, .int a4] : List Value).toArray s 0 0 (AG G)) (F0 m 11 ls [])) (Q := fun r11 => ∀ (ls : Array Slot) (H : Heap) (locs : List Loc), lv_has ls 9 [(5, .int r11)] → HH G σ H → va_S (AG G) s.heap H locs → W p l e (rm_ 1 0 0) s m ([.ref a0, .ref a1, .long a2, .int a4] : List Value).toArray below meth c H locs 0 0 (MQ below (PostC G σ (some (.int rf))) ([.ref a0, .ref a1, .long a2, .int a4] : List Value).toArray s 0 0 (AG G)) (F0 m 67 ls [])) ?_ n s11 r11 hr hq
    intro s11 x11 hf hx11 ls H locs hl hH hS
    unfold f_X1_readBy_b11 at hf
    refine lv_iload hx hb dX1_readBy_11 (lv_at hl 6 rfl) ?_
    refine lv_aload_n hx hb dX1_readBy_13 rfl (lv_at hl 0 rfl) ?_
    obtain ⟨v1, hv, hf⟩ := bd hf
    refine h_gI X hK hH fo_X1_2 hv q651 dX1_readBy_14 ?_
    refine lv_icmp_ge (tgt := 67) hx hb dX1_readBy_17 (by decide) (fun c_ => ?_) (fun c_ => ?_)
    · have hf := (if_pos c_).symm.trans hf
      cases hf
      exact hx11 _ _ _ (lv_sub hl [4] rfl) hH hS
    · have hf := (if_neg c_).symm.trans hf
      refine lv_aload_n hx hb dX1_readBy_20 rfl (lv_at hl 1 rfl) ?_
      obtain ⟨v2, hv, hf⟩ := bd hf
      refine h_gI X hK hH fo_Code_0 hv q116 dX1_readBy_21 ?_
      refine lv_aload_n hx hb dX1_readBy_24 rfl (lv_at hl 1 rfl) ?_
      obtain ⟨v3, hv, hf⟩ := bd hf
      refine h_gI X hK hH fo_Code_1 hv q123 dX1_readBy_25 ?_
      refine lv_aload_n hx hb dX1_readBy_28 rfl (lv_at hl 0 rfl) ?_
      obtain ⟨v4, hv, hf⟩ := bd hf
      refine h_gR X hK hH fo_X1_1 hv q650 dX1_readBy_29 ?_
      refine lv_iload hx hb dX1_readBy_32 (lv_at hl 6 rfl) ?_
      obtain ⟨v5, hv, hf⟩ := bd hf
      refine h_aL X hK hH hv dX1_readBy_34 ?_
      refine lv_lload_n hx hb dX1_readBy_35 rfl (lv_at hl 2 rfl) ?_
      refine lv_iload hx hb dX1_readBy_36 (lv_at hl 3 rfl) ?_
      obtain ⟨v6, hv, hf⟩ := bd hf
      refine c_S (As := [.int v2, .int v3, .long v5, .long c2, .int c4]) (rest := []) (st1 := [.int v6]) X (met_X1_wayOf l G σ N v2 v3 v5 c2 c4 v6 hv) cs_X1_wayOf q379 rfl rfl rfl hl.1 (Nat.le_of_ble_eq_true rfl) ⟨Nat.le_of_ble_eq_true rfl, Nat.le_of_ble_eq_true rfl⟩ ⟨Nat.le_of_ble_eq_true rfl, Nat.le_of_ble_eq_true rfl⟩ dX1_readBy_38 hK hH hS (fun H locs hH hS => ?_)
      refine W.cs (cells' := 0) (slots' := 0) (by rfl) (by rfl) ?_
      refine lv_istore (lv' := [(8, .int v6), (0, .ref c0), (1, .ref c1), (2, .long c2), (4, .int c4), (5, .int s11.1), (6, .int s11.2.1), (7, .int s11.2.2)]) hx hb dX1_readBy_41 hl (by decide) rfl (fun ls hl => ?_)
      refine lv_iload hx hb dX1_readBy_43 (lv_at hl 0 rfl) ?_
      refine lv_iload hx hb dX1_readBy_45 (lv_at hl 6 rfl) ?_
      refine lv_icmp_lt (tgt := 53) hx hb dX1_readBy_47 (by decide) (fun c_ => ?_) (fun c_ => ?_)
      · have hf := (if_pos c_).symm.trans hf
        refine lv_iload hx hb dX1_readBy_53 (lv_at hl 0 rfl) ?_
        refine lv_istore (lv' := [(6, .int v6), (8, .int v6), (0, .ref c0), (1, .ref c1), (2, .long c2), (4, .int c4), (5, .int s11.1), (7, .int s11.2.2)]) hx hb dX1_readBy_55 hl (by decide) rfl (fun ls hl => ?_)
        refine lv_iload hx hb dX1_readBy_57 (lv_at hl 7 rfl) ?_
        refine lv_istore (lv' := [(5, .int s11.2.2), (6, .int v6), (8, .int v6), (0, .ref c0), (1, .ref c1), (2, .long c2), (4, .int c4), (7, .int s11.2.2)]) hx hb dX1_readBy_59 hl (by decide) rfl (fun ls hl => ?_)
        refine lv_iinc (v := (s11.2.2 + 1)) (lv' := [(7, .int (s11.2.2 + 1)), (5, .int s11.2.2), (6, .int v6), (8, .int v6), (0, .ref c0), (1, .ref c1), (2, .long c2), (4, .int c4)]) hx hb dX1_readBy_61 hl (k := 7) rfl rfl (by decide) rfl (fun ls hl => ?_)
        refine lv_goto (tgt := 11) hx hb dX1_readBy_64 (by decide) ?_
        cases hf
        exact hx11 _ _ _ (lv_sub hl [4, 5, 6, 7, 1, 2, 0] rfl) hH hS
      · have hf := (if_neg c_).symm.trans hf
        refine lv_goto (tgt := 61) hx hb dX1_readBy_50 (by decide) ?_
        refine lv_iinc (v := (s11.2.2 + 1)) (lv' := [(7, .int (s11.2.2 + 1)), (8, .int v6), (0, .ref c0), (1, .ref c1), (2, .long c2), (4, .int c4), (5, .int s11.1), (6, .int s11.2.1)]) hx hb dX1_readBy_61 hl (k := 7) rfl rfl (by decide) rfl (fun ls hl => ?_)
        refine lv_goto (tgt := 11) hx hb dX1_readBy_64 (by decide) ?_
        cases hf
        exact hx11 _ _ _ (lv_sub hl [2, 3, 4, 5, 6, 7, 0] rfl) hH hS
  refine lv_bipush (v := (-2 : Int32)) hx hb dX1_readBy_0 (by decide) ?_
  refine lv_istore (lv' := [(5, .int (-2 : Int32)), (0, .ref a0), (1, .ref a1), (2, .long a2), (4, .int a4)]) hx hb dX1_readBy_2 hl (by decide) rfl (fun ls hl => ?_)
  refine lv_bipush (v := (13 : Int32)) hx hb dX1_readBy_4 (by decide) ?_
  refine lv_istore (lv' := [(6, .int (13 : Int32)), (5, .int (-2 : Int32)), (0, .ref a0), (1, .ref a1), (2, .long a2), (4, .int a4)]) hx hb dX1_readBy_6 hl (by decide) rfl (fun ls hl => ?_)
  refine lv_iconst (v := (0 : Int32)) hx hb dX1_readBy_8 (by decide) ?_
  refine lv_istore (lv' := [(7, .int (0 : Int32)), (6, .int (13 : Int32)), (5, .int (-2 : Int32)), (0, .ref a0), (1, .ref a1), (2, .long a2), (4, .int a4)]) hx hb dX1_readBy_9 hl (by decide) rfl (fun ls hl => ?_)
  obtain ⟨r11_7, hr, hf⟩ := bd hf
  refine L11 a0 a1 a2 a4 N _ r11_7 hr ?_ _ _ _ (lv_sub hl [3, 4, 5, 6, 2, 1, 0] rfl) hH hS
  intro ls H locs hl hH hS
  refine lv_iload hx hb dX1_readBy_67 (lv_at hl 0 rfl) ?_
  cases hf
  exact r_iret X dX1_readBy_69 (Nat.le_of_ble_eq_true rfl) (Nat.le_of_ble_eq_true rfl) rfl hH hS
theorem cv_X1_covers : CalV "WordBench" yX1_covers cX1_covers 6 (some .int) 1 := ⟨q478, qs11, q48, q479, by decide +kernel⟩
set_option maxHeartbeats 4000000 in
theorem met_X1_covers (l : Launch) (G : GG) (σ : SG) (N : Nat) (a0 : Nat) (a1 : Nat) (σf : SG) (rf : Int32) (hf : f_X1_covers N σ a0 a1 = some (σf, rf)) : Con l yX1_covers cX1_covers 6 (some .int) 2 0 0 G σ [.ref a0, .ref a1] σf (some (.int rf)) := by
  refine con_of (by decide) (Nat.le_of_ble_eq_true rfl) ?_
  intro p e s m below meth c ls X hK hH hl hS
  have hx := X.1
  have hb := X.2.1
  have hml := X.2.2.2.1
  have hown : s.vm.findClass RX1 = some m.cls := X.2.2.2.2.1
  have hts := X.2.2.2.2.2.1
  have hl : lv_has ls 6 [(0, .ref a0), (1, .ref a1)] := hl
  unfold f_X1_covers at hf
  have L4 : ∀ (c0 : Nat) (c1 : Nat) (n : Nat) (s4 : (Int32 × Int64 × SG)) (r4 : (Int32 × SG)), lp (f_X1_covers_b4 N c0 c1) n s4 = some r4 → (∀ (ls : Array Slot) (H : Heap) (locs : List Loc), lv_has ls 6 [(2, .int r4.1)] → HH G r4.2 H → va_S (AG G) s.heap H locs → W p l e (rm_ 2 0 0) s m ([.ref a0, .ref a1] : List Value).toArray below meth c H locs 0 0 (MQ below (PostC G σf (some (.int rf))) ([.ref a0, .ref a1] : List Value).toArray s 0 0 (AG G)) (F0 m 71 ls [])) → ∀ (ls : Array Slot) (H : Heap) (locs : List Loc), lv_has ls 6 [(0, .ref c0), (1, .ref c1), (2, .int s4.1), (3, .long s4.2.1)] → HH G s4.2.2 H → va_S (AG G) s.heap H locs → W p l e (rm_ 2 0 0) s m ([.ref a0, .ref a1] : List Value).toArray below meth c H locs 0 0 (MQ below (PostC G σf (some (.int rf))) ([.ref a0, .ref a1] : List Value).toArray s 0 0 (AG G)) (F0 m 4 ls []) := by
    intro c0 c1 n s4 r4 hr hq
    refine lp_ind (P := fun s4 => ∀ (ls : Array Slot) (H : Heap) (locs : List Loc), lv_has ls 6 [(0, .ref c0), (1, .ref c1), (2, .int s4.1), (3, .long s4.2.1)] → HH G s4.2.2 H → va_S (AG G) s.heap H locs → W p l e (rm_ 2 0 0) s m ([.ref a0, .ref a1] : List Value).toArray below meth c H locs 0 0 (MQ below (PostC G σf (some (.int rf))) ([.ref a0, .ref a1] : List Value).toArray s 0 0 (AG G)) (F0 m 4 ls [])) (Q := fun r4 => ∀ (ls : Array Slot) (H : Heap) (locs : List Loc), lv_has ls 6 [(2, .int r4.1)] → HH G r4.2 H → va_S (AG G) s.heap H locs → W p l e (rm_ 2 0 0) s m ([.ref a0, .ref a1] : List Value).toArray below meth c H locs 0 0 (MQ below (PostC G σf (some (.int rf))) ([.ref a0, .ref a1] : List Value).toArray s 0 0 (AG G)) (F0 m 71 ls [])) ?_ n s4 r4 hr hq
    intro s4 x4 hf hx4 ls H locs hl hH hS
    unfold f_X1_covers_b4 at hf
    have J64 : ∀ (d2 : Int32) (d3 : Int64) (u64 : SG), f_X1_covers_j64 N c0 c1 d2 d3 u64 = some x4 → ∀ (ls : Array Slot) (H : Heap) (locs : List Loc), lv_has ls 6 [(0, .ref c0), (1, .ref c1), (2, .int d2), (3, .long d3)] → HH G u64 H → va_S (AG G) s.heap H locs → W p l e (rm_ 2 0 0) s m ([.ref a0, .ref a1] : List Value).toArray below meth c H locs 0 0 (MQ below (PostC G σf (some (.int rf))) ([.ref a0, .ref a1] : List Value).toArray s 0 0 (AG G)) (F0 m 64 ls []) := by
      intro d2 d3 u64 hf ls H locs hl hH hS
      unfold f_X1_covers_j64 at hf
      refine lv_lload_n hx hb dX1_covers_64 rfl (lv_at hl 3 rfl) ?_
      refine lv_lconst (v := (1 : Int64)) hx hb dX1_covers_65 (by decide) ?_
      refine lv_ladd hx hb dX1_covers_66 ?_
      refine lv_lstore_n (lv' := [(3, .long (d3 + (1 : Int64))), (0, .ref c0), (1, .ref c1), (2, .int d2)]) hx hb dX1_covers_67 rfl hl (by decide) rfl (fun ls hl => ?_)
      refine lv_goto (tgt := 4) hx hb dX1_covers_68 (by decide) ?_
      cases hf
      exact hx4 _ _ _ (lv_sub hl [1, 2, 3, 0] rfl) hH hS
    refine lv_lload_n hx hb dX1_covers_4 rfl (lv_at hl 3 rfl) ?_
    refine lv_aload_n hx hb dX1_covers_5 rfl (lv_at hl 1 rfl) ?_
    obtain ⟨v1, hv, hf⟩ := bd hf
    refine h_gI X hK hH fo_Code_0 hv q116 dX1_covers_6 ?_
    refine lv_aload_n hx hb dX1_covers_9 rfl (lv_at hl 1 rfl) ?_
    obtain ⟨v2, hv, hf⟩ := bd hf
    refine h_gI X hK hH fo_Code_1 hv q123 dX1_covers_10 ?_
    obtain ⟨v3, hv, hf⟩ := bd hf
    refine c_S (As := [.int v1, .int v2]) (rest := [.long s4.2.1]) (st1 := [.long v3, .long s4.2.1]) X (met_X1_power l G s4.2.2 N v1 v2 v3 hv) cs_X1_power q190 rfl rfl rfl hl.1 (Nat.le_of_ble_eq_true rfl) ⟨Nat.le_of_ble_eq_true rfl, Nat.le_of_ble_eq_true rfl⟩ ⟨Nat.le_of_ble_eq_true rfl, Nat.le_of_ble_eq_true rfl⟩ dX1_covers_13 hK hH hS (fun H locs hH hS => ?_)
    refine W.cs (cells' := 0) (slots' := 0) (by rfl) (by rfl) ?_
    refine W.lcmp hx hb dX1_covers_16 ?_
    refine lv_if_ge (tgt := 71) hx hb dX1_covers_17 (by decide) (fun c_ => ?_) (fun c_ => ?_)
    · have hf := (if_pos ((lg_cmp_ge s4.2.1 v3).mp c_)).symm.trans hf
      cases hf
      exact hx4 _ _ _ (lv_sub hl [2] rfl) hH hS
    · have hf := (if_neg (fun z => c_ ((lg_cmp_ge s4.2.1 v3).mpr z))).symm.trans hf
      refine lv_aload_n hx hb dX1_covers_20 rfl (lv_at hl 1 rfl) ?_
      obtain ⟨v4, hv, hf⟩ := bd hf
      refine h_gI X hK hH fo_Code_0 hv q116 dX1_covers_21 ?_
      refine lv_aload_n hx hb dX1_covers_24 rfl (lv_at hl 1 rfl) ?_
      obtain ⟨v5, hv, hf⟩ := bd hf
      refine h_gI X hK hH fo_Code_1 hv q123 dX1_covers_25 ?_
      refine lv_aload_n hx hb dX1_covers_28 rfl (lv_at hl 0 rfl) ?_
      obtain ⟨v6, hv, hf⟩ := bd hf
      refine h_gR X hK hH fo_X1_1 hv q650 dX1_covers_29 ?_
      refine lv_aload_n hx hb dX1_covers_32 rfl (lv_at hl 0 rfl) ?_
      refine lv_aload_n hx hb dX1_covers_33 rfl (lv_at hl 1 rfl) ?_
      refine lv_lload_n hx hb dX1_covers_34 rfl (lv_at hl 3 rfl) ?_
      refine lv_iconst (v := (0 : Int32)) hx hb dX1_covers_35 (by decide) ?_
      obtain ⟨_, hw, hf⟩ := bd hf
      obtain ⟨v7, hv, hf⟩ := bd hf
      refine c_V (As := [.ref c1, .long s4.2.1, .int (0 : Int32)]) (rest := [.ref v6, .int v5, .int v4]) (st1 := [.int v7, .ref v6, .int v5, .int v4]) X (met_X1_readBy l G s4.2.2 N c0 c1 s4.2.1 (0 : Int32) v7 hv) cv_X1_readBy q458 (recv1 (w := (RX1, TX1, 6)) hw hK hH rfl) rfl rfl rfl hl.1 (Nat.le_of_ble_eq_true rfl) ⟨Nat.le_of_ble_eq_true rfl, Nat.le_of_ble_eq_true rfl⟩ ⟨Nat.le_of_ble_eq_true rfl, Nat.le_of_ble_eq_true rfl⟩ dX1_covers_36 hK hH hS (fun H locs hH hS => ?_)
      refine W.cs (cells' := 0) (slots' := 0) (by rfl) (by rfl) ?_
      obtain ⟨v8, hv, hf⟩ := bd hf
      refine h_aL X hK hH hv dX1_covers_39 ?_
      refine lv_lload_n hx hb dX1_covers_40 rfl (lv_at hl 3 rfl) ?_
      refine lv_iconst (v := (0 : Int32)) hx hb dX1_covers_41 (by decide) ?_
      obtain ⟨v9, hv, hf⟩ := bd hf
      refine c_S (As := [.int v4, .int v5, .long v8, .long s4.2.1, .int (0 : Int32)]) (rest := []) (st1 := [.int v9]) X (met_X1_wayOf l G s4.2.2 N v4 v5 v8 s4.2.1 (0 : Int32) v9 hv) cs_X1_wayOf q379 rfl rfl rfl hl.1 (Nat.le_of_ble_eq_true rfl) ⟨Nat.le_of_ble_eq_true rfl, Nat.le_of_ble_eq_true rfl⟩ ⟨Nat.le_of_ble_eq_true rfl, Nat.le_of_ble_eq_true rfl⟩ dX1_covers_42 hK hH hS (fun H locs hH hS => ?_)
      refine W.cs (cells' := 0) (slots' := 0) (by rfl) (by rfl) ?_
      refine lv_istore (lv' := [(5, .int v9), (0, .ref c0), (1, .ref c1), (2, .int s4.1), (3, .long s4.2.1)]) hx hb dX1_covers_45 hl (by decide) rfl (fun ls hl => ?_)
      refine lv_iload hx hb dX1_covers_47 (lv_at hl 0 rfl) ?_
      refine lv_iload_n hx hb dX1_covers_49 rfl (lv_at hl 3 rfl) ?_
      refine lv_icmp_gt (tgt := 56) hx hb dX1_covers_50 (by decide) (fun c_ => ?_) (fun c_ => ?_)
      · have hf := (if_pos c_).symm.trans hf
        refine lv_iload hx hb dX1_covers_56 (lv_at hl 0 rfl) ?_
        refine lv_istore_n (lv' := [(2, .int v9), (5, .int v9), (0, .ref c0), (1, .ref c1), (3, .long s4.2.1)]) hx hb dX1_covers_58 rfl hl (by decide) rfl (fun ls hl => ?_)
        refine lv_aload_n hx hb dX1_covers_59 rfl (lv_at hl 2 rfl) ?_
        refine lv_lload_n hx hb dX1_covers_60 rfl (lv_at hl 4 rfl) ?_
        obtain ⟨t10, hv, hf⟩ := bd hf
        refine h_put (ty := .long) X hK hH hS fo_X1_4 hv q653 (by decide +kernel) rfl rfl dX1_covers_61 (fun H locs hH hS => ?_)
        exact J64 v9 s4.2.1 t10 hf _ _ _ (lv_sub hl [2, 3, 0, 4] rfl) hH hS
      · have hf := (if_neg c_).symm.trans hf
        refine lv_goto (tgt := 64) hx hb dX1_covers_53 (by decide) ?_
        exact J64 s4.1 s4.2.1 s4.2.2 hf _ _ _ (lv_sub hl [1, 2, 3, 4] rfl) hH hS
  refine lv_iconst (v := (-1 : Int32)) hx hb dX1_covers_0 (by decide) ?_
  refine lv_istore_n (lv' := [(2, .int (-1 : Int32)), (0, .ref a0), (1, .ref a1)]) hx hb dX1_covers_1 rfl hl (by decide) rfl (fun ls hl => ?_)
  refine lv_lconst (v := (0 : Int64)) hx hb dX1_covers_2 (by decide) ?_
  refine lv_lstore_n (lv' := [(3, .long (0 : Int64)), (2, .int (-1 : Int32)), (0, .ref a0), (1, .ref a1)]) hx hb dX1_covers_3 rfl hl (by decide) rfl (fun ls hl => ?_)
  obtain ⟨r4_11, hr, hf⟩ := bd hf
  refine L4 a0 a1 N _ r4_11 hr ?_ _ _ _ (lv_sub hl [2, 3, 1, 0] rfl) hH hS
  intro ls H locs hl hH hS
  refine lv_iload_n hx hb dX1_covers_71 rfl (lv_at hl 0 rfl) ?_
  cases hf
  exact r_iret X dX1_covers_72 (Nat.le_of_ble_eq_true rfl) (Nat.le_of_ble_eq_true rfl) rfl hH hS
theorem cv_X1_cover : CalV "WordBench" yX1_cover cX1_cover 3 (some .int) 1 := ⟨q468, q469, q48, q470, by decide +kernel⟩
set_option maxHeartbeats 4000000 in
theorem met_X1_cover (l : Launch) (G : GG) (σ : SG) (N : Nat) (a0 : Nat) (a1 : Int32) (σf : SG) (rf : Int32) (hf : f_X1_cover N σ a0 a1 = some (σf, rf)) : Con l yX1_cover cX1_cover 3 (some .int) 6 16 185 G σ [.ref a0, .int a1] σf (some (.int rf)) := by
  refine con_of (by decide) (Nat.le_of_ble_eq_true rfl) ?_
  intro p e s m below meth c ls X hK hH hl hS
  have hx := X.1
  have hb := X.2.1
  have hml := X.2.2.2.1
  have hown : s.vm.findClass RX1 = some m.cls := X.2.2.2.2.1
  have hts := X.2.2.2.2.2.1
  have hl : lv_has ls 3 [(0, .ref a0), (1, .int a1)] := hl
  unfold f_X1_cover at hf
  refine lv_aload_n hx hb dX1_cover_0 rfl (lv_at hl 0 rfl) ?_
  refine lv_iload_n hx hb dX1_cover_1 rfl (lv_at hl 1 rfl) ?_
  obtain ⟨_, hw, hf⟩ := bd hf
  obtain ⟨v1, hv, hf⟩ := bd hf
  refine c_V (As := [.int a1]) (rest := []) (st1 := [.int v1.2]) X (met_X1_whyHoles l G σ N a0 a1 v1.1 v1.2 hv) cv_X1_whyHoles q471 (recv1 (w := (RX1, TX1, 6)) hw hK hH rfl) rfl rfl rfl hl.1 (Nat.le_of_ble_eq_true rfl) ⟨Nat.le_of_ble_eq_true rfl, Nat.le_of_ble_eq_true rfl⟩ ⟨Nat.le_of_ble_eq_true rfl, Nat.le_of_ble_eq_true rfl⟩ dX1_cover_2 hK hH hS (fun H locs hH hS => ?_)
  refine W.cs (cells' := 16) (slots' := 185) (by rfl) (by rfl) ?_
  refine lv_istore_n (lv' := [(2, .int v1.2), (0, .ref a0), (1, .int a1)]) hx hb dX1_cover_5 rfl hl (by decide) rfl (fun ls hl => ?_)
  refine lv_iload_n hx hb dX1_cover_6 rfl (lv_at hl 0 rfl) ?_
  refine lv_if_eq (tgt := 14) hx hb dX1_cover_7 (by decide) (fun c_ => ?_) (fun c_ => ?_)
  · have hf := (if_pos c_).symm.trans hf
    refine lv_aload_n hx hb dX1_cover_14 rfl (lv_at hl 1 rfl) ?_
    refine lv_aload_n hx hb dX1_cover_15 rfl (lv_at hl 1 rfl) ?_
    obtain ⟨v2, hv, hf⟩ := bd hf
    refine h_gR X hK hH fo_X1_0 hv q649 dX1_cover_16 ?_
    refine lv_iload_n hx hb dX1_cover_19 rfl (lv_at hl 2 rfl) ?_
    obtain ⟨v3, hv, hf⟩ := bd hf
    refine h_aQ (by decide) X hK hH hv dX1_cover_20 ?_
    obtain ⟨b4, hq, hz⟩ := bd hf
    clear hf
    subst hq
    have hf := hz
    clear hz
    obtain ⟨_, hw, hf⟩ := bd hf
    obtain ⟨v5, hv, hf⟩ := bd hf
    refine c_V (As := [.ref b4]) (rest := []) (st1 := [.int v5.2]) X (met_X1_covers l G v1.1 N a0 b4 v5.1 v5.2 hv) cv_X1_covers q476 (recv1 (w := (RX1, TX1, 6)) hw hK hH rfl) rfl rfl rfl hl.1 (Nat.le_of_ble_eq_true rfl) ⟨Nat.le_of_ble_eq_true rfl, Nat.le_of_ble_eq_true rfl⟩ ⟨Nat.le_of_ble_eq_true rfl, Nat.le_of_ble_eq_true rfl⟩ dX1_cover_21 hK hH hS (fun H locs hH hS => ?_)
    refine W.cs (cells' := 16) (slots' := 185) (by rfl) (by rfl) ?_
    cases hf
    exact r_iret X dX1_cover_24 (Nat.le_of_ble_eq_true rfl) (Nat.le_of_ble_eq_true rfl) rfl hH hS
  · have hf := (if_neg c_).symm.trans hf
    refine lv_iload_n hx hb dX1_cover_10 rfl (lv_at hl 0 rfl) ?_
    refine lv_goto (tgt := 24) hx hb dX1_cover_11 (by decide) ?_
    cases hf
    exact r_iret X dX1_cover_24 (Nat.le_of_ble_eq_true rfl) (Nat.le_of_ble_eq_true rfl) rfl hH hS
theorem cv_X1_whyPlace : CalV "WordBench" yX1_whyPlace cX1_whyPlace 4 (some .int) 3 := ⟨q503, qs12, q48, q504, by decide +kernel⟩
set_option maxHeartbeats 4000000 in
theorem met_X1_whyPlace (l : Launch) (G : GG) (σ : SG) (N : Nat) (a0 : Nat) (a1 : Int32) (a2 : Int32) (a3 : Int32) (rf : Int32) (hf : f_X1_whyPlace N σ a0 a1 a2 a3 = some rf) : Con l yX1_whyPlace cX1_whyPlace 4 (some .int) 2 0 0 G σ [.ref a0, .int a1, .int a2, .int a3] σ (some (.int rf)) := by
  refine con_of (by decide) (Nat.le_of_ble_eq_true rfl) ?_
  intro p e s m below meth c ls X hK hH hl hS
  have hx := X.1
  have hb := X.2.1
  have hml := X.2.2.2.1
  have hown : s.vm.findClass RX1 = some m.cls := X.2.2.2.2.1
  have hts := X.2.2.2.2.2.1
  have hl : lv_has ls 4 [(0, .ref a0), (1, .int a1), (2, .int a2), (3, .int a3)] := hl
  unfold f_X1_whyPlace at hf
  refine lv_iload_n hx hb dX1_whyPlace_0 rfl (lv_at hl 1 rfl) ?_
  obtain ⟨v1, hv, hf⟩ := bd hf
  refine c_S (As := [.int a1]) (rest := []) (st1 := [.int v1]) X (met_X1_isPlace l G σ N a1 v1 hv) cs_X1_isPlace q82 rfl rfl rfl hl.1 (Nat.le_of_ble_eq_true rfl) ⟨Nat.le_of_ble_eq_true rfl, Nat.le_of_ble_eq_true rfl⟩ ⟨Nat.le_of_ble_eq_true rfl, Nat.le_of_ble_eq_true rfl⟩ dX1_whyPlace_1 hK hH hS (fun H locs hH hS => ?_)
  refine W.cs (cells' := 0) (slots' := 0) (by rfl) (by rfl) ?_
  refine lv_if_eq (tgt := 14) hx hb dX1_whyPlace_4 (by decide) (fun c_ => ?_) (fun c_ => ?_)
  · have hf := (if_pos c_).symm.trans hf
    refine lv_iconst (v := (-1 : Int32)) hx hb dX1_whyPlace_14 (by decide) ?_
    cases hf
    exact r_iret X dX1_whyPlace_15 (Nat.le_of_ble_eq_true rfl) (Nat.le_of_ble_eq_true rfl) rfl hH hS
  · have hf := (if_neg c_).symm.trans hf
    refine lv_iload_n hx hb dX1_whyPlace_7 rfl (lv_at hl 3 rfl) ?_
    obtain ⟨v2, hv, hf⟩ := bd hf
    refine c_S (As := [.int a3]) (rest := []) (st1 := [.int v2]) X (met_X1_isPlace l G σ N a3 v2 hv) cs_X1_isPlace q82 rfl rfl rfl hl.1 (Nat.le_of_ble_eq_true rfl) ⟨Nat.le_of_ble_eq_true rfl, Nat.le_of_ble_eq_true rfl⟩ ⟨Nat.le_of_ble_eq_true rfl, Nat.le_of_ble_eq_true rfl⟩ dX1_whyPlace_8 hK hH hS (fun H locs hH hS => ?_)
    refine W.cs (cells' := 0) (slots' := 0) (by rfl) (by rfl) ?_
    refine lv_if_ne (tgt := 16) hx hb dX1_whyPlace_11 (by decide) (fun c_ => ?_) (fun c_ => ?_)
    · have hf := (if_neg c_).symm.trans hf
      refine lv_aload_n hx hb dX1_whyPlace_16 rfl (lv_at hl 0 rfl) ?_
      obtain ⟨v3, hv, hf⟩ := bd hf
      refine h_gR X hK hH fo_X1_0 hv q649 dX1_whyPlace_17 ?_
      refine lv_iload_n hx hb dX1_whyPlace_20 rfl (lv_at hl 1 rfl) ?_
      obtain ⟨v4, hv, hf⟩ := bd hf
      refine h_aQ (by decide) X hK hH hv dX1_whyPlace_21 ?_
      rcases v4 with _ | b5
      · dsimp only at hf
        refine lv_ifnonnullN hx hb dX1_whyPlace_22 ?_
        refine lv_bipush (v := (-11 : Int32)) hx hb dX1_whyPlace_25 (by decide) ?_
        cases hf
        exact r_iret X dX1_whyPlace_27 (Nat.le_of_ble_eq_true rfl) (Nat.le_of_ble_eq_true rfl) rfl hH hS
      · dsimp only at hf
        refine lv_ifnonnull (tgt := 28) hx hb dX1_whyPlace_22 (by decide) ?_
        refine lv_aload_n hx hb dX1_whyPlace_28 rfl (lv_at hl 0 rfl) ?_
        obtain ⟨v6, hv, hf⟩ := bd hf
        refine h_gR X hK hH fo_X1_0 hv q649 dX1_whyPlace_29 ?_
        refine lv_iload_n hx hb dX1_whyPlace_32 rfl (lv_at hl 1 rfl) ?_
        obtain ⟨v7, hv, hf⟩ := bd hf
        refine h_aQ (by decide) X hK hH hv dX1_whyPlace_33 ?_
        obtain ⟨b8, hq, hz⟩ := bd hf
        clear hf
        subst hq
        have hf := hz
        clear hz
        obtain ⟨v9, hv, hf⟩ := bd hf
        refine h_gI X hK hH fo_Code_1 hv q123 dX1_whyPlace_34 ?_
        refine lv_iconst (v := (1 : Int32)) hx hb dX1_whyPlace_37 (by decide) ?_
        refine lv_icmp_eq (tgt := 62) hx hb dX1_whyPlace_38 (by decide) (fun c_ => ?_) (fun c_ => ?_)
        · have hf := (if_pos c_).symm.trans hf
          refine lv_iconst (v := (-1 : Int32)) hx hb dX1_whyPlace_62 (by decide) ?_
          refine lv_goto (tgt := 67) hx hb dX1_whyPlace_63 (by decide) ?_
          cases hf
          exact r_iret X dX1_whyPlace_67 (Nat.le_of_ble_eq_true rfl) (Nat.le_of_ble_eq_true rfl) rfl hH hS
        · have hf := (if_neg c_).symm.trans hf
          refine lv_iload_n hx hb dX1_whyPlace_41 rfl (lv_at hl 2 rfl) ?_
          refine lv_i2l (v := (a2).toInt64) hx hb dX1_whyPlace_42 rfl ?_
          refine lv_lconst (v := (0 : Int64)) hx hb dX1_whyPlace_43 (by decide) ?_
          refine lv_aload_n hx hb dX1_whyPlace_44 rfl (lv_at hl 0 rfl) ?_
          obtain ⟨v10, hv, hf⟩ := bd hf
          refine h_gR X hK hH fo_X1_0 hv q649 dX1_whyPlace_45 ?_
          refine lv_iload_n hx hb dX1_whyPlace_48 rfl (lv_at hl 1 rfl) ?_
          obtain ⟨v11, hv, hf⟩ := bd hf
          refine h_aQ (by decide) X hK hH hv dX1_whyPlace_49 ?_
          obtain ⟨b12, hq, hz⟩ := bd hf
          clear hf
          subst hq
          have hf := hz
          clear hz
          obtain ⟨v13, hv, hf⟩ := bd hf
          refine h_gI X hK hH fo_Code_1 hv q123 dX1_whyPlace_50 ?_
          refine lv_iconst (v := (1 : Int32)) hx hb dX1_whyPlace_53 (by decide) ?_
          refine lv_isub hx hb dX1_whyPlace_54 ?_
          refine lv_i2l (v := ((v13 - (1 : Int32))).toInt64) hx hb dX1_whyPlace_55 rfl ?_
          obtain ⟨v14, hv, hf⟩ := bd hf
          refine c_S (As := [.long ((a2).toInt64), .long (0 : Int64), .long (((v13 - (1 : Int32))).toInt64)]) (rest := []) (st1 := [.int v14]) X (met_X1_isIn l G σ N ((a2).toInt64) (0 : Int64) (((v13 - (1 : Int32))).toInt64) v14 hv) cs_X1_isIn q86 rfl rfl rfl hl.1 (Nat.le_of_ble_eq_true rfl) ⟨Nat.le_of_ble_eq_true rfl, Nat.le_of_ble_eq_true rfl⟩ ⟨Nat.le_of_ble_eq_true rfl, Nat.le_of_ble_eq_true rfl⟩ dX1_whyPlace_56 hK hH hS (fun H locs hH hS => ?_)
          refine W.cs (cells' := 0) (slots' := 0) (by rfl) (by rfl) ?_
          refine lv_if_ne (tgt := 66) hx hb dX1_whyPlace_59 (by decide) (fun c_ => ?_) (fun c_ => ?_)
          · have hf := (if_neg c_).symm.trans hf
            refine lv_iconst (v := (0 : Int32)) hx hb dX1_whyPlace_66 (by decide) ?_
            cases hf
            exact r_iret X dX1_whyPlace_67 (Nat.le_of_ble_eq_true rfl) (Nat.le_of_ble_eq_true rfl) rfl hH hS
          · have hf := (if_pos c_).symm.trans hf
            refine lv_iconst (v := (-1 : Int32)) hx hb dX1_whyPlace_62 (by decide) ?_
            refine lv_goto (tgt := 67) hx hb dX1_whyPlace_63 (by decide) ?_
            cases hf
            exact r_iret X dX1_whyPlace_67 (Nat.le_of_ble_eq_true rfl) (Nat.le_of_ble_eq_true rfl) rfl hH hS
    · have hf := (if_pos c_).symm.trans hf
      refine lv_iconst (v := (-1 : Int32)) hx hb dX1_whyPlace_14 (by decide) ?_
      cases hf
      exact r_iret X dX1_whyPlace_15 (Nat.le_of_ble_eq_true rfl) (Nat.le_of_ble_eq_true rfl) rfl hH hS
theorem ci_X5_init : CalI yX5_init cX5_init 3 2 := ⟨q98, q59, q99, rfl, by decide +kernel⟩
set_option maxHeartbeats 4000000 in
theorem met_X5_init (l : Launch) (G : GG) (σ : SG) (N : Nat) (a0 : Nat) (a1 : Int32) (a2 : Int32) (σf : SG) (hf : f_X5_init N σ a0 a1 a2 = some σf) : Con l yX5_init cX5_init 3 none 2 1 200 G σ [.ref a0, .int a1, .int a2] σf none := by
  refine con_of (by decide) (Nat.le_of_ble_eq_true rfl) ?_
  intro p e s m below meth c ls X hK hH hl hS
  have hx := X.1
  have hb := X.2.1
  have hml := X.2.2.2.1
  have hown : s.vm.findClass RX5 = some m.cls := X.2.2.2.2.1
  have hts := X.2.2.2.2.2.1
  have hl : lv_has ls 3 [(0, .ref a0), (1, .int a1), (2, .int a2)] := hl
  unfold f_X5_init at hf
  refine lv_aload_n hx hb dX5_init_0 rfl (lv_at hl 0 rfl) ?_
  refine lv_iload_n hx hb dX5_init_1 rfl (lv_at hl 1 rfl) ?_
  refine lv_iload_n hx hb dX5_init_2 rfl (lv_at hl 2 rfl) ?_
  refine lv_sipush (v := (200 : Int32)) hx hb dX5_init_3 (by decide) ?_
  obtain ⟨v1, hv, hf⟩ := bd hf
  refine r_I (As := [.int a1, .int a2, .int (200 : Int32)]) (rest := []) X (met_X4_init l G σ N a0 a1 a2 (200 : Int32) v1 hv) ci_X4_init q100 rfl rfl hl.1 (Nat.le_of_ble_eq_true rfl) ⟨Nat.le_of_ble_eq_true rfl, Nat.le_of_ble_eq_true rfl⟩ ⟨Nat.le_of_ble_eq_true rfl, Nat.le_of_ble_eq_true rfl⟩ dX5_init_6 hK hH hS (fun H locs hH hS => ?_)
  refine W.cs (cells' := 1) (slots' := 200) (by rfl) (by rfl) ?_
  cases hf
  exact r_vret X dX5_init_9 (Nat.le_of_ble_eq_true rfl) (Nat.le_of_ble_eq_true rfl) rfl hH hS
theorem cs_X1_like : CalS yX1_like cX1_like 2 (some (.object "WordBench$Code")) 2 := ⟨q493, q48, q494, by decide +kernel, by decide +kernel, by decide +kernel⟩
set_option maxHeartbeats 4000000 in
theorem met_X1_like (l : Launch) (G : GG) (σ : SG) (N : Nat) (a0 : Nat) (a1 : Int32) (σf : SG) (rf : Nat) (hf : f_X1_like N σ a0 a1 = some (σf, rf)) : Con l yX1_like cX1_like 2 (some (.object "WordBench$Code")) 3 2 204 G σ [.ref a0, .int a1] σf (some (.ref rf)) := by
  refine con_of (by decide) (Nat.le_of_ble_eq_true rfl) ?_
  intro p e s m below meth c ls X hK hH hl hS
  have hx := X.1
  have hb := X.2.1
  have hml := X.2.2.2.1
  have hown : s.vm.findClass RX1 = some m.cls := X.2.2.2.2.1
  have hts := X.2.2.2.2.2.1
  have hl : lv_has ls 2 [(0, .ref a0), (1, .int a1)] := hl
  unfold f_X1_like at hf
  have J34 : ∀ (k0 : Nat) (u34 : SG), f_X1_like_j34 N k0 u34 = some (σf, rf) → ∀ (ls : Array Slot) (H : Heap) (locs : List Loc), lv_has ls 2 [] → HH G u34 H → va_S (AG G) s.heap H locs → W p l e (rm_ 3 2 204) s m ([.ref a0, .int a1] : List Value).toArray below meth c H locs 2 204 (MQ below (PostC G σf (some (.ref rf))) ([.ref a0, .int a1] : List Value).toArray s 2 204 (AG G)) (F0 m 34 ls [.ref k0]) := by
    intro k0 u34 hf ls H locs hl hH hS
    unfold f_X1_like_j34 at hf
    cases hf
    exact r_aret X (Or.inl ⟨_, rfl⟩) (Or.inr ⟨_, rfl⟩) dX1_like_34 (Nat.le_of_ble_eq_true rfl) (Nat.le_of_ble_eq_true rfl) rfl hH hS
  refine lv_aload_n hx hb dX1_like_0 rfl (lv_at hl 0 rfl) ?_
  obtain ⟨v1, hv, hf⟩ := bd hf
  refine h_inst (w := (some a0)) X hK hH ca_Line nc_Line hv q152 dX1_like_1 ?_
  refine lv_if_eq (tgt := 22) hx hb dX1_like_4 (by decide) (fun c_ => ?_) (fun c_ => ?_)
  · have hf := (if_pos c_).symm.trans hf
    obtain ⟨t2, hv, hf⟩ := bd hf
    refine h_new (ci := 3) (fs := [.int 0, .int 0, .null, .int 0]) X hK hH hS tyX5 tyX5_ok in_X5 rfl q95 q96 q59 df_X5 (Nat.le_of_ble_eq_true rfl) (Nat.le_of_ble_eq_true rfl) dX1_like_22 (fun H hH hS => ?_)
    rw [Option.some.inj hv] at hH
    refine W.cs (cells' := 1) (slots' := 4) (by rfl) (by rfl) ?_
    refine lv_dup hx hb dX1_like_25 rfl ?_
    refine lv_aload_n hx hb dX1_like_26 rfl (lv_at hl 0 rfl) ?_
    obtain ⟨v3, hv, hf⟩ := bd hf
    refine h_gI X hK hH fo_Code_0 hv q116 dX1_like_27 ?_
    refine lv_iload_n hx hb dX1_like_30 rfl (lv_at hl 1 rfl) ?_
    obtain ⟨v4, hv, hf⟩ := bd hf
    refine r_I (As := [.int v3, .int a1]) (rest := [.ref ((σ).1)]) X (met_X5_init l G t2 N ((σ).1) v3 a1 v4 hv) ci_X5_init q97 rfl rfl hl.1 (Nat.le_of_ble_eq_true rfl) ⟨Nat.le_of_ble_eq_true rfl, Nat.le_of_ble_eq_true rfl⟩ ⟨Nat.le_of_ble_eq_true rfl, Nat.le_of_ble_eq_true rfl⟩ dX1_like_31 hK hH hS (fun H locs hH hS => ?_)
    refine W.cs (cells' := 2) (slots' := 204) (by rfl) (by rfl) ?_
    exact J34 ((σ).1) v4 hf _ _ _ (lv_sub hl [] rfl) hH hS
  · have hf := (if_neg c_).symm.trans hf
    obtain ⟨t5, hv, hf⟩ := bd hf
    refine h_new (ci := 4) (fs := [.int 0, .int 0, .null, .int 0]) X hK hH hS tyX6 tyX6_ok in_X6 rfl q152 q153 q60 df_X6 (Nat.le_of_ble_eq_true rfl) (Nat.le_of_ble_eq_true rfl) dX1_like_7 (fun H hH hS => ?_)
    rw [Option.some.inj hv] at hH
    refine W.cs (cells' := 1) (slots' := 4) (by rfl) (by rfl) ?_
    refine lv_dup hx hb dX1_like_10 rfl ?_
    refine lv_aload_n hx hb dX1_like_11 rfl (lv_at hl 0 rfl) ?_
    obtain ⟨v6, hv, hf⟩ := bd hf
    refine h_gI X hK hH fo_Code_0 hv q116 dX1_like_12 ?_
    refine lv_iload_n hx hb dX1_like_15 rfl (lv_at hl 1 rfl) ?_
    obtain ⟨v7, hv, hf⟩ := bd hf
    refine r_I (As := [.int v6, .int a1]) (rest := [.ref ((σ).1)]) X (met_X6_init l G t5 N ((σ).1) v6 a1 v7 hv) ci_X6_init q154 rfl rfl hl.1 (Nat.le_of_ble_eq_true rfl) ⟨Nat.le_of_ble_eq_true rfl, Nat.le_of_ble_eq_true rfl⟩ ⟨Nat.le_of_ble_eq_true rfl, Nat.le_of_ble_eq_true rfl⟩ dX1_like_16 hK hH hS (fun H locs hH hS => ?_)
    refine W.cs (cells' := 2) (slots' := 204) (by rfl) (by rfl) ?_
    refine lv_goto (tgt := 34) hx hb dX1_like_19 (by decide) ?_
    exact J34 ((σ).1) v7 hf _ _ _ (lv_sub hl [] rfl) hH hS
theorem cs_X1_without : CalS yX1_without cX1_without 7 (some .long) 4 := ⟨q506, q48, q507, by decide +kernel, by decide +kernel, by decide +kernel⟩
set_option maxHeartbeats 4000000 in
theorem met_X1_without (l : Launch) (G : GG) (σ : SG) (N : Nat) (a0 : Int32) (a1 : Int32) (a2 : Int64) (a4 : Int32) (rf : Int64) (hf : f_X1_without N a0 a1 a2 a4 = some rf) : Con l yX1_without cX1_without 7 (some .long) 1 0 0 G σ [.int a0, .int a1, .long a2, .int a4] σ (some (.long rf)) := by
  refine con_of (by decide) (Nat.le_of_ble_eq_true rfl) ?_
  intro p e s m below meth c ls X hK hH hl hS
  have hx := X.1
  have hb := X.2.1
  have hml := X.2.2.2.1
  have hown : s.vm.findClass RX1 = some m.cls := X.2.2.2.2.1
  have hts := X.2.2.2.2.2.1
  have hl : lv_has ls 7 [(0, .int a0), (1, .int a1), (2, .long a2), (4, .int a4)] := hl
  unfold f_X1_without at hf
  refine lv_iload_n hx hb dX1_without_0 rfl (lv_at hl 0 rfl) ?_
  refine lv_iload_n hx hb dX1_without_1 rfl (lv_at hl 1 rfl) ?_
  refine lv_iconst (v := (1 : Int32)) hx hb dX1_without_2 (by decide) ?_
  refine lv_isub hx hb dX1_without_3 ?_
  refine lv_iload hx hb dX1_without_4 (lv_at hl 3 rfl) ?_
  refine lv_isub hx hb dX1_without_6 ?_
  obtain ⟨v1, hv, hf⟩ := bd hf
  refine c_S (As := [.int a0, .int ((a1 - (1 : Int32)) - a4)]) (rest := []) (st1 := [.long v1]) X (met_X1_power l G _ N a0 ((a1 - (1 : Int32)) - a4) v1 hv) cs_X1_power q190 rfl rfl rfl hl.1 (Nat.le_of_ble_eq_true rfl) ⟨Nat.le_of_ble_eq_true rfl, Nat.le_of_ble_eq_true rfl⟩ ⟨Nat.le_of_ble_eq_true rfl, Nat.le_of_ble_eq_true rfl⟩ dX1_without_7 hK hH hS (fun H locs hH hS => ?_)
  refine W.cs (cells' := 0) (slots' := 0) (by rfl) (by rfl) ?_
  refine lv_lstore (lv' := [(5, .long v1), (0, .int a0), (1, .int a1), (2, .long a2), (4, .int a4)]) hx hb dX1_without_10 hl (by decide) rfl (fun ls hl => ?_)
  refine lv_lload_n hx hb dX1_without_12 rfl (lv_at hl 3 rfl) ?_
  refine lv_lload hx hb dX1_without_13 (lv_at hl 0 rfl) ?_
  refine lv_iload_n hx hb dX1_without_15 rfl (lv_at hl 1 rfl) ?_
  refine lv_i2l (v := (a0).toInt64) hx hb dX1_without_16 rfl ?_
  refine lv_lmul hx hb dX1_without_17 ?_
  obtain ⟨v2, hv, hf⟩ := bd hf
  refine r_ldiv hx hb hv dX1_without_18 ?_
  refine lv_lload hx hb dX1_without_19 (lv_at hl 0 rfl) ?_
  refine lv_lmul hx hb dX1_without_21 ?_
  refine lv_lload_n hx hb dX1_without_22 rfl (lv_at hl 3 rfl) ?_
  refine lv_lload hx hb dX1_without_23 (lv_at hl 0 rfl) ?_
  obtain ⟨v3, hv, hf⟩ := bd hf
  refine r_lrem hx hb hv dX1_without_25 ?_
  refine lv_ladd hx hb dX1_without_26 ?_
  cases hf
  exact r_lret X dX1_without_27 (Nat.le_of_ble_eq_true rfl) (Nat.le_of_ble_eq_true rfl) rfl hH hS
theorem cv_X1_puts : CalV "WordBench" yX1_puts cX1_puts 3 (some .int) 2 := ⟨q176, qs0, q48, q178, by decide +kernel⟩
set_option maxHeartbeats 4000000 in
theorem met_X1_puts (l : Launch) (G : GG) (σ : SG) (N : Nat) (a0 : Nat) (a1 : Int32) (a2 : Nat) (σf : SG) (rf : Int32) (hf : f_X1_puts N σ a0 a1 a2 = some (σf, rf)) : Con l yX1_puts cX1_puts 3 (some .int) 0 0 0 G σ [.ref a0, .int a1, .ref a2] σf (some (.int rf)) := by
  refine con_of (by decide) (Nat.le_of_ble_eq_true rfl) ?_
  intro p e s m below meth c ls X hK hH hl hS
  have hx := X.1
  have hb := X.2.1
  have hml := X.2.2.2.1
  have hown : s.vm.findClass RX1 = some m.cls := X.2.2.2.2.1
  have hts := X.2.2.2.2.2.1
  have hl : lv_has ls 3 [(0, .ref a0), (1, .int a1), (2, .ref a2)] := hl
  unfold f_X1_puts at hf
  refine lv_aload_n hx hb dX1_puts_0 rfl (lv_at hl 0 rfl) ?_
  obtain ⟨v1, hv, hf⟩ := bd hf
  refine h_gR X hK hH fo_X1_0 hv q649 dX1_puts_1 ?_
  refine lv_iload_n hx hb dX1_puts_4 rfl (lv_at hl 1 rfl) ?_
  refine lv_aload_n hx hb dX1_puts_5 rfl (lv_at hl 2 rfl) ?_
  obtain ⟨t2, hv, hf⟩ := bd hf
  refine h_wQ (w := (some a2)) X hK hH hS (by decide) hv dX1_puts_6 (fun H locs hH hS => ?_)
  refine lv_aload_n hx hb dX1_puts_7 rfl (lv_at hl 2 rfl) ?_
  obtain ⟨v3, hv, hf⟩ := bd hf
  refine h_gI X hK hH fo_Code_3 hv q141 dX1_puts_8 ?_
  cases hf
  exact r_iret X dX1_puts_11 (Nat.le_of_ble_eq_true rfl) (Nat.le_of_ble_eq_true rfl) rfl hH hS
theorem cv_X1_cut : CalV "WordBench" yX1_cut cX1_cut 8 (some .int) 3 := ⟨q498, q499, q48, q500, by decide +kernel⟩
set_option maxHeartbeats 4000000 in
theorem met_X1_cut (l : Launch) (G : GG) (σ : SG) (N : Nat) (a0 : Nat) (a1 : Int32) (a2 : Int32) (a3 : Int32) (σf : SG) (rf : Int32) (hf : f_X1_cut N σ a0 a1 a2 a3 = some (σf, rf)) : Con l yX1_cut cX1_cut 8 (some .int) 4 2 204 G σ [.ref a0, .int a1, .int a2, .int a3] σf (some (.int rf)) := by
  refine con_of (by decide) (Nat.le_of_ble_eq_true rfl) ?_
  intro p e s m below meth c ls X hK hH hl hS
  have hx := X.1
  have hb := X.2.1
  have hml := X.2.2.2.1
  have hown : s.vm.findClass RX1 = some m.cls := X.2.2.2.2.1
  have hts := X.2.2.2.2.2.1
  have hl : lv_has ls 8 [(0, .ref a0), (1, .int a1), (2, .int a2), (3, .int a3)] := hl
  unfold f_X1_cut at hf
  have L42 : ∀ (c0 : Nat) (c2 : Int32) (c3 : Int32) (c5 : Nat) (c6 : Nat) (n : Nat) (s42 : (Int32 × SG)) (r42 : SG), lp (f_X1_cut_b42 N c0 c2 c3 c5 c6) n s42 = some r42 → (∀ (ls : Array Slot) (H : Heap) (locs : List Loc), lv_has ls 8 [(0, .ref c0), (3, .int c3), (6, .ref c6)] → HH G r42 H → va_S (AG G) s.heap H locs → W p l e (rm_ 4 2 204) s m ([.ref a0, .int a1, .int a2, .int a3] : List Value).toArray below meth c H locs 2 204 (MQ below (PostC G σf (some (.int rf))) ([.ref a0, .int a1, .int a2, .int a3] : List Value).toArray s 2 204 (AG G)) (F0 m 85 ls [])) → ∀ (ls : Array Slot) (H : Heap) (locs : List Loc), lv_has ls 8 [(0, .ref c0), (2, .int c2), (3, .int c3), (5, .ref c5), (6, .ref c6), (7, .int s42.1)] → HH G s42.2 H → va_S (AG G) s.heap H locs → W p l e (rm_ 4 2 204) s m ([.ref a0, .int a1, .int a2, .int a3] : List Value).toArray below meth c H locs 2 204 (MQ below (PostC G σf (some (.int rf))) ([.ref a0, .int a1, .int a2, .int a3] : List Value).toArray s 2 204 (AG G)) (F0 m 42 ls []) := by
    intro c0 c2 c3 c5 c6 n s42 r42 hr hq
    refine lp_ind (P := fun s42 => ∀ (ls : Array Slot) (H : Heap) (locs : List Loc), lv_has ls 8 [(0, .ref c0), (2, .int c2), (3, .int c3), (5, .ref c5), (6, .ref c6), (7, .int s42.1)] → HH G s42.2 H → va_S (AG G) s.heap H locs → W p l e (rm_ 4 2 204) s m ([.ref a0, .int a1, .int a2, .int a3] : List Value).toArray below meth c H locs 2 204 (MQ below (PostC G σf (some (.int rf))) ([.ref a0, .int a1, .int a2, .int a3] : List Value).toArray s 2 204 (AG G)) (F0 m 42 ls [])) (Q := fun r42 => ∀ (ls : Array Slot) (H : Heap) (locs : List Loc), lv_has ls 8 [(0, .ref c0), (3, .int c3), (6, .ref c6)] → HH G r42 H → va_S (AG G) s.heap H locs → W p l e (rm_ 4 2 204) s m ([.ref a0, .int a1, .int a2, .int a3] : List Value).toArray below meth c H locs 2 204 (MQ below (PostC G σf (some (.int rf))) ([.ref a0, .int a1, .int a2, .int a3] : List Value).toArray s 2 204 (AG G)) (F0 m 85 ls [])) ?_ n s42 r42 hr hq
    intro s42 x42 hf hx42 ls H locs hl hH hS
    unfold f_X1_cut_b42 at hf
    refine lv_iload hx hb dX1_cut_42 (lv_at hl 5 rfl) ?_
    refine lv_aload hx hb dX1_cut_44 (lv_at hl 3 rfl) ?_
    obtain ⟨v7, hv, hf⟩ := bd hf
    refine h_gI X hK hH fo_Code_3 hv q141 dX1_cut_46 ?_
    refine lv_icmp_ge (tgt := 85) hx hb dX1_cut_49 (by decide) (fun c_ => ?_) (fun c_ => ?_)
    · have hf := (if_pos c_).symm.trans hf
      cases hf
      exact hx42 _ _ _ (lv_sub hl [0, 2, 4] rfl) hH hS
    · have hf := (if_neg c_).symm.trans hf
      refine lv_aload hx hb dX1_cut_52 (lv_at hl 4 rfl) ?_
      refine lv_aload hx hb dX1_cut_54 (lv_at hl 3 rfl) ?_
      obtain ⟨v8, hv, hf⟩ := bd hf
      refine h_gI X hK hH fo_Code_0 hv q116 dX1_cut_56 ?_
      refine lv_aload hx hb dX1_cut_59 (lv_at hl 3 rfl) ?_
      obtain ⟨v9, hv, hf⟩ := bd hf
      refine h_gI X hK hH fo_Code_1 hv q123 dX1_cut_61 ?_
      refine lv_aload hx hb dX1_cut_64 (lv_at hl 3 rfl) ?_
      obtain ⟨v10, hv, hf⟩ := bd hf
      refine h_gR X hK hH fo_Code_2 hv q132 dX1_cut_66 ?_
      refine lv_iload hx hb dX1_cut_69 (lv_at hl 5 rfl) ?_
      obtain ⟨v11, hv, hf⟩ := bd hf
      refine h_aL X hK hH hv dX1_cut_71 ?_
      refine lv_iload_n hx hb dX1_cut_72 rfl (lv_at hl 1 rfl) ?_
      obtain ⟨v12, hv, hf⟩ := bd hf
      refine c_S (As := [.int v8, .int v9, .long v11, .int c2]) (rest := [.ref c6]) (st1 := [.long v12, .ref c6]) X (met_X1_without l G s42.2 N v8 v9 v11 c2 v12 hv) cs_X1_without q505 rfl rfl rfl hl.1 (Nat.le_of_ble_eq_true rfl) ⟨Nat.le_of_ble_eq_true rfl, Nat.le_of_ble_eq_true rfl⟩ ⟨Nat.le_of_ble_eq_true rfl, Nat.le_of_ble_eq_true rfl⟩ dX1_cut_73 hK hH hS (fun H locs hH hS => ?_)
      refine W.cs (cells' := 2) (slots' := 204) (by rfl) (by rfl) ?_
      obtain ⟨v13, hv, hf⟩ := bd hf
      refine c_S (As := [.ref c6, .long v12]) (rest := []) (st1 := []) X (met_X1_comes l G s42.2 N c6 v12 v13 hv) cs_X1_comes q508 rfl rfl rfl hl.1 (Nat.le_of_ble_eq_true rfl) ⟨Nat.le_of_ble_eq_true rfl, Nat.le_of_ble_eq_true rfl⟩ ⟨Nat.le_of_ble_eq_true rfl, Nat.le_of_ble_eq_true rfl⟩ dX1_cut_76 hK hH hS (fun H locs hH hS => ?_)
      refine W.cs (cells' := 2) (slots' := 204) (by rfl) (by rfl) ?_
      refine lv_iinc (v := (s42.1 + 1)) (lv' := [(7, .int (s42.1 + 1)), (0, .ref c0), (2, .int c2), (3, .int c3), (5, .ref c5), (6, .ref c6)]) hx hb dX1_cut_79 hl (k := 5) rfl rfl (by decide) rfl (fun ls hl => ?_)
      refine lv_goto (tgt := 42) hx hb dX1_cut_82 (by decide) ?_
      cases hf
      exact hx42 _ _ _ (lv_sub hl [1, 2, 3, 4, 5, 0] rfl) hH hS
  refine lv_aload_n hx hb dX1_cut_0 rfl (lv_at hl 0 rfl) ?_
  refine lv_iload_n hx hb dX1_cut_1 rfl (lv_at hl 1 rfl) ?_
  refine lv_iload_n hx hb dX1_cut_2 rfl (lv_at hl 2 rfl) ?_
  refine lv_iload_n hx hb dX1_cut_3 rfl (lv_at hl 3 rfl) ?_
  obtain ⟨_, hw, hf⟩ := bd hf
  obtain ⟨v1, hv, hf⟩ := bd hf
  refine c_V (As := [.int a1, .int a2, .int a3]) (rest := []) (st1 := [.int v1]) X (met_X1_whyPlace l G σ N a0 a1 a2 a3 v1 hv) cv_X1_whyPlace q501 (recv1 (w := (RX1, TX1, 6)) hw hK hH rfl) rfl rfl rfl hl.1 (Nat.le_of_ble_eq_true rfl) ⟨Nat.le_of_ble_eq_true rfl, Nat.le_of_ble_eq_true rfl⟩ ⟨Nat.le_of_ble_eq_true rfl, Nat.le_of_ble_eq_true rfl⟩ dX1_cut_4 hK hH hS (fun H locs hH hS => ?_)
  refine W.cs (cells' := 0) (slots' := 0) (by rfl) (by rfl) ?_
  refine lv_istore (lv' := [(4, .int v1), (0, .ref a0), (1, .int a1), (2, .int a2), (3, .int a3)]) hx hb dX1_cut_7 hl (by decide) rfl (fun ls hl => ?_)
  refine lv_iload hx hb dX1_cut_9 (lv_at hl 0 rfl) ?_
  refine lv_if_eq (tgt := 17) hx hb dX1_cut_11 (by decide) (fun c_ => ?_) (fun c_ => ?_)
  · have hf := (if_pos c_).symm.trans hf
    refine lv_aload_n hx hb dX1_cut_17 rfl (lv_at hl 1 rfl) ?_
    obtain ⟨v2, hv, hf⟩ := bd hf
    refine h_gR X hK hH fo_X1_0 hv q649 dX1_cut_18 ?_
    refine lv_iload_n hx hb dX1_cut_21 rfl (lv_at hl 2 rfl) ?_
    obtain ⟨v3, hv, hf⟩ := bd hf
    refine h_aQ (by decide) X hK hH hv dX1_cut_22 ?_
    refine q_astore (lv' := [(5, va_rf v3), (4, .int v1), (0, .ref a0), (1, .int a1), (2, .int a2), (3, .int a3)]) hx hb dX1_cut_23 hl (by decide) rfl (fun ls hl => ?_)
    refine q_aload hx hb dX1_cut_25 (lv_at hl 0 rfl) ?_
    refine q_aload hx hb dX1_cut_27 (lv_at hl 0 rfl) ?_
    obtain ⟨b4, hq, hz⟩ := bd hf
    clear hf
    subst hq
    have hf := hz
    clear hz
    obtain ⟨v5, hv, hf⟩ := bd hf
    refine h_gI X hK hH fo_Code_1 hv q123 dX1_cut_29 ?_
    refine lv_iconst (v := (1 : Int32)) hx hb dX1_cut_32 (by decide) ?_
    refine lv_isub hx hb dX1_cut_33 ?_
    obtain ⟨v6, hv, hf⟩ := bd hf
    refine c_S (As := [.ref b4, .int (v5 - (1 : Int32))]) (rest := []) (st1 := [.ref v6.2]) X (met_X1_like l G σ N b4 (v5 - (1 : Int32)) v6.1 v6.2 hv) cs_X1_like q492 rfl rfl rfl hl.1 (Nat.le_of_ble_eq_true rfl) ⟨Nat.le_of_ble_eq_true rfl, Nat.le_of_ble_eq_true rfl⟩ ⟨Nat.le_of_ble_eq_true rfl, Nat.le_of_ble_eq_true rfl⟩ dX1_cut_34 hK hH hS (fun H locs hH hS => ?_)
    refine W.cs (cells' := 2) (slots' := 204) (by rfl) (by rfl) ?_
    refine lv_astore (lv' := [(6, .ref v6.2), (5, .ref b4), (4, .int v1), (0, .ref a0), (1, .int a1), (2, .int a2), (3, .int a3)]) hx hb dX1_cut_37 hl (by decide) rfl (fun ls hl => ?_)
    refine lv_iconst (v := (0 : Int32)) hx hb dX1_cut_39 (by decide) ?_
    refine lv_istore (lv' := [(7, .int (0 : Int32)), (6, .ref v6.2), (5, .ref b4), (4, .int v1), (0, .ref a0), (1, .int a1), (2, .int a2), (3, .int a3)]) hx hb dX1_cut_40 hl (by decide) rfl (fun ls hl => ?_)
    obtain ⟨r42_14, hr, hf⟩ := bd hf
    refine L42 a0 a2 a3 b4 v6.2 N _ r42_14 hr ?_ _ _ _ (lv_sub hl [4, 6, 7, 2, 1, 0] rfl) hH hS
    intro ls H locs hl hH hS
    refine lv_aload_n hx hb dX1_cut_85 rfl (lv_at hl 0 rfl) ?_
    refine lv_iload_n hx hb dX1_cut_86 rfl (lv_at hl 1 rfl) ?_
    refine lv_aload hx hb dX1_cut_87 (lv_at hl 2 rfl) ?_
    obtain ⟨_, hw, hf⟩ := bd hf
    obtain ⟨v15, hv, hf⟩ := bd hf
    refine c_V (As := [.int a3, .ref v6.2]) (rest := []) (st1 := [.int v15.2]) X (met_X1_puts l G r42_14 N a0 a3 v6.2 v15.1 v15.2 hv) cv_X1_puts q174 (recv1 (w := (RX1, TX1, 6)) hw hK hH rfl) rfl rfl rfl hl.1 (Nat.le_of_ble_eq_true rfl) ⟨Nat.le_of_ble_eq_true rfl, Nat.le_of_ble_eq_true rfl⟩ ⟨Nat.le_of_ble_eq_true rfl, Nat.le_of_ble_eq_true rfl⟩ dX1_cut_89 hK hH hS (fun H locs hH hS => ?_)
    refine W.cs (cells' := 2) (slots' := 204) (by rfl) (by rfl) ?_
    cases hf
    exact r_iret X dX1_cut_92 (Nat.le_of_ble_eq_true rfl) (Nat.le_of_ble_eq_true rfl) rfl hH hS
  · have hf := (if_neg c_).symm.trans hf
    refine lv_iload hx hb dX1_cut_14 (lv_at hl 0 rfl) ?_
    cases hf
    exact r_iret X dX1_cut_16 (Nat.le_of_ble_eq_true rfl) (Nat.le_of_ble_eq_true rfl) rfl hH hS
theorem cs_X1_letter : CalS yX1_letter cX1_letter 5 (some .int) 4 := ⟨q360, q48, q361, by decide +kernel, by decide +kernel, by decide +kernel⟩
set_option maxHeartbeats 4000000 in
theorem met_X1_letter (l : Launch) (G : GG) (σ : SG) (N : Nat) (a0 : Int32) (a1 : Int32) (a2 : Int64) (a4 : Int32) (rf : Int32) (hf : f_X1_letter N a0 a1 a2 a4 = some rf) : Con l yX1_letter cX1_letter 5 (some .int) 1 0 0 G σ [.int a0, .int a1, .long a2, .int a4] σ (some (.int rf)) := by
  refine con_of (by decide) (Nat.le_of_ble_eq_true rfl) ?_
  intro p e s m below meth c ls X hK hH hl hS
  have hx := X.1
  have hb := X.2.1
  have hml := X.2.2.2.1
  have hown : s.vm.findClass RX1 = some m.cls := X.2.2.2.2.1
  have hts := X.2.2.2.2.2.1
  have hl : lv_has ls 5 [(0, .int a0), (1, .int a1), (2, .long a2), (4, .int a4)] := hl
  unfold f_X1_letter at hf
  refine lv_lload_n hx hb dX1_letter_0 rfl (lv_at hl 2 rfl) ?_
  refine lv_iload_n hx hb dX1_letter_1 rfl (lv_at hl 0 rfl) ?_
  refine lv_iload_n hx hb dX1_letter_2 rfl (lv_at hl 1 rfl) ?_
  refine lv_iconst (v := (1 : Int32)) hx hb dX1_letter_3 (by decide) ?_
  refine lv_isub hx hb dX1_letter_4 ?_
  refine lv_iload hx hb dX1_letter_5 (lv_at hl 3 rfl) ?_
  refine lv_isub hx hb dX1_letter_7 ?_
  obtain ⟨v1, hv, hf⟩ := bd hf
  refine c_S (As := [.int a0, .int ((a1 - (1 : Int32)) - a4)]) (rest := [.long a2]) (st1 := [.long v1, .long a2]) X (met_X1_power l G _ N a0 ((a1 - (1 : Int32)) - a4) v1 hv) cs_X1_power q190 rfl rfl rfl hl.1 (Nat.le_of_ble_eq_true rfl) ⟨Nat.le_of_ble_eq_true rfl, Nat.le_of_ble_eq_true rfl⟩ ⟨Nat.le_of_ble_eq_true rfl, Nat.le_of_ble_eq_true rfl⟩ dX1_letter_8 hK hH hS (fun H locs hH hS => ?_)
  refine W.cs (cells' := 0) (slots' := 0) (by rfl) (by rfl) ?_
  obtain ⟨v2, hv, hf⟩ := bd hf
  refine r_ldiv hx hb hv dX1_letter_11 ?_
  refine lv_iload_n hx hb dX1_letter_12 rfl (lv_at hl 0 rfl) ?_
  refine lv_i2l (v := (a0).toInt64) hx hb dX1_letter_13 rfl ?_
  obtain ⟨v3, hv, hf⟩ := bd hf
  refine r_lrem hx hb hv dX1_letter_14 ?_
  refine lv_l2i (v := (v3).toInt32) hx hb dX1_letter_15 rfl ?_
  cases hf
  exact r_iret X dX1_letter_16 (Nat.le_of_ble_eq_true rfl) (Nat.le_of_ble_eq_true rfl) rfl hH hS
theorem cv_X1_design : CalV "WordBench" yX1_design cX1_design 10 (some .int) 3 := ⟨q542, q543, q48, q544, by decide +kernel⟩
set_option maxHeartbeats 4000000 in
theorem met_X1_design (l : Launch) (G : GG) (σ : SG) (N : Nat) (a0 : Nat) (a1 : Int32) (a2 : Int32) (a3 : Int32) (σf : SG) (rf : Int32) (hf : f_X1_design N σ a0 a1 a2 a3 = some (σf, rf)) : Con l yX1_design cX1_design 10 (some .int) 5 16 185 G σ [.ref a0, .int a1, .int a2, .int a3] σf (some (.int rf)) := by
  refine con_of (by decide) (Nat.le_of_ble_eq_true rfl) ?_
  intro p e s m below meth c ls X hK hH hl hS
  have hx := X.1
  have hb := X.2.1
  have hml := X.2.2.2.1
  have hown : s.vm.findClass RX1 = some m.cls := X.2.2.2.2.1
  have hts := X.2.2.2.2.2.1
  have hl : lv_has ls 10 [(0, .ref a0), (1, .int a1), (2, .int a2), (3, .int a3)] := hl
  unfold f_X1_design at hf
  have L78 : ∀ (c0 : Nat) (c2 : Int32) (c3 : Int32) (c5 : Nat) (t78 : SG) (n : Nat) (s78 : (Int32 × Int32)) (r78 : Int32), lp (f_X1_design_b78 N c0 c2 c3 c5 t78) n s78 = some r78 → (∀ (ls : Array Slot) (H : Heap) (locs : List Loc), lv_has ls 10 [(6, .int r78)] → HH G t78 H → va_S (AG G) s.heap H locs → W p l e (rm_ 5 16 185) s m ([.ref a0, .int a1, .int a2, .int a3] : List Value).toArray below meth c H locs 16 185 (MQ below (PostC G σf (some (.int rf))) ([.ref a0, .int a1, .int a2, .int a3] : List Value).toArray s 16 185 (AG G)) (F0 m 204 ls [])) → ∀ (ls : Array Slot) (H : Heap) (locs : List Loc), lv_has ls 10 [(0, .ref c0), (2, .int c2), (3, .int c3), (5, .ref c5), (6, .int s78.1), (7, .int s78.2)] → HH G t78 H → va_S (AG G) s.heap H locs → W p l e (rm_ 5 16 185) s m ([.ref a0, .int a1, .int a2, .int a3] : List Value).toArray below meth c H locs 16 185 (MQ below (PostC G σf (some (.int rf))) ([.ref a0, .int a1, .int a2, .int a3] : List Value).toArray s 16 185 (AG G)) (F0 m 78 ls []) := by
    intro c0 c2 c3 c5 t78 n s78 r78 hr hq
    refine lp_ind (P := fun s78 => ∀ (ls : Array Slot) (H : Heap) (locs : List Loc), lv_has ls 10 [(0, .ref c0), (2, .int c2), (3, .int c3), (5, .ref c5), (6, .int s78.1), (7, .int s78.2)] → HH G t78 H → va_S (AG G) s.heap H locs → W p l e (rm_ 5 16 185) s m ([.ref a0, .int a1, .int a2, .int a3] : List Value).toArray below meth c H locs 16 185 (MQ below (PostC G σf (some (.int rf))) ([.ref a0, .int a1, .int a2, .int a3] : List Value).toArray s 16 185 (AG G)) (F0 m 78 ls [])) (Q := fun r78 => ∀ (ls : Array Slot) (H : Heap) (locs : List Loc), lv_has ls 10 [(6, .int r78)] → HH G t78 H → va_S (AG G) s.heap H locs → W p l e (rm_ 5 16 185) s m ([.ref a0, .int a1, .int a2, .int a3] : List Value).toArray below meth c H locs 16 185 (MQ below (PostC G σf (some (.int rf))) ([.ref a0, .int a1, .int a2, .int a3] : List Value).toArray s 16 185 (AG G)) (F0 m 204 ls [])) ?_ n s78 r78 hr hq
    intro s78 x78 hf hx78 ls H locs hl hH hS
    unfold f_X1_design_b78 at hf
    have L123 : ∀ (c0 : Nat) (c2 : Int32) (c3 : Int32) (c5 : Nat) (c6 : Int32) (c7 : Int32) (t123 : SG) (n : Nat) (s123 : (Int32 × Int32)) (r123 : Int32), lp (f_X1_design_b123 N c0 c2 c3 c5 c6 c7 t123) n s123 = some r123 → (∀ (ls : Array Slot) (H : Heap) (locs : List Loc), lv_has ls 10 [(0, .ref c0), (2, .int c2), (3, .int c3), (5, .ref c5), (6, .int c6), (7, .int c7), (8, .int r123)] → HH G t123 H → va_S (AG G) s.heap H locs → W p l e (rm_ 5 16 185) s m ([.ref a0, .int a1, .int a2, .int a3] : List Value).toArray below meth c H locs 16 185 (MQ below (PostC G σf (some (.int rf))) ([.ref a0, .int a1, .int a2, .int a3] : List Value).toArray s 16 185 (AG G)) (F0 m 183 ls [])) → ∀ (ls : Array Slot) (H : Heap) (locs : List Loc), lv_has ls 10 [(0, .ref c0), (2, .int c2), (3, .int c3), (5, .ref c5), (6, .int c6), (7, .int c7), (8, .int s123.1), (9, .int s123.2)] → HH G t123 H → va_S (AG G) s.heap H locs → W p l e (rm_ 5 16 185) s m ([.ref a0, .int a1, .int a2, .int a3] : List Value).toArray below meth c H locs 16 185 (MQ below (PostC G σf (some (.int rf))) ([.ref a0, .int a1, .int a2, .int a3] : List Value).toArray s 16 185 (AG G)) (F0 m 123 ls []) := by
      intro c0 c2 c3 c5 c6 c7 t123 n s123 r123 hr hq
      refine lp_ind (P := fun s123 => ∀ (ls : Array Slot) (H : Heap) (locs : List Loc), lv_has ls 10 [(0, .ref c0), (2, .int c2), (3, .int c3), (5, .ref c5), (6, .int c6), (7, .int c7), (8, .int s123.1), (9, .int s123.2)] → HH G t123 H → va_S (AG G) s.heap H locs → W p l e (rm_ 5 16 185) s m ([.ref a0, .int a1, .int a2, .int a3] : List Value).toArray below meth c H locs 16 185 (MQ below (PostC G σf (some (.int rf))) ([.ref a0, .int a1, .int a2, .int a3] : List Value).toArray s 16 185 (AG G)) (F0 m 123 ls [])) (Q := fun r123 => ∀ (ls : Array Slot) (H : Heap) (locs : List Loc), lv_has ls 10 [(0, .ref c0), (2, .int c2), (3, .int c3), (5, .ref c5), (6, .int c6), (7, .int c7), (8, .int r123)] → HH G t123 H → va_S (AG G) s.heap H locs → W p l e (rm_ 5 16 185) s m ([.ref a0, .int a1, .int a2, .int a3] : List Value).toArray below meth c H locs 16 185 (MQ below (PostC G σf (some (.int rf))) ([.ref a0, .int a1, .int a2, .int a3] : List Value).toArray s 16 185 (AG G)) (F0 m 183 ls [])) ?_ n s123 r123 hr hq
      intro s123 x123 hf hx123 ls H locs hl hH hS
      unfold f_X1_design_b123 at hf
      have J174 : ∀ (d9 : Int32) (k0 : Int32) (k1 : Int32), f_X1_design_j174 N c0 c2 c3 c5 c6 c7 t123 d9 k0 k1 = some x123 → ∀ (ls : Array Slot) (H : Heap) (locs : List Loc), lv_has ls 10 [(0, .ref c0), (2, .int c2), (3, .int c3), (5, .ref c5), (6, .int c6), (7, .int c7), (9, .int d9)] → HH G t123 H → va_S (AG G) s.heap H locs → W p l e (rm_ 5 16 185) s m ([.ref a0, .int a1, .int a2, .int a3] : List Value).toArray below meth c H locs 16 185 (MQ below (PostC G σf (some (.int rf))) ([.ref a0, .int a1, .int a2, .int a3] : List Value).toArray s 16 185 (AG G)) (F0 m 174 ls [.int k0, .int k1]) := by
        intro d9 k0 k1 hf ls H locs hl hH hS
        unfold f_X1_design_j174 at hf
        refine lv_iand hx hb dX1_design_174 ?_
        refine lv_istore (lv' := [(8, .int (k1 &&& k0)), (0, .ref c0), (2, .int c2), (3, .int c3), (5, .ref c5), (6, .int c6), (7, .int c7), (9, .int d9)]) hx hb dX1_design_175 hl (by decide) rfl (fun ls hl => ?_)
        refine lv_iinc (v := (d9 + 1)) (lv' := [(9, .int (d9 + 1)), (8, .int (k1 &&& k0)), (0, .ref c0), (2, .int c2), (3, .int c3), (5, .ref c5), (6, .int c6), (7, .int c7)]) hx hb dX1_design_177 hl (k := 7) rfl rfl (by decide) rfl (fun ls hl => ?_)
        refine lv_goto (tgt := 123) hx hb dX1_design_180 (by decide) ?_
        cases hf
        exact hx123 _ _ _ (lv_sub hl [2, 3, 4, 5, 6, 7, 1, 0] rfl) hH hS
      refine lv_iload hx hb dX1_design_123 (lv_at hl 7 rfl) ?_
      refine lv_aload hx hb dX1_design_125 (lv_at hl 3 rfl) ?_
      obtain ⟨v16, hv, hf⟩ := bd hf
      refine h_gI X hK hH fo_Code_1 hv q123 dX1_design_127 ?_
      refine lv_icmp_ge (tgt := 183) hx hb dX1_design_130 (by decide) (fun c_ => ?_) (fun c_ => ?_)
      · have hf := (if_pos c_).symm.trans hf
        cases hf
        exact hx123 _ _ _ (lv_sub hl [0, 1, 2, 3, 4, 5, 6] rfl) hH hS
      · have hf := (if_neg c_).symm.trans hf
        refine lv_iload hx hb dX1_design_133 (lv_at hl 6 rfl) ?_
        refine lv_iload_n hx hb dX1_design_135 rfl (lv_at hl 2 rfl) ?_
        refine lv_iload hx hb dX1_design_136 (lv_at hl 7 rfl) ?_
        refine lv_ishr hx hb dX1_design_138 ?_
        refine lv_iconst (v := (1 : Int32)) hx hb dX1_design_139 (by decide) ?_
        refine lv_iand hx hb dX1_design_140 ?_
        refine lv_if_eq (tgt := 169) hx hb dX1_design_141 (by decide) (fun c_ => ?_) (fun c_ => ?_)
        · have hf := (if_pos c_).symm.trans hf
          refine lv_iconst (v := (1 : Int32)) hx hb dX1_design_169 (by decide) ?_
          refine lv_goto (tgt := 174) hx hb dX1_design_170 (by decide) ?_
          exact J174 s123.2 (1 : Int32) s123.1 hf _ _ _ (lv_sub hl [0, 1, 2, 3, 4, 5, 7] rfl) hH hS
        · have hf := (if_neg c_).symm.trans hf
          refine lv_aload hx hb dX1_design_144 (lv_at hl 3 rfl) ?_
          obtain ⟨v17, hv, hf⟩ := bd hf
          refine h_gI X hK hH fo_Code_0 hv q116 dX1_design_146 ?_
          refine lv_aload hx hb dX1_design_149 (lv_at hl 3 rfl) ?_
          obtain ⟨v18, hv, hf⟩ := bd hf
          refine h_gI X hK hH fo_Code_1 hv q123 dX1_design_151 ?_
          refine lv_aload_n hx hb dX1_design_154 rfl (lv_at hl 0 rfl) ?_
          obtain ⟨v19, hv, hf⟩ := bd hf
          refine h_gR X hK hH fo_X1_1 hv q650 dX1_design_155 ?_
          refine lv_iload hx hb dX1_design_158 (lv_at hl 5 rfl) ?_
          obtain ⟨v20, hv, hf⟩ := bd hf
          refine h_aL X hK hH hv dX1_design_160 ?_
          refine lv_iload hx hb dX1_design_161 (lv_at hl 7 rfl) ?_
          obtain ⟨v21, hv, hf⟩ := bd hf
          refine c_S (As := [.int v17, .int v18, .long v20, .int s123.2]) (rest := [.int s123.1]) (st1 := [.int v21, .int s123.1]) X (met_X1_letter l G t123 N v17 v18 v20 s123.2 v21 hv) cs_X1_letter q495 rfl rfl rfl hl.1 (Nat.le_of_ble_eq_true rfl) ⟨Nat.le_of_ble_eq_true rfl, Nat.le_of_ble_eq_true rfl⟩ ⟨Nat.le_of_ble_eq_true rfl, Nat.le_of_ble_eq_true rfl⟩ dX1_design_163 hK hH hS (fun H locs hH hS => ?_)
          refine W.cs (cells' := 16) (slots' := 185) (by rfl) (by rfl) ?_
          refine lv_if_eq (tgt := 173) hx hb dX1_design_166 (by decide) (fun c_ => ?_) (fun c_ => ?_)
          · have hf := (if_pos c_).symm.trans hf
            refine lv_iconst (v := (0 : Int32)) hx hb dX1_design_173 (by decide) ?_
            exact J174 s123.2 (0 : Int32) s123.1 hf _ _ _ (lv_sub hl [0, 1, 2, 3, 4, 5, 7] rfl) hH hS
          · have hf := (if_neg c_).symm.trans hf
            refine lv_iconst (v := (1 : Int32)) hx hb dX1_design_169 (by decide) ?_
            refine lv_goto (tgt := 174) hx hb dX1_design_170 (by decide) ?_
            exact J174 s123.2 (1 : Int32) s123.1 hf _ _ _ (lv_sub hl [0, 1, 2, 3, 4, 5, 7] rfl) hH hS
    have J118 : ∀ (d6 : Int32) (d7 : Int32) (k0 : Int32), f_X1_design_j118 N c0 c2 c3 c5 t78 d6 d7 k0 = some x78 → ∀ (ls : Array Slot) (H : Heap) (locs : List Loc), lv_has ls 10 [(0, .ref c0), (2, .int c2), (3, .int c3), (5, .ref c5), (6, .int d6), (7, .int d7)] → HH G t78 H → va_S (AG G) s.heap H locs → W p l e (rm_ 5 16 185) s m ([.ref a0, .int a1, .int a2, .int a3] : List Value).toArray below meth c H locs 16 185 (MQ below (PostC G σf (some (.int rf))) ([.ref a0, .int a1, .int a2, .int a3] : List Value).toArray s 16 185 (AG G)) (F0 m 118 ls [.int k0]) := by
      intro d6 d7 k0 hf ls H locs hl hH hS
      unfold f_X1_design_j118 at hf
      refine lv_istore (lv' := [(8, .int k0), (0, .ref c0), (2, .int c2), (3, .int c3), (5, .ref c5), (6, .int d6), (7, .int d7)]) hx hb dX1_design_118 hl (by decide) rfl (fun ls hl => ?_)
      refine lv_iconst (v := (0 : Int32)) hx hb dX1_design_120 (by decide) ?_
      refine lv_istore (lv' := [(9, .int (0 : Int32)), (8, .int k0), (0, .ref c0), (2, .int c2), (3, .int c3), (5, .ref c5), (6, .int d6), (7, .int d7)]) hx hb dX1_design_121 hl (by decide) rfl (fun ls hl => ?_)
      obtain ⟨r123_22, hr, hf⟩ := bd hf
      refine L123 c0 c2 c3 c5 d6 d7 t78 N _ r123_22 hr ?_ _ _ _ (lv_sub hl [2, 3, 4, 5, 6, 7, 1, 0] rfl) hH hS
      intro ls H locs hl hH hS
      refine lv_iload hx hb dX1_design_183 (lv_at hl 4 rfl) ?_
      refine lv_iload hx hb dX1_design_185 (lv_at hl 6 rfl) ?_
      refine lv_if_eq (tgt := 194) hx hb dX1_design_187 (by decide) (fun c_ => ?_) (fun c_ => ?_)
      · have hf := (if_pos c_).symm.trans hf
        refine lv_iconst (v := (0 : Int32)) hx hb dX1_design_194 (by decide) ?_
        refine lv_iadd hx hb dX1_design_195 ?_
        refine lv_istore (lv' := [(6, .int (d6 + (0 : Int32))), (0, .ref c0), (2, .int c2), (3, .int c3), (5, .ref c5), (7, .int d7), (8, .int r123_22)]) hx hb dX1_design_196 hl (by decide) rfl (fun ls hl => ?_)
        refine lv_iinc (v := (d7 + 1)) (lv' := [(7, .int (d7 + 1)), (6, .int (d6 + (0 : Int32))), (0, .ref c0), (2, .int c2), (3, .int c3), (5, .ref c5), (8, .int r123_22)]) hx hb dX1_design_198 hl (k := 5) rfl rfl (by decide) rfl (fun ls hl => ?_)
        refine lv_goto (tgt := 78) hx hb dX1_design_201 (by decide) ?_
        cases hf
        exact hx78 _ _ _ (lv_sub hl [2, 3, 4, 5, 1, 0] rfl) hH hS
      · have hf := (if_neg c_).symm.trans hf
        refine lv_iconst (v := (1 : Int32)) hx hb dX1_design_190 (by decide) ?_
        refine lv_goto (tgt := 195) hx hb dX1_design_191 (by decide) ?_
        refine lv_iadd hx hb dX1_design_195 ?_
        refine lv_istore (lv' := [(6, .int (d6 + (1 : Int32))), (0, .ref c0), (2, .int c2), (3, .int c3), (5, .ref c5), (7, .int d7), (8, .int r123_22)]) hx hb dX1_design_196 hl (by decide) rfl (fun ls hl => ?_)
        refine lv_iinc (v := (d7 + 1)) (lv' := [(7, .int (d7 + 1)), (6, .int (d6 + (1 : Int32))), (0, .ref c0), (2, .int c2), (3, .int c3), (5, .ref c5), (8, .int r123_22)]) hx hb dX1_design_198 hl (k := 5) rfl rfl (by decide) rfl (fun ls hl => ?_)
        refine lv_goto (tgt := 78) hx hb dX1_design_201 (by decide) ?_
        cases hf
        exact hx78 _ _ _ (lv_sub hl [2, 3, 4, 5, 1, 0] rfl) hH hS
    refine lv_iload hx hb dX1_design_78 (lv_at hl 5 rfl) ?_
    refine lv_aload_n hx hb dX1_design_80 rfl (lv_at hl 0 rfl) ?_
    obtain ⟨v10, hv, hf⟩ := bd hf
    refine h_gI X hK hH fo_X1_2 hv q651 dX1_design_81 ?_
    refine lv_icmp_ge (tgt := 204) hx hb dX1_design_84 (by decide) (fun c_ => ?_) (fun c_ => ?_)
    · have hf := (if_pos c_).symm.trans hf
      cases hf
      exact hx78 _ _ _ (lv_sub hl [4] rfl) hH hS
    · have hf := (if_neg c_).symm.trans hf
      refine lv_aload hx hb dX1_design_87 (lv_at hl 3 rfl) ?_
      obtain ⟨v11, hv, hf⟩ := bd hf
      refine h_gI X hK hH fo_Code_0 hv q116 dX1_design_89 ?_
      refine lv_aload hx hb dX1_design_92 (lv_at hl 3 rfl) ?_
      obtain ⟨v12, hv, hf⟩ := bd hf
      refine h_gI X hK hH fo_Code_1 hv q123 dX1_design_94 ?_
      refine lv_aload_n hx hb dX1_design_97 rfl (lv_at hl 0 rfl) ?_
      obtain ⟨v13, hv, hf⟩ := bd hf
      refine h_gR X hK hH fo_X1_1 hv q650 dX1_design_98 ?_
      refine lv_iload hx hb dX1_design_101 (lv_at hl 5 rfl) ?_
      obtain ⟨v14, hv, hf⟩ := bd hf
      refine h_aL X hK hH hv dX1_design_103 ?_
      refine lv_lconst (v := (0 : Int64)) hx hb dX1_design_104 (by decide) ?_
      refine lv_iconst (v := (0 : Int32)) hx hb dX1_design_105 (by decide) ?_
      obtain ⟨v15, hv, hf⟩ := bd hf
      refine c_S (As := [.int v11, .int v12, .long v14, .long (0 : Int64), .int (0 : Int32)]) (rest := []) (st1 := [.int v15]) X (met_X1_wayOf l G t78 N v11 v12 v14 (0 : Int64) (0 : Int32) v15 hv) cs_X1_wayOf q379 rfl rfl rfl hl.1 (Nat.le_of_ble_eq_true rfl) ⟨Nat.le_of_ble_eq_true rfl, Nat.le_of_ble_eq_true rfl⟩ ⟨Nat.le_of_ble_eq_true rfl, Nat.le_of_ble_eq_true rfl⟩ dX1_design_106 hK hH hS (fun H locs hH hS => ?_)
      refine W.cs (cells' := 16) (slots' := 185) (by rfl) (by rfl) ?_
      refine lv_iload_n hx hb dX1_design_109 rfl (lv_at hl 1 rfl) ?_
      refine lv_icmp_ne (tgt := 117) hx hb dX1_design_110 (by decide) (fun c_ => ?_) (fun c_ => ?_)
      · have hf := (if_neg c_).symm.trans hf
        refine lv_iconst (v := (0 : Int32)) hx hb dX1_design_117 (by decide) ?_
        exact J118 s78.1 s78.2 (0 : Int32) hf _ _ _ (lv_sub hl [0, 1, 2, 3, 4, 5] rfl) hH hS
      · have hf := (if_pos c_).symm.trans hf
        refine lv_iconst (v := (1 : Int32)) hx hb dX1_design_113 (by decide) ?_
        refine lv_goto (tgt := 118) hx hb dX1_design_114 (by decide) ?_
        exact J118 s78.1 s78.2 (1 : Int32) hf _ _ _ (lv_sub hl [0, 1, 2, 3, 4, 5] rfl) hH hS
  refine lv_aload_n hx hb dX1_design_0 rfl (lv_at hl 0 rfl) ?_
  refine lv_iload_n hx hb dX1_design_1 rfl (lv_at hl 1 rfl) ?_
  refine lv_iconst (v := (0 : Int32)) hx hb dX1_design_2 (by decide) ?_
  obtain ⟨_, hw, hf⟩ := bd hf
  obtain ⟨v1, hv, hf⟩ := bd hf
  refine c_V (As := [.int a1, .int (0 : Int32)]) (rest := []) (st1 := [.int v1]) X (met_X1_asks l G σ N a0 a1 (0 : Int32) v1 hv) cv_X1_asks q183 (recv1 (w := (RX1, TX1, 6)) hw hK hH rfl) rfl rfl rfl hl.1 (Nat.le_of_ble_eq_true rfl) ⟨Nat.le_of_ble_eq_true rfl, Nat.le_of_ble_eq_true rfl⟩ ⟨Nat.le_of_ble_eq_true rfl, Nat.le_of_ble_eq_true rfl⟩ dX1_design_3 hK hH hS (fun H locs hH hS => ?_)
  refine W.cs (cells' := 0) (slots' := 0) (by rfl) (by rfl) ?_
  refine lv_istore (lv' := [(4, .int v1), (0, .ref a0), (1, .int a1), (2, .int a2), (3, .int a3)]) hx hb dX1_design_6 hl (by decide) rfl (fun ls hl => ?_)
  refine lv_iload hx hb dX1_design_8 (lv_at hl 0 rfl) ?_
  refine lv_if_eq (tgt := 16) hx hb dX1_design_10 (by decide) (fun c_ => ?_) (fun c_ => ?_)
  · have hf := (if_pos c_).symm.trans hf
    refine lv_aload_n hx hb dX1_design_16 rfl (lv_at hl 1 rfl) ?_
    obtain ⟨v2, hv, hf⟩ := bd hf
    refine h_gR X hK hH fo_X1_0 hv q649 dX1_design_17 ?_
    refine lv_iload_n hx hb dX1_design_20 rfl (lv_at hl 2 rfl) ?_
    obtain ⟨v3, hv, hf⟩ := bd hf
    refine h_aQ (by decide) X hK hH hv dX1_design_21 ?_
    refine q_astore (lv' := [(5, va_rf v3), (4, .int v1), (0, .ref a0), (1, .int a1), (2, .int a2), (3, .int a3)]) hx hb dX1_design_22 hl (by decide) rfl (fun ls hl => ?_)
    refine lv_iload_n hx hb dX1_design_24 rfl (lv_at hl 4 rfl) ?_
    refine lv_i2l (v := (a2).toInt64) hx hb dX1_design_25 rfl ?_
    refine lv_lconst (v := (0 : Int64)) hx hb dX1_design_26 (by decide) ?_
    refine q_aload hx hb dX1_design_27 (lv_at hl 0 rfl) ?_
    obtain ⟨b4, hq, hz⟩ := bd hf
    clear hf
    subst hq
    have hf := hz
    clear hz
    obtain ⟨v5, hv, hf⟩ := bd hf
    refine h_gI X hK hH fo_Code_1 hv q123 dX1_design_29 ?_
    refine lv_i2l (v := (v5).toInt64) hx hb dX1_design_32 rfl ?_
    obtain ⟨v6, hv, hf⟩ := bd hf
    refine c_S (As := [.long ((a2).toInt64), .long (0 : Int64), .long ((v5).toInt64)]) (rest := []) (st1 := [.int v6]) X (met_X1_isIn l G σ N ((a2).toInt64) (0 : Int64) ((v5).toInt64) v6 hv) cs_X1_isIn q86 rfl rfl rfl hl.1 (Nat.le_of_ble_eq_true rfl) ⟨Nat.le_of_ble_eq_true rfl, Nat.le_of_ble_eq_true rfl⟩ ⟨Nat.le_of_ble_eq_true rfl, Nat.le_of_ble_eq_true rfl⟩ dX1_design_33 hK hH hS (fun H locs hH hS => ?_)
    refine W.cs (cells' := 0) (slots' := 0) (by rfl) (by rfl) ?_
    refine lv_if_eq (tgt := 58) hx hb dX1_design_36 (by decide) (fun c_ => ?_) (fun c_ => ?_)
    · have hf := (if_pos c_).symm.trans hf
      refine lv_iconst (v := (-1 : Int32)) hx hb dX1_design_58 (by decide) ?_
      cases hf
      exact r_iret X dX1_design_59 (Nat.le_of_ble_eq_true rfl) (Nat.le_of_ble_eq_true rfl) rfl hH hS
    · have hf := (if_neg c_).symm.trans hf
      refine lv_iload_n hx hb dX1_design_39 rfl (lv_at hl 5 rfl) ?_
      refine lv_i2l (v := (a3).toInt64) hx hb dX1_design_40 rfl ?_
      refine lv_lconst (v := (0 : Int64)) hx hb dX1_design_41 (by decide) ?_
      refine lv_iconst (v := (1 : Int32)) hx hb dX1_design_42 (by decide) ?_
      refine lv_aload hx hb dX1_design_43 (lv_at hl 0 rfl) ?_
      obtain ⟨v7, hv, hf⟩ := bd hf
      refine h_gI X hK hH fo_Code_1 hv q123 dX1_design_45 ?_
      refine lv_ishl hx hb dX1_design_48 ?_
      refine lv_iconst (v := (1 : Int32)) hx hb dX1_design_49 (by decide) ?_
      refine lv_isub hx hb dX1_design_50 ?_
      refine lv_i2l (v := ((((1 : Int32) <<< (v7 &&& 31)) - (1 : Int32))).toInt64) hx hb dX1_design_51 rfl ?_
      obtain ⟨v8, hv, hf⟩ := bd hf
      refine c_S (As := [.long ((a3).toInt64), .long (0 : Int64), .long (((((1 : Int32) <<< (v7 &&& 31)) - (1 : Int32))).toInt64)]) (rest := []) (st1 := [.int v8]) X (met_X1_isIn l G σ N ((a3).toInt64) (0 : Int64) (((((1 : Int32) <<< (v7 &&& 31)) - (1 : Int32))).toInt64) v8 hv) cs_X1_isIn q86 rfl rfl rfl hl.1 (Nat.le_of_ble_eq_true rfl) ⟨Nat.le_of_ble_eq_true rfl, Nat.le_of_ble_eq_true rfl⟩ ⟨Nat.le_of_ble_eq_true rfl, Nat.le_of_ble_eq_true rfl⟩ dX1_design_52 hK hH hS (fun H locs hH hS => ?_)
      refine W.cs (cells' := 0) (slots' := 0) (by rfl) (by rfl) ?_
      refine lv_if_ne (tgt := 60) hx hb dX1_design_55 (by decide) (fun c_ => ?_) (fun c_ => ?_)
      · have hf := (if_neg c_).symm.trans hf
        refine lv_aload_n hx hb dX1_design_60 rfl (lv_at hl 2 rfl) ?_
        refine lv_aload hx hb dX1_design_61 (lv_at hl 0 rfl) ?_
        obtain ⟨_, hw, hf⟩ := bd hf
        obtain ⟨v9, hv, hf⟩ := bd hf
        refine c_V (As := [.ref b4]) (rest := []) (st1 := [.int v9.2]) X (met_X1_lays l G σ N a0 b4 v9.1 v9.2 hv) cv_X1_lays q423 (recv1 (w := (RX1, TX1, 6)) hw hK hH rfl) rfl rfl rfl hl.1 (Nat.le_of_ble_eq_true rfl) ⟨Nat.le_of_ble_eq_true rfl, Nat.le_of_ble_eq_true rfl⟩ ⟨Nat.le_of_ble_eq_true rfl, Nat.le_of_ble_eq_true rfl⟩ dX1_design_63 hK hH hS (fun H locs hH hS => ?_)
        refine W.cs (cells' := 16) (slots' := 185) (by rfl) (by rfl) ?_
        refine lv_if_ne (tgt := 72) hx hb dX1_design_66 (by decide) (fun c_ => ?_) (fun c_ => ?_)
        · have hf := (if_neg c_).symm.trans hf
          refine lv_iconst (v := (0 : Int32)) hx hb dX1_design_72 (by decide) ?_
          refine lv_istore (lv' := [(6, .int (0 : Int32)), (5, .ref b4), (4, .int v1), (0, .ref a0), (1, .int a1), (2, .int a2), (3, .int a3)]) hx hb dX1_design_73 hl (by decide) rfl (fun ls hl => ?_)
          refine lv_iconst (v := (0 : Int32)) hx hb dX1_design_75 (by decide) ?_
          refine lv_istore (lv' := [(7, .int (0 : Int32)), (6, .int (0 : Int32)), (5, .ref b4), (4, .int v1), (0, .ref a0), (1, .int a1), (2, .int a2), (3, .int a3)]) hx hb dX1_design_76 hl (by decide) rfl (fun ls hl => ?_)
          obtain ⟨r78_23, hr, hf⟩ := bd hf
          refine L78 a0 a2 a3 b4 v9.1 N _ r78_23 hr ?_ _ _ _ (lv_sub hl [4, 6, 7, 2, 1, 0] rfl) hH hS
          intro ls H locs hl hH hS
          refine lv_iload hx hb dX1_design_204 (lv_at hl 0 rfl) ?_
          cases hf
          exact r_iret X dX1_design_206 (Nat.le_of_ble_eq_true rfl) (Nat.le_of_ble_eq_true rfl) rfl hH hS
        · have hf := (if_pos c_).symm.trans hf
          refine lv_bipush (v := (-5 : Int32)) hx hb dX1_design_69 (by decide) ?_
          cases hf
          exact r_iret X dX1_design_71 (Nat.le_of_ble_eq_true rfl) (Nat.le_of_ble_eq_true rfl) rfl hH hS
      · have hf := (if_pos c_).symm.trans hf
        refine lv_iconst (v := (-1 : Int32)) hx hb dX1_design_58 (by decide) ?_
        cases hf
        exact r_iret X dX1_design_59 (Nat.le_of_ble_eq_true rfl) (Nat.le_of_ble_eq_true rfl) rfl hH hS
  · have hf := (if_neg c_).symm.trans hf
    refine lv_iload hx hb dX1_design_13 (lv_at hl 0 rfl) ?_
    cases hf
    exact r_iret X dX1_design_15 (Nat.le_of_ble_eq_true rfl) (Nat.le_of_ble_eq_true rfl) rfl hH hS
theorem cv_X1_dual : CalV "WordBench" yX1_dual cX1_dual 4 (some .int) 2 := ⟨q397, q398, q48, q399, by decide +kernel⟩
set_option maxHeartbeats 4000000 in
theorem met_X1_dual (l : Launch) (G : GG) (σ : SG) (N : Nat) (a0 : Nat) (a1 : Int32) (a2 : Int32) (σf : SG) (rf : Int32) (hf : f_X1_dual N σ a0 a1 a2 = some (σf, rf)) : Con l yX1_dual cX1_dual 4 (some .int) 4 31 545 G σ [.ref a0, .int a1, .int a2] σf (some (.int rf)) := by
  refine con_of (by decide) (Nat.le_of_ble_eq_true rfl) ?_
  intro p e s m below meth c ls X hK hH hl hS
  have hx := X.1
  have hb := X.2.1
  have hml := X.2.2.2.1
  have hown : s.vm.findClass RX1 = some m.cls := X.2.2.2.2.1
  have hts := X.2.2.2.2.2.1
  have hl : lv_has ls 4 [(0, .ref a0), (1, .int a1), (2, .int a2)] := hl
  unfold f_X1_dual at hf
  refine lv_iload_n hx hb dX1_dual_0 rfl (lv_at hl 1 rfl) ?_
  obtain ⟨v1, hv, hf⟩ := bd hf
  refine c_S (As := [.int a1]) (rest := []) (st1 := [.int v1]) X (met_X1_isPlace l G σ N a1 v1 hv) cs_X1_isPlace q82 rfl rfl rfl hl.1 (Nat.le_of_ble_eq_true rfl) ⟨Nat.le_of_ble_eq_true rfl, Nat.le_of_ble_eq_true rfl⟩ ⟨Nat.le_of_ble_eq_true rfl, Nat.le_of_ble_eq_true rfl⟩ dX1_dual_1 hK hH hS (fun H locs hH hS => ?_)
  refine W.cs (cells' := 0) (slots' := 0) (by rfl) (by rfl) ?_
  refine lv_if_eq (tgt := 14) hx hb dX1_dual_4 (by decide) (fun c_ => ?_) (fun c_ => ?_)
  · have hf := (if_pos c_).symm.trans hf
    refine lv_iconst (v := (-1 : Int32)) hx hb dX1_dual_14 (by decide) ?_
    cases hf
    exact r_iret X dX1_dual_15 (Nat.le_of_ble_eq_true rfl) (Nat.le_of_ble_eq_true rfl) rfl hH hS
  · have hf := (if_neg c_).symm.trans hf
    refine lv_iload_n hx hb dX1_dual_7 rfl (lv_at hl 2 rfl) ?_
    obtain ⟨v2, hv, hf⟩ := bd hf
    refine c_S (As := [.int a2]) (rest := []) (st1 := [.int v2]) X (met_X1_isPlace l G σ N a2 v2 hv) cs_X1_isPlace q82 rfl rfl rfl hl.1 (Nat.le_of_ble_eq_true rfl) ⟨Nat.le_of_ble_eq_true rfl, Nat.le_of_ble_eq_true rfl⟩ ⟨Nat.le_of_ble_eq_true rfl, Nat.le_of_ble_eq_true rfl⟩ dX1_dual_8 hK hH hS (fun H locs hH hS => ?_)
    refine W.cs (cells' := 0) (slots' := 0) (by rfl) (by rfl) ?_
    refine lv_if_ne (tgt := 16) hx hb dX1_dual_11 (by decide) (fun c_ => ?_) (fun c_ => ?_)
    · have hf := (if_neg c_).symm.trans hf
      refine lv_aload_n hx hb dX1_dual_16 rfl (lv_at hl 0 rfl) ?_
      refine lv_iload_n hx hb dX1_dual_17 rfl (lv_at hl 1 rfl) ?_
      refine lv_iconst (v := (1 : Int32)) hx hb dX1_dual_18 (by decide) ?_
      obtain ⟨_, hw, hf⟩ := bd hf
      obtain ⟨v3, hv, hf⟩ := bd hf
      refine c_V (As := [.int a1, .int (1 : Int32)]) (rest := []) (st1 := [.int v3]) X (met_X1_asks l G σ N a0 a1 (1 : Int32) v3 hv) cv_X1_asks q183 (recv1 (w := (RX1, TX1, 6)) hw hK hH rfl) rfl rfl rfl hl.1 (Nat.le_of_ble_eq_true rfl) ⟨Nat.le_of_ble_eq_true rfl, Nat.le_of_ble_eq_true rfl⟩ ⟨Nat.le_of_ble_eq_true rfl, Nat.le_of_ble_eq_true rfl⟩ dX1_dual_19 hK hH hS (fun H locs hH hS => ?_)
      refine W.cs (cells' := 0) (slots' := 0) (by rfl) (by rfl) ?_
      refine lv_istore_n (lv' := [(3, .int v3), (0, .ref a0), (1, .int a1), (2, .int a2)]) hx hb dX1_dual_22 rfl hl (by decide) rfl (fun ls hl => ?_)
      refine lv_iload_n hx hb dX1_dual_23 rfl (lv_at hl 0 rfl) ?_
      refine lv_if_eq (tgt := 31) hx hb dX1_dual_24 (by decide) (fun c_ => ?_) (fun c_ => ?_)
      · have hf := (if_pos c_).symm.trans hf
        refine lv_aload_n hx hb dX1_dual_31 rfl (lv_at hl 1 rfl) ?_
        refine lv_iload_n hx hb dX1_dual_32 rfl (lv_at hl 3 rfl) ?_
        obtain ⟨t4, hv, hf⟩ := bd hf
        refine h_new (ci := 7) (fs := [.int 0, .int 0, .null, .null, .int 0]) X hK hH hS tyX9 tyX9_ok in_X9 rfl q279 q280 q63 df_X9 (Nat.le_of_ble_eq_true rfl) (Nat.le_of_ble_eq_true rfl) dX1_dual_33 (fun H hH hS => ?_)
        rw [Option.some.inj hv] at hH
        refine W.cs (cells' := 1) (slots' := 5) (by rfl) (by rfl) ?_
        refine lv_dup hx hb dX1_dual_36 rfl ?_
        refine lv_aload_n hx hb dX1_dual_37 rfl (lv_at hl 1 rfl) ?_
        obtain ⟨v5, hv, hf⟩ := bd hf
        refine h_gR X hK hH fo_X1_0 hv q649 dX1_dual_38 ?_
        refine lv_iload_n hx hb dX1_dual_41 rfl (lv_at hl 2 rfl) ?_
        obtain ⟨v6, hv, hf⟩ := bd hf
        refine h_aQ (by decide) X hK hH hv dX1_dual_42 ?_
        obtain ⟨b7, hq, hz⟩ := bd hf
        clear hf
        subst hq
        have hf := hz
        clear hz
        obtain ⟨v8, hv, hf⟩ := bd hf
        refine r_I (As := [.ref b7]) (rest := [.ref ((σ).1), .int a2, .ref a0]) X (met_X9_init l G t4 N ((σ).1) b7 v8 hv) ci_X9_init q281 rfl rfl hl.1 (Nat.le_of_ble_eq_true rfl) ⟨Nat.le_of_ble_eq_true rfl, Nat.le_of_ble_eq_true rfl⟩ ⟨Nat.le_of_ble_eq_true rfl, Nat.le_of_ble_eq_true rfl⟩ dX1_dual_43 hK hH hS (fun H locs hH hS => ?_)
        refine W.cs (cells' := 16) (slots' := 185) (by rfl) (by rfl) ?_
        obtain ⟨_, hw, hf⟩ := bd hf
        obtain ⟨v9, hv, hf⟩ := bd hf
        refine c_V (As := []) (rest := [.int a2, .ref a0]) (st1 := [.ref v9.2, .int a2, .ref a0]) X (met_X9_dual l G v8 N ((σ).1)  v9.1 v9.2 hv) cv_X9_dual q400 (recv1 (w := (RX9, TX9, 5)) hw hK hH rfl) rfl rfl rfl hl.1 (Nat.le_of_ble_eq_true rfl) ⟨Nat.le_of_ble_eq_true rfl, Nat.le_of_ble_eq_true rfl⟩ ⟨Nat.le_of_ble_eq_true rfl, Nat.le_of_ble_eq_true rfl⟩ dX1_dual_46 hK hH hS (fun H locs hH hS => ?_)
        refine W.cs (cells' := 31) (slots' := 545) (by rfl) (by rfl) ?_
        obtain ⟨_, hw, hf⟩ := bd hf
        obtain ⟨v10, hv, hf⟩ := bd hf
        refine c_V (As := [.int a2, .ref v9.2]) (rest := []) (st1 := [.int v10.2]) X (met_X1_puts l G v9.1 N a0 a2 v9.2 v10.1 v10.2 hv) cv_X1_puts q174 (recv1 (w := (RX1, TX1, 6)) hw hK hH rfl) rfl rfl rfl hl.1 (Nat.le_of_ble_eq_true rfl) ⟨Nat.le_of_ble_eq_true rfl, Nat.le_of_ble_eq_true rfl⟩ ⟨Nat.le_of_ble_eq_true rfl, Nat.le_of_ble_eq_true rfl⟩ dX1_dual_49 hK hH hS (fun H locs hH hS => ?_)
        refine W.cs (cells' := 31) (slots' := 545) (by rfl) (by rfl) ?_
        cases hf
        exact r_iret X dX1_dual_52 (Nat.le_of_ble_eq_true rfl) (Nat.le_of_ble_eq_true rfl) rfl hH hS
      · have hf := (if_neg c_).symm.trans hf
        refine lv_iload_n hx hb dX1_dual_27 rfl (lv_at hl 0 rfl) ?_
        refine lv_goto (tgt := 52) hx hb dX1_dual_28 (by decide) ?_
        cases hf
        exact r_iret X dX1_dual_52 (Nat.le_of_ble_eq_true rfl) (Nat.le_of_ble_eq_true rfl) rfl hH hS
    · have hf := (if_pos c_).symm.trans hf
      refine lv_iconst (v := (-1 : Int32)) hx hb dX1_dual_14 (by decide) ?_
      cases hf
      exact r_iret X dX1_dual_15 (Nat.le_of_ble_eq_true rfl) (Nat.le_of_ble_eq_true rfl) rfl hH hS
theorem cv_X1_empty : CalV "WordBench" yX1_empty cX1_empty 3 (some .int) 1 := ⟨q257, q258, q48, q259, by decide +kernel⟩
set_option maxHeartbeats 4000000 in
theorem met_X1_empty (l : Launch) (G : GG) (σ : SG) (N : Nat) (a0 : Nat) (a1 : Int32) (σf : SG) (rf : Int32) (hf : f_X1_empty N σ a0 a1 = some (σf, rf)) : Con l yX1_empty cX1_empty 3 (some .int) 2 0 0 G σ [.ref a0, .int a1] σf (some (.int rf)) := by
  refine con_of (by decide) (Nat.le_of_ble_eq_true rfl) ?_
  intro p e s m below meth c ls X hK hH hl hS
  have hx := X.1
  have hb := X.2.1
  have hml := X.2.2.2.1
  have hown : s.vm.findClass RX1 = some m.cls := X.2.2.2.2.1
  have hts := X.2.2.2.2.2.1
  have hl : lv_has ls 3 [(0, .ref a0), (1, .int a1)] := hl
  unfold f_X1_empty at hf
  have J23 : ∀ (d0 : Nat) (d1 : Int32) (k0 : Int32) (u23 : SG), f_X1_empty_j23 N d0 d1 k0 u23 = some (σf, rf) → ∀ (ls : Array Slot) (H : Heap) (locs : List Loc), lv_has ls 3 [(0, .ref d0), (1, .int d1)] → HH G u23 H → va_S (AG G) s.heap H locs → W p l e (rm_ 2 0 0) s m ([.ref a0, .int a1] : List Value).toArray below meth c H locs 0 0 (MQ below (PostC G σf (some (.int rf))) ([.ref a0, .int a1] : List Value).toArray s 0 0 (AG G)) (F0 m 23 ls [.int k0]) := by
    intro d0 d1 k0 u23 hf ls H locs hl hH hS
    unfold f_X1_empty_j23 at hf
    refine lv_istore_n (lv' := [(2, .int k0), (0, .ref d0), (1, .int d1)]) hx hb dX1_empty_23 rfl hl (by decide) rfl (fun ls hl => ?_)
    refine lv_aload_n hx hb dX1_empty_24 rfl (lv_at hl 1 rfl) ?_
    obtain ⟨v5, hv, hf⟩ := bd hf
    refine h_gR X hK hH fo_X1_0 hv q649 dX1_empty_25 ?_
    refine lv_iload_n hx hb dX1_empty_28 rfl (lv_at hl 2 rfl) ?_
    refine lv_null hx hb dX1_empty_29 ?_
    obtain ⟨t6, hv, hf⟩ := bd hf
    refine h_wQ (w := none) X hK hH hS (by decide) hv dX1_empty_30 (fun H locs hH hS => ?_)
    refine lv_iload_n hx hb dX1_empty_31 rfl (lv_at hl 0 rfl) ?_
    cases hf
    exact r_iret X dX1_empty_32 (Nat.le_of_ble_eq_true rfl) (Nat.le_of_ble_eq_true rfl) rfl hH hS
  refine lv_iload_n hx hb dX1_empty_0 rfl (lv_at hl 1 rfl) ?_
  obtain ⟨v1, hv, hf⟩ := bd hf
  refine c_S (As := [.int a1]) (rest := []) (st1 := [.int v1]) X (met_X1_isPlace l G σ N a1 v1 hv) cs_X1_isPlace q82 rfl rfl rfl hl.1 (Nat.le_of_ble_eq_true rfl) ⟨Nat.le_of_ble_eq_true rfl, Nat.le_of_ble_eq_true rfl⟩ ⟨Nat.le_of_ble_eq_true rfl, Nat.le_of_ble_eq_true rfl⟩ dX1_empty_1 hK hH hS (fun H locs hH hS => ?_)
  refine W.cs (cells' := 0) (slots' := 0) (by rfl) (by rfl) ?_
  refine lv_if_ne (tgt := 9) hx hb dX1_empty_4 (by decide) (fun c_ => ?_) (fun c_ => ?_)
  · have hf := (if_neg c_).symm.trans hf
    refine lv_aload_n hx hb dX1_empty_9 rfl (lv_at hl 0 rfl) ?_
    obtain ⟨v2, hv, hf⟩ := bd hf
    refine h_gR X hK hH fo_X1_0 hv q649 dX1_empty_10 ?_
    refine lv_iload_n hx hb dX1_empty_13 rfl (lv_at hl 1 rfl) ?_
    obtain ⟨v3, hv, hf⟩ := bd hf
    refine h_aQ (by decide) X hK hH hv dX1_empty_14 ?_
    rcases v3 with _ | b4
    · dsimp only at hf
      refine lv_ifnonnullN hx hb dX1_empty_15 ?_
      refine lv_iconst (v := (0 : Int32)) hx hb dX1_empty_18 (by decide) ?_
      refine lv_goto (tgt := 23) hx hb dX1_empty_19 (by decide) ?_
      exact J23 a0 a1 (0 : Int32) σ hf _ _ _ (lv_sub hl [0, 1] rfl) hH hS
    · dsimp only at hf
      refine lv_ifnonnull (tgt := 22) hx hb dX1_empty_15 (by decide) ?_
      refine lv_iconst (v := (1 : Int32)) hx hb dX1_empty_22 (by decide) ?_
      exact J23 a0 a1 (1 : Int32) σ hf _ _ _ (lv_sub hl [0, 1] rfl) hH hS
  · have hf := (if_pos c_).symm.trans hf
    refine lv_iconst (v := (-1 : Int32)) hx hb dX1_empty_7 (by decide) ?_
    cases hf
    exact r_iret X dX1_empty_8 (Nat.le_of_ble_eq_true rfl) (Nat.le_of_ble_eq_true rfl) rfl hH hS
theorem ci_X7_init : CalI yX7_init cX7_init 3 2 := ⟨q166, q61, q167, rfl, by decide +kernel⟩
set_option maxHeartbeats 4000000 in
theorem met_X7_init (l : Launch) (G : GG) (σ : SG) (N : Nat) (a0 : Nat) (a1 : Int32) (a2 : Int32) (σf : SG) (hf : f_X7_init N σ a0 a1 a2 = some σf) : Con l yX7_init cX7_init 3 none 3 1 200 G σ [.ref a0, .int a1, .int a2] σf none := by
  refine con_of (by decide) (Nat.le_of_ble_eq_true rfl) ?_
  intro p e s m below meth c ls X hK hH hl hS
  have hx := X.1
  have hb := X.2.1
  have hml := X.2.2.2.1
  have hown : s.vm.findClass RX7 = some m.cls := X.2.2.2.2.1
  have hts := X.2.2.2.2.2.1
  have hl : lv_has ls 3 [(0, .ref a0), (1, .int a1), (2, .int a2)] := hl
  unfold f_X7_init at hf
  refine lv_aload_n hx hb dX7_init_0 rfl (lv_at hl 0 rfl) ?_
  refine lv_iload_n hx hb dX7_init_1 rfl (lv_at hl 1 rfl) ?_
  refine lv_iload_n hx hb dX7_init_2 rfl (lv_at hl 2 rfl) ?_
  obtain ⟨v1, hv, hf⟩ := bd hf
  refine r_I (As := [.int a1, .int a2]) (rest := []) X (met_X6_init l G σ N a0 a1 a2 v1 hv) ci_X6_init q168 rfl rfl hl.1 (Nat.le_of_ble_eq_true rfl) ⟨Nat.le_of_ble_eq_true rfl, Nat.le_of_ble_eq_true rfl⟩ ⟨Nat.le_of_ble_eq_true rfl, Nat.le_of_ble_eq_true rfl⟩ dX7_init_3 hK hH hS (fun H locs hH hS => ?_)
  refine W.cs (cells' := 1) (slots' := 200) (by rfl) (by rfl) ?_
  cases hf
  exact r_vret X dX7_init_6 (Nat.le_of_ble_eq_true rfl) (Nat.le_of_ble_eq_true rfl) rfl hH hS
theorem cv_X1_form : CalV "WordBench" yX1_form cX1_form 7 (some .int) 1 := ⟨q388, q389, q48, q390, by decide +kernel⟩
set_option maxHeartbeats 4000000 in
theorem met_X1_form (l : Launch) (G : GG) (σ : SG) (N : Nat) (a0 : Nat) (a1 : Int32) (σf : SG) (rf : Int32) (hf : f_X1_form N σ a0 a1 = some (σf, rf)) : Con l yX1_form cX1_form 7 (some .int) 4 18 389 G σ [.ref a0, .int a1] σf (some (.int rf)) := by
  refine con_of (by decide) (Nat.le_of_ble_eq_true rfl) ?_
  intro p e s m below meth c ls X hK hH hl hS
  have hx := X.1
  have hb := X.2.1
  have hml := X.2.2.2.1
  have hown : s.vm.findClass RX1 = some m.cls := X.2.2.2.2.1
  have hts := X.2.2.2.2.2.1
  have hl : lv_has ls 7 [(0, .ref a0), (1, .int a1)] := hl
  unfold f_X1_form at hf
  have L75 : ∀ (c0 : Nat) (c1 : Int32) (c4 : Nat) (c5 : Nat) (n : Nat) (s75 : (Int32 × SG)) (r75 : SG), lp (f_X1_form_b75 N c0 c1 c4 c5) n s75 = some r75 → (∀ (ls : Array Slot) (H : Heap) (locs : List Loc), lv_has ls 7 [(0, .ref c0), (1, .int c1), (5, .ref c5)] → HH G r75 H → va_S (AG G) s.heap H locs → W p l e (rm_ 4 18 389) s m ([.ref a0, .int a1] : List Value).toArray below meth c H locs 18 389 (MQ below (PostC G σf (some (.int rf))) ([.ref a0, .int a1] : List Value).toArray s 18 389 (AG G)) (F0 m 103 ls [])) → ∀ (ls : Array Slot) (H : Heap) (locs : List Loc), lv_has ls 7 [(0, .ref c0), (1, .int c1), (4, .ref c4), (5, .ref c5), (6, .int s75.1)] → HH G s75.2 H → va_S (AG G) s.heap H locs → W p l e (rm_ 4 18 389) s m ([.ref a0, .int a1] : List Value).toArray below meth c H locs 18 389 (MQ below (PostC G σf (some (.int rf))) ([.ref a0, .int a1] : List Value).toArray s 18 389 (AG G)) (F0 m 75 ls []) := by
    intro c0 c1 c4 c5 n s75 r75 hr hq
    refine lp_ind (P := fun s75 => ∀ (ls : Array Slot) (H : Heap) (locs : List Loc), lv_has ls 7 [(0, .ref c0), (1, .int c1), (4, .ref c4), (5, .ref c5), (6, .int s75.1)] → HH G s75.2 H → va_S (AG G) s.heap H locs → W p l e (rm_ 4 18 389) s m ([.ref a0, .int a1] : List Value).toArray below meth c H locs 18 389 (MQ below (PostC G σf (some (.int rf))) ([.ref a0, .int a1] : List Value).toArray s 18 389 (AG G)) (F0 m 75 ls [])) (Q := fun r75 => ∀ (ls : Array Slot) (H : Heap) (locs : List Loc), lv_has ls 7 [(0, .ref c0), (1, .int c1), (5, .ref c5)] → HH G r75 H → va_S (AG G) s.heap H locs → W p l e (rm_ 4 18 389) s m ([.ref a0, .int a1] : List Value).toArray below meth c H locs 18 389 (MQ below (PostC G σf (some (.int rf))) ([.ref a0, .int a1] : List Value).toArray s 18 389 (AG G)) (F0 m 103 ls [])) ?_ n s75 r75 hr hq
    intro s75 x75 hf hx75 ls H locs hl hH hS
    unfold f_X1_form_b75 at hf
    refine lv_iload hx hb dX1_form_75 (lv_at hl 4 rfl) ?_
    refine lv_aload hx hb dX1_form_77 (lv_at hl 2 rfl) ?_
    obtain ⟨v12, hv, hf⟩ := bd hf
    refine h_gI X hK hH fo_X9_4 hv q312 dX1_form_79 ?_
    refine lv_icmp_ge (tgt := 103) hx hb dX1_form_82 (by decide) (fun c_ => ?_) (fun c_ => ?_)
    · have hf := (if_pos c_).symm.trans hf
      cases hf
      exact hx75 _ _ _ (lv_sub hl [0, 1, 3] rfl) hH hS
    · have hf := (if_neg c_).symm.trans hf
      refine lv_aload hx hb dX1_form_85 (lv_at hl 3 rfl) ?_
      refine lv_aload hx hb dX1_form_87 (lv_at hl 2 rfl) ?_
      refine lv_iload hx hb dX1_form_89 (lv_at hl 4 rfl) ?_
      obtain ⟨_, hw, hf⟩ := bd hf
      obtain ⟨v13, hv, hf⟩ := bd hf
      refine c_V (As := [.int s75.1]) (rest := [.ref c5]) (st1 := [.long v13, .ref c5]) X (met_X9_row l G s75.2 N c4 s75.1 v13 hv) cv_X9_row q391 (recv1 (w := (RX9, TX9, 5)) hw hK hH rfl) rfl rfl rfl hl.1 (Nat.le_of_ble_eq_true rfl) ⟨Nat.le_of_ble_eq_true rfl, Nat.le_of_ble_eq_true rfl⟩ ⟨Nat.le_of_ble_eq_true rfl, Nat.le_of_ble_eq_true rfl⟩ dX1_form_91 hK hH hS (fun H locs hH hS => ?_)
      refine W.cs (cells' := 18) (slots' := 389) (by rfl) (by rfl) ?_
      obtain ⟨v14, hv, hf⟩ := bd hf
      refine dr_X4_add N (rest := []) (st1 := []) X q222 hv rfl rfl hl.1 (Nat.le_of_ble_eq_true rfl) ⟨Nat.le_of_ble_eq_true rfl, Nat.le_of_ble_eq_true rfl⟩ ⟨Nat.le_of_ble_eq_true rfl, Nat.le_of_ble_eq_true rfl⟩ dX1_form_94 hK hH hS (fun H locs hH hS => ?_)
      refine W.cs (cells' := 18) (slots' := 389) (by rfl) (by rfl) ?_
      refine lv_iinc (v := (s75.1 + 1)) (lv' := [(6, .int (s75.1 + 1)), (0, .ref c0), (1, .int c1), (4, .ref c4), (5, .ref c5)]) hx hb dX1_form_97 hl (k := 4) rfl rfl (by decide) rfl (fun ls hl => ?_)
      refine lv_goto (tgt := 75) hx hb dX1_form_100 (by decide) ?_
      cases hf
      exact hx75 _ _ _ (lv_sub hl [1, 2, 3, 4, 0] rfl) hH hS
  have J70 : ∀ (d0 : Nat) (d1 : Int32) (d4 : Nat) (k0 : Nat) (u70 : SG), f_X1_form_j70 N d0 d1 d4 k0 u70 = some (σf, rf) → ∀ (ls : Array Slot) (H : Heap) (locs : List Loc), lv_has ls 7 [(0, .ref d0), (1, .int d1), (4, .ref d4)] → HH G u70 H → va_S (AG G) s.heap H locs → W p l e (rm_ 4 18 389) s m ([.ref a0, .int a1] : List Value).toArray below meth c H locs 18 389 (MQ below (PostC G σf (some (.int rf))) ([.ref a0, .int a1] : List Value).toArray s 18 389 (AG G)) (F0 m 70 ls [.ref k0]) := by
    intro d0 d1 d4 k0 u70 hf ls H locs hl hH hS
    unfold f_X1_form_j70 at hf
    refine lv_astore (lv' := [(5, .ref k0), (0, .ref d0), (1, .int d1), (4, .ref d4)]) hx hb dX1_form_70 hl (by decide) rfl (fun ls hl => ?_)
    refine lv_iconst (v := (0 : Int32)) hx hb dX1_form_72 (by decide) ?_
    refine lv_istore (lv' := [(6, .int (0 : Int32)), (5, .ref k0), (0, .ref d0), (1, .int d1), (4, .ref d4)]) hx hb dX1_form_73 hl (by decide) rfl (fun ls hl => ?_)
    obtain ⟨r75_15, hr, hf⟩ := bd hf
    refine L75 d0 d1 d4 k0 N _ r75_15 hr ?_ _ _ _ (lv_sub hl [2, 3, 4, 1, 0] rfl) hH hS
    intro ls H locs hl hH hS
    refine lv_aload_n hx hb dX1_form_103 rfl (lv_at hl 0 rfl) ?_
    refine lv_iload_n hx hb dX1_form_104 rfl (lv_at hl 1 rfl) ?_
    refine lv_aload hx hb dX1_form_105 (lv_at hl 2 rfl) ?_
    obtain ⟨_, hw, hf⟩ := bd hf
    obtain ⟨v16, hv, hf⟩ := bd hf
    refine c_V (As := [.int d1, .ref k0]) (rest := []) (st1 := [.int v16.2]) X (met_X1_puts l G r75_15 N d0 d1 k0 v16.1 v16.2 hv) cv_X1_puts q174 (recv1 (w := (RX1, TX1, 6)) hw hK hH rfl) rfl rfl rfl hl.1 (Nat.le_of_ble_eq_true rfl) ⟨Nat.le_of_ble_eq_true rfl, Nat.le_of_ble_eq_true rfl⟩ ⟨Nat.le_of_ble_eq_true rfl, Nat.le_of_ble_eq_true rfl⟩ dX1_form_107 hK hH hS (fun H locs hH hS => ?_)
    refine W.cs (cells' := 18) (slots' := 389) (by rfl) (by rfl) ?_
    cases hf
    exact r_iret X dX1_form_110 (Nat.le_of_ble_eq_true rfl) (Nat.le_of_ble_eq_true rfl) rfl hH hS
  refine lv_aload_n hx hb dX1_form_0 rfl (lv_at hl 0 rfl) ?_
  refine lv_iload_n hx hb dX1_form_1 rfl (lv_at hl 1 rfl) ?_
  refine lv_iconst (v := (1 : Int32)) hx hb dX1_form_2 (by decide) ?_
  obtain ⟨_, hw, hf⟩ := bd hf
  obtain ⟨v1, hv, hf⟩ := bd hf
  refine c_V (As := [.int a1, .int (1 : Int32)]) (rest := []) (st1 := [.int v1]) X (met_X1_asks l G σ N a0 a1 (1 : Int32) v1 hv) cv_X1_asks q183 (recv1 (w := (RX1, TX1, 6)) hw hK hH rfl) rfl rfl rfl hl.1 (Nat.le_of_ble_eq_true rfl) ⟨Nat.le_of_ble_eq_true rfl, Nat.le_of_ble_eq_true rfl⟩ ⟨Nat.le_of_ble_eq_true rfl, Nat.le_of_ble_eq_true rfl⟩ dX1_form_3 hK hH hS (fun H locs hH hS => ?_)
  refine W.cs (cells' := 0) (slots' := 0) (by rfl) (by rfl) ?_
  refine lv_istore_n (lv' := [(2, .int v1), (0, .ref a0), (1, .int a1)]) hx hb dX1_form_6 rfl hl (by decide) rfl (fun ls hl => ?_)
  refine lv_iload_n hx hb dX1_form_7 rfl (lv_at hl 0 rfl) ?_
  refine lv_if_eq (tgt := 13) hx hb dX1_form_8 (by decide) (fun c_ => ?_) (fun c_ => ?_)
  · have hf := (if_pos c_).symm.trans hf
    refine lv_aload_n hx hb dX1_form_13 rfl (lv_at hl 1 rfl) ?_
    obtain ⟨v2, hv, hf⟩ := bd hf
    refine h_gR X hK hH fo_X1_0 hv q649 dX1_form_14 ?_
    refine lv_iload_n hx hb dX1_form_17 rfl (lv_at hl 2 rfl) ?_
    obtain ⟨v3, hv, hf⟩ := bd hf
    refine h_aQ (by decide) X hK hH hv dX1_form_18 ?_
    refine q_astore_n (lv' := [(3, va_rf v3), (2, .int v1), (0, .ref a0), (1, .int a1)]) hx hb dX1_form_19 rfl hl (by decide) rfl (fun ls hl => ?_)
    obtain ⟨t4, hv, hf⟩ := bd hf
    refine h_new (ci := 7) (fs := [.int 0, .int 0, .null, .null, .int 0]) X hK hH hS tyX9 tyX9_ok in_X9 rfl q279 q280 q63 df_X9 (Nat.le_of_ble_eq_true rfl) (Nat.le_of_ble_eq_true rfl) dX1_form_20 (fun H hH hS => ?_)
    rw [Option.some.inj hv] at hH
    refine W.cs (cells' := 1) (slots' := 5) (by rfl) (by rfl) ?_
    refine lv_dup hx hb dX1_form_23 rfl ?_
    refine q_aload_n hx hb dX1_form_24 rfl (lv_at hl 0 rfl) ?_
    obtain ⟨b5, hq, hz⟩ := bd hf
    clear hf
    subst hq
    have hf := hz
    clear hz
    obtain ⟨v6, hv, hf⟩ := bd hf
    refine r_I (As := [.ref b5]) (rest := [.ref ((σ).1)]) X (met_X9_init l G t4 N ((σ).1) b5 v6 hv) ci_X9_init q281 rfl rfl hl.1 (Nat.le_of_ble_eq_true rfl) ⟨Nat.le_of_ble_eq_true rfl, Nat.le_of_ble_eq_true rfl⟩ ⟨Nat.le_of_ble_eq_true rfl, Nat.le_of_ble_eq_true rfl⟩ dX1_form_25 hK hH hS (fun H locs hH hS => ?_)
    refine W.cs (cells' := 16) (slots' := 185) (by rfl) (by rfl) ?_
    refine lv_astore (lv' := [(4, .ref ((σ).1)), (3, .ref b5), (2, .int v1), (0, .ref a0), (1, .int a1)]) hx hb dX1_form_28 hl (by decide) rfl (fun ls hl => ?_)
    refine lv_aload_n hx hb dX1_form_30 rfl (lv_at hl 1 rfl) ?_
    obtain ⟨v7, hv, hf⟩ := bd hf
    refine h_inst (w := (some b5)) X hK hH ca_Own nc_Own hv q163 dX1_form_31 ?_
    refine lv_if_eq (tgt := 55) hx hb dX1_form_34 (by decide) (fun c_ => ?_) (fun c_ => ?_)
    · have hf := (if_pos c_).symm.trans hf
      obtain ⟨t8, hv, hf⟩ := bd hf
      refine h_new (ci := 4) (fs := [.int 0, .int 0, .null, .int 0]) X hK hH hS tyX6 tyX6_ok in_X6 rfl q152 q153 q60 df_X6 (Nat.le_of_ble_eq_true rfl) (Nat.le_of_ble_eq_true rfl) dX1_form_55 (fun H hH hS => ?_)
      rw [Option.some.inj hv] at hH
      refine W.cs (cells' := 17) (slots' := 189) (by rfl) (by rfl) ?_
      refine lv_dup hx hb dX1_form_58 rfl ?_
      refine lv_aload_n hx hb dX1_form_59 rfl (lv_at hl 1 rfl) ?_
      obtain ⟨v9, hv, hf⟩ := bd hf
      refine h_gI X hK hH fo_Code_0 hv q116 dX1_form_60 ?_
      refine lv_aload_n hx hb dX1_form_63 rfl (lv_at hl 1 rfl) ?_
      obtain ⟨v10, hv, hf⟩ := bd hf
      refine h_gI X hK hH fo_Code_1 hv q123 dX1_form_64 ?_
      obtain ⟨v11, hv, hf⟩ := bd hf
      refine r_I (As := [.int v9, .int v10]) (rest := [.ref ((v6).1)]) X (met_X6_init l G t8 N ((v6).1) v9 v10 v11 hv) ci_X6_init q154 rfl rfl hl.1 (Nat.le_of_ble_eq_true rfl) ⟨Nat.le_of_ble_eq_true rfl, Nat.le_of_ble_eq_true rfl⟩ ⟨Nat.le_of_ble_eq_true rfl, Nat.le_of_ble_eq_true rfl⟩ dX1_form_67 hK hH hS (fun H locs hH hS => ?_)
      refine W.cs (cells' := 18) (slots' := 389) (by rfl) (by rfl) ?_
      exact J70 a0 a1 ((σ).1) ((v6).1) v11 hf _ _ _ (lv_sub hl [3, 4, 0] rfl) hH hS
    · have hf := (if_neg c_).symm.trans hf
      obtain ⟨t17, hv, hf⟩ := bd hf
      refine h_new (ci := 5) (fs := [.int 0, .int 0, .null, .int 0]) X hK hH hS tyX7 tyX7_ok in_X7 rfl q163 q164 q61 df_X7 (Nat.le_of_ble_eq_true rfl) (Nat.le_of_ble_eq_true rfl) dX1_form_37 (fun H hH hS => ?_)
      rw [Option.some.inj hv] at hH
      refine W.cs (cells' := 17) (slots' := 189) (by rfl) (by rfl) ?_
      refine lv_dup hx hb dX1_form_40 rfl ?_
      refine lv_aload_n hx hb dX1_form_41 rfl (lv_at hl 1 rfl) ?_
      obtain ⟨v18, hv, hf⟩ := bd hf
      refine h_gI X hK hH fo_Code_0 hv q116 dX1_form_42 ?_
      refine lv_aload_n hx hb dX1_form_45 rfl (lv_at hl 1 rfl) ?_
      obtain ⟨v19, hv, hf⟩ := bd hf
      refine h_gI X hK hH fo_Code_1 hv q123 dX1_form_46 ?_
      obtain ⟨v20, hv, hf⟩ := bd hf
      refine r_I (As := [.int v18, .int v19]) (rest := [.ref ((v6).1)]) X (met_X7_init l G t17 N ((v6).1) v18 v19 v20 hv) ci_X7_init q165 rfl rfl hl.1 (Nat.le_of_ble_eq_true rfl) ⟨Nat.le_of_ble_eq_true rfl, Nat.le_of_ble_eq_true rfl⟩ ⟨Nat.le_of_ble_eq_true rfl, Nat.le_of_ble_eq_true rfl⟩ dX1_form_49 hK hH hS (fun H locs hH hS => ?_)
      refine W.cs (cells' := 18) (slots' := 389) (by rfl) (by rfl) ?_
      refine lv_goto (tgt := 70) hx hb dX1_form_52 (by decide) ?_
      exact J70 a0 a1 ((σ).1) ((v6).1) v20 hf _ _ _ (lv_sub hl [3, 4, 0] rfl) hH hS
  · have hf := (if_neg c_).symm.trans hf
    refine lv_iload_n hx hb dX1_form_11 rfl (lv_at hl 0 rfl) ?_
    cases hf
    exact r_iret X dX1_form_12 (Nat.le_of_ble_eq_true rfl) (Nat.le_of_ble_eq_true rfl) rfl hH hS
theorem cv_X9_has : CalV "WordBench$Form" yX9_has cX9_has 6 (some .boolean) 1 := ⟨q351, q352, q63, q353, by decide +kernel⟩
set_option maxHeartbeats 4000000 in
theorem met_X9_has (l : Launch) (G : GG) (σ : SG) (N : Nat) (a0 : Nat) (a1 : Int64) (rf : Int32) (hf : f_X9_has N σ a0 a1 = some rf) : Con l yX9_has cX9_has 6 (some .boolean) 2 0 0 G σ [.ref a0, .long a1] σ (some (.int rf)) := by
  refine con_of (by decide) (Nat.le_of_ble_eq_true rfl) ?_
  intro p e s m below meth c ls X hK hH hl hS
  have hx := X.1
  have hb := X.2.1
  have hml := X.2.2.2.1
  have hown : s.vm.findClass RX9 = some m.cls := X.2.2.2.2.1
  have hts := X.2.2.2.2.2.1
  have hl : lv_has ls 6 [(0, .ref a0), (1, .long a1)] := hl
  unfold f_X9_has at hf
  have L5 : ∀ (c0 : Nat) (n : Nat) (s5 : (Int64 × Int32)) (r5 : Int64), lp (f_X9_has_b5 N c0 σ) n s5 = some r5 → (∀ (ls : Array Slot) (H : Heap) (locs : List Loc), lv_has ls 6 [(3, .long r5)] → HH G σ H → va_S (AG G) s.heap H locs → W p l e (rm_ 2 0 0) s m ([.ref a0, .long a1] : List Value).toArray below meth c H locs 0 0 (MQ below (PostC G σ (some (.int rf))) ([.ref a0, .long a1] : List Value).toArray s 0 0 (AG G)) (F0 m 65 ls [])) → ∀ (ls : Array Slot) (H : Heap) (locs : List Loc), lv_has ls 6 [(0, .ref c0), (3, .long s5.1), (5, .int s5.2)] → HH G σ H → va_S (AG G) s.heap H locs → W p l e (rm_ 2 0 0) s m ([.ref a0, .long a1] : List Value).toArray below meth c H locs 0 0 (MQ below (PostC G σ (some (.int rf))) ([.ref a0, .long a1] : List Value).toArray s 0 0 (AG G)) (F0 m 5 ls []) := by
    intro c0 n s5 r5 hr hq
    refine lp_ind (P := fun s5 => ∀ (ls : Array Slot) (H : Heap) (locs : List Loc), lv_has ls 6 [(0, .ref c0), (3, .long s5.1), (5, .int s5.2)] → HH G σ H → va_S (AG G) s.heap H locs → W p l e (rm_ 2 0 0) s m ([.ref a0, .long a1] : List Value).toArray below meth c H locs 0 0 (MQ below (PostC G σ (some (.int rf))) ([.ref a0, .long a1] : List Value).toArray s 0 0 (AG G)) (F0 m 5 ls [])) (Q := fun r5 => ∀ (ls : Array Slot) (H : Heap) (locs : List Loc), lv_has ls 6 [(3, .long r5)] → HH G σ H → va_S (AG G) s.heap H locs → W p l e (rm_ 2 0 0) s m ([.ref a0, .long a1] : List Value).toArray below meth c H locs 0 0 (MQ below (PostC G σ (some (.int rf))) ([.ref a0, .long a1] : List Value).toArray s 0 0 (AG G)) (F0 m 65 ls [])) ?_ n s5 r5 hr hq
    intro s5 x5 hf hx5 ls H locs hl hH hS
    unfold f_X9_has_b5 at hf
    refine lv_iload hx hb dX9_has_5 (lv_at hl 2 rfl) ?_
    refine lv_aload_n hx hb dX9_has_7 rfl (lv_at hl 0 rfl) ?_
    obtain ⟨v1, hv, hf⟩ := bd hf
    refine h_gI X hK hH fo_X9_4 hv q311 dX9_has_8 ?_
    refine lv_icmp_ge (tgt := 65) hx hb dX9_has_11 (by decide) (fun c_ => ?_) (fun c_ => ?_)
    · have hf := (if_pos c_).symm.trans hf
      cases hf
      exact hx5 _ _ _ (lv_sub hl [1] rfl) hH hS
    · have hf := (if_neg c_).symm.trans hf
      refine lv_aload_n hx hb dX9_has_14 rfl (lv_at hl 0 rfl) ?_
      obtain ⟨v2, hv, hf⟩ := bd hf
      refine h_gI X hK hH fo_X9_0 hv q306 dX9_has_15 ?_
      refine lv_aload_n hx hb dX9_has_18 rfl (lv_at hl 0 rfl) ?_
      obtain ⟨v3, hv, hf⟩ := bd hf
      refine h_gI X hK hH fo_X9_1 hv q307 dX9_has_19 ?_
      refine lv_lload_n hx hb dX9_has_22 rfl (lv_at hl 1 rfl) ?_
      refine lv_aload_n hx hb dX9_has_23 rfl (lv_at hl 0 rfl) ?_
      refine lv_iload hx hb dX9_has_24 (lv_at hl 2 rfl) ?_
      obtain ⟨_, hw, hf⟩ := bd hf
      obtain ⟨v4, hv, hf⟩ := bd hf
      refine c_V (As := [.int s5.2]) (rest := [.long s5.1, .int v3, .int v2]) (st1 := [.long v4, .long s5.1, .int v3, .int v2]) X (met_X9_row l G σ N c0 s5.2 v4 hv) cv_X9_row q354 (recv1 (w := (RX9, TX9, 5)) hw hK hH rfl) rfl rfl rfl hl.1 (Nat.le_of_ble_eq_true rfl) ⟨Nat.le_of_ble_eq_true rfl, Nat.le_of_ble_eq_true rfl⟩ ⟨Nat.le_of_ble_eq_true rfl, Nat.le_of_ble_eq_true rfl⟩ dX9_has_26 hK hH hS (fun H locs hH hS => ?_)
      refine W.cs (cells' := 0) (slots' := 0) (by rfl) (by rfl) ?_
      refine lv_aload_n hx hb dX9_has_29 rfl (lv_at hl 0 rfl) ?_
      obtain ⟨v5, hv, hf⟩ := bd hf
      refine h_gI X hK hH fo_X9_0 hv q306 dX9_has_30 ?_
      refine lv_aload_n hx hb dX9_has_33 rfl (lv_at hl 0 rfl) ?_
      obtain ⟨v6, hv, hf⟩ := bd hf
      refine h_gI X hK hH fo_X9_0 hv q306 dX9_has_34 ?_
      refine lv_aload_n hx hb dX9_has_37 rfl (lv_at hl 0 rfl) ?_
      obtain ⟨v7, hv, hf⟩ := bd hf
      refine h_gI X hK hH fo_X9_1 hv q307 dX9_has_38 ?_
      refine lv_lload_n hx hb dX9_has_41 rfl (lv_at hl 1 rfl) ?_
      refine lv_aload_n hx hb dX9_has_42 rfl (lv_at hl 0 rfl) ?_
      obtain ⟨v8, hv, hf⟩ := bd hf
      refine h_gR X hK hH fo_X9_3 hv q309 dX9_has_43 ?_
      refine lv_iload hx hb dX9_has_46 (lv_at hl 2 rfl) ?_
      obtain ⟨v9, hv, hf⟩ := bd hf
      refine h_aI X hK hH hv dX9_has_48 ?_
      obtain ⟨v10, hv, hf⟩ := bd hf
      refine c_SN (host := "WordBench") (As := [.int v6, .int v7, .long s5.1, .int v9]) (rest := [.int v5, .long v4, .long s5.1, .int v3, .int v2]) (st1 := [.int v10, .int v5, .long v4, .long s5.1, .int v3, .int v2]) X (met_X1_letter l G σ N v6 v7 s5.1 v9 v10 hv) cs_X1_letter q359 rfl rfl rfl hl.1 (Nat.le_of_ble_eq_true rfl) ⟨Nat.le_of_ble_eq_true rfl, Nat.le_of_ble_eq_true rfl⟩ ⟨Nat.le_of_ble_eq_true rfl, Nat.le_of_ble_eq_true rfl⟩ dX9_has_49 hK hH hS (fun H locs hH hS => ?_)
      refine W.cs (cells' := 0) (slots' := 0) (by rfl) (by rfl) ?_
      obtain ⟨v11, hv, hf⟩ := bd hf
      refine c_SN (host := "WordBench") (As := [.int v5, .int v10]) (rest := [.long v4, .long s5.1, .int v3, .int v2]) (st1 := [.int v11, .long v4, .long s5.1, .int v3, .int v2]) X (met_X1_against l G σ N v5 v10 v11 hv) cs_X1_against q302 rfl rfl rfl hl.1 (Nat.le_of_ble_eq_true rfl) ⟨Nat.le_of_ble_eq_true rfl, Nat.le_of_ble_eq_true rfl⟩ ⟨Nat.le_of_ble_eq_true rfl, Nat.le_of_ble_eq_true rfl⟩ dX9_has_52 hK hH hS (fun H locs hH hS => ?_)
      refine W.cs (cells' := 0) (slots' := 0) (by rfl) (by rfl) ?_
      obtain ⟨v12, hv, hf⟩ := bd hf
      refine c_SN (host := "WordBench") (As := [.int v2, .int v3, .long s5.1, .long v4, .int v11]) (rest := []) (st1 := [.long v12]) X (met_X1_sumOf l G σ N v2 v3 s5.1 v4 v11 v12 hv) cs_X1_sumOf q362 rfl rfl rfl hl.1 (Nat.le_of_ble_eq_true rfl) ⟨Nat.le_of_ble_eq_true rfl, Nat.le_of_ble_eq_true rfl⟩ ⟨Nat.le_of_ble_eq_true rfl, Nat.le_of_ble_eq_true rfl⟩ dX9_has_55 hK hH hS (fun H locs hH hS => ?_)
      refine W.cs (cells' := 0) (slots' := 0) (by rfl) (by rfl) ?_
      refine lv_lstore_n (lv' := [(3, .long v12), (0, .ref c0), (5, .int s5.2)]) hx hb dX9_has_58 rfl hl (by decide) rfl (fun ls hl => ?_)
      refine lv_iinc (v := (s5.2 + 1)) (lv' := [(5, .int (s5.2 + 1)), (3, .long v12), (0, .ref c0)]) hx hb dX9_has_59 hl (k := 2) rfl rfl (by decide) rfl (fun ls hl => ?_)
      refine lv_goto (tgt := 5) hx hb dX9_has_62 (by decide) ?_
      cases hf
      exact hx5 _ _ _ (lv_sub hl [2, 1, 0] rfl) hH hS
  refine lv_lload_n hx hb dX9_has_0 rfl (lv_at hl 1 rfl) ?_
  refine lv_lstore_n (lv' := [(3, .long a1), (0, .ref a0), (1, .long a1)]) hx hb dX9_has_1 rfl hl (by decide) rfl (fun ls hl => ?_)
  refine lv_iconst (v := (0 : Int32)) hx hb dX9_has_2 (by decide) ?_
  refine lv_istore (lv' := [(5, .int (0 : Int32)), (3, .long a1), (0, .ref a0), (1, .long a1)]) hx hb dX9_has_3 hl (by decide) rfl (fun ls hl => ?_)
  obtain ⟨r5_13, hr, hf⟩ := bd hf
  refine L5 a0 N _ r5_13 hr ?_ _ _ _ (lv_sub hl [2, 1, 0] rfl) hH hS
  intro ls H locs hl hH hS
  refine lv_lload_n hx hb dX9_has_65 rfl (lv_at hl 0 rfl) ?_
  refine lv_lconst (v := (0 : Int64)) hx hb dX9_has_66 (by decide) ?_
  refine W.lcmp hx hb dX9_has_67 ?_
  refine lv_if_ne (tgt := 75) hx hb dX9_has_68 (by decide) (fun c_ => ?_) (fun c_ => ?_)
  · have hf := (if_neg (fun z => c_ ((lg_cmp_eq r5_13 (0 : Int64)).mpr z))).symm.trans hf
    refine lv_iconst (v := (0 : Int32)) hx hb dX9_has_75 (by decide) ?_
    obtain ⟨hz, hv⟩ := rz_s hf
    subst hv
    exact r_zret X dX9_has_76 (Nat.le_of_ble_eq_true rfl) (Nat.le_of_ble_eq_true rfl) hz rfl hH hS
  · have hf := (if_pos ((lg_cmp_eq r5_13 (0 : Int64)).mp c_)).symm.trans hf
    refine lv_iconst (v := (1 : Int32)) hx hb dX9_has_71 (by decide) ?_
    refine lv_goto (tgt := 76) hx hb dX9_has_72 (by decide) ?_
    obtain ⟨hz, hv⟩ := rz_s hf
    subst hv
    exact r_zret X dX9_has_76 (Nat.le_of_ble_eq_true rfl) (Nat.le_of_ble_eq_true rfl) hz rfl hH hS
theorem cs_X1_has : CalS yX1_has cX1_has 3 (some .boolean) 2 := ⟨q348, q48, q349, by decide +kernel, by decide +kernel, by decide +kernel⟩
set_option maxHeartbeats 4000000 in
theorem met_X1_has (l : Launch) (G : GG) (σ : SG) (N : Nat) (a0 : Nat) (a1 : Int64) (σf : SG) (rf : Int32) (hf : f_X1_has N σ a0 a1 = some (σf, rf)) : Con l yX1_has cX1_has 3 (some .boolean) 4 16 185 G σ [.ref a0, .long a1] σf (some (.int rf)) := by
  refine con_of (by decide) (Nat.le_of_ble_eq_true rfl) ?_
  intro p e s m below meth c ls X hK hH hl hS
  have hx := X.1
  have hb := X.2.1
  have hml := X.2.2.2.1
  have hown : s.vm.findClass RX1 = some m.cls := X.2.2.2.2.1
  have hts := X.2.2.2.2.2.1
  have hl : lv_has ls 3 [(0, .ref a0), (1, .long a1)] := hl
  unfold f_X1_has at hf
  refine lv_aload_n hx hb dX1_has_0 rfl (lv_at hl 0 rfl) ?_
  obtain ⟨v1, hv, hf⟩ := bd hf
  refine h_inst (w := (some a0)) X hK hH ca_Line nc_Line hv q152 dX1_has_1 ?_
  refine lv_if_eq (tgt := 22) hx hb dX1_has_4 (by decide) (fun c_ => ?_) (fun c_ => ?_)
  · have hf := (if_pos c_).symm.trans hf
    refine lv_aload_n hx hb dX1_has_22 rfl (lv_at hl 0 rfl) ?_
    obtain ⟨_, hv, hf⟩ := bd hf
    refine h_cast X hK hH ca_List hv q95 dX1_has_23 ?_
    refine lv_lload_n hx hb dX1_has_26 rfl (lv_at hl 1 rfl) ?_
    obtain ⟨_, hw, hf⟩ := bd hf
    obtain ⟨v2, hv, hf⟩ := bd hf
    refine c_V (As := [.long a1]) (rest := []) (st1 := [.int v2]) X (met_X5_has l G σ N a0 a1 v2 hv) cv_X5_has q365 (recv1 (w := (RX5, TX5, 4)) hw hK hH rfl) rfl rfl rfl hl.1 (Nat.le_of_ble_eq_true rfl) ⟨Nat.le_of_ble_eq_true rfl, Nat.le_of_ble_eq_true rfl⟩ ⟨Nat.le_of_ble_eq_true rfl, Nat.le_of_ble_eq_true rfl⟩ dX1_has_27 hK hH hS (fun H locs hH hS => ?_)
    refine W.cs (cells' := 0) (slots' := 0) (by rfl) (by rfl) ?_
    obtain ⟨v3, hv, hf⟩ := bd hf
    obtain ⟨hz, hv⟩ := rz_s hv
    subst hv
    cases hf
    exact r_zret X dX1_has_30 (Nat.le_of_ble_eq_true rfl) (Nat.le_of_ble_eq_true rfl) hz rfl hH hS
  · have hf := (if_neg c_).symm.trans hf
    obtain ⟨t4, hv, hf⟩ := bd hf
    refine h_new (ci := 7) (fs := [.int 0, .int 0, .null, .null, .int 0]) X hK hH hS tyX9 tyX9_ok in_X9 rfl q279 q280 q63 df_X9 (Nat.le_of_ble_eq_true rfl) (Nat.le_of_ble_eq_true rfl) dX1_has_7 (fun H hH hS => ?_)
    rw [Option.some.inj hv] at hH
    refine W.cs (cells' := 1) (slots' := 5) (by rfl) (by rfl) ?_
    refine lv_dup hx hb dX1_has_10 rfl ?_
    refine lv_aload_n hx hb dX1_has_11 rfl (lv_at hl 0 rfl) ?_
    obtain ⟨v5, hv, hf⟩ := bd hf
    refine r_I (As := [.ref a0]) (rest := [.ref ((σ).1)]) X (met_X9_init l G t4 N ((σ).1) a0 v5 hv) ci_X9_init q281 rfl rfl hl.1 (Nat.le_of_ble_eq_true rfl) ⟨Nat.le_of_ble_eq_true rfl, Nat.le_of_ble_eq_true rfl⟩ ⟨Nat.le_of_ble_eq_true rfl, Nat.le_of_ble_eq_true rfl⟩ dX1_has_12 hK hH hS (fun H locs hH hS => ?_)
    refine W.cs (cells' := 16) (slots' := 185) (by rfl) (by rfl) ?_
    refine lv_lload_n hx hb dX1_has_15 rfl (lv_at hl 1 rfl) ?_
    obtain ⟨_, hw, hf⟩ := bd hf
    obtain ⟨v6, hv, hf⟩ := bd hf
    refine c_V (As := [.long a1]) (rest := []) (st1 := [.int v6]) X (met_X9_has l G v5 N ((σ).1) a1 v6 hv) cv_X9_has q350 (recv1 (w := (RX9, TX9, 5)) hw hK hH rfl) rfl rfl rfl hl.1 (Nat.le_of_ble_eq_true rfl) ⟨Nat.le_of_ble_eq_true rfl, Nat.le_of_ble_eq_true rfl⟩ ⟨Nat.le_of_ble_eq_true rfl, Nat.le_of_ble_eq_true rfl⟩ dX1_has_16 hK hH hS (fun H locs hH hS => ?_)
    refine W.cs (cells' := 16) (slots' := 185) (by rfl) (by rfl) ?_
    refine lv_goto (tgt := 30) hx hb dX1_has_19 (by decide) ?_
    obtain ⟨v7, hv, hf⟩ := bd hf
    obtain ⟨hz, hv⟩ := rz_s hv
    subst hv
    cases hf
    exact r_zret X dX1_has_30 (Nat.le_of_ble_eq_true rfl) (Nat.le_of_ble_eq_true rfl) hz rfl hH hS
theorem cv_X1_head : CalV "WordBench" yX1_head cX1_head 5 (some .int) 2 := ⟨q393, q394, q48, q395, by decide +kernel⟩
set_option maxHeartbeats 4000000 in
theorem met_X1_head (l : Launch) (G : GG) (σ : SG) (N : Nat) (a0 : Nat) (a1 : Int32) (a2 : Int32) (σf : SG) (rf : Int32) (hf : f_X1_head N σ a0 a1 a2 = some (σf, rf)) : Con l yX1_head cX1_head 5 (some .int) 4 16 185 G σ [.ref a0, .int a1, .int a2] σf (some (.int rf)) := by
  refine con_of (by decide) (Nat.le_of_ble_eq_true rfl) ?_
  intro p e s m below meth c ls X hK hH hl hS
  have hx := X.1
  have hb := X.2.1
  have hml := X.2.2.2.1
  have hown : s.vm.findClass RX1 = some m.cls := X.2.2.2.2.1
  have hts := X.2.2.2.2.2.1
  have hl : lv_has ls 5 [(0, .ref a0), (1, .int a1), (2, .int a2)] := hl
  unfold f_X1_head at hf
  refine lv_iload_n hx hb dX1_head_0 rfl (lv_at hl 2 rfl) ?_
  refine lv_if_ge (tgt := 6) hx hb dX1_head_1 (by decide) (fun c_ => ?_) (fun c_ => ?_)
  · have hf := (if_pos c_).symm.trans hf
    refine lv_aload_n hx hb dX1_head_6 rfl (lv_at hl 0 rfl) ?_
    refine lv_iload_n hx hb dX1_head_7 rfl (lv_at hl 1 rfl) ?_
    refine lv_iconst (v := (1 : Int32)) hx hb dX1_head_8 (by decide) ?_
    obtain ⟨_, hw, hf⟩ := bd hf
    obtain ⟨v1, hv, hf⟩ := bd hf
    refine c_V (As := [.int a1, .int (1 : Int32)]) (rest := []) (st1 := [.int v1]) X (met_X1_asks l G σ N a0 a1 (1 : Int32) v1 hv) cv_X1_asks q183 (recv1 (w := (RX1, TX1, 6)) hw hK hH rfl) rfl rfl rfl hl.1 (Nat.le_of_ble_eq_true rfl) ⟨Nat.le_of_ble_eq_true rfl, Nat.le_of_ble_eq_true rfl⟩ ⟨Nat.le_of_ble_eq_true rfl, Nat.le_of_ble_eq_true rfl⟩ dX1_head_9 hK hH hS (fun H locs hH hS => ?_)
    refine W.cs (cells' := 0) (slots' := 0) (by rfl) (by rfl) ?_
    refine lv_istore_n (lv' := [(3, .int v1), (0, .ref a0), (1, .int a1), (2, .int a2)]) hx hb dX1_head_12 rfl hl (by decide) rfl (fun ls hl => ?_)
    refine lv_iload_n hx hb dX1_head_13 rfl (lv_at hl 0 rfl) ?_
    refine lv_if_eq (tgt := 19) hx hb dX1_head_14 (by decide) (fun c_ => ?_) (fun c_ => ?_)
    · have hf := (if_pos c_).symm.trans hf
      obtain ⟨t2, hv, hf⟩ := bd hf
      refine h_new (ci := 7) (fs := [.int 0, .int 0, .null, .null, .int 0]) X hK hH hS tyX9 tyX9_ok in_X9 rfl q279 q280 q63 df_X9 (Nat.le_of_ble_eq_true rfl) (Nat.le_of_ble_eq_true rfl) dX1_head_19 (fun H hH hS => ?_)
      rw [Option.some.inj hv] at hH
      refine W.cs (cells' := 1) (slots' := 5) (by rfl) (by rfl) ?_
      refine lv_dup hx hb dX1_head_22 rfl ?_
      refine lv_aload_n hx hb dX1_head_23 rfl (lv_at hl 1 rfl) ?_
      obtain ⟨v3, hv, hf⟩ := bd hf
      refine h_gR X hK hH fo_X1_0 hv q649 dX1_head_24 ?_
      refine lv_iload_n hx hb dX1_head_27 rfl (lv_at hl 2 rfl) ?_
      obtain ⟨v4, hv, hf⟩ := bd hf
      refine h_aQ (by decide) X hK hH hv dX1_head_28 ?_
      obtain ⟨b5, hq, hz⟩ := bd hf
      clear hf
      subst hq
      have hf := hz
      clear hz
      obtain ⟨v6, hv, hf⟩ := bd hf
      refine r_I (As := [.ref b5]) (rest := [.ref ((σ).1)]) X (met_X9_init l G t2 N ((σ).1) b5 v6 hv) ci_X9_init q281 rfl rfl hl.1 (Nat.le_of_ble_eq_true rfl) ⟨Nat.le_of_ble_eq_true rfl, Nat.le_of_ble_eq_true rfl⟩ ⟨Nat.le_of_ble_eq_true rfl, Nat.le_of_ble_eq_true rfl⟩ dX1_head_29 hK hH hS (fun H locs hH hS => ?_)
      refine W.cs (cells' := 16) (slots' := 185) (by rfl) (by rfl) ?_
      refine lv_astore (lv' := [(4, .ref ((σ).1)), (3, .int v1), (0, .ref a0), (1, .int a1), (2, .int a2)]) hx hb dX1_head_32 hl (by decide) rfl (fun ls hl => ?_)
      refine lv_iload_n hx hb dX1_head_34 rfl (lv_at hl 4 rfl) ?_
      refine lv_aload hx hb dX1_head_35 (lv_at hl 0 rfl) ?_
      obtain ⟨v7, hv, hf⟩ := bd hf
      refine h_gI X hK hH fo_X9_4 hv q312 dX1_head_37 ?_
      refine lv_icmp_ge (tgt := 53) hx hb dX1_head_40 (by decide) (fun c_ => ?_) (fun c_ => ?_)
      · have hf := (if_pos c_).symm.trans hf
        refine lv_bipush (v := (-2 : Int32)) hx hb dX1_head_53 (by decide) ?_
        cases hf
        exact r_iret X dX1_head_55 (Nat.le_of_ble_eq_true rfl) (Nat.le_of_ble_eq_true rfl) rfl hH hS
      · have hf := (if_neg c_).symm.trans hf
        refine lv_aload hx hb dX1_head_43 (lv_at hl 0 rfl) ?_
        obtain ⟨v8, hv, hf⟩ := bd hf
        refine h_gR X hK hH fo_X9_3 hv q310 dX1_head_45 ?_
        refine lv_iload_n hx hb dX1_head_48 rfl (lv_at hl 4 rfl) ?_
        obtain ⟨v9, hv, hf⟩ := bd hf
        refine h_aI X hK hH hv dX1_head_49 ?_
        refine lv_goto (tgt := 55) hx hb dX1_head_50 (by decide) ?_
        cases hf
        exact r_iret X dX1_head_55 (Nat.le_of_ble_eq_true rfl) (Nat.le_of_ble_eq_true rfl) rfl hH hS
    · have hf := (if_neg c_).symm.trans hf
      refine lv_iload_n hx hb dX1_head_17 rfl (lv_at hl 0 rfl) ?_
      cases hf
      exact r_iret X dX1_head_18 (Nat.le_of_ble_eq_true rfl) (Nat.le_of_ble_eq_true rfl) rfl hH hS
  · have hf := (if_neg c_).symm.trans hf
    refine lv_iconst (v := (-1 : Int32)) hx hb dX1_head_4 (by decide) ?_
    cases hf
    exact r_iret X dX1_head_5 (Nat.le_of_ble_eq_true rfl) (Nat.le_of_ble_eq_true rfl) rfl hH hS
theorem cv_X1_held : CalV "WordBench" yX1_held cX1_held 2 (some (.object "java/lang/Object")) 1 := ⟨q844, qs18, q48, q845, by decide +kernel⟩
set_option maxHeartbeats 4000000 in
theorem met_X1_held (l : Launch) (G : GG) (σ : SG) (N : Nat) (a0 : Nat) (a1 : Int32) (rf : Option Nat) (hf : f_X1_held N σ a0 a1 = some rf) : Con l yX1_held cX1_held 2 (some (.object "java/lang/Object")) 3 0 0 G σ [.ref a0, .int a1] σ (some (va_rf rf)) := by
  refine con_of (by decide) (Nat.le_of_ble_eq_true rfl) ?_
  intro p e s m below meth c ls X hK hH hl hS
  have hx := X.1
  have hb := X.2.1
  have hml := X.2.2.2.1
  have hown : s.vm.findClass RX1 = some m.cls := X.2.2.2.2.1
  have hts := X.2.2.2.2.2.1
  have hl : lv_has ls 2 [(0, .ref a0), (1, .int a1)] := hl
  unfold f_X1_held at hf
  refine lv_aload_n hx hb dX1_held_0 rfl (lv_at hl 0 rfl) ?_
  obtain ⟨v1, hv, hf⟩ := bd hf
  refine h_gR X hK hH fo_X1_5 hv q654 dX1_held_1 ?_
  refine lv_iload_n hx hb dX1_held_4 rfl (lv_at hl 1 rfl) ?_
  obtain ⟨_, hw, hf⟩ := bd hf
  obtain ⟨v2, hv, hf⟩ := bd hf
  refine c_V (As := [.int a1]) (rest := []) (st1 := [va_rf v2]) X (met_J2_get l G σ N v1 a1 v2 hv) cv_J2_get q676 (recv1 (w := (RJ2, TJ2, 3)) hw hK hH rfl) rfl rfl rfl hl.1 (Nat.le_of_ble_eq_true rfl) ⟨Nat.le_of_ble_eq_true rfl, Nat.le_of_ble_eq_true rfl⟩ ⟨Nat.le_of_ble_eq_true rfl, Nat.le_of_ble_eq_true rfl⟩ dX1_held_5 hK hH hS (fun H locs hH hS => ?_)
  refine W.cs (cells' := 0) (slots' := 0) (by rfl) (by rfl) ?_
  obtain ⟨b3, hq, hz⟩ := bd hf
  clear hf
  subst hq
  have hf := hz
  clear hz
  obtain ⟨_, hv, hf⟩ := bd hf
  refine h_cast X hK hH ca_Shelf hv q578 dX1_held_8 ?_
  obtain ⟨v4, hv, hf⟩ := bd hf
  refine h_gQ X hK hH fo_X2_0 hv q584 dX1_held_11 ?_
  cases hf
  exact r_aret X (Or.inl ⟨_, rfl⟩) (va_rf_or _) dX1_held_14 (Nat.le_of_ble_eq_true rfl) (Nat.le_of_ble_eq_true rfl) rfl hH hS
theorem cv_X1_hole : CalV "WordBench" yX1_hole cX1_hole 4 (some .long) 1 := ⟨q481, q482, q48, q483, by decide +kernel⟩
set_option maxHeartbeats 4000000 in
theorem met_X1_hole (l : Launch) (G : GG) (σ : SG) (N : Nat) (a0 : Nat) (a1 : Int32) (σf : SG) (rf : Int64) (hf : f_X1_hole N σ a0 a1 = some (σf, rf)) : Con l yX1_hole cX1_hole 4 (some .long) 6 16 185 G σ [.ref a0, .int a1] σf (some (.long rf)) := by
  refine con_of (by decide) (Nat.le_of_ble_eq_true rfl) ?_
  intro p e s m below meth c ls X hK hH hl hS
  have hx := X.1
  have hb := X.2.1
  have hml := X.2.2.2.1
  have hown : s.vm.findClass RX1 = some m.cls := X.2.2.2.2.1
  have hts := X.2.2.2.2.2.1
  have hl : lv_has ls 4 [(0, .ref a0), (1, .int a1)] := hl
  unfold f_X1_hole at hf
  refine lv_aload_n hx hb dX1_hole_0 rfl (lv_at hl 0 rfl) ?_
  refine lv_iload_n hx hb dX1_hole_1 rfl (lv_at hl 1 rfl) ?_
  obtain ⟨_, hw, hf⟩ := bd hf
  obtain ⟨v1, hv, hf⟩ := bd hf
  refine c_V (As := [.int a1]) (rest := []) (st1 := [.int v1.2]) X (met_X1_whyHoles l G σ N a0 a1 v1.1 v1.2 hv) cv_X1_whyHoles q471 (recv1 (w := (RX1, TX1, 6)) hw hK hH rfl) rfl rfl rfl hl.1 (Nat.le_of_ble_eq_true rfl) ⟨Nat.le_of_ble_eq_true rfl, Nat.le_of_ble_eq_true rfl⟩ ⟨Nat.le_of_ble_eq_true rfl, Nat.le_of_ble_eq_true rfl⟩ dX1_hole_2 hK hH hS (fun H locs hH hS => ?_)
  refine W.cs (cells' := 16) (slots' := 185) (by rfl) (by rfl) ?_
  refine lv_istore_n (lv' := [(2, .int v1.2), (0, .ref a0), (1, .int a1)]) hx hb dX1_hole_5 rfl hl (by decide) rfl (fun ls hl => ?_)
  refine lv_iload_n hx hb dX1_hole_6 rfl (lv_at hl 0 rfl) ?_
  refine lv_if_eq (tgt := 13) hx hb dX1_hole_7 (by decide) (fun c_ => ?_) (fun c_ => ?_)
  · have hf := (if_pos c_).symm.trans hf
    refine lv_aload_n hx hb dX1_hole_13 rfl (lv_at hl 1 rfl) ?_
    refine lv_aload_n hx hb dX1_hole_14 rfl (lv_at hl 1 rfl) ?_
    obtain ⟨v2, hv, hf⟩ := bd hf
    refine h_gR X hK hH fo_X1_0 hv q649 dX1_hole_15 ?_
    refine lv_iload_n hx hb dX1_hole_18 rfl (lv_at hl 2 rfl) ?_
    obtain ⟨v3, hv, hf⟩ := bd hf
    refine h_aQ (by decide) X hK hH hv dX1_hole_19 ?_
    obtain ⟨b4, hq, hz⟩ := bd hf
    clear hf
    subst hq
    have hf := hz
    clear hz
    obtain ⟨_, hw, hf⟩ := bd hf
    obtain ⟨v5, hv, hf⟩ := bd hf
    refine c_V (As := [.ref b4]) (rest := []) (st1 := [.int v5.2]) X (met_X1_covers l G v1.1 N a0 b4 v5.1 v5.2 hv) cv_X1_covers q476 (recv1 (w := (RX1, TX1, 6)) hw hK hH rfl) rfl rfl rfl hl.1 (Nat.le_of_ble_eq_true rfl) ⟨Nat.le_of_ble_eq_true rfl, Nat.le_of_ble_eq_true rfl⟩ ⟨Nat.le_of_ble_eq_true rfl, Nat.le_of_ble_eq_true rfl⟩ dX1_hole_20 hK hH hS (fun H locs hH hS => ?_)
    refine W.cs (cells' := 16) (slots' := 185) (by rfl) (by rfl) ?_
    refine lv_istore_n (lv' := [(3, .int v5.2), (2, .int v1.2), (0, .ref a0), (1, .int a1)]) hx hb dX1_hole_23 rfl hl (by decide) rfl (fun ls hl => ?_)
    refine lv_aload_n hx hb dX1_hole_24 rfl (lv_at hl 2 rfl) ?_
    obtain ⟨v6, hv, hf⟩ := bd hf
    refine h_gJ X hK hH fo_X1_4 hv q653 dX1_hole_25 ?_
    cases hf
    exact r_lret X dX1_hole_28 (Nat.le_of_ble_eq_true rfl) (Nat.le_of_ble_eq_true rfl) rfl hH hS
  · have hf := (if_neg c_).symm.trans hf
    refine lv_iload_n hx hb dX1_hole_10 rfl (lv_at hl 0 rfl) ?_
    refine lv_i2l (v := (v1.2).toInt64) hx hb dX1_hole_11 rfl ?_
    cases hf
    exact r_lret X dX1_hole_12 (Nat.le_of_ble_eq_true rfl) (Nat.le_of_ble_eq_true rfl) rfl hH hS
theorem cv_X1_in : CalV "WordBench" yX1_in cX1_in 5 (some .int) 2 := ⟨q340, q341, q48, q342, by decide +kernel⟩
set_option maxHeartbeats 4000000 in
theorem met_X1_in (l : Launch) (G : GG) (σ : SG) (N : Nat) (a0 : Nat) (a1 : Int32) (a2 : Int64) (σf : SG) (rf : Int32) (hf : f_X1_in N σ a0 a1 a2 = some (σf, rf)) : Con l yX1_in cX1_in 5 (some .int) 5 16 185 G σ [.ref a0, .int a1, .long a2] σf (some (.int rf)) := by
  refine con_of (by decide) (Nat.le_of_ble_eq_true rfl) ?_
  intro p e s m below meth c ls X hK hH hl hS
  have hx := X.1
  have hb := X.2.1
  have hml := X.2.2.2.1
  have hown : s.vm.findClass RX1 = some m.cls := X.2.2.2.2.1
  have hts := X.2.2.2.2.2.1
  have hl : lv_has ls 5 [(0, .ref a0), (1, .int a1), (2, .long a2)] := hl
  unfold f_X1_in at hf
  refine lv_aload_n hx hb dX1_in_0 rfl (lv_at hl 0 rfl) ?_
  refine lv_iload_n hx hb dX1_in_1 rfl (lv_at hl 1 rfl) ?_
  refine lv_lload_n hx hb dX1_in_2 rfl (lv_at hl 2 rfl) ?_
  obtain ⟨_, hw, hf⟩ := bd hf
  obtain ⟨v1, hv, hf⟩ := bd hf
  refine c_V (As := [.int a1, .long a2]) (rest := []) (st1 := [.int v1]) X (met_X1_whyWord l G σ N a0 a1 a2 v1 hv) cv_X1_whyWord q343 (recv1 (w := (RX1, TX1, 6)) hw hK hH rfl) rfl rfl rfl hl.1 (Nat.le_of_ble_eq_true rfl) ⟨Nat.le_of_ble_eq_true rfl, Nat.le_of_ble_eq_true rfl⟩ ⟨Nat.le_of_ble_eq_true rfl, Nat.le_of_ble_eq_true rfl⟩ dX1_in_3 hK hH hS (fun H locs hH hS => ?_)
  refine W.cs (cells' := 0) (slots' := 0) (by rfl) (by rfl) ?_
  refine lv_istore (lv' := [(4, .int v1), (0, .ref a0), (1, .int a1), (2, .long a2)]) hx hb dX1_in_6 hl (by decide) rfl (fun ls hl => ?_)
  refine lv_iload hx hb dX1_in_8 (lv_at hl 0 rfl) ?_
  refine lv_if_eq (tgt := 18) hx hb dX1_in_10 (by decide) (fun c_ => ?_) (fun c_ => ?_)
  · have hf := (if_pos c_).symm.trans hf
    refine lv_aload_n hx hb dX1_in_18 rfl (lv_at hl 1 rfl) ?_
    obtain ⟨v2, hv, hf⟩ := bd hf
    refine h_gR X hK hH fo_X1_0 hv q649 dX1_in_19 ?_
    refine lv_iload_n hx hb dX1_in_22 rfl (lv_at hl 2 rfl) ?_
    obtain ⟨v3, hv, hf⟩ := bd hf
    refine h_aQ (by decide) X hK hH hv dX1_in_23 ?_
    refine lv_lload_n hx hb dX1_in_24 rfl (lv_at hl 3 rfl) ?_
    obtain ⟨b4, hq, hz⟩ := bd hf
    clear hf
    subst hq
    have hf := hz
    clear hz
    obtain ⟨v5, hv, hf⟩ := bd hf
    refine c_S (As := [.ref b4, .long a2]) (rest := []) (st1 := [.int v5.2]) X (met_X1_has l G σ N b4 a2 v5.1 v5.2 hv) cs_X1_has q347 rfl rfl rfl hl.1 (Nat.le_of_ble_eq_true rfl) ⟨Nat.le_of_ble_eq_true rfl, Nat.le_of_ble_eq_true rfl⟩ ⟨Nat.le_of_ble_eq_true rfl, Nat.le_of_ble_eq_true rfl⟩ dX1_in_25 hK hH hS (fun H locs hH hS => ?_)
    refine W.cs (cells' := 16) (slots' := 185) (by rfl) (by rfl) ?_
    refine lv_if_eq (tgt := 35) hx hb dX1_in_28 (by decide) (fun c_ => ?_) (fun c_ => ?_)
    · have hf := (if_pos c_).symm.trans hf
      refine lv_iconst (v := (0 : Int32)) hx hb dX1_in_35 (by decide) ?_
      cases hf
      exact r_iret X dX1_in_36 (Nat.le_of_ble_eq_true rfl) (Nat.le_of_ble_eq_true rfl) rfl hH hS
    · have hf := (if_neg c_).symm.trans hf
      refine lv_iconst (v := (1 : Int32)) hx hb dX1_in_31 (by decide) ?_
      refine lv_goto (tgt := 36) hx hb dX1_in_32 (by decide) ?_
      cases hf
      exact r_iret X dX1_in_36 (Nat.le_of_ble_eq_true rfl) (Nat.le_of_ble_eq_true rfl) rfl hH hS
  · have hf := (if_neg c_).symm.trans hf
    refine lv_iload hx hb dX1_in_13 (lv_at hl 0 rfl) ?_
    refine lv_goto (tgt := 36) hx hb dX1_in_15 (by decide) ?_
    cases hf
    exact r_iret X dX1_in_36 (Nat.le_of_ble_eq_true rfl) (Nat.le_of_ble_eq_true rfl) rfl hH hS
theorem ci_X2_init : CalI yX2_init cX2_init 1 0 := ⟨q581, q52, q582, rfl, by decide +kernel⟩
set_option maxHeartbeats 4000000 in
theorem met_X2_init (l : Launch) (G : GG) (σ : SG) (N : Nat) (a0 : Nat) (hf : f_X2_init N a0 = some ()) : Con l yX2_init cX2_init 1 none 1 0 0 G σ [.ref a0] σ none := by
  refine con_of (by decide) (Nat.le_of_ble_eq_true rfl) ?_
  intro p e s m below meth c ls X hK hH hl hS
  have hx := X.1
  have hb := X.2.1
  have hml := X.2.2.2.1
  have hown : s.vm.findClass RX2 = some m.cls := X.2.2.2.2.1
  have hts := X.2.2.2.2.2.1
  have hl : lv_has ls 1 [(0, .ref a0)] := hl
  unfold f_X2_init at hf
  refine lv_aload_n hx hb dX2_init_0 rfl (lv_at hl 0 rfl) ?_
  refine W.objInit hx hb hown (hts _ q583) (hts _ q104) (hts _ q105) rfl (by rw [hml]; exact hl.1) rfl dX2_init_1 (Nat.le_of_ble_eq_true rfl) (Nat.le_of_ble_eq_true rfl) ?_
  refine W.eq (g2 := F0 m 4 ls []) rfl ?_
  exact r_vret X dX2_init_4 (Nat.le_of_ble_eq_true rfl) (Nat.le_of_ble_eq_true rfl) rfl hH hS
theorem ci_X1_init : CalI yX1_init cX1_init 2 0 := ⟨q547, q48, q548, rfl, by decide +kernel⟩
set_option maxHeartbeats 4000000 in
theorem met_X1_init (l : Launch) (G : GG) (σ : SG) (N : Nat) (z : Nat) (a0 : Nat) (hz : G.2.2.2.2 = z) (σf : SG) (hf : f_X1_init N z σ a0 = some σf) : Con l yX1_init cX1_init 2 none 5 30 4267 G σ [.ref a0] σf none := by
  refine con_of (by decide) (Nat.le_of_ble_eq_true rfl) ?_
  intro p e s m below meth c ls X hK hH hl hS
  have hx := X.1
  have hb := X.2.1
  have hml := X.2.2.2.1
  have hown : s.vm.findClass RX1 = some m.cls := X.2.2.2.2.1
  have hts := X.2.2.2.2.2.1
  have hl : lv_has ls 2 [(0, .ref a0)] := hl
  unfold f_X1_init at hf
  have L43 : ∀ (c0 : Nat) (n43 : Nat) (s43 : (Int32 × SG)) (r43 : SG), lp (f_X1_init_b43 N z c0) n43 s43 = some r43 → (∀ (ls : Array Slot) (H : Heap) (locs : List Loc), lv_has ls 2 [] → HH G r43 H → va_S (AG G) s.heap H locs → W p l e (rm_ 5 30 4267) s m ([.ref a0] : List Value).toArray below meth c H locs 30 4267 (MQ below (PostC G σf none) ([.ref a0] : List Value).toArray s 30 4267 (AG G)) (F0 m 70 ls [])) → n43 ≤ 13 → ∀ (ls : Array Slot) (H : Heap) (locs : List Loc), lv_has ls 2 [(0, .ref c0), (1, .int s43.1)] → HH G s43.2 H → va_S (AG G) s.heap H locs → W p l e (rm_ 5 30 4267) s m ([.ref a0] : List Value).toArray below meth c H locs (0 + 4 + (13 - n43) * 2) (0 + 4124 + (13 - n43) * 11) (MQ below (PostC G σf none) ([.ref a0] : List Value).toArray s 30 4267 (AG G)) (F0 m 43 ls []) := by
    intro c0 n43 s43 r43 hr hq
    refine lp_indN (P := fun n43 s43 => n43 ≤ 13 → ∀ (ls : Array Slot) (H : Heap) (locs : List Loc), lv_has ls 2 [(0, .ref c0), (1, .int s43.1)] → HH G s43.2 H → va_S (AG G) s.heap H locs → W p l e (rm_ 5 30 4267) s m ([.ref a0] : List Value).toArray below meth c H locs (0 + 4 + (13 - n43) * 2) (0 + 4124 + (13 - n43) * 11) (MQ below (PostC G σf none) ([.ref a0] : List Value).toArray s 30 4267 (AG G)) (F0 m 43 ls [])) (Q := fun r43 => ∀ (ls : Array Slot) (H : Heap) (locs : List Loc), lv_has ls 2 [] → HH G r43 H → va_S (AG G) s.heap H locs → W p l e (rm_ 5 30 4267) s m ([.ref a0] : List Value).toArray below meth c H locs 30 4267 (MQ below (PostC G σf none) ([.ref a0] : List Value).toArray s 30 4267 (AG G)) (F0 m 70 ls [])) ?_ n43 s43 r43 hr hq
    intro n43 s43 x43 hf hx43 hn ls H locs hl hH hS
    refine W.eq rfl ?_
    unfold f_X1_init_b43 at hf
    refine W.widen (k := (0 + 4 + (13 - (n43 + 1)) * 2)) (n := (0 + 4124 + (13 - (n43 + 1)) * 11)) (by omega) (by omega) ?_
    refine lv_iload_n hx hb dX1_init_43 rfl (lv_at hl 1 rfl) ?_
    refine lv_bipush (v := (6 : Int32)) hx hb dX1_init_44 (by decide) ?_
    refine lv_icmp_ge (tgt := 70) hx hb dX1_init_46 (by decide) (fun c_ => ?_) (fun c_ => ?_)
    · have hf := (if_pos c_).symm.trans hf
      cases hf
      refine W.widen (k := 30) (n := 4267) (by omega) (by omega) ?_
      exact hx43 _ _ _ (lv_sub hl [] rfl) hH hS
    · have hf := (if_neg c_).symm.trans hf
      refine lv_aload_n hx hb dX1_init_49 rfl (lv_at hl 0 rfl) ?_
      obtain ⟨v10, hv, hf⟩ := bd hf
      refine h_gR X hK hH fo_X1_5 hv q654 dX1_init_50 ?_
      obtain ⟨t11, hv, hf⟩ := bd hf
      refine h_new (ci := 1) (fs := [.null]) X hK hH hS tyX2 tyX2_ok in_X2 rfl q578 q579 q52 df_X2 (by show _ ≤ _; first | omega | (dsimp only [rm_]; omega)) (by show _ ≤ _; first | omega | (dsimp only [rm_]; omega)) dX1_init_53 (fun H hH hS => ?_)
      rw [Option.some.inj hv] at hH
      refine W.cs (cells' := (1 + 4 + (13 - (n43 + 1)) * 2)) (slots' := (1 + 4124 + (13 - (n43 + 1)) * 11)) (by omega) (by omega) ?_
      refine lv_dup hx hb dX1_init_56 rfl ?_
      obtain ⟨v12, hv, hf⟩ := bd hf
      refine r_IN (host := "WordBench") (As := []) (rest := [.ref ((s43.2).1), .ref v10]) X (met_X2_init l G t11 N ((s43.2).1)   hv) ci_X2_init q580 rfl rfl hl.1 (Nat.le_of_ble_eq_true rfl) ⟨Nat.le_of_ble_eq_true rfl, Nat.le_of_ble_eq_true rfl⟩ ⟨by show _ ≤ _; first | omega | (dsimp only [rm_]; omega), by show _ ≤ _; first | omega | (dsimp only [rm_]; omega)⟩ dX1_init_57 hK hH hS (fun H locs hH hS => ?_)
      refine W.cs (cells' := (1 + 4 + (13 - (n43 + 1)) * 2)) (slots' := (1 + 4124 + (13 - (n43 + 1)) * 11)) (by omega) (by omega) ?_
      obtain ⟨_, hw, hf⟩ := bd hf
      obtain ⟨v13, hv, hf⟩ := bd hf
      refine c_V (As := [.ref ((s43.2).1)]) (rest := []) (st1 := [.int v13.2]) X (met_J2_add l G t11 N z v10 ((s43.2).1) hz v13.1 v13.2 hv) cv_J2_add q588 (recv1 (w := (RJ2, TJ2, 3)) hw hK hH rfl) rfl rfl rfl hl.1 (Nat.le_of_ble_eq_true rfl) ⟨Nat.le_of_ble_eq_true rfl, Nat.le_of_ble_eq_true rfl⟩ ⟨by show _ ≤ _; first | omega | (dsimp only [rm_]; omega), by show _ ≤ _; first | omega | (dsimp only [rm_]; omega)⟩ dX1_init_60 hK hH hS (fun H locs hH hS => ?_)
      refine W.cs (cells' := (2 + 4 + (13 - (n43 + 1)) * 2)) (slots' := (11 + 4124 + (13 - (n43 + 1)) * 11)) (by omega) (by omega) ?_
      refine lv_pop hx hb dX1_init_63 rfl ?_
      refine lv_iinc (v := (s43.1 + 1)) (lv' := [(1, .int (s43.1 + 1)), (0, .ref c0)]) hx hb dX1_init_64 hl (k := 1) rfl rfl (by decide) rfl (fun ls hl => ?_)
      refine lv_goto (tgt := 43) hx hb dX1_init_67 (by decide) ?_
      cases hf
      refine W.widen (k := (0 + 4 + (13 - n43) * 2)) (n := (0 + 4124 + (13 - n43) * 11)) (by omega) (by omega) ?_
      exact hx43 (by omega) _ _ _ (lv_sub hl [1, 0] rfl) hH hS
  refine lv_aload_n hx hb dX1_init_0 rfl (lv_at hl 0 rfl) ?_
  refine W.objInit hx hb hown (hts _ q549) (hts _ q104) (hts _ q105) rfl (by rw [hml]; exact hl.1) rfl dX1_init_1 (Nat.le_of_ble_eq_true rfl) (Nat.le_of_ble_eq_true rfl) ?_
  refine W.eq (g2 := F0 m 4 ls []) rfl ?_
  refine lv_aload_n hx hb dX1_init_4 rfl (lv_at hl 0 rfl) ?_
  refine lv_bipush (v := (12 : Int32)) hx hb dX1_init_5 (by decide) ?_
  obtain ⟨t1, hv, hf⟩ := bd hf
  refine h_newq (B := 12) X hK hH hS (by decide) hv (by decide) q550 (Nat.le_of_ble_eq_true rfl) (Nat.le_of_ble_eq_true rfl) dX1_init_7 (fun H hH hS => ?_)
  refine W.cs (cells' := 1) (slots' := 12) (by rfl) (by rfl) ?_
  obtain ⟨t2, hv, hf⟩ := bd hf
  refine h_putF (ty := (.array (.object "WordBench$Code"))) X hK hH hS fo_X1_0 hv q649 rfl rfl (by decide +kernel) rfl rfl dX1_init_10 (fun H locs hH hS => ?_)
  refine lv_aload_n hx hb dX1_init_13 rfl (lv_at hl 0 rfl) ?_
  refine lv_sipush (v := (4096 : Int32)) hx hb dX1_init_14 (by decide) ?_
  obtain ⟨t3, hv, hf⟩ := bd hf
  refine h_newa (t := 1) (B := 4096) (atype := .long) X hK hH hS (by decide) hv (by decide) q151 (Nat.le_of_ble_eq_true rfl) (Nat.le_of_ble_eq_true rfl) dX1_init_17 (fun H hH hS => ?_)
  refine W.cs (cells' := 2) (slots' := 4108) (by rfl) (by rfl) ?_
  obtain ⟨t4, hv, hf⟩ := bd hf
  refine h_putF (ty := (.array .long)) X hK hH hS fo_X1_1 hv q650 rfl rfl (by decide +kernel) rfl rfl dX1_init_19 (fun H locs hH hS => ?_)
  refine lv_aload_n hx hb dX1_init_22 rfl (lv_at hl 0 rfl) ?_
  refine lv_bipush (v := (13 : Int32)) hx hb dX1_init_23 (by decide) ?_
  obtain ⟨t5, hv, hf⟩ := bd hf
  refine h_newa (t := 1) (B := 13) (atype := .long) X hK hH hS (by decide) hv (by decide) q151 (Nat.le_of_ble_eq_true rfl) (Nat.le_of_ble_eq_true rfl) dX1_init_25 (fun H hH hS => ?_)
  refine W.cs (cells' := 3) (slots' := 4121) (by rfl) (by rfl) ?_
  obtain ⟨t6, hv, hf⟩ := bd hf
  refine h_putF (ty := (.array .long)) X hK hH hS fo_X1_3 hv q652 rfl rfl (by decide +kernel) rfl rfl dX1_init_27 (fun H locs hH hS => ?_)
  refine lv_aload_n hx hb dX1_init_30 rfl (lv_at hl 0 rfl) ?_
  obtain ⟨t7, hv, hf⟩ := bd hf
  refine h_new (ci := 8) (fs := [.int 0, .null, .int 0]) X hK hH hS tyJ2 tyJ2_ok in_J2 rfl q552 q553 q51 df_J2 (Nat.le_of_ble_eq_true rfl) (Nat.le_of_ble_eq_true rfl) dX1_init_31 (fun H hH hS => ?_)
  rw [Option.some.inj hv] at hH
  refine W.cs (cells' := 4) (slots' := 4124) (by rfl) (by rfl) ?_
  refine lv_dup hx hb dX1_init_34 rfl ?_
  obtain ⟨v8, hv, hf⟩ := bd hf
  refine r_I (As := []) (rest := [.ref ((t6).1), .ref a0]) X (met_J2_init l G t7 N z ((t6).1)  hz v8 hv) ci_J2_init q554 rfl rfl hl.1 (Nat.le_of_ble_eq_true rfl) ⟨Nat.le_of_ble_eq_true rfl, Nat.le_of_ble_eq_true rfl⟩ ⟨Nat.le_of_ble_eq_true rfl, Nat.le_of_ble_eq_true rfl⟩ dX1_init_35 hK hH hS (fun H locs hH hS => ?_)
  refine W.cs (cells' := 4) (slots' := 4124) (by rfl) (by rfl) ?_
  obtain ⟨t9, hv, hf⟩ := bd hf
  refine h_putF (ty := (.object "java/util/ArrayList")) X hK hH hS fo_X1_5 hv q654 rfl rfl (by decide +kernel) rfl rfl dX1_init_38 (fun H locs hH hS => ?_)
  refine lv_iconst (v := (0 : Int32)) hx hb dX1_init_41 (by decide) ?_
  refine lv_istore_n (lv' := [(1, .int (0 : Int32)), (0, .ref a0)]) hx hb dX1_init_42 rfl hl (by decide) rfl (fun ls hl => ?_)
  obtain ⟨r43_14, hr, hf⟩ := bd hf
  refine W.widen (k := (0 + 4 + (13 - 13) * 2)) (n := (0 + 4124 + (13 - 13) * 11)) (by omega) (by omega) ?_
  refine L43 a0 13 _ r43_14 hr ?_ (Nat.le_refl _) _ _ _ (lv_sub hl [1, 0] rfl) hH hS
  intro ls H locs hl hH hS
  cases hf
  exact r_vret X dX1_init_70 (Nat.le_of_ble_eq_true rfl) (Nat.le_of_ble_eq_true rfl) rfl hH hS
theorem cs_X1_isShelf : CalS yX1_isShelf cX1_isShelf 1 (some .boolean) 1 := ⟨q673, q48, q674, by decide +kernel, by decide +kernel, by decide +kernel⟩
set_option maxHeartbeats 4000000 in
theorem met_X1_isShelf (l : Launch) (G : GG) (σ : SG) (N : Nat) (a0 : Int32) (rf : Int32) (hf : f_X1_isShelf N a0 = some rf) : Con l yX1_isShelf cX1_isShelf 1 (some .boolean) 1 0 0 G σ [.int a0] σ (some (.int rf)) := by
  refine con_of (by decide) (Nat.le_of_ble_eq_true rfl) ?_
  intro p e s m below meth c ls X hK hH hl hS
  have hx := X.1
  have hb := X.2.1
  have hml := X.2.2.2.1
  have hown : s.vm.findClass RX1 = some m.cls := X.2.2.2.2.1
  have hts := X.2.2.2.2.2.1
  have hl : lv_has ls 1 [(0, .int a0)] := hl
  unfold f_X1_isShelf at hf
  refine lv_iload_n hx hb dX1_isShelf_0 rfl (lv_at hl 0 rfl) ?_
  refine lv_i2l (v := (a0).toInt64) hx hb dX1_isShelf_1 rfl ?_
  refine lv_lconst (v := (0 : Int64)) hx hb dX1_isShelf_2 (by decide) ?_
  refine lv_ldc2 (v := (5 : Int64)) hx hb hown (hts _ q93) dX1_isShelf_3 ?_
  obtain ⟨v1, hv, hf⟩ := bd hf
  refine c_S (As := [.long ((a0).toInt64), .long (0 : Int64), .long (5 : Int64)]) (rest := []) (st1 := [.int v1]) X (met_X1_isIn l G _ N ((a0).toInt64) (0 : Int64) (5 : Int64) v1 hv) cs_X1_isIn q86 rfl rfl rfl hl.1 (Nat.le_of_ble_eq_true rfl) ⟨Nat.le_of_ble_eq_true rfl, Nat.le_of_ble_eq_true rfl⟩ ⟨Nat.le_of_ble_eq_true rfl, Nat.le_of_ble_eq_true rfl⟩ dX1_isShelf_6 hK hH hS (fun H locs hH hS => ?_)
  refine W.cs (cells' := 0) (slots' := 0) (by rfl) (by rfl) ?_
  obtain ⟨hz, hv⟩ := rz_s hf
  subst hv
  exact r_zret X dX1_isShelf_9 (Nat.le_of_ble_eq_true rfl) (Nat.le_of_ble_eq_true rfl) hz rfl hH hS
theorem cs_X1_isTurn : CalS yX1_isTurn cX1_isTurn 5 (some .boolean) 2 := ⟨q530, q48, q531, by decide +kernel, by decide +kernel, by decide +kernel⟩
set_option maxHeartbeats 4000000 in
theorem met_X1_isTurn (l : Launch) (G : GG) (σ : SG) (N : Nat) (a0 : Int32) (a1 : Int64) (rf : Int32) (hf : f_X1_isTurn N a0 a1 = some rf) : Con l yX1_isTurn cX1_isTurn 5 (some .boolean) 0 0 0 G σ [.int a0, .long a1] σ (some (.int rf)) := by
  refine con_of (by decide) (Nat.le_of_ble_eq_true rfl) ?_
  intro p e s m below meth c ls X hK hH hl hS
  have hx := X.1
  have hb := X.2.1
  have hml := X.2.2.2.1
  have hown : s.vm.findClass RX1 = some m.cls := X.2.2.2.2.1
  have hts := X.2.2.2.2.2.1
  have hl : lv_has ls 5 [(0, .int a0), (1, .long a1)] := hl
  unfold f_X1_isTurn at hf
  have L5 : ∀ (c0 : Int32) (c1 : Int64) (n : Nat) (s5 : (Int32 × Int32)) (r5 : Int32), lp (f_X1_isTurn_b5 N c0 c1) n s5 = some r5 → (∀ (ls : Array Slot) (H : Heap) (locs : List Loc), lv_has ls 5 [(0, .int c0), (1, .long c1), (3, .int r5)] → HH G σ H → va_S (AG G) s.heap H locs → W p l e (rm_ 0 0 0) s m ([.int a0, .long a1] : List Value).toArray below meth c H locs 0 0 (MQ below (PostC G σ (some (.int rf))) ([.int a0, .long a1] : List Value).toArray s 0 0 (AG G)) (F0 m 33 ls [])) → ∀ (ls : Array Slot) (H : Heap) (locs : List Loc), lv_has ls 5 [(0, .int c0), (1, .long c1), (3, .int s5.1), (4, .int s5.2)] → HH G σ H → va_S (AG G) s.heap H locs → W p l e (rm_ 0 0 0) s m ([.int a0, .long a1] : List Value).toArray below meth c H locs 0 0 (MQ below (PostC G σ (some (.int rf))) ([.int a0, .long a1] : List Value).toArray s 0 0 (AG G)) (F0 m 5 ls []) := by
    intro c0 c1 n s5 r5 hr hq
    refine lp_ind (P := fun s5 => ∀ (ls : Array Slot) (H : Heap) (locs : List Loc), lv_has ls 5 [(0, .int c0), (1, .long c1), (3, .int s5.1), (4, .int s5.2)] → HH G σ H → va_S (AG G) s.heap H locs → W p l e (rm_ 0 0 0) s m ([.int a0, .long a1] : List Value).toArray below meth c H locs 0 0 (MQ below (PostC G σ (some (.int rf))) ([.int a0, .long a1] : List Value).toArray s 0 0 (AG G)) (F0 m 5 ls [])) (Q := fun r5 => ∀ (ls : Array Slot) (H : Heap) (locs : List Loc), lv_has ls 5 [(0, .int c0), (1, .long c1), (3, .int r5)] → HH G σ H → va_S (AG G) s.heap H locs → W p l e (rm_ 0 0 0) s m ([.int a0, .long a1] : List Value).toArray below meth c H locs 0 0 (MQ below (PostC G σ (some (.int rf))) ([.int a0, .long a1] : List Value).toArray s 0 0 (AG G)) (F0 m 33 ls [])) ?_ n s5 r5 hr hq
    intro s5 x5 hf hx5 ls H locs hl hH hS
    unfold f_X1_isTurn_b5 at hf
    refine lv_iload hx hb dX1_isTurn_5 (lv_at hl 3 rfl) ?_
    refine lv_iload_n hx hb dX1_isTurn_7 rfl (lv_at hl 0 rfl) ?_
    refine lv_icmp_ge (tgt := 33) hx hb dX1_isTurn_8 (by decide) (fun c_ => ?_) (fun c_ => ?_)
    · have hf := (if_pos c_).symm.trans hf
      cases hf
      exact hx5 _ _ _ (lv_sub hl [0, 1, 2] rfl) hH hS
    · have hf := (if_neg c_).symm.trans hf
      refine lv_iload_n hx hb dX1_isTurn_11 rfl (lv_at hl 2 rfl) ?_
      refine lv_iconst (v := (1 : Int32)) hx hb dX1_isTurn_12 (by decide) ?_
      refine lv_lload_n hx hb dX1_isTurn_13 rfl (lv_at hl 1 rfl) ?_
      refine lv_iconst (v := (4 : Int32)) hx hb dX1_isTurn_14 (by decide) ?_
      refine lv_iload hx hb dX1_isTurn_15 (lv_at hl 3 rfl) ?_
      refine lv_imul hx hb dX1_isTurn_17 ?_
      refine lv_lshr (v := (c1 >>> ((((4 : Int32) * s5.2)).toInt64 &&& 63))) hx hb dX1_isTurn_18 rfl ?_
      refine lv_ldc2 (v := (15 : Int64)) hx hb hown (hts _ q532) dX1_isTurn_19 ?_
      refine lv_land hx hb dX1_isTurn_22 ?_
      refine lv_l2i (v := (((c1 >>> ((((4 : Int32) * s5.2)).toInt64 &&& 63)) &&& (15 : Int64))).toInt32) hx hb dX1_isTurn_23 rfl ?_
      refine lv_ishl hx hb dX1_isTurn_24 ?_
      refine lv_ior hx hb dX1_isTurn_25 ?_
      refine lv_istore_n (lv' := [(3, .int (s5.1 ||| ((1 : Int32) <<< (((((c1 >>> ((((4 : Int32) * s5.2)).toInt64 &&& 63)) &&& (15 : Int64))).toInt32) &&& 31)))), (0, .int c0), (1, .long c1), (4, .int s5.2)]) hx hb dX1_isTurn_26 rfl hl (by decide) rfl (fun ls hl => ?_)
      refine lv_iinc (v := (s5.2 + 1)) (lv' := [(4, .int (s5.2 + 1)), (3, .int (s5.1 ||| ((1 : Int32) <<< (((((c1 >>> ((((4 : Int32) * s5.2)).toInt64 &&& 63)) &&& (15 : Int64))).toInt32) &&& 31)))), (0, .int c0), (1, .long c1)]) hx hb dX1_isTurn_27 hl (k := 3) rfl rfl (by decide) rfl (fun ls hl => ?_)
      refine lv_goto (tgt := 5) hx hb dX1_isTurn_30 (by decide) ?_
      cases hf
      exact hx5 _ _ _ (lv_sub hl [2, 3, 1, 0] rfl) hH hS
  refine lv_iconst (v := (0 : Int32)) hx hb dX1_isTurn_0 (by decide) ?_
  refine lv_istore_n (lv' := [(3, .int (0 : Int32)), (0, .int a0), (1, .long a1)]) hx hb dX1_isTurn_1 rfl hl (by decide) rfl (fun ls hl => ?_)
  refine lv_iconst (v := (0 : Int32)) hx hb dX1_isTurn_2 (by decide) ?_
  refine lv_istore (lv' := [(4, .int (0 : Int32)), (3, .int (0 : Int32)), (0, .int a0), (1, .long a1)]) hx hb dX1_isTurn_3 hl (by decide) rfl (fun ls hl => ?_)
  obtain ⟨r5_1, hr, hf⟩ := bd hf
  refine L5 a0 a1 N _ r5_1 hr ?_ _ _ _ (lv_sub hl [2, 3, 1, 0] rfl) hH hS
  intro ls H locs hl hH hS
  refine lv_lload_n hx hb dX1_isTurn_33 rfl (lv_at hl 1 rfl) ?_
  refine lv_lconst (v := (0 : Int64)) hx hb dX1_isTurn_34 (by decide) ?_
  refine W.lcmp hx hb dX1_isTurn_35 ?_
  refine lv_if_lt (tgt := 62) hx hb dX1_isTurn_36 (by decide) (fun c_ => ?_) (fun c_ => ?_)
  · have hf := (if_pos ((lg_cmp_lt a1 (0 : Int64)).mp c_)).symm.trans hf
    refine lv_iconst (v := (0 : Int32)) hx hb dX1_isTurn_62 (by decide) ?_
    obtain ⟨hz, hv⟩ := rz_s hf
    subst hv
    exact r_zret X dX1_isTurn_63 (Nat.le_of_ble_eq_true rfl) (Nat.le_of_ble_eq_true rfl) hz rfl hH hS
  · have hf := (if_neg (fun z => c_ ((lg_cmp_lt a1 (0 : Int64)).mpr z))).symm.trans hf
    refine lv_lload_n hx hb dX1_isTurn_39 rfl (lv_at hl 1 rfl) ?_
    refine lv_lconst (v := (1 : Int64)) hx hb dX1_isTurn_40 (by decide) ?_
    refine lv_iconst (v := (4 : Int32)) hx hb dX1_isTurn_41 (by decide) ?_
    refine lv_iload_n hx hb dX1_isTurn_42 rfl (lv_at hl 0 rfl) ?_
    refine lv_imul hx hb dX1_isTurn_43 ?_
    refine lv_lshl (v := ((1 : Int64) <<< ((((4 : Int32) * a0)).toInt64 &&& 63))) hx hb dX1_isTurn_44 rfl ?_
    refine W.lcmp hx hb dX1_isTurn_45 ?_
    refine lv_if_ge (tgt := 62) hx hb dX1_isTurn_46 (by decide) (fun c_ => ?_) (fun c_ => ?_)
    · have hf := (if_pos ((lg_cmp_ge a1 ((1 : Int64) <<< ((((4 : Int32) * a0)).toInt64 &&& 63))).mp c_)).symm.trans hf
      refine lv_iconst (v := (0 : Int32)) hx hb dX1_isTurn_62 (by decide) ?_
      obtain ⟨hz, hv⟩ := rz_s hf
      subst hv
      exact r_zret X dX1_isTurn_63 (Nat.le_of_ble_eq_true rfl) (Nat.le_of_ble_eq_true rfl) hz rfl hH hS
    · have hf := (if_neg (fun z => c_ ((lg_cmp_ge a1 ((1 : Int64) <<< ((((4 : Int32) * a0)).toInt64 &&& 63))).mpr z))).symm.trans hf
      refine lv_iload_n hx hb dX1_isTurn_49 rfl (lv_at hl 2 rfl) ?_
      refine lv_iconst (v := (1 : Int32)) hx hb dX1_isTurn_50 (by decide) ?_
      refine lv_iload_n hx hb dX1_isTurn_51 rfl (lv_at hl 0 rfl) ?_
      refine lv_ishl hx hb dX1_isTurn_52 ?_
      refine lv_iconst (v := (1 : Int32)) hx hb dX1_isTurn_53 (by decide) ?_
      refine lv_isub hx hb dX1_isTurn_54 ?_
      refine lv_icmp_ne (tgt := 62) hx hb dX1_isTurn_55 (by decide) (fun c_ => ?_) (fun c_ => ?_)
      · have hf := (if_neg c_).symm.trans hf
        refine lv_iconst (v := (0 : Int32)) hx hb dX1_isTurn_62 (by decide) ?_
        obtain ⟨hz, hv⟩ := rz_s hf
        subst hv
        exact r_zret X dX1_isTurn_63 (Nat.le_of_ble_eq_true rfl) (Nat.le_of_ble_eq_true rfl) hz rfl hH hS
      · have hf := (if_pos c_).symm.trans hf
        refine lv_iconst (v := (1 : Int32)) hx hb dX1_isTurn_58 (by decide) ?_
        refine lv_goto (tgt := 63) hx hb dX1_isTurn_59 (by decide) ?_
        obtain ⟨hz, hv⟩ := rz_s hf
        subst hv
        exact r_zret X dX1_isTurn_63 (Nat.le_of_ble_eq_true rfl) (Nat.le_of_ble_eq_true rfl) hz rfl hH hS
theorem cv_X1_join : CalV "WordBench" yX1_join cX1_join 13 (some .int) 4 := ⟨q517, q518, q48, q519, by decide +kernel⟩
set_option maxHeartbeats 4000000 in
theorem met_X1_join (l : Launch) (G : GG) (σ : SG) (N : Nat) (a0 : Nat) (a1 : Int32) (a2 : Int32) (a3 : Int32) (a4 : Int32) (σf : SG) (rf : Int32) (hf : f_X1_join N σ a0 a1 a2 a3 a4 = some (σf, rf)) : Con l yX1_join cX1_join 13 (some .int) 3 2 204 G σ [.ref a0, .int a1, .int a2, .int a3, .int a4] σf (some (.int rf)) := by
  refine con_of (by decide) (Nat.le_of_ble_eq_true rfl) ?_
  intro p e s m below meth c ls X hK hH hl hS
  have hx := X.1
  have hb := X.2.1
  have hml := X.2.2.2.1
  have hown : s.vm.findClass RX1 = some m.cls := X.2.2.2.2.1
  have hts := X.2.2.2.2.2.1
  have hl : lv_has ls 13 [(0, .ref a0), (1, .int a1), (2, .int a2), (3, .int a3), (4, .int a4)] := hl
  unfold f_X1_join at hf
  have L208 : ∀ (c0 : Nat) (c3 : Int32) (c4 : Int32) (c6 : Option Nat) (c7 : Option Nat) (c9 : Nat) (c10 : Int64) (n : Nat) (s208 : (Int32 × SG)) (r208 : SG), lp (f_X1_join_b208 N c0 c3 c4 c6 c7 c9 c10) n s208 = some r208 → (∀ (ls : Array Slot) (H : Heap) (locs : List Loc), lv_has ls 13 [(0, .ref c0), (4, .int c4), (7, va_rf c7), (9, .ref c9)] → HH G r208 H → va_S (AG G) s.heap H locs → W p l e (rm_ 3 2 204) s m ([.ref a0, .int a1, .int a2, .int a3, .int a4] : List Value).toArray below meth c H locs 2 204 (MQ below (PostC G σf (some (.int rf))) ([.ref a0, .int a1, .int a2, .int a3, .int a4] : List Value).toArray s 2 204 (AG G)) (F0 m 258 ls [])) → ∀ (ls : Array Slot) (H : Heap) (locs : List Loc), lv_has ls 13 [(0, .ref c0), (3, .int c3), (4, .int c4), (6, va_rf c6), (7, va_rf c7), (9, .ref c9), (10, .long c10), (12, .int s208.1)] → HH G s208.2 H → va_S (AG G) s.heap H locs → W p l e (rm_ 3 2 204) s m ([.ref a0, .int a1, .int a2, .int a3, .int a4] : List Value).toArray below meth c H locs 2 204 (MQ below (PostC G σf (some (.int rf))) ([.ref a0, .int a1, .int a2, .int a3, .int a4] : List Value).toArray s 2 204 (AG G)) (F0 m 208 ls []) := by
    intro c0 c3 c4 c6 c7 c9 c10 n s208 r208 hr hq
    refine lp_ind (P := fun s208 => ∀ (ls : Array Slot) (H : Heap) (locs : List Loc), lv_has ls 13 [(0, .ref c0), (3, .int c3), (4, .int c4), (6, va_rf c6), (7, va_rf c7), (9, .ref c9), (10, .long c10), (12, .int s208.1)] → HH G s208.2 H → va_S (AG G) s.heap H locs → W p l e (rm_ 3 2 204) s m ([.ref a0, .int a1, .int a2, .int a3, .int a4] : List Value).toArray below meth c H locs 2 204 (MQ below (PostC G σf (some (.int rf))) ([.ref a0, .int a1, .int a2, .int a3, .int a4] : List Value).toArray s 2 204 (AG G)) (F0 m 208 ls [])) (Q := fun r208 => ∀ (ls : Array Slot) (H : Heap) (locs : List Loc), lv_has ls 13 [(0, .ref c0), (4, .int c4), (7, va_rf c7), (9, .ref c9)] → HH G r208 H → va_S (AG G) s.heap H locs → W p l e (rm_ 3 2 204) s m ([.ref a0, .int a1, .int a2, .int a3, .int a4] : List Value).toArray below meth c H locs 2 204 (MQ below (PostC G σf (some (.int rf))) ([.ref a0, .int a1, .int a2, .int a3, .int a4] : List Value).toArray s 2 204 (AG G)) (F0 m 258 ls [])) ?_ n s208 r208 hr hq
    intro s208 x208 hf hx208 ls H locs hl hH hS
    unfold f_X1_join_b208 at hf
    have J248 : ∀ (d12 : Int32) (k0 : Int64) (k1 : Int64) (k2 : Nat) (u248 : SG), f_X1_join_j248 N c0 c3 c4 c6 c7 c9 c10 d12 k0 k1 k2 u248 = some x208 → ∀ (ls : Array Slot) (H : Heap) (locs : List Loc), lv_has ls 13 [(0, .ref c0), (3, .int c3), (4, .int c4), (6, va_rf c6), (7, va_rf c7), (9, .ref c9), (10, .long c10), (12, .int d12)] → HH G u248 H → va_S (AG G) s.heap H locs → W p l e (rm_ 3 2 204) s m ([.ref a0, .int a1, .int a2, .int a3, .int a4] : List Value).toArray below meth c H locs 2 204 (MQ below (PostC G σf (some (.int rf))) ([.ref a0, .int a1, .int a2, .int a3, .int a4] : List Value).toArray s 2 204 (AG G)) (F0 m 248 ls [.long k0, .long k1, .ref k2]) := by
      intro d12 k0 k1 k2 u248 hf ls H locs hl hH hS
      unfold f_X1_join_j248 at hf
      refine lv_ladd hx hb dX1_join_248 ?_
      obtain ⟨v32, hv, hf⟩ := bd hf
      refine dr_X6_add N (rest := []) (st1 := []) X q520 hv rfl rfl hl.1 (Nat.le_of_ble_eq_true rfl) ⟨Nat.le_of_ble_eq_true rfl, Nat.le_of_ble_eq_true rfl⟩ ⟨Nat.le_of_ble_eq_true rfl, Nat.le_of_ble_eq_true rfl⟩ dX1_join_249 hK hH hS (fun H locs hH hS => ?_)
      refine W.cs (cells' := 2) (slots' := 204) (by rfl) (by rfl) ?_
      refine lv_iinc (v := (d12 + 1)) (lv' := [(12, .int (d12 + 1)), (0, .ref c0), (3, .int c3), (4, .int c4), (6, va_rf c6), (7, va_rf c7), (9, .ref c9), (10, .long c10)]) hx hb dX1_join_252 hl (k := 7) rfl rfl (by decide) rfl (fun ls hl => ?_)
      refine lv_goto (tgt := 208) hx hb dX1_join_255 (by decide) ?_
      cases hf
      exact hx208 _ _ _ (lv_sub hl [1, 2, 3, 4, 5, 6, 7, 0] rfl) hH hS
    refine lv_iload hx hb dX1_join_208 (lv_at hl 7 rfl) ?_
    refine q_aload hx hb dX1_join_210 (lv_at hl 3 rfl) ?_
    obtain ⟨b28, hq, hz⟩ := bd hf
    clear hf
    subst hq
    have hf := hz
    clear hz
    obtain ⟨v29, hv, hf⟩ := bd hf
    refine h_gI X hK hH fo_Code_3 hv q141 dX1_join_212 ?_
    refine lv_icmp_ge (tgt := 258) hx hb dX1_join_215 (by decide) (fun c_ => ?_) (fun c_ => ?_)
    · have hf := (if_pos c_).symm.trans hf
      cases hf
      exact hx208 _ _ _ (lv_sub hl [0, 2, 4, 5] rfl) hH hS
    · have hf := (if_neg c_).symm.trans hf
      refine lv_aload hx hb dX1_join_218 (lv_at hl 5 rfl) ?_
      refine lv_aload hx hb dX1_join_220 (lv_at hl 3 rfl) ?_
      obtain ⟨v30, hv, hf⟩ := bd hf
      refine h_gR X hK hH fo_Code_2 hv q132 dX1_join_222 ?_
      refine lv_iload hx hb dX1_join_225 (lv_at hl 7 rfl) ?_
      obtain ⟨v31, hv, hf⟩ := bd hf
      refine h_aL X hK hH hv dX1_join_227 ?_
      refine lv_lload hx hb dX1_join_228 (lv_at hl 6 rfl) ?_
      refine lv_lmul hx hb dX1_join_230 ?_
      refine lv_iload_n hx hb dX1_join_231 rfl (lv_at hl 1 rfl) ?_
      refine lv_iconst (v := (2 : Int32)) hx hb dX1_join_232 (by decide) ?_
      refine lv_icmp_ne (tgt := 247) hx hb dX1_join_233 (by decide) (fun c_ => ?_) (fun c_ => ?_)
      · have hf := (if_neg c_).symm.trans hf
        refine lv_lconst (v := (0 : Int64)) hx hb dX1_join_247 (by decide) ?_
        exact J248 s208.1 (0 : Int64) (v31 * c10) c9 s208.2 hf _ _ _ (lv_sub hl [0, 1, 2, 3, 4, 5, 6, 7] rfl) hH hS
      · have hf := (if_pos c_).symm.trans hf
        refine lv_aload hx hb dX1_join_236 (lv_at hl 3 rfl) ?_
        obtain ⟨v33, hv, hf⟩ := bd hf
        refine h_gR X hK hH fo_Code_2 hv q132 dX1_join_238 ?_
        refine lv_iload hx hb dX1_join_241 (lv_at hl 7 rfl) ?_
        obtain ⟨v34, hv, hf⟩ := bd hf
        refine h_aL X hK hH hv dX1_join_243 ?_
        refine lv_goto (tgt := 248) hx hb dX1_join_244 (by decide) ?_
        exact J248 s208.1 v34 (v31 * c10) c9 s208.2 hf _ _ _ (lv_sub hl [0, 1, 2, 3, 4, 5, 6, 7] rfl) hH hS
  have L261 : ∀ (c0 : Nat) (c4 : Int32) (c7 : Option Nat) (c9 : Nat) (n : Nat) (s261 : (Int32 × SG)) (r261 : SG), lp (f_X1_join_b261 N c0 c4 c7 c9) n s261 = some r261 → (∀ (ls : Array Slot) (H : Heap) (locs : List Loc), lv_has ls 13 [(0, .ref c0), (4, .int c4), (9, .ref c9)] → HH G r261 H → va_S (AG G) s.heap H locs → W p l e (rm_ 3 2 204) s m ([.ref a0, .int a1, .int a2, .int a3, .int a4] : List Value).toArray below meth c H locs 2 204 (MQ below (PostC G σf (some (.int rf))) ([.ref a0, .int a1, .int a2, .int a3, .int a4] : List Value).toArray s 2 204 (AG G)) (F0 m 290 ls [])) → ∀ (ls : Array Slot) (H : Heap) (locs : List Loc), lv_has ls 13 [(0, .ref c0), (4, .int c4), (7, va_rf c7), (9, .ref c9), (12, .int s261.1)] → HH G s261.2 H → va_S (AG G) s.heap H locs → W p l e (rm_ 3 2 204) s m ([.ref a0, .int a1, .int a2, .int a3, .int a4] : List Value).toArray below meth c H locs 2 204 (MQ below (PostC G σf (some (.int rf))) ([.ref a0, .int a1, .int a2, .int a3, .int a4] : List Value).toArray s 2 204 (AG G)) (F0 m 261 ls []) := by
    intro c0 c4 c7 c9 n s261 r261 hr hq
    refine lp_ind (P := fun s261 => ∀ (ls : Array Slot) (H : Heap) (locs : List Loc), lv_has ls 13 [(0, .ref c0), (4, .int c4), (7, va_rf c7), (9, .ref c9), (12, .int s261.1)] → HH G s261.2 H → va_S (AG G) s.heap H locs → W p l e (rm_ 3 2 204) s m ([.ref a0, .int a1, .int a2, .int a3, .int a4] : List Value).toArray below meth c H locs 2 204 (MQ below (PostC G σf (some (.int rf))) ([.ref a0, .int a1, .int a2, .int a3, .int a4] : List Value).toArray s 2 204 (AG G)) (F0 m 261 ls [])) (Q := fun r261 => ∀ (ls : Array Slot) (H : Heap) (locs : List Loc), lv_has ls 13 [(0, .ref c0), (4, .int c4), (9, .ref c9)] → HH G r261 H → va_S (AG G) s.heap H locs → W p l e (rm_ 3 2 204) s m ([.ref a0, .int a1, .int a2, .int a3, .int a4] : List Value).toArray below meth c H locs 2 204 (MQ below (PostC G σf (some (.int rf))) ([.ref a0, .int a1, .int a2, .int a3, .int a4] : List Value).toArray s 2 204 (AG G)) (F0 m 290 ls [])) ?_ n s261 r261 hr hq
    intro s261 x261 hf hx261 ls H locs hl hH hS
    unfold f_X1_join_b261 at hf
    refine lv_iload hx hb dX1_join_261 (lv_at hl 4 rfl) ?_
    refine q_aload hx hb dX1_join_263 (lv_at hl 2 rfl) ?_
    obtain ⟨b36, hq, hz⟩ := bd hf
    clear hf
    subst hq
    have hf := hz
    clear hz
    obtain ⟨v37, hv, hf⟩ := bd hf
    refine h_gI X hK hH fo_Code_3 hv q141 dX1_join_265 ?_
    refine lv_icmp_ge (tgt := 290) hx hb dX1_join_268 (by decide) (fun c_ => ?_) (fun c_ => ?_)
    · have hf := (if_pos c_).symm.trans hf
      cases hf
      exact hx261 _ _ _ (lv_sub hl [0, 1, 3] rfl) hH hS
    · have hf := (if_neg c_).symm.trans hf
      refine lv_aload hx hb dX1_join_271 (lv_at hl 3 rfl) ?_
      refine lv_aload hx hb dX1_join_273 (lv_at hl 2 rfl) ?_
      obtain ⟨v38, hv, hf⟩ := bd hf
      refine h_gR X hK hH fo_Code_2 hv q132 dX1_join_275 ?_
      refine lv_iload hx hb dX1_join_278 (lv_at hl 4 rfl) ?_
      obtain ⟨v39, hv, hf⟩ := bd hf
      refine h_aL X hK hH hv dX1_join_280 ?_
      obtain ⟨v40, hv, hf⟩ := bd hf
      refine dr_X6_add N (rest := []) (st1 := []) X q520 hv rfl rfl hl.1 (Nat.le_of_ble_eq_true rfl) ⟨Nat.le_of_ble_eq_true rfl, Nat.le_of_ble_eq_true rfl⟩ ⟨Nat.le_of_ble_eq_true rfl, Nat.le_of_ble_eq_true rfl⟩ dX1_join_281 hK hH hS (fun H locs hH hS => ?_)
      refine W.cs (cells' := 2) (slots' := 204) (by rfl) (by rfl) ?_
      refine lv_iinc (v := (s261.1 + 1)) (lv' := [(12, .int (s261.1 + 1)), (0, .ref c0), (4, .int c4), (7, .ref b36), (9, .ref c9)]) hx hb dX1_join_284 hl (k := 4) rfl rfl (by decide) rfl (fun ls hl => ?_)
      refine lv_goto (tgt := 261) hx hb dX1_join_287 (by decide) ?_
      cases hf
      exact hx261 _ _ _ (lv_sub hl [1, 2, 3, 4, 0] rfl) hH hS
  have J203 : ∀ (d0 : Nat) (d3 : Int32) (d4 : Int32) (d6 : Option Nat) (d7 : Option Nat) (d9 : Nat) (k0 : Int64) (u203 : SG), f_X1_join_j203 N d0 d3 d4 d6 d7 d9 k0 u203 = some (σf, rf) → ∀ (ls : Array Slot) (H : Heap) (locs : List Loc), lv_has ls 13 [(0, .ref d0), (3, .int d3), (4, .int d4), (6, va_rf d6), (7, va_rf d7), (9, .ref d9)] → HH G u203 H → va_S (AG G) s.heap H locs → W p l e (rm_ 3 2 204) s m ([.ref a0, .int a1, .int a2, .int a3, .int a4] : List Value).toArray below meth c H locs 2 204 (MQ below (PostC G σf (some (.int rf))) ([.ref a0, .int a1, .int a2, .int a3, .int a4] : List Value).toArray s 2 204 (AG G)) (F0 m 203 ls [.long k0]) := by
    intro d0 d3 d4 d6 d7 d9 k0 u203 hf ls H locs hl hH hS
    unfold f_X1_join_j203 at hf
    refine lv_lstore (lv' := [(10, .long k0), (0, .ref d0), (3, .int d3), (4, .int d4), (6, va_rf d6), (7, va_rf d7), (9, .ref d9)]) hx hb dX1_join_203 hl (by decide) rfl (fun ls hl => ?_)
    refine lv_iconst (v := (0 : Int32)) hx hb dX1_join_205 (by decide) ?_
    refine lv_istore (lv' := [(12, .int (0 : Int32)), (10, .long k0), (0, .ref d0), (3, .int d3), (4, .int d4), (6, va_rf d6), (7, va_rf d7), (9, .ref d9)]) hx hb dX1_join_206 hl (by decide) rfl (fun ls hl => ?_)
    obtain ⟨r208_35, hr, hf⟩ := bd hf
    refine L208 d0 d3 d4 d6 d7 d9 k0 N _ r208_35 hr ?_ _ _ _ (lv_sub hl [2, 3, 4, 5, 6, 7, 1, 0] rfl) hH hS
    intro ls H locs hl hH hS
    refine lv_iconst (v := (0 : Int32)) hx hb dX1_join_258 (by decide) ?_
    refine lv_istore (lv' := [(12, .int (0 : Int32)), (0, .ref d0), (4, .int d4), (7, va_rf d7), (9, .ref d9)]) hx hb dX1_join_259 hl (by decide) rfl (fun ls hl => ?_)
    obtain ⟨r261_41, hr, hf⟩ := bd hf
    refine L261 d0 d4 d7 d9 N _ r261_41 hr ?_ _ _ _ (lv_sub hl [1, 2, 3, 4, 0] rfl) hH hS
    intro ls H locs hl hH hS
    refine lv_aload_n hx hb dX1_join_290 rfl (lv_at hl 0 rfl) ?_
    refine lv_iload hx hb dX1_join_291 (lv_at hl 1 rfl) ?_
    refine lv_aload hx hb dX1_join_293 (lv_at hl 2 rfl) ?_
    obtain ⟨_, hw, hf⟩ := bd hf
    obtain ⟨v42, hv, hf⟩ := bd hf
    refine c_V (As := [.int d4, .ref d9]) (rest := []) (st1 := [.int v42.2]) X (met_X1_puts l G r261_41 N d0 d4 d9 v42.1 v42.2 hv) cv_X1_puts q174 (recv1 (w := (RX1, TX1, 6)) hw hK hH rfl) rfl rfl rfl hl.1 (Nat.le_of_ble_eq_true rfl) ⟨Nat.le_of_ble_eq_true rfl, Nat.le_of_ble_eq_true rfl⟩ ⟨Nat.le_of_ble_eq_true rfl, Nat.le_of_ble_eq_true rfl⟩ dX1_join_295 hK hH hS (fun H locs hH hS => ?_)
    refine W.cs (cells' := 2) (slots' := 204) (by rfl) (by rfl) ?_
    cases hf
    exact r_iret X dX1_join_298 (Nat.le_of_ble_eq_true rfl) (Nat.le_of_ble_eq_true rfl) rfl hH hS
  have J138 : ∀ (d0 : Nat) (d3 : Int32) (d4 : Int32) (d6 : Option Nat) (d7 : Option Nat) (k0 : Int32) (u138 : SG), f_X1_join_j138 N d0 d3 d4 d6 d7 k0 u138 = some (σf, rf) → ∀ (ls : Array Slot) (H : Heap) (locs : List Loc), lv_has ls 13 [(0, .ref d0), (3, .int d3), (4, .int d4), (6, va_rf d6), (7, va_rf d7)] → HH G u138 H → va_S (AG G) s.heap H locs → W p l e (rm_ 3 2 204) s m ([.ref a0, .int a1, .int a2, .int a3, .int a4] : List Value).toArray below meth c H locs 0 0 (MQ below (PostC G σf (some (.int rf))) ([.ref a0, .int a1, .int a2, .int a3, .int a4] : List Value).toArray s 2 204 (AG G)) (F0 m 138 ls [.int k0]) := by
    intro d0 d3 d4 d6 d7 k0 u138 hf ls H locs hl hH hS
    unfold f_X1_join_j138 at hf
    refine lv_istore (lv' := [(8, .int k0), (0, .ref d0), (3, .int d3), (4, .int d4), (6, va_rf d6), (7, va_rf d7)]) hx hb dX1_join_138 hl (by decide) (by first | rfl | simp [va_cat]) (fun ls hl => ?_)
    refine q_aload hx hb dX1_join_140 (lv_at hl 4 rfl) ?_
    obtain ⟨b18, hq, hz⟩ := bd hf
    clear hf
    subst hq
    have hf := hz
    clear hz
    obtain ⟨v19, hv, hf⟩ := bd hf
    refine h_gI X hK hH fo_Code_3 hv q141 dX1_join_142 ?_
    refine q_aload hx hb dX1_join_145 (lv_at hl 5 rfl) ?_
    obtain ⟨b20, hq, hz⟩ := bd hf
    clear hf
    subst hq
    have hf := hz
    clear hz
    obtain ⟨v21, hv, hf⟩ := bd hf
    refine h_gI X hK hH fo_Code_3 hv q141 dX1_join_147 ?_
    refine lv_iadd hx hb dX1_join_150 ?_
    refine lv_bipush (v := (12 : Int32)) hx hb dX1_join_151 (by decide) ?_
    refine lv_icmp_gt (tgt := 163) hx hb dX1_join_153 (by decide) (fun c_ => ?_) (fun c_ => ?_)
    · have hf := (if_pos c_).symm.trans hf
      refine lv_bipush (v := (-6 : Int32)) hx hb dX1_join_163 (by decide) ?_
      cases hf
      exact r_iret X dX1_join_165 (Nat.le_of_ble_eq_true rfl) (Nat.le_of_ble_eq_true rfl) rfl hH hS
    · have hf := (if_neg c_).symm.trans hf
      refine lv_iload hx hb dX1_join_156 (lv_at hl 0 rfl) ?_
      refine lv_bipush (v := (12 : Int32)) hx hb dX1_join_158 (by decide) ?_
      refine lv_icmp_le (tgt := 166) hx hb dX1_join_160 (by decide) (fun c_ => ?_) (fun c_ => ?_)
      · have hf := (if_pos c_).symm.trans hf
        obtain ⟨t22, hv, hf⟩ := bd hf
        refine h_new (ci := 4) (fs := [.int 0, .int 0, .null, .int 0]) X hK hH hS tyX6 tyX6_ok in_X6 rfl q152 q153 q60 df_X6 (Nat.le_of_ble_eq_true rfl) (Nat.le_of_ble_eq_true rfl) dX1_join_166 (fun H hH hS => ?_)
        rw [Option.some.inj hv] at hH
        refine W.cs (cells' := 1) (slots' := 4) (by rfl) (by rfl) ?_
        refine lv_dup hx hb dX1_join_169 rfl ?_
        refine lv_aload hx hb dX1_join_170 (lv_at hl 4 rfl) ?_
        obtain ⟨v23, hv, hf⟩ := bd hf
        refine h_gI X hK hH fo_Code_0 hv q116 dX1_join_172 ?_
        refine lv_iload hx hb dX1_join_175 (lv_at hl 0 rfl) ?_
        obtain ⟨v24, hv, hf⟩ := bd hf
        refine r_I (As := [.int v23, .int k0]) (rest := [.ref ((u138).1)]) X (met_X6_init l G t22 N ((u138).1) v23 k0 v24 hv) ci_X6_init q154 rfl rfl hl.1 (Nat.le_of_ble_eq_true rfl) ⟨Nat.le_of_ble_eq_true rfl, Nat.le_of_ble_eq_true rfl⟩ ⟨Nat.le_of_ble_eq_true rfl, Nat.le_of_ble_eq_true rfl⟩ dX1_join_177 hK hH hS (fun H locs hH hS => ?_)
        refine W.cs (cells' := 2) (slots' := 204) (by rfl) (by rfl) ?_
        refine lv_astore (lv' := [(9, .ref ((u138).1)), (8, .int k0), (0, .ref d0), (3, .int d3), (4, .int d4), (6, .ref b18), (7, .ref b20)]) hx hb dX1_join_180 hl (by decide) rfl (fun ls hl => ?_)
        refine lv_iload_n hx hb dX1_join_182 rfl (lv_at hl 3 rfl) ?_
        refine lv_if_ne (tgt := 190) hx hb dX1_join_183 (by decide) (fun c_ => ?_) (fun c_ => ?_)
        · have hf := (if_neg c_).symm.trans hf
          refine lv_aload hx hb dX1_join_190 (lv_at hl 5 rfl) ?_
          obtain ⟨v25, hv, hf⟩ := bd hf
          refine h_gI X hK hH fo_Code_0 hv q116 dX1_join_192 ?_
          refine lv_aload hx hb dX1_join_195 (lv_at hl 6 rfl) ?_
          obtain ⟨v26, hv, hf⟩ := bd hf
          refine h_gI X hK hH fo_Code_1 hv q123 dX1_join_197 ?_
          obtain ⟨v27, hv, hf⟩ := bd hf
          refine c_S (As := [.int v25, .int v26]) (rest := []) (st1 := [.long v27]) X (met_X1_power l G v24 N v25 v26 v27 hv) cs_X1_power q190 rfl rfl rfl hl.1 (Nat.le_of_ble_eq_true rfl) ⟨Nat.le_of_ble_eq_true rfl, Nat.le_of_ble_eq_true rfl⟩ ⟨Nat.le_of_ble_eq_true rfl, Nat.le_of_ble_eq_true rfl⟩ dX1_join_200 hK hH hS (fun H locs hH hS => ?_)
          refine W.cs (cells' := 2) (slots' := 204) (by rfl) (by rfl) ?_
          exact J203 d0 d3 d4 (some b18) (some b20) ((u138).1) v27 v24 hf _ _ _ (lv_sub hl [2, 3, 4, 5, 6, 0] rfl) hH hS
        · have hf := (if_pos c_).symm.trans hf
          refine lv_lconst (v := (1 : Int64)) hx hb dX1_join_186 (by decide) ?_
          refine lv_goto (tgt := 203) hx hb dX1_join_187 (by decide) ?_
          exact J203 d0 d3 d4 (some b18) (some b20) ((u138).1) (1 : Int64) v24 hf _ _ _ (lv_sub hl [2, 3, 4, 5, 6, 0] rfl) hH hS
      · have hf := (if_neg c_).symm.trans hf
        refine lv_bipush (v := (-6 : Int32)) hx hb dX1_join_163 (by decide) ?_
        cases hf
        exact r_iret X dX1_join_165 (Nat.le_of_ble_eq_true rfl) (Nat.le_of_ble_eq_true rfl) rfl hH hS
  have J115 : ∀ (d0 : Nat) (d3 : Int32) (d4 : Int32) (d6 : Option Nat) (d7 : Option Nat) (u115 : SG), f_X1_join_j115 N d0 d3 d4 d6 d7 u115 = some (σf, rf) → ∀ (ls : Array Slot) (H : Heap) (locs : List Loc), lv_has ls 13 [(0, .ref d0), (3, .int d3), (4, .int d4), (6, va_rf d6), (7, va_rf d7)] → HH G u115 H → va_S (AG G) s.heap H locs → W p l e (rm_ 3 2 204) s m ([.ref a0, .int a1, .int a2, .int a3, .int a4] : List Value).toArray below meth c H locs 0 0 (MQ below (PostC G σf (some (.int rf))) ([.ref a0, .int a1, .int a2, .int a3, .int a4] : List Value).toArray s 2 204 (AG G)) (F0 m 115 ls []) := by
    intro d0 d3 d4 d6 d7 u115 hf ls H locs hl hH hS
    unfold f_X1_join_j115 at hf
    refine lv_iload_n hx hb dX1_join_115 rfl (lv_at hl 1 rfl) ?_
    refine lv_if_ne (tgt := 127) hx hb dX1_join_116 (by decide) (fun c_ => ?_) (fun c_ => ?_)
    · have hf := (if_neg c_).symm.trans hf
      refine q_aload hx hb dX1_join_127 (lv_at hl 3 rfl) ?_
      obtain ⟨b14, hq, hz⟩ := bd hf
      clear hf
      subst hq
      have hf := hz
      clear hz
      obtain ⟨v15, hv, hf⟩ := bd hf
      refine h_gI X hK hH fo_Code_1 hv q123 dX1_join_129 ?_
      refine q_aload hx hb dX1_join_132 (lv_at hl 4 rfl) ?_
      obtain ⟨b16, hq, hz⟩ := bd hf
      clear hf
      subst hq
      have hf := hz
      clear hz
      obtain ⟨v17, hv, hf⟩ := bd hf
      refine h_gI X hK hH fo_Code_1 hv q123 dX1_join_134 ?_
      refine lv_iadd hx hb dX1_join_137 ?_
      exact J138 d0 d3 d4 (some b14) (some b16) (v15 + v17) u115 hf _ _ _ (lv_sub hl [0, 1, 2, 3, 4] rfl) hH hS
    · have hf := (if_pos c_).symm.trans hf
      refine q_aload hx hb dX1_join_119 (lv_at hl 3 rfl) ?_
      obtain ⟨b43, hq, hz⟩ := bd hf
      clear hf
      subst hq
      have hf := hz
      clear hz
      obtain ⟨v44, hv, hf⟩ := bd hf
      refine h_gI X hK hH fo_Code_1 hv q123 dX1_join_121 ?_
      refine lv_goto (tgt := 138) hx hb dX1_join_124 (by decide) ?_
      exact J138 d0 d3 d4 (some b43) d7 v44 u115 hf _ _ _ (lv_sub hl [0, 1, 2, 3, 4] rfl) hH hS
  have J57 : ∀ (d0 : Nat) (d1 : Int32) (d2 : Int32) (d3 : Int32) (d4 : Int32) (d5 : Int32) (u57 : SG), f_X1_join_j57 N d0 d1 d2 d3 d4 d5 u57 = some (σf, rf) → ∀ (ls : Array Slot) (H : Heap) (locs : List Loc), lv_has ls 13 [(0, .ref d0), (1, .int d1), (2, .int d2), (3, .int d3), (4, .int d4), (5, .int d5)] → HH G u57 H → va_S (AG G) s.heap H locs → W p l e (rm_ 3 2 204) s m ([.ref a0, .int a1, .int a2, .int a3, .int a4] : List Value).toArray below meth c H locs 0 0 (MQ below (PostC G σf (some (.int rf))) ([.ref a0, .int a1, .int a2, .int a3, .int a4] : List Value).toArray s 2 204 (AG G)) (F0 m 57 ls []) := by
    intro d0 d1 d2 d3 d4 d5 u57 hf ls H locs hl hH hS
    unfold f_X1_join_j57 at hf
    refine lv_iload hx hb dX1_join_57 (lv_at hl 5 rfl) ?_
    refine lv_if_eq (tgt := 65) hx hb dX1_join_59 (by decide) (fun c_ => ?_) (fun c_ => ?_)
    · have hf := (if_pos c_).symm.trans hf
      refine lv_aload_n hx hb dX1_join_65 rfl (lv_at hl 0 rfl) ?_
      obtain ⟨v6, hv, hf⟩ := bd hf
      refine h_gR X hK hH fo_X1_0 hv q649 dX1_join_66 ?_
      refine lv_iload_n hx hb dX1_join_69 rfl (lv_at hl 1 rfl) ?_
      obtain ⟨v7, hv, hf⟩ := bd hf
      refine h_aQ (by decide) X hK hH hv dX1_join_70 ?_
      refine q_astore (lv' := [(6, va_rf v7), (0, .ref d0), (1, .int d1), (2, .int d2), (3, .int d3), (4, .int d4), (5, .int d5)]) hx hb dX1_join_71 hl (by decide) rfl (fun ls hl => ?_)
      refine lv_aload_n hx hb dX1_join_73 rfl (lv_at hl 1 rfl) ?_
      obtain ⟨v8, hv, hf⟩ := bd hf
      refine h_gR X hK hH fo_X1_0 hv q649 dX1_join_74 ?_
      refine lv_iload_n hx hb dX1_join_77 rfl (lv_at hl 3 rfl) ?_
      obtain ⟨v9, hv, hf⟩ := bd hf
      refine h_aQ (by decide) X hK hH hv dX1_join_78 ?_
      refine q_astore (lv' := [(7, va_rf v9), (6, va_rf v7), (0, .ref d0), (1, .int d1), (2, .int d2), (3, .int d3), (4, .int d4), (5, .int d5)]) hx hb dX1_join_79 hl (by decide) (by first | rfl | simp [va_cat]) (fun ls hl => ?_)
      refine q_aload hx hb dX1_join_81 (lv_at hl 1 rfl) ?_
      obtain ⟨b10, hq, hz⟩ := bd hf
      clear hf
      subst hq
      have hf := hz
      clear hz
      obtain ⟨v11, hv, hf⟩ := bd hf
      refine h_gI X hK hH fo_Code_0 hv q116 dX1_join_83 ?_
      refine q_aload hx hb dX1_join_86 (lv_at hl 0 rfl) ?_
      obtain ⟨b12, hq, hz⟩ := bd hf
      clear hf
      subst hq
      have hf := hz
      clear hz
      obtain ⟨v13, hv, hf⟩ := bd hf
      refine h_gI X hK hH fo_Code_0 hv q116 dX1_join_88 ?_
      refine lv_icmp_ne (tgt := 112) hx hb dX1_join_91 (by decide) (fun c_ => ?_) (fun c_ => ?_)
      · have hf := (if_neg c_).symm.trans hf
        refine lv_bipush (v := (-4 : Int32)) hx hb dX1_join_112 (by decide) ?_
        cases hf
        exact r_iret X dX1_join_114 (Nat.le_of_ble_eq_true rfl) (Nat.le_of_ble_eq_true rfl) rfl hH hS
      · have hf := (if_pos c_).symm.trans hf
        refine lv_iload_n hx hb dX1_join_94 rfl (lv_at hl 5 rfl) ?_
        refine lv_iconst (v := (1 : Int32)) hx hb dX1_join_95 (by decide) ?_
        refine lv_icmp_eq (tgt := 115) hx hb dX1_join_96 (by decide) (fun c_ => ?_) (fun c_ => ?_)
        · have hf := (if_pos c_).symm.trans hf
          exact J115 d0 d3 d4 (some b10) (some b12) u57 hf _ _ _ (lv_sub hl [2, 5, 6, 1, 0] rfl) hH hS
        · have hf := (if_neg c_).symm.trans hf
          refine lv_aload hx hb dX1_join_99 (lv_at hl 1 rfl) ?_
          obtain ⟨v45, hv, hf⟩ := bd hf
          refine h_gI X hK hH fo_Code_1 hv q123 dX1_join_101 ?_
          refine lv_aload hx hb dX1_join_104 (lv_at hl 0 rfl) ?_
          obtain ⟨v46, hv, hf⟩ := bd hf
          refine h_gI X hK hH fo_Code_1 hv q123 dX1_join_106 ?_
          refine lv_icmp_eq (tgt := 115) hx hb dX1_join_109 (by decide) (fun c_ => ?_) (fun c_ => ?_)
          · have hf := (if_pos c_).symm.trans hf
            exact J115 d0 d3 d4 (some b10) (some b12) u57 hf _ _ _ (lv_sub hl [2, 5, 6, 1, 0] rfl) hH hS
          · have hf := (if_neg c_).symm.trans hf
            refine lv_bipush (v := (-4 : Int32)) hx hb dX1_join_112 (by decide) ?_
            cases hf
            exact r_iret X dX1_join_114 (Nat.le_of_ble_eq_true rfl) (Nat.le_of_ble_eq_true rfl) rfl hH hS
    · have hf := (if_neg c_).symm.trans hf
      refine lv_iload hx hb dX1_join_62 (lv_at hl 5 rfl) ?_
      cases hf
      exact r_iret X dX1_join_64 (Nat.le_of_ble_eq_true rfl) (Nat.le_of_ble_eq_true rfl) rfl hH hS
  refine lv_iload_n hx hb dX1_join_0 rfl (lv_at hl 1 rfl) ?_
  obtain ⟨v1, hv, hf⟩ := bd hf
  refine c_S (As := [.int a1]) (rest := []) (st1 := [.int v1]) X (met_X1_isPlace l G σ N a1 v1 hv) cs_X1_isPlace q82 rfl rfl rfl hl.1 (Nat.le_of_ble_eq_true rfl) ⟨Nat.le_of_ble_eq_true rfl, Nat.le_of_ble_eq_true rfl⟩ ⟨Nat.le_of_ble_eq_true rfl, Nat.le_of_ble_eq_true rfl⟩ dX1_join_1 hK hH hS (fun H locs hH hS => ?_)
  refine W.cs (cells' := 0) (slots' := 0) (by rfl) (by rfl) ?_
  refine lv_if_eq (tgt := 34) hx hb dX1_join_4 (by decide) (fun c_ => ?_) (fun c_ => ?_)
  · have hf := (if_pos c_).symm.trans hf
    refine lv_iconst (v := (-1 : Int32)) hx hb dX1_join_34 (by decide) ?_
    cases hf
    exact r_iret X dX1_join_35 (Nat.le_of_ble_eq_true rfl) (Nat.le_of_ble_eq_true rfl) rfl hH hS
  · have hf := (if_neg c_).symm.trans hf
    refine lv_iload_n hx hb dX1_join_7 rfl (lv_at hl 2 rfl) ?_
    obtain ⟨v2, hv, hf⟩ := bd hf
    refine c_S (As := [.int a2]) (rest := []) (st1 := [.int v2]) X (met_X1_isPlace l G σ N a2 v2 hv) cs_X1_isPlace q82 rfl rfl rfl hl.1 (Nat.le_of_ble_eq_true rfl) ⟨Nat.le_of_ble_eq_true rfl, Nat.le_of_ble_eq_true rfl⟩ ⟨Nat.le_of_ble_eq_true rfl, Nat.le_of_ble_eq_true rfl⟩ dX1_join_8 hK hH hS (fun H locs hH hS => ?_)
    refine W.cs (cells' := 0) (slots' := 0) (by rfl) (by rfl) ?_
    refine lv_if_eq (tgt := 34) hx hb dX1_join_11 (by decide) (fun c_ => ?_) (fun c_ => ?_)
    · have hf := (if_pos c_).symm.trans hf
      refine lv_iconst (v := (-1 : Int32)) hx hb dX1_join_34 (by decide) ?_
      cases hf
      exact r_iret X dX1_join_35 (Nat.le_of_ble_eq_true rfl) (Nat.le_of_ble_eq_true rfl) rfl hH hS
    · have hf := (if_neg c_).symm.trans hf
      refine lv_iload_n hx hb dX1_join_14 rfl (lv_at hl 3 rfl) ?_
      refine lv_i2l (v := (a3).toInt64) hx hb dX1_join_15 rfl ?_
      refine lv_lconst (v := (0 : Int64)) hx hb dX1_join_16 (by decide) ?_
      refine lv_ldc2 (v := (2 : Int64)) hx hb hown (hts _ q92) dX1_join_17 ?_
      obtain ⟨v3, hv, hf⟩ := bd hf
      refine c_S (As := [.long ((a3).toInt64), .long (0 : Int64), .long (2 : Int64)]) (rest := []) (st1 := [.int v3]) X (met_X1_isIn l G σ N ((a3).toInt64) (0 : Int64) (2 : Int64) v3 hv) cs_X1_isIn q86 rfl rfl rfl hl.1 (Nat.le_of_ble_eq_true rfl) ⟨Nat.le_of_ble_eq_true rfl, Nat.le_of_ble_eq_true rfl⟩ ⟨Nat.le_of_ble_eq_true rfl, Nat.le_of_ble_eq_true rfl⟩ dX1_join_20 hK hH hS (fun H locs hH hS => ?_)
      refine W.cs (cells' := 0) (slots' := 0) (by rfl) (by rfl) ?_
      refine lv_if_eq (tgt := 34) hx hb dX1_join_23 (by decide) (fun c_ => ?_) (fun c_ => ?_)
      · have hf := (if_pos c_).symm.trans hf
        refine lv_iconst (v := (-1 : Int32)) hx hb dX1_join_34 (by decide) ?_
        cases hf
        exact r_iret X dX1_join_35 (Nat.le_of_ble_eq_true rfl) (Nat.le_of_ble_eq_true rfl) rfl hH hS
      · have hf := (if_neg c_).symm.trans hf
        refine lv_iload hx hb dX1_join_26 (lv_at hl 4 rfl) ?_
        obtain ⟨v4, hv, hf⟩ := bd hf
        refine c_S (As := [.int a4]) (rest := []) (st1 := [.int v4]) X (met_X1_isPlace l G σ N a4 v4 hv) cs_X1_isPlace q82 rfl rfl rfl hl.1 (Nat.le_of_ble_eq_true rfl) ⟨Nat.le_of_ble_eq_true rfl, Nat.le_of_ble_eq_true rfl⟩ ⟨Nat.le_of_ble_eq_true rfl, Nat.le_of_ble_eq_true rfl⟩ dX1_join_28 hK hH hS (fun H locs hH hS => ?_)
        refine W.cs (cells' := 0) (slots' := 0) (by rfl) (by rfl) ?_
        refine lv_if_ne (tgt := 36) hx hb dX1_join_31 (by decide) (fun c_ => ?_) (fun c_ => ?_)
        · have hf := (if_neg c_).symm.trans hf
          refine lv_aload_n hx hb dX1_join_36 rfl (lv_at hl 0 rfl) ?_
          refine lv_iload_n hx hb dX1_join_37 rfl (lv_at hl 1 rfl) ?_
          refine lv_iconst (v := (1 : Int32)) hx hb dX1_join_38 (by decide) ?_
          obtain ⟨_, hw, hf⟩ := bd hf
          obtain ⟨v5, hv, hf⟩ := bd hf
          refine c_V (As := [.int a1, .int (1 : Int32)]) (rest := []) (st1 := [.int v5]) X (met_X1_asks l G σ N a0 a1 (1 : Int32) v5 hv) cv_X1_asks q183 (recv1 (w := (RX1, TX1, 6)) hw hK hH rfl) rfl rfl rfl hl.1 (Nat.le_of_ble_eq_true rfl) ⟨Nat.le_of_ble_eq_true rfl, Nat.le_of_ble_eq_true rfl⟩ ⟨Nat.le_of_ble_eq_true rfl, Nat.le_of_ble_eq_true rfl⟩ dX1_join_39 hK hH hS (fun H locs hH hS => ?_)
          refine W.cs (cells' := 0) (slots' := 0) (by rfl) (by rfl) ?_
          refine lv_istore (lv' := [(5, .int v5), (0, .ref a0), (1, .int a1), (2, .int a2), (3, .int a3), (4, .int a4)]) hx hb dX1_join_42 hl (by decide) rfl (fun ls hl => ?_)
          refine lv_iload hx hb dX1_join_44 (lv_at hl 0 rfl) ?_
          refine lv_if_ne (tgt := 57) hx hb dX1_join_46 (by decide) (fun c_ => ?_) (fun c_ => ?_)
          · have hf := (if_neg c_).symm.trans hf
            exact J57 a0 a1 a2 a3 a4 v5 σ hf _ _ _ (lv_sub hl [1, 2, 3, 4, 5, 0] rfl) hH hS
          · have hf := (if_pos c_).symm.trans hf
            refine lv_aload_n hx hb dX1_join_49 rfl (lv_at hl 1 rfl) ?_
            refine lv_iload_n hx hb dX1_join_50 rfl (lv_at hl 3 rfl) ?_
            refine lv_iconst (v := (1 : Int32)) hx hb dX1_join_51 (by decide) ?_
            obtain ⟨_, hw, hf⟩ := bd hf
            obtain ⟨v47, hv, hf⟩ := bd hf
            refine c_V (As := [.int a2, .int (1 : Int32)]) (rest := []) (st1 := [.int v47]) X (met_X1_asks l G σ N a0 a2 (1 : Int32) v47 hv) cv_X1_asks q183 (recv1 (w := (RX1, TX1, 6)) hw hK hH rfl) rfl rfl rfl hl.1 (Nat.le_of_ble_eq_true rfl) ⟨Nat.le_of_ble_eq_true rfl, Nat.le_of_ble_eq_true rfl⟩ ⟨Nat.le_of_ble_eq_true rfl, Nat.le_of_ble_eq_true rfl⟩ dX1_join_52 hK hH hS (fun H locs hH hS => ?_)
            refine W.cs (cells' := 0) (slots' := 0) (by rfl) (by rfl) ?_
            refine lv_istore (lv' := [(5, .int v47), (0, .ref a0), (1, .int a1), (2, .int a2), (3, .int a3), (4, .int a4)]) hx hb dX1_join_55 hl (by decide) rfl (fun ls hl => ?_)
            exact J57 a0 a1 a2 a3 a4 v47 σ hf _ _ _ (lv_sub hl [1, 2, 3, 4, 5, 0] rfl) hH hS
        · have hf := (if_pos c_).symm.trans hf
          refine lv_iconst (v := (-1 : Int32)) hx hb dX1_join_34 (by decide) ?_
          cases hf
          exact r_iret X dX1_join_35 (Nat.le_of_ble_eq_true rfl) (Nat.le_of_ble_eq_true rfl) rfl hH hS
-- no selects for own class
set_option maxHeartbeats 4000000 in
theorem met_X5_another (l : Launch) (G : GG) (σ : SG) (N : Nat) (a0 : Nat) (a1 : Int32) (σf : SG) (rf : Nat) (hf : f_X5_another N σ a0 a1 = some (σf, rf)) : Con l yX5_another cX5_another 2 (some (.object "WordBench$Code")) 3 2 204 G σ [.ref a0, .int a1] σf (some (.ref rf)) := by
  refine con_of (by decide) (Nat.le_of_ble_eq_true rfl) ?_
  intro p e s m below meth c ls X hK hH hl hS
  have hx := X.1
  have hb := X.2.1
  have hml := X.2.2.2.1
  have hown : s.vm.findClass RX5 = some m.cls := X.2.2.2.2.1
  have hts := X.2.2.2.2.2.1
  have hl : lv_has ls 2 [(0, .ref a0), (1, .int a1)] := hl
  unfold f_X5_another at hf
  obtain ⟨t1, hv, hf⟩ := bd hf
  refine h_new (ci := 3) (fs := [.int 0, .int 0, .null, .int 0]) X hK hH hS tyX5 tyX5_ok in_X5 rfl q709 q96 q59 df_X5 (Nat.le_of_ble_eq_true rfl) (Nat.le_of_ble_eq_true rfl) dX5_another_0 (fun H hH hS => ?_)
  rw [Option.some.inj hv] at hH
  refine W.cs (cells' := 1) (slots' := 4) (by rfl) (by rfl) ?_
  refine lv_dup hx hb dX5_another_3 rfl ?_
  refine lv_aload_n hx hb dX5_another_4 rfl (lv_at hl 0 rfl) ?_
  obtain ⟨v2, hv, hf⟩ := bd hf
  refine h_gIS (ref0 := "WordBench$Code") X hK hH fo_Code_0 hv q114 q115 dX5_another_5 ?_
  refine lv_iload_n hx hb dX5_another_8 rfl (lv_at hl 1 rfl) ?_
  obtain ⟨v3, hv, hf⟩ := bd hf
  refine r_I (As := [.int v2, .int a1]) (rest := [.ref ((σ).1)]) X (met_X5_init l G t1 N ((σ).1) v2 a1 v3 hv) ci_X5_init q710 rfl rfl hl.1 (Nat.le_of_ble_eq_true rfl) ⟨Nat.le_of_ble_eq_true rfl, Nat.le_of_ble_eq_true rfl⟩ ⟨Nat.le_of_ble_eq_true rfl, Nat.le_of_ble_eq_true rfl⟩ dX5_another_9 hK hH hS (fun H locs hH hS => ?_)
  refine W.cs (cells' := 2) (slots' := 204) (by rfl) (by rfl) ?_
  cases hf
  exact r_aret X (Or.inl ⟨_, rfl⟩) (Or.inr ⟨_, rfl⟩) dX5_another_12 (Nat.le_of_ble_eq_true rfl) (Nat.le_of_ble_eq_true rfl) rfl hH hS
-- no selects for own class
set_option maxHeartbeats 4000000 in
theorem met_X6_another (l : Launch) (G : GG) (σ : SG) (N : Nat) (a0 : Nat) (a1 : Int32) (σf : SG) (rf : Nat) (hf : f_X6_another N σ a0 a1 = some (σf, rf)) : Con l yX6_another cX6_another 2 (some (.object "WordBench$Code")) 3 2 204 G σ [.ref a0, .int a1] σf (some (.ref rf)) := by
  refine con_of (by decide) (Nat.le_of_ble_eq_true rfl) ?_
  intro p e s m below meth c ls X hK hH hl hS
  have hx := X.1
  have hb := X.2.1
  have hml := X.2.2.2.1
  have hown : s.vm.findClass RX6 = some m.cls := X.2.2.2.2.1
  have hts := X.2.2.2.2.2.1
  have hl : lv_has ls 2 [(0, .ref a0), (1, .int a1)] := hl
  unfold f_X6_another at hf
  obtain ⟨t1, hv, hf⟩ := bd hf
  refine h_new (ci := 4) (fs := [.int 0, .int 0, .null, .int 0]) X hK hH hS tyX6 tyX6_ok in_X6 rfl q704 q153 q60 df_X6 (Nat.le_of_ble_eq_true rfl) (Nat.le_of_ble_eq_true rfl) dX6_another_0 (fun H hH hS => ?_)
  rw [Option.some.inj hv] at hH
  refine W.cs (cells' := 1) (slots' := 4) (by rfl) (by rfl) ?_
  refine lv_dup hx hb dX6_another_3 rfl ?_
  refine lv_aload_n hx hb dX6_another_4 rfl (lv_at hl 0 rfl) ?_
  obtain ⟨v2, hv, hf⟩ := bd hf
  refine h_gIS (ref0 := "WordBench$Code") X hK hH fo_Code_0 hv q112 q113 dX6_another_5 ?_
  refine lv_iload_n hx hb dX6_another_8 rfl (lv_at hl 1 rfl) ?_
  obtain ⟨v3, hv, hf⟩ := bd hf
  refine r_I (As := [.int v2, .int a1]) (rest := [.ref ((σ).1)]) X (met_X6_init l G t1 N ((σ).1) v2 a1 v3 hv) ci_X6_init q705 rfl rfl hl.1 (Nat.le_of_ble_eq_true rfl) ⟨Nat.le_of_ble_eq_true rfl, Nat.le_of_ble_eq_true rfl⟩ ⟨Nat.le_of_ble_eq_true rfl, Nat.le_of_ble_eq_true rfl⟩ dX6_another_9 hK hH hS (fun H locs hH hS => ?_)
  refine W.cs (cells' := 2) (slots' := 204) (by rfl) (by rfl) ?_
  cases hf
  exact r_aret X (Or.inl ⟨_, rfl⟩) (Or.inr ⟨_, rfl⟩) dX6_another_12 (Nat.le_of_ble_eq_true rfl) (Nat.le_of_ble_eq_true rfl) rfl hH hS
-- no selects for own class
set_option maxHeartbeats 4000000 in
theorem met_X7_another (l : Launch) (G : GG) (σ : SG) (N : Nat) (a0 : Nat) (a1 : Int32) (σf : SG) (rf : Nat) (hf : f_X7_another N σ a0 a1 = some (σf, rf)) : Con l yX7_another cX7_another 2 (some (.object "WordBench$Code")) 4 2 204 G σ [.ref a0, .int a1] σf (some (.ref rf)) := by
  refine con_of (by decide) (Nat.le_of_ble_eq_true rfl) ?_
  intro p e s m below meth c ls X hK hH hl hS
  have hx := X.1
  have hb := X.2.1
  have hml := X.2.2.2.1
  have hown : s.vm.findClass RX7 = some m.cls := X.2.2.2.2.1
  have hts := X.2.2.2.2.2.1
  have hl : lv_has ls 2 [(0, .ref a0), (1, .int a1)] := hl
  unfold f_X7_another at hf
  obtain ⟨t1, hv, hf⟩ := bd hf
  refine h_new (ci := 5) (fs := [.int 0, .int 0, .null, .int 0]) X hK hH hS tyX7 tyX7_ok in_X7 rfl q714 q164 q61 df_X7 (Nat.le_of_ble_eq_true rfl) (Nat.le_of_ble_eq_true rfl) dX7_another_0 (fun H hH hS => ?_)
  rw [Option.some.inj hv] at hH
  refine W.cs (cells' := 1) (slots' := 4) (by rfl) (by rfl) ?_
  refine lv_dup hx hb dX7_another_3 rfl ?_
  refine lv_aload_n hx hb dX7_another_4 rfl (lv_at hl 0 rfl) ?_
  obtain ⟨v2, hv, hf⟩ := bd hf
  refine h_gIS (ref0 := "WordBench$Code") X hK hH fo_Code_0 hv q108 q109 dX7_another_5 ?_
  refine lv_iload_n hx hb dX7_another_8 rfl (lv_at hl 1 rfl) ?_
  obtain ⟨v3, hv, hf⟩ := bd hf
  refine r_I (As := [.int v2, .int a1]) (rest := [.ref ((σ).1)]) X (met_X7_init l G t1 N ((σ).1) v2 a1 v3 hv) ci_X7_init q715 rfl rfl hl.1 (Nat.le_of_ble_eq_true rfl) ⟨Nat.le_of_ble_eq_true rfl, Nat.le_of_ble_eq_true rfl⟩ ⟨Nat.le_of_ble_eq_true rfl, Nat.le_of_ble_eq_true rfl⟩ dX7_another_9 hK hH hS (fun H locs hH hS => ?_)
  refine W.cs (cells' := 2) (slots' := 204) (by rfl) (by rfl) ?_
  cases hf
  exact r_aret X (Or.inl ⟨_, rfl⟩) (Or.inr ⟨_, rfl⟩) dX7_another_12 (Nat.le_of_ble_eq_true rfl) (Nat.le_of_ble_eq_true rfl) rfl hH hS
theorem ci_X8_init : CalI yX8_init cX8_init 3 2 := ⟨q237, q62, q238, rfl, by decide +kernel⟩
set_option maxHeartbeats 4000000 in
theorem met_X8_init (l : Launch) (G : GG) (σ : SG) (N : Nat) (a0 : Nat) (a1 : Int32) (a2 : Int32) (σf : SG) (hf : f_X8_init N σ a0 a1 a2 = some σf) : Con l yX8_init cX8_init 3 none 3 1 200 G σ [.ref a0, .int a1, .int a2] σf none := by
  refine con_of (by decide) (Nat.le_of_ble_eq_true rfl) ?_
  intro p e s m below meth c ls X hK hH hl hS
  have hx := X.1
  have hb := X.2.1
  have hml := X.2.2.2.1
  have hown : s.vm.findClass RX8 = some m.cls := X.2.2.2.2.1
  have hts := X.2.2.2.2.2.1
  have hl : lv_has ls 3 [(0, .ref a0), (1, .int a1), (2, .int a2)] := hl
  unfold f_X8_init at hf
  refine lv_aload_n hx hb dX8_init_0 rfl (lv_at hl 0 rfl) ?_
  refine lv_iload_n hx hb dX8_init_1 rfl (lv_at hl 1 rfl) ?_
  refine lv_iload_n hx hb dX8_init_2 rfl (lv_at hl 2 rfl) ?_
  obtain ⟨v1, hv, hf⟩ := bd hf
  refine r_I (As := [.int a1, .int a2]) (rest := []) X (met_X6_init l G σ N a0 a1 a2 v1 hv) ci_X6_init q239 rfl rfl hl.1 (Nat.le_of_ble_eq_true rfl) ⟨Nat.le_of_ble_eq_true rfl, Nat.le_of_ble_eq_true rfl⟩ ⟨Nat.le_of_ble_eq_true rfl, Nat.le_of_ble_eq_true rfl⟩ dX8_init_3 hK hH hS (fun H locs hH hS => ?_)
  refine W.cs (cells' := 1) (slots' := 200) (by rfl) (by rfl) ?_
  cases hf
  exact r_vret X dX8_init_6 (Nat.le_of_ble_eq_true rfl) (Nat.le_of_ble_eq_true rfl) rfl hH hS
-- no selects for own class
set_option maxHeartbeats 4000000 in
theorem met_X8_another (l : Launch) (G : GG) (σ : SG) (N : Nat) (a0 : Nat) (a1 : Int32) (σf : SG) (rf : Nat) (hf : f_X8_another N σ a0 a1 = some (σf, rf)) : Con l yX8_another cX8_another 2 (some (.object "WordBench$Code")) 4 2 204 G σ [.ref a0, .int a1] σf (some (.ref rf)) := by
  refine con_of (by decide) (Nat.le_of_ble_eq_true rfl) ?_
  intro p e s m below meth c ls X hK hH hl hS
  have hx := X.1
  have hb := X.2.1
  have hml := X.2.2.2.1
  have hown : s.vm.findClass RX8 = some m.cls := X.2.2.2.2.1
  have hts := X.2.2.2.2.2.1
  have hl : lv_has ls 2 [(0, .ref a0), (1, .int a1)] := hl
  unfold f_X8_another at hf
  obtain ⟨t1, hv, hf⟩ := bd hf
  refine h_new (ci := 6) (fs := [.int 0, .int 0, .null, .int 0]) X hK hH hS tyX8 tyX8_ok in_X8 rfl q719 q235 q62 df_X8 (Nat.le_of_ble_eq_true rfl) (Nat.le_of_ble_eq_true rfl) dX8_another_0 (fun H hH hS => ?_)
  rw [Option.some.inj hv] at hH
  refine W.cs (cells' := 1) (slots' := 4) (by rfl) (by rfl) ?_
  refine lv_dup hx hb dX8_another_3 rfl ?_
  refine lv_aload_n hx hb dX8_another_4 rfl (lv_at hl 0 rfl) ?_
  obtain ⟨v2, hv, hf⟩ := bd hf
  refine h_gIS (ref0 := "WordBench$Code") X hK hH fo_Code_0 hv q110 q111 dX8_another_5 ?_
  refine lv_iload_n hx hb dX8_another_8 rfl (lv_at hl 1 rfl) ?_
  obtain ⟨v3, hv, hf⟩ := bd hf
  refine r_I (As := [.int v2, .int a1]) (rest := [.ref ((σ).1)]) X (met_X8_init l G t1 N ((σ).1) v2 a1 v3 hv) ci_X8_init q720 rfl rfl hl.1 (Nat.le_of_ble_eq_true rfl) ⟨Nat.le_of_ble_eq_true rfl, Nat.le_of_ble_eq_true rfl⟩ ⟨Nat.le_of_ble_eq_true rfl, Nat.le_of_ble_eq_true rfl⟩ dX8_another_9 hK hH hS (fun H locs hH hS => ?_)
  refine W.cs (cells' := 2) (slots' := 204) (by rfl) (by rfl) ?_
  cases hf
  exact r_aret X (Or.inl ⟨_, rfl⟩) (Or.inr ⟨_, rfl⟩) dX8_another_12 (Nat.le_of_ble_eq_true rfl) (Nat.le_of_ble_eq_true rfl) rfl hH hS
theorem cu_X4_another_3 : CalU "WordBench$Code" "WordBench$List" ⟨"WordBench$Code", "another", "(I)LWordBench$Code;"⟩ yX5_another cX5_another 2 (some (.object "WordBench$Code")) 1 := ⟨q700, q706, q707, q708, q59, by decide +kernel, by decide +kernel, by decide +kernel⟩
theorem cu_X4_another_4 : CalU "WordBench$Code" "WordBench$Line" ⟨"WordBench$Code", "another", "(I)LWordBench$Code;"⟩ yX6_another cX6_another 2 (some (.object "WordBench$Code")) 1 := ⟨q700, q701, q702, q703, q60, by decide +kernel, by decide +kernel, by decide +kernel⟩
theorem cu_X4_another_5 : CalU "WordBench$Code" "WordBench$Own" ⟨"WordBench$Code", "another", "(I)LWordBench$Code;"⟩ yX7_another cX7_another 2 (some (.object "WordBench$Code")) 1 := ⟨q700, q711, q712, q713, q61, by decide +kernel, by decide +kernel, by decide +kernel⟩
theorem cu_X4_another_6 : CalU "WordBench$Code" "WordBench$Ring" ⟨"WordBench$Code", "another", "(I)LWordBench$Code;"⟩ yX8_another cX8_another 2 (some (.object "WordBench$Code")) 1 := ⟨q700, q716, q717, q718, q62, by decide +kernel, by decide +kernel, by decide +kernel⟩
theorem dr_X4_another {p : Program} {l : Launch} {e : Env} {R : Room} {s : State} {m : MethodId} {args : Array Value} {below : List Frame} {meth : Method} {c : Code} {H : Heap} {locs : List Loc} {cells slots : Nat} {Q : State → Prop} {cc : ByteArray} {pc : Nat} {ls : Array Slot} {rest st0 st1 : List Value} {H0 : Heap} {G : GG} {σ : SG} {yo : MethodName} {nL idx : Nat} {rto : Option FieldType} (N : Nat) {b : Nat} {a0 : Int32} {u : (SG × Nat)} (X : Cx p s m args meth c cc rto nL yo) (q1 : Cond.methodLink yo.cls idx ⟨"WordBench$Code", "another", "(I)LWordBench$Code;"⟩ ∈ lw_all) (hv : dv_X4_another N σ b a0 = some u) (hst : st0 = ([.int a0] : List Value).reverse ++ .ref b :: rest) (hs1 : ((some (.ref u.2)) : Option Value).toList ++ rest = st1) (hls : ls.size = nL) (hrm : (rest.map fun v => v.category).sum ≤ 20) (hR : 4 + 1 ≤ R.frames ∧ 20 + (2 + 11) + 80 * 4 ≤ R.locals) (hf : cells + 2 ≤ R.cells ∧ slots + 204 ≤ R.slots) (hdg : decode cc pc = .ok (.invokevirtual idx, 3)) (hK : KK G s) (hH : HH G σ H) (hS : va_S (AG G) H0 H locs)
    (kk : ∀ (H1 : Heap) (locs1 : List Loc), HH G u.1 H1 → va_S (AG G) H0 H1 locs1 → W p l e R s m args below meth c H1 locs1 (cells + 2) (slots + 204) Q (F0 m (pc + 3) ls st1)) : W p l e R s m args below meth c H locs cells slots Q (F0 m pc ls st0) := by
  subst hs1
  unfold dv_X4_another at hv
  split at hv
  · rename_i fs he
    exact r_U (C := "WordBench$List") (owner := "WordBench$Code") (x := ⟨"WordBench$Code", "another", "(I)LWordBench$Code;"⟩) (n := 1) (As := [.int a0]) X (met_X5_another l G σ N b a0 u.1 u.2 hv) cu_X4_another_3 (va_Decl.abs (hK.2.1 _ q699 rfl)) q1 (recv_of_HH (w := (RX5, TX5, 4)) hK hH he rfl) rfl hst hls hrm ⟨by omega, by omega⟩ hf hdg hK hH hS kk
  · rename_i fs he
    exact r_U (C := "WordBench$Line") (owner := "WordBench$Code") (x := ⟨"WordBench$Code", "another", "(I)LWordBench$Code;"⟩) (n := 1) (As := [.int a0]) X (met_X6_another l G σ N b a0 u.1 u.2 hv) cu_X4_another_4 (va_Decl.abs (hK.2.1 _ q699 rfl)) q1 (recv_of_HH (w := (RX6, TX6, 4)) hK hH he rfl) rfl hst hls hrm ⟨by omega, by omega⟩ hf hdg hK hH hS kk
  · rename_i fs he
    exact r_U (C := "WordBench$Own") (owner := "WordBench$Code") (x := ⟨"WordBench$Code", "another", "(I)LWordBench$Code;"⟩) (n := 1) (As := [.int a0]) X (met_X7_another l G σ N b a0 u.1 u.2 hv) cu_X4_another_5 (va_Decl.abs (hK.2.1 _ q699 rfl)) q1 (recv_of_HH (w := (RX7, TX7, 4)) hK hH he rfl) rfl hst hls hrm ⟨by omega, by omega⟩ hf hdg hK hH hS kk
  · rename_i fs he
    exact r_U (C := "WordBench$Ring") (owner := "WordBench$Code") (x := ⟨"WordBench$Code", "another", "(I)LWordBench$Code;"⟩) (n := 1) (As := [.int a0]) X (met_X8_another l G σ N b a0 u.1 u.2 hv) cu_X4_another_6 (va_Decl.abs (hK.2.1 _ q699 rfl)) q1 (recv_of_HH (w := (RX8, TX8, 4)) hK hH he rfl) rfl hst hls hrm ⟨by omega, by omega⟩ hf hdg hK hH hS kk
  · cases hv
-- no selects for own class
set_option maxHeartbeats 4000000 in
theorem met_X4_copy (l : Launch) (G : GG) (σ : SG) (N : Nat) (a0 : Nat) (σf : SG) (rf : Nat) (hf : f_X4_copy N σ a0 = some (σf, rf)) : Con l yX4_copy cX4_copy 2 (some (.object "WordBench$Code")) 5 2 204 G σ [.ref a0] σf (some (.ref rf)) := by
  refine con_of (by decide) (Nat.le_of_ble_eq_true rfl) ?_
  intro p e s m below meth c ls X hK hH hl hS
  have hx := X.1
  have hb := X.2.1
  have hml := X.2.2.2.1
  have hown : s.vm.findClass RX4 = some m.cls := X.2.2.2.2.1
  have hts := X.2.2.2.2.2.1
  have hl : lv_has ls 2 [(0, .ref a0)] := hl
  unfold f_X4_copy at hf
  refine lv_aload_n hx hb dX4_copy_0 rfl (lv_at hl 0 rfl) ?_
  refine lv_aload_n hx hb dX4_copy_1 rfl (lv_at hl 0 rfl) ?_
  obtain ⟨v1, hv, hf⟩ := bd hf
  refine h_gI X hK hH fo_Code_1 hv q117 dX4_copy_2 ?_
  obtain ⟨v2, hv, hf⟩ := bd hf
  refine dr_X4_another N (rest := []) (st1 := [.ref v2.2]) X q698 hv rfl rfl hl.1 (Nat.le_of_ble_eq_true rfl) ⟨Nat.le_of_ble_eq_true rfl, Nat.le_of_ble_eq_true rfl⟩ ⟨Nat.le_of_ble_eq_true rfl, Nat.le_of_ble_eq_true rfl⟩ dX4_copy_5 hK hH hS (fun H locs hH hS => ?_)
  refine W.cs (cells' := 2) (slots' := 204) (by rfl) (by rfl) ?_
  refine lv_astore_n (lv' := [(1, .ref v2.2), (0, .ref a0)]) hx hb dX4_copy_8 rfl hl (by decide) rfl (fun ls hl => ?_)
  refine lv_aload_n hx hb dX4_copy_9 rfl (lv_at hl 1 rfl) ?_
  obtain ⟨v3, hv, hf⟩ := bd hf
  refine h_gR X hK hH fo_Code_2 hv q124 dX4_copy_10 ?_
  refine lv_iconst (v := (0 : Int32)) hx hb dX4_copy_13 (by decide) ?_
  refine lv_aload_n hx hb dX4_copy_14 rfl (lv_at hl 0 rfl) ?_
  obtain ⟨v4, hv, hf⟩ := bd hf
  refine h_gR X hK hH fo_Code_2 hv q124 dX4_copy_15 ?_
  refine lv_iconst (v := (0 : Int32)) hx hb dX4_copy_18 (by decide) ?_
  refine lv_aload_n hx hb dX4_copy_19 rfl (lv_at hl 1 rfl) ?_
  obtain ⟨v5, hv, hf⟩ := bd hf
  refine h_gI X hK hH fo_Code_3 hv q140 dX4_copy_20 ?_
  obtain ⟨t6, hv, hf⟩ := bd hf
  refine h_cpL X hK hH hS hv q721 hl.1 (Nat.le_of_ble_eq_true rfl) ⟨Nat.le_of_ble_eq_true rfl, Nat.le_of_ble_eq_true rfl⟩ dX4_copy_23 (fun H locs hH hS => ?_)
  refine lv_aload_n hx hb dX4_copy_26 rfl (lv_at hl 0 rfl) ?_
  refine lv_aload_n hx hb dX4_copy_27 rfl (lv_at hl 1 rfl) ?_
  obtain ⟨v7, hv, hf⟩ := bd hf
  refine h_gI X hK hH fo_Code_3 hv q140 dX4_copy_28 ?_
  obtain ⟨t8, hv, hf⟩ := bd hf
  refine h_put (ty := .int) X hK hH hS fo_Code_3 hv q140 (by decide +kernel) rfl rfl dX4_copy_31 (fun H locs hH hS => ?_)
  refine lv_aload_n hx hb dX4_copy_34 rfl (lv_at hl 0 rfl) ?_
  cases hf
  exact r_aret X (Or.inl ⟨_, rfl⟩) (Or.inr ⟨_, rfl⟩) dX4_copy_35 (Nat.le_of_ble_eq_true rfl) (Nat.le_of_ble_eq_true rfl) rfl hH hS
theorem cs_X1_rowOf : CalS yX1_rowOf cX1_rowOf 6 (some (.object "java/lang/Object")) 3 := ⟨q723, q48, q724, by decide +kernel, by decide +kernel, by decide +kernel⟩
set_option maxHeartbeats 4000000 in
theorem met_X1_rowOf (l : Launch) (G : GG) (σ : SG) (N : Nat) (a0 : Int32) (a1 : Nat) (a2 : Int32) (σf : SG) (rf : Nat) (hf : f_X1_rowOf N σ a0 a1 a2 = some (σf, rf)) : Con l yX1_rowOf cX1_rowOf 6 (some (.object "java/lang/Object")) 1 2 200 G σ [.int a0, .ref a1, .int a2] σf (some (.ref rf)) := by
  refine con_of (by decide) (Nat.le_of_ble_eq_true rfl) ?_
  intro p e s m below meth c ls X hK hH hl hS
  have hx := X.1
  have hb := X.2.1
  have hml := X.2.2.2.1
  have hown : s.vm.findClass RX1 = some m.cls := X.2.2.2.2.1
  have hts := X.2.2.2.2.2.1
  have hl : lv_has ls 6 [(0, .int a0), (1, .ref a1), (2, .int a2)] := hl
  unfold f_X1_rowOf at hf
  have L34 : ∀ (c1 : Nat) (c3 : Nat) (c4 : Nat) (n : Nat) (s34 : (Int32 × SG)) (r34 : SG), lp (f_X1_rowOf_b34 N c1 c3 c4) n s34 = some r34 → (∀ (ls : Array Slot) (H : Heap) (locs : List Loc), lv_has ls 6 [(4, .ref c4)] → HH G r34 H → va_S (AG G) s.heap H locs → W p l e (rm_ 1 2 200) s m ([.int a0, .ref a1, .int a2] : List Value).toArray below meth c H locs 2 24 (MQ below (PostC G σf (some (.ref rf))) ([.int a0, .ref a1, .int a2] : List Value).toArray s 2 200 (AG G)) (F0 m 59 ls [])) → ∀ (ls : Array Slot) (H : Heap) (locs : List Loc), lv_has ls 6 [(1, .ref c1), (3, .ref c3), (4, .ref c4), (5, .int s34.1)] → HH G s34.2 H → va_S (AG G) s.heap H locs → W p l e (rm_ 1 2 200) s m ([.int a0, .ref a1, .int a2] : List Value).toArray below meth c H locs 2 24 (MQ below (PostC G σf (some (.ref rf))) ([.int a0, .ref a1, .int a2] : List Value).toArray s 2 200 (AG G)) (F0 m 34 ls []) := by
    intro c1 c3 c4 n s34 r34 hr hq
    refine lp_ind (P := fun s34 => ∀ (ls : Array Slot) (H : Heap) (locs : List Loc), lv_has ls 6 [(1, .ref c1), (3, .ref c3), (4, .ref c4), (5, .int s34.1)] → HH G s34.2 H → va_S (AG G) s.heap H locs → W p l e (rm_ 1 2 200) s m ([.int a0, .ref a1, .int a2] : List Value).toArray below meth c H locs 2 24 (MQ below (PostC G σf (some (.ref rf))) ([.int a0, .ref a1, .int a2] : List Value).toArray s 2 200 (AG G)) (F0 m 34 ls [])) (Q := fun r34 => ∀ (ls : Array Slot) (H : Heap) (locs : List Loc), lv_has ls 6 [(4, .ref c4)] → HH G r34 H → va_S (AG G) s.heap H locs → W p l e (rm_ 1 2 200) s m ([.int a0, .ref a1, .int a2] : List Value).toArray below meth c H locs 2 24 (MQ below (PostC G σf (some (.ref rf))) ([.int a0, .ref a1, .int a2] : List Value).toArray s 2 200 (AG G)) (F0 m 59 ls [])) ?_ n s34 r34 hr hq
    intro s34 x34 hf hx34 ls H locs hl hH hS
    unfold f_X1_rowOf_b34 at hf
    refine lv_iload hx hb dX1_rowOf_34 (lv_at hl 3 rfl) ?_
    refine lv_aload_n hx hb dX1_rowOf_36 rfl (lv_at hl 0 rfl) ?_
    obtain ⟨v13, hv, hf⟩ := bd hf
    refine h_gI X hK hH fo_Code_1 hv q123 dX1_rowOf_37 ?_
    refine lv_icmp_ge (tgt := 59) hx hb dX1_rowOf_40 (by decide) (fun c_ => ?_) (fun c_ => ?_)
    · have hf := (if_pos c_).symm.trans hf
      cases hf
      exact hx34 _ _ _ (lv_sub hl [2] rfl) hH hS
    · have hf := (if_neg c_).symm.trans hf
      refine lv_aload hx hb dX1_rowOf_43 (lv_at hl 2 rfl) ?_
      refine lv_iload hx hb dX1_rowOf_45 (lv_at hl 3 rfl) ?_
      refine lv_aload_n hx hb dX1_rowOf_47 rfl (lv_at hl 1 rfl) ?_
      refine lv_iload hx hb dX1_rowOf_48 (lv_at hl 3 rfl) ?_
      obtain ⟨v14, hv, hf⟩ := bd hf
      refine h_aI X hK hH hv dX1_rowOf_50 ?_
      refine lv_i2b (v := (v14).toInt8.toInt32) hx hb dX1_rowOf_51 rfl ?_
      obtain ⟨t15, hv, hf⟩ := bd hf
      refine h_wB X hK hH hS hv dX1_rowOf_52 (fun H locs hH hS => ?_)
      refine lv_iinc (v := (s34.1 + 1)) (lv' := [(5, .int (s34.1 + 1)), (1, .ref c1), (3, .ref c3), (4, .ref c4)]) hx hb dX1_rowOf_53 hl (k := 3) rfl rfl (by decide) rfl (fun ls hl => ?_)
      refine lv_goto (tgt := 34) hx hb dX1_rowOf_56 (by decide) ?_
      cases hf
      exact hx34 _ _ _ (lv_sub hl [1, 2, 3, 0] rfl) hH hS
  refine lv_iload_n hx hb dX1_rowOf_0 rfl (lv_at hl 0 rfl) ?_
  refine lv_iconst (v := (3 : Int32)) hx hb dX1_rowOf_1 (by decide) ?_
  refine lv_icmp_ne (tgt := 62) hx hb dX1_rowOf_2 (by decide) (fun c_ => ?_) (fun c_ => ?_)
  · have hf := (if_neg c_).symm.trans hf
    refine lv_aload_n hx hb dX1_rowOf_62 rfl (lv_at hl 1 rfl) ?_
    obtain ⟨v1, hv, hf⟩ := bd hf
    refine h_gI X hK hH fo_Code_3 hv q141 dX1_rowOf_63 ?_
    obtain ⟨t2, hv, hf⟩ := bd hf
    refine h_newa (t := 1) (B := 200) (atype := .long) X hK hH hS (by decide) hv (by decide) q151 (Nat.le_of_ble_eq_true rfl) (Nat.le_of_ble_eq_true rfl) dX1_rowOf_66 (fun H hH hS => ?_)
    refine W.cs (cells' := 1) (slots' := 200) (by rfl) (by rfl) ?_
    refine lv_astore_n (lv' := [(3, .ref ((σ).1)), (0, .int a0), (1, .ref a1), (2, .int a2)]) hx hb dX1_rowOf_68 rfl hl (by decide) rfl (fun ls hl => ?_)
    refine lv_aload_n hx hb dX1_rowOf_69 rfl (lv_at hl 2 rfl) ?_
    obtain ⟨v3, hv, hf⟩ := bd hf
    refine h_gR X hK hH fo_Code_2 hv q132 dX1_rowOf_70 ?_
    refine lv_iconst (v := (0 : Int32)) hx hb dX1_rowOf_73 (by decide) ?_
    refine lv_aload_n hx hb dX1_rowOf_74 rfl (lv_at hl 0 rfl) ?_
    refine lv_iconst (v := (0 : Int32)) hx hb dX1_rowOf_75 (by decide) ?_
    refine lv_aload_n hx hb dX1_rowOf_76 rfl (lv_at hl 2 rfl) ?_
    obtain ⟨v4, hv, hf⟩ := bd hf
    refine h_gI X hK hH fo_Code_3 hv q141 dX1_rowOf_77 ?_
    obtain ⟨t5, hv, hf⟩ := bd hf
    refine h_cpL X hK hH hS hv q246 hl.1 (Nat.le_of_ble_eq_true rfl) ⟨Nat.le_of_ble_eq_true rfl, Nat.le_of_ble_eq_true rfl⟩ dX1_rowOf_80 (fun H locs hH hS => ?_)
    refine lv_aload_n hx hb dX1_rowOf_83 rfl (lv_at hl 0 rfl) ?_
    cases hf
    exact r_aret X (Or.inl ⟨_, rfl⟩) (Or.inr ⟨_, rfl⟩) dX1_rowOf_84 (Nat.le_of_ble_eq_true rfl) (Nat.le_of_ble_eq_true rfl) rfl hH hS
  · have hf := (if_pos c_).symm.trans hf
    refine lv_aload_n hx hb dX1_rowOf_5 rfl (lv_at hl 1 rfl) ?_
    obtain ⟨v6, hv, hf⟩ := bd hf
    refine h_gI X hK hH fo_Code_0 hv q116 dX1_rowOf_6 ?_
    refine lv_aload_n hx hb dX1_rowOf_9 rfl (lv_at hl 1 rfl) ?_
    obtain ⟨v7, hv, hf⟩ := bd hf
    refine h_gI X hK hH fo_Code_1 hv q123 dX1_rowOf_10 ?_
    refine lv_aload_n hx hb dX1_rowOf_13 rfl (lv_at hl 1 rfl) ?_
    obtain ⟨v8, hv, hf⟩ := bd hf
    refine h_gR X hK hH fo_Code_2 hv q132 dX1_rowOf_14 ?_
    refine lv_iload_n hx hb dX1_rowOf_17 rfl (lv_at hl 2 rfl) ?_
    obtain ⟨v9, hv, hf⟩ := bd hf
    refine h_aL X hK hH hv dX1_rowOf_18 ?_
    obtain ⟨v10, hv, hf⟩ := bd hf
    refine c_S (As := [.int v6, .int v7, .long v9]) (rest := []) (st1 := [.ref v10.2]) X (met_X1_letters l G σ N v6 v7 v9 v10.1 v10.2 hv) cs_X1_letters q725 rfl rfl rfl hl.1 (Nat.le_of_ble_eq_true rfl) ⟨Nat.le_of_ble_eq_true rfl, Nat.le_of_ble_eq_true rfl⟩ ⟨Nat.le_of_ble_eq_true rfl, Nat.le_of_ble_eq_true rfl⟩ dX1_rowOf_19 hK hH hS (fun H locs hH hS => ?_)
    refine W.cs (cells' := 1) (slots' := 12) (by rfl) (by rfl) ?_
    refine lv_astore_n (lv' := [(3, .ref v10.2), (0, .int a0), (1, .ref a1), (2, .int a2)]) hx hb dX1_rowOf_22 rfl hl (by decide) rfl (fun ls hl => ?_)
    refine lv_aload_n hx hb dX1_rowOf_23 rfl (lv_at hl 2 rfl) ?_
    obtain ⟨v11, hv, hf⟩ := bd hf
    refine h_gI X hK hH fo_Code_1 hv q123 dX1_rowOf_24 ?_
    obtain ⟨t12, hv, hf⟩ := bd hf
    refine h_newa (t := 2) (B := 12) (atype := .byte) X hK hH hS (by decide) hv (by decide) q726 (Nat.le_of_ble_eq_true rfl) (Nat.le_of_ble_eq_true rfl) dX1_rowOf_27 (fun H hH hS => ?_)
    refine W.cs (cells' := 2) (slots' := 24) (by rfl) (by rfl) ?_
    refine lv_astore (lv' := [(4, .ref ((v10.1).1)), (3, .ref v10.2), (0, .int a0), (1, .ref a1), (2, .int a2)]) hx hb dX1_rowOf_29 hl (by decide) rfl (fun ls hl => ?_)
    refine lv_iconst (v := (0 : Int32)) hx hb dX1_rowOf_31 (by decide) ?_
    refine lv_istore (lv' := [(5, .int (0 : Int32)), (4, .ref ((v10.1).1)), (3, .ref v10.2), (0, .int a0), (1, .ref a1), (2, .int a2)]) hx hb dX1_rowOf_32 hl (by decide) rfl (fun ls hl => ?_)
    obtain ⟨r34_16, hr, hf⟩ := bd hf
    refine L34 a1 v10.2 ((v10.1).1) N _ r34_16 hr ?_ _ _ _ (lv_sub hl [4, 2, 1, 0] rfl) hH hS
    intro ls H locs hl hH hS
    refine lv_aload hx hb dX1_rowOf_59 (lv_at hl 0 rfl) ?_
    cases hf
    exact r_aret X (Or.inl ⟨_, rfl⟩) (Or.inr ⟨_, rfl⟩) dX1_rowOf_61 (Nat.le_of_ble_eq_true rfl) (Nat.le_of_ble_eq_true rfl) rfl hH hS
theorem cu_X4_copy_3 : CalU "WordBench$Code" "WordBench$List" ⟨"WordBench$Code", "copy", "()LWordBench$Code;"⟩ yX4_copy cX4_copy 2 (some (.object "WordBench$Code")) 0 := ⟨q692, q694, q691, q697, q58, by decide +kernel, by decide +kernel, by decide +kernel⟩
theorem cu_X4_copy_4 : CalU "WordBench$Code" "WordBench$Line" ⟨"WordBench$Code", "copy", "()LWordBench$Code;"⟩ yX4_copy cX4_copy 2 (some (.object "WordBench$Code")) 0 := ⟨q692, q693, q691, q697, q58, by decide +kernel, by decide +kernel, by decide +kernel⟩
theorem cu_X4_copy_5 : CalU "WordBench$Code" "WordBench$Own" ⟨"WordBench$Code", "copy", "()LWordBench$Code;"⟩ yX4_copy cX4_copy 2 (some (.object "WordBench$Code")) 0 := ⟨q692, q695, q691, q697, q58, by decide +kernel, by decide +kernel, by decide +kernel⟩
theorem cu_X4_copy_6 : CalU "WordBench$Code" "WordBench$Ring" ⟨"WordBench$Code", "copy", "()LWordBench$Code;"⟩ yX4_copy cX4_copy 2 (some (.object "WordBench$Code")) 0 := ⟨q692, q696, q691, q697, q58, by decide +kernel, by decide +kernel, by decide +kernel⟩
theorem dr_X4_copy {p : Program} {l : Launch} {e : Env} {R : Room} {s : State} {m : MethodId} {args : Array Value} {below : List Frame} {meth : Method} {c : Code} {H : Heap} {locs : List Loc} {cells slots : Nat} {Q : State → Prop} {cc : ByteArray} {pc : Nat} {ls : Array Slot} {rest st0 st1 : List Value} {H0 : Heap} {G : GG} {σ : SG} {yo : MethodName} {nL idx : Nat} {rto : Option FieldType} (N : Nat) {b : Nat}  {u : (SG × Nat)} (X : Cx p s m args meth c cc rto nL yo) (q1 : Cond.methodLink yo.cls idx ⟨"WordBench$Code", "copy", "()LWordBench$Code;"⟩ ∈ lw_all) (hv : dv_X4_copy N σ b  = some u) (hst : st0 = ([] : List Value).reverse ++ .ref b :: rest) (hs1 : ((some (.ref u.2)) : Option Value).toList ++ rest = st1) (hls : ls.size = nL) (hrm : (rest.map fun v => v.category).sum ≤ 20) (hR : 5 + 1 ≤ R.frames ∧ 20 + (2 + 11) + 80 * 5 ≤ R.locals) (hf : cells + 2 ≤ R.cells ∧ slots + 204 ≤ R.slots) (hdg : decode cc pc = .ok (.invokevirtual idx, 3)) (hK : KK G s) (hH : HH G σ H) (hS : va_S (AG G) H0 H locs)
    (kk : ∀ (H1 : Heap) (locs1 : List Loc), HH G u.1 H1 → va_S (AG G) H0 H1 locs1 → W p l e R s m args below meth c H1 locs1 (cells + 2) (slots + 204) Q (F0 m (pc + 3) ls st1)) : W p l e R s m args below meth c H locs cells slots Q (F0 m pc ls st0) := by
  subst hs1
  unfold dv_X4_copy at hv
  split at hv
  · rename_i fs he
    exact r_U (C := "WordBench$List") (owner := "WordBench$Code") (x := ⟨"WordBench$Code", "copy", "()LWordBench$Code;"⟩) (n := 0) (As := []) X (met_X4_copy l G σ N b  u.1 u.2 hv) cu_X4_copy_3 (va_Decl.of (X.2.2.2.2.2.1 _ q691) (X.2.2.2.2.2.1 _ q697)) q1 (recv_of_HH (w := (RX5, TX5, 4)) hK hH he rfl) rfl hst hls hrm ⟨by omega, by omega⟩ hf hdg hK hH hS kk
  · rename_i fs he
    exact r_U (C := "WordBench$Line") (owner := "WordBench$Code") (x := ⟨"WordBench$Code", "copy", "()LWordBench$Code;"⟩) (n := 0) (As := []) X (met_X4_copy l G σ N b  u.1 u.2 hv) cu_X4_copy_4 (va_Decl.of (X.2.2.2.2.2.1 _ q691) (X.2.2.2.2.2.1 _ q697)) q1 (recv_of_HH (w := (RX6, TX6, 4)) hK hH he rfl) rfl hst hls hrm ⟨by omega, by omega⟩ hf hdg hK hH hS kk
  · rename_i fs he
    exact r_U (C := "WordBench$Own") (owner := "WordBench$Code") (x := ⟨"WordBench$Code", "copy", "()LWordBench$Code;"⟩) (n := 0) (As := []) X (met_X4_copy l G σ N b  u.1 u.2 hv) cu_X4_copy_5 (va_Decl.of (X.2.2.2.2.2.1 _ q691) (X.2.2.2.2.2.1 _ q697)) q1 (recv_of_HH (w := (RX7, TX7, 4)) hK hH he rfl) rfl hst hls hrm ⟨by omega, by omega⟩ hf hdg hK hH hS kk
  · rename_i fs he
    exact r_U (C := "WordBench$Ring") (owner := "WordBench$Code") (x := ⟨"WordBench$Code", "copy", "()LWordBench$Code;"⟩) (n := 0) (As := []) X (met_X4_copy l G σ N b  u.1 u.2 hv) cu_X4_copy_6 (va_Decl.of (X.2.2.2.2.2.1 _ q691) (X.2.2.2.2.2.1 _ q697)) q1 (recv_of_HH (w := (RX8, TX8, 4)) hK hH he rfl) rfl hst hls hrm ⟨by omega, by omega⟩ hf hdg hK hH hS kk
  · cases hv
theorem cv_X1_keep : CalV "WordBench" yX1_keep cX1_keep 5 (some .int) 4 := ⟨q669, q670, q48, q671, by decide +kernel⟩
set_option maxHeartbeats 4000000 in
theorem met_X1_keep (l : Launch) (G : GG) (σ : SG) (N : Nat) (a0 : Nat) (a1 : Int32) (a2 : Int32) (a3 : Int32) (a4 : Int32) (σf : SG) (rf : Int32) (hf : f_X1_keep N σ a0 a1 a2 a3 a4 = some (σf, rf)) : Con l yX1_keep cX1_keep 5 (some .int) 6 2 204 G σ [.ref a0, .int a1, .int a2, .int a3, .int a4] σf (some (.int rf)) := by
  refine con_of (by decide) (Nat.le_of_ble_eq_true rfl) ?_
  intro p e s m below meth c ls X hK hH hl hS
  have hx := X.1
  have hb := X.2.1
  have hml := X.2.2.2.1
  have hown : s.vm.findClass RX1 = some m.cls := X.2.2.2.2.1
  have hts := X.2.2.2.2.2.1
  have hl : lv_has ls 5 [(0, .ref a0), (1, .int a1), (2, .int a2), (3, .int a3), (4, .int a4)] := hl
  unfold f_X1_keep at hf
  have J131 : ∀ (k0 : Option Nat) (k1 : Nat) (u131 : SG), f_X1_keep_j131 N k0 k1 u131 = some (σf, rf) → ∀ (ls : Array Slot) (H : Heap) (locs : List Loc), lv_has ls 5 [] → HH G u131 H → va_S (AG G) s.heap H locs → W p l e (rm_ 6 2 204) s m ([.ref a0, .int a1, .int a2, .int a3, .int a4] : List Value).toArray below meth c H locs 2 204 (MQ below (PostC G σf (some (.int rf))) ([.ref a0, .int a1, .int a2, .int a3, .int a4] : List Value).toArray s 2 204 (AG G)) (F0 m 131 ls [va_rf k0, .ref k1]) := by
    intro k0 k1 u131 hf ls H locs hl hH hS
    unfold f_X1_keep_j131 at hf
    obtain ⟨t10, hv, hf⟩ := bd hf
    refine h_put (ty := (.object "java/lang/Object")) X hK hH hS fo_X2_0 hv q584 (by decide +kernel) (nr_rf _ _) (ft_rf _ _) dX1_keep_131 (fun H locs hH hS => ?_)
    refine lv_iconst (v := (0 : Int32)) hx hb dX1_keep_134 (by decide) ?_
    cases hf
    exact r_iret X dX1_keep_135 (Nat.le_of_ble_eq_true rfl) (Nat.le_of_ble_eq_true rfl) rfl hH hS
  have J83 : ∀ (d0 : Nat) (d1 : Int32) (d2 : Int32) (d3 : Int32) (d4 : Int32) (u83 : SG), f_X1_keep_j83 N d0 d1 d2 d3 d4 u83 = some (σf, rf) → ∀ (ls : Array Slot) (H : Heap) (locs : List Loc), lv_has ls 5 [(0, .ref d0), (1, .int d1), (2, .int d2), (3, .int d3), (4, .int d4)] → HH G u83 H → va_S (AG G) s.heap H locs → W p l e (rm_ 6 2 204) s m ([.ref a0, .int a1, .int a2, .int a3, .int a4] : List Value).toArray below meth c H locs 0 0 (MQ below (PostC G σf (some (.int rf))) ([.ref a0, .int a1, .int a2, .int a3, .int a4] : List Value).toArray s 2 204 (AG G)) (F0 m 83 ls []) := by
    intro d0 d1 d2 d3 d4 u83 hf ls H locs hl hH hS
    unfold f_X1_keep_j83 at hf
    refine lv_aload_n hx hb dX1_keep_83 rfl (lv_at hl 0 rfl) ?_
    obtain ⟨v3, hv, hf⟩ := bd hf
    refine h_gR X hK hH fo_X1_5 hv q654 dX1_keep_84 ?_
    refine lv_iload_n hx hb dX1_keep_87 rfl (lv_at hl 1 rfl) ?_
    obtain ⟨_, hw, hf⟩ := bd hf
    obtain ⟨v4, hv, hf⟩ := bd hf
    refine c_V (As := [.int d1]) (rest := []) (st1 := [va_rf v4]) X (met_J2_get l G u83 N v3 d1 v4 hv) cv_J2_get q676 (recv1 (w := (RJ2, TJ2, 3)) hw hK hH rfl) rfl rfl rfl hl.1 (Nat.le_of_ble_eq_true rfl) ⟨Nat.le_of_ble_eq_true rfl, Nat.le_of_ble_eq_true rfl⟩ ⟨Nat.le_of_ble_eq_true rfl, Nat.le_of_ble_eq_true rfl⟩ dX1_keep_88 hK hH hS (fun H locs hH hS => ?_)
    refine W.cs (cells' := 0) (slots' := 0) (by rfl) (by rfl) ?_
    obtain ⟨b5, hq, hz⟩ := bd hf
    clear hf
    subst hq
    have hf := hz
    clear hz
    obtain ⟨_, hv, hf⟩ := bd hf
    refine h_cast X hK hH ca_Shelf hv q578 dX1_keep_91 ?_
    refine lv_iload_n hx hb dX1_keep_94 rfl (lv_at hl 2 rfl) ?_
    refine lv_if_ne (tgt := 102) hx hb dX1_keep_95 (by decide) (fun c_ => ?_) (fun c_ => ?_)
    · have hf := (if_neg c_).symm.trans hf
      refine lv_iload_n hx hb dX1_keep_102 rfl (lv_at hl 2 rfl) ?_
      refine lv_iconst (v := (1 : Int32)) hx hb dX1_keep_103 (by decide) ?_
      refine lv_icmp_ne (tgt := 119) hx hb dX1_keep_104 (by decide) (fun c_ => ?_) (fun c_ => ?_)
      · have hf := (if_neg c_).symm.trans hf
        refine lv_iload_n hx hb dX1_keep_119 rfl (lv_at hl 2 rfl) ?_
        refine lv_aload_n hx hb dX1_keep_120 rfl (lv_at hl 0 rfl) ?_
        obtain ⟨v6, hv, hf⟩ := bd hf
        refine h_gR X hK hH fo_X1_0 hv q649 dX1_keep_121 ?_
        refine lv_iload_n hx hb dX1_keep_124 rfl (lv_at hl 3 rfl) ?_
        obtain ⟨v7, hv, hf⟩ := bd hf
        refine h_aQ (by decide) X hK hH hv dX1_keep_125 ?_
        refine lv_iload hx hb dX1_keep_126 (lv_at hl 4 rfl) ?_
        obtain ⟨b8, hq, hz⟩ := bd hf
        clear hf
        subst hq
        have hf := hz
        clear hz
        obtain ⟨v9, hv, hf⟩ := bd hf
        refine c_S (As := [.int d2, .ref b8, .int d4]) (rest := [.ref b5]) (st1 := [.ref v9.2, .ref b5]) X (met_X1_rowOf l G u83 N d2 b8 d4 v9.1 v9.2 hv) cs_X1_rowOf q722 rfl rfl rfl hl.1 (Nat.le_of_ble_eq_true rfl) ⟨Nat.le_of_ble_eq_true rfl, Nat.le_of_ble_eq_true rfl⟩ ⟨Nat.le_of_ble_eq_true rfl, Nat.le_of_ble_eq_true rfl⟩ dX1_keep_128 hK hH hS (fun H locs hH hS => ?_)
        refine W.cs (cells' := 2) (slots' := 200) (by rfl) (by rfl) ?_
        refine W.widen (k := 2) (n := 204) (Nat.le_of_ble_eq_true rfl) (Nat.le_of_ble_eq_true rfl) ?_
        exact J131 (some v9.2) b5 v9.1 hf _ _ _ (lv_sub hl [] rfl) hH hS
      · have hf := (if_pos c_).symm.trans hf
        refine lv_aload_n hx hb dX1_keep_107 rfl (lv_at hl 0 rfl) ?_
        obtain ⟨v11, hv, hf⟩ := bd hf
        refine h_gR X hK hH fo_X1_0 hv q649 dX1_keep_108 ?_
        refine lv_iload_n hx hb dX1_keep_111 rfl (lv_at hl 3 rfl) ?_
        obtain ⟨v12, hv, hf⟩ := bd hf
        refine h_aQ (by decide) X hK hH hv dX1_keep_112 ?_
        obtain ⟨b13, hq, hz⟩ := bd hf
        clear hf
        subst hq
        have hf := hz
        clear hz
        obtain ⟨v14, hv, hf⟩ := bd hf
        refine dr_X4_copy N (rest := [.ref b5]) (st1 := [.ref v14.2, .ref b5]) X q690 hv rfl rfl hl.1 (Nat.le_of_ble_eq_true rfl) ⟨Nat.le_of_ble_eq_true rfl, Nat.le_of_ble_eq_true rfl⟩ ⟨Nat.le_of_ble_eq_true rfl, Nat.le_of_ble_eq_true rfl⟩ dX1_keep_113 hK hH hS (fun H locs hH hS => ?_)
        refine W.cs (cells' := 2) (slots' := 204) (by rfl) (by rfl) ?_
        refine lv_goto (tgt := 131) hx hb dX1_keep_116 (by decide) ?_
        exact J131 (some v14.2) b5 v14.1 hf _ _ _ (lv_sub hl [] rfl) hH hS
    · have hf := (if_pos c_).symm.trans hf
      refine lv_null hx hb dX1_keep_98 ?_
      refine lv_goto (tgt := 131) hx hb dX1_keep_99 (by decide) ?_
      refine W.widen (k := 2) (n := 204) (Nat.le_of_ble_eq_true rfl) (Nat.le_of_ble_eq_true rfl) ?_
      exact J131 none b5 u83 hf _ _ _ (lv_sub hl [] rfl) hH hS
  have J53 : ∀ (d0 : Nat) (d1 : Int32) (d2 : Int32) (d3 : Int32) (d4 : Int32) (u53 : SG), f_X1_keep_j53 N d0 d1 d2 d3 d4 u53 = some (σf, rf) → ∀ (ls : Array Slot) (H : Heap) (locs : List Loc), lv_has ls 5 [(0, .ref d0), (1, .int d1), (2, .int d2), (3, .int d3), (4, .int d4)] → HH G u53 H → va_S (AG G) s.heap H locs → W p l e (rm_ 6 2 204) s m ([.ref a0, .int a1, .int a2, .int a3, .int a4] : List Value).toArray below meth c H locs 0 0 (MQ below (PostC G σf (some (.int rf))) ([.ref a0, .int a1, .int a2, .int a3, .int a4] : List Value).toArray s 2 204 (AG G)) (F0 m 53 ls []) := by
    intro d0 d1 d2 d3 d4 u53 hf ls H locs hl hH hS
    unfold f_X1_keep_j53 at hf
    refine lv_iload_n hx hb dX1_keep_53 rfl (lv_at hl 2 rfl) ?_
    refine lv_iconst (v := (3 : Int32)) hx hb dX1_keep_54 (by decide) ?_
    refine lv_icmp_ne (tgt := 83) hx hb dX1_keep_55 (by decide) (fun c_ => ?_) (fun c_ => ?_)
    · have hf := (if_neg c_).symm.trans hf
      exact J83 d0 d1 d2 d3 d4 u53 hf _ _ _ (lv_sub hl [0, 1, 2, 3, 4] rfl) hH hS
    · have hf := (if_pos c_).symm.trans hf
      refine lv_iload hx hb dX1_keep_58 (lv_at hl 4 rfl) ?_
      refine lv_i2l (v := (d4).toInt64) hx hb dX1_keep_60 rfl ?_
      refine lv_lconst (v := (0 : Int64)) hx hb dX1_keep_61 (by decide) ?_
      refine lv_aload_n hx hb dX1_keep_62 rfl (lv_at hl 0 rfl) ?_
      obtain ⟨v15, hv, hf⟩ := bd hf
      refine h_gR X hK hH fo_X1_0 hv q649 dX1_keep_63 ?_
      refine lv_iload_n hx hb dX1_keep_66 rfl (lv_at hl 3 rfl) ?_
      obtain ⟨v16, hv, hf⟩ := bd hf
      refine h_aQ (by decide) X hK hH hv dX1_keep_67 ?_
      obtain ⟨b17, hq, hz⟩ := bd hf
      clear hf
      subst hq
      have hf := hz
      clear hz
      obtain ⟨v18, hv, hf⟩ := bd hf
      refine h_gI X hK hH fo_Code_3 hv q141 dX1_keep_68 ?_
      refine lv_iconst (v := (1 : Int32)) hx hb dX1_keep_71 (by decide) ?_
      refine lv_isub hx hb dX1_keep_72 ?_
      refine lv_i2l (v := ((v18 - (1 : Int32))).toInt64) hx hb dX1_keep_73 rfl ?_
      obtain ⟨v19, hv, hf⟩ := bd hf
      refine c_S (As := [.long ((d4).toInt64), .long (0 : Int64), .long (((v18 - (1 : Int32))).toInt64)]) (rest := []) (st1 := [.int v19]) X (met_X1_isIn l G u53 N ((d4).toInt64) (0 : Int64) (((v18 - (1 : Int32))).toInt64) v19 hv) cs_X1_isIn q86 rfl rfl rfl hl.1 (Nat.le_of_ble_eq_true rfl) ⟨Nat.le_of_ble_eq_true rfl, Nat.le_of_ble_eq_true rfl⟩ ⟨Nat.le_of_ble_eq_true rfl, Nat.le_of_ble_eq_true rfl⟩ dX1_keep_74 hK hH hS (fun H locs hH hS => ?_)
      refine W.cs (cells' := 0) (slots' := 0) (by rfl) (by rfl) ?_
      refine lv_if_ne (tgt := 83) hx hb dX1_keep_77 (by decide) (fun c_ => ?_) (fun c_ => ?_)
      · have hf := (if_neg c_).symm.trans hf
        exact J83 d0 d1 d2 d3 d4 u53 hf _ _ _ (lv_sub hl [0, 1, 2, 3, 4] rfl) hH hS
      · have hf := (if_pos c_).symm.trans hf
        refine lv_bipush (v := (-2 : Int32)) hx hb dX1_keep_80 (by decide) ?_
        cases hf
        exact r_iret X dX1_keep_82 (Nat.le_of_ble_eq_true rfl) (Nat.le_of_ble_eq_true rfl) rfl hH hS
  have J37 : ∀ (d0 : Nat) (d1 : Int32) (d2 : Int32) (d3 : Int32) (d4 : Int32) (u37 : SG), f_X1_keep_j37 N d0 d1 d2 d3 d4 u37 = some (σf, rf) → ∀ (ls : Array Slot) (H : Heap) (locs : List Loc), lv_has ls 5 [(0, .ref d0), (1, .int d1), (2, .int d2), (3, .int d3), (4, .int d4)] → HH G u37 H → va_S (AG G) s.heap H locs → W p l e (rm_ 6 2 204) s m ([.ref a0, .int a1, .int a2, .int a3, .int a4] : List Value).toArray below meth c H locs 0 0 (MQ below (PostC G σf (some (.int rf))) ([.ref a0, .int a1, .int a2, .int a3, .int a4] : List Value).toArray s 2 204 (AG G)) (F0 m 37 ls []) := by
    intro d0 d1 d2 d3 d4 u37 hf ls H locs hl hH hS
    unfold f_X1_keep_j37 at hf
    refine lv_iload_n hx hb dX1_keep_37 rfl (lv_at hl 2 rfl) ?_
    refine lv_if_le (tgt := 53) hx hb dX1_keep_38 (by decide) (fun c_ => ?_) (fun c_ => ?_)
    · have hf := (if_pos c_).symm.trans hf
      exact J53 d0 d1 d2 d3 d4 u37 hf _ _ _ (lv_sub hl [0, 1, 2, 3, 4] rfl) hH hS
    · have hf := (if_neg c_).symm.trans hf
      refine lv_aload_n hx hb dX1_keep_41 rfl (lv_at hl 0 rfl) ?_
      obtain ⟨v20, hv, hf⟩ := bd hf
      refine h_gR X hK hH fo_X1_0 hv q649 dX1_keep_42 ?_
      refine lv_iload_n hx hb dX1_keep_45 rfl (lv_at hl 3 rfl) ?_
      obtain ⟨v21, hv, hf⟩ := bd hf
      refine h_aQ (by decide) X hK hH hv dX1_keep_46 ?_
      rcases v21 with _ | b22
      · dsimp only at hf
        refine lv_ifnonnullN hx hb dX1_keep_47 ?_
        refine lv_bipush (v := (-11 : Int32)) hx hb dX1_keep_50 (by decide) ?_
        cases hf
        exact r_iret X dX1_keep_52 (Nat.le_of_ble_eq_true rfl) (Nat.le_of_ble_eq_true rfl) rfl hH hS
      · dsimp only at hf
        refine lv_ifnonnull (tgt := 53) hx hb dX1_keep_47 (by decide) ?_
        exact J53 d0 d1 d2 d3 d4 u37 hf _ _ _ (lv_sub hl [0, 1, 2, 3, 4] rfl) hH hS
  refine lv_iload_n hx hb dX1_keep_0 rfl (lv_at hl 1 rfl) ?_
  obtain ⟨v1, hv, hf⟩ := bd hf
  refine c_S (As := [.int a1]) (rest := []) (st1 := [.int v1]) X (met_X1_isShelf l G σ N a1 v1 hv) cs_X1_isShelf q672 rfl rfl rfl hl.1 (Nat.le_of_ble_eq_true rfl) ⟨Nat.le_of_ble_eq_true rfl, Nat.le_of_ble_eq_true rfl⟩ ⟨Nat.le_of_ble_eq_true rfl, Nat.le_of_ble_eq_true rfl⟩ dX1_keep_1 hK hH hS (fun H locs hH hS => ?_)
  refine W.cs (cells' := 0) (slots' := 0) (by rfl) (by rfl) ?_
  refine lv_if_eq (tgt := 35) hx hb dX1_keep_4 (by decide) (fun c_ => ?_) (fun c_ => ?_)
  · have hf := (if_pos c_).symm.trans hf
    refine lv_iconst (v := (-1 : Int32)) hx hb dX1_keep_35 (by decide) ?_
    cases hf
    exact r_iret X dX1_keep_36 (Nat.le_of_ble_eq_true rfl) (Nat.le_of_ble_eq_true rfl) rfl hH hS
  · have hf := (if_neg c_).symm.trans hf
    refine lv_iload_n hx hb dX1_keep_7 rfl (lv_at hl 2 rfl) ?_
    refine lv_i2l (v := (a2).toInt64) hx hb dX1_keep_8 rfl ?_
    refine lv_lconst (v := (0 : Int64)) hx hb dX1_keep_9 (by decide) ?_
    refine lv_ldc2 (v := (4 : Int64)) hx hb hown (hts _ q675) dX1_keep_10 ?_
    obtain ⟨v2, hv, hf⟩ := bd hf
    refine c_S (As := [.long ((a2).toInt64), .long (0 : Int64), .long (4 : Int64)]) (rest := []) (st1 := [.int v2]) X (met_X1_isIn l G σ N ((a2).toInt64) (0 : Int64) (4 : Int64) v2 hv) cs_X1_isIn q86 rfl rfl rfl hl.1 (Nat.le_of_ble_eq_true rfl) ⟨Nat.le_of_ble_eq_true rfl, Nat.le_of_ble_eq_true rfl⟩ ⟨Nat.le_of_ble_eq_true rfl, Nat.le_of_ble_eq_true rfl⟩ dX1_keep_13 hK hH hS (fun H locs hH hS => ?_)
    refine W.cs (cells' := 0) (slots' := 0) (by rfl) (by rfl) ?_
    refine lv_if_eq (tgt := 35) hx hb dX1_keep_16 (by decide) (fun c_ => ?_) (fun c_ => ?_)
    · have hf := (if_pos c_).symm.trans hf
      refine lv_iconst (v := (-1 : Int32)) hx hb dX1_keep_35 (by decide) ?_
      cases hf
      exact r_iret X dX1_keep_36 (Nat.le_of_ble_eq_true rfl) (Nat.le_of_ble_eq_true rfl) rfl hH hS
    · have hf := (if_neg c_).symm.trans hf
      refine lv_iload_n hx hb dX1_keep_19 rfl (lv_at hl 2 rfl) ?_
      refine lv_iconst (v := (2 : Int32)) hx hb dX1_keep_20 (by decide) ?_
      refine lv_icmp_eq (tgt := 35) hx hb dX1_keep_21 (by decide) (fun c_ => ?_) (fun c_ => ?_)
      · have hf := (if_pos c_).symm.trans hf
        refine lv_iconst (v := (-1 : Int32)) hx hb dX1_keep_35 (by decide) ?_
        cases hf
        exact r_iret X dX1_keep_36 (Nat.le_of_ble_eq_true rfl) (Nat.le_of_ble_eq_true rfl) rfl hH hS
      · have hf := (if_neg c_).symm.trans hf
        refine lv_iload_n hx hb dX1_keep_24 rfl (lv_at hl 2 rfl) ?_
        refine lv_if_le (tgt := 37) hx hb dX1_keep_25 (by decide) (fun c_ => ?_) (fun c_ => ?_)
        · have hf := (if_pos c_).symm.trans hf
          exact J37 a0 a1 a2 a3 a4 σ hf _ _ _ (lv_sub hl [0, 1, 2, 3, 4] rfl) hH hS
        · have hf := (if_neg c_).symm.trans hf
          refine lv_iload_n hx hb dX1_keep_28 rfl (lv_at hl 3 rfl) ?_
          obtain ⟨v23, hv, hf⟩ := bd hf
          refine c_S (As := [.int a3]) (rest := []) (st1 := [.int v23]) X (met_X1_isPlace l G σ N a3 v23 hv) cs_X1_isPlace q82 rfl rfl rfl hl.1 (Nat.le_of_ble_eq_true rfl) ⟨Nat.le_of_ble_eq_true rfl, Nat.le_of_ble_eq_true rfl⟩ ⟨Nat.le_of_ble_eq_true rfl, Nat.le_of_ble_eq_true rfl⟩ dX1_keep_29 hK hH hS (fun H locs hH hS => ?_)
          refine W.cs (cells' := 0) (slots' := 0) (by rfl) (by rfl) ?_
          refine lv_if_ne (tgt := 37) hx hb dX1_keep_32 (by decide) (fun c_ => ?_) (fun c_ => ?_)
          · have hf := (if_neg c_).symm.trans hf
            exact J37 a0 a1 a2 a3 a4 σ hf _ _ _ (lv_sub hl [0, 1, 2, 3, 4] rfl) hH hS
          · have hf := (if_pos c_).symm.trans hf
            refine lv_iconst (v := (-1 : Int32)) hx hb dX1_keep_35 (by decide) ?_
            cases hf
            exact r_iret X dX1_keep_36 (Nat.le_of_ble_eq_true rfl) (Nat.le_of_ble_eq_true rfl) rfl hH hS
theorem cs_X1_turned : CalS yX1_turned cX1_turned 9 (some .long) 4 := ⟨q992, q48, q993, by decide +kernel, by decide +kernel, by decide +kernel⟩
set_option maxHeartbeats 4000000 in
theorem met_X1_turned (l : Launch) (G : GG) (σ : SG) (N : Nat) (a0 : Int32) (a1 : Int32) (a2 : Int32) (a3 : Int32) (rf : Int64) (hf : f_X1_turned N a0 a1 a2 a3 = some rf) : Con l yX1_turned cX1_turned 9 (some .long) 1 0 0 G σ [.int a0, .int a1, .int a2, .int a3] σ (some (.long rf)) := by
  refine con_of (by decide) (Nat.le_of_ble_eq_true rfl) ?_
  intro p e s m below meth c ls X hK hH hl hS
  have hx := X.1
  have hb := X.2.1
  have hml := X.2.2.2.1
  have hown : s.vm.findClass RX1 = some m.cls := X.2.2.2.2.1
  have hts := X.2.2.2.2.2.1
  have hl : lv_has ls 9 [(0, .int a0), (1, .int a1), (2, .int a2), (3, .int a3)] := hl
  unfold f_X1_turned at hf
  have L6 : ∀ (c0 : Int32) (c1 : Int32) (c2 : Int32) (c3 : Int32) (n : Nat) (s6 : (Int64 × Int32)) (r6 : Int64), lp (f_X1_turned_b6 N c0 c1 c2 c3) n s6 = some r6 → (∀ (ls : Array Slot) (H : Heap) (locs : List Loc), lv_has ls 9 [(4, .long r6)] → HH G σ H → va_S (AG G) s.heap H locs → W p l e (rm_ 1 0 0) s m ([.int a0, .int a1, .int a2, .int a3] : List Value).toArray below meth c H locs 0 0 (MQ below (PostC G σ (some (.long rf))) ([.int a0, .int a1, .int a2, .int a3] : List Value).toArray s 0 0 (AG G)) (F0 m 68 ls [])) → ∀ (ls : Array Slot) (H : Heap) (locs : List Loc), lv_has ls 9 [(0, .int c0), (1, .int c1), (2, .int c2), (3, .int c3), (4, .long s6.1), (6, .int s6.2)] → HH G σ H → va_S (AG G) s.heap H locs → W p l e (rm_ 1 0 0) s m ([.int a0, .int a1, .int a2, .int a3] : List Value).toArray below meth c H locs 0 0 (MQ below (PostC G σ (some (.long rf))) ([.int a0, .int a1, .int a2, .int a3] : List Value).toArray s 0 0 (AG G)) (F0 m 6 ls []) := by
    intro c0 c1 c2 c3 n s6 r6 hr hq
    refine lp_ind (P := fun s6 => ∀ (ls : Array Slot) (H : Heap) (locs : List Loc), lv_has ls 9 [(0, .int c0), (1, .int c1), (2, .int c2), (3, .int c3), (4, .long s6.1), (6, .int s6.2)] → HH G σ H → va_S (AG G) s.heap H locs → W p l e (rm_ 1 0 0) s m ([.int a0, .int a1, .int a2, .int a3] : List Value).toArray below meth c H locs 0 0 (MQ below (PostC G σ (some (.long rf))) ([.int a0, .int a1, .int a2, .int a3] : List Value).toArray s 0 0 (AG G)) (F0 m 6 ls [])) (Q := fun r6 => ∀ (ls : Array Slot) (H : Heap) (locs : List Loc), lv_has ls 9 [(4, .long r6)] → HH G σ H → va_S (AG G) s.heap H locs → W p l e (rm_ 1 0 0) s m ([.int a0, .int a1, .int a2, .int a3] : List Value).toArray below meth c H locs 0 0 (MQ below (PostC G σ (some (.long rf))) ([.int a0, .int a1, .int a2, .int a3] : List Value).toArray s 0 0 (AG G)) (F0 m 68 ls [])) ?_ n s6 r6 hr hq
    intro s6 x6 hf hx6 ls H locs hl hH hS
    unfold f_X1_turned_b6 at hf
    have J59 : ∀ (d6 : Int32) (k0 : Int64) (k1 : Int64), f_X1_turned_j59 N c0 c1 c2 c3 d6 k0 k1 = some x6 → ∀ (ls : Array Slot) (H : Heap) (locs : List Loc), lv_has ls 9 [(0, .int c0), (1, .int c1), (2, .int c2), (3, .int c3), (6, .int d6)] → HH G σ H → va_S (AG G) s.heap H locs → W p l e (rm_ 1 0 0) s m ([.int a0, .int a1, .int a2, .int a3] : List Value).toArray below meth c H locs 0 0 (MQ below (PostC G σ (some (.long rf))) ([.int a0, .int a1, .int a2, .int a3] : List Value).toArray s 0 0 (AG G)) (F0 m 59 ls [.long k0, .long k1]) := by
      intro d6 k0 k1 hf ls H locs hl hH hS
      unfold f_X1_turned_j59 at hf
      refine lv_ladd hx hb dX1_turned_59 ?_
      refine lv_lstore (lv' := [(4, .long (k1 + k0)), (0, .int c0), (1, .int c1), (2, .int c2), (3, .int c3), (6, .int d6)]) hx hb dX1_turned_60 hl (by decide) rfl (fun ls hl => ?_)
      refine lv_iinc (v := (d6 + 1)) (lv' := [(6, .int (d6 + 1)), (4, .long (k1 + k0)), (0, .int c0), (1, .int c1), (2, .int c2), (3, .int c3)]) hx hb dX1_turned_62 hl (k := 5) rfl rfl (by decide) rfl (fun ls hl => ?_)
      refine lv_goto (tgt := 6) hx hb dX1_turned_65 (by decide) ?_
      cases hf
      exact hx6 _ _ _ (lv_sub hl [2, 3, 4, 5, 1, 0] rfl) hH hS
    refine lv_iload hx hb dX1_turned_6 (lv_at hl 5 rfl) ?_
    refine lv_iload_n hx hb dX1_turned_8 rfl (lv_at hl 2 rfl) ?_
    refine lv_icmp_gt (tgt := 68) hx hb dX1_turned_9 (by decide) (fun c_ => ?_) (fun c_ => ?_)
    · have hf := (if_pos c_).symm.trans hf
      cases hf
      exact hx6 _ _ _ (lv_sub hl [4] rfl) hH hS
    · have hf := (if_neg c_).symm.trans hf
      refine lv_iload_n hx hb dX1_turned_12 rfl (lv_at hl 0 rfl) ?_
      refine lv_iconst (v := (1 : Int32)) hx hb dX1_turned_13 (by decide) ?_
      refine lv_isub hx hb dX1_turned_14 ?_
      refine lv_iload_n hx hb dX1_turned_15 rfl (lv_at hl 2 rfl) ?_
      refine lv_iload hx hb dX1_turned_16 (lv_at hl 5 rfl) ?_
      refine lv_isub hx hb dX1_turned_18 ?_
      obtain ⟨v1, hv, hf⟩ := bd hf
      refine c_S (As := [.int (c0 - (1 : Int32)), .int (c2 - s6.2)]) (rest := []) (st1 := [.long v1]) X (met_X1_power l G _ N (c0 - (1 : Int32)) (c2 - s6.2) v1 hv) cs_X1_power q190 rfl rfl rfl hl.1 (Nat.le_of_ble_eq_true rfl) ⟨Nat.le_of_ble_eq_true rfl, Nat.le_of_ble_eq_true rfl⟩ ⟨Nat.le_of_ble_eq_true rfl, Nat.le_of_ble_eq_true rfl⟩ dX1_turned_19 hK hH hS (fun H locs hH hS => ?_)
      refine W.cs (cells' := 0) (slots' := 0) (by rfl) (by rfl) ?_
      refine lv_iload_n hx hb dX1_turned_22 rfl (lv_at hl 3 rfl) ?_
      refine lv_iload hx hb dX1_turned_23 (lv_at hl 5 rfl) ?_
      obtain ⟨v2, hv, hf⟩ := bd hf
      refine c_S (As := [.int c3, .int s6.2]) (rest := [.long v1]) (st1 := [.long v2, .long v1]) X (met_X1_chosen l G _ N c3 s6.2 v2 hv) cs_X1_chosen q451 rfl rfl rfl hl.1 (Nat.le_of_ble_eq_true rfl) ⟨Nat.le_of_ble_eq_true rfl, Nat.le_of_ble_eq_true rfl⟩ ⟨Nat.le_of_ble_eq_true rfl, Nat.le_of_ble_eq_true rfl⟩ dX1_turned_25 hK hH hS (fun H locs hH hS => ?_)
      refine W.cs (cells' := 0) (slots' := 0) (by rfl) (by rfl) ?_
      refine lv_lmul hx hb dX1_turned_28 ?_
      refine lv_iload_n hx hb dX1_turned_29 rfl (lv_at hl 1 rfl) ?_
      refine lv_iload_n hx hb dX1_turned_30 rfl (lv_at hl 3 rfl) ?_
      refine lv_isub hx hb dX1_turned_31 ?_
      refine lv_iload_n hx hb dX1_turned_32 rfl (lv_at hl 2 rfl) ?_
      refine lv_iload hx hb dX1_turned_33 (lv_at hl 5 rfl) ?_
      refine lv_isub hx hb dX1_turned_35 ?_
      obtain ⟨v3, hv, hf⟩ := bd hf
      refine c_S (As := [.int (c1 - c3), .int (c2 - s6.2)]) (rest := [.long (v1 * v2)]) (st1 := [.long v3, .long (v1 * v2)]) X (met_X1_chosen l G _ N (c1 - c3) (c2 - s6.2) v3 hv) cs_X1_chosen q451 rfl rfl rfl hl.1 (Nat.le_of_ble_eq_true rfl) ⟨Nat.le_of_ble_eq_true rfl, Nat.le_of_ble_eq_true rfl⟩ ⟨Nat.le_of_ble_eq_true rfl, Nat.le_of_ble_eq_true rfl⟩ dX1_turned_36 hK hH hS (fun H locs hH hS => ?_)
      refine W.cs (cells' := 0) (slots' := 0) (by rfl) (by rfl) ?_
      refine lv_lmul hx hb dX1_turned_39 ?_
      refine lv_lstore (lv' := [(7, .long ((v1 * v2) * v3)), (0, .int c0), (1, .int c1), (2, .int c2), (3, .int c3), (4, .long s6.1), (6, .int s6.2)]) hx hb dX1_turned_40 hl (by decide) rfl (fun ls hl => ?_)
      refine lv_lload hx hb dX1_turned_42 (lv_at hl 5 rfl) ?_
      refine lv_iload hx hb dX1_turned_44 (lv_at hl 6 rfl) ?_
      refine lv_iconst (v := (2 : Int32)) hx hb dX1_turned_46 (by decide) ?_
      obtain ⟨v4, hv, hf⟩ := bd hf
      refine r_irem hx hb hv dX1_turned_47 ?_
      refine lv_if_ne (tgt := 56) hx hb dX1_turned_48 (by decide) (fun c_ => ?_) (fun c_ => ?_)
      · have hf := (if_neg c_).symm.trans hf
        refine lv_lload hx hb dX1_turned_56 (lv_at hl 0 rfl) ?_
        refine lv_lneg hx hb dX1_turned_58 ?_
        exact J59 s6.2 (-((v1 * v2) * v3)) s6.1 hf _ _ _ (lv_sub hl [1, 2, 3, 4, 6] rfl) hH hS
      · have hf := (if_pos c_).symm.trans hf
        refine lv_lload hx hb dX1_turned_51 (lv_at hl 0 rfl) ?_
        refine lv_goto (tgt := 59) hx hb dX1_turned_53 (by decide) ?_
        exact J59 s6.2 ((v1 * v2) * v3) s6.1 hf _ _ _ (lv_sub hl [1, 2, 3, 4, 6] rfl) hH hS
  refine lv_lconst (v := (0 : Int64)) hx hb dX1_turned_0 (by decide) ?_
  refine lv_lstore (lv' := [(4, .long (0 : Int64)), (0, .int a0), (1, .int a1), (2, .int a2), (3, .int a3)]) hx hb dX1_turned_1 hl (by decide) rfl (fun ls hl => ?_)
  refine lv_iconst (v := (0 : Int32)) hx hb dX1_turned_3 (by decide) ?_
  refine lv_istore (lv' := [(6, .int (0 : Int32)), (4, .long (0 : Int64)), (0, .int a0), (1, .int a1), (2, .int a2), (3, .int a3)]) hx hb dX1_turned_4 hl (by decide) rfl (fun ls hl => ?_)
  obtain ⟨r6_5, hr, hf⟩ := bd hf
  refine L6 a0 a1 a2 a3 N _ r6_5 hr ?_ _ _ _ (lv_sub hl [2, 3, 4, 5, 1, 0] rfl) hH hS
  intro ls H locs hl hH hS
  refine lv_lload hx hb dX1_turned_68 (lv_at hl 0 rfl) ?_
  cases hf
  exact r_lret X dX1_turned_70 (Nat.le_of_ble_eq_true rfl) (Nat.le_of_ble_eq_true rfl) rfl hH hS
theorem cv_X1_law : CalV "WordBench" yX1_law cX1_law 7 (some .long) 2 := ⟨q988, q989, q48, q990, by decide +kernel⟩
set_option maxHeartbeats 4000000 in
theorem met_X1_law (l : Launch) (G : GG) (σ : SG) (N : Nat) (a0 : Nat) (a1 : Int32) (a2 : Int32) (σf : SG) (rf : Int64) (hf : f_X1_law N σ a0 a1 a2 = some (σf, rf)) : Con l yX1_law cX1_law 7 (some .long) 6 16 185 G σ [.ref a0, .int a1, .int a2] σf (some (.long rf)) := by
  refine con_of (by decide) (Nat.le_of_ble_eq_true rfl) ?_
  intro p e s m below meth c ls X hK hH hl hS
  have hx := X.1
  have hb := X.2.1
  have hml := X.2.2.2.1
  have hown : s.vm.findClass RX1 = some m.cls := X.2.2.2.2.1
  have hts := X.2.2.2.2.2.1
  have hl : lv_has ls 7 [(0, .ref a0), (1, .int a1), (2, .int a2)] := hl
  unfold f_X1_law at hf
  have L93 : ∀ (c0 : Nat) (c2 : Int32) (c3 : Nat) (t93 : SG) (n : Nat) (s93 : (Int64 × Int32)) (r93 : Int64), lp (f_X1_law_b93 N c0 c2 c3 t93) n s93 = some r93 → (∀ (ls : Array Slot) (H : Heap) (locs : List Loc), lv_has ls 7 [(4, .long r93)] → HH G t93 H → va_S (AG G) s.heap H locs → W p l e (rm_ 6 16 185) s m ([.ref a0, .int a1, .int a2] : List Value).toArray below meth c H locs 16 185 (MQ below (PostC G σf (some (.long rf))) ([.ref a0, .int a1, .int a2] : List Value).toArray s 16 185 (AG G)) (F0 m 135 ls [])) → ∀ (ls : Array Slot) (H : Heap) (locs : List Loc), lv_has ls 7 [(0, .ref c0), (2, .int c2), (3, .ref c3), (4, .long s93.1), (6, .int s93.2)] → HH G t93 H → va_S (AG G) s.heap H locs → W p l e (rm_ 6 16 185) s m ([.ref a0, .int a1, .int a2] : List Value).toArray below meth c H locs 16 185 (MQ below (PostC G σf (some (.long rf))) ([.ref a0, .int a1, .int a2] : List Value).toArray s 16 185 (AG G)) (F0 m 93 ls []) := by
    intro c0 c2 c3 t93 n s93 r93 hr hq
    refine lp_ind (P := fun s93 => ∀ (ls : Array Slot) (H : Heap) (locs : List Loc), lv_has ls 7 [(0, .ref c0), (2, .int c2), (3, .ref c3), (4, .long s93.1), (6, .int s93.2)] → HH G t93 H → va_S (AG G) s.heap H locs → W p l e (rm_ 6 16 185) s m ([.ref a0, .int a1, .int a2] : List Value).toArray below meth c H locs 16 185 (MQ below (PostC G σf (some (.long rf))) ([.ref a0, .int a1, .int a2] : List Value).toArray s 16 185 (AG G)) (F0 m 93 ls [])) (Q := fun r93 => ∀ (ls : Array Slot) (H : Heap) (locs : List Loc), lv_has ls 7 [(4, .long r93)] → HH G t93 H → va_S (AG G) s.heap H locs → W p l e (rm_ 6 16 185) s m ([.ref a0, .int a1, .int a2] : List Value).toArray below meth c H locs 16 185 (MQ below (PostC G σf (some (.long rf))) ([.ref a0, .int a1, .int a2] : List Value).toArray s 16 185 (AG G)) (F0 m 135 ls [])) ?_ n s93 r93 hr hq
    intro s93 x93 hf hx93 ls H locs hl hH hS
    unfold f_X1_law_b93 at hf
    refine lv_iload hx hb dX1_law_93 (lv_at hl 4 rfl) ?_
    refine lv_aload_n hx hb dX1_law_95 rfl (lv_at hl 2 rfl) ?_
    obtain ⟨v15, hv, hf⟩ := bd hf
    refine h_gI X hK hH fo_Code_1 hv q123 dX1_law_96 ?_
    refine lv_icmp_gt (tgt := 135) hx hb dX1_law_99 (by decide) (fun c_ => ?_) (fun c_ => ?_)
    · have hf := (if_pos c_).symm.trans hf
      cases hf
      exact hx93 _ _ _ (lv_sub hl [3] rfl) hH hS
    · have hf := (if_neg c_).symm.trans hf
      refine lv_lload hx hb dX1_law_102 (lv_at hl 3 rfl) ?_
      refine lv_aload_n hx hb dX1_law_104 rfl (lv_at hl 0 rfl) ?_
      obtain ⟨v16, hv, hf⟩ := bd hf
      refine h_gR X hK hH fo_X1_3 hv q652 dX1_law_105 ?_
      refine lv_iload hx hb dX1_law_108 (lv_at hl 4 rfl) ?_
      obtain ⟨v17, hv, hf⟩ := bd hf
      refine h_aL X hK hH hv dX1_law_110 ?_
      refine lv_aload_n hx hb dX1_law_111 rfl (lv_at hl 2 rfl) ?_
      obtain ⟨v18, hv, hf⟩ := bd hf
      refine h_gI X hK hH fo_Code_0 hv q116 dX1_law_112 ?_
      refine lv_aload_n hx hb dX1_law_115 rfl (lv_at hl 2 rfl) ?_
      obtain ⟨v19, hv, hf⟩ := bd hf
      refine h_gI X hK hH fo_Code_1 hv q123 dX1_law_116 ?_
      refine lv_iload_n hx hb dX1_law_119 rfl (lv_at hl 1 rfl) ?_
      refine lv_iload hx hb dX1_law_120 (lv_at hl 4 rfl) ?_
      obtain ⟨v20, hv, hf⟩ := bd hf
      refine c_S (As := [.int v18, .int v19, .int c2, .int s93.2]) (rest := [.long v17, .long s93.1]) (st1 := [.long v20, .long v17, .long s93.1]) X (met_X1_turned l G t93 N v18 v19 c2 s93.2 v20 hv) cs_X1_turned q991 rfl rfl rfl hl.1 (Nat.le_of_ble_eq_true rfl) ⟨Nat.le_of_ble_eq_true rfl, Nat.le_of_ble_eq_true rfl⟩ ⟨Nat.le_of_ble_eq_true rfl, Nat.le_of_ble_eq_true rfl⟩ dX1_law_122 hK hH hS (fun H locs hH hS => ?_)
      refine W.cs (cells' := 16) (slots' := 185) (by rfl) (by rfl) ?_
      refine lv_lmul hx hb dX1_law_125 ?_
      refine lv_ladd hx hb dX1_law_126 ?_
      refine lv_lstore (lv' := [(4, .long (s93.1 + (v17 * v20))), (0, .ref c0), (2, .int c2), (3, .ref c3), (6, .int s93.2)]) hx hb dX1_law_127 hl (by decide) rfl (fun ls hl => ?_)
      refine lv_iinc (v := (s93.2 + 1)) (lv' := [(6, .int (s93.2 + 1)), (4, .long (s93.1 + (v17 * v20))), (0, .ref c0), (2, .int c2), (3, .ref c3)]) hx hb dX1_law_129 hl (k := 4) rfl rfl (by decide) rfl (fun ls hl => ?_)
      refine lv_goto (tgt := 93) hx hb dX1_law_132 (by decide) ?_
      cases hf
      exact hx93 _ _ _ (lv_sub hl [2, 3, 4, 1, 0] rfl) hH hS
  refine lv_iload_n hx hb dX1_law_0 rfl (lv_at hl 1 rfl) ?_
  obtain ⟨v1, hv, hf⟩ := bd hf
  refine c_S (As := [.int a1]) (rest := []) (st1 := [.int v1]) X (met_X1_isPlace l G σ N a1 v1 hv) cs_X1_isPlace q82 rfl rfl rfl hl.1 (Nat.le_of_ble_eq_true rfl) ⟨Nat.le_of_ble_eq_true rfl, Nat.le_of_ble_eq_true rfl⟩ ⟨Nat.le_of_ble_eq_true rfl, Nat.le_of_ble_eq_true rfl⟩ dX1_law_1 hK hH hS (fun H locs hH hS => ?_)
  refine W.cs (cells' := 0) (slots' := 0) (by rfl) (by rfl) ?_
  refine lv_if_ne (tgt := 15) hx hb dX1_law_4 (by decide) (fun c_ => ?_) (fun c_ => ?_)
  · have hf := (if_neg c_).symm.trans hf
    refine lv_aload_n hx hb dX1_law_15 rfl (lv_at hl 0 rfl) ?_
    obtain ⟨v2, hv, hf⟩ := bd hf
    refine h_gR X hK hH fo_X1_0 hv q649 dX1_law_16 ?_
    refine lv_iload_n hx hb dX1_law_19 rfl (lv_at hl 1 rfl) ?_
    obtain ⟨v3, hv, hf⟩ := bd hf
    refine h_aQ (by decide) X hK hH hv dX1_law_20 ?_
    rcases v3 with _ | b4
    · dsimp only at hf
      refine lv_ifnonnullN hx hb dX1_law_21 ?_
      cases hf
    · dsimp only at hf
      refine lv_ifnonnull (tgt := 32) hx hb dX1_law_21 (by decide) ?_
      refine lv_iload_n hx hb dX1_law_32 rfl (lv_at hl 2 rfl) ?_
      refine lv_i2l (v := (a2).toInt64) hx hb dX1_law_33 rfl ?_
      refine lv_lconst (v := (0 : Int64)) hx hb dX1_law_34 (by decide) ?_
      refine lv_aload_n hx hb dX1_law_35 rfl (lv_at hl 0 rfl) ?_
      obtain ⟨v5, hv, hf⟩ := bd hf
      refine h_gR X hK hH fo_X1_0 hv q649 dX1_law_36 ?_
      refine lv_iload_n hx hb dX1_law_39 rfl (lv_at hl 1 rfl) ?_
      obtain ⟨v6, hv, hf⟩ := bd hf
      refine h_aQ (by decide) X hK hH hv dX1_law_40 ?_
      obtain ⟨b7, hq, hz⟩ := bd hf
      clear hf
      subst hq
      have hf := hz
      clear hz
      obtain ⟨v8, hv, hf⟩ := bd hf
      refine h_gI X hK hH fo_Code_1 hv q123 dX1_law_41 ?_
      refine lv_i2l (v := (v8).toInt64) hx hb dX1_law_44 rfl ?_
      obtain ⟨v9, hv, hf⟩ := bd hf
      refine c_S (As := [.long ((a2).toInt64), .long (0 : Int64), .long ((v8).toInt64)]) (rest := []) (st1 := [.int v9]) X (met_X1_isIn l G σ N ((a2).toInt64) (0 : Int64) ((v8).toInt64) v9 hv) cs_X1_isIn q86 rfl rfl rfl hl.1 (Nat.le_of_ble_eq_true rfl) ⟨Nat.le_of_ble_eq_true rfl, Nat.le_of_ble_eq_true rfl⟩ ⟨Nat.le_of_ble_eq_true rfl, Nat.le_of_ble_eq_true rfl⟩ dX1_law_45 hK hH hS (fun H locs hH hS => ?_)
      refine W.cs (cells' := 0) (slots' := 0) (by rfl) (by rfl) ?_
      refine lv_if_ne (tgt := 59) hx hb dX1_law_48 (by decide) (fun c_ => ?_) (fun c_ => ?_)
      · have hf := (if_neg c_).symm.trans hf
        refine lv_aload_n hx hb dX1_law_59 rfl (lv_at hl 0 rfl) ?_
        refine lv_iload_n hx hb dX1_law_60 rfl (lv_at hl 1 rfl) ?_
        obtain ⟨_, hw, hf⟩ := bd hf
        obtain ⟨v10, hv, hf⟩ := bd hf
        refine c_V (As := [.int a1]) (rest := []) (st1 := [.int v10.2]) X (met_X1_whyWords l G σ N a0 a1 v10.1 v10.2 hv) cv_X1_whyWords q419 (recv1 (w := (RX1, TX1, 6)) hw hK hH rfl) rfl rfl rfl hl.1 (Nat.le_of_ble_eq_true rfl) ⟨Nat.le_of_ble_eq_true rfl, Nat.le_of_ble_eq_true rfl⟩ ⟨Nat.le_of_ble_eq_true rfl, Nat.le_of_ble_eq_true rfl⟩ dX1_law_61 hK hH hS (fun H locs hH hS => ?_)
        refine W.cs (cells' := 16) (slots' := 185) (by rfl) (by rfl) ?_
        refine lv_if_eq (tgt := 75) hx hb dX1_law_64 (by decide) (fun c_ => ?_) (fun c_ => ?_)
        · have hf := (if_pos c_).symm.trans hf
          refine lv_aload_n hx hb dX1_law_75 rfl (lv_at hl 0 rfl) ?_
          obtain ⟨v11, hv, hf⟩ := bd hf
          refine h_gR X hK hH fo_X1_0 hv q649 dX1_law_76 ?_
          refine lv_iload_n hx hb dX1_law_79 rfl (lv_at hl 1 rfl) ?_
          obtain ⟨v12, hv, hf⟩ := bd hf
          refine h_aQ (by decide) X hK hH hv dX1_law_80 ?_
          refine q_astore_n (lv' := [(3, va_rf v12), (0, .ref a0), (1, .int a1), (2, .int a2)]) hx hb dX1_law_81 rfl hl (by decide) rfl (fun ls hl => ?_)
          refine lv_aload_n hx hb dX1_law_82 rfl (lv_at hl 1 rfl) ?_
          refine q_aload_n hx hb dX1_law_83 rfl (lv_at hl 0 rfl) ?_
          obtain ⟨b13, hq, hz⟩ := bd hf
          clear hf
          subst hq
          have hf := hz
          clear hz
          obtain ⟨_, hw, hf⟩ := bd hf
          obtain ⟨v14, hv, hf⟩ := bd hf
          refine c_V (As := [.ref b13]) (rest := []) (st1 := []) X (met_X1_counts l G v10.1 N a0 b13 v14 hv) cv_X1_counts q432 (recv1 (w := (RX1, TX1, 6)) hw hK hH rfl) rfl rfl rfl hl.1 (Nat.le_of_ble_eq_true rfl) ⟨Nat.le_of_ble_eq_true rfl, Nat.le_of_ble_eq_true rfl⟩ ⟨Nat.le_of_ble_eq_true rfl, Nat.le_of_ble_eq_true rfl⟩ dX1_law_84 hK hH hS (fun H locs hH hS => ?_)
          refine W.cs (cells' := 16) (slots' := 185) (by rfl) (by rfl) ?_
          refine lv_lconst (v := (0 : Int64)) hx hb dX1_law_87 (by decide) ?_
          refine lv_lstore (lv' := [(4, .long (0 : Int64)), (3, .ref b13), (0, .ref a0), (1, .int a1), (2, .int a2)]) hx hb dX1_law_88 hl (by decide) rfl (fun ls hl => ?_)
          refine lv_iconst (v := (0 : Int32)) hx hb dX1_law_90 (by decide) ?_
          refine lv_istore (lv' := [(6, .int (0 : Int32)), (4, .long (0 : Int64)), (3, .ref b13), (0, .ref a0), (1, .int a1), (2, .int a2)]) hx hb dX1_law_91 hl (by decide) rfl (fun ls hl => ?_)
          obtain ⟨r93_21, hr, hf⟩ := bd hf
          refine L93 a0 a2 b13 v14 N _ r93_21 hr ?_ _ _ _ (lv_sub hl [3, 5, 2, 1, 0] rfl) hH hS
          intro ls H locs hl hH hS
          refine lv_lload hx hb dX1_law_135 (lv_at hl 0 rfl) ?_
          cases hf
          exact r_lret X dX1_law_137 (Nat.le_of_ble_eq_true rfl) (Nat.le_of_ble_eq_true rfl) rfl hH hS
        · have hf := (if_neg c_).symm.trans hf
          cases hf
      · have hf := (if_pos c_).symm.trans hf
        cases hf
  · have hf := (if_pos c_).symm.trans hf
    cases hf
theorem cv_X1_leastOf : CalV "WordBench" yX1_leastOf cX1_leastOf 3 (some .int) 1 := ⟨q430, qs7, q48, q431, by decide +kernel⟩
set_option maxHeartbeats 4000000 in
theorem met_X1_leastOf (l : Launch) (G : GG) (σ : SG) (N : Nat) (a0 : Nat) (a1 : Nat) (σf : SG) (rf : Int32) (hf : f_X1_leastOf N σ a0 a1 = some (σf, rf)) : Con l yX1_leastOf cX1_leastOf 3 (some .int) 2 0 0 G σ [.ref a0, .ref a1] σf (some (.int rf)) := by
  refine con_of (by decide) (Nat.le_of_ble_eq_true rfl) ?_
  intro p e s m below meth c ls X hK hH hl hS
  have hx := X.1
  have hb := X.2.1
  have hml := X.2.2.2.1
  have hown : s.vm.findClass RX1 = some m.cls := X.2.2.2.2.1
  have hts := X.2.2.2.2.2.1
  have hl : lv_has ls 3 [(0, .ref a0), (1, .ref a1)] := hl
  unfold f_X1_leastOf at hf
  have L7 : ∀ (c0 : Nat) (c1 : Nat) (t7 : SG) (n : Nat) (s7 : Int32) (r7 : (Int32 ⊕ Unit)), lp (f_X1_leastOf_b7 N c0 c1 t7) n s7 = some r7 → (match r7 with | .inl e7 => (∀ (ls : Array Slot) (H : Heap) (locs : List Loc), lv_has ls 3 [(2, .int e7)] → HH G t7 H → va_S (AG G) s.heap H locs → W p l e (rm_ 2 0 0) s m ([.ref a0, .ref a1] : List Value).toArray below meth c H locs 0 0 (MQ below (PostC G σf (some (.int rf))) ([.ref a0, .ref a1] : List Value).toArray s 0 0 (AG G)) (F0 m 26 ls [])) | .inr e7 => (∀ (ls : Array Slot) (H : Heap) (locs : List Loc), lv_has ls 3 [] → HH G t7 H → va_S (AG G) s.heap H locs → W p l e (rm_ 2 0 0) s m ([.ref a0, .ref a1] : List Value).toArray below meth c H locs 0 0 (MQ below (PostC G σf (some (.int rf))) ([.ref a0, .ref a1] : List Value).toArray s 0 0 (AG G)) (F0 m 34 ls []))) → ∀ (ls : Array Slot) (H : Heap) (locs : List Loc), lv_has ls 3 [(0, .ref c0), (1, .ref c1), (2, .int s7)] → HH G t7 H → va_S (AG G) s.heap H locs → W p l e (rm_ 2 0 0) s m ([.ref a0, .ref a1] : List Value).toArray below meth c H locs 0 0 (MQ below (PostC G σf (some (.int rf))) ([.ref a0, .ref a1] : List Value).toArray s 0 0 (AG G)) (F0 m 7 ls []) := by
    intro c0 c1 t7 n s7 r7 hr hq
    refine lp_ind (P := fun s7 => ∀ (ls : Array Slot) (H : Heap) (locs : List Loc), lv_has ls 3 [(0, .ref c0), (1, .ref c1), (2, .int s7)] → HH G t7 H → va_S (AG G) s.heap H locs → W p l e (rm_ 2 0 0) s m ([.ref a0, .ref a1] : List Value).toArray below meth c H locs 0 0 (MQ below (PostC G σf (some (.int rf))) ([.ref a0, .ref a1] : List Value).toArray s 0 0 (AG G)) (F0 m 7 ls [])) (Q := fun r7 => match r7 with | .inl e7 => (∀ (ls : Array Slot) (H : Heap) (locs : List Loc), lv_has ls 3 [(2, .int e7)] → HH G t7 H → va_S (AG G) s.heap H locs → W p l e (rm_ 2 0 0) s m ([.ref a0, .ref a1] : List Value).toArray below meth c H locs 0 0 (MQ below (PostC G σf (some (.int rf))) ([.ref a0, .ref a1] : List Value).toArray s 0 0 (AG G)) (F0 m 26 ls [])) | .inr e7 => (∀ (ls : Array Slot) (H : Heap) (locs : List Loc), lv_has ls 3 [] → HH G t7 H → va_S (AG G) s.heap H locs → W p l e (rm_ 2 0 0) s m ([.ref a0, .ref a1] : List Value).toArray below meth c H locs 0 0 (MQ below (PostC G σf (some (.int rf))) ([.ref a0, .ref a1] : List Value).toArray s 0 0 (AG G)) (F0 m 34 ls []))) ?_ n s7 r7 hr hq
    intro s7 x7 hf hx7 ls H locs hl hH hS
    unfold f_X1_leastOf_b7 at hf
    refine lv_iload_n hx hb dX1_leastOf_7 rfl (lv_at hl 2 rfl) ?_
    refine lv_aload_n hx hb dX1_leastOf_8 rfl (lv_at hl 1 rfl) ?_
    obtain ⟨v2, hv, hf⟩ := bd hf
    refine h_gI X hK hH fo_Code_1 hv q123 dX1_leastOf_9 ?_
    refine lv_icmp_gt (tgt := 34) hx hb dX1_leastOf_12 (by decide) (fun c_ => ?_) (fun c_ => ?_)
    · have hf := (if_pos c_).symm.trans hf
      cases hf
      exact hx7 _ _ _ (lv_sub hl [] rfl) hH hS
    · have hf := (if_neg c_).symm.trans hf
      refine lv_aload_n hx hb dX1_leastOf_15 rfl (lv_at hl 0 rfl) ?_
      obtain ⟨v3, hv, hf⟩ := bd hf
      refine h_gR X hK hH fo_X1_3 hv q652 dX1_leastOf_16 ?_
      refine lv_iload_n hx hb dX1_leastOf_19 rfl (lv_at hl 2 rfl) ?_
      obtain ⟨v4, hv, hf⟩ := bd hf
      refine h_aL X hK hH hv dX1_leastOf_20 ?_
      refine lv_lconst (v := (0 : Int64)) hx hb dX1_leastOf_21 (by decide) ?_
      refine W.lcmp hx hb dX1_leastOf_22 ?_
      refine lv_if_eq (tgt := 28) hx hb dX1_leastOf_23 (by decide) (fun c_ => ?_) (fun c_ => ?_)
      · have hf := (if_pos ((lg_cmp_eq v4 (0 : Int64)).mp c_)).symm.trans hf
        refine lv_iinc (v := (s7 + 1)) (lv' := [(2, .int (s7 + 1)), (0, .ref c0), (1, .ref c1)]) hx hb dX1_leastOf_28 hl (k := 2) rfl rfl (by decide) rfl (fun ls hl => ?_)
        refine lv_goto (tgt := 7) hx hb dX1_leastOf_31 (by decide) ?_
        cases hf
        exact hx7 _ _ _ (lv_sub hl [1, 2, 0] rfl) hH hS
      · have hf := (if_neg (fun z => c_ ((lg_cmp_eq v4 (0 : Int64)).mpr z))).symm.trans hf
        cases hf
        exact hx7 _ _ _ (lv_sub hl [2] rfl) hH hS
  refine lv_aload_n hx hb dX1_leastOf_0 rfl (lv_at hl 0 rfl) ?_
  refine lv_aload_n hx hb dX1_leastOf_1 rfl (lv_at hl 1 rfl) ?_
  obtain ⟨_, hw, hf⟩ := bd hf
  obtain ⟨v1, hv, hf⟩ := bd hf
  refine c_V (As := [.ref a1]) (rest := []) (st1 := []) X (met_X1_counts l G σ N a0 a1 v1 hv) cv_X1_counts q432 (recv1 (w := (RX1, TX1, 6)) hw hK hH rfl) rfl rfl rfl hl.1 (Nat.le_of_ble_eq_true rfl) ⟨Nat.le_of_ble_eq_true rfl, Nat.le_of_ble_eq_true rfl⟩ ⟨Nat.le_of_ble_eq_true rfl, Nat.le_of_ble_eq_true rfl⟩ dX1_leastOf_2 hK hH hS (fun H locs hH hS => ?_)
  refine W.cs (cells' := 0) (slots' := 0) (by rfl) (by rfl) ?_
  refine lv_iconst (v := (1 : Int32)) hx hb dX1_leastOf_5 (by decide) ?_
  refine lv_istore_n (lv' := [(2, .int (1 : Int32)), (0, .ref a0), (1, .ref a1)]) hx hb dX1_leastOf_6 rfl hl (by decide) rfl (fun ls hl => ?_)
  obtain ⟨r7_5, hr, hf⟩ := bd hf
  refine L7 a0 a1 v1 N _ r7_5 hr ?_ _ _ _ (lv_sub hl [1, 2, 0] rfl) hH hS
  rcases r7_5 with r7_5 | r7_5
  · intro ls H locs hl hH hS
    dsimp only at hf
    refine lv_iload_n hx hb dX1_leastOf_26 rfl (lv_at hl 0 rfl) ?_
    cases hf
    exact r_iret X dX1_leastOf_27 (Nat.le_of_ble_eq_true rfl) (Nat.le_of_ble_eq_true rfl) rfl hH hS
  · intro ls H locs hl hH hS
    dsimp only at hf
    refine lv_iconst (v := (0 : Int32)) hx hb dX1_leastOf_34 (by decide) ?_
    cases hf
    exact r_iret X dX1_leastOf_35 (Nat.le_of_ble_eq_true rfl) (Nat.le_of_ble_eq_true rfl) rfl hH hS
theorem cv_X1_least : CalV "WordBench" yX1_least cX1_least 3 (some .int) 1 := ⟨q416, q417, q48, q418, by decide +kernel⟩
set_option maxHeartbeats 4000000 in
theorem met_X1_least (l : Launch) (G : GG) (σ : SG) (N : Nat) (a0 : Nat) (a1 : Int32) (σf : SG) (rf : Int32) (hf : f_X1_least N σ a0 a1 = some (σf, rf)) : Con l yX1_least cX1_least 3 (some .int) 6 16 185 G σ [.ref a0, .int a1] σf (some (.int rf)) := by
  refine con_of (by decide) (Nat.le_of_ble_eq_true rfl) ?_
  intro p e s m below meth c ls X hK hH hl hS
  have hx := X.1
  have hb := X.2.1
  have hml := X.2.2.2.1
  have hown : s.vm.findClass RX1 = some m.cls := X.2.2.2.2.1
  have hts := X.2.2.2.2.2.1
  have hl : lv_has ls 3 [(0, .ref a0), (1, .int a1)] := hl
  unfold f_X1_least at hf
  refine lv_aload_n hx hb dX1_least_0 rfl (lv_at hl 0 rfl) ?_
  refine lv_iload_n hx hb dX1_least_1 rfl (lv_at hl 1 rfl) ?_
  obtain ⟨_, hw, hf⟩ := bd hf
  obtain ⟨v1, hv, hf⟩ := bd hf
  refine c_V (As := [.int a1]) (rest := []) (st1 := [.int v1.2]) X (met_X1_whyWords l G σ N a0 a1 v1.1 v1.2 hv) cv_X1_whyWords q419 (recv1 (w := (RX1, TX1, 6)) hw hK hH rfl) rfl rfl rfl hl.1 (Nat.le_of_ble_eq_true rfl) ⟨Nat.le_of_ble_eq_true rfl, Nat.le_of_ble_eq_true rfl⟩ ⟨Nat.le_of_ble_eq_true rfl, Nat.le_of_ble_eq_true rfl⟩ dX1_least_2 hK hH hS (fun H locs hH hS => ?_)
  refine W.cs (cells' := 16) (slots' := 185) (by rfl) (by rfl) ?_
  refine lv_istore_n (lv' := [(2, .int v1.2), (0, .ref a0), (1, .int a1)]) hx hb dX1_least_5 rfl hl (by decide) rfl (fun ls hl => ?_)
  refine lv_iload_n hx hb dX1_least_6 rfl (lv_at hl 0 rfl) ?_
  refine lv_if_eq (tgt := 14) hx hb dX1_least_7 (by decide) (fun c_ => ?_) (fun c_ => ?_)
  · have hf := (if_pos c_).symm.trans hf
    refine lv_aload_n hx hb dX1_least_14 rfl (lv_at hl 1 rfl) ?_
    refine lv_aload_n hx hb dX1_least_15 rfl (lv_at hl 1 rfl) ?_
    obtain ⟨v2, hv, hf⟩ := bd hf
    refine h_gR X hK hH fo_X1_0 hv q649 dX1_least_16 ?_
    refine lv_iload_n hx hb dX1_least_19 rfl (lv_at hl 2 rfl) ?_
    obtain ⟨v3, hv, hf⟩ := bd hf
    refine h_aQ (by decide) X hK hH hv dX1_least_20 ?_
    obtain ⟨b4, hq, hz⟩ := bd hf
    clear hf
    subst hq
    have hf := hz
    clear hz
    obtain ⟨_, hw, hf⟩ := bd hf
    obtain ⟨v5, hv, hf⟩ := bd hf
    refine c_V (As := [.ref b4]) (rest := []) (st1 := [.int v5.2]) X (met_X1_leastOf l G v1.1 N a0 b4 v5.1 v5.2 hv) cv_X1_leastOf q428 (recv1 (w := (RX1, TX1, 6)) hw hK hH rfl) rfl rfl rfl hl.1 (Nat.le_of_ble_eq_true rfl) ⟨Nat.le_of_ble_eq_true rfl, Nat.le_of_ble_eq_true rfl⟩ ⟨Nat.le_of_ble_eq_true rfl, Nat.le_of_ble_eq_true rfl⟩ dX1_least_21 hK hH hS (fun H locs hH hS => ?_)
    refine W.cs (cells' := 16) (slots' := 185) (by rfl) (by rfl) ?_
    cases hf
    exact r_iret X dX1_least_24 (Nat.le_of_ble_eq_true rfl) (Nat.le_of_ble_eq_true rfl) rfl hH hS
  · have hf := (if_neg c_).symm.trans hf
    refine lv_iload_n hx hb dX1_least_10 rfl (lv_at hl 0 rfl) ?_
    refine lv_goto (tgt := 24) hx hb dX1_least_11 (by decide) ?_
    cases hf
    exact r_iret X dX1_least_24 (Nat.le_of_ble_eq_true rfl) (Nat.le_of_ble_eq_true rfl) rfl hH hS
theorem cv_X1_list : CalV "WordBench" yX1_list cX1_list 6 (some .int) 2 := ⟨q522, q523, q48, q524, by decide +kernel⟩
set_option maxHeartbeats 4000000 in
theorem met_X1_list (l : Launch) (G : GG) (σ : SG) (N : Nat) (a0 : Nat) (a1 : Int32) (a2 : Int32) (σf : SG) (rf : Int32) (hf : f_X1_list N σ a0 a1 a2 = some (σf, rf)) : Con l yX1_list cX1_list 6 (some .int) 6 18 389 G σ [.ref a0, .int a1, .int a2] σf (some (.int rf)) := by
  refine con_of (by decide) (Nat.le_of_ble_eq_true rfl) ?_
  intro p e s m below meth c ls X hK hH hl hS
  have hx := X.1
  have hb := X.2.1
  have hml := X.2.2.2.1
  have hown : s.vm.findClass RX1 = some m.cls := X.2.2.2.2.1
  have hts := X.2.2.2.2.2.1
  have hl : lv_has ls 6 [(0, .ref a0), (1, .int a1), (2, .int a2)] := hl
  unfold f_X1_list at hf
  have L82 : ∀ (c0 : Nat) (c2 : Int32) (c4 : Nat) (n : Nat) (s82 : (Int32 × SG)) (r82 : SG), lp (f_X1_list_b82 N c0 c2 c4) n s82 = some r82 → (∀ (ls : Array Slot) (H : Heap) (locs : List Loc), lv_has ls 6 [(0, .ref c0), (2, .int c2), (4, .ref c4)] → HH G r82 H → va_S (AG G) s.heap H locs → W p l e (rm_ 6 18 389) s m ([.ref a0, .int a1, .int a2] : List Value).toArray below meth c H locs 18 389 (MQ below (PostC G σf (some (.int rf))) ([.ref a0, .int a1, .int a2] : List Value).toArray s 18 389 (AG G)) (F0 m 109 ls [])) → ∀ (ls : Array Slot) (H : Heap) (locs : List Loc), lv_has ls 6 [(0, .ref c0), (2, .int c2), (4, .ref c4), (5, .int s82.1)] → HH G s82.2 H → va_S (AG G) s.heap H locs → W p l e (rm_ 6 18 389) s m ([.ref a0, .int a1, .int a2] : List Value).toArray below meth c H locs 18 389 (MQ below (PostC G σf (some (.int rf))) ([.ref a0, .int a1, .int a2] : List Value).toArray s 18 389 (AG G)) (F0 m 82 ls []) := by
    intro c0 c2 c4 n s82 r82 hr hq
    refine lp_ind (P := fun s82 => ∀ (ls : Array Slot) (H : Heap) (locs : List Loc), lv_has ls 6 [(0, .ref c0), (2, .int c2), (4, .ref c4), (5, .int s82.1)] → HH G s82.2 H → va_S (AG G) s.heap H locs → W p l e (rm_ 6 18 389) s m ([.ref a0, .int a1, .int a2] : List Value).toArray below meth c H locs 18 389 (MQ below (PostC G σf (some (.int rf))) ([.ref a0, .int a1, .int a2] : List Value).toArray s 18 389 (AG G)) (F0 m 82 ls [])) (Q := fun r82 => ∀ (ls : Array Slot) (H : Heap) (locs : List Loc), lv_has ls 6 [(0, .ref c0), (2, .int c2), (4, .ref c4)] → HH G r82 H → va_S (AG G) s.heap H locs → W p l e (rm_ 6 18 389) s m ([.ref a0, .int a1, .int a2] : List Value).toArray below meth c H locs 18 389 (MQ below (PostC G σf (some (.int rf))) ([.ref a0, .int a1, .int a2] : List Value).toArray s 18 389 (AG G)) (F0 m 109 ls [])) ?_ n s82 r82 hr hq
    intro s82 x82 hf hx82 ls H locs hl hH hS
    unfold f_X1_list_b82 at hf
    refine lv_iload hx hb dX1_list_82 (lv_at hl 3 rfl) ?_
    refine lv_aload_n hx hb dX1_list_84 rfl (lv_at hl 0 rfl) ?_
    obtain ⟨v15, hv, hf⟩ := bd hf
    refine h_gI X hK hH fo_X1_2 hv q651 dX1_list_85 ?_
    refine lv_icmp_ge (tgt := 109) hx hb dX1_list_88 (by decide) (fun c_ => ?_) (fun c_ => ?_)
    · have hf := (if_pos c_).symm.trans hf
      cases hf
      exact hx82 _ _ _ (lv_sub hl [0, 1, 2] rfl) hH hS
    · have hf := (if_neg c_).symm.trans hf
      refine lv_aload hx hb dX1_list_91 (lv_at hl 2 rfl) ?_
      refine lv_aload_n hx hb dX1_list_93 rfl (lv_at hl 0 rfl) ?_
      obtain ⟨v16, hv, hf⟩ := bd hf
      refine h_gR X hK hH fo_X1_1 hv q650 dX1_list_94 ?_
      refine lv_iload hx hb dX1_list_97 (lv_at hl 3 rfl) ?_
      obtain ⟨v17, hv, hf⟩ := bd hf
      refine h_aL X hK hH hv dX1_list_99 ?_
      obtain ⟨v18, hv, hf⟩ := bd hf
      refine dr_X4_add N (rest := []) (st1 := []) X q222 hv rfl rfl hl.1 (Nat.le_of_ble_eq_true rfl) ⟨Nat.le_of_ble_eq_true rfl, Nat.le_of_ble_eq_true rfl⟩ ⟨Nat.le_of_ble_eq_true rfl, Nat.le_of_ble_eq_true rfl⟩ dX1_list_100 hK hH hS (fun H locs hH hS => ?_)
      refine W.cs (cells' := 18) (slots' := 389) (by rfl) (by rfl) ?_
      refine lv_iinc (v := (s82.1 + 1)) (lv' := [(5, .int (s82.1 + 1)), (0, .ref c0), (2, .int c2), (4, .ref c4)]) hx hb dX1_list_103 hl (k := 3) rfl rfl (by decide) rfl (fun ls hl => ?_)
      refine lv_goto (tgt := 82) hx hb dX1_list_106 (by decide) ?_
      cases hf
      exact hx82 _ _ _ (lv_sub hl [1, 2, 3, 0] rfl) hH hS
  have J33 : ∀ (d0 : Nat) (d1 : Int32) (d2 : Int32) (d3 : Int32) (u33 : SG), f_X1_list_j33 N d0 d1 d2 d3 u33 = some (σf, rf) → ∀ (ls : Array Slot) (H : Heap) (locs : List Loc), lv_has ls 6 [(0, .ref d0), (1, .int d1), (2, .int d2), (3, .int d3)] → HH G u33 H → va_S (AG G) s.heap H locs → W p l e (rm_ 6 18 389) s m ([.ref a0, .int a1, .int a2] : List Value).toArray below meth c H locs 16 185 (MQ below (PostC G σf (some (.int rf))) ([.ref a0, .int a1, .int a2] : List Value).toArray s 18 389 (AG G)) (F0 m 33 ls []) := by
    intro d0 d1 d2 d3 u33 hf ls H locs hl hH hS
    unfold f_X1_list_j33 at hf
    refine lv_iload_n hx hb dX1_list_33 rfl (lv_at hl 3 rfl) ?_
    refine lv_if_eq (tgt := 39) hx hb dX1_list_34 (by decide) (fun c_ => ?_) (fun c_ => ?_)
    · have hf := (if_pos c_).symm.trans hf
      refine lv_aload_n hx hb dX1_list_39 rfl (lv_at hl 0 rfl) ?_
      obtain ⟨v4, hv, hf⟩ := bd hf
      refine h_gI X hK hH fo_X1_2 hv q651 dX1_list_40 ?_
      refine lv_sipush (v := (200 : Int32)) hx hb dX1_list_43 (by decide) ?_
      refine lv_icmp_le (tgt := 52) hx hb dX1_list_46 (by decide) (fun c_ => ?_) (fun c_ => ?_)
      · have hf := (if_pos c_).symm.trans hf
        obtain ⟨t5, hv, hf⟩ := bd hf
        refine h_new (ci := 3) (fs := [.int 0, .int 0, .null, .int 0]) X hK hH hS tyX5 tyX5_ok in_X5 rfl q95 q96 q59 df_X5 (Nat.le_of_ble_eq_true rfl) (Nat.le_of_ble_eq_true rfl) dX1_list_52 (fun H hH hS => ?_)
        rw [Option.some.inj hv] at hH
        refine W.cs (cells' := 17) (slots' := 189) (by rfl) (by rfl) ?_
        refine lv_dup hx hb dX1_list_55 rfl ?_
        refine lv_aload_n hx hb dX1_list_56 rfl (lv_at hl 0 rfl) ?_
        obtain ⟨v6, hv, hf⟩ := bd hf
        refine h_gR X hK hH fo_X1_0 hv q649 dX1_list_57 ?_
        refine lv_iload_n hx hb dX1_list_60 rfl (lv_at hl 1 rfl) ?_
        obtain ⟨v7, hv, hf⟩ := bd hf
        refine h_aQ (by decide) X hK hH hv dX1_list_61 ?_
        obtain ⟨b8, hq, hz⟩ := bd hf
        clear hf
        subst hq
        have hf := hz
        clear hz
        obtain ⟨v9, hv, hf⟩ := bd hf
        refine h_gI X hK hH fo_Code_0 hv q116 dX1_list_62 ?_
        refine lv_aload_n hx hb dX1_list_65 rfl (lv_at hl 0 rfl) ?_
        obtain ⟨v10, hv, hf⟩ := bd hf
        refine h_gR X hK hH fo_X1_0 hv q649 dX1_list_66 ?_
        refine lv_iload_n hx hb dX1_list_69 rfl (lv_at hl 1 rfl) ?_
        obtain ⟨v11, hv, hf⟩ := bd hf
        refine h_aQ (by decide) X hK hH hv dX1_list_70 ?_
        obtain ⟨b12, hq, hz⟩ := bd hf
        clear hf
        subst hq
        have hf := hz
        clear hz
        obtain ⟨v13, hv, hf⟩ := bd hf
        refine h_gI X hK hH fo_Code_1 hv q123 dX1_list_71 ?_
        obtain ⟨v14, hv, hf⟩ := bd hf
        refine r_I (As := [.int v9, .int v13]) (rest := [.ref ((u33).1)]) X (met_X5_init l G t5 N ((u33).1) v9 v13 v14 hv) ci_X5_init q97 rfl rfl hl.1 (Nat.le_of_ble_eq_true rfl) ⟨Nat.le_of_ble_eq_true rfl, Nat.le_of_ble_eq_true rfl⟩ ⟨Nat.le_of_ble_eq_true rfl, Nat.le_of_ble_eq_true rfl⟩ dX1_list_74 hK hH hS (fun H locs hH hS => ?_)
        refine W.cs (cells' := 18) (slots' := 389) (by rfl) (by rfl) ?_
        refine lv_astore (lv' := [(4, .ref ((u33).1)), (0, .ref d0), (1, .int d1), (2, .int d2), (3, .int d3)]) hx hb dX1_list_77 hl (by decide) rfl (fun ls hl => ?_)
        refine lv_iconst (v := (0 : Int32)) hx hb dX1_list_79 (by decide) ?_
        refine lv_istore (lv' := [(5, .int (0 : Int32)), (4, .ref ((u33).1)), (0, .ref d0), (1, .int d1), (2, .int d2), (3, .int d3)]) hx hb dX1_list_80 hl (by decide) rfl (fun ls hl => ?_)
        obtain ⟨r82_19, hr, hf⟩ := bd hf
        refine L82 d0 d2 ((u33).1) N _ r82_19 hr ?_ _ _ _ (lv_sub hl [2, 4, 1, 0] rfl) hH hS
        intro ls H locs hl hH hS
        refine lv_aload_n hx hb dX1_list_109 rfl (lv_at hl 0 rfl) ?_
        refine lv_iload_n hx hb dX1_list_110 rfl (lv_at hl 1 rfl) ?_
        refine lv_aload hx hb dX1_list_111 (lv_at hl 2 rfl) ?_
        obtain ⟨_, hw, hf⟩ := bd hf
        obtain ⟨v20, hv, hf⟩ := bd hf
        refine c_V (As := [.int d2, .ref ((u33).1)]) (rest := []) (st1 := [.int v20.2]) X (met_X1_puts l G r82_19 N d0 d2 ((u33).1) v20.1 v20.2 hv) cv_X1_puts q174 (recv1 (w := (RX1, TX1, 6)) hw hK hH rfl) rfl rfl rfl hl.1 (Nat.le_of_ble_eq_true rfl) ⟨Nat.le_of_ble_eq_true rfl, Nat.le_of_ble_eq_true rfl⟩ ⟨Nat.le_of_ble_eq_true rfl, Nat.le_of_ble_eq_true rfl⟩ dX1_list_113 hK hH hS (fun H locs hH hS => ?_)
        refine W.cs (cells' := 18) (slots' := 389) (by rfl) (by rfl) ?_
        cases hf
        exact r_iret X dX1_list_116 (Nat.le_of_ble_eq_true rfl) (Nat.le_of_ble_eq_true rfl) rfl hH hS
      · have hf := (if_neg c_).symm.trans hf
        refine lv_bipush (v := (-6 : Int32)) hx hb dX1_list_49 (by decide) ?_
        cases hf
        exact r_iret X dX1_list_51 (Nat.le_of_ble_eq_true rfl) (Nat.le_of_ble_eq_true rfl) rfl hH hS
    · have hf := (if_neg c_).symm.trans hf
      refine lv_iload_n hx hb dX1_list_37 rfl (lv_at hl 3 rfl) ?_
      cases hf
      exact r_iret X dX1_list_38 (Nat.le_of_ble_eq_true rfl) (Nat.le_of_ble_eq_true rfl) rfl hH hS
  refine lv_iload_n hx hb dX1_list_0 rfl (lv_at hl 1 rfl) ?_
  obtain ⟨v1, hv, hf⟩ := bd hf
  refine c_S (As := [.int a1]) (rest := []) (st1 := [.int v1]) X (met_X1_isPlace l G σ N a1 v1 hv) cs_X1_isPlace q82 rfl rfl rfl hl.1 (Nat.le_of_ble_eq_true rfl) ⟨Nat.le_of_ble_eq_true rfl, Nat.le_of_ble_eq_true rfl⟩ ⟨Nat.le_of_ble_eq_true rfl, Nat.le_of_ble_eq_true rfl⟩ dX1_list_1 hK hH hS (fun H locs hH hS => ?_)
  refine W.cs (cells' := 0) (slots' := 0) (by rfl) (by rfl) ?_
  refine lv_if_eq (tgt := 14) hx hb dX1_list_4 (by decide) (fun c_ => ?_) (fun c_ => ?_)
  · have hf := (if_pos c_).symm.trans hf
    refine lv_iconst (v := (-1 : Int32)) hx hb dX1_list_14 (by decide) ?_
    cases hf
    exact r_iret X dX1_list_15 (Nat.le_of_ble_eq_true rfl) (Nat.le_of_ble_eq_true rfl) rfl hH hS
  · have hf := (if_neg c_).symm.trans hf
    refine lv_iload_n hx hb dX1_list_7 rfl (lv_at hl 2 rfl) ?_
    obtain ⟨v2, hv, hf⟩ := bd hf
    refine c_S (As := [.int a2]) (rest := []) (st1 := [.int v2]) X (met_X1_isPlace l G σ N a2 v2 hv) cs_X1_isPlace q82 rfl rfl rfl hl.1 (Nat.le_of_ble_eq_true rfl) ⟨Nat.le_of_ble_eq_true rfl, Nat.le_of_ble_eq_true rfl⟩ ⟨Nat.le_of_ble_eq_true rfl, Nat.le_of_ble_eq_true rfl⟩ dX1_list_8 hK hH hS (fun H locs hH hS => ?_)
    refine W.cs (cells' := 0) (slots' := 0) (by rfl) (by rfl) ?_
    refine lv_if_ne (tgt := 16) hx hb dX1_list_11 (by decide) (fun c_ => ?_) (fun c_ => ?_)
    · have hf := (if_neg c_).symm.trans hf
      refine lv_aload_n hx hb dX1_list_16 rfl (lv_at hl 0 rfl) ?_
      refine lv_iload_n hx hb dX1_list_17 rfl (lv_at hl 1 rfl) ?_
      refine lv_iconst (v := (1 : Int32)) hx hb dX1_list_18 (by decide) ?_
      obtain ⟨_, hw, hf⟩ := bd hf
      obtain ⟨v3, hv, hf⟩ := bd hf
      refine c_V (As := [.int a1, .int (1 : Int32)]) (rest := []) (st1 := [.int v3]) X (met_X1_asks l G σ N a0 a1 (1 : Int32) v3 hv) cv_X1_asks q183 (recv1 (w := (RX1, TX1, 6)) hw hK hH rfl) rfl rfl rfl hl.1 (Nat.le_of_ble_eq_true rfl) ⟨Nat.le_of_ble_eq_true rfl, Nat.le_of_ble_eq_true rfl⟩ ⟨Nat.le_of_ble_eq_true rfl, Nat.le_of_ble_eq_true rfl⟩ dX1_list_19 hK hH hS (fun H locs hH hS => ?_)
      refine W.cs (cells' := 0) (slots' := 0) (by rfl) (by rfl) ?_
      refine lv_istore_n (lv' := [(3, .int v3), (0, .ref a0), (1, .int a1), (2, .int a2)]) hx hb dX1_list_22 rfl hl (by decide) rfl (fun ls hl => ?_)
      refine lv_iload_n hx hb dX1_list_23 rfl (lv_at hl 0 rfl) ?_
      refine lv_if_ne (tgt := 33) hx hb dX1_list_24 (by decide) (fun c_ => ?_) (fun c_ => ?_)
      · have hf := (if_neg c_).symm.trans hf
        refine W.widen (k := 16) (n := 185) (Nat.le_of_ble_eq_true rfl) (Nat.le_of_ble_eq_true rfl) ?_
        exact J33 a0 a1 a2 v3 σ hf _ _ _ (lv_sub hl [1, 2, 3, 0] rfl) hH hS
      · have hf := (if_pos c_).symm.trans hf
        refine lv_aload_n hx hb dX1_list_27 rfl (lv_at hl 1 rfl) ?_
        refine lv_iload_n hx hb dX1_list_28 rfl (lv_at hl 2 rfl) ?_
        obtain ⟨_, hw, hf⟩ := bd hf
        obtain ⟨v21, hv, hf⟩ := bd hf
        refine c_V (As := [.int a1]) (rest := []) (st1 := [.int v21.2]) X (met_X1_whyWords l G σ N a0 a1 v21.1 v21.2 hv) cv_X1_whyWords q419 (recv1 (w := (RX1, TX1, 6)) hw hK hH rfl) rfl rfl rfl hl.1 (Nat.le_of_ble_eq_true rfl) ⟨Nat.le_of_ble_eq_true rfl, Nat.le_of_ble_eq_true rfl⟩ ⟨Nat.le_of_ble_eq_true rfl, Nat.le_of_ble_eq_true rfl⟩ dX1_list_29 hK hH hS (fun H locs hH hS => ?_)
        refine W.cs (cells' := 16) (slots' := 185) (by rfl) (by rfl) ?_
        refine lv_istore_n (lv' := [(3, .int v21.2), (0, .ref a0), (1, .int a1), (2, .int a2)]) hx hb dX1_list_32 rfl hl (by decide) rfl (fun ls hl => ?_)
        exact J33 a0 a1 a2 v21.2 v21.1 hf _ _ _ (lv_sub hl [1, 2, 3, 0] rfl) hH hS
    · have hf := (if_pos c_).symm.trans hf
      refine lv_iconst (v := (-1 : Int32)) hx hb dX1_list_14 (by decide) ?_
      cases hf
      exact r_iret X dX1_list_15 (Nat.le_of_ble_eq_true rfl) (Nat.le_of_ble_eq_true rfl) rfl hH hS
theorem cv_X1_longer : CalV "WordBench" yX1_longer cX1_longer 9 (some .int) 2 := ⟨q489, q490, q48, q491, by decide +kernel⟩
set_option maxHeartbeats 4000000 in
theorem met_X1_longer (l : Launch) (G : GG) (σ : SG) (N : Nat) (a0 : Nat) (a1 : Int32) (a2 : Int32) (σf : SG) (rf : Int32) (hf : f_X1_longer N σ a0 a1 a2 = some (σf, rf)) : Con l yX1_longer cX1_longer 9 (some .int) 4 2 204 G σ [.ref a0, .int a1, .int a2] σf (some (.int rf)) := by
  refine con_of (by decide) (Nat.le_of_ble_eq_true rfl) ?_
  intro p e s m below meth c ls X hK hH hl hS
  have hx := X.1
  have hb := X.2.1
  have hml := X.2.2.2.1
  have hown : s.vm.findClass RX1 = some m.cls := X.2.2.2.2.1
  have hts := X.2.2.2.2.2.1
  have hl : lv_has ls 9 [(0, .ref a0), (1, .int a1), (2, .int a2)] := hl
  unfold f_X1_longer at hf
  have L67 : ∀ (c0 : Nat) (c2 : Int32) (c4 : Nat) (c5 : Nat) (n : Nat) (s67 : (Int32 × SG)) (r67 : SG), lp (f_X1_longer_b67 N c0 c2 c4 c5) n s67 = some r67 → (∀ (ls : Array Slot) (H : Heap) (locs : List Loc), lv_has ls 9 [(0, .ref c0), (2, .int c2), (5, .ref c5)] → HH G r67 H → va_S (AG G) s.heap H locs → W p l e (rm_ 4 2 204) s m ([.ref a0, .int a1, .int a2] : List Value).toArray below meth c H locs 2 204 (MQ below (PostC G σf (some (.int rf))) ([.ref a0, .int a1, .int a2] : List Value).toArray s 2 204 (AG G)) (F0 m 172 ls [])) → ∀ (ls : Array Slot) (H : Heap) (locs : List Loc), lv_has ls 9 [(0, .ref c0), (2, .int c2), (4, .ref c4), (5, .ref c5), (6, .int s67.1)] → HH G s67.2 H → va_S (AG G) s.heap H locs → W p l e (rm_ 4 2 204) s m ([.ref a0, .int a1, .int a2] : List Value).toArray below meth c H locs 2 204 (MQ below (PostC G σf (some (.int rf))) ([.ref a0, .int a1, .int a2] : List Value).toArray s 2 204 (AG G)) (F0 m 67 ls []) := by
    intro c0 c2 c4 c5 n s67 r67 hr hq
    refine lp_ind (P := fun s67 => ∀ (ls : Array Slot) (H : Heap) (locs : List Loc), lv_has ls 9 [(0, .ref c0), (2, .int c2), (4, .ref c4), (5, .ref c5), (6, .int s67.1)] → HH G s67.2 H → va_S (AG G) s.heap H locs → W p l e (rm_ 4 2 204) s m ([.ref a0, .int a1, .int a2] : List Value).toArray below meth c H locs 2 204 (MQ below (PostC G σf (some (.int rf))) ([.ref a0, .int a1, .int a2] : List Value).toArray s 2 204 (AG G)) (F0 m 67 ls [])) (Q := fun r67 => ∀ (ls : Array Slot) (H : Heap) (locs : List Loc), lv_has ls 9 [(0, .ref c0), (2, .int c2), (5, .ref c5)] → HH G r67 H → va_S (AG G) s.heap H locs → W p l e (rm_ 4 2 204) s m ([.ref a0, .int a1, .int a2] : List Value).toArray below meth c H locs 2 204 (MQ below (PostC G σf (some (.int rf))) ([.ref a0, .int a1, .int a2] : List Value).toArray s 2 204 (AG G)) (F0 m 172 ls [])) ?_ n s67 r67 hr hq
    intro s67 x67 hf hx67 ls H locs hl hH hS
    unfold f_X1_longer_b67 at hf
    have L83 : ∀ (c0 : Nat) (c2 : Int32) (c4 : Nat) (c5 : Nat) (c6 : Int32) (t83 : SG) (n : Nat) (s83 : (Int32 × Int32)) (r83 : Int32), lp (f_X1_longer_b83 N c0 c2 c4 c5 c6 t83) n s83 = some r83 → (∀ (ls : Array Slot) (H : Heap) (locs : List Loc), lv_has ls 9 [(0, .ref c0), (2, .int c2), (4, .ref c4), (5, .ref c5), (6, .int c6), (7, .int r83)] → HH G t83 H → va_S (AG G) s.heap H locs → W p l e (rm_ 4 2 204) s m ([.ref a0, .int a1, .int a2] : List Value).toArray below meth c H locs 2 204 (MQ below (PostC G σf (some (.int rf))) ([.ref a0, .int a1, .int a2] : List Value).toArray s 2 204 (AG G)) (F0 m 134 ls [])) → ∀ (ls : Array Slot) (H : Heap) (locs : List Loc), lv_has ls 9 [(0, .ref c0), (2, .int c2), (4, .ref c4), (5, .ref c5), (6, .int c6), (7, .int s83.1), (8, .int s83.2)] → HH G t83 H → va_S (AG G) s.heap H locs → W p l e (rm_ 4 2 204) s m ([.ref a0, .int a1, .int a2] : List Value).toArray below meth c H locs 2 204 (MQ below (PostC G σf (some (.int rf))) ([.ref a0, .int a1, .int a2] : List Value).toArray s 2 204 (AG G)) (F0 m 83 ls []) := by
      intro c0 c2 c4 c5 c6 t83 n s83 r83 hr hq
      refine lp_ind (P := fun s83 => ∀ (ls : Array Slot) (H : Heap) (locs : List Loc), lv_has ls 9 [(0, .ref c0), (2, .int c2), (4, .ref c4), (5, .ref c5), (6, .int c6), (7, .int s83.1), (8, .int s83.2)] → HH G t83 H → va_S (AG G) s.heap H locs → W p l e (rm_ 4 2 204) s m ([.ref a0, .int a1, .int a2] : List Value).toArray below meth c H locs 2 204 (MQ below (PostC G σf (some (.int rf))) ([.ref a0, .int a1, .int a2] : List Value).toArray s 2 204 (AG G)) (F0 m 83 ls [])) (Q := fun r83 => ∀ (ls : Array Slot) (H : Heap) (locs : List Loc), lv_has ls 9 [(0, .ref c0), (2, .int c2), (4, .ref c4), (5, .ref c5), (6, .int c6), (7, .int r83)] → HH G t83 H → va_S (AG G) s.heap H locs → W p l e (rm_ 4 2 204) s m ([.ref a0, .int a1, .int a2] : List Value).toArray below meth c H locs 2 204 (MQ below (PostC G σf (some (.int rf))) ([.ref a0, .int a1, .int a2] : List Value).toArray s 2 204 (AG G)) (F0 m 134 ls [])) ?_ n s83 r83 hr hq
      intro s83 x83 hf hx83 ls H locs hl hH hS
      unfold f_X1_longer_b83 at hf
      refine lv_iload hx hb dX1_longer_83 (lv_at hl 6 rfl) ?_
      refine lv_aload hx hb dX1_longer_85 (lv_at hl 2 rfl) ?_
      obtain ⟨v11, hv, hf⟩ := bd hf
      refine h_gI X hK hH fo_Code_1 hv q123 dX1_longer_87 ?_
      refine lv_icmp_ge (tgt := 134) hx hb dX1_longer_90 (by decide) (fun c_ => ?_) (fun c_ => ?_)
      · have hf := (if_pos c_).symm.trans hf
        cases hf
        exact hx83 _ _ _ (lv_sub hl [0, 1, 2, 3, 4, 5] rfl) hH hS
      · have hf := (if_neg c_).symm.trans hf
        refine lv_aload hx hb dX1_longer_93 (lv_at hl 2 rfl) ?_
        obtain ⟨v12, hv, hf⟩ := bd hf
        refine h_gI X hK hH fo_Code_0 hv q116 dX1_longer_95 ?_
        refine lv_iload hx hb dX1_longer_98 (lv_at hl 5 rfl) ?_
        refine lv_aload hx hb dX1_longer_100 (lv_at hl 2 rfl) ?_
        obtain ⟨v13, hv, hf⟩ := bd hf
        refine h_gI X hK hH fo_Code_0 hv q116 dX1_longer_102 ?_
        refine lv_aload hx hb dX1_longer_105 (lv_at hl 2 rfl) ?_
        obtain ⟨v14, hv, hf⟩ := bd hf
        refine h_gI X hK hH fo_Code_1 hv q123 dX1_longer_107 ?_
        refine lv_aload hx hb dX1_longer_110 (lv_at hl 2 rfl) ?_
        obtain ⟨v15, hv, hf⟩ := bd hf
        refine h_gR X hK hH fo_Code_2 hv q132 dX1_longer_112 ?_
        refine lv_iload hx hb dX1_longer_115 (lv_at hl 4 rfl) ?_
        obtain ⟨v16, hv, hf⟩ := bd hf
        refine h_aL X hK hH hv dX1_longer_117 ?_
        refine lv_iload hx hb dX1_longer_118 (lv_at hl 6 rfl) ?_
        obtain ⟨v17, hv, hf⟩ := bd hf
        refine c_S (As := [.int v13, .int v14, .long v16, .int s83.2]) (rest := [.int s83.1, .int v12]) (st1 := [.int v17, .int s83.1, .int v12]) X (met_X1_letter l G t83 N v13 v14 v16 s83.2 v17 hv) cs_X1_letter q495 rfl rfl rfl hl.1 (Nat.le_of_ble_eq_true rfl) ⟨Nat.le_of_ble_eq_true rfl, Nat.le_of_ble_eq_true rfl⟩ ⟨Nat.le_of_ble_eq_true rfl, Nat.le_of_ble_eq_true rfl⟩ dX1_longer_120 hK hH hS (fun H locs hH hS => ?_)
        refine W.cs (cells' := 2) (slots' := 204) (by rfl) (by rfl) ?_
        obtain ⟨v18, hv, hf⟩ := bd hf
        refine c_S (As := [.int v12, .int s83.1, .int v17]) (rest := []) (st1 := [.int v18]) X (met_X1_added l G t83 N v12 s83.1 v17 v18 hv) cs_X1_added q215 rfl rfl rfl hl.1 (Nat.le_of_ble_eq_true rfl) ⟨Nat.le_of_ble_eq_true rfl, Nat.le_of_ble_eq_true rfl⟩ ⟨Nat.le_of_ble_eq_true rfl, Nat.le_of_ble_eq_true rfl⟩ dX1_longer_123 hK hH hS (fun H locs hH hS => ?_)
        refine W.cs (cells' := 2) (slots' := 204) (by rfl) (by rfl) ?_
        refine lv_istore (lv' := [(7, .int v18), (0, .ref c0), (2, .int c2), (4, .ref c4), (5, .ref c5), (6, .int c6), (8, .int s83.2)]) hx hb dX1_longer_126 hl (by decide) rfl (fun ls hl => ?_)
        refine lv_iinc (v := (s83.2 + 1)) (lv' := [(8, .int (s83.2 + 1)), (7, .int v18), (0, .ref c0), (2, .int c2), (4, .ref c4), (5, .ref c5), (6, .int c6)]) hx hb dX1_longer_128 hl (k := 6) rfl rfl (by decide) rfl (fun ls hl => ?_)
        refine lv_goto (tgt := 83) hx hb dX1_longer_131 (by decide) ?_
        cases hf
        exact hx83 _ _ _ (lv_sub hl [2, 3, 4, 5, 6, 1, 0] rfl) hH hS
    refine lv_iload hx hb dX1_longer_67 (lv_at hl 4 rfl) ?_
    refine lv_aload hx hb dX1_longer_69 (lv_at hl 2 rfl) ?_
    obtain ⟨v10, hv, hf⟩ := bd hf
    refine h_gI X hK hH fo_Code_3 hv q141 dX1_longer_71 ?_
    refine lv_icmp_ge (tgt := 172) hx hb dX1_longer_74 (by decide) (fun c_ => ?_) (fun c_ => ?_)
    · have hf := (if_pos c_).symm.trans hf
      cases hf
      exact hx67 _ _ _ (lv_sub hl [0, 1, 3] rfl) hH hS
    · have hf := (if_neg c_).symm.trans hf
      refine lv_iconst (v := (0 : Int32)) hx hb dX1_longer_77 (by decide) ?_
      refine lv_istore (lv' := [(7, .int (0 : Int32)), (0, .ref c0), (2, .int c2), (4, .ref c4), (5, .ref c5), (6, .int s67.1)]) hx hb dX1_longer_78 hl (by decide) rfl (fun ls hl => ?_)
      refine lv_iconst (v := (0 : Int32)) hx hb dX1_longer_80 (by decide) ?_
      refine lv_istore (lv' := [(8, .int (0 : Int32)), (7, .int (0 : Int32)), (0, .ref c0), (2, .int c2), (4, .ref c4), (5, .ref c5), (6, .int s67.1)]) hx hb dX1_longer_81 hl (by decide) rfl (fun ls hl => ?_)
      obtain ⟨r83_19, hr, hf⟩ := bd hf
      refine L83 c0 c2 c4 c5 s67.1 s67.2 N _ r83_19 hr ?_ _ _ _ (lv_sub hl [2, 3, 4, 5, 6, 1, 0] rfl) hH hS
      intro ls H locs hl hH hS
      refine lv_aload hx hb dX1_longer_134 (lv_at hl 3 rfl) ?_
      refine lv_aload hx hb dX1_longer_136 (lv_at hl 2 rfl) ?_
      obtain ⟨v20, hv, hf⟩ := bd hf
      refine h_gR X hK hH fo_Code_2 hv q132 dX1_longer_138 ?_
      refine lv_iload hx hb dX1_longer_141 (lv_at hl 4 rfl) ?_
      obtain ⟨v21, hv, hf⟩ := bd hf
      refine h_aL X hK hH hv dX1_longer_143 ?_
      refine lv_aload hx hb dX1_longer_144 (lv_at hl 2 rfl) ?_
      obtain ⟨v22, hv, hf⟩ := bd hf
      refine h_gI X hK hH fo_Code_0 hv q116 dX1_longer_146 ?_
      refine lv_i2l (v := (v22).toInt64) hx hb dX1_longer_149 rfl ?_
      refine lv_lmul hx hb dX1_longer_150 ?_
      refine lv_aload hx hb dX1_longer_151 (lv_at hl 2 rfl) ?_
      obtain ⟨v23, hv, hf⟩ := bd hf
      refine h_gI X hK hH fo_Code_0 hv q116 dX1_longer_153 ?_
      refine lv_iload hx hb dX1_longer_156 (lv_at hl 5 rfl) ?_
      obtain ⟨v24, hv, hf⟩ := bd hf
      refine c_S (As := [.int v23, .int r83_19]) (rest := [.long (v21 * ((v22).toInt64)), .ref c5]) (st1 := [.int v24, .long (v21 * ((v22).toInt64)), .ref c5]) X (met_X1_against l G s67.2 N v23 r83_19 v24 hv) cs_X1_against q496 rfl rfl rfl hl.1 (Nat.le_of_ble_eq_true rfl) ⟨Nat.le_of_ble_eq_true rfl, Nat.le_of_ble_eq_true rfl⟩ ⟨Nat.le_of_ble_eq_true rfl, Nat.le_of_ble_eq_true rfl⟩ dX1_longer_158 hK hH hS (fun H locs hH hS => ?_)
      refine W.cs (cells' := 2) (slots' := 204) (by rfl) (by rfl) ?_
      refine lv_i2l (v := (v24).toInt64) hx hb dX1_longer_161 rfl ?_
      refine lv_ladd hx hb dX1_longer_162 ?_
      obtain ⟨v25, hv, hf⟩ := bd hf
      refine dr_X4_add N (rest := []) (st1 := []) X q222 hv rfl rfl hl.1 (Nat.le_of_ble_eq_true rfl) ⟨Nat.le_of_ble_eq_true rfl, Nat.le_of_ble_eq_true rfl⟩ ⟨Nat.le_of_ble_eq_true rfl, Nat.le_of_ble_eq_true rfl⟩ dX1_longer_163 hK hH hS (fun H locs hH hS => ?_)
      refine W.cs (cells' := 2) (slots' := 204) (by rfl) (by rfl) ?_
      refine lv_iinc (v := (s67.1 + 1)) (lv' := [(6, .int (s67.1 + 1)), (0, .ref c0), (2, .int c2), (4, .ref c4), (5, .ref c5), (7, .int r83_19)]) hx hb dX1_longer_166 hl (k := 4) rfl rfl (by decide) rfl (fun ls hl => ?_)
      refine lv_goto (tgt := 67) hx hb dX1_longer_169 (by decide) ?_
      cases hf
      exact hx67 _ _ _ (lv_sub hl [1, 2, 3, 4, 0] rfl) hH hS
  refine lv_iload_n hx hb dX1_longer_0 rfl (lv_at hl 1 rfl) ?_
  obtain ⟨v1, hv, hf⟩ := bd hf
  refine c_S (As := [.int a1]) (rest := []) (st1 := [.int v1]) X (met_X1_isPlace l G σ N a1 v1 hv) cs_X1_isPlace q82 rfl rfl rfl hl.1 (Nat.le_of_ble_eq_true rfl) ⟨Nat.le_of_ble_eq_true rfl, Nat.le_of_ble_eq_true rfl⟩ ⟨Nat.le_of_ble_eq_true rfl, Nat.le_of_ble_eq_true rfl⟩ dX1_longer_1 hK hH hS (fun H locs hH hS => ?_)
  refine W.cs (cells' := 0) (slots' := 0) (by rfl) (by rfl) ?_
  refine lv_if_eq (tgt := 14) hx hb dX1_longer_4 (by decide) (fun c_ => ?_) (fun c_ => ?_)
  · have hf := (if_pos c_).symm.trans hf
    refine lv_iconst (v := (-1 : Int32)) hx hb dX1_longer_14 (by decide) ?_
    cases hf
    exact r_iret X dX1_longer_15 (Nat.le_of_ble_eq_true rfl) (Nat.le_of_ble_eq_true rfl) rfl hH hS
  · have hf := (if_neg c_).symm.trans hf
    refine lv_iload_n hx hb dX1_longer_7 rfl (lv_at hl 2 rfl) ?_
    obtain ⟨v2, hv, hf⟩ := bd hf
    refine c_S (As := [.int a2]) (rest := []) (st1 := [.int v2]) X (met_X1_isPlace l G σ N a2 v2 hv) cs_X1_isPlace q82 rfl rfl rfl hl.1 (Nat.le_of_ble_eq_true rfl) ⟨Nat.le_of_ble_eq_true rfl, Nat.le_of_ble_eq_true rfl⟩ ⟨Nat.le_of_ble_eq_true rfl, Nat.le_of_ble_eq_true rfl⟩ dX1_longer_8 hK hH hS (fun H locs hH hS => ?_)
    refine W.cs (cells' := 0) (slots' := 0) (by rfl) (by rfl) ?_
    refine lv_if_ne (tgt := 16) hx hb dX1_longer_11 (by decide) (fun c_ => ?_) (fun c_ => ?_)
    · have hf := (if_neg c_).symm.trans hf
      refine lv_aload_n hx hb dX1_longer_16 rfl (lv_at hl 0 rfl) ?_
      refine lv_iload_n hx hb dX1_longer_17 rfl (lv_at hl 1 rfl) ?_
      refine lv_iconst (v := (0 : Int32)) hx hb dX1_longer_18 (by decide) ?_
      obtain ⟨_, hw, hf⟩ := bd hf
      obtain ⟨v3, hv, hf⟩ := bd hf
      refine c_V (As := [.int a1, .int (0 : Int32)]) (rest := []) (st1 := [.int v3]) X (met_X1_asks l G σ N a0 a1 (0 : Int32) v3 hv) cv_X1_asks q183 (recv1 (w := (RX1, TX1, 6)) hw hK hH rfl) rfl rfl rfl hl.1 (Nat.le_of_ble_eq_true rfl) ⟨Nat.le_of_ble_eq_true rfl, Nat.le_of_ble_eq_true rfl⟩ ⟨Nat.le_of_ble_eq_true rfl, Nat.le_of_ble_eq_true rfl⟩ dX1_longer_19 hK hH hS (fun H locs hH hS => ?_)
      refine W.cs (cells' := 0) (slots' := 0) (by rfl) (by rfl) ?_
      refine lv_istore_n (lv' := [(3, .int v3), (0, .ref a0), (1, .int a1), (2, .int a2)]) hx hb dX1_longer_22 rfl hl (by decide) rfl (fun ls hl => ?_)
      refine lv_iload_n hx hb dX1_longer_23 rfl (lv_at hl 0 rfl) ?_
      refine lv_if_eq (tgt := 29) hx hb dX1_longer_24 (by decide) (fun c_ => ?_) (fun c_ => ?_)
      · have hf := (if_pos c_).symm.trans hf
        refine lv_aload_n hx hb dX1_longer_29 rfl (lv_at hl 1 rfl) ?_
        obtain ⟨v4, hv, hf⟩ := bd hf
        refine h_gR X hK hH fo_X1_0 hv q649 dX1_longer_30 ?_
        refine lv_iload_n hx hb dX1_longer_33 rfl (lv_at hl 2 rfl) ?_
        obtain ⟨v5, hv, hf⟩ := bd hf
        refine h_aQ (by decide) X hK hH hv dX1_longer_34 ?_
        refine q_astore (lv' := [(4, va_rf v5), (3, .int v3), (0, .ref a0), (1, .int a1), (2, .int a2)]) hx hb dX1_longer_35 hl (by decide) rfl (fun ls hl => ?_)
        refine q_aload hx hb dX1_longer_37 (lv_at hl 0 rfl) ?_
        obtain ⟨b6, hq, hz⟩ := bd hf
        clear hf
        subst hq
        have hf := hz
        clear hz
        obtain ⟨v7, hv, hf⟩ := bd hf
        refine h_gI X hK hH fo_Code_1 hv q123 dX1_longer_39 ?_
        refine lv_bipush (v := (12 : Int32)) hx hb dX1_longer_42 (by decide) ?_
        refine lv_icmp_ne (tgt := 50) hx hb dX1_longer_44 (by decide) (fun c_ => ?_) (fun c_ => ?_)
        · have hf := (if_neg c_).symm.trans hf
          refine lv_aload hx hb dX1_longer_50 (lv_at hl 0 rfl) ?_
          refine lv_aload hx hb dX1_longer_52 (lv_at hl 0 rfl) ?_
          obtain ⟨v8, hv, hf⟩ := bd hf
          refine h_gI X hK hH fo_Code_1 hv q123 dX1_longer_54 ?_
          refine lv_iconst (v := (1 : Int32)) hx hb dX1_longer_57 (by decide) ?_
          refine lv_iadd hx hb dX1_longer_58 ?_
          obtain ⟨v9, hv, hf⟩ := bd hf
          refine c_S (As := [.ref b6, .int (v8 + (1 : Int32))]) (rest := []) (st1 := [.ref v9.2]) X (met_X1_like l G σ N b6 (v8 + (1 : Int32)) v9.1 v9.2 hv) cs_X1_like q492 rfl rfl rfl hl.1 (Nat.le_of_ble_eq_true rfl) ⟨Nat.le_of_ble_eq_true rfl, Nat.le_of_ble_eq_true rfl⟩ ⟨Nat.le_of_ble_eq_true rfl, Nat.le_of_ble_eq_true rfl⟩ dX1_longer_59 hK hH hS (fun H locs hH hS => ?_)
          refine W.cs (cells' := 2) (slots' := 204) (by rfl) (by rfl) ?_
          refine lv_astore (lv' := [(5, .ref v9.2), (4, .ref b6), (3, .int v3), (0, .ref a0), (1, .int a1), (2, .int a2)]) hx hb dX1_longer_62 hl (by decide) rfl (fun ls hl => ?_)
          refine lv_iconst (v := (0 : Int32)) hx hb dX1_longer_64 (by decide) ?_
          refine lv_istore (lv' := [(6, .int (0 : Int32)), (5, .ref v9.2), (4, .ref b6), (3, .int v3), (0, .ref a0), (1, .int a1), (2, .int a2)]) hx hb dX1_longer_65 hl (by decide) rfl (fun ls hl => ?_)
          obtain ⟨r67_26, hr, hf⟩ := bd hf
          refine L67 a0 a2 b6 v9.2 N _ r67_26 hr ?_ _ _ _ (lv_sub hl [4, 6, 2, 1, 0] rfl) hH hS
          intro ls H locs hl hH hS
          refine lv_aload_n hx hb dX1_longer_172 rfl (lv_at hl 0 rfl) ?_
          refine lv_iload_n hx hb dX1_longer_173 rfl (lv_at hl 1 rfl) ?_
          refine lv_aload hx hb dX1_longer_174 (lv_at hl 2 rfl) ?_
          obtain ⟨_, hw, hf⟩ := bd hf
          obtain ⟨v27, hv, hf⟩ := bd hf
          refine c_V (As := [.int a2, .ref v9.2]) (rest := []) (st1 := [.int v27.2]) X (met_X1_puts l G r67_26 N a0 a2 v9.2 v27.1 v27.2 hv) cv_X1_puts q174 (recv1 (w := (RX1, TX1, 6)) hw hK hH rfl) rfl rfl rfl hl.1 (Nat.le_of_ble_eq_true rfl) ⟨Nat.le_of_ble_eq_true rfl, Nat.le_of_ble_eq_true rfl⟩ ⟨Nat.le_of_ble_eq_true rfl, Nat.le_of_ble_eq_true rfl⟩ dX1_longer_176 hK hH hS (fun H locs hH hS => ?_)
          refine W.cs (cells' := 2) (slots' := 204) (by rfl) (by rfl) ?_
          cases hf
          exact r_iret X dX1_longer_179 (Nat.le_of_ble_eq_true rfl) (Nat.le_of_ble_eq_true rfl) rfl hH hS
        · have hf := (if_pos c_).symm.trans hf
          refine lv_bipush (v := (-6 : Int32)) hx hb dX1_longer_47 (by decide) ?_
          cases hf
          exact r_iret X dX1_longer_49 (Nat.le_of_ble_eq_true rfl) (Nat.le_of_ble_eq_true rfl) rfl hH hS
      · have hf := (if_neg c_).symm.trans hf
        refine lv_iload_n hx hb dX1_longer_27 rfl (lv_at hl 0 rfl) ?_
        cases hf
        exact r_iret X dX1_longer_28 (Nat.le_of_ble_eq_true rfl) (Nat.le_of_ble_eq_true rfl) rfl hH hS
    · have hf := (if_pos c_).symm.trans hf
      refine lv_iconst (v := (-1 : Int32)) hx hb dX1_longer_14 (by decide) ?_
      cases hf
      exact r_iret X dX1_longer_15 (Nat.le_of_ble_eq_true rfl) (Nat.le_of_ble_eq_true rfl) rfl hH hS
-- no selects for own class
set_option maxHeartbeats 4000000 in
theorem met_X5_kind (l : Launch) (G : GG) (σ : SG) (N : Nat) (a0 : Nat) (rf : Int32) (hf : f_X5_kind N a0 = some rf) : Con l yX5_kind cX5_kind 1 (some .int) 0 0 0 G σ [.ref a0] σ (some (.int rf)) := by
  refine con_of (by decide) (Nat.le_of_ble_eq_true rfl) ?_
  intro p e s m below meth c ls X hK hH hl hS
  have hx := X.1
  have hb := X.2.1
  have hml := X.2.2.2.1
  have hown : s.vm.findClass RX5 = some m.cls := X.2.2.2.2.1
  have hts := X.2.2.2.2.2.1
  have hl : lv_has ls 1 [(0, .ref a0)] := hl
  unfold f_X5_kind at hf
  refine lv_iconst (v := (0 : Int32)) hx hb dX5_kind_0 (by decide) ?_
  cases hf
  exact r_iret X dX5_kind_1 (Nat.le_of_ble_eq_true rfl) (Nat.le_of_ble_eq_true rfl) rfl hH hS
-- no selects for own class
set_option maxHeartbeats 4000000 in
theorem met_X6_kind (l : Launch) (G : GG) (σ : SG) (N : Nat) (a0 : Nat) (rf : Int32) (hf : f_X6_kind N a0 = some rf) : Con l yX6_kind cX6_kind 1 (some .int) 0 0 0 G σ [.ref a0] σ (some (.int rf)) := by
  refine con_of (by decide) (Nat.le_of_ble_eq_true rfl) ?_
  intro p e s m below meth c ls X hK hH hl hS
  have hx := X.1
  have hb := X.2.1
  have hml := X.2.2.2.1
  have hown : s.vm.findClass RX6 = some m.cls := X.2.2.2.2.1
  have hts := X.2.2.2.2.2.1
  have hl : lv_has ls 1 [(0, .ref a0)] := hl
  unfold f_X6_kind at hf
  refine lv_iconst (v := (1 : Int32)) hx hb dX6_kind_0 (by decide) ?_
  cases hf
  exact r_iret X dX6_kind_1 (Nat.le_of_ble_eq_true rfl) (Nat.le_of_ble_eq_true rfl) rfl hH hS
-- no selects for own class
set_option maxHeartbeats 4000000 in
theorem met_X7_kind (l : Launch) (G : GG) (σ : SG) (N : Nat) (a0 : Nat) (rf : Int32) (hf : f_X7_kind N a0 = some rf) : Con l yX7_kind cX7_kind 1 (some .int) 0 0 0 G σ [.ref a0] σ (some (.int rf)) := by
  refine con_of (by decide) (Nat.le_of_ble_eq_true rfl) ?_
  intro p e s m below meth c ls X hK hH hl hS
  have hx := X.1
  have hb := X.2.1
  have hml := X.2.2.2.1
  have hown : s.vm.findClass RX7 = some m.cls := X.2.2.2.2.1
  have hts := X.2.2.2.2.2.1
  have hl : lv_has ls 1 [(0, .ref a0)] := hl
  unfold f_X7_kind at hf
  refine lv_iconst (v := (3 : Int32)) hx hb dX7_kind_0 (by decide) ?_
  cases hf
  exact r_iret X dX7_kind_1 (Nat.le_of_ble_eq_true rfl) (Nat.le_of_ble_eq_true rfl) rfl hH hS
-- no selects for own class
set_option maxHeartbeats 4000000 in
theorem met_X8_kind (l : Launch) (G : GG) (σ : SG) (N : Nat) (a0 : Nat) (rf : Int32) (hf : f_X8_kind N a0 = some rf) : Con l yX8_kind cX8_kind 1 (some .int) 0 0 0 G σ [.ref a0] σ (some (.int rf)) := by
  refine con_of (by decide) (Nat.le_of_ble_eq_true rfl) ?_
  intro p e s m below meth c ls X hK hH hl hS
  have hx := X.1
  have hb := X.2.1
  have hml := X.2.2.2.1
  have hown : s.vm.findClass RX8 = some m.cls := X.2.2.2.2.1
  have hts := X.2.2.2.2.2.1
  have hl : lv_has ls 1 [(0, .ref a0)] := hl
  unfold f_X8_kind at hf
  refine lv_iconst (v := (2 : Int32)) hx hb dX8_kind_0 (by decide) ?_
  cases hf
  exact r_iret X dX8_kind_1 (Nat.le_of_ble_eq_true rfl) (Nat.le_of_ble_eq_true rfl) rfl hH hS
theorem cv_X6_isWithinDual : CalV "WordBench$Line" yX6_isWithinDual cX6_isWithinDual 4 (some .boolean) 0 := ⟨q325, q326, q60, q330, by decide +kernel⟩
set_option maxHeartbeats 4000000 in
theorem met_X6_isWithinDual (l : Launch) (G : GG) (σ : SG) (N : Nat) (a0 : Nat) (rf : Int32) (hf : f_X6_isWithinDual N σ a0 = some rf) : Con l yX6_isWithinDual cX6_isWithinDual 4 (some .boolean) 2 0 0 G σ [.ref a0] σ (some (.int rf)) := by
  refine con_of (by decide) (Nat.le_of_ble_eq_true rfl) ?_
  intro p e s m below meth c ls X hK hH hl hS
  have hx := X.1
  have hb := X.2.1
  have hml := X.2.2.2.1
  have hown : s.vm.findClass RX6 = some m.cls := X.2.2.2.2.1
  have hts := X.2.2.2.2.2.1
  have hl : lv_has ls 4 [(0, .ref a0)] := hl
  unfold f_X6_isWithinDual at hf
  have L4 : ∀ (c0 : Nat) (n : Nat) (s4 : (Int32 × Int32)) (r4 : Int32), lp (f_X6_isWithinDual_b4 N c0 σ) n s4 = some r4 → (∀ (ls : Array Slot) (H : Heap) (locs : List Loc), lv_has ls 4 [(1, .int r4)] → HH G σ H → va_S (AG G) s.heap H locs → W p l e (rm_ 2 0 0) s m ([.ref a0] : List Value).toArray below meth c H locs 0 0 (MQ below (PostC G σ (some (.int rf))) ([.ref a0] : List Value).toArray s 0 0 (AG G)) (F0 m 65 ls [])) → ∀ (ls : Array Slot) (H : Heap) (locs : List Loc), lv_has ls 4 [(0, .ref c0), (1, .int s4.1), (2, .int s4.2)] → HH G σ H → va_S (AG G) s.heap H locs → W p l e (rm_ 2 0 0) s m ([.ref a0] : List Value).toArray below meth c H locs 0 0 (MQ below (PostC G σ (some (.int rf))) ([.ref a0] : List Value).toArray s 0 0 (AG G)) (F0 m 4 ls []) := by
    intro c0 n s4 r4 hr hq
    refine lp_ind (P := fun s4 => ∀ (ls : Array Slot) (H : Heap) (locs : List Loc), lv_has ls 4 [(0, .ref c0), (1, .int s4.1), (2, .int s4.2)] → HH G σ H → va_S (AG G) s.heap H locs → W p l e (rm_ 2 0 0) s m ([.ref a0] : List Value).toArray below meth c H locs 0 0 (MQ below (PostC G σ (some (.int rf))) ([.ref a0] : List Value).toArray s 0 0 (AG G)) (F0 m 4 ls [])) (Q := fun r4 => ∀ (ls : Array Slot) (H : Heap) (locs : List Loc), lv_has ls 4 [(1, .int r4)] → HH G σ H → va_S (AG G) s.heap H locs → W p l e (rm_ 2 0 0) s m ([.ref a0] : List Value).toArray below meth c H locs 0 0 (MQ below (PostC G σ (some (.int rf))) ([.ref a0] : List Value).toArray s 0 0 (AG G)) (F0 m 65 ls [])) ?_ n s4 r4 hr hq
    intro s4 x4 hf hx4 ls H locs hl hH hS
    unfold f_X6_isWithinDual_b4 at hf
    have L14 : ∀ (c0 : Nat) (c2 : Int32) (n : Nat) (s14 : (Int32 × Int32)) (r14 : Int32), lp (f_X6_isWithinDual_b14 N c0 c2 σ) n s14 = some r14 → (∀ (ls : Array Slot) (H : Heap) (locs : List Loc), lv_has ls 4 [(0, .ref c0), (1, .int r14), (2, .int c2)] → HH G σ H → va_S (AG G) s.heap H locs → W p l e (rm_ 2 0 0) s m ([.ref a0] : List Value).toArray below meth c H locs 0 0 (MQ below (PostC G σ (some (.int rf))) ([.ref a0] : List Value).toArray s 0 0 (AG G)) (F0 m 59 ls [])) → ∀ (ls : Array Slot) (H : Heap) (locs : List Loc), lv_has ls 4 [(0, .ref c0), (1, .int s14.1), (2, .int c2), (3, .int s14.2)] → HH G σ H → va_S (AG G) s.heap H locs → W p l e (rm_ 2 0 0) s m ([.ref a0] : List Value).toArray below meth c H locs 0 0 (MQ below (PostC G σ (some (.int rf))) ([.ref a0] : List Value).toArray s 0 0 (AG G)) (F0 m 14 ls []) := by
      intro c0 c2 n s14 r14 hr hq
      refine lp_ind (P := fun s14 => ∀ (ls : Array Slot) (H : Heap) (locs : List Loc), lv_has ls 4 [(0, .ref c0), (1, .int s14.1), (2, .int c2), (3, .int s14.2)] → HH G σ H → va_S (AG G) s.heap H locs → W p l e (rm_ 2 0 0) s m ([.ref a0] : List Value).toArray below meth c H locs 0 0 (MQ below (PostC G σ (some (.int rf))) ([.ref a0] : List Value).toArray s 0 0 (AG G)) (F0 m 14 ls [])) (Q := fun r14 => ∀ (ls : Array Slot) (H : Heap) (locs : List Loc), lv_has ls 4 [(0, .ref c0), (1, .int r14), (2, .int c2)] → HH G σ H → va_S (AG G) s.heap H locs → W p l e (rm_ 2 0 0) s m ([.ref a0] : List Value).toArray below meth c H locs 0 0 (MQ below (PostC G σ (some (.int rf))) ([.ref a0] : List Value).toArray s 0 0 (AG G)) (F0 m 59 ls [])) ?_ n s14 r14 hr hq
      intro s14 x14 hf hx14 ls H locs hl hH hS
      unfold f_X6_isWithinDual_b14 at hf
      have J51 : ∀ (d3 : Int32) (k0 : Int32) (k1 : Int32), f_X6_isWithinDual_j51 N c0 c2 σ d3 k0 k1 = some x14 → ∀ (ls : Array Slot) (H : Heap) (locs : List Loc), lv_has ls 4 [(0, .ref c0), (2, .int c2), (3, .int d3)] → HH G σ H → va_S (AG G) s.heap H locs → W p l e (rm_ 2 0 0) s m ([.ref a0] : List Value).toArray below meth c H locs 0 0 (MQ below (PostC G σ (some (.int rf))) ([.ref a0] : List Value).toArray s 0 0 (AG G)) (F0 m 51 ls [.int k0, .int k1]) := by
        intro d3 k0 k1 hf ls H locs hl hH hS
        unfold f_X6_isWithinDual_j51 at hf
        refine lv_iand hx hb dX6_isWithinDual_51 ?_
        refine lv_istore_n (lv' := [(1, .int (k1 &&& k0)), (0, .ref c0), (2, .int c2), (3, .int d3)]) hx hb dX6_isWithinDual_52 rfl hl (by decide) rfl (fun ls hl => ?_)
        refine lv_iinc (v := (d3 + 1)) (lv' := [(3, .int (d3 + 1)), (1, .int (k1 &&& k0)), (0, .ref c0), (2, .int c2)]) hx hb dX6_isWithinDual_53 hl (k := 3) rfl rfl (by decide) rfl (fun ls hl => ?_)
        refine lv_goto (tgt := 14) hx hb dX6_isWithinDual_56 (by decide) ?_
        cases hf
        exact hx14 _ _ _ (lv_sub hl [2, 1, 3, 0] rfl) hH hS
      refine lv_iload_n hx hb dX6_isWithinDual_14 rfl (lv_at hl 3 rfl) ?_
      refine lv_iload_n hx hb dX6_isWithinDual_15 rfl (lv_at hl 2 rfl) ?_
      refine lv_icmp_gt (tgt := 59) hx hb dX6_isWithinDual_16 (by decide) (fun c_ => ?_) (fun c_ => ?_)
      · have hf := (if_pos c_).symm.trans hf
        cases hf
        exact hx14 _ _ _ (lv_sub hl [0, 1, 2] rfl) hH hS
      · have hf := (if_neg c_).symm.trans hf
        refine lv_iload_n hx hb dX6_isWithinDual_19 rfl (lv_at hl 1 rfl) ?_
        refine lv_aload_n hx hb dX6_isWithinDual_20 rfl (lv_at hl 0 rfl) ?_
        obtain ⟨v2, hv, hf⟩ := bd hf
        refine h_gIS (ref0 := "WordBench$Code") X hK hH fo_Code_0 hv q112 q113 dX6_isWithinDual_21 ?_
        refine lv_aload_n hx hb dX6_isWithinDual_24 rfl (lv_at hl 0 rfl) ?_
        obtain ⟨v3, hv, hf⟩ := bd hf
        refine h_gIS (ref0 := "WordBench$Code") X hK hH fo_Code_1 hv q121 q122 dX6_isWithinDual_25 ?_
        refine lv_aload_n hx hb dX6_isWithinDual_28 rfl (lv_at hl 0 rfl) ?_
        obtain ⟨v4, hv, hf⟩ := bd hf
        refine h_gRS (ref0 := "WordBench$Code") X hK hH fo_Code_2 hv q130 q131 dX6_isWithinDual_29 ?_
        refine lv_iload_n hx hb dX6_isWithinDual_32 rfl (lv_at hl 2 rfl) ?_
        obtain ⟨v5, hv, hf⟩ := bd hf
        refine h_aL X hK hH hv dX6_isWithinDual_33 ?_
        refine lv_aload_n hx hb dX6_isWithinDual_34 rfl (lv_at hl 0 rfl) ?_
        obtain ⟨v6, hv, hf⟩ := bd hf
        refine h_gRS (ref0 := "WordBench$Code") X hK hH fo_Code_2 hv q130 q131 dX6_isWithinDual_35 ?_
        refine lv_iload_n hx hb dX6_isWithinDual_38 rfl (lv_at hl 3 rfl) ?_
        obtain ⟨v7, hv, hf⟩ := bd hf
        refine h_aL X hK hH hv dX6_isWithinDual_39 ?_
        obtain ⟨v8, hv, hf⟩ := bd hf
        refine c_SN (host := "WordBench") (As := [.int v2, .int v3, .long v5, .long v7]) (rest := [.int s14.1]) (st1 := [.int v8, .int s14.1]) X (met_X1_productOf l G σ N v2 v3 v5 v7 v8 hv) cs_X1_productOf q331 rfl rfl rfl hl.1 (Nat.le_of_ble_eq_true rfl) ⟨Nat.le_of_ble_eq_true rfl, Nat.le_of_ble_eq_true rfl⟩ ⟨Nat.le_of_ble_eq_true rfl, Nat.le_of_ble_eq_true rfl⟩ dX6_isWithinDual_40 hK hH hS (fun H locs hH hS => ?_)
        refine W.cs (cells' := 0) (slots' := 0) (by rfl) (by rfl) ?_
        refine lv_if_ne (tgt := 50) hx hb dX6_isWithinDual_43 (by decide) (fun c_ => ?_) (fun c_ => ?_)
        · have hf := (if_neg c_).symm.trans hf
          refine lv_iconst (v := (0 : Int32)) hx hb dX6_isWithinDual_50 (by decide) ?_
          exact J51 s14.2 (0 : Int32) s14.1 hf _ _ _ (lv_sub hl [0, 2, 3] rfl) hH hS
        · have hf := (if_pos c_).symm.trans hf
          refine lv_iconst (v := (1 : Int32)) hx hb dX6_isWithinDual_46 (by decide) ?_
          refine lv_goto (tgt := 51) hx hb dX6_isWithinDual_47 (by decide) ?_
          exact J51 s14.2 (1 : Int32) s14.1 hf _ _ _ (lv_sub hl [0, 2, 3] rfl) hH hS
    refine lv_iload_n hx hb dX6_isWithinDual_4 rfl (lv_at hl 2 rfl) ?_
    refine lv_aload_n hx hb dX6_isWithinDual_5 rfl (lv_at hl 0 rfl) ?_
    obtain ⟨v1, hv, hf⟩ := bd hf
    refine h_gIS (ref0 := "WordBench$Code") X hK hH fo_Code_3 hv q134 q135 dX6_isWithinDual_6 ?_
    refine lv_icmp_ge (tgt := 65) hx hb dX6_isWithinDual_9 (by decide) (fun c_ => ?_) (fun c_ => ?_)
    · have hf := (if_pos c_).symm.trans hf
      cases hf
      exact hx4 _ _ _ (lv_sub hl [1] rfl) hH hS
    · have hf := (if_neg c_).symm.trans hf
      refine lv_iconst (v := (0 : Int32)) hx hb dX6_isWithinDual_12 (by decide) ?_
      refine lv_istore_n (lv' := [(3, .int (0 : Int32)), (0, .ref c0), (1, .int s4.1), (2, .int s4.2)]) hx hb dX6_isWithinDual_13 rfl hl (by decide) rfl (fun ls hl => ?_)
      obtain ⟨r14_9, hr, hf⟩ := bd hf
      refine L14 c0 s4.2 N _ r14_9 hr ?_ _ _ _ (lv_sub hl [1, 2, 3, 0] rfl) hH hS
      intro ls H locs hl hH hS
      refine lv_iinc (v := (s4.2 + 1)) (lv' := [(2, .int (s4.2 + 1)), (0, .ref c0), (1, .int r14_9)]) hx hb dX6_isWithinDual_59 hl (k := 2) rfl rfl (by decide) rfl (fun ls hl => ?_)
      refine lv_goto (tgt := 4) hx hb dX6_isWithinDual_62 (by decide) ?_
      cases hf
      exact hx4 _ _ _ (lv_sub hl [1, 2, 0] rfl) hH hS
  refine lv_iconst (v := (1 : Int32)) hx hb dX6_isWithinDual_0 (by decide) ?_
  refine lv_istore_n (lv' := [(1, .int (1 : Int32)), (0, .ref a0)]) hx hb dX6_isWithinDual_1 rfl hl (by decide) rfl (fun ls hl => ?_)
  refine lv_iconst (v := (0 : Int32)) hx hb dX6_isWithinDual_2 (by decide) ?_
  refine lv_istore_n (lv' := [(2, .int (0 : Int32)), (1, .int (1 : Int32)), (0, .ref a0)]) hx hb dX6_isWithinDual_3 rfl hl (by decide) rfl (fun ls hl => ?_)
  obtain ⟨r4_10, hr, hf⟩ := bd hf
  refine L4 a0 N _ r4_10 hr ?_ _ _ _ (lv_sub hl [2, 1, 0] rfl) hH hS
  intro ls H locs hl hH hS
  refine lv_iload_n hx hb dX6_isWithinDual_65 rfl (lv_at hl 0 rfl) ?_
  obtain ⟨hz, hv⟩ := rz_s hf
  subst hv
  exact r_zret X dX6_isWithinDual_66 (Nat.le_of_ble_eq_true rfl) (Nat.le_of_ble_eq_true rfl) hz rfl hH hS
theorem cu_X4_kind_3 : CalU "WordBench$Code" "WordBench$List" ⟨"WordBench$Code", "kind", "()I"⟩ yX5_kind cX5_kind 1 (some .int) 0 := ⟨q266, q270, q271, q272, q59, by decide +kernel, by decide +kernel, by decide +kernel⟩
theorem cu_X4_kind_4 : CalU "WordBench$Code" "WordBench$Line" ⟨"WordBench$Code", "kind", "()I"⟩ yX6_kind cX6_kind 1 (some .int) 0 := ⟨q266, q267, q268, q269, q60, by decide +kernel, by decide +kernel, by decide +kernel⟩
theorem cu_X4_kind_5 : CalU "WordBench$Code" "WordBench$Own" ⟨"WordBench$Code", "kind", "()I"⟩ yX7_kind cX7_kind 1 (some .int) 0 := ⟨q266, q273, q274, q275, q61, by decide +kernel, by decide +kernel, by decide +kernel⟩
theorem cu_X4_kind_6 : CalU "WordBench$Code" "WordBench$Ring" ⟨"WordBench$Code", "kind", "()I"⟩ yX8_kind cX8_kind 1 (some .int) 0 := ⟨q266, q276, q277, q278, q62, by decide +kernel, by decide +kernel, by decide +kernel⟩
theorem dr_X4_kind {p : Program} {l : Launch} {e : Env} {R : Room} {s : State} {m : MethodId} {args : Array Value} {below : List Frame} {meth : Method} {c : Code} {H : Heap} {locs : List Loc} {cells slots : Nat} {Q : State → Prop} {cc : ByteArray} {pc : Nat} {ls : Array Slot} {rest st0 st1 : List Value} {H0 : Heap} {G : GG} {σ : SG} {yo : MethodName} {nL idx : Nat} {rto : Option FieldType} (N : Nat) {b : Nat}  {u : Int32} (X : Cx p s m args meth c cc rto nL yo) (q1 : Cond.methodLink yo.cls idx ⟨"WordBench$Code", "kind", "()I"⟩ ∈ lw_all) (hv : dv_X4_kind N σ b  = some u) (hst : st0 = ([] : List Value).reverse ++ .ref b :: rest) (hs1 : ((some (.int u)) : Option Value).toList ++ rest = st1) (hls : ls.size = nL) (hrm : (rest.map fun v => v.category).sum ≤ 20) (hR : 0 + 1 ≤ R.frames ∧ 20 + (1 + 11) + 80 * 0 ≤ R.locals) (hf : cells + 0 ≤ R.cells ∧ slots + 0 ≤ R.slots) (hdg : decode cc pc = .ok (.invokevirtual idx, 3)) (hK : KK G s) (hH : HH G σ H) (hS : va_S (AG G) H0 H locs)
    (kk : ∀ (H1 : Heap) (locs1 : List Loc), HH G σ H1 → va_S (AG G) H0 H1 locs1 → W p l e R s m args below meth c H1 locs1 (cells + 0) (slots + 0) Q (F0 m (pc + 3) ls st1)) : W p l e R s m args below meth c H locs cells slots Q (F0 m pc ls st0) := by
  subst hs1
  unfold dv_X4_kind at hv
  split at hv
  · rename_i fs he
    exact r_U (C := "WordBench$List") (owner := "WordBench$Code") (x := ⟨"WordBench$Code", "kind", "()I"⟩) (n := 0) (As := []) X (met_X5_kind l G σ N b  u hv) cu_X4_kind_3 (va_Decl.abs (hK.2.1 _ q265 rfl)) q1 (recv_of_HH (w := (RX5, TX5, 4)) hK hH he rfl) rfl hst hls hrm ⟨by omega, by omega⟩ hf hdg hK hH hS kk
  · rename_i fs he
    exact r_U (C := "WordBench$Line") (owner := "WordBench$Code") (x := ⟨"WordBench$Code", "kind", "()I"⟩) (n := 0) (As := []) X (met_X6_kind l G σ N b  u hv) cu_X4_kind_4 (va_Decl.abs (hK.2.1 _ q265 rfl)) q1 (recv_of_HH (w := (RX6, TX6, 4)) hK hH he rfl) rfl hst hls hrm ⟨by omega, by omega⟩ hf hdg hK hH hS kk
  · rename_i fs he
    exact r_U (C := "WordBench$Own") (owner := "WordBench$Code") (x := ⟨"WordBench$Code", "kind", "()I"⟩) (n := 0) (As := []) X (met_X7_kind l G σ N b  u hv) cu_X4_kind_5 (va_Decl.abs (hK.2.1 _ q265 rfl)) q1 (recv_of_HH (w := (RX7, TX7, 4)) hK hH he rfl) rfl hst hls hrm ⟨by omega, by omega⟩ hf hdg hK hH hS kk
  · rename_i fs he
    exact r_U (C := "WordBench$Ring") (owner := "WordBench$Code") (x := ⟨"WordBench$Code", "kind", "()I"⟩) (n := 0) (As := []) X (met_X8_kind l G σ N b  u hv) cu_X4_kind_6 (va_Decl.abs (hK.2.1 _ q265 rfl)) q1 (recv_of_HH (w := (RX8, TX8, 4)) hK hH he rfl) rfl hst hls hrm ⟨by omega, by omega⟩ hf hdg hK hH hS kk
  · cases hv
theorem cu_X6_isWithinDual_4 : CalU "WordBench$Line" "WordBench$Line" ⟨"WordBench$Line", "isWithinDual", "()Z"⟩ yX6_isWithinDual cX6_isWithinDual 4 (some .boolean) 0 := ⟨q327, q326, q325, q330, q60, by decide +kernel, by decide +kernel, by decide +kernel⟩
theorem cu_X6_isWithinDual_5 : CalU "WordBench$Line" "WordBench$Own" ⟨"WordBench$Line", "isWithinDual", "()Z"⟩ yX6_isWithinDual cX6_isWithinDual 4 (some .boolean) 0 := ⟨q327, q328, q325, q330, q60, by decide +kernel, by decide +kernel, by decide +kernel⟩
theorem cu_X6_isWithinDual_6 : CalU "WordBench$Line" "WordBench$Ring" ⟨"WordBench$Line", "isWithinDual", "()Z"⟩ yX6_isWithinDual cX6_isWithinDual 4 (some .boolean) 0 := ⟨q327, q329, q325, q330, q60, by decide +kernel, by decide +kernel, by decide +kernel⟩
theorem dr_X6_isWithinDual {p : Program} {l : Launch} {e : Env} {R : Room} {s : State} {m : MethodId} {args : Array Value} {below : List Frame} {meth : Method} {c : Code} {H : Heap} {locs : List Loc} {cells slots : Nat} {Q : State → Prop} {cc : ByteArray} {pc : Nat} {ls : Array Slot} {rest st0 st1 : List Value} {H0 : Heap} {G : GG} {σ : SG} {yo : MethodName} {nL idx : Nat} {rto : Option FieldType} (N : Nat) {b : Nat}  {u : Int32} (X : Cx p s m args meth c cc rto nL yo) (q1 : Cond.methodLink yo.cls idx ⟨"WordBench$Line", "isWithinDual", "()Z"⟩ ∈ lw_all) (hv : dv_X6_isWithinDual N σ b  = some u) (hst : st0 = ([] : List Value).reverse ++ .ref b :: rest) (hs1 : ((some (.int u)) : Option Value).toList ++ rest = st1) (hls : ls.size = nL) (hrm : (rest.map fun v => v.category).sum ≤ 20) (hR : 2 + 1 ≤ R.frames ∧ 20 + (4 + 11) + 80 * 2 ≤ R.locals) (hf : cells + 0 ≤ R.cells ∧ slots + 0 ≤ R.slots) (hdg : decode cc pc = .ok (.invokevirtual idx, 3)) (hK : KK G s) (hH : HH G σ H) (hS : va_S (AG G) H0 H locs)
    (kk : ∀ (H1 : Heap) (locs1 : List Loc), HH G σ H1 → va_S (AG G) H0 H1 locs1 → W p l e R s m args below meth c H1 locs1 (cells + 0) (slots + 0) Q (F0 m (pc + 3) ls st1)) : W p l e R s m args below meth c H locs cells slots Q (F0 m pc ls st0) := by
  subst hs1
  unfold dv_X6_isWithinDual at hv
  split at hv
  · rename_i fs he
    exact r_U (C := "WordBench$Line") (owner := "WordBench$Line") (x := ⟨"WordBench$Line", "isWithinDual", "()Z"⟩) (n := 0) (As := []) X (met_X6_isWithinDual l G σ N b  u hv) cu_X6_isWithinDual_4 (va_Decl.of (X.2.2.2.2.2.1 _ q325) (X.2.2.2.2.2.1 _ q330)) q1 (recv_of_HH (w := (RX6, TX6, 4)) hK hH he rfl) rfl hst hls hrm ⟨by omega, by omega⟩ hf hdg hK hH hS kk
  · rename_i fs he
    exact r_U (C := "WordBench$Own") (owner := "WordBench$Line") (x := ⟨"WordBench$Line", "isWithinDual", "()Z"⟩) (n := 0) (As := []) X (met_X6_isWithinDual l G σ N b  u hv) cu_X6_isWithinDual_5 (va_Decl.of (X.2.2.2.2.2.1 _ q325) (X.2.2.2.2.2.1 _ q330)) q1 (recv_of_HH (w := (RX7, TX7, 4)) hK hH he rfl) rfl hst hls hrm ⟨by omega, by omega⟩ hf hdg hK hH hS kk
  · rename_i fs he
    exact r_U (C := "WordBench$Ring") (owner := "WordBench$Line") (x := ⟨"WordBench$Line", "isWithinDual", "()Z"⟩) (n := 0) (As := []) X (met_X6_isWithinDual l G σ N b  u hv) cu_X6_isWithinDual_6 (va_Decl.of (X.2.2.2.2.2.1 _ q325) (X.2.2.2.2.2.1 _ q330)) q1 (recv_of_HH (w := (RX8, TX8, 4)) hK hH he rfl) rfl hst hls hrm ⟨by omega, by omega⟩ hf hdg hK hH hS kk
  · cases hv
theorem cv_X1_look : CalV "WordBench" yX1_look cX1_look 5 (some .int) 2 := ⟨q261, q262, q48, q263, by decide +kernel⟩
set_option maxHeartbeats 4000000 in
theorem met_X1_look (l : Launch) (G : GG) (σ : SG) (N : Nat) (a0 : Nat) (a1 : Int32) (a2 : Int32) (σf : SG) (rf : Int32) (hf : f_X1_look N σ a0 a1 a2 = some (σf, rf)) : Con l yX1_look cX1_look 5 (some .int) 4 16 185 G σ [.ref a0, .int a1, .int a2] σf (some (.int rf)) := by
  refine con_of (by decide) (Nat.le_of_ble_eq_true rfl) ?_
  intro p e s m below meth c ls X hK hH hl hS
  have hx := X.1
  have hb := X.2.1
  have hml := X.2.2.2.1
  have hown : s.vm.findClass RX1 = some m.cls := X.2.2.2.2.1
  have hts := X.2.2.2.2.2.1
  have hl : lv_has ls 5 [(0, .ref a0), (1, .int a1), (2, .int a2)] := hl
  unfold f_X1_look at hf
  have J33 : ∀ (d0 : Nat) (d1 : Int32) (d2 : Int32) (k0 : Int32) (k1 : Int32) (k2 : Nat) (u33 : SG), f_X1_look_j33 N d0 d1 d2 k0 k1 k2 u33 = some (σf, rf) → ∀ (ls : Array Slot) (H : Heap) (locs : List Loc), lv_has ls 5 [(0, .ref d0), (1, .int d1), (2, .int d2)] → HH G u33 H → va_S (AG G) s.heap H locs → W p l e (rm_ 4 16 185) s m ([.ref a0, .int a1, .int a2] : List Value).toArray below meth c H locs 0 0 (MQ below (PostC G σf (some (.int rf))) ([.ref a0, .int a1, .int a2] : List Value).toArray s 16 185 (AG G)) (F0 m 33 ls [.int k0, .int k1, .ref k2]) := by
    intro d0 d1 d2 k0 k1 k2 u33 hf ls H locs hl hH hS
    unfold f_X1_look_j33 at hf
    obtain ⟨_, hw, hf⟩ := bd hf
    obtain ⟨v3, hv, hf⟩ := bd hf
    refine c_V (As := [.int k1, .int k0]) (rest := []) (st1 := [.int v3]) X (met_X1_asks l G u33 N k2 k1 k0 v3 hv) cv_X1_asks q183 (recv1 (w := (RX1, TX1, 6)) hw hK hH rfl) rfl rfl rfl hl.1 (Nat.le_of_ble_eq_true rfl) ⟨Nat.le_of_ble_eq_true rfl, Nat.le_of_ble_eq_true rfl⟩ ⟨Nat.le_of_ble_eq_true rfl, Nat.le_of_ble_eq_true rfl⟩ dX1_look_33 hK hH hS (fun H locs hH hS => ?_)
    refine W.cs (cells' := 0) (slots' := 0) (by rfl) (by rfl) ?_
    refine lv_istore_n (lv' := [(3, .int v3), (0, .ref d0), (1, .int d1), (2, .int d2)]) hx hb dX1_look_36 rfl hl (by decide) rfl (fun ls hl => ?_)
    refine lv_iload_n hx hb dX1_look_37 rfl (lv_at hl 0 rfl) ?_
    refine lv_if_eq (tgt := 43) hx hb dX1_look_38 (by decide) (fun c_ => ?_) (fun c_ => ?_)
    · have hf := (if_pos c_).symm.trans hf
      refine lv_aload_n hx hb dX1_look_43 rfl (lv_at hl 1 rfl) ?_
      obtain ⟨v4, hv, hf⟩ := bd hf
      refine h_gR X hK hH fo_X1_0 hv q649 dX1_look_44 ?_
      refine lv_iload_n hx hb dX1_look_47 rfl (lv_at hl 2 rfl) ?_
      obtain ⟨v5, hv, hf⟩ := bd hf
      refine h_aQ (by decide) X hK hH hv dX1_look_48 ?_
      refine q_astore (lv' := [(4, va_rf v5), (3, .int v3), (0, .ref d0), (1, .int d1), (2, .int d2)]) hx hb dX1_look_49 hl (by decide) rfl (fun ls hl => ?_)
      refine lv_iload_n hx hb dX1_look_51 rfl (lv_at hl 4 rfl) ?_
      by_cases c0_ : d2 = 0
      · have hf := (if_pos c0_).symm.trans hf
        refine lv_tableIn (off := 36) (tgt := 88) hx hb dX1_look_52 (by rw [c0_]; decide) (by rw [c0_]; decide) (by rw [c0_]; rfl) (by decide) ?_
        refine q_aload hx hb dX1_look_88 (lv_at hl 0 rfl) ?_
        obtain ⟨b6, hq, hz⟩ := bd hf
        clear hf
        subst hq
        have hf := hz
        clear hz
        obtain ⟨v7, hv, hf⟩ := bd hf
        refine dr_X4_kind N (rest := []) (st1 := [.int v7]) X q264 hv rfl rfl hl.1 (Nat.le_of_ble_eq_true rfl) ⟨Nat.le_of_ble_eq_true rfl, Nat.le_of_ble_eq_true rfl⟩ ⟨Nat.le_of_ble_eq_true rfl, Nat.le_of_ble_eq_true rfl⟩ dX1_look_90 hK hH hS (fun H locs hH hS => ?_)
        refine W.cs (cells' := 0) (slots' := 0) (by rfl) (by rfl) ?_
        cases hf
        exact r_iret X dX1_look_93 (Nat.le_of_ble_eq_true rfl) (Nat.le_of_ble_eq_true rfl) rfl hH hS
      have hf := (if_neg c0_).symm.trans hf
      by_cases c1_ : d2 = 1
      · have hf := (if_pos c1_).symm.trans hf
        refine lv_tableIn (off := 42) (tgt := 94) hx hb dX1_look_52 (by rw [c1_]; decide) (by rw [c1_]; decide) (by rw [c1_]; rfl) (by decide) ?_
        refine q_aload hx hb dX1_look_94 (lv_at hl 0 rfl) ?_
        obtain ⟨b8, hq, hz⟩ := bd hf
        clear hf
        subst hq
        have hf := hz
        clear hz
        obtain ⟨v9, hv, hf⟩ := bd hf
        refine h_gI X hK hH fo_Code_0 hv q116 dX1_look_96 ?_
        cases hf
        exact r_iret X dX1_look_99 (Nat.le_of_ble_eq_true rfl) (Nat.le_of_ble_eq_true rfl) rfl hH hS
      have hf := (if_neg c1_).symm.trans hf
      by_cases c2_ : d2 = 2
      · have hf := (if_pos c2_).symm.trans hf
        refine lv_tableIn (off := 48) (tgt := 100) hx hb dX1_look_52 (by rw [c2_]; decide) (by rw [c2_]; decide) (by rw [c2_]; rfl) (by decide) ?_
        refine q_aload hx hb dX1_look_100 (lv_at hl 0 rfl) ?_
        obtain ⟨b10, hq, hz⟩ := bd hf
        clear hf
        subst hq
        have hf := hz
        clear hz
        obtain ⟨v11, hv, hf⟩ := bd hf
        refine h_gI X hK hH fo_Code_1 hv q123 dX1_look_102 ?_
        cases hf
        exact r_iret X dX1_look_105 (Nat.le_of_ble_eq_true rfl) (Nat.le_of_ble_eq_true rfl) rfl hH hS
      have hf := (if_neg c2_).symm.trans hf
      by_cases c3_ : d2 = 3
      · have hf := (if_pos c3_).symm.trans hf
        refine lv_tableIn (off := 54) (tgt := 106) hx hb dX1_look_52 (by rw [c3_]; decide) (by rw [c3_]; decide) (by rw [c3_]; rfl) (by decide) ?_
        refine q_aload hx hb dX1_look_106 (lv_at hl 0 rfl) ?_
        obtain ⟨b12, hq, hz⟩ := bd hf
        clear hf
        subst hq
        have hf := hz
        clear hz
        obtain ⟨v13, hv, hf⟩ := bd hf
        refine h_gI X hK hH fo_Code_3 hv q141 dX1_look_108 ?_
        cases hf
        exact r_iret X dX1_look_111 (Nat.le_of_ble_eq_true rfl) (Nat.le_of_ble_eq_true rfl) rfl hH hS
      have hf := (if_neg c3_).symm.trans hf
      by_cases c4_ : d2 = 4
      · have hf := (if_pos c4_).symm.trans hf
        refine lv_tableIn (off := 60) (tgt := 112) hx hb dX1_look_52 (by rw [c4_]; decide) (by rw [c4_]; decide) (by rw [c4_]; rfl) (by decide) ?_
        obtain ⟨t14, hv, hf⟩ := bd hf
        refine h_new (ci := 7) (fs := [.int 0, .int 0, .null, .null, .int 0]) X hK hH hS tyX9 tyX9_ok in_X9 rfl q279 q280 q63 df_X9 (Nat.le_of_ble_eq_true rfl) (Nat.le_of_ble_eq_true rfl) dX1_look_112 (fun H hH hS => ?_)
        rw [Option.some.inj hv] at hH
        refine W.cs (cells' := 1) (slots' := 5) (by rfl) (by rfl) ?_
        refine lv_dup hx hb dX1_look_115 rfl ?_
        refine q_aload hx hb dX1_look_116 (lv_at hl 0 rfl) ?_
        obtain ⟨b15, hq, hz⟩ := bd hf
        clear hf
        subst hq
        have hf := hz
        clear hz
        obtain ⟨v16, hv, hf⟩ := bd hf
        refine r_I (As := [.ref b15]) (rest := [.ref ((u33).1)]) X (met_X9_init l G t14 N ((u33).1) b15 v16 hv) ci_X9_init q281 rfl rfl hl.1 (Nat.le_of_ble_eq_true rfl) ⟨Nat.le_of_ble_eq_true rfl, Nat.le_of_ble_eq_true rfl⟩ ⟨Nat.le_of_ble_eq_true rfl, Nat.le_of_ble_eq_true rfl⟩ dX1_look_118 hK hH hS (fun H locs hH hS => ?_)
        refine W.cs (cells' := 16) (slots' := 185) (by rfl) (by rfl) ?_
        obtain ⟨v17, hv, hf⟩ := bd hf
        refine h_gI X hK hH fo_X9_4 hv q312 dX1_look_121 ?_
        cases hf
        exact r_iret X dX1_look_124 (Nat.le_of_ble_eq_true rfl) (Nat.le_of_ble_eq_true rfl) rfl hH hS
      have hf := (if_neg c4_).symm.trans hf
      have ho : (d2).toInt < 0 ∨ 4 < (d2).toInt := by
        have h0 := lv_neT (a := 0) c0_ rfl
        have h1 := lv_neT (a := 1) c1_ rfl
        have h2 := lv_neT (a := 2) c2_ rfl
        have h3 := lv_neT (a := 3) c3_ rfl
        have h4 := lv_neT (a := 4) c4_ rfl
        omega
      refine lv_tableOut (tgt := 125) hx hb dX1_look_52 ho (by decide) ?_
      refine q_aload hx hb dX1_look_125 (lv_at hl 0 rfl) ?_
      obtain ⟨b18, hq, hz⟩ := bd hf
      clear hf
      subst hq
      have hf := hz
      clear hz
      obtain ⟨_, hv, hf⟩ := bd hf
      refine h_cast X hK hH ca_Line hv q152 dX1_look_127 ?_
      obtain ⟨v19, hv, hf⟩ := bd hf
      refine dr_X6_isWithinDual N (rest := []) (st1 := [.int v19]) X q324 hv rfl rfl hl.1 (Nat.le_of_ble_eq_true rfl) ⟨Nat.le_of_ble_eq_true rfl, Nat.le_of_ble_eq_true rfl⟩ ⟨Nat.le_of_ble_eq_true rfl, Nat.le_of_ble_eq_true rfl⟩ dX1_look_130 hK hH hS (fun H locs hH hS => ?_)
      refine W.cs (cells' := 0) (slots' := 0) (by rfl) (by rfl) ?_
      refine lv_if_eq (tgt := 140) hx hb dX1_look_133 (by decide) (fun c_ => ?_) (fun c_ => ?_)
      · have hf := (if_pos c_).symm.trans hf
        refine lv_iconst (v := (0 : Int32)) hx hb dX1_look_140 (by decide) ?_
        cases hf
        exact r_iret X dX1_look_141 (Nat.le_of_ble_eq_true rfl) (Nat.le_of_ble_eq_true rfl) rfl hH hS
      · have hf := (if_neg c_).symm.trans hf
        refine lv_iconst (v := (1 : Int32)) hx hb dX1_look_136 (by decide) ?_
        refine lv_goto (tgt := 141) hx hb dX1_look_137 (by decide) ?_
        cases hf
        exact r_iret X dX1_look_141 (Nat.le_of_ble_eq_true rfl) (Nat.le_of_ble_eq_true rfl) rfl hH hS
    · have hf := (if_neg c_).symm.trans hf
      refine lv_iload_n hx hb dX1_look_41 rfl (lv_at hl 0 rfl) ?_
      cases hf
      exact r_iret X dX1_look_42 (Nat.le_of_ble_eq_true rfl) (Nat.le_of_ble_eq_true rfl) rfl hH hS
  refine lv_iload_n hx hb dX1_look_0 rfl (lv_at hl 1 rfl) ?_
  obtain ⟨v1, hv, hf⟩ := bd hf
  refine c_S (As := [.int a1]) (rest := []) (st1 := [.int v1]) X (met_X1_isPlace l G σ N a1 v1 hv) cs_X1_isPlace q82 rfl rfl rfl hl.1 (Nat.le_of_ble_eq_true rfl) ⟨Nat.le_of_ble_eq_true rfl, Nat.le_of_ble_eq_true rfl⟩ ⟨Nat.le_of_ble_eq_true rfl, Nat.le_of_ble_eq_true rfl⟩ dX1_look_1 hK hH hS (fun H locs hH hS => ?_)
  refine W.cs (cells' := 0) (slots' := 0) (by rfl) (by rfl) ?_
  refine lv_if_eq (tgt := 19) hx hb dX1_look_4 (by decide) (fun c_ => ?_) (fun c_ => ?_)
  · have hf := (if_pos c_).symm.trans hf
    refine lv_iconst (v := (-1 : Int32)) hx hb dX1_look_19 (by decide) ?_
    cases hf
    exact r_iret X dX1_look_20 (Nat.le_of_ble_eq_true rfl) (Nat.le_of_ble_eq_true rfl) rfl hH hS
  · have hf := (if_neg c_).symm.trans hf
    refine lv_iload_n hx hb dX1_look_7 rfl (lv_at hl 2 rfl) ?_
    refine lv_i2l (v := (a2).toInt64) hx hb dX1_look_8 rfl ?_
    refine lv_lconst (v := (0 : Int64)) hx hb dX1_look_9 (by decide) ?_
    refine lv_ldc2 (v := (5 : Int64)) hx hb hown (hts _ q93) dX1_look_10 ?_
    obtain ⟨v2, hv, hf⟩ := bd hf
    refine c_S (As := [.long ((a2).toInt64), .long (0 : Int64), .long (5 : Int64)]) (rest := []) (st1 := [.int v2]) X (met_X1_isIn l G σ N ((a2).toInt64) (0 : Int64) (5 : Int64) v2 hv) cs_X1_isIn q86 rfl rfl rfl hl.1 (Nat.le_of_ble_eq_true rfl) ⟨Nat.le_of_ble_eq_true rfl, Nat.le_of_ble_eq_true rfl⟩ ⟨Nat.le_of_ble_eq_true rfl, Nat.le_of_ble_eq_true rfl⟩ dX1_look_13 hK hH hS (fun H locs hH hS => ?_)
    refine W.cs (cells' := 0) (slots' := 0) (by rfl) (by rfl) ?_
    refine lv_if_ne (tgt := 21) hx hb dX1_look_16 (by decide) (fun c_ => ?_) (fun c_ => ?_)
    · have hf := (if_neg c_).symm.trans hf
      refine lv_aload_n hx hb dX1_look_21 rfl (lv_at hl 0 rfl) ?_
      refine lv_iload_n hx hb dX1_look_22 rfl (lv_at hl 1 rfl) ?_
      refine lv_iload_n hx hb dX1_look_23 rfl (lv_at hl 2 rfl) ?_
      refine lv_iconst (v := (3 : Int32)) hx hb dX1_look_24 (by decide) ?_
      refine lv_icmp_le (tgt := 32) hx hb dX1_look_25 (by decide) (fun c_ => ?_) (fun c_ => ?_)
      · have hf := (if_pos c_).symm.trans hf
        refine lv_iconst (v := (0 : Int32)) hx hb dX1_look_32 (by decide) ?_
        exact J33 a0 a1 a2 (0 : Int32) a1 a0 σ hf _ _ _ (lv_sub hl [0, 1, 2] rfl) hH hS
      · have hf := (if_neg c_).symm.trans hf
        refine lv_iconst (v := (1 : Int32)) hx hb dX1_look_28 (by decide) ?_
        refine lv_goto (tgt := 33) hx hb dX1_look_29 (by decide) ?_
        exact J33 a0 a1 a2 (1 : Int32) a1 a0 σ hf _ _ _ (lv_sub hl [0, 1, 2] rfl) hH hS
    · have hf := (if_pos c_).symm.trans hf
      refine lv_iconst (v := (-1 : Int32)) hx hb dX1_look_19 (by decide) ?_
      cases hf
      exact r_iret X dX1_look_20 (Nat.le_of_ble_eq_true rfl) (Nat.le_of_ble_eq_true rfl) rfl hH hS
theorem cv_X1_make : CalV "WordBench" yX1_make cX1_make 5 (some .int) 4 := ⟨q79, q80, q48, q81, by decide +kernel⟩
set_option maxHeartbeats 4000000 in
theorem met_X1_make (l : Launch) (G : GG) (σ : SG) (N : Nat) (a0 : Nat) (a1 : Int32) (a2 : Int32) (a3 : Int32) (a4 : Int32) (σf : SG) (rf : Int32) (hf : f_X1_make N σ a0 a1 a2 a3 a4 = some (σf, rf)) : Con l yX1_make cX1_make 5 (some .int) 4 2 204 G σ [.ref a0, .int a1, .int a2, .int a3, .int a4] σf (some (.int rf)) := by
  refine con_of (by decide) (Nat.le_of_ble_eq_true rfl) ?_
  intro p e s m below meth c ls X hK hH hl hS
  have hx := X.1
  have hb := X.2.1
  have hml := X.2.2.2.1
  have hown : s.vm.findClass RX1 = some m.cls := X.2.2.2.2.1
  have hts := X.2.2.2.2.2.1
  have hl : lv_has ls 5 [(0, .ref a0), (1, .int a1), (2, .int a2), (3, .int a3), (4, .int a4)] := hl
  unfold f_X1_make at hf
  have J79 : ∀ (k0 : Nat) (k1 : Int32) (k2 : Nat) (u79 : SG), f_X1_make_j79 N k0 k1 k2 u79 = some (σf, rf) → ∀ (ls : Array Slot) (H : Heap) (locs : List Loc), lv_has ls 5 [] → HH G u79 H → va_S (AG G) s.heap H locs → W p l e (rm_ 4 2 204) s m ([.ref a0, .int a1, .int a2, .int a3, .int a4] : List Value).toArray below meth c H locs 2 204 (MQ below (PostC G σf (some (.int rf))) ([.ref a0, .int a1, .int a2, .int a3, .int a4] : List Value).toArray s 2 204 (AG G)) (F0 m 79 ls [.ref k0, .int k1, .ref k2]) := by
    intro k0 k1 k2 u79 hf ls H locs hl hH hS
    unfold f_X1_make_j79 at hf
    obtain ⟨_, hw, hf⟩ := bd hf
    obtain ⟨v5, hv, hf⟩ := bd hf
    refine c_V (As := [.int k1, .ref k0]) (rest := []) (st1 := [.int v5.2]) X (met_X1_puts l G u79 N k2 k1 k0 v5.1 v5.2 hv) cv_X1_puts q174 (recv1 (w := (RX1, TX1, 6)) hw hK hH rfl) rfl rfl rfl hl.1 (Nat.le_of_ble_eq_true rfl) ⟨Nat.le_of_ble_eq_true rfl, Nat.le_of_ble_eq_true rfl⟩ ⟨Nat.le_of_ble_eq_true rfl, Nat.le_of_ble_eq_true rfl⟩ dX1_make_79 hK hH hS (fun H locs hH hS => ?_)
    refine W.cs (cells' := 2) (slots' := 204) (by rfl) (by rfl) ?_
    cases hf
    exact r_iret X dX1_make_82 (Nat.le_of_ble_eq_true rfl) (Nat.le_of_ble_eq_true rfl) rfl hH hS
  have J21 : ∀ (d0 : Nat) (d1 : Int32) (d2 : Int32) (d3 : Int32) (d4 : Int32) (u21 : SG), f_X1_make_j21 N d0 d1 d2 d3 d4 u21 = some (σf, rf) → ∀ (ls : Array Slot) (H : Heap) (locs : List Loc), lv_has ls 5 [(0, .ref d0), (1, .int d1), (2, .int d2), (3, .int d3), (4, .int d4)] → HH G u21 H → va_S (AG G) s.heap H locs → W p l e (rm_ 4 2 204) s m ([.ref a0, .int a1, .int a2, .int a3, .int a4] : List Value).toArray below meth c H locs 0 0 (MQ below (PostC G σf (some (.int rf))) ([.ref a0, .int a1, .int a2, .int a3, .int a4] : List Value).toArray s 2 204 (AG G)) (F0 m 21 ls []) := by
    intro d0 d1 d2 d3 d4 u21 hf ls H locs hl hH hS
    unfold f_X1_make_j21 at hf
    refine lv_iload_n hx hb dX1_make_21 rfl (lv_at hl 3 rfl) ?_
    refine lv_iload hx hb dX1_make_22 (lv_at hl 4 rfl) ?_
    obtain ⟨v2, hv, hf⟩ := bd hf
    refine c_S (As := [.int d3, .int d4]) (rest := []) (st1 := [.int v2]) X (met_X1_isField l G u21 N d3 d4 v2 hv) cs_X1_isField q89 rfl rfl rfl hl.1 (Nat.le_of_ble_eq_true rfl) ⟨Nat.le_of_ble_eq_true rfl, Nat.le_of_ble_eq_true rfl⟩ ⟨Nat.le_of_ble_eq_true rfl, Nat.le_of_ble_eq_true rfl⟩ dX1_make_24 hK hH hS (fun H locs hH hS => ?_)
    refine W.cs (cells' := 0) (slots' := 0) (by rfl) (by rfl) ?_
    refine lv_if_ne (tgt := 32) hx hb dX1_make_27 (by decide) (fun c_ => ?_) (fun c_ => ?_)
    · have hf := (if_neg c_).symm.trans hf
      refine lv_aload_n hx hb dX1_make_32 rfl (lv_at hl 0 rfl) ?_
      refine lv_iload_n hx hb dX1_make_33 rfl (lv_at hl 1 rfl) ?_
      refine lv_iload_n hx hb dX1_make_34 rfl (lv_at hl 2 rfl) ?_
      refine lv_if_ne (tgt := 51) hx hb dX1_make_35 (by decide) (fun c_ => ?_) (fun c_ => ?_)
      · have hf := (if_neg c_).symm.trans hf
        refine lv_iload_n hx hb dX1_make_51 rfl (lv_at hl 2 rfl) ?_
        refine lv_iconst (v := (1 : Int32)) hx hb dX1_make_52 (by decide) ?_
        refine lv_icmp_ne (tgt := 69) hx hb dX1_make_53 (by decide) (fun c_ => ?_) (fun c_ => ?_)
        · have hf := (if_neg c_).symm.trans hf
          obtain ⟨t3, hv, hf⟩ := bd hf
          refine h_new (ci := 5) (fs := [.int 0, .int 0, .null, .int 0]) X hK hH hS tyX7 tyX7_ok in_X7 rfl q163 q164 q61 df_X7 (Nat.le_of_ble_eq_true rfl) (Nat.le_of_ble_eq_true rfl) dX1_make_69 (fun H hH hS => ?_)
          rw [Option.some.inj hv] at hH
          refine W.cs (cells' := 1) (slots' := 4) (by rfl) (by rfl) ?_
          refine lv_dup hx hb dX1_make_72 rfl ?_
          refine lv_iload_n hx hb dX1_make_73 rfl (lv_at hl 3 rfl) ?_
          refine lv_iload hx hb dX1_make_74 (lv_at hl 4 rfl) ?_
          obtain ⟨v4, hv, hf⟩ := bd hf
          refine r_I (As := [.int d3, .int d4]) (rest := [.ref ((u21).1), .int d1, .ref d0]) X (met_X7_init l G t3 N ((u21).1) d3 d4 v4 hv) ci_X7_init q165 rfl rfl hl.1 (Nat.le_of_ble_eq_true rfl) ⟨Nat.le_of_ble_eq_true rfl, Nat.le_of_ble_eq_true rfl⟩ ⟨Nat.le_of_ble_eq_true rfl, Nat.le_of_ble_eq_true rfl⟩ dX1_make_76 hK hH hS (fun H locs hH hS => ?_)
          refine W.cs (cells' := 2) (slots' := 204) (by rfl) (by rfl) ?_
          exact J79 ((u21).1) d1 d0 v4 hf _ _ _ (lv_sub hl [] rfl) hH hS
        · have hf := (if_pos c_).symm.trans hf
          obtain ⟨t6, hv, hf⟩ := bd hf
          refine h_new (ci := 4) (fs := [.int 0, .int 0, .null, .int 0]) X hK hH hS tyX6 tyX6_ok in_X6 rfl q152 q153 q60 df_X6 (Nat.le_of_ble_eq_true rfl) (Nat.le_of_ble_eq_true rfl) dX1_make_56 (fun H hH hS => ?_)
          rw [Option.some.inj hv] at hH
          refine W.cs (cells' := 1) (slots' := 4) (by rfl) (by rfl) ?_
          refine lv_dup hx hb dX1_make_59 rfl ?_
          refine lv_iload_n hx hb dX1_make_60 rfl (lv_at hl 3 rfl) ?_
          refine lv_iload hx hb dX1_make_61 (lv_at hl 4 rfl) ?_
          obtain ⟨v7, hv, hf⟩ := bd hf
          refine r_I (As := [.int d3, .int d4]) (rest := [.ref ((u21).1), .int d1, .ref d0]) X (met_X6_init l G t6 N ((u21).1) d3 d4 v7 hv) ci_X6_init q154 rfl rfl hl.1 (Nat.le_of_ble_eq_true rfl) ⟨Nat.le_of_ble_eq_true rfl, Nat.le_of_ble_eq_true rfl⟩ ⟨Nat.le_of_ble_eq_true rfl, Nat.le_of_ble_eq_true rfl⟩ dX1_make_63 hK hH hS (fun H locs hH hS => ?_)
          refine W.cs (cells' := 2) (slots' := 204) (by rfl) (by rfl) ?_
          refine lv_goto (tgt := 79) hx hb dX1_make_66 (by decide) ?_
          exact J79 ((u21).1) d1 d0 v7 hf _ _ _ (lv_sub hl [] rfl) hH hS
      · have hf := (if_pos c_).symm.trans hf
        obtain ⟨t8, hv, hf⟩ := bd hf
        refine h_new (ci := 3) (fs := [.int 0, .int 0, .null, .int 0]) X hK hH hS tyX5 tyX5_ok in_X5 rfl q95 q96 q59 df_X5 (Nat.le_of_ble_eq_true rfl) (Nat.le_of_ble_eq_true rfl) dX1_make_38 (fun H hH hS => ?_)
        rw [Option.some.inj hv] at hH
        refine W.cs (cells' := 1) (slots' := 4) (by rfl) (by rfl) ?_
        refine lv_dup hx hb dX1_make_41 rfl ?_
        refine lv_iload_n hx hb dX1_make_42 rfl (lv_at hl 3 rfl) ?_
        refine lv_iload hx hb dX1_make_43 (lv_at hl 4 rfl) ?_
        obtain ⟨v9, hv, hf⟩ := bd hf
        refine r_I (As := [.int d3, .int d4]) (rest := [.ref ((u21).1), .int d1, .ref d0]) X (met_X5_init l G t8 N ((u21).1) d3 d4 v9 hv) ci_X5_init q97 rfl rfl hl.1 (Nat.le_of_ble_eq_true rfl) ⟨Nat.le_of_ble_eq_true rfl, Nat.le_of_ble_eq_true rfl⟩ ⟨Nat.le_of_ble_eq_true rfl, Nat.le_of_ble_eq_true rfl⟩ dX1_make_45 hK hH hS (fun H locs hH hS => ?_)
        refine W.cs (cells' := 2) (slots' := 204) (by rfl) (by rfl) ?_
        refine lv_goto (tgt := 79) hx hb dX1_make_48 (by decide) ?_
        exact J79 ((u21).1) d1 d0 v9 hf _ _ _ (lv_sub hl [] rfl) hH hS
    · have hf := (if_pos c_).symm.trans hf
      refine lv_iconst (v := (-1 : Int32)) hx hb dX1_make_30 (by decide) ?_
      cases hf
      exact r_iret X dX1_make_31 (Nat.le_of_ble_eq_true rfl) (Nat.le_of_ble_eq_true rfl) rfl hH hS
  refine lv_iload_n hx hb dX1_make_0 rfl (lv_at hl 1 rfl) ?_
  obtain ⟨v1, hv, hf⟩ := bd hf
  refine c_S (As := [.int a1]) (rest := []) (st1 := [.int v1]) X (met_X1_isPlace l G σ N a1 v1 hv) cs_X1_isPlace q82 rfl rfl rfl hl.1 (Nat.le_of_ble_eq_true rfl) ⟨Nat.le_of_ble_eq_true rfl, Nat.le_of_ble_eq_true rfl⟩ ⟨Nat.le_of_ble_eq_true rfl, Nat.le_of_ble_eq_true rfl⟩ dX1_make_1 hK hH hS (fun H locs hH hS => ?_)
  refine W.cs (cells' := 0) (slots' := 0) (by rfl) (by rfl) ?_
  refine lv_if_eq (tgt := 30) hx hb dX1_make_4 (by decide) (fun c_ => ?_) (fun c_ => ?_)
  · have hf := (if_pos c_).symm.trans hf
    refine lv_iconst (v := (-1 : Int32)) hx hb dX1_make_30 (by decide) ?_
    cases hf
    exact r_iret X dX1_make_31 (Nat.le_of_ble_eq_true rfl) (Nat.le_of_ble_eq_true rfl) rfl hH hS
  · have hf := (if_neg c_).symm.trans hf
    refine lv_iload_n hx hb dX1_make_7 rfl (lv_at hl 2 rfl) ?_
    refine lv_if_eq (tgt := 21) hx hb dX1_make_8 (by decide) (fun c_ => ?_) (fun c_ => ?_)
    · have hf := (if_pos c_).symm.trans hf
      exact J21 a0 a1 a2 a3 a4 σ hf _ _ _ (lv_sub hl [0, 1, 2, 3, 4] rfl) hH hS
    · have hf := (if_neg c_).symm.trans hf
      refine lv_iload_n hx hb dX1_make_11 rfl (lv_at hl 2 rfl) ?_
      refine lv_iconst (v := (1 : Int32)) hx hb dX1_make_12 (by decide) ?_
      refine lv_icmp_eq (tgt := 21) hx hb dX1_make_13 (by decide) (fun c_ => ?_) (fun c_ => ?_)
      · have hf := (if_pos c_).symm.trans hf
        exact J21 a0 a1 a2 a3 a4 σ hf _ _ _ (lv_sub hl [0, 1, 2, 3, 4] rfl) hH hS
      · have hf := (if_neg c_).symm.trans hf
        refine lv_iload_n hx hb dX1_make_16 rfl (lv_at hl 2 rfl) ?_
        refine lv_iconst (v := (3 : Int32)) hx hb dX1_make_17 (by decide) ?_
        refine lv_icmp_ne (tgt := 30) hx hb dX1_make_18 (by decide) (fun c_ => ?_) (fun c_ => ?_)
        · have hf := (if_neg c_).symm.trans hf
          refine lv_iconst (v := (-1 : Int32)) hx hb dX1_make_30 (by decide) ?_
          cases hf
          exact r_iret X dX1_make_31 (Nat.le_of_ble_eq_true rfl) (Nat.le_of_ble_eq_true rfl) rfl hH hS
        · have hf := (if_pos c_).symm.trans hf
          exact J21 a0 a1 a2 a3 a4 σ hf _ _ _ (lv_sub hl [0, 1, 2, 3, 4] rfl) hH hS
theorem cv_X1_near : CalV "WordBench" yX1_near cX1_near 8 (some .int) 3 := ⟨q464, q465, q48, q466, by decide +kernel⟩
set_option maxHeartbeats 4000000 in
theorem met_X1_near (l : Launch) (G : GG) (σ : SG) (N : Nat) (a0 : Nat) (a1 : Int32) (a2 : Int64) (a4 : Int32) (σf : SG) (rf : Int32) (hf : f_X1_near N σ a0 a1 a2 a4 = some (σf, rf)) : Con l yX1_near cX1_near 8 (some .int) 6 16 185 G σ [.ref a0, .int a1, .long a2, .int a4] σf (some (.int rf)) := by
  refine con_of (by decide) (Nat.le_of_ble_eq_true rfl) ?_
  intro p e s m below meth c ls X hK hH hl hS
  have hx := X.1
  have hb := X.2.1
  have hml := X.2.2.2.1
  have hown : s.vm.findClass RX1 = some m.cls := X.2.2.2.2.1
  have hts := X.2.2.2.2.2.1
  have hl : lv_has ls 8 [(0, .ref a0), (1, .int a1), (2, .long a2), (4, .int a4)] := hl
  unfold f_X1_near at hf
  have L62 : ∀ (c0 : Nat) (c1 : Int32) (c2 : Int64) (c4 : Int32) (t62 : SG) (n : Nat) (s62 : (Int32 × Int32)) (r62 : Int32), lp (f_X1_near_b62 N c0 c1 c2 c4 t62) n s62 = some r62 → (∀ (ls : Array Slot) (H : Heap) (locs : List Loc), lv_has ls 8 [(6, .int r62)] → HH G t62 H → va_S (AG G) s.heap H locs → W p l e (rm_ 6 16 185) s m ([.ref a0, .int a1, .long a2, .int a4] : List Value).toArray below meth c H locs 16 185 (MQ below (PostC G σf (some (.int rf))) ([.ref a0, .int a1, .long a2, .int a4] : List Value).toArray s 16 185 (AG G)) (F0 m 122 ls [])) → ∀ (ls : Array Slot) (H : Heap) (locs : List Loc), lv_has ls 8 [(0, .ref c0), (1, .int c1), (2, .long c2), (4, .int c4), (6, .int s62.1), (7, .int s62.2)] → HH G t62 H → va_S (AG G) s.heap H locs → W p l e (rm_ 6 16 185) s m ([.ref a0, .int a1, .long a2, .int a4] : List Value).toArray below meth c H locs 16 185 (MQ below (PostC G σf (some (.int rf))) ([.ref a0, .int a1, .long a2, .int a4] : List Value).toArray s 16 185 (AG G)) (F0 m 62 ls []) := by
    intro c0 c1 c2 c4 t62 n s62 r62 hr hq
    refine lp_ind (P := fun s62 => ∀ (ls : Array Slot) (H : Heap) (locs : List Loc), lv_has ls 8 [(0, .ref c0), (1, .int c1), (2, .long c2), (4, .int c4), (6, .int s62.1), (7, .int s62.2)] → HH G t62 H → va_S (AG G) s.heap H locs → W p l e (rm_ 6 16 185) s m ([.ref a0, .int a1, .long a2, .int a4] : List Value).toArray below meth c H locs 16 185 (MQ below (PostC G σf (some (.int rf))) ([.ref a0, .int a1, .long a2, .int a4] : List Value).toArray s 16 185 (AG G)) (F0 m 62 ls [])) (Q := fun r62 => ∀ (ls : Array Slot) (H : Heap) (locs : List Loc), lv_has ls 8 [(6, .int r62)] → HH G t62 H → va_S (AG G) s.heap H locs → W p l e (rm_ 6 16 185) s m ([.ref a0, .int a1, .long a2, .int a4] : List Value).toArray below meth c H locs 16 185 (MQ below (PostC G σf (some (.int rf))) ([.ref a0, .int a1, .long a2, .int a4] : List Value).toArray s 16 185 (AG G)) (F0 m 122 ls [])) ?_ n s62 r62 hr hq
    intro s62 x62 hf hx62 ls H locs hl hH hS
    unfold f_X1_near_b62 at hf
    refine lv_iload hx hb dX1_near_62 (lv_at hl 5 rfl) ?_
    refine lv_aload_n hx hb dX1_near_64 rfl (lv_at hl 0 rfl) ?_
    obtain ⟨v2, hv, hf⟩ := bd hf
    refine h_gI X hK hH fo_X1_2 hv q651 dX1_near_65 ?_
    refine lv_icmp_ge (tgt := 122) hx hb dX1_near_68 (by decide) (fun c_ => ?_) (fun c_ => ?_)
    · have hf := (if_pos c_).symm.trans hf
      cases hf
      exact hx62 _ _ _ (lv_sub hl [4] rfl) hH hS
    · have hf := (if_neg c_).symm.trans hf
      refine lv_iload hx hb dX1_near_71 (lv_at hl 4 rfl) ?_
      refine lv_aload_n hx hb dX1_near_73 rfl (lv_at hl 0 rfl) ?_
      obtain ⟨v3, hv, hf⟩ := bd hf
      refine h_gR X hK hH fo_X1_0 hv q649 dX1_near_74 ?_
      refine lv_iload_n hx hb dX1_near_77 rfl (lv_at hl 1 rfl) ?_
      obtain ⟨v4, hv, hf⟩ := bd hf
      refine h_aQ (by decide) X hK hH hv dX1_near_78 ?_
      obtain ⟨b5, hq, hz⟩ := bd hf
      clear hf
      subst hq
      have hf := hz
      clear hz
      obtain ⟨v6, hv, hf⟩ := bd hf
      refine h_gI X hK hH fo_Code_0 hv q116 dX1_near_79 ?_
      refine lv_aload_n hx hb dX1_near_82 rfl (lv_at hl 0 rfl) ?_
      obtain ⟨v7, hv, hf⟩ := bd hf
      refine h_gR X hK hH fo_X1_0 hv q649 dX1_near_83 ?_
      refine lv_iload_n hx hb dX1_near_86 rfl (lv_at hl 1 rfl) ?_
      obtain ⟨v8, hv, hf⟩ := bd hf
      refine h_aQ (by decide) X hK hH hv dX1_near_87 ?_
      obtain ⟨b9, hq, hz⟩ := bd hf
      clear hf
      subst hq
      have hf := hz
      clear hz
      obtain ⟨v10, hv, hf⟩ := bd hf
      refine h_gI X hK hH fo_Code_1 hv q123 dX1_near_88 ?_
      refine lv_aload_n hx hb dX1_near_91 rfl (lv_at hl 0 rfl) ?_
      obtain ⟨v11, hv, hf⟩ := bd hf
      refine h_gR X hK hH fo_X1_1 hv q650 dX1_near_92 ?_
      refine lv_iload hx hb dX1_near_95 (lv_at hl 5 rfl) ?_
      obtain ⟨v12, hv, hf⟩ := bd hf
      refine h_aL X hK hH hv dX1_near_97 ?_
      refine lv_lload_n hx hb dX1_near_98 rfl (lv_at hl 2 rfl) ?_
      refine lv_iconst (v := (0 : Int32)) hx hb dX1_near_99 (by decide) ?_
      obtain ⟨v13, hv, hf⟩ := bd hf
      refine c_S (As := [.int v6, .int v10, .long v12, .long c2, .int (0 : Int32)]) (rest := [.int s62.1]) (st1 := [.int v13, .int s62.1]) X (met_X1_wayOf l G t62 N v6 v10 v12 c2 (0 : Int32) v13 hv) cs_X1_wayOf q379 rfl rfl rfl hl.1 (Nat.le_of_ble_eq_true rfl) ⟨Nat.le_of_ble_eq_true rfl, Nat.le_of_ble_eq_true rfl⟩ ⟨Nat.le_of_ble_eq_true rfl, Nat.le_of_ble_eq_true rfl⟩ dX1_near_100 hK hH hS (fun H locs hH hS => ?_)
      refine W.cs (cells' := 16) (slots' := 185) (by rfl) (by rfl) ?_
      refine lv_iload hx hb dX1_near_103 (lv_at hl 3 rfl) ?_
      refine lv_icmp_gt (tgt := 112) hx hb dX1_near_105 (by decide) (fun c_ => ?_) (fun c_ => ?_)
      · have hf := (if_pos c_).symm.trans hf
        refine lv_iconst (v := (0 : Int32)) hx hb dX1_near_112 (by decide) ?_
        refine lv_iadd hx hb dX1_near_113 ?_
        refine lv_istore (lv' := [(6, .int (s62.1 + (0 : Int32))), (0, .ref c0), (1, .int c1), (2, .long c2), (4, .int c4), (7, .int s62.2)]) hx hb dX1_near_114 hl (by decide) rfl (fun ls hl => ?_)
        refine lv_iinc (v := (s62.2 + 1)) (lv' := [(7, .int (s62.2 + 1)), (6, .int (s62.1 + (0 : Int32))), (0, .ref c0), (1, .int c1), (2, .long c2), (4, .int c4)]) hx hb dX1_near_116 hl (k := 5) rfl rfl (by decide) rfl (fun ls hl => ?_)
        refine lv_goto (tgt := 62) hx hb dX1_near_119 (by decide) ?_
        cases hf
        exact hx62 _ _ _ (lv_sub hl [2, 3, 4, 5, 1, 0] rfl) hH hS
      · have hf := (if_neg c_).symm.trans hf
        refine lv_iconst (v := (1 : Int32)) hx hb dX1_near_108 (by decide) ?_
        refine lv_goto (tgt := 113) hx hb dX1_near_109 (by decide) ?_
        refine lv_iadd hx hb dX1_near_113 ?_
        refine lv_istore (lv' := [(6, .int (s62.1 + (1 : Int32))), (0, .ref c0), (1, .int c1), (2, .long c2), (4, .int c4), (7, .int s62.2)]) hx hb dX1_near_114 hl (by decide) rfl (fun ls hl => ?_)
        refine lv_iinc (v := (s62.2 + 1)) (lv' := [(7, .int (s62.2 + 1)), (6, .int (s62.1 + (1 : Int32))), (0, .ref c0), (1, .int c1), (2, .long c2), (4, .int c4)]) hx hb dX1_near_116 hl (k := 5) rfl rfl (by decide) rfl (fun ls hl => ?_)
        refine lv_goto (tgt := 62) hx hb dX1_near_119 (by decide) ?_
        cases hf
        exact hx62 _ _ _ (lv_sub hl [2, 3, 4, 5, 1, 0] rfl) hH hS
  have J48 : ∀ (d0 : Nat) (d1 : Int32) (d2 : Int64) (d4 : Int32) (d5 : Int32) (u48 : SG), f_X1_near_j48 N d0 d1 d2 d4 d5 u48 = some (σf, rf) → ∀ (ls : Array Slot) (H : Heap) (locs : List Loc), lv_has ls 8 [(0, .ref d0), (1, .int d1), (2, .long d2), (4, .int d4), (5, .int d5)] → HH G u48 H → va_S (AG G) s.heap H locs → W p l e (rm_ 6 16 185) s m ([.ref a0, .int a1, .long a2, .int a4] : List Value).toArray below meth c H locs 16 185 (MQ below (PostC G σf (some (.int rf))) ([.ref a0, .int a1, .long a2, .int a4] : List Value).toArray s 16 185 (AG G)) (F0 m 48 ls []) := by
    intro d0 d1 d2 d4 d5 u48 hf ls H locs hl hH hS
    unfold f_X1_near_j48 at hf
    refine lv_iload hx hb dX1_near_48 (lv_at hl 4 rfl) ?_
    refine lv_if_eq (tgt := 56) hx hb dX1_near_50 (by decide) (fun c_ => ?_) (fun c_ => ?_)
    · have hf := (if_pos c_).symm.trans hf
      refine lv_iconst (v := (0 : Int32)) hx hb dX1_near_56 (by decide) ?_
      refine lv_istore (lv' := [(6, .int (0 : Int32)), (0, .ref d0), (1, .int d1), (2, .long d2), (4, .int d4), (5, .int d5)]) hx hb dX1_near_57 hl (by decide) rfl (fun ls hl => ?_)
      refine lv_iconst (v := (0 : Int32)) hx hb dX1_near_59 (by decide) ?_
      refine lv_istore (lv' := [(7, .int (0 : Int32)), (6, .int (0 : Int32)), (0, .ref d0), (1, .int d1), (2, .long d2), (4, .int d4), (5, .int d5)]) hx hb dX1_near_60 hl (by decide) rfl (fun ls hl => ?_)
      obtain ⟨r62_14, hr, hf⟩ := bd hf
      refine L62 d0 d1 d2 d4 u48 N _ r62_14 hr ?_ _ _ _ (lv_sub hl [2, 3, 4, 5, 1, 0] rfl) hH hS
      intro ls H locs hl hH hS
      refine lv_iload hx hb dX1_near_122 (lv_at hl 0 rfl) ?_
      cases hf
      exact r_iret X dX1_near_124 (Nat.le_of_ble_eq_true rfl) (Nat.le_of_ble_eq_true rfl) rfl hH hS
    · have hf := (if_neg c_).symm.trans hf
      refine lv_iload hx hb dX1_near_53 (lv_at hl 4 rfl) ?_
      cases hf
      exact r_iret X dX1_near_55 (Nat.le_of_ble_eq_true rfl) (Nat.le_of_ble_eq_true rfl) rfl hH hS
  have J36 : ∀ (d0 : Nat) (d1 : Int32) (d2 : Int64) (d4 : Int32) (d5 : Int32) (u36 : SG), f_X1_near_j36 N d0 d1 d2 d4 d5 u36 = some (σf, rf) → ∀ (ls : Array Slot) (H : Heap) (locs : List Loc), lv_has ls 8 [(0, .ref d0), (1, .int d1), (2, .long d2), (4, .int d4), (5, .int d5)] → HH G u36 H → va_S (AG G) s.heap H locs → W p l e (rm_ 6 16 185) s m ([.ref a0, .int a1, .long a2, .int a4] : List Value).toArray below meth c H locs 0 0 (MQ below (PostC G σf (some (.int rf))) ([.ref a0, .int a1, .long a2, .int a4] : List Value).toArray s 16 185 (AG G)) (F0 m 36 ls []) := by
    intro d0 d1 d2 d4 d5 u36 hf ls H locs hl hH hS
    unfold f_X1_near_j36 at hf
    refine lv_iload hx hb dX1_near_36 (lv_at hl 4 rfl) ?_
    refine lv_if_ne (tgt := 48) hx hb dX1_near_38 (by decide) (fun c_ => ?_) (fun c_ => ?_)
    · have hf := (if_neg c_).symm.trans hf
      refine W.widen (k := 16) (n := 185) (Nat.le_of_ble_eq_true rfl) (Nat.le_of_ble_eq_true rfl) ?_
      exact J48 d0 d1 d2 d4 d5 u36 hf _ _ _ (lv_sub hl [0, 1, 2, 3, 4] rfl) hH hS
    · have hf := (if_pos c_).symm.trans hf
      refine lv_aload_n hx hb dX1_near_41 rfl (lv_at hl 0 rfl) ?_
      refine lv_iload_n hx hb dX1_near_42 rfl (lv_at hl 1 rfl) ?_
      obtain ⟨_, hw, hf⟩ := bd hf
      obtain ⟨v15, hv, hf⟩ := bd hf
      refine c_V (As := [.int d1]) (rest := []) (st1 := [.int v15.2]) X (met_X1_whyWords l G u36 N d0 d1 v15.1 v15.2 hv) cv_X1_whyWords q419 (recv1 (w := (RX1, TX1, 6)) hw hK hH rfl) rfl rfl rfl hl.1 (Nat.le_of_ble_eq_true rfl) ⟨Nat.le_of_ble_eq_true rfl, Nat.le_of_ble_eq_true rfl⟩ ⟨Nat.le_of_ble_eq_true rfl, Nat.le_of_ble_eq_true rfl⟩ dX1_near_43 hK hH hS (fun H locs hH hS => ?_)
      refine W.cs (cells' := 16) (slots' := 185) (by rfl) (by rfl) ?_
      refine lv_istore (lv' := [(5, .int v15.2), (0, .ref d0), (1, .int d1), (2, .long d2), (4, .int d4)]) hx hb dX1_near_46 hl (by decide) rfl (fun ls hl => ?_)
      exact J48 d0 d1 d2 d4 v15.2 v15.1 hf _ _ _ (lv_sub hl [1, 2, 3, 4, 0] rfl) hH hS
  refine lv_aload_n hx hb dX1_near_0 rfl (lv_at hl 0 rfl) ?_
  refine lv_iload_n hx hb dX1_near_1 rfl (lv_at hl 1 rfl) ?_
  refine lv_lload_n hx hb dX1_near_2 rfl (lv_at hl 2 rfl) ?_
  obtain ⟨_, hw, hf⟩ := bd hf
  obtain ⟨v1, hv, hf⟩ := bd hf
  refine c_V (As := [.int a1, .long a2]) (rest := []) (st1 := [.int v1]) X (met_X1_whyWord l G σ N a0 a1 a2 v1 hv) cv_X1_whyWord q343 (recv1 (w := (RX1, TX1, 6)) hw hK hH rfl) rfl rfl rfl hl.1 (Nat.le_of_ble_eq_true rfl) ⟨Nat.le_of_ble_eq_true rfl, Nat.le_of_ble_eq_true rfl⟩ ⟨Nat.le_of_ble_eq_true rfl, Nat.le_of_ble_eq_true rfl⟩ dX1_near_3 hK hH hS (fun H locs hH hS => ?_)
  refine W.cs (cells' := 0) (slots' := 0) (by rfl) (by rfl) ?_
  refine lv_istore (lv' := [(5, .int v1), (0, .ref a0), (1, .int a1), (2, .long a2), (4, .int a4)]) hx hb dX1_near_6 hl (by decide) rfl (fun ls hl => ?_)
  refine lv_iload hx hb dX1_near_8 (lv_at hl 0 rfl) ?_
  refine lv_if_ne (tgt := 36) hx hb dX1_near_10 (by decide) (fun c_ => ?_) (fun c_ => ?_)
  · have hf := (if_neg c_).symm.trans hf
    exact J36 a0 a1 a2 a4 v1 σ hf _ _ _ (lv_sub hl [1, 2, 3, 4, 0] rfl) hH hS
  · have hf := (if_pos c_).symm.trans hf
    refine lv_iload hx hb dX1_near_13 (lv_at hl 4 rfl) ?_
    refine lv_i2l (v := (a4).toInt64) hx hb dX1_near_15 rfl ?_
    refine lv_lconst (v := (0 : Int64)) hx hb dX1_near_16 (by decide) ?_
    refine lv_aload_n hx hb dX1_near_17 rfl (lv_at hl 1 rfl) ?_
    obtain ⟨v16, hv, hf⟩ := bd hf
    refine h_gR X hK hH fo_X1_0 hv q649 dX1_near_18 ?_
    refine lv_iload_n hx hb dX1_near_21 rfl (lv_at hl 2 rfl) ?_
    obtain ⟨v17, hv, hf⟩ := bd hf
    refine h_aQ (by decide) X hK hH hv dX1_near_22 ?_
    obtain ⟨b18, hq, hz⟩ := bd hf
    clear hf
    subst hq
    have hf := hz
    clear hz
    obtain ⟨v19, hv, hf⟩ := bd hf
    refine h_gI X hK hH fo_Code_1 hv q123 dX1_near_23 ?_
    refine lv_i2l (v := (v19).toInt64) hx hb dX1_near_26 rfl ?_
    obtain ⟨v20, hv, hf⟩ := bd hf
    refine c_S (As := [.long ((a4).toInt64), .long (0 : Int64), .long ((v19).toInt64)]) (rest := []) (st1 := [.int v20]) X (met_X1_isIn l G σ N ((a4).toInt64) (0 : Int64) ((v19).toInt64) v20 hv) cs_X1_isIn q86 rfl rfl rfl hl.1 (Nat.le_of_ble_eq_true rfl) ⟨Nat.le_of_ble_eq_true rfl, Nat.le_of_ble_eq_true rfl⟩ ⟨Nat.le_of_ble_eq_true rfl, Nat.le_of_ble_eq_true rfl⟩ dX1_near_27 hK hH hS (fun H locs hH hS => ?_)
    refine W.cs (cells' := 0) (slots' := 0) (by rfl) (by rfl) ?_
    refine lv_if_ne (tgt := 36) hx hb dX1_near_30 (by decide) (fun c_ => ?_) (fun c_ => ?_)
    · have hf := (if_neg c_).symm.trans hf
      exact J36 a0 a1 a2 a4 v1 σ hf _ _ _ (lv_sub hl [1, 2, 3, 4, 0] rfl) hH hS
    · have hf := (if_pos c_).symm.trans hf
      refine lv_iconst (v := (-1 : Int32)) hx hb dX1_near_33 (by decide) ?_
      refine lv_istore (lv' := [(5, .int (-1 : Int32)), (0, .ref a0), (1, .int a1), (2, .long a2), (4, .int a4)]) hx hb dX1_near_34 hl (by decide) rfl (fun ls hl => ?_)
      exact J36 a0 a1 a2 a4 (-1 : Int32) σ hf _ _ _ (lv_sub hl [1, 2, 3, 4, 0] rfl) hH hS
theorem cv_X1_product : CalV "WordBench" yX1_product cX1_product 7 (some .int) 4 := ⟨q383, q384, q48, q385, by decide +kernel⟩
set_option maxHeartbeats 4000000 in
theorem met_X1_product (l : Launch) (G : GG) (σ : SG) (N : Nat) (a0 : Nat) (a1 : Int32) (a2 : Int32) (a3 : Int64) (a5 : Int64) (rf : Int32) (hf : f_X1_product N a0 a1 a2 a3 a5 = some rf) : Con l yX1_product cX1_product 7 (some .int) 3 0 0 G σ [.ref a0, .int a1, .int a2, .long a3, .long a5] σ (some (.int rf)) := by
  refine con_of (by decide) (Nat.le_of_ble_eq_true rfl) ?_
  intro p e s m below meth c ls X hK hH hl hS
  have hx := X.1
  have hb := X.2.1
  have hml := X.2.2.2.1
  have hown : s.vm.findClass RX1 = some m.cls := X.2.2.2.2.1
  have hts := X.2.2.2.2.2.1
  have hl : lv_has ls 7 [(0, .ref a0), (1, .int a1), (2, .int a2), (3, .long a3), (5, .long a5)] := hl
  unfold f_X1_product at hf
  refine lv_iload_n hx hb dX1_product_0 rfl (lv_at hl 1 rfl) ?_
  refine lv_iload_n hx hb dX1_product_1 rfl (lv_at hl 2 rfl) ?_
  refine lv_lload_n hx hb dX1_product_2 rfl (lv_at hl 3 rfl) ?_
  refine lv_lload hx hb dX1_product_3 (lv_at hl 4 rfl) ?_
  obtain ⟨v1, hv, hf⟩ := bd hf
  refine c_S (As := [.int a1, .int a2, .long a3, .long a5]) (rest := []) (st1 := [.int v1]) X (met_X1_areWords l G _ N a1 a2 a3 a5 v1 hv) cs_X1_areWords q370 rfl rfl rfl hl.1 (Nat.le_of_ble_eq_true rfl) ⟨Nat.le_of_ble_eq_true rfl, Nat.le_of_ble_eq_true rfl⟩ ⟨Nat.le_of_ble_eq_true rfl, Nat.le_of_ble_eq_true rfl⟩ dX1_product_5 hK hH hS (fun H locs hH hS => ?_)
  refine W.cs (cells' := 0) (slots' := 0) (by rfl) (by rfl) ?_
  refine lv_if_eq (tgt := 22) hx hb dX1_product_8 (by decide) (fun c_ => ?_) (fun c_ => ?_)
  · have hf := (if_pos c_).symm.trans hf
    refine lv_iconst (v := (-1 : Int32)) hx hb dX1_product_22 (by decide) ?_
    cases hf
    exact r_iret X dX1_product_23 (Nat.le_of_ble_eq_true rfl) (Nat.le_of_ble_eq_true rfl) rfl hH hS
  · have hf := (if_neg c_).symm.trans hf
    refine lv_iload_n hx hb dX1_product_11 rfl (lv_at hl 1 rfl) ?_
    refine lv_iload_n hx hb dX1_product_12 rfl (lv_at hl 2 rfl) ?_
    refine lv_lload_n hx hb dX1_product_13 rfl (lv_at hl 3 rfl) ?_
    refine lv_lload hx hb dX1_product_14 (lv_at hl 4 rfl) ?_
    obtain ⟨v2, hv, hf⟩ := bd hf
    refine c_S (As := [.int a1, .int a2, .long a3, .long a5]) (rest := []) (st1 := [.int v2]) X (met_X1_productOf l G _ N a1 a2 a3 a5 v2 hv) cs_X1_productOf q386 rfl rfl rfl hl.1 (Nat.le_of_ble_eq_true rfl) ⟨Nat.le_of_ble_eq_true rfl, Nat.le_of_ble_eq_true rfl⟩ ⟨Nat.le_of_ble_eq_true rfl, Nat.le_of_ble_eq_true rfl⟩ dX1_product_16 hK hH hS (fun H locs hH hS => ?_)
    refine W.cs (cells' := 0) (slots' := 0) (by rfl) (by rfl) ?_
    refine lv_goto (tgt := 23) hx hb dX1_product_19 (by decide) ?_
    cases hf
    exact r_iret X dX1_product_23 (Nat.le_of_ble_eq_true rfl) (Nat.le_of_ble_eq_true rfl) rfl hH hS
theorem cv_X1_read : CalV "WordBench" yX1_read cX1_read 7 (some .long) 3 := ⟨q455, q456, q48, q457, by decide +kernel⟩
set_option maxHeartbeats 4000000 in
theorem met_X1_read (l : Launch) (G : GG) (σ : SG) (N : Nat) (a0 : Nat) (a1 : Int32) (a2 : Int64) (a4 : Int32) (σf : SG) (rf : Int64) (hf : f_X1_read N σ a0 a1 a2 a4 = some (σf, rf)) : Con l yX1_read cX1_read 7 (some .long) 6 16 185 G σ [.ref a0, .int a1, .long a2, .int a4] σf (some (.long rf)) := by
  refine con_of (by decide) (Nat.le_of_ble_eq_true rfl) ?_
  intro p e s m below meth c ls X hK hH hl hS
  have hx := X.1
  have hb := X.2.1
  have hml := X.2.2.2.1
  have hown : s.vm.findClass RX1 = some m.cls := X.2.2.2.2.1
  have hts := X.2.2.2.2.2.1
  have hl : lv_has ls 7 [(0, .ref a0), (1, .int a1), (2, .long a2), (4, .int a4)] := hl
  unfold f_X1_read at hf
  have J52 : ∀ (d0 : Nat) (d1 : Int32) (d2 : Int64) (d4 : Int32) (d5 : Int32) (u52 : SG), f_X1_read_j52 N d0 d1 d2 d4 d5 u52 = some (σf, rf) → ∀ (ls : Array Slot) (H : Heap) (locs : List Loc), lv_has ls 7 [(0, .ref d0), (1, .int d1), (2, .long d2), (4, .int d4), (5, .int d5)] → HH G u52 H → va_S (AG G) s.heap H locs → W p l e (rm_ 6 16 185) s m ([.ref a0, .int a1, .long a2, .int a4] : List Value).toArray below meth c H locs 16 185 (MQ below (PostC G σf (some (.long rf))) ([.ref a0, .int a1, .long a2, .int a4] : List Value).toArray s 16 185 (AG G)) (F0 m 52 ls []) := by
    intro d0 d1 d2 d4 d5 u52 hf ls H locs hl hH hS
    unfold f_X1_read_j52 at hf
    refine lv_iload hx hb dX1_read_52 (lv_at hl 4 rfl) ?_
    refine lv_if_eq (tgt := 61) hx hb dX1_read_54 (by decide) (fun c_ => ?_) (fun c_ => ?_)
    · have hf := (if_pos c_).symm.trans hf
      refine lv_aload_n hx hb dX1_read_61 rfl (lv_at hl 0 rfl) ?_
      refine lv_aload_n hx hb dX1_read_62 rfl (lv_at hl 0 rfl) ?_
      obtain ⟨v2, hv, hf⟩ := bd hf
      refine h_gR X hK hH fo_X1_0 hv q649 dX1_read_63 ?_
      refine lv_iload_n hx hb dX1_read_66 rfl (lv_at hl 1 rfl) ?_
      obtain ⟨v3, hv, hf⟩ := bd hf
      refine h_aQ (by decide) X hK hH hv dX1_read_67 ?_
      refine lv_lload_n hx hb dX1_read_68 rfl (lv_at hl 2 rfl) ?_
      refine lv_iload hx hb dX1_read_69 (lv_at hl 3 rfl) ?_
      obtain ⟨b4, hq, hz⟩ := bd hf
      clear hf
      subst hq
      have hf := hz
      clear hz
      obtain ⟨_, hw, hf⟩ := bd hf
      obtain ⟨v5, hv, hf⟩ := bd hf
      refine c_V (As := [.ref b4, .long d2, .int d4]) (rest := []) (st1 := [.int v5]) X (met_X1_readBy l G u52 N d0 b4 d2 d4 v5 hv) cv_X1_readBy q458 (recv1 (w := (RX1, TX1, 6)) hw hK hH rfl) rfl rfl rfl hl.1 (Nat.le_of_ble_eq_true rfl) ⟨Nat.le_of_ble_eq_true rfl, Nat.le_of_ble_eq_true rfl⟩ ⟨Nat.le_of_ble_eq_true rfl, Nat.le_of_ble_eq_true rfl⟩ dX1_read_71 hK hH hS (fun H locs hH hS => ?_)
      refine W.cs (cells' := 16) (slots' := 185) (by rfl) (by rfl) ?_
      refine lv_istore (lv' := [(6, .int v5), (0, .ref d0), (1, .int d1), (2, .long d2), (4, .int d4), (5, .int d5)]) hx hb dX1_read_74 hl (by decide) rfl (fun ls hl => ?_)
      refine lv_iload hx hb dX1_read_76 (lv_at hl 0 rfl) ?_
      refine lv_bipush (v := (-2 : Int32)) hx hb dX1_read_78 (by decide) ?_
      refine lv_icmp_ne (tgt := 89) hx hb dX1_read_80 (by decide) (fun c_ => ?_) (fun c_ => ?_)
      · have hf := (if_neg c_).symm.trans hf
        refine lv_aload_n hx hb dX1_read_89 rfl (lv_at hl 1 rfl) ?_
        obtain ⟨v6, hv, hf⟩ := bd hf
        refine h_gR X hK hH fo_X1_1 hv q650 dX1_read_90 ?_
        refine lv_iload hx hb dX1_read_93 (lv_at hl 0 rfl) ?_
        obtain ⟨v7, hv, hf⟩ := bd hf
        refine h_aL X hK hH hv dX1_read_95 ?_
        cases hf
        exact r_lret X dX1_read_96 (Nat.le_of_ble_eq_true rfl) (Nat.le_of_ble_eq_true rfl) rfl hH hS
      · have hf := (if_pos c_).symm.trans hf
        refine lv_ldc2 (v := (-2 : Int64)) hx hb hown (hts _ q462) dX1_read_83 ?_
        refine lv_goto (tgt := 96) hx hb dX1_read_86 (by decide) ?_
        cases hf
        exact r_lret X dX1_read_96 (Nat.le_of_ble_eq_true rfl) (Nat.le_of_ble_eq_true rfl) rfl hH hS
    · have hf := (if_neg c_).symm.trans hf
      refine lv_iload hx hb dX1_read_57 (lv_at hl 4 rfl) ?_
      refine lv_i2l (v := (d5).toInt64) hx hb dX1_read_59 rfl ?_
      cases hf
      exact r_lret X dX1_read_60 (Nat.le_of_ble_eq_true rfl) (Nat.le_of_ble_eq_true rfl) rfl hH hS
  have J40 : ∀ (d0 : Nat) (d1 : Int32) (d2 : Int64) (d4 : Int32) (d5 : Int32) (u40 : SG), f_X1_read_j40 N d0 d1 d2 d4 d5 u40 = some (σf, rf) → ∀ (ls : Array Slot) (H : Heap) (locs : List Loc), lv_has ls 7 [(0, .ref d0), (1, .int d1), (2, .long d2), (4, .int d4), (5, .int d5)] → HH G u40 H → va_S (AG G) s.heap H locs → W p l e (rm_ 6 16 185) s m ([.ref a0, .int a1, .long a2, .int a4] : List Value).toArray below meth c H locs 0 0 (MQ below (PostC G σf (some (.long rf))) ([.ref a0, .int a1, .long a2, .int a4] : List Value).toArray s 16 185 (AG G)) (F0 m 40 ls []) := by
    intro d0 d1 d2 d4 d5 u40 hf ls H locs hl hH hS
    unfold f_X1_read_j40 at hf
    refine lv_iload hx hb dX1_read_40 (lv_at hl 4 rfl) ?_
    refine lv_if_ne (tgt := 52) hx hb dX1_read_42 (by decide) (fun c_ => ?_) (fun c_ => ?_)
    · have hf := (if_neg c_).symm.trans hf
      refine W.widen (k := 16) (n := 185) (Nat.le_of_ble_eq_true rfl) (Nat.le_of_ble_eq_true rfl) ?_
      exact J52 d0 d1 d2 d4 d5 u40 hf _ _ _ (lv_sub hl [0, 1, 2, 3, 4] rfl) hH hS
    · have hf := (if_pos c_).symm.trans hf
      refine lv_aload_n hx hb dX1_read_45 rfl (lv_at hl 0 rfl) ?_
      refine lv_iload_n hx hb dX1_read_46 rfl (lv_at hl 1 rfl) ?_
      obtain ⟨_, hw, hf⟩ := bd hf
      obtain ⟨v8, hv, hf⟩ := bd hf
      refine c_V (As := [.int d1]) (rest := []) (st1 := [.int v8.2]) X (met_X1_whyWords l G u40 N d0 d1 v8.1 v8.2 hv) cv_X1_whyWords q419 (recv1 (w := (RX1, TX1, 6)) hw hK hH rfl) rfl rfl rfl hl.1 (Nat.le_of_ble_eq_true rfl) ⟨Nat.le_of_ble_eq_true rfl, Nat.le_of_ble_eq_true rfl⟩ ⟨Nat.le_of_ble_eq_true rfl, Nat.le_of_ble_eq_true rfl⟩ dX1_read_47 hK hH hS (fun H locs hH hS => ?_)
      refine W.cs (cells' := 16) (slots' := 185) (by rfl) (by rfl) ?_
      refine lv_istore (lv' := [(5, .int v8.2), (0, .ref d0), (1, .int d1), (2, .long d2), (4, .int d4)]) hx hb dX1_read_50 hl (by decide) rfl (fun ls hl => ?_)
      exact J52 d0 d1 d2 d4 v8.2 v8.1 hf _ _ _ (lv_sub hl [1, 2, 3, 4, 0] rfl) hH hS
  refine lv_aload_n hx hb dX1_read_0 rfl (lv_at hl 0 rfl) ?_
  refine lv_iload_n hx hb dX1_read_1 rfl (lv_at hl 1 rfl) ?_
  refine lv_lload_n hx hb dX1_read_2 rfl (lv_at hl 2 rfl) ?_
  obtain ⟨_, hw, hf⟩ := bd hf
  obtain ⟨v1, hv, hf⟩ := bd hf
  refine c_V (As := [.int a1, .long a2]) (rest := []) (st1 := [.int v1]) X (met_X1_whyWord l G σ N a0 a1 a2 v1 hv) cv_X1_whyWord q343 (recv1 (w := (RX1, TX1, 6)) hw hK hH rfl) rfl rfl rfl hl.1 (Nat.le_of_ble_eq_true rfl) ⟨Nat.le_of_ble_eq_true rfl, Nat.le_of_ble_eq_true rfl⟩ ⟨Nat.le_of_ble_eq_true rfl, Nat.le_of_ble_eq_true rfl⟩ dX1_read_3 hK hH hS (fun H locs hH hS => ?_)
  refine W.cs (cells' := 0) (slots' := 0) (by rfl) (by rfl) ?_
  refine lv_istore (lv' := [(5, .int v1), (0, .ref a0), (1, .int a1), (2, .long a2), (4, .int a4)]) hx hb dX1_read_6 hl (by decide) rfl (fun ls hl => ?_)
  refine lv_iload hx hb dX1_read_8 (lv_at hl 0 rfl) ?_
  refine lv_if_ne (tgt := 40) hx hb dX1_read_10 (by decide) (fun c_ => ?_) (fun c_ => ?_)
  · have hf := (if_neg c_).symm.trans hf
    exact J40 a0 a1 a2 a4 v1 σ hf _ _ _ (lv_sub hl [1, 2, 3, 4, 0] rfl) hH hS
  · have hf := (if_pos c_).symm.trans hf
    refine lv_iload hx hb dX1_read_13 (lv_at hl 4 rfl) ?_
    refine lv_i2l (v := (a4).toInt64) hx hb dX1_read_15 rfl ?_
    refine lv_lconst (v := (0 : Int64)) hx hb dX1_read_16 (by decide) ?_
    refine lv_iconst (v := (1 : Int32)) hx hb dX1_read_17 (by decide) ?_
    refine lv_aload_n hx hb dX1_read_18 rfl (lv_at hl 1 rfl) ?_
    obtain ⟨v9, hv, hf⟩ := bd hf
    refine h_gR X hK hH fo_X1_0 hv q649 dX1_read_19 ?_
    refine lv_iload_n hx hb dX1_read_22 rfl (lv_at hl 2 rfl) ?_
    obtain ⟨v10, hv, hf⟩ := bd hf
    refine h_aQ (by decide) X hK hH hv dX1_read_23 ?_
    obtain ⟨b11, hq, hz⟩ := bd hf
    clear hf
    subst hq
    have hf := hz
    clear hz
    obtain ⟨v12, hv, hf⟩ := bd hf
    refine h_gI X hK hH fo_Code_1 hv q123 dX1_read_24 ?_
    refine lv_ishl hx hb dX1_read_27 ?_
    refine lv_iconst (v := (1 : Int32)) hx hb dX1_read_28 (by decide) ?_
    refine lv_isub hx hb dX1_read_29 ?_
    refine lv_i2l (v := ((((1 : Int32) <<< (v12 &&& 31)) - (1 : Int32))).toInt64) hx hb dX1_read_30 rfl ?_
    obtain ⟨v13, hv, hf⟩ := bd hf
    refine c_S (As := [.long ((a4).toInt64), .long (0 : Int64), .long (((((1 : Int32) <<< (v12 &&& 31)) - (1 : Int32))).toInt64)]) (rest := []) (st1 := [.int v13]) X (met_X1_isIn l G σ N ((a4).toInt64) (0 : Int64) (((((1 : Int32) <<< (v12 &&& 31)) - (1 : Int32))).toInt64) v13 hv) cs_X1_isIn q86 rfl rfl rfl hl.1 (Nat.le_of_ble_eq_true rfl) ⟨Nat.le_of_ble_eq_true rfl, Nat.le_of_ble_eq_true rfl⟩ ⟨Nat.le_of_ble_eq_true rfl, Nat.le_of_ble_eq_true rfl⟩ dX1_read_31 hK hH hS (fun H locs hH hS => ?_)
    refine W.cs (cells' := 0) (slots' := 0) (by rfl) (by rfl) ?_
    refine lv_if_ne (tgt := 40) hx hb dX1_read_34 (by decide) (fun c_ => ?_) (fun c_ => ?_)
    · have hf := (if_neg c_).symm.trans hf
      exact J40 a0 a1 a2 a4 v1 σ hf _ _ _ (lv_sub hl [1, 2, 3, 4, 0] rfl) hH hS
    · have hf := (if_pos c_).symm.trans hf
      refine lv_iconst (v := (-1 : Int32)) hx hb dX1_read_37 (by decide) ?_
      refine lv_istore (lv' := [(5, .int (-1 : Int32)), (0, .ref a0), (1, .int a1), (2, .long a2), (4, .int a4)]) hx hb dX1_read_38 hl (by decide) rfl (fun ls hl => ?_)
      exact J40 a0 a1 a2 a4 (-1 : Int32) σ hf _ _ _ (lv_sub hl [1, 2, 3, 4, 0] rfl) hH hS
theorem cu_X8_add_6 : CalU "WordBench$Code" "WordBench$Ring" ⟨"WordBench$Ring", "add", "(J)V"⟩ yX4_add cX4_add 3 none 1 := ⟨q253, q255, q223, q229, q58, by decide +kernel, by decide +kernel, by decide +kernel⟩
theorem dr_X8_add {p : Program} {l : Launch} {e : Env} {R : Room} {s : State} {m : MethodId} {args : Array Value} {below : List Frame} {meth : Method} {c : Code} {H : Heap} {locs : List Loc} {cells slots : Nat} {Q : State → Prop} {cc : ByteArray} {pc : Nat} {ls : Array Slot} {rest st0 st1 : List Value} {H0 : Heap} {G : GG} {σ : SG} {yo : MethodName} {nL idx : Nat} {rto : Option FieldType} (N : Nat) {b : Nat} {a0 : Int64} {u : SG} (X : Cx p s m args meth c cc rto nL yo) (q1 : Cond.methodLink yo.cls idx ⟨"WordBench$Ring", "add", "(J)V"⟩ ∈ lw_all) (hv : dv_X8_add N σ b a0 = some u) (hst : st0 = ([.long a0] : List Value).reverse ++ .ref b :: rest) (hs1 : (none : Option Value).toList ++ rest = st1) (hls : ls.size = nL) (hrm : (rest.map fun v => v.category).sum ≤ 20) (hR : 0 + 1 ≤ R.frames ∧ 20 + (3 + 11) + 80 * 0 ≤ R.locals) (hf : cells + 0 ≤ R.cells ∧ slots + 0 ≤ R.slots) (hdg : decode cc pc = .ok (.invokevirtual idx, 3)) (hK : KK G s) (hH : HH G σ H) (hS : va_S (AG G) H0 H locs)
    (kk : ∀ (H1 : Heap) (locs1 : List Loc), HH G u H1 → va_S (AG G) H0 H1 locs1 → W p l e R s m args below meth c H1 locs1 (cells + 0) (slots + 0) Q (F0 m (pc + 3) ls st1)) : W p l e R s m args below meth c H locs cells slots Q (F0 m pc ls st0) := by
  subst hs1
  unfold dv_X8_add at hv
  split at hv
  · rename_i fs he
    exact r_U (C := "WordBench$Ring") (owner := "WordBench$Code") (x := ⟨"WordBench$Ring", "add", "(J)V"⟩) (n := 1) (As := [.long a0]) X (met_X4_add l G σ N b a0 u hv) cu_X8_add_6 (va_Decl.of (X.2.2.2.2.2.1 _ q223) (X.2.2.2.2.2.1 _ q229)) q1 (recv_of_HH (w := (RX8, TX8, 4)) hK hH he rfl) rfl hst hls hrm ⟨by omega, by omega⟩ hf hdg hK hH hS kk
  · cases hv
theorem cv_X1_ring : CalV "WordBench" yX1_ring cX1_ring 13 (some .int) 4 := ⟨q231, q232, q48, q233, by decide +kernel⟩
set_option maxHeartbeats 4000000 in
theorem met_X1_ring (l : Launch) (G : GG) (σ : SG) (N : Nat) (a0 : Nat) (a1 : Int32) (a2 : Int32) (a3 : Int32) (a4 : Int64) (σf : SG) (rf : Int32) (hf : f_X1_ring N σ a0 a1 a2 a3 a4 = some (σf, rf)) : Con l yX1_ring cX1_ring 13 (some .int) 4 16 372 G σ [.ref a0, .int a1, .int a2, .int a3, .long a4] σf (some (.int rf)) := by
  refine con_of (by decide) (Nat.le_of_ble_eq_true rfl) ?_
  intro p e s m below meth c ls X hK hH hl hS
  have hx := X.1
  have hb := X.2.1
  have hml := X.2.2.2.1
  have hown : s.vm.findClass RX1 = some m.cls := X.2.2.2.2.1
  have hts := X.2.2.2.2.2.1
  have hl : lv_has ls 13 [(0, .ref a0), (1, .int a1), (2, .int a2), (3, .int a3), (4, .long a4)] := hl
  unfold f_X1_ring at hf
  have L50 : ∀ (c0 : Nat) (c1 : Int32) (c2 : Int32) (c3 : Int32) (c6 : Nat) (n : Nat) (s50 : (Int32 × Int64 × Int32 × SG)) (r50 : (Int32 × SG)), lp (f_X1_ring_b50 N c0 c1 c2 c3 c6) n s50 = some r50 → (∀ (ls : Array Slot) (H : Heap) (locs : List Loc), lv_has ls 13 [(0, .ref c0), (1, .int c1), (2, .int c2), (3, .int c3), (6, .ref c6), (7, .int r50.1)] → HH G r50.2 H → va_S (AG G) s.heap H locs → W p l e (rm_ 4 16 372) s m ([.ref a0, .int a1, .int a2, .int a3, .long a4] : List Value).toArray below meth c H locs 1 12 (MQ below (PostC G σf (some (.int rf))) ([.ref a0, .int a1, .int a2, .int a3, .long a4] : List Value).toArray s 16 372 (AG G)) (F0 m 85 ls [])) → ∀ (ls : Array Slot) (H : Heap) (locs : List Loc), lv_has ls 13 [(0, .ref c0), (1, .int c1), (2, .int c2), (3, .int c3), (6, .ref c6), (7, .int s50.1), (8, .long s50.2.1), (10, .int s50.2.2.1)] → HH G s50.2.2.2 H → va_S (AG G) s.heap H locs → W p l e (rm_ 4 16 372) s m ([.ref a0, .int a1, .int a2, .int a3, .long a4] : List Value).toArray below meth c H locs 1 12 (MQ below (PostC G σf (some (.int rf))) ([.ref a0, .int a1, .int a2, .int a3, .long a4] : List Value).toArray s 16 372 (AG G)) (F0 m 50 ls []) := by
    intro c0 c1 c2 c3 c6 n s50 r50 hr hq
    refine lp_ind (P := fun s50 => ∀ (ls : Array Slot) (H : Heap) (locs : List Loc), lv_has ls 13 [(0, .ref c0), (1, .int c1), (2, .int c2), (3, .int c3), (6, .ref c6), (7, .int s50.1), (8, .long s50.2.1), (10, .int s50.2.2.1)] → HH G s50.2.2.2 H → va_S (AG G) s.heap H locs → W p l e (rm_ 4 16 372) s m ([.ref a0, .int a1, .int a2, .int a3, .long a4] : List Value).toArray below meth c H locs 1 12 (MQ below (PostC G σf (some (.int rf))) ([.ref a0, .int a1, .int a2, .int a3, .long a4] : List Value).toArray s 16 372 (AG G)) (F0 m 50 ls [])) (Q := fun r50 => ∀ (ls : Array Slot) (H : Heap) (locs : List Loc), lv_has ls 13 [(0, .ref c0), (1, .int c1), (2, .int c2), (3, .int c3), (6, .ref c6), (7, .int r50.1)] → HH G r50.2 H → va_S (AG G) s.heap H locs → W p l e (rm_ 4 16 372) s m ([.ref a0, .int a1, .int a2, .int a3, .long a4] : List Value).toArray below meth c H locs 1 12 (MQ below (PostC G σf (some (.int rf))) ([.ref a0, .int a1, .int a2, .int a3, .long a4] : List Value).toArray s 16 372 (AG G)) (F0 m 85 ls [])) ?_ n s50 r50 hr hq
    intro s50 x50 hf hx50 ls H locs hl hH hS
    unfold f_X1_ring_b50 at hf
    refine lv_lload hx hb dX1_ring_50 (lv_at hl 6 rfl) ?_
    refine lv_lconst (v := (0 : Int64)) hx hb dX1_ring_52 (by decide) ?_
    refine W.lcmp hx hb dX1_ring_53 ?_
    refine lv_if_le (tgt := 85) hx hb dX1_ring_54 (by decide) (fun c_ => ?_) (fun c_ => ?_)
    · have hf := (if_pos ((lg_cmp_le s50.2.1 (0 : Int64)).mp c_)).symm.trans hf
      cases hf
      exact hx50 _ _ _ (lv_sub hl [0, 1, 2, 3, 4, 5] rfl) hH hS
    · have hf := (if_neg (fun z => c_ ((lg_cmp_le s50.2.1 (0 : Int64)).mpr z))).symm.trans hf
      refine lv_aload hx hb dX1_ring_57 (lv_at hl 4 rfl) ?_
      refine lv_iload hx hb dX1_ring_59 (lv_at hl 7 rfl) ?_
      refine lv_lload hx hb dX1_ring_61 (lv_at hl 6 rfl) ?_
      refine lv_iload_n hx hb dX1_ring_63 rfl (lv_at hl 2 rfl) ?_
      refine lv_i2l (v := (c2).toInt64) hx hb dX1_ring_64 rfl ?_
      obtain ⟨v5, hv, hf⟩ := bd hf
      refine r_lrem hx hb hv dX1_ring_65 ?_
      refine lv_l2i (v := (v5).toInt32) hx hb dX1_ring_66 rfl ?_
      obtain ⟨t6, hv, hf⟩ := bd hf
      refine h_wI X hK hH hS hv dX1_ring_67 (fun H locs hH hS => ?_)
      refine lv_lload hx hb dX1_ring_68 (lv_at hl 6 rfl) ?_
      refine lv_iload_n hx hb dX1_ring_70 rfl (lv_at hl 2 rfl) ?_
      refine lv_i2l (v := (c2).toInt64) hx hb dX1_ring_71 rfl ?_
      obtain ⟨v7, hv, hf⟩ := bd hf
      refine r_ldiv hx hb hv dX1_ring_72 ?_
      refine lv_lstore (lv' := [(8, .long v7), (0, .ref c0), (1, .int c1), (2, .int c2), (3, .int c3), (6, .ref c6), (7, .int s50.1), (10, .int s50.2.2.1)]) hx hb dX1_ring_73 hl (by decide) rfl (fun ls hl => ?_)
      refine lv_iload hx hb dX1_ring_75 (lv_at hl 7 rfl) ?_
      refine lv_istore (lv' := [(7, .int s50.2.2.1), (8, .long v7), (0, .ref c0), (1, .int c1), (2, .int c2), (3, .int c3), (6, .ref c6), (10, .int s50.2.2.1)]) hx hb dX1_ring_77 hl (by decide) rfl (fun ls hl => ?_)
      refine lv_iinc (v := (s50.2.2.1 + 1)) (lv' := [(10, .int (s50.2.2.1 + 1)), (7, .int s50.2.2.1), (8, .long v7), (0, .ref c0), (1, .int c1), (2, .int c2), (3, .int c3), (6, .ref c6)]) hx hb dX1_ring_79 hl (k := 7) rfl rfl (by decide) rfl (fun ls hl => ?_)
      refine lv_goto (tgt := 50) hx hb dX1_ring_82 (by decide) ?_
      cases hf
      exact hx50 _ _ _ (lv_sub hl [3, 4, 5, 6, 7, 1, 2, 0] rfl) hH hS
  have L99 : ∀ (c0 : Nat) (c1 : Int32) (c2 : Int32) (c3 : Int32) (c6 : Nat) (c7 : Int32) (c10 : Nat) (n99 : Nat) (s99 : (Int32 × SG)) (r99 : SG), lp (f_X1_ring_b99 N c0 c1 c2 c3 c6 c7 c10) n99 s99 = some r99 → (∀ (ls : Array Slot) (H : Heap) (locs : List Loc), lv_has ls 13 [(0, .ref c0), (1, .int c1), (10, .ref c10)] → HH G r99 H → va_S (AG G) s.heap H locs → W p l e (rm_ 4 16 372) s m ([.ref a0, .int a1, .int a2, .int a3, .long a4] : List Value).toArray below meth c H locs 16 372 (MQ below (PostC G σf (some (.int rf))) ([.ref a0, .int a1, .int a2, .int a3, .long a4] : List Value).toArray s 16 372 (AG G)) (F0 m 144 ls [])) → n99 ≤ 13 → ∀ (ls : Array Slot) (H : Heap) (locs : List Loc), lv_has ls 13 [(0, .ref c0), (1, .int c1), (2, .int c2), (3, .int c3), (6, .ref c6), (7, .int c7), (10, .ref c10), (11, .int s99.1)] → HH G s99.2 H → va_S (AG G) s.heap H locs → W p l e (rm_ 4 16 372) s m ([.ref a0, .int a1, .int a2, .int a3, .long a4] : List Value).toArray below meth c H locs (0 + 3 + (13 - n99) * 1) (0 + 216 + (13 - n99) * 12) (MQ below (PostC G σf (some (.int rf))) ([.ref a0, .int a1, .int a2, .int a3, .long a4] : List Value).toArray s 16 372 (AG G)) (F0 m 99 ls []) := by
    intro c0 c1 c2 c3 c6 c7 c10 n99 s99 r99 hr hq
    refine lp_indN (P := fun n99 s99 => n99 ≤ 13 → ∀ (ls : Array Slot) (H : Heap) (locs : List Loc), lv_has ls 13 [(0, .ref c0), (1, .int c1), (2, .int c2), (3, .int c3), (6, .ref c6), (7, .int c7), (10, .ref c10), (11, .int s99.1)] → HH G s99.2 H → va_S (AG G) s.heap H locs → W p l e (rm_ 4 16 372) s m ([.ref a0, .int a1, .int a2, .int a3, .long a4] : List Value).toArray below meth c H locs (0 + 3 + (13 - n99) * 1) (0 + 216 + (13 - n99) * 12) (MQ below (PostC G σf (some (.int rf))) ([.ref a0, .int a1, .int a2, .int a3, .long a4] : List Value).toArray s 16 372 (AG G)) (F0 m 99 ls [])) (Q := fun r99 => ∀ (ls : Array Slot) (H : Heap) (locs : List Loc), lv_has ls 13 [(0, .ref c0), (1, .int c1), (10, .ref c10)] → HH G r99 H → va_S (AG G) s.heap H locs → W p l e (rm_ 4 16 372) s m ([.ref a0, .int a1, .int a2, .int a3, .long a4] : List Value).toArray below meth c H locs 16 372 (MQ below (PostC G σf (some (.int rf))) ([.ref a0, .int a1, .int a2, .int a3, .long a4] : List Value).toArray s 16 372 (AG G)) (F0 m 144 ls [])) ?_ n99 s99 r99 hr hq
    intro n99 s99 x99 hf hx99 hn ls H locs hl hH hS
    refine W.eq rfl ?_
    unfold f_X1_ring_b99 at hf
    refine W.widen (k := (0 + 3 + (13 - (n99 + 1)) * 1)) (n := (0 + 216 + (13 - (n99 + 1)) * 12)) (by omega) (by omega) ?_
    refine lv_iload hx hb dX1_ring_99 (lv_at hl 7 rfl) ?_
    refine lv_iload_n hx hb dX1_ring_101 rfl (lv_at hl 3 rfl) ?_
    refine lv_iload hx hb dX1_ring_102 (lv_at hl 5 rfl) ?_
    refine lv_isub hx hb dX1_ring_104 ?_
    refine lv_icmp_ge (tgt := 144) hx hb dX1_ring_105 (by decide) (fun c_ => ?_) (fun c_ => ?_)
    · have hf := (if_pos c_).symm.trans hf
      cases hf
      refine W.widen (k := 16) (n := 372) (by omega) (by omega) ?_
      exact hx99 _ _ _ (lv_sub hl [0, 1, 6] rfl) hH hS
    · have hf := (if_neg c_).symm.trans hf
      refine lv_iload_n hx hb dX1_ring_108 rfl (lv_at hl 3 rfl) ?_
      obtain ⟨t11, hv, hf⟩ := bd hf
      refine h_newa (t := 0) (B := 12) (atype := .int) X hK hH hS (by decide) hv (by decide) q245 (by show _ ≤ _; first | omega | (dsimp only [rm_]; omega)) (by show _ ≤ _; first | omega | (dsimp only [rm_]; omega)) dX1_ring_109 (fun H hH hS => ?_)
      refine W.cs (cells' := (1 + 3 + (13 - (n99 + 1)) * 1)) (slots' := (12 + 216 + (13 - (n99 + 1)) * 12)) (by omega) (by omega) ?_
      refine lv_astore (lv' := [(12, .ref ((s99.2).1)), (0, .ref c0), (1, .int c1), (2, .int c2), (3, .int c3), (6, .ref c6), (7, .int c7), (10, .ref c10), (11, .int s99.1)]) hx hb dX1_ring_111 hl (by decide) rfl (fun ls hl => ?_)
      refine lv_aload hx hb dX1_ring_113 (lv_at hl 5 rfl) ?_
      refine lv_iconst (v := (0 : Int32)) hx hb dX1_ring_115 (by decide) ?_
      refine lv_aload hx hb dX1_ring_116 (lv_at hl 0 rfl) ?_
      refine lv_iload hx hb dX1_ring_118 (lv_at hl 8 rfl) ?_
      refine lv_iload hx hb dX1_ring_120 (lv_at hl 6 rfl) ?_
      refine lv_iconst (v := (1 : Int32)) hx hb dX1_ring_122 (by decide) ?_
      refine lv_iadd hx hb dX1_ring_123 ?_
      obtain ⟨t12, hv, hf⟩ := bd hf
      refine h_cpI X hK hH hS hv q246 hl.1 (Nat.le_of_ble_eq_true rfl) ⟨Nat.le_of_ble_eq_true rfl, Nat.le_of_ble_eq_true rfl⟩ dX1_ring_124 (fun H locs hH hS => ?_)
      refine lv_aload hx hb dX1_ring_127 (lv_at hl 7 rfl) ?_
      refine lv_iload_n hx hb dX1_ring_129 rfl (lv_at hl 3 rfl) ?_
      refine lv_aload hx hb dX1_ring_130 (lv_at hl 0 rfl) ?_
      obtain ⟨v13, hv, hf⟩ := bd hf
      refine c_S (As := [.int c2, .ref ((s99.2).1)]) (rest := [.ref c10]) (st1 := [.long v13, .ref c10]) X (met_X1_wordOf l G t12 N c2 ((s99.2).1) v13 hv) cs_X1_wordOf q249 rfl rfl rfl hl.1 (Nat.le_of_ble_eq_true rfl) ⟨Nat.le_of_ble_eq_true rfl, Nat.le_of_ble_eq_true rfl⟩ ⟨by show _ ≤ _; first | omega | (dsimp only [rm_]; omega), by show _ ≤ _; first | omega | (dsimp only [rm_]; omega)⟩ dX1_ring_132 hK hH hS (fun H locs hH hS => ?_)
      refine W.cs (cells' := (1 + 3 + (13 - (n99 + 1)) * 1)) (slots' := (12 + 216 + (13 - (n99 + 1)) * 12)) (by omega) (by omega) ?_
      obtain ⟨v14, hv, hf⟩ := bd hf
      refine dr_X8_add N (rest := []) (st1 := []) X q252 hv rfl rfl hl.1 (Nat.le_of_ble_eq_true rfl) ⟨Nat.le_of_ble_eq_true rfl, Nat.le_of_ble_eq_true rfl⟩ ⟨by show _ ≤ _; first | omega | (dsimp only [rm_]; omega), by show _ ≤ _; first | omega | (dsimp only [rm_]; omega)⟩ dX1_ring_135 hK hH hS (fun H locs hH hS => ?_)
      refine W.cs (cells' := (1 + 3 + (13 - (n99 + 1)) * 1)) (slots' := (12 + 216 + (13 - (n99 + 1)) * 12)) (by omega) (by omega) ?_
      refine lv_iinc (v := (s99.1 + 1)) (lv' := [(11, .int (s99.1 + 1)), (12, .ref ((s99.2).1)), (0, .ref c0), (1, .int c1), (2, .int c2), (3, .int c3), (6, .ref c6), (7, .int c7), (10, .ref c10)]) hx hb dX1_ring_138 hl (k := 8) rfl rfl (by decide) rfl (fun ls hl => ?_)
      refine lv_goto (tgt := 99) hx hb dX1_ring_141 (by decide) ?_
      cases hf
      refine W.widen (k := (0 + 3 + (13 - n99) * 1)) (n := (0 + 216 + (13 - n99) * 12)) (by omega) (by omega) ?_
      exact hx99 (by omega) _ _ _ (lv_sub hl [2, 3, 4, 5, 6, 7, 8, 0] rfl) hH hS
  refine lv_iload_n hx hb dX1_ring_0 rfl (lv_at hl 1 rfl) ?_
  obtain ⟨v1, hv, hf⟩ := bd hf
  refine c_S (As := [.int a1]) (rest := []) (st1 := [.int v1]) X (met_X1_isPlace l G σ N a1 v1 hv) cs_X1_isPlace q82 rfl rfl rfl hl.1 (Nat.le_of_ble_eq_true rfl) ⟨Nat.le_of_ble_eq_true rfl, Nat.le_of_ble_eq_true rfl⟩ ⟨Nat.le_of_ble_eq_true rfl, Nat.le_of_ble_eq_true rfl⟩ dX1_ring_1 hK hH hS (fun H locs hH hS => ?_)
  refine W.cs (cells' := 0) (slots' := 0) (by rfl) (by rfl) ?_
  refine lv_if_eq (tgt := 33) hx hb dX1_ring_4 (by decide) (fun c_ => ?_) (fun c_ => ?_)
  · have hf := (if_pos c_).symm.trans hf
    refine lv_iconst (v := (-1 : Int32)) hx hb dX1_ring_33 (by decide) ?_
    cases hf
    exact r_iret X dX1_ring_34 (Nat.le_of_ble_eq_true rfl) (Nat.le_of_ble_eq_true rfl) rfl hH hS
  · have hf := (if_neg c_).symm.trans hf
    refine lv_iload_n hx hb dX1_ring_7 rfl (lv_at hl 2 rfl) ?_
    refine lv_iload_n hx hb dX1_ring_8 rfl (lv_at hl 3 rfl) ?_
    obtain ⟨v2, hv, hf⟩ := bd hf
    refine c_S (As := [.int a2, .int a3]) (rest := []) (st1 := [.int v2]) X (met_X1_isField l G σ N a2 a3 v2 hv) cs_X1_isField q89 rfl rfl rfl hl.1 (Nat.le_of_ble_eq_true rfl) ⟨Nat.le_of_ble_eq_true rfl, Nat.le_of_ble_eq_true rfl⟩ ⟨Nat.le_of_ble_eq_true rfl, Nat.le_of_ble_eq_true rfl⟩ dX1_ring_9 hK hH hS (fun H locs hH hS => ?_)
    refine W.cs (cells' := 0) (slots' := 0) (by rfl) (by rfl) ?_
    refine lv_if_eq (tgt := 33) hx hb dX1_ring_12 (by decide) (fun c_ => ?_) (fun c_ => ?_)
    · have hf := (if_pos c_).symm.trans hf
      refine lv_iconst (v := (-1 : Int32)) hx hb dX1_ring_33 (by decide) ?_
      cases hf
      exact r_iret X dX1_ring_34 (Nat.le_of_ble_eq_true rfl) (Nat.le_of_ble_eq_true rfl) rfl hH hS
    · have hf := (if_neg c_).symm.trans hf
      refine lv_lload hx hb dX1_ring_15 (lv_at hl 4 rfl) ?_
      refine lv_lconst (v := (1 : Int64)) hx hb dX1_ring_17 (by decide) ?_
      refine W.lcmp hx hb dX1_ring_18 ?_
      refine lv_if_lt (tgt := 33) hx hb dX1_ring_19 (by decide) (fun c_ => ?_) (fun c_ => ?_)
      · have hf := (if_pos ((lg_cmp_lt a4 (1 : Int64)).mp c_)).symm.trans hf
        refine lv_iconst (v := (-1 : Int32)) hx hb dX1_ring_33 (by decide) ?_
        cases hf
        exact r_iret X dX1_ring_34 (Nat.le_of_ble_eq_true rfl) (Nat.le_of_ble_eq_true rfl) rfl hH hS
      · have hf := (if_neg (fun z => c_ ((lg_cmp_lt a4 (1 : Int64)).mpr z))).symm.trans hf
        refine lv_lload hx hb dX1_ring_22 (lv_at hl 4 rfl) ?_
        refine lv_iload_n hx hb dX1_ring_24 rfl (lv_at hl 2 rfl) ?_
        refine lv_iload_n hx hb dX1_ring_25 rfl (lv_at hl 3 rfl) ?_
        obtain ⟨v3, hv, hf⟩ := bd hf
        refine c_S (As := [.int a2, .int a3]) (rest := [.long a4]) (st1 := [.long v3, .long a4]) X (met_X1_power l G σ N a2 a3 v3 hv) cs_X1_power q190 rfl rfl rfl hl.1 (Nat.le_of_ble_eq_true rfl) ⟨Nat.le_of_ble_eq_true rfl, Nat.le_of_ble_eq_true rfl⟩ ⟨Nat.le_of_ble_eq_true rfl, Nat.le_of_ble_eq_true rfl⟩ dX1_ring_26 hK hH hS (fun H locs hH hS => ?_)
        refine W.cs (cells' := 0) (slots' := 0) (by rfl) (by rfl) ?_
        refine W.lcmp hx hb dX1_ring_29 ?_
        refine lv_if_lt (tgt := 35) hx hb dX1_ring_30 (by decide) (fun c_ => ?_) (fun c_ => ?_)
        · have hf := (if_pos ((lg_cmp_lt a4 v3).mp c_)).symm.trans hf
          refine lv_iload_n hx hb dX1_ring_35 rfl (lv_at hl 3 rfl) ?_
          obtain ⟨t4, hv, hf⟩ := bd hf
          refine h_newa (t := 0) (B := 12) (atype := .int) X hK hH hS (by decide) hv (by decide) q245 (Nat.le_of_ble_eq_true rfl) (Nat.le_of_ble_eq_true rfl) dX1_ring_36 (fun H hH hS => ?_)
          refine W.cs (cells' := 1) (slots' := 12) (by rfl) (by rfl) ?_
          refine lv_astore (lv' := [(6, .ref ((σ).1)), (0, .ref a0), (1, .int a1), (2, .int a2), (3, .int a3), (4, .long a4)]) hx hb dX1_ring_38 hl (by decide) rfl (fun ls hl => ?_)
          refine lv_iconst (v := (0 : Int32)) hx hb dX1_ring_40 (by decide) ?_
          refine lv_istore (lv' := [(7, .int (0 : Int32)), (6, .ref ((σ).1)), (0, .ref a0), (1, .int a1), (2, .int a2), (3, .int a3), (4, .long a4)]) hx hb dX1_ring_41 hl (by decide) rfl (fun ls hl => ?_)
          refine lv_lload hx hb dX1_ring_43 (lv_at hl 6 rfl) ?_
          refine lv_lstore (lv' := [(8, .long a4), (7, .int (0 : Int32)), (6, .ref ((σ).1)), (0, .ref a0), (1, .int a1), (2, .int a2), (3, .int a3), (4, .long a4)]) hx hb dX1_ring_45 hl (by decide) rfl (fun ls hl => ?_)
          refine lv_iconst (v := (0 : Int32)) hx hb dX1_ring_47 (by decide) ?_
          refine lv_istore (lv' := [(10, .int (0 : Int32)), (8, .long a4), (7, .int (0 : Int32)), (6, .ref ((σ).1)), (0, .ref a0), (1, .int a1), (2, .int a2), (3, .int a3), (4, .long a4)]) hx hb dX1_ring_48 hl (by decide) rfl (fun ls hl => ?_)
          obtain ⟨r50_8, hr, hf⟩ := bd hf
          refine L50 a0 a1 a2 a3 ((σ).1) N _ r50_8 hr ?_ _ _ _ (lv_sub hl [4, 5, 6, 7, 3, 2, 1, 0] rfl) hH hS
          intro ls H locs hl hH hS
          obtain ⟨t9, hv, hf⟩ := bd hf
          refine h_new (ci := 6) (fs := [.int 0, .int 0, .null, .int 0]) X hK hH hS tyX8 tyX8_ok in_X8 rfl q234 q235 q62 df_X8 (Nat.le_of_ble_eq_true rfl) (Nat.le_of_ble_eq_true rfl) dX1_ring_85 (fun H hH hS => ?_)
          rw [Option.some.inj hv] at hH
          refine W.cs (cells' := 2) (slots' := 16) (by rfl) (by rfl) ?_
          refine lv_dup hx hb dX1_ring_88 rfl ?_
          refine lv_iload_n hx hb dX1_ring_89 rfl (lv_at hl 2 rfl) ?_
          refine lv_iload_n hx hb dX1_ring_90 rfl (lv_at hl 3 rfl) ?_
          obtain ⟨v10, hv, hf⟩ := bd hf
          refine r_I (As := [.int a2, .int a3]) (rest := [.ref ((r50_8.2).1)]) X (met_X8_init l G t9 N ((r50_8.2).1) a2 a3 v10 hv) ci_X8_init q236 rfl rfl hl.1 (Nat.le_of_ble_eq_true rfl) ⟨Nat.le_of_ble_eq_true rfl, Nat.le_of_ble_eq_true rfl⟩ ⟨Nat.le_of_ble_eq_true rfl, Nat.le_of_ble_eq_true rfl⟩ dX1_ring_91 hK hH hS (fun H locs hH hS => ?_)
          refine W.cs (cells' := 3) (slots' := 216) (by rfl) (by rfl) ?_
          refine lv_astore (lv' := [(10, .ref ((r50_8.2).1)), (0, .ref a0), (1, .int a1), (2, .int a2), (3, .int a3), (6, .ref ((σ).1)), (7, .int r50_8.1)]) hx hb dX1_ring_94 hl (by decide) rfl (fun ls hl => ?_)
          refine lv_iconst (v := (0 : Int32)) hx hb dX1_ring_96 (by decide) ?_
          refine lv_istore (lv' := [(11, .int (0 : Int32)), (10, .ref ((r50_8.2).1)), (0, .ref a0), (1, .int a1), (2, .int a2), (3, .int a3), (6, .ref ((σ).1)), (7, .int r50_8.1)]) hx hb dX1_ring_97 hl (by decide) rfl (fun ls hl => ?_)
          obtain ⟨r99_15, hr, hf⟩ := bd hf
          refine W.widen (k := (0 + 3 + (13 - 13) * 1)) (n := (0 + 216 + (13 - 13) * 12)) (by omega) (by omega) ?_
          refine L99 a0 a1 a2 a3 ((σ).1) r50_8.1 ((r50_8.2).1) 13 _ r99_15 hr ?_ (Nat.le_refl _) _ _ _ (lv_sub hl [2, 3, 4, 5, 6, 7, 1, 0] rfl) hH hS
          intro ls H locs hl hH hS
          refine lv_aload_n hx hb dX1_ring_144 rfl (lv_at hl 0 rfl) ?_
          refine lv_iload_n hx hb dX1_ring_145 rfl (lv_at hl 1 rfl) ?_
          refine lv_aload hx hb dX1_ring_146 (lv_at hl 2 rfl) ?_
          obtain ⟨_, hw, hf⟩ := bd hf
          obtain ⟨v16, hv, hf⟩ := bd hf
          refine c_V (As := [.int a1, .ref ((r50_8.2).1)]) (rest := []) (st1 := [.int v16.2]) X (met_X1_puts l G r99_15 N a0 a1 ((r50_8.2).1) v16.1 v16.2 hv) cv_X1_puts q174 (recv1 (w := (RX1, TX1, 6)) hw hK hH rfl) rfl rfl rfl hl.1 (Nat.le_of_ble_eq_true rfl) ⟨Nat.le_of_ble_eq_true rfl, Nat.le_of_ble_eq_true rfl⟩ ⟨Nat.le_of_ble_eq_true rfl, Nat.le_of_ble_eq_true rfl⟩ dX1_ring_148 hK hH hS (fun H locs hH hS => ?_)
          refine W.cs (cells' := 16) (slots' := 372) (by rfl) (by rfl) ?_
          cases hf
          exact r_iret X dX1_ring_151 (Nat.le_of_ble_eq_true rfl) (Nat.le_of_ble_eq_true rfl) rfl hH hS
        · have hf := (if_neg (fun z => c_ ((lg_cmp_lt a4 v3).mpr z))).symm.trans hf
          refine lv_iconst (v := (-1 : Int32)) hx hb dX1_ring_33 (by decide) ?_
          cases hf
          exact r_iret X dX1_ring_34 (Nat.le_of_ble_eq_true rfl) (Nat.le_of_ble_eq_true rfl) rfl hH hS
theorem cv_X9_isLike : CalV "WordBench$Form" yX9_isLike cX9_isLike 4 (some .boolean) 1 := ⟨q538, q539, q63, q540, by decide +kernel⟩
set_option maxHeartbeats 4000000 in
theorem met_X9_isLike (l : Launch) (G : GG) (σ : SG) (N : Nat) (a0 : Nat) (a1 : Nat) (rf : Int32) (hf : f_X9_isLike N σ a0 a1 = some rf) : Con l yX9_isLike cX9_isLike 4 (some .boolean) 2 0 0 G σ [.ref a0, .ref a1] σ (some (.int rf)) := by
  refine con_of (by decide) (Nat.le_of_ble_eq_true rfl) ?_
  intro p e s m below meth c ls X hK hH hl hS
  have hx := X.1
  have hb := X.2.1
  have hml := X.2.2.2.1
  have hown : s.vm.findClass RX9 = some m.cls := X.2.2.2.2.1
  have hts := X.2.2.2.2.2.1
  have hl : lv_has ls 4 [(0, .ref a0), (1, .ref a1)] := hl
  unfold f_X9_isLike at hf
  have L19 : ∀ (c0 : Nat) (c1 : Nat) (n : Nat) (s19 : (Int32 × Int32)) (r19 : Int32), lp (f_X9_isLike_b19 N c0 c1 σ) n s19 = some r19 → (∀ (ls : Array Slot) (H : Heap) (locs : List Loc), lv_has ls 4 [(2, .int r19)] → HH G σ H → va_S (AG G) s.heap H locs → W p l e (rm_ 2 0 0) s m ([.ref a0, .ref a1] : List Value).toArray below meth c H locs 0 0 (MQ below (PostC G σ (some (.int rf))) ([.ref a0, .ref a1] : List Value).toArray s 0 0 (AG G)) (F0 m 57 ls [])) → ∀ (ls : Array Slot) (H : Heap) (locs : List Loc), lv_has ls 4 [(0, .ref c0), (1, .ref c1), (2, .int s19.1), (3, .int s19.2)] → HH G σ H → va_S (AG G) s.heap H locs → W p l e (rm_ 2 0 0) s m ([.ref a0, .ref a1] : List Value).toArray below meth c H locs 0 0 (MQ below (PostC G σ (some (.int rf))) ([.ref a0, .ref a1] : List Value).toArray s 0 0 (AG G)) (F0 m 19 ls []) := by
    intro c0 c1 n s19 r19 hr hq
    refine lp_ind (P := fun s19 => ∀ (ls : Array Slot) (H : Heap) (locs : List Loc), lv_has ls 4 [(0, .ref c0), (1, .ref c1), (2, .int s19.1), (3, .int s19.2)] → HH G σ H → va_S (AG G) s.heap H locs → W p l e (rm_ 2 0 0) s m ([.ref a0, .ref a1] : List Value).toArray below meth c H locs 0 0 (MQ below (PostC G σ (some (.int rf))) ([.ref a0, .ref a1] : List Value).toArray s 0 0 (AG G)) (F0 m 19 ls [])) (Q := fun r19 => ∀ (ls : Array Slot) (H : Heap) (locs : List Loc), lv_has ls 4 [(2, .int r19)] → HH G σ H → va_S (AG G) s.heap H locs → W p l e (rm_ 2 0 0) s m ([.ref a0, .ref a1] : List Value).toArray below meth c H locs 0 0 (MQ below (PostC G σ (some (.int rf))) ([.ref a0, .ref a1] : List Value).toArray s 0 0 (AG G)) (F0 m 57 ls [])) ?_ n s19 r19 hr hq
    intro s19 x19 hf hx19 ls H locs hl hH hS
    unfold f_X9_isLike_b19 at hf
    refine lv_iload_n hx hb dX9_isLike_19 rfl (lv_at hl 3 rfl) ?_
    refine lv_aload_n hx hb dX9_isLike_20 rfl (lv_at hl 0 rfl) ?_
    obtain ⟨v3, hv, hf⟩ := bd hf
    refine h_gI X hK hH fo_X9_4 hv q311 dX9_isLike_21 ?_
    refine lv_icmp_ge (tgt := 57) hx hb dX9_isLike_24 (by decide) (fun c_ => ?_) (fun c_ => ?_)
    · have hf := (if_pos c_).symm.trans hf
      cases hf
      exact hx19 _ _ _ (lv_sub hl [2] rfl) hH hS
    · have hf := (if_neg c_).symm.trans hf
      refine lv_iload_n hx hb dX9_isLike_27 rfl (lv_at hl 2 rfl) ?_
      refine lv_if_eq (tgt := 57) hx hb dX9_isLike_28 (by decide) (fun c_ => ?_) (fun c_ => ?_)
      · have hf := (if_pos c_).symm.trans hf
        cases hf
        exact hx19 _ _ _ (lv_sub hl [2] rfl) hH hS
      · have hf := (if_neg c_).symm.trans hf
        refine lv_aload_n hx hb dX9_isLike_31 rfl (lv_at hl 0 rfl) ?_
        refine lv_iload_n hx hb dX9_isLike_32 rfl (lv_at hl 3 rfl) ?_
        obtain ⟨_, hw, hf⟩ := bd hf
        obtain ⟨v4, hv, hf⟩ := bd hf
        refine c_V (As := [.int s19.2]) (rest := []) (st1 := [.long v4]) X (met_X9_row l G σ N c0 s19.2 v4 hv) cv_X9_row q354 (recv1 (w := (RX9, TX9, 5)) hw hK hH rfl) rfl rfl rfl hl.1 (Nat.le_of_ble_eq_true rfl) ⟨Nat.le_of_ble_eq_true rfl, Nat.le_of_ble_eq_true rfl⟩ ⟨Nat.le_of_ble_eq_true rfl, Nat.le_of_ble_eq_true rfl⟩ dX9_isLike_33 hK hH hS (fun H locs hH hS => ?_)
        refine W.cs (cells' := 0) (slots' := 0) (by rfl) (by rfl) ?_
        refine lv_aload_n hx hb dX9_isLike_36 rfl (lv_at hl 1 rfl) ?_
        refine lv_iload_n hx hb dX9_isLike_37 rfl (lv_at hl 3 rfl) ?_
        obtain ⟨_, hw, hf⟩ := bd hf
        obtain ⟨v5, hv, hf⟩ := bd hf
        refine c_V (As := [.int s19.2]) (rest := [.long v4]) (st1 := [.long v5, .long v4]) X (met_X9_row l G σ N c1 s19.2 v5 hv) cv_X9_row q354 (recv1 (w := (RX9, TX9, 5)) hw hK hH rfl) rfl rfl rfl hl.1 (Nat.le_of_ble_eq_true rfl) ⟨Nat.le_of_ble_eq_true rfl, Nat.le_of_ble_eq_true rfl⟩ ⟨Nat.le_of_ble_eq_true rfl, Nat.le_of_ble_eq_true rfl⟩ dX9_isLike_38 hK hH hS (fun H locs hH hS => ?_)
        refine W.cs (cells' := 0) (slots' := 0) (by rfl) (by rfl) ?_
        refine W.lcmp hx hb dX9_isLike_41 ?_
        refine lv_if_ne (tgt := 49) hx hb dX9_isLike_42 (by decide) (fun c_ => ?_) (fun c_ => ?_)
        · have hf := (if_neg (fun z => c_ ((lg_cmp_eq v4 v5).mpr z))).symm.trans hf
          refine lv_iconst (v := (0 : Int32)) hx hb dX9_isLike_49 (by decide) ?_
          refine lv_istore_n (lv' := [(2, .int (0 : Int32)), (0, .ref c0), (1, .ref c1), (3, .int s19.2)]) hx hb dX9_isLike_50 rfl hl (by decide) rfl (fun ls hl => ?_)
          refine lv_iinc (v := (s19.2 + 1)) (lv' := [(3, .int (s19.2 + 1)), (2, .int (0 : Int32)), (0, .ref c0), (1, .ref c1)]) hx hb dX9_isLike_51 hl (k := 3) rfl rfl (by decide) rfl (fun ls hl => ?_)
          refine lv_goto (tgt := 19) hx hb dX9_isLike_54 (by decide) ?_
          cases hf
          exact hx19 _ _ _ (lv_sub hl [2, 3, 1, 0] rfl) hH hS
        · have hf := (if_pos ((lg_cmp_eq v4 v5).mp c_)).symm.trans hf
          refine lv_iconst (v := (1 : Int32)) hx hb dX9_isLike_45 (by decide) ?_
          refine lv_goto (tgt := 50) hx hb dX9_isLike_46 (by decide) ?_
          refine lv_istore_n (lv' := [(2, .int (1 : Int32)), (0, .ref c0), (1, .ref c1), (3, .int s19.2)]) hx hb dX9_isLike_50 rfl hl (by decide) rfl (fun ls hl => ?_)
          refine lv_iinc (v := (s19.2 + 1)) (lv' := [(3, .int (s19.2 + 1)), (2, .int (1 : Int32)), (0, .ref c0), (1, .ref c1)]) hx hb dX9_isLike_51 hl (k := 3) rfl rfl (by decide) rfl (fun ls hl => ?_)
          refine lv_goto (tgt := 19) hx hb dX9_isLike_54 (by decide) ?_
          cases hf
          exact hx19 _ _ _ (lv_sub hl [2, 3, 1, 0] rfl) hH hS
  have J16 : ∀ (d0 : Nat) (d1 : Nat) (k0 : Int32), f_X9_isLike_j16 N σ d0 d1 k0 = some rf → ∀ (ls : Array Slot) (H : Heap) (locs : List Loc), lv_has ls 4 [(0, .ref d0), (1, .ref d1)] → HH G σ H → va_S (AG G) s.heap H locs → W p l e (rm_ 2 0 0) s m ([.ref a0, .ref a1] : List Value).toArray below meth c H locs 0 0 (MQ below (PostC G σ (some (.int rf))) ([.ref a0, .ref a1] : List Value).toArray s 0 0 (AG G)) (F0 m 16 ls [.int k0]) := by
    intro d0 d1 k0 hf ls H locs hl hH hS
    unfold f_X9_isLike_j16 at hf
    refine lv_istore_n (lv' := [(2, .int k0), (0, .ref d0), (1, .ref d1)]) hx hb dX9_isLike_16 rfl hl (by decide) rfl (fun ls hl => ?_)
    refine lv_iconst (v := (0 : Int32)) hx hb dX9_isLike_17 (by decide) ?_
    refine lv_istore_n (lv' := [(3, .int (0 : Int32)), (2, .int k0), (0, .ref d0), (1, .ref d1)]) hx hb dX9_isLike_18 rfl hl (by decide) rfl (fun ls hl => ?_)
    obtain ⟨r19_6, hr, hf⟩ := bd hf
    refine L19 d0 d1 N _ r19_6 hr ?_ _ _ _ (lv_sub hl [2, 3, 1, 0] rfl) hH hS
    intro ls H locs hl hH hS
    refine lv_iload_n hx hb dX9_isLike_57 rfl (lv_at hl 0 rfl) ?_
    obtain ⟨hz, hv⟩ := rz_s hf
    subst hv
    exact r_zret X dX9_isLike_58 (Nat.le_of_ble_eq_true rfl) (Nat.le_of_ble_eq_true rfl) hz rfl hH hS
  refine lv_aload_n hx hb dX9_isLike_0 rfl (lv_at hl 0 rfl) ?_
  obtain ⟨v1, hv, hf⟩ := bd hf
  refine h_gI X hK hH fo_X9_4 hv q311 dX9_isLike_1 ?_
  refine lv_aload_n hx hb dX9_isLike_4 rfl (lv_at hl 1 rfl) ?_
  obtain ⟨v2, hv, hf⟩ := bd hf
  refine h_gI X hK hH fo_X9_4 hv q311 dX9_isLike_5 ?_
  refine lv_icmp_ne (tgt := 15) hx hb dX9_isLike_8 (by decide) (fun c_ => ?_) (fun c_ => ?_)
  · have hf := (if_neg c_).symm.trans hf
    refine lv_iconst (v := (0 : Int32)) hx hb dX9_isLike_15 (by decide) ?_
    exact J16 a0 a1 (0 : Int32) hf _ _ _ (lv_sub hl [0, 1] rfl) hH hS
  · have hf := (if_pos c_).symm.trans hf
    refine lv_iconst (v := (1 : Int32)) hx hb dX9_isLike_11 (by decide) ?_
    refine lv_goto (tgt := 16) hx hb dX9_isLike_12 (by decide) ?_
    exact J16 a0 a1 (1 : Int32) hf _ _ _ (lv_sub hl [0, 1] rfl) hH hS
theorem cs_X1_sizeOf : CalS yX1_sizeOf cX1_sizeOf 1 (some .long) 1 := ⟨q337, q48, q338, by decide +kernel, by decide +kernel, by decide +kernel⟩
set_option maxHeartbeats 4000000 in
theorem met_X1_sizeOf (l : Launch) (G : GG) (σ : SG) (N : Nat) (a0 : Nat) (σf : SG) (rf : Int64) (hf : f_X1_sizeOf N σ a0 = some (σf, rf)) : Con l yX1_sizeOf cX1_sizeOf 1 (some .long) 4 16 185 G σ [.ref a0] σf (some (.long rf)) := by
  refine con_of (by decide) (Nat.le_of_ble_eq_true rfl) ?_
  intro p e s m below meth c ls X hK hH hl hS
  have hx := X.1
  have hb := X.2.1
  have hml := X.2.2.2.1
  have hown : s.vm.findClass RX1 = some m.cls := X.2.2.2.2.1
  have hts := X.2.2.2.2.2.1
  have hl : lv_has ls 1 [(0, .ref a0)] := hl
  unfold f_X1_sizeOf at hf
  refine lv_aload_n hx hb dX1_sizeOf_0 rfl (lv_at hl 0 rfl) ?_
  obtain ⟨v1, hv, hf⟩ := bd hf
  refine h_inst (w := (some a0)) X hK hH ca_Line nc_Line hv q152 dX1_sizeOf_1 ?_
  refine lv_if_eq (tgt := 28) hx hb dX1_sizeOf_4 (by decide) (fun c_ => ?_) (fun c_ => ?_)
  · have hf := (if_pos c_).symm.trans hf
    refine lv_aload_n hx hb dX1_sizeOf_28 rfl (lv_at hl 0 rfl) ?_
    obtain ⟨v2, hv, hf⟩ := bd hf
    refine h_gI X hK hH fo_Code_3 hv q141 dX1_sizeOf_29 ?_
    refine lv_i2l (v := (v2).toInt64) hx hb dX1_sizeOf_32 rfl ?_
    cases hf
    exact r_lret X dX1_sizeOf_33 (Nat.le_of_ble_eq_true rfl) (Nat.le_of_ble_eq_true rfl) rfl hH hS
  · have hf := (if_neg c_).symm.trans hf
    refine lv_aload_n hx hb dX1_sizeOf_7 rfl (lv_at hl 0 rfl) ?_
    obtain ⟨v3, hv, hf⟩ := bd hf
    refine h_gI X hK hH fo_Code_0 hv q116 dX1_sizeOf_8 ?_
    obtain ⟨t4, hv, hf⟩ := bd hf
    refine h_new (ci := 7) (fs := [.int 0, .int 0, .null, .null, .int 0]) X hK hH hS tyX9 tyX9_ok in_X9 rfl q279 q280 q63 df_X9 (Nat.le_of_ble_eq_true rfl) (Nat.le_of_ble_eq_true rfl) dX1_sizeOf_11 (fun H hH hS => ?_)
    rw [Option.some.inj hv] at hH
    refine W.cs (cells' := 1) (slots' := 5) (by rfl) (by rfl) ?_
    refine lv_dup hx hb dX1_sizeOf_14 rfl ?_
    refine lv_aload_n hx hb dX1_sizeOf_15 rfl (lv_at hl 0 rfl) ?_
    obtain ⟨v5, hv, hf⟩ := bd hf
    refine r_I (As := [.ref a0]) (rest := [.ref ((σ).1), .int v3]) X (met_X9_init l G t4 N ((σ).1) a0 v5 hv) ci_X9_init q281 rfl rfl hl.1 (Nat.le_of_ble_eq_true rfl) ⟨Nat.le_of_ble_eq_true rfl, Nat.le_of_ble_eq_true rfl⟩ ⟨Nat.le_of_ble_eq_true rfl, Nat.le_of_ble_eq_true rfl⟩ dX1_sizeOf_16 hK hH hS (fun H locs hH hS => ?_)
    refine W.cs (cells' := 16) (slots' := 185) (by rfl) (by rfl) ?_
    obtain ⟨v6, hv, hf⟩ := bd hf
    refine h_gI X hK hH fo_X9_4 hv q312 dX1_sizeOf_19 ?_
    obtain ⟨v7, hv, hf⟩ := bd hf
    refine c_S (As := [.int v3, .int v6]) (rest := []) (st1 := [.long v7]) X (met_X1_power l G v5 N v3 v6 v7 hv) cs_X1_power q190 rfl rfl rfl hl.1 (Nat.le_of_ble_eq_true rfl) ⟨Nat.le_of_ble_eq_true rfl, Nat.le_of_ble_eq_true rfl⟩ ⟨Nat.le_of_ble_eq_true rfl, Nat.le_of_ble_eq_true rfl⟩ dX1_sizeOf_22 hK hH hS (fun H locs hH hS => ?_)
    refine W.cs (cells' := 16) (slots' := 185) (by rfl) (by rfl) ?_
    refine lv_goto (tgt := 33) hx hb dX1_sizeOf_25 (by decide) ?_
    cases hf
    exact r_lret X dX1_sizeOf_33 (Nat.le_of_ble_eq_true rfl) (Nat.le_of_ble_eq_true rfl) rfl hH hS
theorem cv_X1_same : CalV "WordBench" yX1_same cX1_same 10 (some .int) 2 := ⟨q534, q535, q48, q536, by decide +kernel⟩
set_option maxHeartbeats 4000000 in
theorem met_X1_same (l : Launch) (G : GG) (σ : SG) (N : Nat) (a0 : Nat) (a1 : Int32) (a2 : Int32) (σf : SG) (rf : Int32) (hf : f_X1_same N σ a0 a1 a2 = some (σf, rf)) : Con l yX1_same cX1_same 10 (some .int) 5 64 740 G σ [.ref a0, .int a1, .int a2] σf (some (.int rf)) := by
  refine con_of (by decide) (Nat.le_of_ble_eq_true rfl) ?_
  intro p e s m below meth c ls X hK hH hl hS
  have hx := X.1
  have hb := X.2.1
  have hml := X.2.2.2.1
  have hown : s.vm.findClass RX1 = some m.cls := X.2.2.2.2.1
  have hts := X.2.2.2.2.2.1
  have hl : lv_has ls 10 [(0, .ref a0), (1, .int a1), (2, .int a2)] := hl
  unfold f_X1_same at hf
  have L233 : ∀ (c6 : Option Nat) (c7 : Option Nat) (c8 : Option Nat) (t233 : SG) (n : Nat) (s233 : (Int32 × Int32)) (r233 : Int32), lp (f_X1_same_b233 N c6 c7 c8 t233) n s233 = some r233 → (∀ (ls : Array Slot) (H : Heap) (locs : List Loc), lv_has ls 10 [(5, .int r233)] → HH G t233 H → va_S (AG G) s.heap H locs → W p l e (rm_ 5 64 740) s m ([.ref a0, .int a1, .int a2] : List Value).toArray below meth c H locs 64 740 (MQ below (PostC G σf (some (.int rf))) ([.ref a0, .int a1, .int a2] : List Value).toArray s 64 740 (AG G)) (F0 m 293 ls [])) → ∀ (ls : Array Slot) (H : Heap) (locs : List Loc), lv_has ls 10 [(5, .int s233.1), (6, va_rf c6), (7, va_rf c7), (8, va_rf c8), (9, .int s233.2)] → HH G t233 H → va_S (AG G) s.heap H locs → W p l e (rm_ 5 64 740) s m ([.ref a0, .int a1, .int a2] : List Value).toArray below meth c H locs 64 740 (MQ below (PostC G σf (some (.int rf))) ([.ref a0, .int a1, .int a2] : List Value).toArray s 64 740 (AG G)) (F0 m 233 ls []) := by
    intro c6 c7 c8 t233 n s233 r233 hr hq
    refine lp_ind (P := fun s233 => ∀ (ls : Array Slot) (H : Heap) (locs : List Loc), lv_has ls 10 [(5, .int s233.1), (6, va_rf c6), (7, va_rf c7), (8, va_rf c8), (9, .int s233.2)] → HH G t233 H → va_S (AG G) s.heap H locs → W p l e (rm_ 5 64 740) s m ([.ref a0, .int a1, .int a2] : List Value).toArray below meth c H locs 64 740 (MQ below (PostC G σf (some (.int rf))) ([.ref a0, .int a1, .int a2] : List Value).toArray s 64 740 (AG G)) (F0 m 233 ls [])) (Q := fun r233 => ∀ (ls : Array Slot) (H : Heap) (locs : List Loc), lv_has ls 10 [(5, .int r233)] → HH G t233 H → va_S (AG G) s.heap H locs → W p l e (rm_ 5 64 740) s m ([.ref a0, .int a1, .int a2] : List Value).toArray below meth c H locs 64 740 (MQ below (PostC G σf (some (.int rf))) ([.ref a0, .int a1, .int a2] : List Value).toArray s 64 740 (AG G)) (F0 m 293 ls [])) ?_ n s233 r233 hr hq
    intro s233 x233 hf hx233 ls H locs hl hH hS
    unfold f_X1_same_b233 at hf
    refine lv_iload hx hb dX1_same_233 (lv_at hl 4 rfl) ?_
    refine q_aload hx hb dX1_same_235 (lv_at hl 1 rfl) ?_
    obtain ⟨b28, hq, hz⟩ := bd hf
    clear hf
    subst hq
    have hf := hz
    clear hz
    obtain ⟨v29, hv, hf⟩ := bd hf
    refine h_gI X hK hH fo_Code_3 hv q141 dX1_same_237 ?_
    refine lv_icmp_ge (tgt := 293) hx hb dX1_same_240 (by decide) (fun c_ => ?_) (fun c_ => ?_)
    · have hf := (if_pos c_).symm.trans hf
      cases hf
      exact hx233 _ _ _ (lv_sub hl [0] rfl) hH hS
    · have hf := (if_neg c_).symm.trans hf
      refine lv_iload hx hb dX1_same_243 (lv_at hl 0 rfl) ?_
      refine lv_if_eq (tgt := 293) hx hb dX1_same_245 (by decide) (fun c_ => ?_) (fun c_ => ?_)
      · have hf := (if_pos c_).symm.trans hf
        cases hf
        exact hx233 _ _ _ (lv_sub hl [0] rfl) hH hS
      · have hf := (if_neg c_).symm.trans hf
        refine q_aload hx hb dX1_same_248 (lv_at hl 3 rfl) ?_
        rcases c8 with _ | b30
        · dsimp only at hf
          refine lv_ifnonnullN hx hb dX1_same_250 ?_
          refine q_aload hx hb dX1_same_253 (lv_at hl 2 rfl) ?_
          obtain ⟨b31, hq, hz⟩ := bd hf
          clear hf
          subst hq
          have hf := hz
          clear hz
          obtain ⟨_, hv, hf⟩ := bd hf
          refine h_cast X hK hH ca_List hv q95 dX1_same_255 ?_
          refine lv_aload hx hb dX1_same_258 (lv_at hl 1 rfl) ?_
          obtain ⟨v32, hv, hf⟩ := bd hf
          refine h_gR X hK hH fo_Code_2 hv q132 dX1_same_260 ?_
          refine lv_iload hx hb dX1_same_263 (lv_at hl 4 rfl) ?_
          obtain ⟨v33, hv, hf⟩ := bd hf
          refine h_aL X hK hH hv dX1_same_265 ?_
          obtain ⟨_, hw, hf⟩ := bd hf
          obtain ⟨v34, hv, hf⟩ := bd hf
          refine c_V (As := [.long v33]) (rest := []) (st1 := [.int v34]) X (met_X5_has l G t233 N b31 v33 v34 hv) cv_X5_has q365 (recv1 (w := (RX5, TX5, 4)) hw hK hH rfl) rfl rfl rfl hl.1 (Nat.le_of_ble_eq_true rfl) ⟨Nat.le_of_ble_eq_true rfl, Nat.le_of_ble_eq_true rfl⟩ ⟨Nat.le_of_ble_eq_true rfl, Nat.le_of_ble_eq_true rfl⟩ dX1_same_266 hK hH hS (fun H locs hH hS => ?_)
          refine W.cs (cells' := 64) (slots' := 740) (by rfl) (by rfl) ?_
          refine lv_goto (tgt := 285) hx hb dX1_same_269 (by decide) ?_
          refine lv_istore (lv' := [(5, .int v34), (6, .ref b28), (7, .ref b31), (8, .null), (9, .int s233.2)]) hx hb dX1_same_285 hl (by decide) rfl (fun ls hl => ?_)
          refine lv_iinc (v := (s233.2 + 1)) (lv' := [(9, .int (s233.2 + 1)), (5, .int v34), (6, .ref b28), (7, .ref b31), (8, .null)]) hx hb dX1_same_287 hl (k := 4) rfl rfl (by decide) (by first | rfl | simp [va_cat]) (fun ls hl => ?_)
          refine lv_goto (tgt := 233) hx hb dX1_same_290 (by decide) ?_
          cases hf
          exact hx233 _ _ _ (lv_sub hl [1, 2, 3, 4, 0] rfl) hH hS
        · dsimp only at hf
          refine lv_ifnonnull (tgt := 272) hx hb dX1_same_250 (by decide) ?_
          refine lv_aload hx hb dX1_same_272 (lv_at hl 3 rfl) ?_
          refine lv_aload hx hb dX1_same_274 (lv_at hl 1 rfl) ?_
          obtain ⟨v35, hv, hf⟩ := bd hf
          refine h_gR X hK hH fo_Code_2 hv q132 dX1_same_276 ?_
          refine lv_iload hx hb dX1_same_279 (lv_at hl 4 rfl) ?_
          obtain ⟨v36, hv, hf⟩ := bd hf
          refine h_aL X hK hH hv dX1_same_281 ?_
          obtain ⟨_, hw, hf⟩ := bd hf
          obtain ⟨v37, hv, hf⟩ := bd hf
          refine c_V (As := [.long v36]) (rest := []) (st1 := [.int v37]) X (met_X9_has l G t233 N b30 v36 v37 hv) cv_X9_has q350 (recv1 (w := (RX9, TX9, 5)) hw hK hH rfl) rfl rfl rfl hl.1 (Nat.le_of_ble_eq_true rfl) ⟨Nat.le_of_ble_eq_true rfl, Nat.le_of_ble_eq_true rfl⟩ ⟨Nat.le_of_ble_eq_true rfl, Nat.le_of_ble_eq_true rfl⟩ dX1_same_282 hK hH hS (fun H locs hH hS => ?_)
          refine W.cs (cells' := 64) (slots' := 740) (by rfl) (by rfl) ?_
          refine lv_istore (lv' := [(5, .int v37), (6, .ref b28), (7, va_rf c7), (8, .ref b30), (9, .int s233.2)]) hx hb dX1_same_285 hl (by decide) rfl (fun ls hl => ?_)
          refine lv_iinc (v := (s233.2 + 1)) (lv' := [(9, .int (s233.2 + 1)), (5, .int v37), (6, .ref b28), (7, va_rf c7), (8, .ref b30)]) hx hb dX1_same_287 hl (k := 4) rfl rfl (by decide) rfl (fun ls hl => ?_)
          refine lv_goto (tgt := 233) hx hb dX1_same_290 (by decide) ?_
          cases hf
          exact hx233 _ _ _ (lv_sub hl [1, 2, 3, 4, 0] rfl) hH hS
  have J293 : ∀ (d5 : Int32) (u293 : SG), f_X1_same_j293 N d5 u293 = some (σf, rf) → ∀ (ls : Array Slot) (H : Heap) (locs : List Loc), lv_has ls 10 [(5, .int d5)] → HH G u293 H → va_S (AG G) s.heap H locs → W p l e (rm_ 5 64 740) s m ([.ref a0, .int a1, .int a2] : List Value).toArray below meth c H locs 64 740 (MQ below (PostC G σf (some (.int rf))) ([.ref a0, .int a1, .int a2] : List Value).toArray s 64 740 (AG G)) (F0 m 293 ls []) := by
    intro d5 u293 hf ls H locs hl hH hS
    unfold f_X1_same_j293 at hf
    refine lv_iload hx hb dX1_same_293 (lv_at hl 0 rfl) ?_
    refine lv_if_eq (tgt := 302) hx hb dX1_same_295 (by decide) (fun c_ => ?_) (fun c_ => ?_)
    · have hf := (if_pos c_).symm.trans hf
      refine lv_iconst (v := (0 : Int32)) hx hb dX1_same_302 (by decide) ?_
      cases hf
      exact r_iret X dX1_same_303 (Nat.le_of_ble_eq_true rfl) (Nat.le_of_ble_eq_true rfl) rfl hH hS
    · have hf := (if_neg c_).symm.trans hf
      refine lv_iconst (v := (1 : Int32)) hx hb dX1_same_298 (by decide) ?_
      refine lv_goto (tgt := 303) hx hb dX1_same_299 (by decide) ?_
      cases hf
      exact r_iret X dX1_same_303 (Nat.le_of_ble_eq_true rfl) (Nat.le_of_ble_eq_true rfl) rfl hH hS
  have J228 : ∀ (d5 : Int32) (d6 : Option Nat) (d7 : Option Nat) (k0 : Option Nat) (u228 : SG), f_X1_same_j228 N d5 d6 d7 k0 u228 = some (σf, rf) → ∀ (ls : Array Slot) (H : Heap) (locs : List Loc), lv_has ls 10 [(5, .int d5), (6, va_rf d6), (7, va_rf d7)] → HH G u228 H → va_S (AG G) s.heap H locs → W p l e (rm_ 5 64 740) s m ([.ref a0, .int a1, .int a2] : List Value).toArray below meth c H locs 64 740 (MQ below (PostC G σf (some (.int rf))) ([.ref a0, .int a1, .int a2] : List Value).toArray s 64 740 (AG G)) (F0 m 228 ls [va_rf k0]) := by
    intro d5 d6 d7 k0 u228 hf ls H locs hl hH hS
    unfold f_X1_same_j228 at hf
    refine q_astore (lv' := [(8, va_rf k0), (5, .int d5), (6, va_rf d6), (7, va_rf d7)]) hx hb dX1_same_228 hl (by decide) (by first | rfl | simp [va_cat]) (fun ls hl => ?_)
    refine lv_iconst (v := (0 : Int32)) hx hb dX1_same_230 (by decide) ?_
    refine lv_istore (lv' := [(9, .int (0 : Int32)), (8, va_rf k0), (5, .int d5), (6, va_rf d6), (7, va_rf d7)]) hx hb dX1_same_231 hl (by decide) (by first | rfl | simp [va_cat]) (fun ls hl => ?_)
    obtain ⟨r233_38, hr, hf⟩ := bd hf
    refine L233 d6 d7 k0 u228 N _ r233_38 hr ?_ _ _ _ (lv_sub hl [2, 3, 4, 1, 0] rfl) hH hS
    intro ls H locs hl hH hS
    exact J293 r233_38 u228 hf _ _ _ (lv_sub hl [0] rfl) hH hS
  have J205 : ∀ (d5 : Int32) (d6 : Option Nat) (k0 : Option Nat) (u205 : SG), f_X1_same_j205 N d5 d6 k0 u205 = some (σf, rf) → ∀ (ls : Array Slot) (H : Heap) (locs : List Loc), lv_has ls 10 [(5, .int d5), (6, va_rf d6)] → HH G u205 H → va_S (AG G) s.heap H locs → W p l e (rm_ 5 64 740) s m ([.ref a0, .int a1, .int a2] : List Value).toArray below meth c H locs 48 555 (MQ below (PostC G σf (some (.int rf))) ([.ref a0, .int a1, .int a2] : List Value).toArray s 64 740 (AG G)) (F0 m 205 ls [va_rf k0]) := by
    intro d5 d6 k0 u205 hf ls H locs hl hH hS
    unfold f_X1_same_j205 at hf
    refine q_astore (lv' := [(7, va_rf k0), (5, .int d5), (6, va_rf d6)]) hx hb dX1_same_205 hl (by decide) (by first | rfl | simp [va_cat]) (fun ls hl => ?_)
    refine q_aload hx hb dX1_same_207 (lv_at hl 0 rfl) ?_
    obtain ⟨v27, hv, hf⟩ := bd hf
    refine h_inst (w := k0) X hK hH ca_Line nc_Line hv q152 dX1_same_209 ?_
    refine lv_if_eq (tgt := 227) hx hb dX1_same_212 (by decide) (fun c_ => ?_) (fun c_ => ?_)
    · have hf := (if_pos c_).symm.trans hf
      refine lv_null hx hb dX1_same_227 ?_
      refine W.widen (k := 64) (n := 740) (Nat.le_of_ble_eq_true rfl) (Nat.le_of_ble_eq_true rfl) ?_
      exact J228 d5 d6 k0 none u205 hf _ _ _ (lv_sub hl [1, 2, 0] rfl) hH hS
    · have hf := (if_neg c_).symm.trans hf
      obtain ⟨t39, hv, hf⟩ := bd hf
      refine h_new (ci := 7) (fs := [.int 0, .int 0, .null, .null, .int 0]) X hK hH hS tyX9 tyX9_ok in_X9 rfl q279 q280 q63 df_X9 (Nat.le_of_ble_eq_true rfl) (Nat.le_of_ble_eq_true rfl) dX1_same_215 (fun H hH hS => ?_)
      rw [Option.some.inj hv] at hH
      refine W.cs (cells' := 49) (slots' := 560) (by rfl) (by rfl) ?_
      refine lv_dup hx hb dX1_same_218 rfl ?_
      refine q_aload hx hb dX1_same_219 (lv_at hl 0 rfl) ?_
      obtain ⟨b40, hq, hz⟩ := bd hf
      clear hf
      subst hq
      have hf := hz
      clear hz
      obtain ⟨v41, hv, hf⟩ := bd hf
      refine r_I (As := [.ref b40]) (rest := [.ref ((u205).1)]) X (met_X9_init l G t39 N ((u205).1) b40 v41 hv) ci_X9_init q281 rfl rfl hl.1 (Nat.le_of_ble_eq_true rfl) ⟨Nat.le_of_ble_eq_true rfl, Nat.le_of_ble_eq_true rfl⟩ ⟨Nat.le_of_ble_eq_true rfl, Nat.le_of_ble_eq_true rfl⟩ dX1_same_221 hK hH hS (fun H locs hH hS => ?_)
      refine W.cs (cells' := 64) (slots' := 740) (by rfl) (by rfl) ?_
      refine lv_goto (tgt := 228) hx hb dX1_same_224 (by decide) ?_
      exact J228 d5 d6 (some b40) (some ((u205).1)) v41 hf _ _ _ (lv_sub hl [1, 2, 0] rfl) hH hS
  have J191 : ∀ (d3 : Option Nat) (d4 : Option Nat) (d5 : Int32) (k0 : Option Nat) (u191 : SG), f_X1_same_j191 N d3 d4 d5 k0 u191 = some (σf, rf) → ∀ (ls : Array Slot) (H : Heap) (locs : List Loc), lv_has ls 10 [(3, va_rf d3), (4, va_rf d4), (5, .int d5)] → HH G u191 H → va_S (AG G) s.heap H locs → W p l e (rm_ 5 64 740) s m ([.ref a0, .int a1, .int a2] : List Value).toArray below meth c H locs 48 555 (MQ below (PostC G σf (some (.int rf))) ([.ref a0, .int a1, .int a2] : List Value).toArray s 64 740 (AG G)) (F0 m 191 ls [va_rf k0]) := by
    intro d3 d4 d5 k0 u191 hf ls H locs hl hH hS
    unfold f_X1_same_j191 at hf
    refine q_astore (lv' := [(6, va_rf k0), (3, va_rf d3), (4, va_rf d4), (5, .int d5)]) hx hb dX1_same_191 hl (by decide) rfl (fun ls hl => ?_)
    refine q_aload hx hb dX1_same_193 (lv_at hl 0 rfl) ?_
    refine q_aload_n hx hb dX1_same_195 rfl (lv_at hl 1 rfl) ?_
    refine lv_acmp_ne (rx := k0) (ry := d3) (tgt := 204) hx hb dX1_same_196 (by decide) (fun c_ => ?_) (fun c_ => ?_)
    · have hf := (if_neg c_).symm.trans hf
      refine q_aload_n hx hb dX1_same_204 rfl (lv_at hl 1 rfl) ?_
      exact J205 d5 k0 d3 u191 hf _ _ _ (lv_sub hl [3, 0] rfl) hH hS
    · have hf := (if_pos c_).symm.trans hf
      refine q_aload hx hb dX1_same_199 (lv_at hl 2 rfl) ?_
      refine lv_goto (tgt := 205) hx hb dX1_same_201 (by decide) ?_
      exact J205 d5 k0 d4 u191 hf _ _ _ (lv_sub hl [3, 0] rfl) hH hS
  have J176 : ∀ (d3 : Option Nat) (d4 : Option Nat) (k0 : Int32) (u176 : SG), f_X1_same_j176 N d3 d4 k0 u176 = some (σf, rf) → ∀ (ls : Array Slot) (H : Heap) (locs : List Loc), lv_has ls 10 [(3, va_rf d3), (4, va_rf d4)] → HH G u176 H → va_S (AG G) s.heap H locs → W p l e (rm_ 5 64 740) s m ([.ref a0, .int a1, .int a2] : List Value).toArray below meth c H locs 48 555 (MQ below (PostC G σf (some (.int rf))) ([.ref a0, .int a1, .int a2] : List Value).toArray s 64 740 (AG G)) (F0 m 176 ls [.int k0]) := by
    intro d3 d4 k0 u176 hf ls H locs hl hH hS
    unfold f_X1_same_j176 at hf
    refine lv_istore (lv' := [(5, .int k0), (3, va_rf d3), (4, va_rf d4)]) hx hb dX1_same_176 hl (by decide) (by first | rfl | simp [va_cat]) (fun ls hl => ?_)
    refine q_aload_n hx hb dX1_same_178 rfl (lv_at hl 1 rfl) ?_
    obtain ⟨v26, hv, hf⟩ := bd hf
    refine h_inst (w := d3) X hK hH ca_List nc_List hv q95 dX1_same_179 ?_
    refine lv_if_eq (tgt := 189) hx hb dX1_same_182 (by decide) (fun c_ => ?_) (fun c_ => ?_)
    · have hf := (if_pos c_).symm.trans hf
      refine q_aload hx hb dX1_same_189 (lv_at hl 2 rfl) ?_
      exact J191 d3 d4 k0 d4 u176 hf _ _ _ (lv_sub hl [1, 2, 0] rfl) hH hS
    · have hf := (if_neg c_).symm.trans hf
      refine q_aload_n hx hb dX1_same_185 rfl (lv_at hl 1 rfl) ?_
      refine lv_goto (tgt := 191) hx hb dX1_same_186 (by decide) ?_
      exact J191 d3 d4 k0 d3 u176 hf _ _ _ (lv_sub hl [1, 2, 0] rfl) hH hS
  have J158 : ∀ (d3 : Option Nat) (d4 : Option Nat) (u158 : SG), f_X1_same_j158 N d3 d4 u158 = some (σf, rf) → ∀ (ls : Array Slot) (H : Heap) (locs : List Loc), lv_has ls 10 [(3, va_rf d3), (4, va_rf d4)] → HH G u158 H → va_S (AG G) s.heap H locs → W p l e (rm_ 5 64 740) s m ([.ref a0, .int a1, .int a2] : List Value).toArray below meth c H locs 16 185 (MQ below (PostC G σf (some (.int rf))) ([.ref a0, .int a1, .int a2] : List Value).toArray s 64 740 (AG G)) (F0 m 158 ls []) := by
    intro d3 d4 u158 hf ls H locs hl hH hS
    unfold f_X1_same_j158 at hf
    refine q_aload_n hx hb dX1_same_158 rfl (lv_at hl 0 rfl) ?_
    obtain ⟨b22, hq, hz⟩ := bd hf
    clear hf
    subst hq
    have hf := hz
    clear hz
    obtain ⟨v23, hv, hf⟩ := bd hf
    refine c_S (As := [.ref b22]) (rest := []) (st1 := [.long v23.2]) X (met_X1_sizeOf l G u158 N b22 v23.1 v23.2 hv) cs_X1_sizeOf q336 rfl rfl rfl hl.1 (Nat.le_of_ble_eq_true rfl) ⟨Nat.le_of_ble_eq_true rfl, Nat.le_of_ble_eq_true rfl⟩ ⟨Nat.le_of_ble_eq_true rfl, Nat.le_of_ble_eq_true rfl⟩ dX1_same_159 hK hH hS (fun H locs hH hS => ?_)
    refine W.cs (cells' := 32) (slots' := 370) (by rfl) (by rfl) ?_
    refine q_aload hx hb dX1_same_162 (lv_at hl 1 rfl) ?_
    obtain ⟨b24, hq, hz⟩ := bd hf
    clear hf
    subst hq
    have hf := hz
    clear hz
    obtain ⟨v25, hv, hf⟩ := bd hf
    refine c_S (As := [.ref b24]) (rest := [.long v23.2]) (st1 := [.long v25.2, .long v23.2]) X (met_X1_sizeOf l G v23.1 N b24 v25.1 v25.2 hv) cs_X1_sizeOf q336 rfl rfl rfl hl.1 (Nat.le_of_ble_eq_true rfl) ⟨Nat.le_of_ble_eq_true rfl, Nat.le_of_ble_eq_true rfl⟩ ⟨Nat.le_of_ble_eq_true rfl, Nat.le_of_ble_eq_true rfl⟩ dX1_same_164 hK hH hS (fun H locs hH hS => ?_)
    refine W.cs (cells' := 48) (slots' := 555) (by rfl) (by rfl) ?_
    refine W.lcmp hx hb dX1_same_167 ?_
    refine lv_if_ne (tgt := 175) hx hb dX1_same_168 (by decide) (fun c_ => ?_) (fun c_ => ?_)
    · have hf := (if_neg (fun z => c_ ((lg_cmp_eq v23.2 v25.2).mpr z))).symm.trans hf
      refine lv_iconst (v := (0 : Int32)) hx hb dX1_same_175 (by decide) ?_
      exact J176 (some b22) (some b24) (0 : Int32) v25.1 hf _ _ _ (lv_sub hl [0, 1] rfl) hH hS
    · have hf := (if_pos ((lg_cmp_eq v23.2 v25.2).mp c_)).symm.trans hf
      refine lv_iconst (v := (1 : Int32)) hx hb dX1_same_171 (by decide) ?_
      refine lv_goto (tgt := 176) hx hb dX1_same_172 (by decide) ?_
      exact J176 (some b22) (some b24) (1 : Int32) v25.1 hf _ _ _ (lv_sub hl [0, 1] rfl) hH hS
  have J149 : ∀ (d3 : Option Nat) (d4 : Option Nat) (k0 : Option Nat) (k1 : Nat) (u149 : SG), f_X1_same_j149 N d3 d4 k0 k1 u149 = some (σf, rf) → ∀ (ls : Array Slot) (H : Heap) (locs : List Loc), lv_has ls 10 [(3, va_rf d3), (4, va_rf d4)] → HH G u149 H → va_S (AG G) s.heap H locs → W p l e (rm_ 5 64 740) s m ([.ref a0, .int a1, .int a2] : List Value).toArray below meth c H locs 0 0 (MQ below (PostC G σf (some (.int rf))) ([.ref a0, .int a1, .int a2] : List Value).toArray s 64 740 (AG G)) (F0 m 149 ls [va_rf k0, .ref k1]) := by
    intro d3 d4 k0 k1 u149 hf ls H locs hl hH hS
    unfold f_X1_same_j149 at hf
    obtain ⟨b43, hq, hz⟩ := bd hf
    clear hf
    subst hq
    have hf := hz
    clear hz
    obtain ⟨_, hw, hf⟩ := bd hf
    obtain ⟨v44, hv, hf⟩ := bd hf
    refine c_V (As := [.ref b43]) (rest := []) (st1 := [.int v44.2]) X (met_X1_lays l G u149 N k1 b43 v44.1 v44.2 hv) cv_X1_lays q423 (recv1 (w := (RX1, TX1, 6)) hw hK hH rfl) rfl rfl rfl hl.1 (Nat.le_of_ble_eq_true rfl) ⟨Nat.le_of_ble_eq_true rfl, Nat.le_of_ble_eq_true rfl⟩ ⟨Nat.le_of_ble_eq_true rfl, Nat.le_of_ble_eq_true rfl⟩ dX1_same_149 hK hH hS (fun H locs hH hS => ?_)
    refine W.cs (cells' := 16) (slots' := 185) (by rfl) (by rfl) ?_
    refine lv_if_ne (tgt := 158) hx hb dX1_same_152 (by decide) (fun c_ => ?_) (fun c_ => ?_)
    · have hf := (if_neg c_).symm.trans hf
      exact J158 d3 d4 v44.1 hf _ _ _ (lv_sub hl [0, 1] rfl) hH hS
    · have hf := (if_pos c_).symm.trans hf
      refine lv_bipush (v := (-5 : Int32)) hx hb dX1_same_155 (by decide) ?_
      cases hf
      exact r_iret X dX1_same_157 (Nat.le_of_ble_eq_true rfl) (Nat.le_of_ble_eq_true rfl) rfl hH hS
  have J123 : ∀ (d0 : Nat) (d3 : Option Nat) (d4 : Option Nat) (u123 : SG), f_X1_same_j123 N d0 d3 d4 u123 = some (σf, rf) → ∀ (ls : Array Slot) (H : Heap) (locs : List Loc), lv_has ls 10 [(0, .ref d0), (3, va_rf d3), (4, va_rf d4)] → HH G u123 H → va_S (AG G) s.heap H locs → W p l e (rm_ 5 64 740) s m ([.ref a0, .int a1, .int a2] : List Value).toArray below meth c H locs 0 0 (MQ below (PostC G σf (some (.int rf))) ([.ref a0, .int a1, .int a2] : List Value).toArray s 64 740 (AG G)) (F0 m 123 ls []) := by
    intro d0 d3 d4 u123 hf ls H locs hl hH hS
    unfold f_X1_same_j123 at hf
    refine q_aload_n hx hb dX1_same_123 rfl (lv_at hl 1 rfl) ?_
    obtain ⟨v20, hv, hf⟩ := bd hf
    refine h_inst (w := d3) X hK hH ca_Line nc_Line hv q152 dX1_same_124 ?_
    refine q_aload hx hb dX1_same_127 (lv_at hl 2 rfl) ?_
    obtain ⟨v21, hv, hf⟩ := bd hf
    refine h_inst (w := d4) X hK hH ca_Line nc_Line hv q152 dX1_same_129 ?_
    refine lv_icmp_eq (tgt := 158) hx hb dX1_same_132 (by decide) (fun c_ => ?_) (fun c_ => ?_)
    · have hf := (if_pos c_).symm.trans hf
      refine W.widen (k := 16) (n := 185) (Nat.le_of_ble_eq_true rfl) (Nat.le_of_ble_eq_true rfl) ?_
      exact J158 d3 d4 u123 hf _ _ _ (lv_sub hl [1, 2] rfl) hH hS
    · have hf := (if_neg c_).symm.trans hf
      refine lv_aload_n hx hb dX1_same_135 rfl (lv_at hl 0 rfl) ?_
      refine q_aload_n hx hb dX1_same_136 rfl (lv_at hl 1 rfl) ?_
      obtain ⟨v42, hv, hf⟩ := bd hf
      refine h_inst (w := d3) X hK hH ca_Line nc_Line hv q152 dX1_same_137 ?_
      refine lv_if_eq (tgt := 147) hx hb dX1_same_140 (by decide) (fun c_ => ?_) (fun c_ => ?_)
      · have hf := (if_pos c_).symm.trans hf
        refine q_aload hx hb dX1_same_147 (lv_at hl 2 rfl) ?_
        exact J149 d3 d4 d4 d0 u123 hf _ _ _ (lv_sub hl [1, 2] rfl) hH hS
      · have hf := (if_neg c_).symm.trans hf
        refine q_aload_n hx hb dX1_same_143 rfl (lv_at hl 1 rfl) ?_
        refine lv_goto (tgt := 149) hx hb dX1_same_144 (by decide) ?_
        exact J149 d3 d4 d3 d0 u123 hf _ _ _ (lv_sub hl [1, 2] rfl) hH hS
  refine lv_iload_n hx hb dX1_same_0 rfl (lv_at hl 1 rfl) ?_
  obtain ⟨v1, hv, hf⟩ := bd hf
  refine c_S (As := [.int a1]) (rest := []) (st1 := [.int v1]) X (met_X1_isPlace l G σ N a1 v1 hv) cs_X1_isPlace q82 rfl rfl rfl hl.1 (Nat.le_of_ble_eq_true rfl) ⟨Nat.le_of_ble_eq_true rfl, Nat.le_of_ble_eq_true rfl⟩ ⟨Nat.le_of_ble_eq_true rfl, Nat.le_of_ble_eq_true rfl⟩ dX1_same_1 hK hH hS (fun H locs hH hS => ?_)
  refine W.cs (cells' := 0) (slots' := 0) (by rfl) (by rfl) ?_
  refine lv_if_eq (tgt := 14) hx hb dX1_same_4 (by decide) (fun c_ => ?_) (fun c_ => ?_)
  · have hf := (if_pos c_).symm.trans hf
    refine lv_iconst (v := (-1 : Int32)) hx hb dX1_same_14 (by decide) ?_
    cases hf
    exact r_iret X dX1_same_15 (Nat.le_of_ble_eq_true rfl) (Nat.le_of_ble_eq_true rfl) rfl hH hS
  · have hf := (if_neg c_).symm.trans hf
    refine lv_iload_n hx hb dX1_same_7 rfl (lv_at hl 2 rfl) ?_
    obtain ⟨v2, hv, hf⟩ := bd hf
    refine c_S (As := [.int a2]) (rest := []) (st1 := [.int v2]) X (met_X1_isPlace l G σ N a2 v2 hv) cs_X1_isPlace q82 rfl rfl rfl hl.1 (Nat.le_of_ble_eq_true rfl) ⟨Nat.le_of_ble_eq_true rfl, Nat.le_of_ble_eq_true rfl⟩ ⟨Nat.le_of_ble_eq_true rfl, Nat.le_of_ble_eq_true rfl⟩ dX1_same_8 hK hH hS (fun H locs hH hS => ?_)
    refine W.cs (cells' := 0) (slots' := 0) (by rfl) (by rfl) ?_
    refine lv_if_ne (tgt := 16) hx hb dX1_same_11 (by decide) (fun c_ => ?_) (fun c_ => ?_)
    · have hf := (if_neg c_).symm.trans hf
      refine lv_aload_n hx hb dX1_same_16 rfl (lv_at hl 0 rfl) ?_
      obtain ⟨v3, hv, hf⟩ := bd hf
      refine h_gR X hK hH fo_X1_0 hv q649 dX1_same_17 ?_
      refine lv_iload_n hx hb dX1_same_20 rfl (lv_at hl 1 rfl) ?_
      obtain ⟨v4, hv, hf⟩ := bd hf
      refine h_aQ (by decide) X hK hH hv dX1_same_21 ?_
      rcases v4 with _ | b5
      · dsimp only at hf
        refine lv_ifnullN (tgt := 34) hx hb dX1_same_22 (by decide) ?_
        refine lv_bipush (v := (-11 : Int32)) hx hb dX1_same_34 (by decide) ?_
        cases hf
        exact r_iret X dX1_same_36 (Nat.le_of_ble_eq_true rfl) (Nat.le_of_ble_eq_true rfl) rfl hH hS
      · dsimp only at hf
        refine lv_ifnull hx hb dX1_same_22 ?_
        refine lv_aload_n hx hb dX1_same_25 rfl (lv_at hl 0 rfl) ?_
        obtain ⟨v6, hv, hf⟩ := bd hf
        refine h_gR X hK hH fo_X1_0 hv q649 dX1_same_26 ?_
        refine lv_iload_n hx hb dX1_same_29 rfl (lv_at hl 2 rfl) ?_
        obtain ⟨v7, hv, hf⟩ := bd hf
        refine h_aQ (by decide) X hK hH hv dX1_same_30 ?_
        rcases v7 with _ | b8
        · dsimp only at hf
          refine lv_ifnonnullN hx hb dX1_same_31 ?_
          refine lv_bipush (v := (-11 : Int32)) hx hb dX1_same_34 (by decide) ?_
          cases hf
          exact r_iret X dX1_same_36 (Nat.le_of_ble_eq_true rfl) (Nat.le_of_ble_eq_true rfl) rfl hH hS
        · dsimp only at hf
          refine lv_ifnonnull (tgt := 37) hx hb dX1_same_31 (by decide) ?_
          refine lv_aload_n hx hb dX1_same_37 rfl (lv_at hl 0 rfl) ?_
          obtain ⟨v9, hv, hf⟩ := bd hf
          refine h_gR X hK hH fo_X1_0 hv q649 dX1_same_38 ?_
          refine lv_iload_n hx hb dX1_same_41 rfl (lv_at hl 1 rfl) ?_
          obtain ⟨v10, hv, hf⟩ := bd hf
          refine h_aQ (by decide) X hK hH hv dX1_same_42 ?_
          refine q_astore_n (lv' := [(3, va_rf v10), (0, .ref a0), (1, .int a1), (2, .int a2)]) hx hb dX1_same_43 rfl hl (by decide) rfl (fun ls hl => ?_)
          refine lv_aload_n hx hb dX1_same_44 rfl (lv_at hl 1 rfl) ?_
          obtain ⟨v11, hv, hf⟩ := bd hf
          refine h_gR X hK hH fo_X1_0 hv q649 dX1_same_45 ?_
          refine lv_iload_n hx hb dX1_same_48 rfl (lv_at hl 3 rfl) ?_
          obtain ⟨v12, hv, hf⟩ := bd hf
          refine h_aQ (by decide) X hK hH hv dX1_same_49 ?_
          refine q_astore (lv' := [(4, va_rf v12), (3, va_rf v10), (0, .ref a0), (1, .int a1), (2, .int a2)]) hx hb dX1_same_50 hl (by decide) (by first | rfl | simp [va_cat]) (fun ls hl => ?_)
          refine q_aload_n hx hb dX1_same_52 rfl (lv_at hl 1 rfl) ?_
          obtain ⟨b13, hq, hz⟩ := bd hf
          clear hf
          subst hq
          have hf := hz
          clear hz
          obtain ⟨v14, hv, hf⟩ := bd hf
          refine h_gI X hK hH fo_Code_0 hv q116 dX1_same_53 ?_
          refine q_aload hx hb dX1_same_56 (lv_at hl 0 rfl) ?_
          obtain ⟨b15, hq, hz⟩ := bd hf
          clear hf
          subst hq
          have hf := hz
          clear hz
          obtain ⟨v16, hv, hf⟩ := bd hf
          refine h_gI X hK hH fo_Code_0 hv q116 dX1_same_58 ?_
          refine lv_icmp_ne (tgt := 76) hx hb dX1_same_61 (by decide) (fun c_ => ?_) (fun c_ => ?_)
          · have hf := (if_neg c_).symm.trans hf
            refine lv_bipush (v := (-4 : Int32)) hx hb dX1_same_76 (by decide) ?_
            cases hf
            exact r_iret X dX1_same_78 (Nat.le_of_ble_eq_true rfl) (Nat.le_of_ble_eq_true rfl) rfl hH hS
          · have hf := (if_pos c_).symm.trans hf
            refine lv_aload_n hx hb dX1_same_64 rfl (lv_at hl 1 rfl) ?_
            obtain ⟨v17, hv, hf⟩ := bd hf
            refine h_gI X hK hH fo_Code_1 hv q123 dX1_same_65 ?_
            refine lv_aload hx hb dX1_same_68 (lv_at hl 0 rfl) ?_
            obtain ⟨v18, hv, hf⟩ := bd hf
            refine h_gI X hK hH fo_Code_1 hv q123 dX1_same_70 ?_
            refine lv_icmp_eq (tgt := 79) hx hb dX1_same_73 (by decide) (fun c_ => ?_) (fun c_ => ?_)
            · have hf := (if_pos c_).symm.trans hf
              refine lv_aload_n hx hb dX1_same_79 rfl (lv_at hl 1 rfl) ?_
              obtain ⟨v19, hv, hf⟩ := bd hf
              refine h_inst (w := (some b13)) X hK hH ca_Line nc_Line hv q152 dX1_same_80 ?_
              refine lv_if_eq (tgt := 123) hx hb dX1_same_83 (by decide) (fun c_ => ?_) (fun c_ => ?_)
              · have hf := (if_pos c_).symm.trans hf
                exact J123 a0 (some b13) (some b15) σ hf _ _ _ (lv_sub hl [2, 1, 0] rfl) hH hS
              · have hf := (if_neg c_).symm.trans hf
                refine lv_aload hx hb dX1_same_86 (lv_at hl 0 rfl) ?_
                obtain ⟨v45, hv, hf⟩ := bd hf
                refine h_inst (w := (some b15)) X hK hH ca_Line nc_Line hv q152 dX1_same_88 ?_
                refine lv_if_eq (tgt := 123) hx hb dX1_same_91 (by decide) (fun c_ => ?_) (fun c_ => ?_)
                · have hf := (if_pos c_).symm.trans hf
                  exact J123 a0 (some b13) (some b15) σ hf _ _ _ (lv_sub hl [2, 1, 0] rfl) hH hS
                · have hf := (if_neg c_).symm.trans hf
                  obtain ⟨t46, hv, hf⟩ := bd hf
                  refine h_new (ci := 7) (fs := [.int 0, .int 0, .null, .null, .int 0]) X hK hH hS tyX9 tyX9_ok in_X9 rfl q279 q280 q63 df_X9 (Nat.le_of_ble_eq_true rfl) (Nat.le_of_ble_eq_true rfl) dX1_same_94 (fun H hH hS => ?_)
                  rw [Option.some.inj hv] at hH
                  refine W.cs (cells' := 1) (slots' := 5) (by rfl) (by rfl) ?_
                  refine lv_dup hx hb dX1_same_97 rfl ?_
                  refine lv_aload_n hx hb dX1_same_98 rfl (lv_at hl 1 rfl) ?_
                  obtain ⟨v47, hv, hf⟩ := bd hf
                  refine r_I (As := [.ref b13]) (rest := [.ref ((σ).1)]) X (met_X9_init l G t46 N ((σ).1) b13 v47 hv) ci_X9_init q281 rfl rfl hl.1 (Nat.le_of_ble_eq_true rfl) ⟨Nat.le_of_ble_eq_true rfl, Nat.le_of_ble_eq_true rfl⟩ ⟨Nat.le_of_ble_eq_true rfl, Nat.le_of_ble_eq_true rfl⟩ dX1_same_99 hK hH hS (fun H locs hH hS => ?_)
                  refine W.cs (cells' := 16) (slots' := 185) (by rfl) (by rfl) ?_
                  obtain ⟨t48, hv, hf⟩ := bd hf
                  refine h_new (ci := 7) (fs := [.int 0, .int 0, .null, .null, .int 0]) X hK hH hS tyX9 tyX9_ok in_X9 rfl q279 q280 q63 df_X9 (Nat.le_of_ble_eq_true rfl) (Nat.le_of_ble_eq_true rfl) dX1_same_102 (fun H hH hS => ?_)
                  rw [Option.some.inj hv] at hH
                  refine W.cs (cells' := 17) (slots' := 190) (by rfl) (by rfl) ?_
                  refine lv_dup hx hb dX1_same_105 rfl ?_
                  refine lv_aload hx hb dX1_same_106 (lv_at hl 0 rfl) ?_
                  obtain ⟨v49, hv, hf⟩ := bd hf
                  refine r_I (As := [.ref b15]) (rest := [.ref ((v47).1), .ref ((σ).1)]) X (met_X9_init l G t48 N ((v47).1) b15 v49 hv) ci_X9_init q281 rfl rfl hl.1 (Nat.le_of_ble_eq_true rfl) ⟨Nat.le_of_ble_eq_true rfl, Nat.le_of_ble_eq_true rfl⟩ ⟨Nat.le_of_ble_eq_true rfl, Nat.le_of_ble_eq_true rfl⟩ dX1_same_108 hK hH hS (fun H locs hH hS => ?_)
                  refine W.cs (cells' := 32) (slots' := 370) (by rfl) (by rfl) ?_
                  obtain ⟨_, hw, hf⟩ := bd hf
                  obtain ⟨v50, hv, hf⟩ := bd hf
                  refine c_V (As := [.ref ((v47).1)]) (rest := []) (st1 := [.int v50]) X (met_X9_isLike l G v49 N ((σ).1) ((v47).1) v50 hv) cv_X9_isLike q537 (recv1 (w := (RX9, TX9, 5)) hw hK hH rfl) rfl rfl rfl hl.1 (Nat.le_of_ble_eq_true rfl) ⟨Nat.le_of_ble_eq_true rfl, Nat.le_of_ble_eq_true rfl⟩ ⟨Nat.le_of_ble_eq_true rfl, Nat.le_of_ble_eq_true rfl⟩ dX1_same_111 hK hH hS (fun H locs hH hS => ?_)
                  refine W.cs (cells' := 32) (slots' := 370) (by rfl) (by rfl) ?_
                  refine lv_if_eq (tgt := 121) hx hb dX1_same_114 (by decide) (fun c_ => ?_) (fun c_ => ?_)
                  · have hf := (if_pos c_).symm.trans hf
                    refine lv_iconst (v := (0 : Int32)) hx hb dX1_same_121 (by decide) ?_
                    cases hf
                    exact r_iret X dX1_same_122 (Nat.le_of_ble_eq_true rfl) (Nat.le_of_ble_eq_true rfl) rfl hH hS
                  · have hf := (if_neg c_).symm.trans hf
                    refine lv_iconst (v := (1 : Int32)) hx hb dX1_same_117 (by decide) ?_
                    refine lv_goto (tgt := 122) hx hb dX1_same_118 (by decide) ?_
                    cases hf
                    exact r_iret X dX1_same_122 (Nat.le_of_ble_eq_true rfl) (Nat.le_of_ble_eq_true rfl) rfl hH hS
            · have hf := (if_neg c_).symm.trans hf
              refine lv_bipush (v := (-4 : Int32)) hx hb dX1_same_76 (by decide) ?_
              cases hf
              exact r_iret X dX1_same_78 (Nat.le_of_ble_eq_true rfl) (Nat.le_of_ble_eq_true rfl) rfl hH hS
    · have hf := (if_pos c_).symm.trans hf
      refine lv_iconst (v := (-1 : Int32)) hx hb dX1_same_14 (by decide) ?_
      cases hf
      exact r_iret X dX1_same_15 (Nat.le_of_ble_eq_true rfl) (Nat.le_of_ble_eq_true rfl) rfl hH hS
theorem cv_X1_shorter : CalV "WordBench" yX1_shorter cX1_shorter 14 (some .int) 3 := ⟨q512, q513, q48, q514, by decide +kernel⟩
set_option maxHeartbeats 4000000 in
theorem met_X1_shorter (l : Launch) (G : GG) (σ : SG) (N : Nat) (a0 : Nat) (a1 : Int32) (a2 : Int32) (a3 : Int32) (σf : SG) (rf : Int32) (hf : f_X1_shorter N σ a0 a1 a2 a3 = some (σf, rf)) : Con l yX1_shorter cX1_shorter 14 (some .int) 4 2 204 G σ [.ref a0, .int a1, .int a2, .int a3] σf (some (.int rf)) := by
  refine con_of (by decide) (Nat.le_of_ble_eq_true rfl) ?_
  intro p e s m below meth c ls X hK hH hl hS
  have hx := X.1
  have hb := X.2.1
  have hml := X.2.2.2.1
  have hown : s.vm.findClass RX1 = some m.cls := X.2.2.2.2.1
  have hts := X.2.2.2.2.2.1
  have hl : lv_has ls 14 [(0, .ref a0), (1, .int a1), (2, .int a2), (3, .int a3)] := hl
  unfold f_X1_shorter at hf
  have L42 : ∀ (c0 : Nat) (c2 : Int32) (c3 : Int32) (c5 : Nat) (c6 : Nat) (t42 : SG) (n : Nat) (s42 : Int32) (r42 : Int32), lp (f_X1_shorter_b42 N c0 c2 c3 c5 c6 t42) n s42 = some r42 → (∀ (ls : Array Slot) (H : Heap) (locs : List Loc), lv_has ls 14 [(0, .ref c0), (2, .int c2), (3, .int c3), (5, .ref c5), (6, .ref c6), (7, .int r42)] → HH G t42 H → va_S (AG G) s.heap H locs → W p l e (rm_ 4 2 204) s m ([.ref a0, .int a1, .int a2, .int a3] : List Value).toArray below meth c H locs 2 204 (MQ below (PostC G σf (some (.int rf))) ([.ref a0, .int a1, .int a2, .int a3] : List Value).toArray s 2 204 (AG G)) (F0 m 91 ls [])) → ∀ (ls : Array Slot) (H : Heap) (locs : List Loc), lv_has ls 14 [(0, .ref c0), (2, .int c2), (3, .int c3), (5, .ref c5), (6, .ref c6), (7, .int s42)] → HH G t42 H → va_S (AG G) s.heap H locs → W p l e (rm_ 4 2 204) s m ([.ref a0, .int a1, .int a2, .int a3] : List Value).toArray below meth c H locs 2 204 (MQ below (PostC G σf (some (.int rf))) ([.ref a0, .int a1, .int a2, .int a3] : List Value).toArray s 2 204 (AG G)) (F0 m 42 ls []) := by
    intro c0 c2 c3 c5 c6 t42 n s42 r42 hr hq
    refine lp_ind (P := fun s42 => ∀ (ls : Array Slot) (H : Heap) (locs : List Loc), lv_has ls 14 [(0, .ref c0), (2, .int c2), (3, .int c3), (5, .ref c5), (6, .ref c6), (7, .int s42)] → HH G t42 H → va_S (AG G) s.heap H locs → W p l e (rm_ 4 2 204) s m ([.ref a0, .int a1, .int a2, .int a3] : List Value).toArray below meth c H locs 2 204 (MQ below (PostC G σf (some (.int rf))) ([.ref a0, .int a1, .int a2, .int a3] : List Value).toArray s 2 204 (AG G)) (F0 m 42 ls [])) (Q := fun r42 => ∀ (ls : Array Slot) (H : Heap) (locs : List Loc), lv_has ls 14 [(0, .ref c0), (2, .int c2), (3, .int c3), (5, .ref c5), (6, .ref c6), (7, .int r42)] → HH G t42 H → va_S (AG G) s.heap H locs → W p l e (rm_ 4 2 204) s m ([.ref a0, .int a1, .int a2, .int a3] : List Value).toArray below meth c H locs 2 204 (MQ below (PostC G σf (some (.int rf))) ([.ref a0, .int a1, .int a2, .int a3] : List Value).toArray s 2 204 (AG G)) (F0 m 91 ls [])) ?_ n s42 r42 hr hq
    intro s42 x42 hf hx42 ls H locs hl hH hS
    unfold f_X1_shorter_b42 at hf
    refine lv_aload hx hb dX1_shorter_42 (lv_at hl 3 rfl) ?_
    obtain ⟨v7, hv, hf⟩ := bd hf
    refine h_inst (w := (some c5)) X hK hH ca_Line nc_Line hv q152 dX1_shorter_44 ?_
    refine lv_if_eq (tgt := 91) hx hb dX1_shorter_47 (by decide) (fun c_ => ?_) (fun c_ => ?_)
    · have hf := (if_pos c_).symm.trans hf
      cases hf
      exact hx42 _ _ _ (lv_sub hl [0, 1, 2, 3, 4, 5] rfl) hH hS
    · have hf := (if_neg c_).symm.trans hf
      refine lv_iload hx hb dX1_shorter_50 (lv_at hl 5 rfl) ?_
      refine lv_aload hx hb dX1_shorter_52 (lv_at hl 3 rfl) ?_
      obtain ⟨v8, hv, hf⟩ := bd hf
      refine h_gI X hK hH fo_Code_3 hv q141 dX1_shorter_54 ?_
      refine lv_icmp_ge (tgt := 91) hx hb dX1_shorter_57 (by decide) (fun c_ => ?_) (fun c_ => ?_)
      · have hf := (if_pos c_).symm.trans hf
        cases hf
        exact hx42 _ _ _ (lv_sub hl [0, 1, 2, 3, 4, 5] rfl) hH hS
      · have hf := (if_neg c_).symm.trans hf
        refine lv_aload hx hb dX1_shorter_60 (lv_at hl 3 rfl) ?_
        obtain ⟨v9, hv, hf⟩ := bd hf
        refine h_gI X hK hH fo_Code_0 hv q116 dX1_shorter_62 ?_
        refine lv_aload hx hb dX1_shorter_65 (lv_at hl 3 rfl) ?_
        obtain ⟨v10, hv, hf⟩ := bd hf
        refine h_gI X hK hH fo_Code_1 hv q123 dX1_shorter_67 ?_
        refine lv_aload hx hb dX1_shorter_70 (lv_at hl 3 rfl) ?_
        obtain ⟨v11, hv, hf⟩ := bd hf
        refine h_gR X hK hH fo_Code_2 hv q132 dX1_shorter_72 ?_
        refine lv_iload hx hb dX1_shorter_75 (lv_at hl 5 rfl) ?_
        obtain ⟨v12, hv, hf⟩ := bd hf
        refine h_aL X hK hH hv dX1_shorter_77 ?_
        refine lv_iload_n hx hb dX1_shorter_78 rfl (lv_at hl 1 rfl) ?_
        obtain ⟨v13, hv, hf⟩ := bd hf
        refine c_S (As := [.int v9, .int v10, .long v12, .int c2]) (rest := []) (st1 := [.int v13]) X (met_X1_letter l G t42 N v9 v10 v12 c2 v13 hv) cs_X1_letter q495 rfl rfl rfl hl.1 (Nat.le_of_ble_eq_true rfl) ⟨Nat.le_of_ble_eq_true rfl, Nat.le_of_ble_eq_true rfl⟩ ⟨Nat.le_of_ble_eq_true rfl, Nat.le_of_ble_eq_true rfl⟩ dX1_shorter_79 hK hH hS (fun H locs hH hS => ?_)
        refine W.cs (cells' := 2) (slots' := 204) (by rfl) (by rfl) ?_
        refine lv_if_ne (tgt := 91) hx hb dX1_shorter_82 (by decide) (fun c_ => ?_) (fun c_ => ?_)
        · have hf := (if_neg c_).symm.trans hf
          cases hf
          exact hx42 _ _ _ (lv_sub hl [0, 1, 2, 3, 4, 5] rfl) hH hS
        · have hf := (if_pos c_).symm.trans hf
          refine lv_iinc (v := (s42 + 1)) (lv' := [(7, .int (s42 + 1)), (0, .ref c0), (2, .int c2), (3, .int c3), (5, .ref c5), (6, .ref c6)]) hx hb dX1_shorter_85 hl (k := 5) rfl rfl (by decide) rfl (fun ls hl => ?_)
          refine lv_goto (tgt := 42) hx hb dX1_shorter_88 (by decide) ?_
          cases hf
          exact hx42 _ _ _ (lv_sub hl [1, 2, 3, 4, 5, 0] rfl) hH hS
  have L94 : ∀ (c0 : Nat) (c2 : Int32) (c3 : Int32) (c5 : Nat) (c6 : Nat) (c7 : Int32) (n : Nat) (s94 : (Int32 × SG)) (r94 : SG), lp (f_X1_shorter_b94 N c0 c2 c3 c5 c6 c7) n s94 = some r94 → (∀ (ls : Array Slot) (H : Heap) (locs : List Loc), lv_has ls 14 [(0, .ref c0), (3, .int c3), (6, .ref c6)] → HH G r94 H → va_S (AG G) s.heap H locs → W p l e (rm_ 4 2 204) s m ([.ref a0, .int a1, .int a2, .int a3] : List Value).toArray below meth c H locs 2 204 (MQ below (PostC G σf (some (.int rf))) ([.ref a0, .int a1, .int a2, .int a3] : List Value).toArray s 2 204 (AG G)) (F0 m 266 ls [])) → ∀ (ls : Array Slot) (H : Heap) (locs : List Loc), lv_has ls 14 [(0, .ref c0), (2, .int c2), (3, .int c3), (5, .ref c5), (6, .ref c6), (7, .int c7), (8, .int s94.1)] → HH G s94.2 H → va_S (AG G) s.heap H locs → W p l e (rm_ 4 2 204) s m ([.ref a0, .int a1, .int a2, .int a3] : List Value).toArray below meth c H locs 2 204 (MQ below (PostC G σf (some (.int rf))) ([.ref a0, .int a1, .int a2, .int a3] : List Value).toArray s 2 204 (AG G)) (F0 m 94 ls []) := by
    intro c0 c2 c3 c5 c6 c7 n s94 r94 hr hq
    refine lp_ind (P := fun s94 => ∀ (ls : Array Slot) (H : Heap) (locs : List Loc), lv_has ls 14 [(0, .ref c0), (2, .int c2), (3, .int c3), (5, .ref c5), (6, .ref c6), (7, .int c7), (8, .int s94.1)] → HH G s94.2 H → va_S (AG G) s.heap H locs → W p l e (rm_ 4 2 204) s m ([.ref a0, .int a1, .int a2, .int a3] : List Value).toArray below meth c H locs 2 204 (MQ below (PostC G σf (some (.int rf))) ([.ref a0, .int a1, .int a2, .int a3] : List Value).toArray s 2 204 (AG G)) (F0 m 94 ls [])) (Q := fun r94 => ∀ (ls : Array Slot) (H : Heap) (locs : List Loc), lv_has ls 14 [(0, .ref c0), (3, .int c3), (6, .ref c6)] → HH G r94 H → va_S (AG G) s.heap H locs → W p l e (rm_ 4 2 204) s m ([.ref a0, .int a1, .int a2, .int a3] : List Value).toArray below meth c H locs 2 204 (MQ below (PostC G σf (some (.int rf))) ([.ref a0, .int a1, .int a2, .int a3] : List Value).toArray s 2 204 (AG G)) (F0 m 266 ls [])) ?_ n s94 r94 hr hq
    intro s94 x94 hf hx94 ls H locs hl hH hS
    unfold f_X1_shorter_b94 at hf
    have J239 : ∀ (d8 : Int32) (d9 : Int64) (u239 : SG), f_X1_shorter_j239 N c0 c2 c3 c5 c6 c7 d8 d9 u239 = some x94 → ∀ (ls : Array Slot) (H : Heap) (locs : List Loc), lv_has ls 14 [(0, .ref c0), (2, .int c2), (3, .int c3), (5, .ref c5), (6, .ref c6), (7, .int c7), (8, .int d8), (9, .long d9)] → HH G u239 H → va_S (AG G) s.heap H locs → W p l e (rm_ 4 2 204) s m ([.ref a0, .int a1, .int a2, .int a3] : List Value).toArray below meth c H locs 2 204 (MQ below (PostC G σf (some (.int rf))) ([.ref a0, .int a1, .int a2, .int a3] : List Value).toArray s 2 204 (AG G)) (F0 m 239 ls []) := by
      intro d8 d9 u239 hf ls H locs hl hH hS
      unfold f_X1_shorter_j239 at hf
      refine lv_aload hx hb dX1_shorter_239 (lv_at hl 4 rfl) ?_
      refine lv_aload hx hb dX1_shorter_241 (lv_at hl 3 rfl) ?_
      obtain ⟨v23, hv, hf⟩ := bd hf
      refine h_gI X hK hH fo_Code_0 hv q116 dX1_shorter_243 ?_
      refine lv_aload hx hb dX1_shorter_246 (lv_at hl 3 rfl) ?_
      obtain ⟨v24, hv, hf⟩ := bd hf
      refine h_gI X hK hH fo_Code_1 hv q123 dX1_shorter_248 ?_
      refine lv_lload hx hb dX1_shorter_251 (lv_at hl 7 rfl) ?_
      refine lv_iload_n hx hb dX1_shorter_253 rfl (lv_at hl 1 rfl) ?_
      obtain ⟨v25, hv, hf⟩ := bd hf
      refine c_S (As := [.int v23, .int v24, .long d9, .int c2]) (rest := [.ref c6]) (st1 := [.long v25, .ref c6]) X (met_X1_without l G u239 N v23 v24 d9 c2 v25 hv) cs_X1_without q505 rfl rfl rfl hl.1 (Nat.le_of_ble_eq_true rfl) ⟨Nat.le_of_ble_eq_true rfl, Nat.le_of_ble_eq_true rfl⟩ ⟨Nat.le_of_ble_eq_true rfl, Nat.le_of_ble_eq_true rfl⟩ dX1_shorter_254 hK hH hS (fun H locs hH hS => ?_)
      refine W.cs (cells' := 2) (slots' := 204) (by rfl) (by rfl) ?_
      obtain ⟨v26, hv, hf⟩ := bd hf
      refine dr_X4_add N (rest := []) (st1 := []) X q222 hv rfl rfl hl.1 (Nat.le_of_ble_eq_true rfl) ⟨Nat.le_of_ble_eq_true rfl, Nat.le_of_ble_eq_true rfl⟩ ⟨Nat.le_of_ble_eq_true rfl, Nat.le_of_ble_eq_true rfl⟩ dX1_shorter_257 hK hH hS (fun H locs hH hS => ?_)
      refine W.cs (cells' := 2) (slots' := 204) (by rfl) (by rfl) ?_
      refine lv_iinc (v := (d8 + 1)) (lv' := [(8, .int (d8 + 1)), (0, .ref c0), (2, .int c2), (3, .int c3), (5, .ref c5), (6, .ref c6), (7, .int c7), (9, .long d9)]) hx hb dX1_shorter_260 hl (k := 6) rfl rfl (by decide) rfl (fun ls hl => ?_)
      refine lv_goto (tgt := 94) hx hb dX1_shorter_263 (by decide) ?_
      cases hf
      exact hx94 _ _ _ (lv_sub hl [1, 2, 3, 4, 5, 6, 0] rfl) hH hS
    have J163 : ∀ (d8 : Int32) (d9 : Int64) (d11 : Int32) (u163 : SG), f_X1_shorter_j163 N c0 c2 c3 c5 c6 c7 d8 d9 d11 u163 = some x94 → ∀ (ls : Array Slot) (H : Heap) (locs : List Loc), lv_has ls 14 [(0, .ref c0), (2, .int c2), (3, .int c3), (5, .ref c5), (6, .ref c6), (7, .int c7), (8, .int d8), (9, .long d9), (11, .int d11)] → HH G u163 H → va_S (AG G) s.heap H locs → W p l e (rm_ 4 2 204) s m ([.ref a0, .int a1, .int a2, .int a3] : List Value).toArray below meth c H locs 2 204 (MQ below (PostC G σf (some (.int rf))) ([.ref a0, .int a1, .int a2, .int a3] : List Value).toArray s 2 204 (AG G)) (F0 m 163 ls []) := by
      intro d8 d9 d11 u163 hf ls H locs hl hH hS
      unfold f_X1_shorter_j163 at hf
      refine lv_iload hx hb dX1_shorter_163 (lv_at hl 8 rfl) ?_
      refine lv_if_eq (tgt := 239) hx hb dX1_shorter_165 (by decide) (fun c_ => ?_) (fun c_ => ?_)
      · have hf := (if_pos c_).symm.trans hf
        exact J239 d8 d9 u163 hf _ _ _ (lv_sub hl [0, 1, 2, 3, 4, 5, 6, 7] rfl) hH hS
      · have hf := (if_neg c_).symm.trans hf
        refine lv_aload hx hb dX1_shorter_168 (lv_at hl 3 rfl) ?_
        obtain ⟨v27, hv, hf⟩ := bd hf
        refine h_gR X hK hH fo_Code_2 hv q132 dX1_shorter_170 ?_
        refine lv_iload hx hb dX1_shorter_173 (lv_at hl 5 rfl) ?_
        obtain ⟨v28, hv, hf⟩ := bd hf
        refine h_aL X hK hH hv dX1_shorter_175 ?_
        refine lv_lstore (lv' := [(12, .long v28), (0, .ref c0), (2, .int c2), (3, .int c3), (5, .ref c5), (6, .ref c6), (7, .int c7), (8, .int d8), (9, .long d9), (11, .int d11)]) hx hb dX1_shorter_176 hl (by decide) rfl (fun ls hl => ?_)
        refine lv_aload hx hb dX1_shorter_178 (lv_at hl 4 rfl) ?_
        obtain ⟨v29, hv, hf⟩ := bd hf
        refine h_gI X hK hH fo_Code_0 hv q116 dX1_shorter_180 ?_
        refine lv_aload hx hb dX1_shorter_183 (lv_at hl 4 rfl) ?_
        obtain ⟨v30, hv, hf⟩ := bd hf
        refine h_gI X hK hH fo_Code_1 hv q123 dX1_shorter_185 ?_
        refine lv_lload hx hb dX1_shorter_188 (lv_at hl 8 rfl) ?_
        refine lv_lload hx hb dX1_shorter_190 (lv_at hl 0 rfl) ?_
        refine lv_aload hx hb dX1_shorter_192 (lv_at hl 4 rfl) ?_
        obtain ⟨v31, hv, hf⟩ := bd hf
        refine h_gI X hK hH fo_Code_0 hv q116 dX1_shorter_194 ?_
        refine lv_aload hx hb dX1_shorter_197 (lv_at hl 4 rfl) ?_
        obtain ⟨v32, hv, hf⟩ := bd hf
        refine h_gI X hK hH fo_Code_0 hv q116 dX1_shorter_199 ?_
        refine lv_iload hx hb dX1_shorter_202 (lv_at hl 9 rfl) ?_
        refine lv_aload hx hb dX1_shorter_204 (lv_at hl 4 rfl) ?_
        obtain ⟨v33, hv, hf⟩ := bd hf
        refine h_gI X hK hH fo_Code_0 hv q116 dX1_shorter_206 ?_
        refine lv_aload hx hb dX1_shorter_209 (lv_at hl 4 rfl) ?_
        obtain ⟨v34, hv, hf⟩ := bd hf
        refine h_gI X hK hH fo_Code_0 hv q116 dX1_shorter_211 ?_
        refine lv_aload hx hb dX1_shorter_214 (lv_at hl 4 rfl) ?_
        obtain ⟨v35, hv, hf⟩ := bd hf
        refine h_gI X hK hH fo_Code_1 hv q123 dX1_shorter_216 ?_
        refine lv_lload hx hb dX1_shorter_219 (lv_at hl 0 rfl) ?_
        refine lv_iload_n hx hb dX1_shorter_221 rfl (lv_at hl 2 rfl) ?_
        obtain ⟨v36, hv, hf⟩ := bd hf
        refine c_S (As := [.int v34, .int v35, .long v28, .int c2]) (rest := [.int v33, .int d11, .int v32, .int v31, .long v28, .long d9, .int v30, .int v29]) (st1 := [.int v36, .int v33, .int d11, .int v32, .int v31, .long v28, .long d9, .int v30, .int v29]) X (met_X1_letter l G u163 N v34 v35 v28 c2 v36 hv) cs_X1_letter q495 rfl rfl rfl hl.1 (Nat.le_of_ble_eq_true rfl) ⟨Nat.le_of_ble_eq_true rfl, Nat.le_of_ble_eq_true rfl⟩ ⟨Nat.le_of_ble_eq_true rfl, Nat.le_of_ble_eq_true rfl⟩ dX1_shorter_222 hK hH hS (fun H locs hH hS => ?_)
        refine W.cs (cells' := 2) (slots' := 204) (by rfl) (by rfl) ?_
        obtain ⟨v37, hv, hf⟩ := bd hf
        refine c_S (As := [.int v33, .int v36]) (rest := [.int d11, .int v32, .int v31, .long v28, .long d9, .int v30, .int v29]) (st1 := [.int v37, .int d11, .int v32, .int v31, .long v28, .long d9, .int v30, .int v29]) X (met_X1_inverse l G u163 N v33 v36 v37 hv) cs_X1_inverse q515 rfl rfl rfl hl.1 (Nat.le_of_ble_eq_true rfl) ⟨Nat.le_of_ble_eq_true rfl, Nat.le_of_ble_eq_true rfl⟩ ⟨Nat.le_of_ble_eq_true rfl, Nat.le_of_ble_eq_true rfl⟩ dX1_shorter_225 hK hH hS (fun H locs hH hS => ?_)
        refine W.cs (cells' := 2) (slots' := 204) (by rfl) (by rfl) ?_
        obtain ⟨v38, hv, hf⟩ := bd hf
        refine c_S (As := [.int v32, .int d11, .int v37]) (rest := [.int v31, .long v28, .long d9, .int v30, .int v29]) (st1 := [.int v38, .int v31, .long v28, .long d9, .int v30, .int v29]) X (met_X1_times l G u163 N v32 d11 v37 v38 hv) cs_X1_times q212 rfl rfl rfl hl.1 (Nat.le_of_ble_eq_true rfl) ⟨Nat.le_of_ble_eq_true rfl, Nat.le_of_ble_eq_true rfl⟩ ⟨Nat.le_of_ble_eq_true rfl, Nat.le_of_ble_eq_true rfl⟩ dX1_shorter_228 hK hH hS (fun H locs hH hS => ?_)
        refine W.cs (cells' := 2) (slots' := 204) (by rfl) (by rfl) ?_
        obtain ⟨v39, hv, hf⟩ := bd hf
        refine c_S (As := [.int v31, .int v38]) (rest := [.long v28, .long d9, .int v30, .int v29]) (st1 := [.int v39, .long v28, .long d9, .int v30, .int v29]) X (met_X1_against l G u163 N v31 v38 v39 hv) cs_X1_against q496 rfl rfl rfl hl.1 (Nat.le_of_ble_eq_true rfl) ⟨Nat.le_of_ble_eq_true rfl, Nat.le_of_ble_eq_true rfl⟩ ⟨Nat.le_of_ble_eq_true rfl, Nat.le_of_ble_eq_true rfl⟩ dX1_shorter_231 hK hH hS (fun H locs hH hS => ?_)
        refine W.cs (cells' := 2) (slots' := 204) (by rfl) (by rfl) ?_
        obtain ⟨v40, hv, hf⟩ := bd hf
        refine c_S (As := [.int v29, .int v30, .long d9, .long v28, .int v39]) (rest := []) (st1 := [.long v40]) X (met_X1_sumOf l G u163 N v29 v30 d9 v28 v39 v40 hv) cs_X1_sumOf q373 rfl rfl rfl hl.1 (Nat.le_of_ble_eq_true rfl) ⟨Nat.le_of_ble_eq_true rfl, Nat.le_of_ble_eq_true rfl⟩ ⟨Nat.le_of_ble_eq_true rfl, Nat.le_of_ble_eq_true rfl⟩ dX1_shorter_234 hK hH hS (fun H locs hH hS => ?_)
        refine W.cs (cells' := 2) (slots' := 204) (by rfl) (by rfl) ?_
        refine lv_lstore (lv' := [(9, .long v40), (12, .long v28), (0, .ref c0), (2, .int c2), (3, .int c3), (5, .ref c5), (6, .ref c6), (7, .int c7), (8, .int d8), (11, .int d11)]) hx hb dX1_shorter_237 hl (by decide) rfl (fun ls hl => ?_)
        exact J239 d8 v40 u163 hf _ _ _ (lv_sub hl [2, 3, 4, 5, 6, 7, 8, 0] rfl) hH hS
    have J147 : ∀ (d8 : Int32) (d9 : Int64) (d11 : Int32) (u147 : SG), f_X1_shorter_j147 N c0 c2 c3 c5 c6 c7 d8 d9 d11 u147 = some x94 → ∀ (ls : Array Slot) (H : Heap) (locs : List Loc), lv_has ls 14 [(0, .ref c0), (2, .int c2), (3, .int c3), (5, .ref c5), (6, .ref c6), (7, .int c7), (8, .int d8), (9, .long d9), (11, .int d11)] → HH G u147 H → va_S (AG G) s.heap H locs → W p l e (rm_ 4 2 204) s m ([.ref a0, .int a1, .int a2, .int a3] : List Value).toArray below meth c H locs 2 204 (MQ below (PostC G σf (some (.int rf))) ([.ref a0, .int a1, .int a2, .int a3] : List Value).toArray s 2 204 (AG G)) (F0 m 147 ls []) := by
      intro d8 d9 d11 u147 hf ls H locs hl hH hS
      unfold f_X1_shorter_j147 at hf
      refine lv_aload hx hb dX1_shorter_147 (lv_at hl 3 rfl) ?_
      obtain ⟨v22, hv, hf⟩ := bd hf
      refine h_inst (w := (some c5)) X hK hH ca_Line nc_Line hv q152 dX1_shorter_149 ?_
      refine lv_if_ne (tgt := 163) hx hb dX1_shorter_152 (by decide) (fun c_ => ?_) (fun c_ => ?_)
      · have hf := (if_neg c_).symm.trans hf
        exact J163 d8 d9 d11 u147 hf _ _ _ (lv_sub hl [0, 1, 2, 3, 4, 5, 6, 7, 8] rfl) hH hS
      · have hf := (if_pos c_).symm.trans hf
        refine lv_iload hx hb dX1_shorter_155 (lv_at hl 8 rfl) ?_
        refine lv_if_eq (tgt := 163) hx hb dX1_shorter_157 (by decide) (fun c_ => ?_) (fun c_ => ?_)
        · have hf := (if_pos c_).symm.trans hf
          exact J163 d8 d9 d11 u147 hf _ _ _ (lv_sub hl [0, 1, 2, 3, 4, 5, 6, 7, 8] rfl) hH hS
        · have hf := (if_neg c_).symm.trans hf
          refine lv_goto (tgt := 260) hx hb dX1_shorter_160 (by decide) ?_
          refine lv_iinc (v := (d8 + 1)) (lv' := [(8, .int (d8 + 1)), (0, .ref c0), (2, .int c2), (3, .int c3), (5, .ref c5), (6, .ref c6), (7, .int c7), (9, .long d9), (11, .int d11)]) hx hb dX1_shorter_260 hl (k := 6) rfl rfl (by decide) rfl (fun ls hl => ?_)
          refine lv_goto (tgt := 94) hx hb dX1_shorter_263 (by decide) ?_
          cases hf
          exact hx94 _ _ _ (lv_sub hl [1, 2, 3, 4, 5, 6, 0] rfl) hH hS
    refine lv_iload hx hb dX1_shorter_94 (lv_at hl 6 rfl) ?_
    refine lv_aload hx hb dX1_shorter_96 (lv_at hl 3 rfl) ?_
    obtain ⟨v15, hv, hf⟩ := bd hf
    refine h_gI X hK hH fo_Code_3 hv q141 dX1_shorter_98 ?_
    refine lv_icmp_ge (tgt := 266) hx hb dX1_shorter_101 (by decide) (fun c_ => ?_) (fun c_ => ?_)
    · have hf := (if_pos c_).symm.trans hf
      cases hf
      exact hx94 _ _ _ (lv_sub hl [0, 2, 4] rfl) hH hS
    · have hf := (if_neg c_).symm.trans hf
      refine lv_aload hx hb dX1_shorter_104 (lv_at hl 3 rfl) ?_
      obtain ⟨v16, hv, hf⟩ := bd hf
      refine h_gR X hK hH fo_Code_2 hv q132 dX1_shorter_106 ?_
      refine lv_iload hx hb dX1_shorter_109 (lv_at hl 6 rfl) ?_
      obtain ⟨v17, hv, hf⟩ := bd hf
      refine h_aL X hK hH hv dX1_shorter_111 ?_
      refine lv_lstore (lv' := [(9, .long v17), (0, .ref c0), (2, .int c2), (3, .int c3), (5, .ref c5), (6, .ref c6), (7, .int c7), (8, .int s94.1)]) hx hb dX1_shorter_112 hl (by decide) rfl (fun ls hl => ?_)
      refine lv_aload hx hb dX1_shorter_114 (lv_at hl 4 rfl) ?_
      obtain ⟨v18, hv, hf⟩ := bd hf
      refine h_gI X hK hH fo_Code_0 hv q116 dX1_shorter_116 ?_
      refine lv_aload hx hb dX1_shorter_119 (lv_at hl 4 rfl) ?_
      obtain ⟨v19, hv, hf⟩ := bd hf
      refine h_gI X hK hH fo_Code_1 hv q123 dX1_shorter_121 ?_
      refine lv_lload hx hb dX1_shorter_124 (lv_at hl 0 rfl) ?_
      refine lv_iload_n hx hb dX1_shorter_126 rfl (lv_at hl 2 rfl) ?_
      obtain ⟨v20, hv, hf⟩ := bd hf
      refine c_S (As := [.int v18, .int v19, .long v17, .int c2]) (rest := []) (st1 := [.int v20]) X (met_X1_letter l G s94.2 N v18 v19 v17 c2 v20 hv) cs_X1_letter q495 rfl rfl rfl hl.1 (Nat.le_of_ble_eq_true rfl) ⟨Nat.le_of_ble_eq_true rfl, Nat.le_of_ble_eq_true rfl⟩ ⟨Nat.le_of_ble_eq_true rfl, Nat.le_of_ble_eq_true rfl⟩ dX1_shorter_127 hK hH hS (fun H locs hH hS => ?_)
      refine W.cs (cells' := 2) (slots' := 204) (by rfl) (by rfl) ?_
      refine lv_istore (lv' := [(11, .int v20), (9, .long v17), (0, .ref c0), (2, .int c2), (3, .int c3), (5, .ref c5), (6, .ref c6), (7, .int c7), (8, .int s94.1)]) hx hb dX1_shorter_130 hl (by decide) rfl (fun ls hl => ?_)
      refine lv_aload hx hb dX1_shorter_132 (lv_at hl 5 rfl) ?_
      obtain ⟨v21, hv, hf⟩ := bd hf
      refine h_inst (w := (some c5)) X hK hH ca_Line nc_Line hv q152 dX1_shorter_134 ?_
      refine lv_if_eq (tgt := 147) hx hb dX1_shorter_137 (by decide) (fun c_ => ?_) (fun c_ => ?_)
      · have hf := (if_pos c_).symm.trans hf
        exact J147 s94.1 v17 v20 s94.2 hf _ _ _ (lv_sub hl [2, 3, 4, 5, 6, 7, 8, 1, 0] rfl) hH hS
      · have hf := (if_neg c_).symm.trans hf
        refine lv_iload hx hb dX1_shorter_140 (lv_at hl 8 rfl) ?_
        refine lv_iload hx hb dX1_shorter_142 (lv_at hl 7 rfl) ?_
        refine lv_icmp_eq (tgt := 260) hx hb dX1_shorter_144 (by decide) (fun c_ => ?_) (fun c_ => ?_)
        · have hf := (if_pos c_).symm.trans hf
          refine lv_iinc (v := (s94.1 + 1)) (lv' := [(8, .int (s94.1 + 1)), (11, .int v20), (9, .long v17), (0, .ref c0), (2, .int c2), (3, .int c3), (5, .ref c5), (6, .ref c6), (7, .int c7)]) hx hb dX1_shorter_260 hl (k := 8) rfl rfl (by decide) rfl (fun ls hl => ?_)
          refine lv_goto (tgt := 94) hx hb dX1_shorter_263 (by decide) ?_
          cases hf
          exact hx94 _ _ _ (lv_sub hl [3, 4, 5, 6, 7, 8, 0] rfl) hH hS
        · have hf := (if_neg c_).symm.trans hf
          exact J147 s94.1 v17 v20 s94.2 hf _ _ _ (lv_sub hl [2, 3, 4, 5, 6, 7, 8, 1, 0] rfl) hH hS
  refine lv_aload_n hx hb dX1_shorter_0 rfl (lv_at hl 0 rfl) ?_
  refine lv_iload_n hx hb dX1_shorter_1 rfl (lv_at hl 1 rfl) ?_
  refine lv_iload_n hx hb dX1_shorter_2 rfl (lv_at hl 2 rfl) ?_
  refine lv_iload_n hx hb dX1_shorter_3 rfl (lv_at hl 3 rfl) ?_
  obtain ⟨_, hw, hf⟩ := bd hf
  obtain ⟨v1, hv, hf⟩ := bd hf
  refine c_V (As := [.int a1, .int a2, .int a3]) (rest := []) (st1 := [.int v1]) X (met_X1_whyPlace l G σ N a0 a1 a2 a3 v1 hv) cv_X1_whyPlace q501 (recv1 (w := (RX1, TX1, 6)) hw hK hH rfl) rfl rfl rfl hl.1 (Nat.le_of_ble_eq_true rfl) ⟨Nat.le_of_ble_eq_true rfl, Nat.le_of_ble_eq_true rfl⟩ ⟨Nat.le_of_ble_eq_true rfl, Nat.le_of_ble_eq_true rfl⟩ dX1_shorter_4 hK hH hS (fun H locs hH hS => ?_)
  refine W.cs (cells' := 0) (slots' := 0) (by rfl) (by rfl) ?_
  refine lv_istore (lv' := [(4, .int v1), (0, .ref a0), (1, .int a1), (2, .int a2), (3, .int a3)]) hx hb dX1_shorter_7 hl (by decide) rfl (fun ls hl => ?_)
  refine lv_iload hx hb dX1_shorter_9 (lv_at hl 0 rfl) ?_
  refine lv_if_eq (tgt := 17) hx hb dX1_shorter_11 (by decide) (fun c_ => ?_) (fun c_ => ?_)
  · have hf := (if_pos c_).symm.trans hf
    refine lv_aload_n hx hb dX1_shorter_17 rfl (lv_at hl 1 rfl) ?_
    obtain ⟨v2, hv, hf⟩ := bd hf
    refine h_gR X hK hH fo_X1_0 hv q649 dX1_shorter_18 ?_
    refine lv_iload_n hx hb dX1_shorter_21 rfl (lv_at hl 2 rfl) ?_
    obtain ⟨v3, hv, hf⟩ := bd hf
    refine h_aQ (by decide) X hK hH hv dX1_shorter_22 ?_
    refine q_astore (lv' := [(5, va_rf v3), (4, .int v1), (0, .ref a0), (1, .int a1), (2, .int a2), (3, .int a3)]) hx hb dX1_shorter_23 hl (by decide) rfl (fun ls hl => ?_)
    refine q_aload hx hb dX1_shorter_25 (lv_at hl 0 rfl) ?_
    refine q_aload hx hb dX1_shorter_27 (lv_at hl 0 rfl) ?_
    obtain ⟨b4, hq, hz⟩ := bd hf
    clear hf
    subst hq
    have hf := hz
    clear hz
    obtain ⟨v5, hv, hf⟩ := bd hf
    refine h_gI X hK hH fo_Code_1 hv q123 dX1_shorter_29 ?_
    refine lv_iconst (v := (1 : Int32)) hx hb dX1_shorter_32 (by decide) ?_
    refine lv_isub hx hb dX1_shorter_33 ?_
    obtain ⟨v6, hv, hf⟩ := bd hf
    refine c_S (As := [.ref b4, .int (v5 - (1 : Int32))]) (rest := []) (st1 := [.ref v6.2]) X (met_X1_like l G σ N b4 (v5 - (1 : Int32)) v6.1 v6.2 hv) cs_X1_like q492 rfl rfl rfl hl.1 (Nat.le_of_ble_eq_true rfl) ⟨Nat.le_of_ble_eq_true rfl, Nat.le_of_ble_eq_true rfl⟩ ⟨Nat.le_of_ble_eq_true rfl, Nat.le_of_ble_eq_true rfl⟩ dX1_shorter_34 hK hH hS (fun H locs hH hS => ?_)
    refine W.cs (cells' := 2) (slots' := 204) (by rfl) (by rfl) ?_
    refine lv_astore (lv' := [(6, .ref v6.2), (5, .ref b4), (4, .int v1), (0, .ref a0), (1, .int a1), (2, .int a2), (3, .int a3)]) hx hb dX1_shorter_37 hl (by decide) rfl (fun ls hl => ?_)
    refine lv_iconst (v := (0 : Int32)) hx hb dX1_shorter_39 (by decide) ?_
    refine lv_istore (lv' := [(7, .int (0 : Int32)), (6, .ref v6.2), (5, .ref b4), (4, .int v1), (0, .ref a0), (1, .int a1), (2, .int a2), (3, .int a3)]) hx hb dX1_shorter_40 hl (by decide) rfl (fun ls hl => ?_)
    obtain ⟨r42_14, hr, hf⟩ := bd hf
    refine L42 a0 a2 a3 b4 v6.2 v6.1 N _ r42_14 hr ?_ _ _ _ (lv_sub hl [4, 6, 7, 2, 1, 0] rfl) hH hS
    intro ls H locs hl hH hS
    refine lv_iconst (v := (0 : Int32)) hx hb dX1_shorter_91 (by decide) ?_
    refine lv_istore (lv' := [(8, .int (0 : Int32)), (0, .ref a0), (2, .int a2), (3, .int a3), (5, .ref b4), (6, .ref v6.2), (7, .int r42_14)]) hx hb dX1_shorter_92 hl (by decide) rfl (fun ls hl => ?_)
    obtain ⟨r94_41, hr, hf⟩ := bd hf
    refine L94 a0 a2 a3 b4 v6.2 r42_14 N _ r94_41 hr ?_ _ _ _ (lv_sub hl [1, 2, 3, 4, 5, 6, 0] rfl) hH hS
    intro ls H locs hl hH hS
    refine lv_aload_n hx hb dX1_shorter_266 rfl (lv_at hl 0 rfl) ?_
    refine lv_iload_n hx hb dX1_shorter_267 rfl (lv_at hl 1 rfl) ?_
    refine lv_aload hx hb dX1_shorter_268 (lv_at hl 2 rfl) ?_
    obtain ⟨_, hw, hf⟩ := bd hf
    obtain ⟨v42, hv, hf⟩ := bd hf
    refine c_V (As := [.int a3, .ref v6.2]) (rest := []) (st1 := [.int v42.2]) X (met_X1_puts l G r94_41 N a0 a3 v6.2 v42.1 v42.2 hv) cv_X1_puts q174 (recv1 (w := (RX1, TX1, 6)) hw hK hH rfl) rfl rfl rfl hl.1 (Nat.le_of_ble_eq_true rfl) ⟨Nat.le_of_ble_eq_true rfl, Nat.le_of_ble_eq_true rfl⟩ ⟨Nat.le_of_ble_eq_true rfl, Nat.le_of_ble_eq_true rfl⟩ dX1_shorter_270 hK hH hS (fun H locs hH hS => ?_)
    refine W.cs (cells' := 2) (slots' := 204) (by rfl) (by rfl) ?_
    cases hf
    exact r_iret X dX1_shorter_273 (Nat.le_of_ble_eq_true rfl) (Nat.le_of_ble_eq_true rfl) rfl hH hS
  · have hf := (if_neg c_).symm.trans hf
    refine lv_iload hx hb dX1_shorter_14 (lv_at hl 0 rfl) ?_
    cases hf
    exact r_iret X dX1_shorter_16 (Nat.le_of_ble_eq_true rfl) (Nat.le_of_ble_eq_true rfl) rfl hH hS
theorem cv_X1_size : CalV "WordBench" yX1_size cX1_size 3 (some .long) 1 := ⟨q333, q334, q48, q335, by decide +kernel⟩
set_option maxHeartbeats 4000000 in
theorem met_X1_size (l : Launch) (G : GG) (σ : SG) (N : Nat) (a0 : Nat) (a1 : Int32) (σf : SG) (rf : Int64) (hf : f_X1_size N σ a0 a1 = some (σf, rf)) : Con l yX1_size cX1_size 3 (some .long) 5 16 185 G σ [.ref a0, .int a1] σf (some (.long rf)) := by
  refine con_of (by decide) (Nat.le_of_ble_eq_true rfl) ?_
  intro p e s m below meth c ls X hK hH hl hS
  have hx := X.1
  have hb := X.2.1
  have hml := X.2.2.2.1
  have hown : s.vm.findClass RX1 = some m.cls := X.2.2.2.2.1
  have hts := X.2.2.2.2.2.1
  have hl : lv_has ls 3 [(0, .ref a0), (1, .int a1)] := hl
  unfold f_X1_size at hf
  refine lv_aload_n hx hb dX1_size_0 rfl (lv_at hl 0 rfl) ?_
  refine lv_iload_n hx hb dX1_size_1 rfl (lv_at hl 1 rfl) ?_
  refine lv_iconst (v := (0 : Int32)) hx hb dX1_size_2 (by decide) ?_
  obtain ⟨_, hw, hf⟩ := bd hf
  obtain ⟨v1, hv, hf⟩ := bd hf
  refine c_V (As := [.int a1, .int (0 : Int32)]) (rest := []) (st1 := [.int v1]) X (met_X1_asks l G σ N a0 a1 (0 : Int32) v1 hv) cv_X1_asks q183 (recv1 (w := (RX1, TX1, 6)) hw hK hH rfl) rfl rfl rfl hl.1 (Nat.le_of_ble_eq_true rfl) ⟨Nat.le_of_ble_eq_true rfl, Nat.le_of_ble_eq_true rfl⟩ ⟨Nat.le_of_ble_eq_true rfl, Nat.le_of_ble_eq_true rfl⟩ dX1_size_3 hK hH hS (fun H locs hH hS => ?_)
  refine W.cs (cells' := 0) (slots' := 0) (by rfl) (by rfl) ?_
  refine lv_istore_n (lv' := [(2, .int v1), (0, .ref a0), (1, .int a1)]) hx hb dX1_size_6 rfl hl (by decide) rfl (fun ls hl => ?_)
  refine lv_iload_n hx hb dX1_size_7 rfl (lv_at hl 0 rfl) ?_
  refine lv_if_eq (tgt := 16) hx hb dX1_size_8 (by decide) (fun c_ => ?_) (fun c_ => ?_)
  · have hf := (if_pos c_).symm.trans hf
    refine lv_aload_n hx hb dX1_size_16 rfl (lv_at hl 1 rfl) ?_
    obtain ⟨v2, hv, hf⟩ := bd hf
    refine h_gR X hK hH fo_X1_0 hv q649 dX1_size_17 ?_
    refine lv_iload_n hx hb dX1_size_20 rfl (lv_at hl 2 rfl) ?_
    obtain ⟨v3, hv, hf⟩ := bd hf
    refine h_aQ (by decide) X hK hH hv dX1_size_21 ?_
    obtain ⟨b4, hq, hz⟩ := bd hf
    clear hf
    subst hq
    have hf := hz
    clear hz
    obtain ⟨v5, hv, hf⟩ := bd hf
    refine c_S (As := [.ref b4]) (rest := []) (st1 := [.long v5.2]) X (met_X1_sizeOf l G σ N b4 v5.1 v5.2 hv) cs_X1_sizeOf q336 rfl rfl rfl hl.1 (Nat.le_of_ble_eq_true rfl) ⟨Nat.le_of_ble_eq_true rfl, Nat.le_of_ble_eq_true rfl⟩ ⟨Nat.le_of_ble_eq_true rfl, Nat.le_of_ble_eq_true rfl⟩ dX1_size_22 hK hH hS (fun H locs hH hS => ?_)
    refine W.cs (cells' := 16) (slots' := 185) (by rfl) (by rfl) ?_
    cases hf
    exact r_lret X dX1_size_25 (Nat.le_of_ble_eq_true rfl) (Nat.le_of_ble_eq_true rfl) rfl hH hS
  · have hf := (if_neg c_).symm.trans hf
    refine lv_iload_n hx hb dX1_size_11 rfl (lv_at hl 0 rfl) ?_
    refine lv_i2l (v := (v1).toInt64) hx hb dX1_size_12 rfl ?_
    refine lv_goto (tgt := 25) hx hb dX1_size_13 (by decide) ?_
    cases hf
    exact r_lret X dX1_size_25 (Nat.le_of_ble_eq_true rfl) (Nat.le_of_ble_eq_true rfl) rfl hH hS
theorem cv_X1_sum : CalV "WordBench" yX1_sum cX1_sum 8 (some .long) 5 := ⟨q367, q368, q48, q369, by decide +kernel⟩
set_option maxHeartbeats 4000000 in
theorem met_X1_sum (l : Launch) (G : GG) (σ : SG) (N : Nat) (a0 : Nat) (a1 : Int32) (a2 : Int32) (a3 : Int64) (a5 : Int64) (a7 : Int32) (rf : Int64) (hf : f_X1_sum N a0 a1 a2 a3 a5 a7 = some rf) : Con l yX1_sum cX1_sum 8 (some .long) 3 0 0 G σ [.ref a0, .int a1, .int a2, .long a3, .long a5, .int a7] σ (some (.long rf)) := by
  refine con_of (by decide) (Nat.le_of_ble_eq_true rfl) ?_
  intro p e s m below meth c ls X hK hH hl hS
  have hx := X.1
  have hb := X.2.1
  have hml := X.2.2.2.1
  have hown : s.vm.findClass RX1 = some m.cls := X.2.2.2.2.1
  have hts := X.2.2.2.2.2.1
  have hl : lv_has ls 8 [(0, .ref a0), (1, .int a1), (2, .int a2), (3, .long a3), (5, .long a5), (7, .int a7)] := hl
  unfold f_X1_sum at hf
  refine lv_iload_n hx hb dX1_sum_0 rfl (lv_at hl 1 rfl) ?_
  refine lv_iload_n hx hb dX1_sum_1 rfl (lv_at hl 2 rfl) ?_
  refine lv_lload_n hx hb dX1_sum_2 rfl (lv_at hl 3 rfl) ?_
  refine lv_lload hx hb dX1_sum_3 (lv_at hl 4 rfl) ?_
  obtain ⟨v1, hv, hf⟩ := bd hf
  refine c_S (As := [.int a1, .int a2, .long a3, .long a5]) (rest := []) (st1 := [.int v1]) X (met_X1_areWords l G _ N a1 a2 a3 a5 v1 hv) cs_X1_areWords q370 rfl rfl rfl hl.1 (Nat.le_of_ble_eq_true rfl) ⟨Nat.le_of_ble_eq_true rfl, Nat.le_of_ble_eq_true rfl⟩ ⟨Nat.le_of_ble_eq_true rfl, Nat.le_of_ble_eq_true rfl⟩ dX1_sum_5 hK hH hS (fun H locs hH hS => ?_)
  refine W.cs (cells' := 0) (slots' := 0) (by rfl) (by rfl) ?_
  refine lv_if_eq (tgt := 38) hx hb dX1_sum_8 (by decide) (fun c_ => ?_) (fun c_ => ?_)
  · have hf := (if_pos c_).symm.trans hf
    refine lv_ldc2 (v := (-1 : Int64)) hx hb hown (hts _ q374) dX1_sum_38 ?_
    cases hf
    exact r_lret X dX1_sum_41 (Nat.le_of_ble_eq_true rfl) (Nat.le_of_ble_eq_true rfl) rfl hH hS
  · have hf := (if_neg c_).symm.trans hf
    refine lv_iload hx hb dX1_sum_11 (lv_at hl 5 rfl) ?_
    refine lv_i2l (v := (a7).toInt64) hx hb dX1_sum_13 rfl ?_
    refine lv_lconst (v := (0 : Int64)) hx hb dX1_sum_14 (by decide) ?_
    refine lv_iload_n hx hb dX1_sum_15 rfl (lv_at hl 1 rfl) ?_
    refine lv_iconst (v := (1 : Int32)) hx hb dX1_sum_16 (by decide) ?_
    refine lv_isub hx hb dX1_sum_17 ?_
    refine lv_i2l (v := ((a1 - (1 : Int32))).toInt64) hx hb dX1_sum_18 rfl ?_
    obtain ⟨v2, hv, hf⟩ := bd hf
    refine c_S (As := [.long ((a7).toInt64), .long (0 : Int64), .long (((a1 - (1 : Int32))).toInt64)]) (rest := []) (st1 := [.int v2]) X (met_X1_isIn l G _ N ((a7).toInt64) (0 : Int64) (((a1 - (1 : Int32))).toInt64) v2 hv) cs_X1_isIn q86 rfl rfl rfl hl.1 (Nat.le_of_ble_eq_true rfl) ⟨Nat.le_of_ble_eq_true rfl, Nat.le_of_ble_eq_true rfl⟩ ⟨Nat.le_of_ble_eq_true rfl, Nat.le_of_ble_eq_true rfl⟩ dX1_sum_19 hK hH hS (fun H locs hH hS => ?_)
    refine W.cs (cells' := 0) (slots' := 0) (by rfl) (by rfl) ?_
    refine lv_if_eq (tgt := 38) hx hb dX1_sum_22 (by decide) (fun c_ => ?_) (fun c_ => ?_)
    · have hf := (if_pos c_).symm.trans hf
      refine lv_ldc2 (v := (-1 : Int64)) hx hb hown (hts _ q374) dX1_sum_38 ?_
      cases hf
      exact r_lret X dX1_sum_41 (Nat.le_of_ble_eq_true rfl) (Nat.le_of_ble_eq_true rfl) rfl hH hS
    · have hf := (if_neg c_).symm.trans hf
      refine lv_iload_n hx hb dX1_sum_25 rfl (lv_at hl 1 rfl) ?_
      refine lv_iload_n hx hb dX1_sum_26 rfl (lv_at hl 2 rfl) ?_
      refine lv_lload_n hx hb dX1_sum_27 rfl (lv_at hl 3 rfl) ?_
      refine lv_lload hx hb dX1_sum_28 (lv_at hl 4 rfl) ?_
      refine lv_iload hx hb dX1_sum_30 (lv_at hl 5 rfl) ?_
      obtain ⟨v3, hv, hf⟩ := bd hf
      refine c_S (As := [.int a1, .int a2, .long a3, .long a5, .int a7]) (rest := []) (st1 := [.long v3]) X (met_X1_sumOf l G _ N a1 a2 a3 a5 a7 v3 hv) cs_X1_sumOf q373 rfl rfl rfl hl.1 (Nat.le_of_ble_eq_true rfl) ⟨Nat.le_of_ble_eq_true rfl, Nat.le_of_ble_eq_true rfl⟩ ⟨Nat.le_of_ble_eq_true rfl, Nat.le_of_ble_eq_true rfl⟩ dX1_sum_32 hK hH hS (fun H locs hH hS => ?_)
      refine W.cs (cells' := 0) (slots' := 0) (by rfl) (by rfl) ?_
      refine lv_goto (tgt := 41) hx hb dX1_sum_35 (by decide) ?_
      cases hf
      exact r_lret X dX1_sum_41 (Nat.le_of_ble_eq_true rfl) (Nat.le_of_ble_eq_true rfl) rfl hH hS
theorem cv_X1_turn : CalV "WordBench" yX1_turn cX1_turn 13 (some .int) 4 := ⟨q526, q527, q48, q528, by decide +kernel⟩
set_option maxHeartbeats 4000000 in
theorem met_X1_turn (l : Launch) (G : GG) (σ : SG) (N : Nat) (a0 : Nat) (a1 : Int32) (a2 : Int64) (a4 : Int32) (a5 : Int32) (σf : SG) (rf : Int32) (hf : f_X1_turn N σ a0 a1 a2 a4 a5 = some (σf, rf)) : Con l yX1_turn cX1_turn 13 (some .int) 4 2 204 G σ [.ref a0, .int a1, .long a2, .int a4, .int a5] σf (some (.int rf)) := by
  refine con_of (by decide) (Nat.le_of_ble_eq_true rfl) ?_
  intro p e s m below meth c ls X hK hH hl hS
  have hx := X.1
  have hb := X.2.1
  have hml := X.2.2.2.1
  have hown : s.vm.findClass RX1 = some m.cls := X.2.2.2.2.1
  have hts := X.2.2.2.2.2.1
  have hl : lv_has ls 13 [(0, .ref a0), (1, .int a1), (2, .long a2), (4, .int a4), (5, .int a5)] := hl
  unfold f_X1_turn at hf
  have L112 : ∀ (c0 : Nat) (c2 : Int64) (c4 : Int32) (c5 : Int32) (c6 : Option Nat) (c7 : Nat) (n : Nat) (s112 : (Int32 × SG)) (r112 : SG), lp (f_X1_turn_b112 N c0 c2 c4 c5 c6 c7) n s112 = some r112 → (∀ (ls : Array Slot) (H : Heap) (locs : List Loc), lv_has ls 13 [(0, .ref c0), (5, .int c5), (7, .ref c7)] → HH G r112 H → va_S (AG G) s.heap H locs → W p l e (rm_ 4 2 204) s m ([.ref a0, .int a1, .long a2, .int a4, .int a5] : List Value).toArray below meth c H locs 2 204 (MQ below (PostC G σf (some (.int rf))) ([.ref a0, .int a1, .long a2, .int a4, .int a5] : List Value).toArray s 2 204 (AG G)) (F0 m 228 ls [])) → ∀ (ls : Array Slot) (H : Heap) (locs : List Loc), lv_has ls 13 [(0, .ref c0), (2, .long c2), (4, .int c4), (5, .int c5), (6, va_rf c6), (7, .ref c7), (8, .int s112.1)] → HH G s112.2 H → va_S (AG G) s.heap H locs → W p l e (rm_ 4 2 204) s m ([.ref a0, .int a1, .long a2, .int a4, .int a5] : List Value).toArray below meth c H locs 2 204 (MQ below (PostC G σf (some (.int rf))) ([.ref a0, .int a1, .long a2, .int a4, .int a5] : List Value).toArray s 2 204 (AG G)) (F0 m 112 ls []) := by
    intro c0 c2 c4 c5 c6 c7 n s112 r112 hr hq
    refine lp_ind (P := fun s112 => ∀ (ls : Array Slot) (H : Heap) (locs : List Loc), lv_has ls 13 [(0, .ref c0), (2, .long c2), (4, .int c4), (5, .int c5), (6, va_rf c6), (7, .ref c7), (8, .int s112.1)] → HH G s112.2 H → va_S (AG G) s.heap H locs → W p l e (rm_ 4 2 204) s m ([.ref a0, .int a1, .long a2, .int a4, .int a5] : List Value).toArray below meth c H locs 2 204 (MQ below (PostC G σf (some (.int rf))) ([.ref a0, .int a1, .long a2, .int a4, .int a5] : List Value).toArray s 2 204 (AG G)) (F0 m 112 ls [])) (Q := fun r112 => ∀ (ls : Array Slot) (H : Heap) (locs : List Loc), lv_has ls 13 [(0, .ref c0), (5, .int c5), (7, .ref c7)] → HH G r112 H → va_S (AG G) s.heap H locs → W p l e (rm_ 4 2 204) s m ([.ref a0, .int a1, .long a2, .int a4, .int a5] : List Value).toArray below meth c H locs 2 204 (MQ below (PostC G σf (some (.int rf))) ([.ref a0, .int a1, .long a2, .int a4, .int a5] : List Value).toArray s 2 204 (AG G)) (F0 m 228 ls [])) ?_ n s112 r112 hr hq
    intro s112 x112 hf hx112 ls H locs hl hH hS
    unfold f_X1_turn_b112 at hf
    have L128 : ∀ (c0 : Nat) (c2 : Int64) (c4 : Int32) (c5 : Int32) (c6 : Nat) (c7 : Nat) (c8 : Int32) (t128 : SG) (n : Nat) (s128 : (Int64 × Int32)) (r128 : Int64), lp (f_X1_turn_b128 N c0 c2 c4 c5 c6 c7 c8 t128) n s128 = some r128 → (∀ (ls : Array Slot) (H : Heap) (locs : List Loc), lv_has ls 13 [(0, .ref c0), (2, .long c2), (4, .int c4), (5, .int c5), (6, .ref c6), (7, .ref c7), (8, .int c8), (9, .long r128)] → HH G t128 H → va_S (AG G) s.heap H locs → W p l e (rm_ 4 2 204) s m ([.ref a0, .int a1, .long a2, .int a4, .int a5] : List Value).toArray below meth c H locs 2 204 (MQ below (PostC G σf (some (.int rf))) ([.ref a0, .int a1, .long a2, .int a4, .int a5] : List Value).toArray s 2 204 (AG G)) (F0 m 215 ls [])) → ∀ (ls : Array Slot) (H : Heap) (locs : List Loc), lv_has ls 13 [(0, .ref c0), (2, .long c2), (4, .int c4), (5, .int c5), (6, .ref c6), (7, .ref c7), (8, .int c8), (9, .long s128.1), (11, .int s128.2)] → HH G t128 H → va_S (AG G) s.heap H locs → W p l e (rm_ 4 2 204) s m ([.ref a0, .int a1, .long a2, .int a4, .int a5] : List Value).toArray below meth c H locs 2 204 (MQ below (PostC G σf (some (.int rf))) ([.ref a0, .int a1, .long a2, .int a4, .int a5] : List Value).toArray s 2 204 (AG G)) (F0 m 128 ls []) := by
      intro c0 c2 c4 c5 c6 c7 c8 t128 n s128 r128 hr hq
      refine lp_ind (P := fun s128 => ∀ (ls : Array Slot) (H : Heap) (locs : List Loc), lv_has ls 13 [(0, .ref c0), (2, .long c2), (4, .int c4), (5, .int c5), (6, .ref c6), (7, .ref c7), (8, .int c8), (9, .long s128.1), (11, .int s128.2)] → HH G t128 H → va_S (AG G) s.heap H locs → W p l e (rm_ 4 2 204) s m ([.ref a0, .int a1, .long a2, .int a4, .int a5] : List Value).toArray below meth c H locs 2 204 (MQ below (PostC G σf (some (.int rf))) ([.ref a0, .int a1, .long a2, .int a4, .int a5] : List Value).toArray s 2 204 (AG G)) (F0 m 128 ls [])) (Q := fun r128 => ∀ (ls : Array Slot) (H : Heap) (locs : List Loc), lv_has ls 13 [(0, .ref c0), (2, .long c2), (4, .int c4), (5, .int c5), (6, .ref c6), (7, .ref c7), (8, .int c8), (9, .long r128)] → HH G t128 H → va_S (AG G) s.heap H locs → W p l e (rm_ 4 2 204) s m ([.ref a0, .int a1, .long a2, .int a4, .int a5] : List Value).toArray below meth c H locs 2 204 (MQ below (PostC G σf (some (.int rf))) ([.ref a0, .int a1, .long a2, .int a4, .int a5] : List Value).toArray s 2 204 (AG G)) (F0 m 215 ls [])) ?_ n s128 r128 hr hq
      intro s128 x128 hf hx128 ls H locs hl hH hS
      unfold f_X1_turn_b128 at hf
      refine lv_iload hx hb dX1_turn_128 (lv_at hl 8 rfl) ?_
      refine lv_aload hx hb dX1_turn_130 (lv_at hl 4 rfl) ?_
      obtain ⟨v18, hv, hf⟩ := bd hf
      refine h_gI X hK hH fo_Code_1 hv q123 dX1_turn_132 ?_
      refine lv_icmp_ge (tgt := 215) hx hb dX1_turn_135 (by decide) (fun c_ => ?_) (fun c_ => ?_)
      · have hf := (if_pos c_).symm.trans hf
        cases hf
        exact hx128 _ _ _ (lv_sub hl [0, 1, 2, 3, 4, 5, 6, 7] rfl) hH hS
      · have hf := (if_neg c_).symm.trans hf
        refine lv_lload_n hx hb dX1_turn_138 rfl (lv_at hl 1 rfl) ?_
        refine lv_iconst (v := (4 : Int32)) hx hb dX1_turn_139 (by decide) ?_
        refine lv_iload hx hb dX1_turn_140 (lv_at hl 8 rfl) ?_
        refine lv_imul hx hb dX1_turn_142 ?_
        refine lv_lshr (v := (c2 >>> ((((4 : Int32) * s128.2)).toInt64 &&& 63))) hx hb dX1_turn_143 rfl ?_
        refine lv_ldc2 (v := (15 : Int64)) hx hb hown (hts _ q532) dX1_turn_144 ?_
        refine lv_land hx hb dX1_turn_147 ?_
        refine lv_l2i (v := (((c2 >>> ((((4 : Int32) * s128.2)).toInt64 &&& 63)) &&& (15 : Int64))).toInt32) hx hb dX1_turn_148 rfl ?_
        refine lv_istore (lv' := [(12, .int ((((c2 >>> ((((4 : Int32) * s128.2)).toInt64 &&& 63)) &&& (15 : Int64))).toInt32)), (0, .ref c0), (2, .long c2), (4, .int c4), (5, .int c5), (6, .ref c6), (7, .ref c7), (8, .int c8), (9, .long s128.1), (11, .int s128.2)]) hx hb dX1_turn_149 hl (by decide) rfl (fun ls hl => ?_)
        refine lv_lload hx hb dX1_turn_151 (lv_at hl 8 rfl) ?_
        refine lv_aload hx hb dX1_turn_153 (lv_at hl 5 rfl) ?_
        obtain ⟨v19, hv, hf⟩ := bd hf
        refine h_gI X hK hH fo_Code_0 hv q116 dX1_turn_155 ?_
        refine lv_aload hx hb dX1_turn_158 (lv_at hl 5 rfl) ?_
        obtain ⟨v20, hv, hf⟩ := bd hf
        refine h_gI X hK hH fo_Code_1 hv q123 dX1_turn_160 ?_
        refine lv_iconst (v := (1 : Int32)) hx hb dX1_turn_163 (by decide) ?_
        refine lv_isub hx hb dX1_turn_164 ?_
        refine lv_iload hx hb dX1_turn_165 (lv_at hl 0 rfl) ?_
        refine lv_isub hx hb dX1_turn_167 ?_
        obtain ⟨v21, hv, hf⟩ := bd hf
        refine c_S (As := [.int v19, .int ((v20 - (1 : Int32)) - ((((c2 >>> ((((4 : Int32) * s128.2)).toInt64 &&& 63)) &&& (15 : Int64))).toInt32))]) (rest := [.long s128.1]) (st1 := [.long v21, .long s128.1]) X (met_X1_power l G t128 N v19 ((v20 - (1 : Int32)) - ((((c2 >>> ((((4 : Int32) * s128.2)).toInt64 &&& 63)) &&& (15 : Int64))).toInt32)) v21 hv) cs_X1_power q190 rfl rfl rfl hl.1 (Nat.le_of_ble_eq_true rfl) ⟨Nat.le_of_ble_eq_true rfl, Nat.le_of_ble_eq_true rfl⟩ ⟨Nat.le_of_ble_eq_true rfl, Nat.le_of_ble_eq_true rfl⟩ dX1_turn_168 hK hH hS (fun H locs hH hS => ?_)
        refine W.cs (cells' := 2) (slots' := 204) (by rfl) (by rfl) ?_
        refine lv_aload hx hb dX1_turn_171 (lv_at hl 5 rfl) ?_
        obtain ⟨v22, hv, hf⟩ := bd hf
        refine h_gI X hK hH fo_Code_0 hv q116 dX1_turn_173 ?_
        refine lv_iload hx hb dX1_turn_176 (lv_at hl 3 rfl) ?_
        refine lv_aload hx hb dX1_turn_178 (lv_at hl 5 rfl) ?_
        obtain ⟨v23, hv, hf⟩ := bd hf
        refine h_gI X hK hH fo_Code_0 hv q116 dX1_turn_180 ?_
        refine lv_aload hx hb dX1_turn_183 (lv_at hl 5 rfl) ?_
        obtain ⟨v24, hv, hf⟩ := bd hf
        refine h_gI X hK hH fo_Code_1 hv q123 dX1_turn_185 ?_
        refine lv_aload hx hb dX1_turn_188 (lv_at hl 5 rfl) ?_
        obtain ⟨v25, hv, hf⟩ := bd hf
        refine h_gR X hK hH fo_Code_2 hv q132 dX1_turn_190 ?_
        refine lv_iload hx hb dX1_turn_193 (lv_at hl 7 rfl) ?_
        obtain ⟨v26, hv, hf⟩ := bd hf
        refine h_aL X hK hH hv dX1_turn_195 ?_
        refine lv_iload hx hb dX1_turn_196 (lv_at hl 9 rfl) ?_
        obtain ⟨v27, hv, hf⟩ := bd hf
        refine c_S (As := [.int v23, .int v24, .long v26, .int s128.2]) (rest := [.int c4, .int v22, .long v21, .long s128.1]) (st1 := [.int v27, .int c4, .int v22, .long v21, .long s128.1]) X (met_X1_letter l G t128 N v23 v24 v26 s128.2 v27 hv) cs_X1_letter q495 rfl rfl rfl hl.1 (Nat.le_of_ble_eq_true rfl) ⟨Nat.le_of_ble_eq_true rfl, Nat.le_of_ble_eq_true rfl⟩ ⟨Nat.le_of_ble_eq_true rfl, Nat.le_of_ble_eq_true rfl⟩ dX1_turn_198 hK hH hS (fun H locs hH hS => ?_)
        refine W.cs (cells' := 2) (slots' := 204) (by rfl) (by rfl) ?_
        obtain ⟨v28, hv, hf⟩ := bd hf
        refine c_S (As := [.int v22, .int c4, .int v27]) (rest := [.long v21, .long s128.1]) (st1 := [.int v28, .long v21, .long s128.1]) X (met_X1_times l G t128 N v22 c4 v27 v28 hv) cs_X1_times q212 rfl rfl rfl hl.1 (Nat.le_of_ble_eq_true rfl) ⟨Nat.le_of_ble_eq_true rfl, Nat.le_of_ble_eq_true rfl⟩ ⟨Nat.le_of_ble_eq_true rfl, Nat.le_of_ble_eq_true rfl⟩ dX1_turn_201 hK hH hS (fun H locs hH hS => ?_)
        refine W.cs (cells' := 2) (slots' := 204) (by rfl) (by rfl) ?_
        refine lv_i2l (v := (v28).toInt64) hx hb dX1_turn_204 rfl ?_
        refine lv_lmul hx hb dX1_turn_205 ?_
        refine lv_ladd hx hb dX1_turn_206 ?_
        refine lv_lstore (lv' := [(9, .long (s128.1 + (v21 * ((v28).toInt64)))), (12, .int ((((c2 >>> ((((4 : Int32) * s128.2)).toInt64 &&& 63)) &&& (15 : Int64))).toInt32)), (0, .ref c0), (2, .long c2), (4, .int c4), (5, .int c5), (6, .ref c6), (7, .ref c7), (8, .int c8), (11, .int s128.2)]) hx hb dX1_turn_207 hl (by decide) rfl (fun ls hl => ?_)
        refine lv_iinc (v := (s128.2 + 1)) (lv' := [(11, .int (s128.2 + 1)), (9, .long (s128.1 + (v21 * ((v28).toInt64)))), (12, .int ((((c2 >>> ((((4 : Int32) * s128.2)).toInt64 &&& 63)) &&& (15 : Int64))).toInt32)), (0, .ref c0), (2, .long c2), (4, .int c4), (5, .int c5), (6, .ref c6), (7, .ref c7), (8, .int c8)]) hx hb dX1_turn_209 hl (k := 9) rfl rfl (by decide) rfl (fun ls hl => ?_)
        refine lv_goto (tgt := 128) hx hb dX1_turn_212 (by decide) ?_
        cases hf
        exact hx128 _ _ _ (lv_sub hl [3, 4, 5, 6, 7, 8, 9, 1, 0] rfl) hH hS
    refine lv_iload hx hb dX1_turn_112 (lv_at hl 6 rfl) ?_
    refine q_aload hx hb dX1_turn_114 (lv_at hl 4 rfl) ?_
    obtain ⟨b16, hq, hz⟩ := bd hf
    clear hf
    subst hq
    have hf := hz
    clear hz
    obtain ⟨v17, hv, hf⟩ := bd hf
    refine h_gI X hK hH fo_Code_3 hv q141 dX1_turn_116 ?_
    refine lv_icmp_ge (tgt := 228) hx hb dX1_turn_119 (by decide) (fun c_ => ?_) (fun c_ => ?_)
    · have hf := (if_pos c_).symm.trans hf
      cases hf
      exact hx112 _ _ _ (lv_sub hl [0, 3, 5] rfl) hH hS
    · have hf := (if_neg c_).symm.trans hf
      refine lv_lconst (v := (0 : Int64)) hx hb dX1_turn_122 (by decide) ?_
      refine lv_lstore (lv' := [(9, .long (0 : Int64)), (0, .ref c0), (2, .long c2), (4, .int c4), (5, .int c5), (6, .ref b16), (7, .ref c7), (8, .int s112.1)]) hx hb dX1_turn_123 hl (by decide) rfl (fun ls hl => ?_)
      refine lv_iconst (v := (0 : Int32)) hx hb dX1_turn_125 (by decide) ?_
      refine lv_istore (lv' := [(11, .int (0 : Int32)), (9, .long (0 : Int64)), (0, .ref c0), (2, .long c2), (4, .int c4), (5, .int c5), (6, .ref b16), (7, .ref c7), (8, .int s112.1)]) hx hb dX1_turn_126 hl (by decide) rfl (fun ls hl => ?_)
      obtain ⟨r128_29, hr, hf⟩ := bd hf
      refine L128 c0 c2 c4 c5 b16 c7 s112.1 s112.2 N _ r128_29 hr ?_ _ _ _ (lv_sub hl [2, 3, 4, 5, 6, 7, 8, 1, 0] rfl) hH hS
      intro ls H locs hl hH hS
      refine lv_aload hx hb dX1_turn_215 (lv_at hl 5 rfl) ?_
      refine lv_lload hx hb dX1_turn_217 (lv_at hl 7 rfl) ?_
      obtain ⟨v30, hv, hf⟩ := bd hf
      refine dr_X4_add N (rest := []) (st1 := []) X q222 hv rfl rfl hl.1 (Nat.le_of_ble_eq_true rfl) ⟨Nat.le_of_ble_eq_true rfl, Nat.le_of_ble_eq_true rfl⟩ ⟨Nat.le_of_ble_eq_true rfl, Nat.le_of_ble_eq_true rfl⟩ dX1_turn_219 hK hH hS (fun H locs hH hS => ?_)
      refine W.cs (cells' := 2) (slots' := 204) (by rfl) (by rfl) ?_
      refine lv_iinc (v := (s112.1 + 1)) (lv' := [(8, .int (s112.1 + 1)), (0, .ref c0), (2, .long c2), (4, .int c4), (5, .int c5), (6, .ref b16), (7, .ref c7), (9, .long r128_29)]) hx hb dX1_turn_222 hl (k := 6) rfl rfl (by decide) rfl (fun ls hl => ?_)
      refine lv_goto (tgt := 112) hx hb dX1_turn_225 (by decide) ?_
      cases hf
      exact hx112 _ _ _ (lv_sub hl [1, 2, 3, 4, 5, 6, 0] rfl) hH hS
  have J107 : ∀ (d0 : Nat) (d2 : Int64) (d4 : Int32) (d5 : Int32) (d6 : Option Nat) (k0 : Nat) (u107 : SG), f_X1_turn_j107 N d0 d2 d4 d5 d6 k0 u107 = some (σf, rf) → ∀ (ls : Array Slot) (H : Heap) (locs : List Loc), lv_has ls 13 [(0, .ref d0), (2, .long d2), (4, .int d4), (5, .int d5), (6, va_rf d6)] → HH G u107 H → va_S (AG G) s.heap H locs → W p l e (rm_ 4 2 204) s m ([.ref a0, .int a1, .long a2, .int a4, .int a5] : List Value).toArray below meth c H locs 2 204 (MQ below (PostC G σf (some (.int rf))) ([.ref a0, .int a1, .long a2, .int a4, .int a5] : List Value).toArray s 2 204 (AG G)) (F0 m 107 ls [.ref k0]) := by
    intro d0 d2 d4 d5 d6 k0 u107 hf ls H locs hl hH hS
    unfold f_X1_turn_j107 at hf
    refine lv_astore (lv' := [(7, .ref k0), (0, .ref d0), (2, .long d2), (4, .int d4), (5, .int d5), (6, va_rf d6)]) hx hb dX1_turn_107 hl (by decide) (by first | rfl | simp [va_cat]) (fun ls hl => ?_)
    refine lv_iconst (v := (0 : Int32)) hx hb dX1_turn_109 (by decide) ?_
    refine lv_istore (lv' := [(8, .int (0 : Int32)), (7, .ref k0), (0, .ref d0), (2, .long d2), (4, .int d4), (5, .int d5), (6, va_rf d6)]) hx hb dX1_turn_110 hl (by decide) rfl (fun ls hl => ?_)
    obtain ⟨r112_31, hr, hf⟩ := bd hf
    refine L112 d0 d2 d4 d5 d6 k0 N _ r112_31 hr ?_ _ _ _ (lv_sub hl [2, 3, 4, 5, 6, 1, 0] rfl) hH hS
    intro ls H locs hl hH hS
    refine lv_aload_n hx hb dX1_turn_228 rfl (lv_at hl 0 rfl) ?_
    refine lv_iload hx hb dX1_turn_229 (lv_at hl 1 rfl) ?_
    refine lv_aload hx hb dX1_turn_231 (lv_at hl 2 rfl) ?_
    obtain ⟨_, hw, hf⟩ := bd hf
    obtain ⟨v32, hv, hf⟩ := bd hf
    refine c_V (As := [.int d5, .ref k0]) (rest := []) (st1 := [.int v32.2]) X (met_X1_puts l G r112_31 N d0 d5 k0 v32.1 v32.2 hv) cv_X1_puts q174 (recv1 (w := (RX1, TX1, 6)) hw hK hH rfl) rfl rfl rfl hl.1 (Nat.le_of_ble_eq_true rfl) ⟨Nat.le_of_ble_eq_true rfl, Nat.le_of_ble_eq_true rfl⟩ ⟨Nat.le_of_ble_eq_true rfl, Nat.le_of_ble_eq_true rfl⟩ dX1_turn_233 hK hH hS (fun H locs hH hS => ?_)
    refine W.cs (cells' := 2) (slots' := 204) (by rfl) (by rfl) ?_
    cases hf
    exact r_iret X dX1_turn_236 (Nat.le_of_ble_eq_true rfl) (Nat.le_of_ble_eq_true rfl) rfl hH hS
  refine lv_iload_n hx hb dX1_turn_0 rfl (lv_at hl 1 rfl) ?_
  obtain ⟨v1, hv, hf⟩ := bd hf
  refine c_S (As := [.int a1]) (rest := []) (st1 := [.int v1]) X (met_X1_isPlace l G σ N a1 v1 hv) cs_X1_isPlace q82 rfl rfl rfl hl.1 (Nat.le_of_ble_eq_true rfl) ⟨Nat.le_of_ble_eq_true rfl, Nat.le_of_ble_eq_true rfl⟩ ⟨Nat.le_of_ble_eq_true rfl, Nat.le_of_ble_eq_true rfl⟩ dX1_turn_1 hK hH hS (fun H locs hH hS => ?_)
  refine W.cs (cells' := 0) (slots' := 0) (by rfl) (by rfl) ?_
  refine lv_if_eq (tgt := 15) hx hb dX1_turn_4 (by decide) (fun c_ => ?_) (fun c_ => ?_)
  · have hf := (if_pos c_).symm.trans hf
    refine lv_iconst (v := (-1 : Int32)) hx hb dX1_turn_15 (by decide) ?_
    cases hf
    exact r_iret X dX1_turn_16 (Nat.le_of_ble_eq_true rfl) (Nat.le_of_ble_eq_true rfl) rfl hH hS
  · have hf := (if_neg c_).symm.trans hf
    refine lv_iload hx hb dX1_turn_7 (lv_at hl 4 rfl) ?_
    obtain ⟨v2, hv, hf⟩ := bd hf
    refine c_S (As := [.int a5]) (rest := []) (st1 := [.int v2]) X (met_X1_isPlace l G σ N a5 v2 hv) cs_X1_isPlace q82 rfl rfl rfl hl.1 (Nat.le_of_ble_eq_true rfl) ⟨Nat.le_of_ble_eq_true rfl, Nat.le_of_ble_eq_true rfl⟩ ⟨Nat.le_of_ble_eq_true rfl, Nat.le_of_ble_eq_true rfl⟩ dX1_turn_9 hK hH hS (fun H locs hH hS => ?_)
    refine W.cs (cells' := 0) (slots' := 0) (by rfl) (by rfl) ?_
    refine lv_if_ne (tgt := 17) hx hb dX1_turn_12 (by decide) (fun c_ => ?_) (fun c_ => ?_)
    · have hf := (if_neg c_).symm.trans hf
      refine lv_aload_n hx hb dX1_turn_17 rfl (lv_at hl 0 rfl) ?_
      obtain ⟨v3, hv, hf⟩ := bd hf
      refine h_gR X hK hH fo_X1_0 hv q649 dX1_turn_18 ?_
      refine lv_iload_n hx hb dX1_turn_21 rfl (lv_at hl 1 rfl) ?_
      obtain ⟨v4, hv, hf⟩ := bd hf
      refine h_aQ (by decide) X hK hH hv dX1_turn_22 ?_
      rcases v4 with _ | b5
      · dsimp only at hf
        refine lv_ifnonnullN hx hb dX1_turn_23 ?_
        refine lv_bipush (v := (-11 : Int32)) hx hb dX1_turn_26 (by decide) ?_
        cases hf
        exact r_iret X dX1_turn_28 (Nat.le_of_ble_eq_true rfl) (Nat.le_of_ble_eq_true rfl) rfl hH hS
      · dsimp only at hf
        refine lv_ifnonnull (tgt := 29) hx hb dX1_turn_23 (by decide) ?_
        refine lv_aload_n hx hb dX1_turn_29 rfl (lv_at hl 0 rfl) ?_
        obtain ⟨v6, hv, hf⟩ := bd hf
        refine h_gR X hK hH fo_X1_0 hv q649 dX1_turn_30 ?_
        refine lv_iload_n hx hb dX1_turn_33 rfl (lv_at hl 1 rfl) ?_
        obtain ⟨v7, hv, hf⟩ := bd hf
        refine h_aQ (by decide) X hK hH hv dX1_turn_34 ?_
        refine q_astore (lv' := [(6, va_rf v7), (0, .ref a0), (1, .int a1), (2, .long a2), (4, .int a4), (5, .int a5)]) hx hb dX1_turn_35 hl (by decide) rfl (fun ls hl => ?_)
        refine q_aload hx hb dX1_turn_37 (lv_at hl 0 rfl) ?_
        obtain ⟨b8, hq, hz⟩ := bd hf
        clear hf
        subst hq
        have hf := hz
        clear hz
        obtain ⟨v9, hv, hf⟩ := bd hf
        refine h_gI X hK hH fo_Code_1 hv q123 dX1_turn_39 ?_
        refine lv_lload_n hx hb dX1_turn_42 rfl (lv_at hl 3 rfl) ?_
        obtain ⟨v10, hv, hf⟩ := bd hf
        refine c_S (As := [.int v9, .long a2]) (rest := []) (st1 := [.int v10]) X (met_X1_isTurn l G σ N v9 a2 v10 hv) cs_X1_isTurn q529 rfl rfl rfl hl.1 (Nat.le_of_ble_eq_true rfl) ⟨Nat.le_of_ble_eq_true rfl, Nat.le_of_ble_eq_true rfl⟩ ⟨Nat.le_of_ble_eq_true rfl, Nat.le_of_ble_eq_true rfl⟩ dX1_turn_43 hK hH hS (fun H locs hH hS => ?_)
        refine W.cs (cells' := 0) (slots' := 0) (by rfl) (by rfl) ?_
        refine lv_if_eq (tgt := 67) hx hb dX1_turn_46 (by decide) (fun c_ => ?_) (fun c_ => ?_)
        · have hf := (if_pos c_).symm.trans hf
          refine lv_iconst (v := (-1 : Int32)) hx hb dX1_turn_67 (by decide) ?_
          cases hf
          exact r_iret X dX1_turn_68 (Nat.le_of_ble_eq_true rfl) (Nat.le_of_ble_eq_true rfl) rfl hH hS
        · have hf := (if_neg c_).symm.trans hf
          refine lv_iload hx hb dX1_turn_49 (lv_at hl 4 rfl) ?_
          refine lv_i2l (v := (a4).toInt64) hx hb dX1_turn_51 rfl ?_
          refine lv_lconst (v := (1 : Int64)) hx hb dX1_turn_52 (by decide) ?_
          refine lv_aload hx hb dX1_turn_53 (lv_at hl 0 rfl) ?_
          obtain ⟨v11, hv, hf⟩ := bd hf
          refine h_gI X hK hH fo_Code_0 hv q116 dX1_turn_55 ?_
          refine lv_iconst (v := (1 : Int32)) hx hb dX1_turn_58 (by decide) ?_
          refine lv_isub hx hb dX1_turn_59 ?_
          refine lv_i2l (v := ((v11 - (1 : Int32))).toInt64) hx hb dX1_turn_60 rfl ?_
          obtain ⟨v12, hv, hf⟩ := bd hf
          refine c_S (As := [.long ((a4).toInt64), .long (1 : Int64), .long (((v11 - (1 : Int32))).toInt64)]) (rest := []) (st1 := [.int v12]) X (met_X1_isIn l G σ N ((a4).toInt64) (1 : Int64) (((v11 - (1 : Int32))).toInt64) v12 hv) cs_X1_isIn q86 rfl rfl rfl hl.1 (Nat.le_of_ble_eq_true rfl) ⟨Nat.le_of_ble_eq_true rfl, Nat.le_of_ble_eq_true rfl⟩ ⟨Nat.le_of_ble_eq_true rfl, Nat.le_of_ble_eq_true rfl⟩ dX1_turn_61 hK hH hS (fun H locs hH hS => ?_)
          refine W.cs (cells' := 0) (slots' := 0) (by rfl) (by rfl) ?_
          refine lv_if_ne (tgt := 69) hx hb dX1_turn_64 (by decide) (fun c_ => ?_) (fun c_ => ?_)
          · have hf := (if_neg c_).symm.trans hf
            refine lv_aload hx hb dX1_turn_69 (lv_at hl 0 rfl) ?_
            obtain ⟨v13, hv, hf⟩ := bd hf
            refine h_inst (w := (some b8)) X hK hH ca_Own nc_Own hv q163 dX1_turn_71 ?_
            refine lv_if_eq (tgt := 97) hx hb dX1_turn_74 (by decide) (fun c_ => ?_) (fun c_ => ?_)
            · have hf := (if_pos c_).symm.trans hf
              refine lv_aload hx hb dX1_turn_97 (lv_at hl 0 rfl) ?_
              refine lv_aload hx hb dX1_turn_99 (lv_at hl 0 rfl) ?_
              obtain ⟨v14, hv, hf⟩ := bd hf
              refine h_gI X hK hH fo_Code_1 hv q123 dX1_turn_101 ?_
              obtain ⟨v15, hv, hf⟩ := bd hf
              refine c_S (As := [.ref b8, .int v14]) (rest := []) (st1 := [.ref v15.2]) X (met_X1_like l G σ N b8 v14 v15.1 v15.2 hv) cs_X1_like q492 rfl rfl rfl hl.1 (Nat.le_of_ble_eq_true rfl) ⟨Nat.le_of_ble_eq_true rfl, Nat.le_of_ble_eq_true rfl⟩ ⟨Nat.le_of_ble_eq_true rfl, Nat.le_of_ble_eq_true rfl⟩ dX1_turn_104 hK hH hS (fun H locs hH hS => ?_)
              refine W.cs (cells' := 2) (slots' := 204) (by rfl) (by rfl) ?_
              exact J107 a0 a2 a4 a5 (some b8) v15.2 v15.1 hf _ _ _ (lv_sub hl [1, 3, 4, 5, 0] rfl) hH hS
            · have hf := (if_neg c_).symm.trans hf
              obtain ⟨t33, hv, hf⟩ := bd hf
              refine h_new (ci := 5) (fs := [.int 0, .int 0, .null, .int 0]) X hK hH hS tyX7 tyX7_ok in_X7 rfl q163 q164 q61 df_X7 (Nat.le_of_ble_eq_true rfl) (Nat.le_of_ble_eq_true rfl) dX1_turn_77 (fun H hH hS => ?_)
              rw [Option.some.inj hv] at hH
              refine W.cs (cells' := 1) (slots' := 4) (by rfl) (by rfl) ?_
              refine lv_dup hx hb dX1_turn_80 rfl ?_
              refine lv_aload hx hb dX1_turn_81 (lv_at hl 0 rfl) ?_
              obtain ⟨v34, hv, hf⟩ := bd hf
              refine h_gI X hK hH fo_Code_0 hv q116 dX1_turn_83 ?_
              refine lv_aload hx hb dX1_turn_86 (lv_at hl 0 rfl) ?_
              obtain ⟨v35, hv, hf⟩ := bd hf
              refine h_gI X hK hH fo_Code_1 hv q123 dX1_turn_88 ?_
              obtain ⟨v36, hv, hf⟩ := bd hf
              refine r_I (As := [.int v34, .int v35]) (rest := [.ref ((σ).1)]) X (met_X7_init l G t33 N ((σ).1) v34 v35 v36 hv) ci_X7_init q165 rfl rfl hl.1 (Nat.le_of_ble_eq_true rfl) ⟨Nat.le_of_ble_eq_true rfl, Nat.le_of_ble_eq_true rfl⟩ ⟨Nat.le_of_ble_eq_true rfl, Nat.le_of_ble_eq_true rfl⟩ dX1_turn_91 hK hH hS (fun H locs hH hS => ?_)
              refine W.cs (cells' := 2) (slots' := 204) (by rfl) (by rfl) ?_
              refine lv_goto (tgt := 107) hx hb dX1_turn_94 (by decide) ?_
              exact J107 a0 a2 a4 a5 (some b8) ((σ).1) v36 hf _ _ _ (lv_sub hl [1, 3, 4, 5, 0] rfl) hH hS
          · have hf := (if_pos c_).symm.trans hf
            refine lv_iconst (v := (-1 : Int32)) hx hb dX1_turn_67 (by decide) ?_
            cases hf
            exact r_iret X dX1_turn_68 (Nat.le_of_ble_eq_true rfl) (Nat.le_of_ble_eq_true rfl) rfl hH hS
    · have hf := (if_pos c_).symm.trans hf
      refine lv_iconst (v := (-1 : Int32)) hx hb dX1_turn_15 (by decide) ?_
      cases hf
      exact r_iret X dX1_turn_16 (Nat.le_of_ble_eq_true rfl) (Nat.le_of_ble_eq_true rfl) rfl hH hS
theorem cv_X1_way : CalV "WordBench" yX1_way cX1_way 7 (some .int) 4 := ⟨q376, q377, q48, q378, by decide +kernel⟩
set_option maxHeartbeats 4000000 in
theorem met_X1_way (l : Launch) (G : GG) (σ : SG) (N : Nat) (a0 : Nat) (a1 : Int32) (a2 : Int32) (a3 : Int64) (a5 : Int64) (rf : Int32) (hf : f_X1_way N a0 a1 a2 a3 a5 = some rf) : Con l yX1_way cX1_way 7 (some .int) 3 0 0 G σ [.ref a0, .int a1, .int a2, .long a3, .long a5] σ (some (.int rf)) := by
  refine con_of (by decide) (Nat.le_of_ble_eq_true rfl) ?_
  intro p e s m below meth c ls X hK hH hl hS
  have hx := X.1
  have hb := X.2.1
  have hml := X.2.2.2.1
  have hown : s.vm.findClass RX1 = some m.cls := X.2.2.2.2.1
  have hts := X.2.2.2.2.2.1
  have hl : lv_has ls 7 [(0, .ref a0), (1, .int a1), (2, .int a2), (3, .long a3), (5, .long a5)] := hl
  unfold f_X1_way at hf
  refine lv_iload_n hx hb dX1_way_0 rfl (lv_at hl 1 rfl) ?_
  refine lv_iload_n hx hb dX1_way_1 rfl (lv_at hl 2 rfl) ?_
  refine lv_lload_n hx hb dX1_way_2 rfl (lv_at hl 3 rfl) ?_
  refine lv_lload hx hb dX1_way_3 (lv_at hl 4 rfl) ?_
  obtain ⟨v1, hv, hf⟩ := bd hf
  refine c_S (As := [.int a1, .int a2, .long a3, .long a5]) (rest := []) (st1 := [.int v1]) X (met_X1_areWords l G _ N a1 a2 a3 a5 v1 hv) cs_X1_areWords q370 rfl rfl rfl hl.1 (Nat.le_of_ble_eq_true rfl) ⟨Nat.le_of_ble_eq_true rfl, Nat.le_of_ble_eq_true rfl⟩ ⟨Nat.le_of_ble_eq_true rfl, Nat.le_of_ble_eq_true rfl⟩ dX1_way_5 hK hH hS (fun H locs hH hS => ?_)
  refine W.cs (cells' := 0) (slots' := 0) (by rfl) (by rfl) ?_
  refine lv_if_eq (tgt := 23) hx hb dX1_way_8 (by decide) (fun c_ => ?_) (fun c_ => ?_)
  · have hf := (if_pos c_).symm.trans hf
    refine lv_iconst (v := (-1 : Int32)) hx hb dX1_way_23 (by decide) ?_
    cases hf
    exact r_iret X dX1_way_24 (Nat.le_of_ble_eq_true rfl) (Nat.le_of_ble_eq_true rfl) rfl hH hS
  · have hf := (if_neg c_).symm.trans hf
    refine lv_iload_n hx hb dX1_way_11 rfl (lv_at hl 1 rfl) ?_
    refine lv_iload_n hx hb dX1_way_12 rfl (lv_at hl 2 rfl) ?_
    refine lv_lload_n hx hb dX1_way_13 rfl (lv_at hl 3 rfl) ?_
    refine lv_lload hx hb dX1_way_14 (lv_at hl 4 rfl) ?_
    refine lv_iconst (v := (0 : Int32)) hx hb dX1_way_16 (by decide) ?_
    obtain ⟨v2, hv, hf⟩ := bd hf
    refine c_S (As := [.int a1, .int a2, .long a3, .long a5, .int (0 : Int32)]) (rest := []) (st1 := [.int v2]) X (met_X1_wayOf l G _ N a1 a2 a3 a5 (0 : Int32) v2 hv) cs_X1_wayOf q379 rfl rfl rfl hl.1 (Nat.le_of_ble_eq_true rfl) ⟨Nat.le_of_ble_eq_true rfl, Nat.le_of_ble_eq_true rfl⟩ ⟨Nat.le_of_ble_eq_true rfl, Nat.le_of_ble_eq_true rfl⟩ dX1_way_17 hK hH hS (fun H locs hH hS => ?_)
    refine W.cs (cells' := 0) (slots' := 0) (by rfl) (by rfl) ?_
    refine lv_goto (tgt := 24) hx hb dX1_way_20 (by decide) ?_
    cases hf
    exact r_iret X dX1_way_24 (Nat.le_of_ble_eq_true rfl) (Nat.le_of_ble_eq_true rfl) rfl hH hS
theorem cv_X1_weights : CalV "WordBench" yX1_weights cX1_weights 4 (some .long) 2 := ⟨q437, q438, q48, q439, by decide +kernel⟩
set_option maxHeartbeats 4000000 in
theorem met_X1_weights (l : Launch) (G : GG) (σ : SG) (N : Nat) (a0 : Nat) (a1 : Int32) (a2 : Int32) (σf : SG) (rf : Int64) (hf : f_X1_weights N σ a0 a1 a2 = some (σf, rf)) : Con l yX1_weights cX1_weights 4 (some .long) 6 16 185 G σ [.ref a0, .int a1, .int a2] σf (some (.long rf)) := by
  refine con_of (by decide) (Nat.le_of_ble_eq_true rfl) ?_
  intro p e s m below meth c ls X hK hH hl hS
  have hx := X.1
  have hb := X.2.1
  have hml := X.2.2.2.1
  have hown : s.vm.findClass RX1 = some m.cls := X.2.2.2.2.1
  have hts := X.2.2.2.2.2.1
  have hl : lv_has ls 4 [(0, .ref a0), (1, .int a1), (2, .int a2)] := hl
  unfold f_X1_weights at hf
  have J40 : ∀ (d0 : Nat) (d1 : Int32) (d2 : Int32) (d3 : Int32) (u40 : SG), f_X1_weights_j40 N d0 d1 d2 d3 u40 = some (σf, rf) → ∀ (ls : Array Slot) (H : Heap) (locs : List Loc), lv_has ls 4 [(0, .ref d0), (1, .int d1), (2, .int d2), (3, .int d3)] → HH G u40 H → va_S (AG G) s.heap H locs → W p l e (rm_ 6 16 185) s m ([.ref a0, .int a1, .int a2] : List Value).toArray below meth c H locs 16 185 (MQ below (PostC G σf (some (.long rf))) ([.ref a0, .int a1, .int a2] : List Value).toArray s 16 185 (AG G)) (F0 m 40 ls []) := by
    intro d0 d1 d2 d3 u40 hf ls H locs hl hH hS
    unfold f_X1_weights_j40 at hf
    refine lv_iload_n hx hb dX1_weights_40 rfl (lv_at hl 3 rfl) ?_
    refine lv_if_eq (tgt := 47) hx hb dX1_weights_41 (by decide) (fun c_ => ?_) (fun c_ => ?_)
    · have hf := (if_pos c_).symm.trans hf
      refine lv_aload_n hx hb dX1_weights_47 rfl (lv_at hl 0 rfl) ?_
      refine lv_aload_n hx hb dX1_weights_48 rfl (lv_at hl 0 rfl) ?_
      obtain ⟨v2, hv, hf⟩ := bd hf
      refine h_gR X hK hH fo_X1_0 hv q649 dX1_weights_49 ?_
      refine lv_iload_n hx hb dX1_weights_52 rfl (lv_at hl 1 rfl) ?_
      obtain ⟨v3, hv, hf⟩ := bd hf
      refine h_aQ (by decide) X hK hH hv dX1_weights_53 ?_
      obtain ⟨b4, hq, hz⟩ := bd hf
      clear hf
      subst hq
      have hf := hz
      clear hz
      obtain ⟨_, hw, hf⟩ := bd hf
      obtain ⟨v5, hv, hf⟩ := bd hf
      refine c_V (As := [.ref b4]) (rest := []) (st1 := []) X (met_X1_counts l G u40 N d0 b4 v5 hv) cv_X1_counts q432 (recv1 (w := (RX1, TX1, 6)) hw hK hH rfl) rfl rfl rfl hl.1 (Nat.le_of_ble_eq_true rfl) ⟨Nat.le_of_ble_eq_true rfl, Nat.le_of_ble_eq_true rfl⟩ ⟨Nat.le_of_ble_eq_true rfl, Nat.le_of_ble_eq_true rfl⟩ dX1_weights_54 hK hH hS (fun H locs hH hS => ?_)
      refine W.cs (cells' := 16) (slots' := 185) (by rfl) (by rfl) ?_
      refine lv_aload_n hx hb dX1_weights_57 rfl (lv_at hl 0 rfl) ?_
      obtain ⟨v6, hv, hf⟩ := bd hf
      refine h_gR X hK hH fo_X1_3 hv q652 dX1_weights_58 ?_
      refine lv_iload_n hx hb dX1_weights_61 rfl (lv_at hl 2 rfl) ?_
      obtain ⟨v7, hv, hf⟩ := bd hf
      refine h_aL X hK hH hv dX1_weights_62 ?_
      cases hf
      exact r_lret X dX1_weights_63 (Nat.le_of_ble_eq_true rfl) (Nat.le_of_ble_eq_true rfl) rfl hH hS
    · have hf := (if_neg c_).symm.trans hf
      refine lv_iload_n hx hb dX1_weights_44 rfl (lv_at hl 3 rfl) ?_
      refine lv_i2l (v := (d3).toInt64) hx hb dX1_weights_45 rfl ?_
      cases hf
      exact r_lret X dX1_weights_46 (Nat.le_of_ble_eq_true rfl) (Nat.le_of_ble_eq_true rfl) rfl hH hS
  refine lv_aload_n hx hb dX1_weights_0 rfl (lv_at hl 0 rfl) ?_
  refine lv_iload_n hx hb dX1_weights_1 rfl (lv_at hl 1 rfl) ?_
  refine lv_iconst (v := (0 : Int32)) hx hb dX1_weights_2 (by decide) ?_
  obtain ⟨_, hw, hf⟩ := bd hf
  obtain ⟨v1, hv, hf⟩ := bd hf
  refine c_V (As := [.int a1, .int (0 : Int32)]) (rest := []) (st1 := [.int v1]) X (met_X1_asks l G σ N a0 a1 (0 : Int32) v1 hv) cv_X1_asks q183 (recv1 (w := (RX1, TX1, 6)) hw hK hH rfl) rfl rfl rfl hl.1 (Nat.le_of_ble_eq_true rfl) ⟨Nat.le_of_ble_eq_true rfl, Nat.le_of_ble_eq_true rfl⟩ ⟨Nat.le_of_ble_eq_true rfl, Nat.le_of_ble_eq_true rfl⟩ dX1_weights_3 hK hH hS (fun H locs hH hS => ?_)
  refine W.cs (cells' := 0) (slots' := 0) (by rfl) (by rfl) ?_
  refine lv_istore_n (lv' := [(3, .int v1), (0, .ref a0), (1, .int a1), (2, .int a2)]) hx hb dX1_weights_6 rfl hl (by decide) rfl (fun ls hl => ?_)
  refine lv_iload_n hx hb dX1_weights_7 rfl (lv_at hl 0 rfl) ?_
  refine lv_if_ne (tgt := 40) hx hb dX1_weights_8 (by decide) (fun c_ => ?_) (fun c_ => ?_)
  · have hf := (if_neg c_).symm.trans hf
    refine W.widen (k := 16) (n := 185) (Nat.le_of_ble_eq_true rfl) (Nat.le_of_ble_eq_true rfl) ?_
    exact J40 a0 a1 a2 v1 σ hf _ _ _ (lv_sub hl [1, 2, 3, 0] rfl) hH hS
  · have hf := (if_pos c_).symm.trans hf
    refine lv_iload_n hx hb dX1_weights_11 rfl (lv_at hl 3 rfl) ?_
    refine lv_i2l (v := (a2).toInt64) hx hb dX1_weights_12 rfl ?_
    refine lv_lconst (v := (0 : Int64)) hx hb dX1_weights_13 (by decide) ?_
    refine lv_aload_n hx hb dX1_weights_14 rfl (lv_at hl 1 rfl) ?_
    obtain ⟨v8, hv, hf⟩ := bd hf
    refine h_gR X hK hH fo_X1_0 hv q649 dX1_weights_15 ?_
    refine lv_iload_n hx hb dX1_weights_18 rfl (lv_at hl 2 rfl) ?_
    obtain ⟨v9, hv, hf⟩ := bd hf
    refine h_aQ (by decide) X hK hH hv dX1_weights_19 ?_
    obtain ⟨b10, hq, hz⟩ := bd hf
    clear hf
    subst hq
    have hf := hz
    clear hz
    obtain ⟨v11, hv, hf⟩ := bd hf
    refine h_gI X hK hH fo_Code_1 hv q123 dX1_weights_20 ?_
    refine lv_i2l (v := (v11).toInt64) hx hb dX1_weights_23 rfl ?_
    obtain ⟨v12, hv, hf⟩ := bd hf
    refine c_S (As := [.long ((a2).toInt64), .long (0 : Int64), .long ((v11).toInt64)]) (rest := []) (st1 := [.int v12]) X (met_X1_isIn l G σ N ((a2).toInt64) (0 : Int64) ((v11).toInt64) v12 hv) cs_X1_isIn q86 rfl rfl rfl hl.1 (Nat.le_of_ble_eq_true rfl) ⟨Nat.le_of_ble_eq_true rfl, Nat.le_of_ble_eq_true rfl⟩ ⟨Nat.le_of_ble_eq_true rfl, Nat.le_of_ble_eq_true rfl⟩ dX1_weights_24 hK hH hS (fun H locs hH hS => ?_)
    refine W.cs (cells' := 0) (slots' := 0) (by rfl) (by rfl) ?_
    refine lv_if_eq (tgt := 38) hx hb dX1_weights_27 (by decide) (fun c_ => ?_) (fun c_ => ?_)
    · have hf := (if_pos c_).symm.trans hf
      refine lv_iconst (v := (-1 : Int32)) hx hb dX1_weights_38 (by decide) ?_
      refine lv_istore_n (lv' := [(3, .int (-1 : Int32)), (0, .ref a0), (1, .int a1), (2, .int a2)]) hx hb dX1_weights_39 rfl hl (by decide) rfl (fun ls hl => ?_)
      refine W.widen (k := 16) (n := 185) (Nat.le_of_ble_eq_true rfl) (Nat.le_of_ble_eq_true rfl) ?_
      exact J40 a0 a1 a2 (-1 : Int32) σ hf _ _ _ (lv_sub hl [1, 2, 3, 0] rfl) hH hS
    · have hf := (if_neg c_).symm.trans hf
      refine lv_aload_n hx hb dX1_weights_30 rfl (lv_at hl 1 rfl) ?_
      refine lv_iload_n hx hb dX1_weights_31 rfl (lv_at hl 2 rfl) ?_
      obtain ⟨_, hw, hf⟩ := bd hf
      obtain ⟨v13, hv, hf⟩ := bd hf
      refine c_V (As := [.int a1]) (rest := []) (st1 := [.int v13.2]) X (met_X1_whyWords l G σ N a0 a1 v13.1 v13.2 hv) cv_X1_whyWords q419 (recv1 (w := (RX1, TX1, 6)) hw hK hH rfl) rfl rfl rfl hl.1 (Nat.le_of_ble_eq_true rfl) ⟨Nat.le_of_ble_eq_true rfl, Nat.le_of_ble_eq_true rfl⟩ ⟨Nat.le_of_ble_eq_true rfl, Nat.le_of_ble_eq_true rfl⟩ dX1_weights_32 hK hH hS (fun H locs hH hS => ?_)
      refine W.cs (cells' := 16) (slots' := 185) (by rfl) (by rfl) ?_
      refine lv_goto (tgt := 39) hx hb dX1_weights_35 (by decide) ?_
      refine lv_istore_n (lv' := [(3, .int v13.2), (0, .ref a0), (1, .int a1), (2, .int a2)]) hx hb dX1_weights_39 rfl hl (by decide) rfl (fun ls hl => ?_)
      exact J40 a0 a1 a2 v13.2 v13.1 hf _ _ _ (lv_sub hl [1, 2, 3, 0] rfl) hH hS
theorem cv_X1_whole : CalV "WordBench" yX1_whole cX1_whole 10 (some .int) 1 := ⟨q485, q486, q48, q487, by decide +kernel⟩
set_option maxHeartbeats 4000000 in
theorem met_X1_whole (l : Launch) (G : GG) (σ : SG) (N : Nat) (a0 : Nat) (a1 : Int32) (σf : SG) (rf : Int32) (hf : f_X1_whole N σ a0 a1 = some (σf, rf)) : Con l yX1_whole cX1_whole 10 (some .int) 6 16 185 G σ [.ref a0, .int a1] σf (some (.int rf)) := by
  refine con_of (by decide) (Nat.le_of_ble_eq_true rfl) ?_
  intro p e s m below meth c ls X hK hH hl hS
  have hx := X.1
  have hb := X.2.1
  have hml := X.2.2.2.1
  have hown : s.vm.findClass RX1 = some m.cls := X.2.2.2.2.1
  have hts := X.2.2.2.2.2.1
  have hl : lv_has ls 10 [(0, .ref a0), (1, .int a1)] := hl
  unfold f_X1_whole at hf
  have L50 : ∀ (c0 : Nat) (c3 : Nat) (c5 : Int32) (t50 : SG) (n : Nat) (s50 : Int64) (r50 : (Unit ⊕ Unit)), lp (f_X1_whole_b50 N c0 c3 c5 t50) n s50 = some r50 → (match r50 with | .inl e50 => (∀ (ls : Array Slot) (H : Heap) (locs : List Loc), lv_has ls 10 [] → HH G t50 H → va_S (AG G) s.heap H locs → W p l e (rm_ 6 16 185) s m ([.ref a0, .int a1] : List Value).toArray below meth c H locs 16 185 (MQ below (PostC G σf (some (.int rf))) ([.ref a0, .int a1] : List Value).toArray s 16 185 (AG G)) (F0 m 130 ls [])) | .inr e50 => (∀ (ls : Array Slot) (H : Heap) (locs : List Loc), lv_has ls 10 [] → HH G t50 H → va_S (AG G) s.heap H locs → W p l e (rm_ 6 16 185) s m ([.ref a0, .int a1] : List Value).toArray below meth c H locs 16 185 (MQ below (PostC G σf (some (.int rf))) ([.ref a0, .int a1] : List Value).toArray s 16 185 (AG G)) (F0 m 141 ls []))) → ∀ (ls : Array Slot) (H : Heap) (locs : List Loc), lv_has ls 10 [(0, .ref c0), (3, .ref c3), (5, .int c5), (6, .long s50)] → HH G t50 H → va_S (AG G) s.heap H locs → W p l e (rm_ 6 16 185) s m ([.ref a0, .int a1] : List Value).toArray below meth c H locs 16 185 (MQ below (PostC G σf (some (.int rf))) ([.ref a0, .int a1] : List Value).toArray s 16 185 (AG G)) (F0 m 50 ls []) := by
    intro c0 c3 c5 t50 n s50 r50 hr hq
    refine lp_ind (P := fun s50 => ∀ (ls : Array Slot) (H : Heap) (locs : List Loc), lv_has ls 10 [(0, .ref c0), (3, .ref c3), (5, .int c5), (6, .long s50)] → HH G t50 H → va_S (AG G) s.heap H locs → W p l e (rm_ 6 16 185) s m ([.ref a0, .int a1] : List Value).toArray below meth c H locs 16 185 (MQ below (PostC G σf (some (.int rf))) ([.ref a0, .int a1] : List Value).toArray s 16 185 (AG G)) (F0 m 50 ls [])) (Q := fun r50 => match r50 with | .inl e50 => (∀ (ls : Array Slot) (H : Heap) (locs : List Loc), lv_has ls 10 [] → HH G t50 H → va_S (AG G) s.heap H locs → W p l e (rm_ 6 16 185) s m ([.ref a0, .int a1] : List Value).toArray below meth c H locs 16 185 (MQ below (PostC G σf (some (.int rf))) ([.ref a0, .int a1] : List Value).toArray s 16 185 (AG G)) (F0 m 130 ls [])) | .inr e50 => (∀ (ls : Array Slot) (H : Heap) (locs : List Loc), lv_has ls 10 [] → HH G t50 H → va_S (AG G) s.heap H locs → W p l e (rm_ 6 16 185) s m ([.ref a0, .int a1] : List Value).toArray below meth c H locs 16 185 (MQ below (PostC G σf (some (.int rf))) ([.ref a0, .int a1] : List Value).toArray s 16 185 (AG G)) (F0 m 141 ls []))) ?_ n s50 r50 hr hq
    intro s50 x50 hf hx50 ls H locs hl hH hS
    unfold f_X1_whole_b50 at hf
    have L73 : ∀ (c0 : Nat) (c3 : Nat) (c5 : Int32) (c6 : Int64) (t73 : SG) (n : Nat) (s73 : (Int32 × Int32)) (r73 : Int32), lp (f_X1_whole_b73 N c0 c3 c5 c6 t73) n s73 = some r73 → (∀ (ls : Array Slot) (H : Heap) (locs : List Loc), lv_has ls 10 [(0, .ref c0), (3, .ref c3), (5, .int c5), (6, .long c6), (8, .int r73)] → HH G t73 H → va_S (AG G) s.heap H locs → W p l e (rm_ 6 16 185) s m ([.ref a0, .int a1] : List Value).toArray below meth c H locs 16 185 (MQ below (PostC G σf (some (.int rf))) ([.ref a0, .int a1] : List Value).toArray s 16 185 (AG G)) (F0 m 124 ls [])) → ∀ (ls : Array Slot) (H : Heap) (locs : List Loc), lv_has ls 10 [(0, .ref c0), (3, .ref c3), (5, .int c5), (6, .long c6), (8, .int s73.1), (9, .int s73.2)] → HH G t73 H → va_S (AG G) s.heap H locs → W p l e (rm_ 6 16 185) s m ([.ref a0, .int a1] : List Value).toArray below meth c H locs 16 185 (MQ below (PostC G σf (some (.int rf))) ([.ref a0, .int a1] : List Value).toArray s 16 185 (AG G)) (F0 m 73 ls []) := by
      intro c0 c3 c5 c6 t73 n s73 r73 hr hq
      refine lp_ind (P := fun s73 => ∀ (ls : Array Slot) (H : Heap) (locs : List Loc), lv_has ls 10 [(0, .ref c0), (3, .ref c3), (5, .int c5), (6, .long c6), (8, .int s73.1), (9, .int s73.2)] → HH G t73 H → va_S (AG G) s.heap H locs → W p l e (rm_ 6 16 185) s m ([.ref a0, .int a1] : List Value).toArray below meth c H locs 16 185 (MQ below (PostC G σf (some (.int rf))) ([.ref a0, .int a1] : List Value).toArray s 16 185 (AG G)) (F0 m 73 ls [])) (Q := fun r73 => ∀ (ls : Array Slot) (H : Heap) (locs : List Loc), lv_has ls 10 [(0, .ref c0), (3, .ref c3), (5, .int c5), (6, .long c6), (8, .int r73)] → HH G t73 H → va_S (AG G) s.heap H locs → W p l e (rm_ 6 16 185) s m ([.ref a0, .int a1] : List Value).toArray below meth c H locs 16 185 (MQ below (PostC G σf (some (.int rf))) ([.ref a0, .int a1] : List Value).toArray s 16 185 (AG G)) (F0 m 124 ls [])) ?_ n s73 r73 hr hq
      intro s73 x73 hf hx73 ls H locs hl hH hS
      unfold f_X1_whole_b73 at hf
      refine lv_iload hx hb dX1_whole_73 (lv_at hl 5 rfl) ?_
      refine lv_aload_n hx hb dX1_whole_75 rfl (lv_at hl 0 rfl) ?_
      obtain ⟨v10, hv, hf⟩ := bd hf
      refine h_gI X hK hH fo_X1_2 hv q651 dX1_whole_76 ?_
      refine lv_icmp_ge (tgt := 124) hx hb dX1_whole_79 (by decide) (fun c_ => ?_) (fun c_ => ?_)
      · have hf := (if_pos c_).symm.trans hf
        cases hf
        exact hx73 _ _ _ (lv_sub hl [0, 1, 2, 3, 4] rfl) hH hS
      · have hf := (if_neg c_).symm.trans hf
        refine lv_iload hx hb dX1_whole_82 (lv_at hl 4 rfl) ?_
        refine lv_aload_n hx hb dX1_whole_84 rfl (lv_at hl 1 rfl) ?_
        obtain ⟨v11, hv, hf⟩ := bd hf
        refine h_gI X hK hH fo_Code_0 hv q116 dX1_whole_85 ?_
        refine lv_aload_n hx hb dX1_whole_88 rfl (lv_at hl 1 rfl) ?_
        obtain ⟨v12, hv, hf⟩ := bd hf
        refine h_gI X hK hH fo_Code_1 hv q123 dX1_whole_89 ?_
        refine lv_aload_n hx hb dX1_whole_92 rfl (lv_at hl 0 rfl) ?_
        obtain ⟨v13, hv, hf⟩ := bd hf
        refine h_gR X hK hH fo_X1_1 hv q650 dX1_whole_93 ?_
        refine lv_iload hx hb dX1_whole_96 (lv_at hl 5 rfl) ?_
        obtain ⟨v14, hv, hf⟩ := bd hf
        refine h_aL X hK hH hv dX1_whole_98 ?_
        refine lv_lload hx hb dX1_whole_99 (lv_at hl 3 rfl) ?_
        refine lv_iconst (v := (0 : Int32)) hx hb dX1_whole_101 (by decide) ?_
        obtain ⟨v15, hv, hf⟩ := bd hf
        refine c_S (As := [.int v11, .int v12, .long v14, .long c6, .int (0 : Int32)]) (rest := [.int s73.1]) (st1 := [.int v15, .int s73.1]) X (met_X1_wayOf l G t73 N v11 v12 v14 c6 (0 : Int32) v15 hv) cs_X1_wayOf q379 rfl rfl rfl hl.1 (Nat.le_of_ble_eq_true rfl) ⟨Nat.le_of_ble_eq_true rfl, Nat.le_of_ble_eq_true rfl⟩ ⟨Nat.le_of_ble_eq_true rfl, Nat.le_of_ble_eq_true rfl⟩ dX1_whole_102 hK hH hS (fun H locs hH hS => ?_)
        refine W.cs (cells' := 16) (slots' := 185) (by rfl) (by rfl) ?_
        refine lv_iload hx hb dX1_whole_105 (lv_at hl 2 rfl) ?_
        refine lv_icmp_gt (tgt := 114) hx hb dX1_whole_107 (by decide) (fun c_ => ?_) (fun c_ => ?_)
        · have hf := (if_pos c_).symm.trans hf
          refine lv_iconst (v := (0 : Int32)) hx hb dX1_whole_114 (by decide) ?_
          refine lv_iadd hx hb dX1_whole_115 ?_
          refine lv_istore (lv' := [(8, .int (s73.1 + (0 : Int32))), (0, .ref c0), (3, .ref c3), (5, .int c5), (6, .long c6), (9, .int s73.2)]) hx hb dX1_whole_116 hl (by decide) rfl (fun ls hl => ?_)
          refine lv_iinc (v := (s73.2 + 1)) (lv' := [(9, .int (s73.2 + 1)), (8, .int (s73.1 + (0 : Int32))), (0, .ref c0), (3, .ref c3), (5, .int c5), (6, .long c6)]) hx hb dX1_whole_118 hl (k := 5) rfl rfl (by decide) rfl (fun ls hl => ?_)
          refine lv_goto (tgt := 73) hx hb dX1_whole_121 (by decide) ?_
          cases hf
          exact hx73 _ _ _ (lv_sub hl [2, 3, 4, 5, 1, 0] rfl) hH hS
        · have hf := (if_neg c_).symm.trans hf
          refine lv_iconst (v := (1 : Int32)) hx hb dX1_whole_110 (by decide) ?_
          refine lv_goto (tgt := 115) hx hb dX1_whole_111 (by decide) ?_
          refine lv_iadd hx hb dX1_whole_115 ?_
          refine lv_istore (lv' := [(8, .int (s73.1 + (1 : Int32))), (0, .ref c0), (3, .ref c3), (5, .int c5), (6, .long c6), (9, .int s73.2)]) hx hb dX1_whole_116 hl (by decide) rfl (fun ls hl => ?_)
          refine lv_iinc (v := (s73.2 + 1)) (lv' := [(9, .int (s73.2 + 1)), (8, .int (s73.1 + (1 : Int32))), (0, .ref c0), (3, .ref c3), (5, .int c5), (6, .long c6)]) hx hb dX1_whole_118 hl (k := 5) rfl rfl (by decide) rfl (fun ls hl => ?_)
          refine lv_goto (tgt := 73) hx hb dX1_whole_121 (by decide) ?_
          cases hf
          exact hx73 _ _ _ (lv_sub hl [2, 3, 4, 5, 1, 0] rfl) hH hS
    refine lv_lload hx hb dX1_whole_50 (lv_at hl 3 rfl) ?_
    refine lv_aload_n hx hb dX1_whole_52 rfl (lv_at hl 1 rfl) ?_
    obtain ⟨v7, hv, hf⟩ := bd hf
    refine h_gI X hK hH fo_Code_0 hv q116 dX1_whole_53 ?_
    refine lv_aload_n hx hb dX1_whole_56 rfl (lv_at hl 1 rfl) ?_
    obtain ⟨v8, hv, hf⟩ := bd hf
    refine h_gI X hK hH fo_Code_1 hv q123 dX1_whole_57 ?_
    obtain ⟨v9, hv, hf⟩ := bd hf
    refine c_S (As := [.int v7, .int v8]) (rest := [.long s50]) (st1 := [.long v9, .long s50]) X (met_X1_power l G t50 N v7 v8 v9 hv) cs_X1_power q190 rfl rfl rfl hl.1 (Nat.le_of_ble_eq_true rfl) ⟨Nat.le_of_ble_eq_true rfl, Nat.le_of_ble_eq_true rfl⟩ ⟨Nat.le_of_ble_eq_true rfl, Nat.le_of_ble_eq_true rfl⟩ dX1_whole_60 hK hH hS (fun H locs hH hS => ?_)
    refine W.cs (cells' := 16) (slots' := 185) (by rfl) (by rfl) ?_
    refine W.lcmp hx hb dX1_whole_63 ?_
    refine lv_if_ge (tgt := 141) hx hb dX1_whole_64 (by decide) (fun c_ => ?_) (fun c_ => ?_)
    · have hf := (if_pos ((lg_cmp_ge s50 v9).mp c_)).symm.trans hf
      cases hf
      exact hx50 _ _ _ (lv_sub hl [] rfl) hH hS
    · have hf := (if_neg (fun z => c_ ((lg_cmp_ge s50 v9).mpr z))).symm.trans hf
      refine lv_iconst (v := (0 : Int32)) hx hb dX1_whole_67 (by decide) ?_
      refine lv_istore (lv' := [(8, .int (0 : Int32)), (0, .ref c0), (3, .ref c3), (5, .int c5), (6, .long s50)]) hx hb dX1_whole_68 hl (by decide) rfl (fun ls hl => ?_)
      refine lv_iconst (v := (0 : Int32)) hx hb dX1_whole_70 (by decide) ?_
      refine lv_istore (lv' := [(9, .int (0 : Int32)), (8, .int (0 : Int32)), (0, .ref c0), (3, .ref c3), (5, .int c5), (6, .long s50)]) hx hb dX1_whole_71 hl (by decide) rfl (fun ls hl => ?_)
      obtain ⟨r73_16, hr, hf⟩ := bd hf
      refine L73 c0 c3 c5 s50 t50 N _ r73_16 hr ?_ _ _ _ (lv_sub hl [2, 3, 4, 5, 1, 0] rfl) hH hS
      intro ls H locs hl hH hS
      refine lv_iload hx hb dX1_whole_124 (lv_at hl 4 rfl) ?_
      refine lv_iconst (v := (1 : Int32)) hx hb dX1_whole_126 (by decide) ?_
      refine lv_icmp_eq (tgt := 132) hx hb dX1_whole_127 (by decide) (fun c_ => ?_) (fun c_ => ?_)
      · have hf := (if_pos c_).symm.trans hf
        refine lv_lload hx hb dX1_whole_132 (lv_at hl 3 rfl) ?_
        refine lv_lconst (v := (1 : Int64)) hx hb dX1_whole_134 (by decide) ?_
        refine lv_ladd hx hb dX1_whole_135 ?_
        refine lv_lstore (lv' := [(6, .long (s50 + (1 : Int64))), (0, .ref c0), (3, .ref c3), (5, .int c5), (8, .int r73_16)]) hx hb dX1_whole_136 hl (by decide) rfl (fun ls hl => ?_)
        refine lv_goto (tgt := 50) hx hb dX1_whole_138 (by decide) ?_
        cases hf
        exact hx50 _ _ _ (lv_sub hl [1, 2, 3, 0] rfl) hH hS
      · have hf := (if_neg c_).symm.trans hf
        cases hf
        exact hx50 _ _ _ (lv_sub hl [] rfl) hH hS
  have J18 : ∀ (d0 : Nat) (d1 : Int32) (u18 : SG), f_X1_whole_j18 N d0 d1 u18 = some (σf, rf) → ∀ (ls : Array Slot) (H : Heap) (locs : List Loc), lv_has ls 10 [(0, .ref d0), (1, .int d1)] → HH G u18 H → va_S (AG G) s.heap H locs → W p l e (rm_ 6 16 185) s m ([.ref a0, .int a1] : List Value).toArray below meth c H locs 16 185 (MQ below (PostC G σf (some (.int rf))) ([.ref a0, .int a1] : List Value).toArray s 16 185 (AG G)) (F0 m 18 ls []) := by
    intro d0 d1 u18 hf ls H locs hl hH hS
    unfold f_X1_whole_j18 at hf
    refine lv_aload_n hx hb dX1_whole_18 rfl (lv_at hl 0 rfl) ?_
    obtain ⟨v2, hv, hf⟩ := bd hf
    refine h_gR X hK hH fo_X1_0 hv q649 dX1_whole_19 ?_
    refine lv_iload_n hx hb dX1_whole_22 rfl (lv_at hl 1 rfl) ?_
    obtain ⟨v3, hv, hf⟩ := bd hf
    refine h_aQ (by decide) X hK hH hv dX1_whole_23 ?_
    refine q_astore_n (lv' := [(3, va_rf v3), (0, .ref d0), (1, .int d1)]) hx hb dX1_whole_24 rfl hl (by decide) rfl (fun ls hl => ?_)
    refine lv_aload_n hx hb dX1_whole_25 rfl (lv_at hl 1 rfl) ?_
    refine q_aload_n hx hb dX1_whole_26 rfl (lv_at hl 0 rfl) ?_
    obtain ⟨b4, hq, hz⟩ := bd hf
    clear hf
    subst hq
    have hf := hz
    clear hz
    obtain ⟨_, hw, hf⟩ := bd hf
    obtain ⟨v5, hv, hf⟩ := bd hf
    refine c_V (As := [.ref b4]) (rest := []) (st1 := [.int v5.2]) X (met_X1_leastOf l G u18 N d0 b4 v5.1 v5.2 hv) cv_X1_leastOf q428 (recv1 (w := (RX1, TX1, 6)) hw hK hH rfl) rfl rfl rfl hl.1 (Nat.le_of_ble_eq_true rfl) ⟨Nat.le_of_ble_eq_true rfl, Nat.le_of_ble_eq_true rfl⟩ ⟨Nat.le_of_ble_eq_true rfl, Nat.le_of_ble_eq_true rfl⟩ dX1_whole_27 hK hH hS (fun H locs hH hS => ?_)
    refine W.cs (cells' := 16) (slots' := 185) (by rfl) (by rfl) ?_
    refine lv_istore (lv' := [(4, .int v5.2), (3, .ref b4), (0, .ref d0), (1, .int d1)]) hx hb dX1_whole_30 hl (by decide) rfl (fun ls hl => ?_)
    refine lv_iload hx hb dX1_whole_32 (lv_at hl 0 rfl) ?_
    refine lv_if_ne (tgt := 39) hx hb dX1_whole_34 (by decide) (fun c_ => ?_) (fun c_ => ?_)
    · have hf := (if_neg c_).symm.trans hf
      refine lv_iload hx hb dX1_whole_39 (lv_at hl 0 rfl) ?_
      refine lv_iconst (v := (1 : Int32)) hx hb dX1_whole_41 (by decide) ?_
      refine lv_isub hx hb dX1_whole_42 ?_
      refine lv_iconst (v := (2 : Int32)) hx hb dX1_whole_43 (by decide) ?_
      obtain ⟨v6, hv, hf⟩ := bd hf
      refine r_idiv hx hb hv dX1_whole_44 ?_
      refine lv_istore (lv' := [(5, .int v6), (4, .int v5.2), (3, .ref b4), (0, .ref d0), (1, .int d1)]) hx hb dX1_whole_45 hl (by decide) rfl (fun ls hl => ?_)
      refine lv_lconst (v := (0 : Int64)) hx hb dX1_whole_47 (by decide) ?_
      refine lv_lstore (lv' := [(6, .long (0 : Int64)), (5, .int v6), (4, .int v5.2), (3, .ref b4), (0, .ref d0), (1, .int d1)]) hx hb dX1_whole_48 hl (by decide) rfl (fun ls hl => ?_)
      obtain ⟨r50_17, hr, hf⟩ := bd hf
      refine L50 d0 b4 v6 v5.1 N _ r50_17 hr ?_ _ _ _ (lv_sub hl [4, 3, 1, 0] rfl) hH hS
      rcases r50_17 with r50_17 | r50_17
      · intro ls H locs hl hH hS
        dsimp only at hf
        refine lv_iconst (v := (0 : Int32)) hx hb dX1_whole_130 (by decide) ?_
        cases hf
        exact r_iret X dX1_whole_131 (Nat.le_of_ble_eq_true rfl) (Nat.le_of_ble_eq_true rfl) rfl hH hS
      · intro ls H locs hl hH hS
        dsimp only at hf
        refine lv_iconst (v := (1 : Int32)) hx hb dX1_whole_141 (by decide) ?_
        cases hf
        exact r_iret X dX1_whole_142 (Nat.le_of_ble_eq_true rfl) (Nat.le_of_ble_eq_true rfl) rfl hH hS
    · have hf := (if_pos c_).symm.trans hf
      refine lv_iconst (v := (0 : Int32)) hx hb dX1_whole_37 (by decide) ?_
      cases hf
      exact r_iret X dX1_whole_38 (Nat.le_of_ble_eq_true rfl) (Nat.le_of_ble_eq_true rfl) rfl hH hS
  refine lv_aload_n hx hb dX1_whole_0 rfl (lv_at hl 0 rfl) ?_
  refine lv_iload_n hx hb dX1_whole_1 rfl (lv_at hl 1 rfl) ?_
  obtain ⟨_, hw, hf⟩ := bd hf
  obtain ⟨v1, hv, hf⟩ := bd hf
  refine c_V (As := [.int a1]) (rest := []) (st1 := [.int v1.2]) X (met_X1_whyHoles l G σ N a0 a1 v1.1 v1.2 hv) cv_X1_whyHoles q471 (recv1 (w := (RX1, TX1, 6)) hw hK hH rfl) rfl rfl rfl hl.1 (Nat.le_of_ble_eq_true rfl) ⟨Nat.le_of_ble_eq_true rfl, Nat.le_of_ble_eq_true rfl⟩ ⟨Nat.le_of_ble_eq_true rfl, Nat.le_of_ble_eq_true rfl⟩ dX1_whole_2 hK hH hS (fun H locs hH hS => ?_)
  refine W.cs (cells' := 16) (slots' := 185) (by rfl) (by rfl) ?_
  refine lv_istore_n (lv' := [(2, .int v1.2), (0, .ref a0), (1, .int a1)]) hx hb dX1_whole_5 rfl hl (by decide) rfl (fun ls hl => ?_)
  refine lv_iload_n hx hb dX1_whole_6 rfl (lv_at hl 0 rfl) ?_
  refine lv_if_eq (tgt := 18) hx hb dX1_whole_7 (by decide) (fun c_ => ?_) (fun c_ => ?_)
  · have hf := (if_pos c_).symm.trans hf
    exact J18 a0 a1 v1.1 hf _ _ _ (lv_sub hl [1, 2] rfl) hH hS
  · have hf := (if_neg c_).symm.trans hf
    refine lv_iload_n hx hb dX1_whole_10 rfl (lv_at hl 0 rfl) ?_
    refine lv_bipush (v := (-2 : Int32)) hx hb dX1_whole_11 (by decide) ?_
    refine lv_icmp_eq (tgt := 18) hx hb dX1_whole_13 (by decide) (fun c_ => ?_) (fun c_ => ?_)
    · have hf := (if_pos c_).symm.trans hf
      exact J18 a0 a1 v1.1 hf _ _ _ (lv_sub hl [1, 2] rfl) hH hS
    · have hf := (if_neg c_).symm.trans hf
      refine lv_iload_n hx hb dX1_whole_16 rfl (lv_at hl 0 rfl) ?_
      cases hf
      exact r_iret X dX1_whole_17 (Nat.le_of_ble_eq_true rfl) (Nat.le_of_ble_eq_true rfl) rfl hH hS
theorem cv_X1_word : CalV "WordBench" yX1_word cX1_word 4 (some .long) 2 := ⟨q951, q952, q48, q953, by decide +kernel⟩
set_option maxHeartbeats 4000000 in
theorem met_X1_word (l : Launch) (G : GG) (σ : SG) (N : Nat) (a0 : Nat) (a1 : Int32) (a2 : Int32) (rf : Int64) (hf : f_X1_word N σ a0 a1 a2 = some rf) : Con l yX1_word cX1_word 4 (some .long) 2 0 0 G σ [.ref a0, .int a1, .int a2] σ (some (.long rf)) := by
  refine con_of (by decide) (Nat.le_of_ble_eq_true rfl) ?_
  intro p e s m below meth c ls X hK hH hl hS
  have hx := X.1
  have hb := X.2.1
  have hml := X.2.2.2.1
  have hown : s.vm.findClass RX1 = some m.cls := X.2.2.2.2.1
  have hts := X.2.2.2.2.2.1
  have hl : lv_has ls 4 [(0, .ref a0), (1, .int a1), (2, .int a2)] := hl
  unfold f_X1_word at hf
  have J42 : f_X1_word_j42 N σ = some rf → ∀ (ls : Array Slot) (H : Heap) (locs : List Loc), lv_has ls 4 [] → HH G σ H → va_S (AG G) s.heap H locs → W p l e (rm_ 2 0 0) s m ([.ref a0, .int a1, .int a2] : List Value).toArray below meth c H locs 0 0 (MQ below (PostC G σ (some (.long rf))) ([.ref a0, .int a1, .int a2] : List Value).toArray s 0 0 (AG G)) (F0 m 42 ls []) := by
    intro  hf ls H locs hl hH hS
    unfold f_X1_word_j42 at hf
    cases hf
  refine lv_iload_n hx hb dX1_word_0 rfl (lv_at hl 1 rfl) ?_
  obtain ⟨v1, hv, hf⟩ := bd hf
  refine c_S (As := [.int a1]) (rest := []) (st1 := [.int v1]) X (met_X1_isPlace l G σ N a1 v1 hv) cs_X1_isPlace q82 rfl rfl rfl hl.1 (Nat.le_of_ble_eq_true rfl) ⟨Nat.le_of_ble_eq_true rfl, Nat.le_of_ble_eq_true rfl⟩ ⟨Nat.le_of_ble_eq_true rfl, Nat.le_of_ble_eq_true rfl⟩ dX1_word_1 hK hH hS (fun H locs hH hS => ?_)
  refine W.cs (cells' := 0) (slots' := 0) (by rfl) (by rfl) ?_
  refine lv_if_ne (tgt := 15) hx hb dX1_word_4 (by decide) (fun c_ => ?_) (fun c_ => ?_)
  · have hf := (if_neg c_).symm.trans hf
    refine lv_aload_n hx hb dX1_word_15 rfl (lv_at hl 0 rfl) ?_
    obtain ⟨v2, hv, hf⟩ := bd hf
    refine h_gR X hK hH fo_X1_0 hv q649 dX1_word_16 ?_
    refine lv_iload_n hx hb dX1_word_19 rfl (lv_at hl 1 rfl) ?_
    obtain ⟨v3, hv, hf⟩ := bd hf
    refine h_aQ (by decide) X hK hH hv dX1_word_20 ?_
    refine q_astore_n (lv' := [(3, va_rf v3), (0, .ref a0), (1, .int a1), (2, .int a2)]) hx hb dX1_word_21 rfl hl (by decide) rfl (fun ls hl => ?_)
    refine q_aload_n hx hb dX1_word_22 rfl (lv_at hl 0 rfl) ?_
    rcases v3 with _ | b4
    · dsimp only at hf
      refine lv_ifnullN (tgt := 42) hx hb dX1_word_23 (by decide) ?_
      exact J42  hf _ _ _ (lv_sub hl [] rfl) hH hS
    · dsimp only at hf
      refine lv_ifnull hx hb dX1_word_23 ?_
      refine lv_iload_n hx hb dX1_word_26 rfl (lv_at hl 3 rfl) ?_
      refine lv_i2l (v := (a2).toInt64) hx hb dX1_word_27 rfl ?_
      refine lv_lconst (v := (0 : Int64)) hx hb dX1_word_28 (by decide) ?_
      refine lv_aload_n hx hb dX1_word_29 rfl (lv_at hl 0 rfl) ?_
      obtain ⟨v5, hv, hf⟩ := bd hf
      refine h_gI X hK hH fo_Code_3 hv q141 dX1_word_30 ?_
      refine lv_iconst (v := (1 : Int32)) hx hb dX1_word_33 (by decide) ?_
      refine lv_isub hx hb dX1_word_34 ?_
      refine lv_i2l (v := ((v5 - (1 : Int32))).toInt64) hx hb dX1_word_35 rfl ?_
      obtain ⟨v6, hv, hf⟩ := bd hf
      refine c_S (As := [.long ((a2).toInt64), .long (0 : Int64), .long (((v5 - (1 : Int32))).toInt64)]) (rest := []) (st1 := [.int v6]) X (met_X1_isIn l G σ N ((a2).toInt64) (0 : Int64) (((v5 - (1 : Int32))).toInt64) v6 hv) cs_X1_isIn q86 rfl rfl rfl hl.1 (Nat.le_of_ble_eq_true rfl) ⟨Nat.le_of_ble_eq_true rfl, Nat.le_of_ble_eq_true rfl⟩ ⟨Nat.le_of_ble_eq_true rfl, Nat.le_of_ble_eq_true rfl⟩ dX1_word_36 hK hH hS (fun H locs hH hS => ?_)
      refine W.cs (cells' := 0) (slots' := 0) (by rfl) (by rfl) ?_
      refine lv_if_ne (tgt := 50) hx hb dX1_word_39 (by decide) (fun c_ => ?_) (fun c_ => ?_)
      · have hf := (if_neg c_).symm.trans hf
        refine lv_aload_n hx hb dX1_word_50 rfl (lv_at hl 0 rfl) ?_
        obtain ⟨v7, hv, hf⟩ := bd hf
        refine h_gR X hK hH fo_Code_2 hv q132 dX1_word_51 ?_
        refine lv_iload_n hx hb dX1_word_54 rfl (lv_at hl 3 rfl) ?_
        obtain ⟨v8, hv, hf⟩ := bd hf
        refine h_aL X hK hH hv dX1_word_55 ?_
        cases hf
        exact r_lret X dX1_word_56 (Nat.le_of_ble_eq_true rfl) (Nat.le_of_ble_eq_true rfl) rfl hH hS
      · have hf := (if_pos c_).symm.trans hf
        exact J42  hf _ _ _ (lv_sub hl [] rfl) hH hS
  · have hf := (if_pos c_).symm.trans hf
    cases hf
theorem ci_X3_init : CalI yX3_init cX3_init 2 0 := ⟨q1055, q57, q1056, rfl, by decide +kernel⟩
set_option maxHeartbeats 4000000 in
theorem met_X3_init (l : Launch) (G : GG) (σ : SG) (N : Nat) (a0 : Nat) (σf : SG) (hf : f_X3_init N σ a0 = some σf) : Con l yX3_init cX3_init 2 none 1 18 57181 G σ [.ref a0] σf none := by
  refine con_of (by decide) (Nat.le_of_ble_eq_true rfl) ?_
  intro p e s m below meth c ls X hK hH hl hS
  have hx := X.1
  have hb := X.2.1
  have hml := X.2.2.2.1
  have hown : s.vm.findClass RX3 = some m.cls := X.2.2.2.2.1
  have hts := X.2.2.2.2.2.1
  have hl : lv_has ls 2 [(0, .ref a0)] := hl
  unfold f_X3_init at hf
  have L154 : ∀ (c0 : Nat) (n : Nat) (s154 : (Int32 × SG)) (r154 : SG), lp (f_X3_init_b154 N c0) n s154 = some r154 → (∀ (ls : Array Slot) (H : Heap) (locs : List Loc), lv_has ls 2 [] → HH G r154 H → va_S (AG G) s.heap H locs → W p l e (rm_ 1 18 57181) s m ([.ref a0] : List Value).toArray below meth c H locs 18 57181 (MQ below (PostC G σf none) ([.ref a0] : List Value).toArray s 18 57181 (AG G)) (F0 m 173 ls [])) → ∀ (ls : Array Slot) (H : Heap) (locs : List Loc), lv_has ls 2 [(0, .ref c0), (1, .int s154.1)] → HH G s154.2 H → va_S (AG G) s.heap H locs → W p l e (rm_ 1 18 57181) s m ([.ref a0] : List Value).toArray below meth c H locs 18 57181 (MQ below (PostC G σf none) ([.ref a0] : List Value).toArray s 18 57181 (AG G)) (F0 m 154 ls []) := by
    intro c0 n s154 r154 hr hq
    refine lp_ind (P := fun s154 => ∀ (ls : Array Slot) (H : Heap) (locs : List Loc), lv_has ls 2 [(0, .ref c0), (1, .int s154.1)] → HH G s154.2 H → va_S (AG G) s.heap H locs → W p l e (rm_ 1 18 57181) s m ([.ref a0] : List Value).toArray below meth c H locs 18 57181 (MQ below (PostC G σf none) ([.ref a0] : List Value).toArray s 18 57181 (AG G)) (F0 m 154 ls [])) (Q := fun r154 => ∀ (ls : Array Slot) (H : Heap) (locs : List Loc), lv_has ls 2 [] → HH G r154 H → va_S (AG G) s.heap H locs → W p l e (rm_ 1 18 57181) s m ([.ref a0] : List Value).toArray below meth c H locs 18 57181 (MQ below (PostC G σf none) ([.ref a0] : List Value).toArray s 18 57181 (AG G)) (F0 m 173 ls [])) ?_ n s154 r154 hr hq
    intro s154 x154 hf hx154 ls H locs hl hH hS
    unfold f_X3_init_b154 at hf
    refine lv_iload_n hx hb dX3_init_154 rfl (lv_at hl 1 rfl) ?_
    refine lv_bipush (v := (12 : Int32)) hx hb dX3_init_155 (by decide) ?_
    refine lv_icmp_ge (tgt := 173) hx hb dX3_init_157 (by decide) (fun c_ => ?_) (fun c_ => ?_)
    · have hf := (if_pos c_).symm.trans hf
      cases hf
      exact hx154 _ _ _ (lv_sub hl [] rfl) hH hS
    · have hf := (if_neg c_).symm.trans hf
      refine lv_aload_n hx hb dX3_init_160 rfl (lv_at hl 0 rfl) ?_
      obtain ⟨v37, hv, hf⟩ := bd hf
      refine h_gR X hK hH fo_X3_1 hv q1060 dX3_init_161 ?_
      refine lv_iload_n hx hb dX3_init_164 rfl (lv_at hl 1 rfl) ?_
      refine lv_iconst (v := (-1 : Int32)) hx hb dX3_init_165 (by decide) ?_
      obtain ⟨t38, hv, hf⟩ := bd hf
      refine h_wI X hK hH hS hv dX3_init_166 (fun H locs hH hS => ?_)
      refine lv_iinc (v := (s154.1 + 1)) (lv' := [(1, .int (s154.1 + 1)), (0, .ref c0)]) hx hb dX3_init_167 hl (k := 1) rfl rfl (by decide) rfl (fun ls hl => ?_)
      refine lv_goto (tgt := 154) hx hb dX3_init_170 (by decide) ?_
      cases hf
      exact hx154 _ _ _ (lv_sub hl [1, 0] rfl) hH hS
  refine lv_aload_n hx hb dX3_init_0 rfl (lv_at hl 0 rfl) ?_
  refine W.objInit hx hb hown (hts _ q1057) (hts _ q104) (hts _ q105) rfl (by rw [hml]; exact hl.1) rfl dX3_init_1 (Nat.le_of_ble_eq_true rfl) (Nat.le_of_ble_eq_true rfl) ?_
  refine W.eq (g2 := F0 m 4 ls []) rfl ?_
  refine lv_aload_n hx hb dX3_init_4 rfl (lv_at hl 0 rfl) ?_
  refine lv_bipush (v := (12 : Int32)) hx hb dX3_init_5 (by decide) ?_
  obtain ⟨t1, hv, hf⟩ := bd hf
  refine h_newa (t := 0) (B := 12) (atype := .int) X hK hH hS (by decide) hv (by decide) q245 (Nat.le_of_ble_eq_true rfl) (Nat.le_of_ble_eq_true rfl) dX3_init_7 (fun H hH hS => ?_)
  refine W.cs (cells' := 1) (slots' := 12) (by rfl) (by rfl) ?_
  obtain ⟨t2, hv, hf⟩ := bd hf
  refine h_putF (ty := (.array .int)) X hK hH hS fo_X3_1 hv q1060 rfl rfl (by decide +kernel) rfl rfl dX3_init_9 (fun H locs hH hS => ?_)
  refine lv_aload_n hx hb dX3_init_12 rfl (lv_at hl 0 rfl) ?_
  refine lv_bipush (v := (12 : Int32)) hx hb dX3_init_13 (by decide) ?_
  obtain ⟨t3, hv, hf⟩ := bd hf
  refine h_newa (t := 0) (B := 12) (atype := .int) X hK hH hS (by decide) hv (by decide) q245 (Nat.le_of_ble_eq_true rfl) (Nat.le_of_ble_eq_true rfl) dX3_init_15 (fun H hH hS => ?_)
  refine W.cs (cells' := 2) (slots' := 24) (by rfl) (by rfl) ?_
  obtain ⟨t4, hv, hf⟩ := bd hf
  refine h_putF (ty := (.array .int)) X hK hH hS fo_X3_2 hv q1061 rfl rfl (by decide +kernel) rfl rfl dX3_init_17 (fun H locs hH hS => ?_)
  refine lv_aload_n hx hb dX3_init_20 rfl (lv_at hl 0 rfl) ?_
  refine lv_bipush (v := (12 : Int32)) hx hb dX3_init_21 (by decide) ?_
  obtain ⟨t5, hv, hf⟩ := bd hf
  refine h_newa (t := 0) (B := 12) (atype := .int) X hK hH hS (by decide) hv (by decide) q245 (Nat.le_of_ble_eq_true rfl) (Nat.le_of_ble_eq_true rfl) dX3_init_23 (fun H hH hS => ?_)
  refine W.cs (cells' := 3) (slots' := 36) (by rfl) (by rfl) ?_
  obtain ⟨t6, hv, hf⟩ := bd hf
  refine h_putF (ty := (.array .int)) X hK hH hS fo_X3_3 hv q1062 rfl rfl (by decide +kernel) rfl rfl dX3_init_25 (fun H locs hH hS => ?_)
  refine lv_aload_n hx hb dX3_init_28 rfl (lv_at hl 0 rfl) ?_
  refine lv_bipush (v := (12 : Int32)) hx hb dX3_init_29 (by decide) ?_
  obtain ⟨t7, hv, hf⟩ := bd hf
  refine h_newa (t := 0) (B := 12) (atype := .int) X hK hH hS (by decide) hv (by decide) q245 (Nat.le_of_ble_eq_true rfl) (Nat.le_of_ble_eq_true rfl) dX3_init_31 (fun H hH hS => ?_)
  refine W.cs (cells' := 4) (slots' := 48) (by rfl) (by rfl) ?_
  obtain ⟨t8, hv, hf⟩ := bd hf
  refine h_putF (ty := (.array .int)) X hK hH hS fo_X3_4 hv q1063 rfl rfl (by decide +kernel) rfl rfl dX3_init_33 (fun H locs hH hS => ?_)
  refine lv_aload_n hx hb dX3_init_36 rfl (lv_at hl 0 rfl) ?_
  refine lv_sipush (v := (2400 : Int32)) hx hb dX3_init_37 (by decide) ?_
  obtain ⟨t9, hv, hf⟩ := bd hf
  refine h_newa (t := 1) (B := 2400) (atype := .long) X hK hH hS (by decide) hv (by decide) q151 (Nat.le_of_ble_eq_true rfl) (Nat.le_of_ble_eq_true rfl) dX3_init_40 (fun H hH hS => ?_)
  refine W.cs (cells' := 5) (slots' := 2448) (by rfl) (by rfl) ?_
  obtain ⟨t10, hv, hf⟩ := bd hf
  refine h_putF (ty := (.array .long)) X hK hH hS fo_X3_5 hv q1064 rfl rfl (by decide +kernel) rfl rfl dX3_init_42 (fun H locs hH hS => ?_)
  refine lv_aload_n hx hb dX3_init_45 rfl (lv_at hl 0 rfl) ?_
  refine lv_bipush (v := (12 : Int32)) hx hb dX3_init_46 (by decide) ?_
  obtain ⟨t11, hv, hf⟩ := bd hf
  refine h_newa (t := 1) (B := 12) (atype := .long) X hK hH hS (by decide) hv (by decide) q151 (Nat.le_of_ble_eq_true rfl) (Nat.le_of_ble_eq_true rfl) dX3_init_48 (fun H hH hS => ?_)
  refine W.cs (cells' := 6) (slots' := 2460) (by rfl) (by rfl) ?_
  obtain ⟨t12, hv, hf⟩ := bd hf
  refine h_putF (ty := (.array .long)) X hK hH hS fo_X3_6 hv q1065 rfl rfl (by decide +kernel) rfl rfl dX3_init_50 (fun H locs hH hS => ?_)
  refine lv_aload_n hx hb dX3_init_53 rfl (lv_at hl 0 rfl) ?_
  refine lv_bipush (v := (12 : Int32)) hx hb dX3_init_54 (by decide) ?_
  obtain ⟨t13, hv, hf⟩ := bd hf
  refine h_newa (t := 0) (B := 12) (atype := .int) X hK hH hS (by decide) hv (by decide) q245 (Nat.le_of_ble_eq_true rfl) (Nat.le_of_ble_eq_true rfl) dX3_init_56 (fun H hH hS => ?_)
  refine W.cs (cells' := 7) (slots' := 2472) (by rfl) (by rfl) ?_
  obtain ⟨t14, hv, hf⟩ := bd hf
  refine h_putF (ty := (.array .int)) X hK hH hS fo_X3_7 hv q1066 rfl rfl (by decide +kernel) rfl rfl dX3_init_58 (fun H locs hH hS => ?_)
  refine lv_aload_n hx hb dX3_init_61 rfl (lv_at hl 0 rfl) ?_
  refine lv_bipush (v := (12 : Int32)) hx hb dX3_init_62 (by decide) ?_
  obtain ⟨t15, hv, hf⟩ := bd hf
  refine h_newa (t := 1) (B := 12) (atype := .long) X hK hH hS (by decide) hv (by decide) q151 (Nat.le_of_ble_eq_true rfl) (Nat.le_of_ble_eq_true rfl) dX3_init_64 (fun H hH hS => ?_)
  refine W.cs (cells' := 8) (slots' := 2484) (by rfl) (by rfl) ?_
  obtain ⟨t16, hv, hf⟩ := bd hf
  refine h_putF (ty := (.array .long)) X hK hH hS fo_X3_9 hv q1068 rfl rfl (by decide +kernel) rfl rfl dX3_init_66 (fun H locs hH hS => ?_)
  refine lv_aload_n hx hb dX3_init_69 rfl (lv_at hl 0 rfl) ?_
  refine lv_sipush (v := (4096 : Int32)) hx hb dX3_init_70 (by decide) ?_
  obtain ⟨t17, hv, hf⟩ := bd hf
  refine h_newa (t := 1) (B := 4096) (atype := .long) X hK hH hS (by decide) hv (by decide) q151 (Nat.le_of_ble_eq_true rfl) (Nat.le_of_ble_eq_true rfl) dX3_init_73 (fun H hH hS => ?_)
  refine W.cs (cells' := 9) (slots' := 6580) (by rfl) (by rfl) ?_
  obtain ⟨t18, hv, hf⟩ := bd hf
  refine h_putF (ty := (.array .long)) X hK hH hS fo_X3_10 hv q1069 rfl rfl (by decide +kernel) rfl rfl dX3_init_75 (fun H locs hH hS => ?_)
  refine lv_aload_n hx hb dX3_init_78 rfl (lv_at hl 0 rfl) ?_
  refine lv_ldc (v := (49152 : Int32)) hx hb hown (hts _ q1058) dX3_init_79 ?_
  obtain ⟨t19, hv, hf⟩ := bd hf
  refine h_newa (t := 0) (B := 49152) (atype := .int) X hK hH hS (by decide) hv (by decide) q245 (Nat.le_of_ble_eq_true rfl) (Nat.le_of_ble_eq_true rfl) dX3_init_81 (fun H hH hS => ?_)
  refine W.cs (cells' := 10) (slots' := 55732) (by rfl) (by rfl) ?_
  obtain ⟨t20, hv, hf⟩ := bd hf
  refine h_putF (ty := (.array .int)) X hK hH hS fo_X3_12 hv q1071 rfl rfl (by decide +kernel) rfl rfl dX3_init_83 (fun H locs hH hS => ?_)
  refine lv_aload_n hx hb dX3_init_86 rfl (lv_at hl 0 rfl) ?_
  refine lv_bipush (v := (12 : Int32)) hx hb dX3_init_87 (by decide) ?_
  obtain ⟨t21, hv, hf⟩ := bd hf
  refine h_newa (t := 0) (B := 12) (atype := .int) X hK hH hS (by decide) hv (by decide) q245 (Nat.le_of_ble_eq_true rfl) (Nat.le_of_ble_eq_true rfl) dX3_init_89 (fun H hH hS => ?_)
  refine W.cs (cells' := 11) (slots' := 55744) (by rfl) (by rfl) ?_
  obtain ⟨t22, hv, hf⟩ := bd hf
  refine h_putF (ty := (.array .int)) X hK hH hS fo_X3_13 hv q1072 rfl rfl (by decide +kernel) rfl rfl dX3_init_91 (fun H locs hH hS => ?_)
  refine lv_aload_n hx hb dX3_init_94 rfl (lv_at hl 0 rfl) ?_
  refine lv_bipush (v := (13 : Int32)) hx hb dX3_init_95 (by decide) ?_
  obtain ⟨t23, hv, hf⟩ := bd hf
  refine h_newa (t := 1) (B := 13) (atype := .long) X hK hH hS (by decide) hv (by decide) q151 (Nat.le_of_ble_eq_true rfl) (Nat.le_of_ble_eq_true rfl) dX3_init_97 (fun H hH hS => ?_)
  refine W.cs (cells' := 12) (slots' := 55757) (by rfl) (by rfl) ?_
  obtain ⟨t24, hv, hf⟩ := bd hf
  refine h_putF (ty := (.array .long)) X hK hH hS fo_X3_14 hv q1073 rfl rfl (by decide +kernel) rfl rfl dX3_init_99 (fun H locs hH hS => ?_)
  refine lv_aload_n hx hb dX3_init_102 rfl (lv_at hl 0 rfl) ?_
  refine lv_sipush (v := (200 : Int32)) hx hb dX3_init_103 (by decide) ?_
  obtain ⟨t25, hv, hf⟩ := bd hf
  refine h_newa (t := 1) (B := 200) (atype := .long) X hK hH hS (by decide) hv (by decide) q151 (Nat.le_of_ble_eq_true rfl) (Nat.le_of_ble_eq_true rfl) dX3_init_106 (fun H hH hS => ?_)
  refine W.cs (cells' := 13) (slots' := 55957) (by rfl) (by rfl) ?_
  obtain ⟨t26, hv, hf⟩ := bd hf
  refine h_putF (ty := (.array .long)) X hK hH hS fo_X3_17 hv q1076 rfl rfl (by decide +kernel) rfl rfl dX3_init_108 (fun H locs hH hS => ?_)
  refine lv_aload_n hx hb dX3_init_111 rfl (lv_at hl 0 rfl) ?_
  refine lv_bipush (v := (6 : Int32)) hx hb dX3_init_112 (by decide) ?_
  obtain ⟨t27, hv, hf⟩ := bd hf
  refine h_newa (t := 0) (B := 6) (atype := .int) X hK hH hS (by decide) hv (by decide) q245 (Nat.le_of_ble_eq_true rfl) (Nat.le_of_ble_eq_true rfl) dX3_init_114 (fun H hH hS => ?_)
  refine W.cs (cells' := 14) (slots' := 55963) (by rfl) (by rfl) ?_
  obtain ⟨t28, hv, hf⟩ := bd hf
  refine h_putF (ty := (.array .int)) X hK hH hS fo_X3_19 hv q1078 rfl rfl (by decide +kernel) rfl rfl dX3_init_116 (fun H locs hH hS => ?_)
  refine lv_aload_n hx hb dX3_init_119 rfl (lv_at hl 0 rfl) ?_
  refine lv_bipush (v := (6 : Int32)) hx hb dX3_init_120 (by decide) ?_
  obtain ⟨t29, hv, hf⟩ := bd hf
  refine h_newa (t := 0) (B := 6) (atype := .int) X hK hH hS (by decide) hv (by decide) q245 (Nat.le_of_ble_eq_true rfl) (Nat.le_of_ble_eq_true rfl) dX3_init_122 (fun H hH hS => ?_)
  refine W.cs (cells' := 15) (slots' := 55969) (by rfl) (by rfl) ?_
  obtain ⟨t30, hv, hf⟩ := bd hf
  refine h_putF (ty := (.array .int)) X hK hH hS fo_X3_20 hv q1079 rfl rfl (by decide +kernel) rfl rfl dX3_init_124 (fun H locs hH hS => ?_)
  refine lv_aload_n hx hb dX3_init_127 rfl (lv_at hl 0 rfl) ?_
  refine lv_bipush (v := (6 : Int32)) hx hb dX3_init_128 (by decide) ?_
  obtain ⟨t31, hv, hf⟩ := bd hf
  refine h_newa (t := 0) (B := 6) (atype := .int) X hK hH hS (by decide) hv (by decide) q245 (Nat.le_of_ble_eq_true rfl) (Nat.le_of_ble_eq_true rfl) dX3_init_130 (fun H hH hS => ?_)
  refine W.cs (cells' := 16) (slots' := 55975) (by rfl) (by rfl) ?_
  obtain ⟨t32, hv, hf⟩ := bd hf
  refine h_putF (ty := (.array .int)) X hK hH hS fo_X3_21 hv q1080 rfl rfl (by decide +kernel) rfl rfl dX3_init_132 (fun H locs hH hS => ?_)
  refine lv_aload_n hx hb dX3_init_135 rfl (lv_at hl 0 rfl) ?_
  refine lv_bipush (v := (6 : Int32)) hx hb dX3_init_136 (by decide) ?_
  obtain ⟨t33, hv, hf⟩ := bd hf
  refine h_newa (t := 0) (B := 6) (atype := .int) X hK hH hS (by decide) hv (by decide) q245 (Nat.le_of_ble_eq_true rfl) (Nat.le_of_ble_eq_true rfl) dX3_init_138 (fun H hH hS => ?_)
  refine W.cs (cells' := 17) (slots' := 55981) (by rfl) (by rfl) ?_
  obtain ⟨t34, hv, hf⟩ := bd hf
  refine h_putF (ty := (.array .int)) X hK hH hS fo_X3_22 hv q1081 rfl rfl (by decide +kernel) rfl rfl dX3_init_140 (fun H locs hH hS => ?_)
  refine lv_aload_n hx hb dX3_init_143 rfl (lv_at hl 0 rfl) ?_
  refine lv_sipush (v := (1200 : Int32)) hx hb dX3_init_144 (by decide) ?_
  obtain ⟨t35, hv, hf⟩ := bd hf
  refine h_newa (t := 1) (B := 1200) (atype := .long) X hK hH hS (by decide) hv (by decide) q151 (Nat.le_of_ble_eq_true rfl) (Nat.le_of_ble_eq_true rfl) dX3_init_147 (fun H hH hS => ?_)
  refine W.cs (cells' := 18) (slots' := 57181) (by rfl) (by rfl) ?_
  obtain ⟨t36, hv, hf⟩ := bd hf
  refine h_putF (ty := (.array .long)) X hK hH hS fo_X3_23 hv q1082 rfl rfl (by decide +kernel) rfl rfl dX3_init_149 (fun H locs hH hS => ?_)
  refine lv_iconst (v := (0 : Int32)) hx hb dX3_init_152 (by decide) ?_
  refine lv_istore_n (lv' := [(1, .int (0 : Int32)), (0, .ref a0)]) hx hb dX3_init_153 rfl hl (by decide) rfl (fun ls hl => ?_)
  obtain ⟨r154_39, hr, hf⟩ := bd hf
  refine L154 a0 N _ r154_39 hr ?_ _ _ _ (lv_sub hl [1, 0] rfl) hH hS
  intro ls H locs hl hH hS
  cases hf
  exact r_vret X dX3_init_173 (Nat.le_of_ble_eq_true rfl) (Nat.le_of_ble_eq_true rfl) rfl hH hS
-- no selects for own class
set_option maxHeartbeats 4000000 in
theorem met_X4_heft (l : Launch) (G : GG) (σ : SG) (N : Nat) (a0 : Nat) (rf : Int32) (hf : f_X4_heft N σ a0 = some rf) : Con l yX4_heft cX4_heft 1 (some .int) 0 0 0 G σ [.ref a0] σ (some (.int rf)) := by
  refine con_of (by decide) (Nat.le_of_ble_eq_true rfl) ?_
  intro p e s m below meth c ls X hK hH hl hS
  have hx := X.1
  have hb := X.2.1
  have hml := X.2.2.2.1
  have hown : s.vm.findClass RX4 = some m.cls := X.2.2.2.2.1
  have hts := X.2.2.2.2.2.1
  have hl : lv_has ls 1 [(0, .ref a0)] := hl
  unfold f_X4_heft at hf
  refine lv_aload_n hx hb dX4_heft_0 rfl (lv_at hl 0 rfl) ?_
  obtain ⟨v1, hv, hf⟩ := bd hf
  refine h_gI X hK hH fo_Code_3 hv q140 dX4_heft_1 ?_
  cases hf
  exact r_iret X dX4_heft_4 (Nat.le_of_ble_eq_true rfl) (Nat.le_of_ble_eq_true rfl) rfl hH hS
-- no selects for own class
set_option maxHeartbeats 4000000 in
theorem met_X6_heft (l : Launch) (G : GG) (σ : SG) (N : Nat) (a0 : Nat) (rf : Int32) (hf : f_X6_heft N σ a0 = some rf) : Con l yX6_heft cX6_heft 1 (some .int) 1 0 0 G σ [.ref a0] σ (some (.int rf)) := by
  refine con_of (by decide) (Nat.le_of_ble_eq_true rfl) ?_
  intro p e s m below meth c ls X hK hH hl hS
  have hx := X.1
  have hb := X.2.1
  have hml := X.2.2.2.1
  have hown : s.vm.findClass RX6 = some m.cls := X.2.2.2.2.1
  have hts := X.2.2.2.2.2.1
  have hl : lv_has ls 1 [(0, .ref a0)] := hl
  unfold f_X6_heft at hf
  refine lv_bipush (v := (100 : Int32)) hx hb dX6_heft_0 (by decide) ?_
  refine lv_bipush (v := (10 : Int32)) hx hb dX6_heft_2 (by decide) ?_
  refine lv_aload_n hx hb dX6_heft_4 rfl (lv_at hl 0 rfl) ?_
  obtain ⟨_, hw, hf⟩ := bd hf
  obtain ⟨v1, hv, hf⟩ := bd hf
  refine c_Su (n := 0) (As := []) (rest := [.int (10 : Int32), .int (100 : Int32)]) (st1 := [.int v1, .int (10 : Int32), .int (100 : Int32)]) X (met_X4_heft l G σ N a0  v1 hv) ⟨q896, q162, q895, q910, q58, by decide +kernel, by decide +kernel⟩ q900 hw rfl rfl rfl hl.1 (Nat.le_of_ble_eq_true rfl) ⟨Nat.le_of_ble_eq_true rfl, Nat.le_of_ble_eq_true rfl⟩ ⟨Nat.le_of_ble_eq_true rfl, Nat.le_of_ble_eq_true rfl⟩ dX6_heft_5 hK hH hS (fun H locs hH hS => ?_)
  refine W.cs (cells' := 0) (slots' := 0) (by rfl) (by rfl) ?_
  refine lv_imul hx hb dX6_heft_8 ?_
  refine lv_iadd hx hb dX6_heft_9 ?_
  cases hf
  exact r_iret X dX6_heft_10 (Nat.le_of_ble_eq_true rfl) (Nat.le_of_ble_eq_true rfl) rfl hH hS
-- no selects for own class
set_option maxHeartbeats 4000000 in
theorem met_X7_heft (l : Launch) (G : GG) (σ : SG) (N : Nat) (a0 : Nat) (rf : Int32) (hf : f_X7_heft N σ a0 = some rf) : Con l yX7_heft cX7_heft 1 (some .int) 2 0 0 G σ [.ref a0] σ (some (.int rf)) := by
  refine con_of (by decide) (Nat.le_of_ble_eq_true rfl) ?_
  intro p e s m below meth c ls X hK hH hl hS
  have hx := X.1
  have hb := X.2.1
  have hml := X.2.2.2.1
  have hown : s.vm.findClass RX7 = some m.cls := X.2.2.2.2.1
  have hts := X.2.2.2.2.2.1
  have hl : lv_has ls 1 [(0, .ref a0)] := hl
  unfold f_X7_heft at hf
  refine lv_iconst (v := (2 : Int32)) hx hb dX7_heft_0 (by decide) ?_
  refine lv_aload_n hx hb dX7_heft_1 rfl (lv_at hl 0 rfl) ?_
  obtain ⟨_, hw, hf⟩ := bd hf
  obtain ⟨v1, hv, hf⟩ := bd hf
  refine c_Su (n := 0) (As := []) (rest := [.int (2 : Int32)]) (st1 := [.int v1, .int (2 : Int32)]) X (met_X6_heft l G σ N a0  v1 hv) ⟨q1420, q173, q898, q899, q60, by decide +kernel, by decide +kernel⟩ q905 hw rfl rfl rfl hl.1 (Nat.le_of_ble_eq_true rfl) ⟨Nat.le_of_ble_eq_true rfl, Nat.le_of_ble_eq_true rfl⟩ ⟨Nat.le_of_ble_eq_true rfl, Nat.le_of_ble_eq_true rfl⟩ dX7_heft_2 hK hH hS (fun H locs hH hS => ?_)
  refine W.cs (cells' := 0) (slots' := 0) (by rfl) (by rfl) ?_
  refine lv_imul hx hb dX7_heft_5 ?_
  cases hf
  exact r_iret X dX7_heft_6 (Nat.le_of_ble_eq_true rfl) (Nat.le_of_ble_eq_true rfl) rfl hH hS
-- no selects for own class
set_option maxHeartbeats 4000000 in
theorem met_X8_heft (l : Launch) (G : GG) (σ : SG) (N : Nat) (a0 : Nat) (rf : Int32) (hf : f_X8_heft N σ a0 = some rf) : Con l yX8_heft cX8_heft 1 (some .int) 2 0 0 G σ [.ref a0] σ (some (.int rf)) := by
  refine con_of (by decide) (Nat.le_of_ble_eq_true rfl) ?_
  intro p e s m below meth c ls X hK hH hl hS
  have hx := X.1
  have hb := X.2.1
  have hml := X.2.2.2.1
  have hown : s.vm.findClass RX8 = some m.cls := X.2.2.2.2.1
  have hts := X.2.2.2.2.2.1
  have hl : lv_has ls 1 [(0, .ref a0)] := hl
  unfold f_X8_heft at hf
  refine lv_aload_n hx hb dX8_heft_0 rfl (lv_at hl 0 rfl) ?_
  obtain ⟨_, hw, hf⟩ := bd hf
  obtain ⟨v1, hv, hf⟩ := bd hf
  refine c_Su (n := 0) (As := []) (rest := []) (st1 := [.int v1]) X (met_X6_heft l G σ N a0  v1 hv) ⟨q1420, q244, q898, q899, q60, by decide +kernel, by decide +kernel⟩ q909 hw rfl rfl rfl hl.1 (Nat.le_of_ble_eq_true rfl) ⟨Nat.le_of_ble_eq_true rfl, Nat.le_of_ble_eq_true rfl⟩ ⟨Nat.le_of_ble_eq_true rfl, Nat.le_of_ble_eq_true rfl⟩ dX8_heft_1 hK hH hS (fun H locs hH hS => ?_)
  refine W.cs (cells' := 0) (slots' := 0) (by rfl) (by rfl) ?_
  refine lv_sipush (v := (1000 : Int32)) hx hb dX8_heft_4 (by decide) ?_
  refine lv_iadd hx hb dX8_heft_7 ?_
  cases hf
  exact r_iret X dX8_heft_8 (Nat.le_of_ble_eq_true rfl) (Nat.le_of_ble_eq_true rfl) rfl hH hS
