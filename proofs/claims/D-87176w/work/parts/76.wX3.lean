set_option maxRecDepth 100000
theorem cs_X3_isIn : CalS yX3_isIn cX3_isIn 6 (some .boolean) 3 := ⟨q1016, q57, q1017, by decide +kernel, by decide +kernel, by decide +kernel⟩
set_option maxHeartbeats 4000000 in
theorem met_X3_isIn (l : Launch) (G : GG) (σ : SG) (N : Nat) (a0 : Int64) (a2 : Int64) (a4 : Int64) (rf : Int32) (hf : f_X3_isIn N a0 a2 a4 = some rf) : Con l yX3_isIn cX3_isIn 6 (some .boolean) 0 0 0 G σ [.long a0, .long a2, .long a4] σ (some (.int rf)) := by
  refine con_of (by decide) (Nat.le_of_ble_eq_true rfl) ?_
  intro p e s m below meth c ls X hK hH hl hS
  have hx := X.1
  have hb := X.2.1
  have hown : s.vm.findClass RX3 = some m.cls := X.2.2.2.2.1
  have hts := X.2.2.2.2.2.1
  have hl : lv_has ls 6 [(0, .long a0), (2, .long a2), (4, .long a4)] := hl
  unfold f_X3_isIn at hf
  refine lv_lload_n hx hb dX3_isIn_0 rfl (lv_at hl 0 rfl) ?_
  refine lv_lload_n hx hb dX3_isIn_1 rfl (lv_at hl 1 rfl) ?_
  refine W.lcmp hx hb dX3_isIn_2 ?_
  refine lv_if_lt (tgt := 17) hx hb dX3_isIn_3 (by decide) (fun c_ => ?_) (fun c_ => ?_)
  · have hf := (if_pos ((lg_cmp_lt a0 a2).mp c_)).symm.trans hf
    refine lv_iconst (v := (0 : Int32)) hx hb dX3_isIn_17 (by decide) ?_
    obtain ⟨hz, hv⟩ := rz_s hf
    subst hv
    exact r_zret X dX3_isIn_18 (Nat.le_refl _) (Nat.le_refl _) hz rfl hH hS
  · have hf := (if_neg (fun z => c_ ((lg_cmp_lt a0 a2).mpr z))).symm.trans hf
    refine lv_lload_n hx hb dX3_isIn_6 rfl (lv_at hl 0 rfl) ?_
    refine lv_lload hx hb dX3_isIn_7 (lv_at hl 2 rfl) ?_
    refine W.lcmp hx hb dX3_isIn_9 ?_
    refine lv_if_gt (tgt := 17) hx hb dX3_isIn_10 (by decide) (fun c_ => ?_) (fun c_ => ?_)
    · have hf := (if_pos ((lg_cmp_gt a0 a4).mp c_)).symm.trans hf
      refine lv_iconst (v := (0 : Int32)) hx hb dX3_isIn_17 (by decide) ?_
      obtain ⟨hz, hv⟩ := rz_s hf
      subst hv
      exact r_zret X dX3_isIn_18 (Nat.le_refl _) (Nat.le_refl _) hz rfl hH hS
    · have hf := (if_neg (fun z => c_ ((lg_cmp_gt a0 a4).mpr z))).symm.trans hf
      refine lv_iconst (v := (1 : Int32)) hx hb dX3_isIn_13 (by decide) ?_
      refine lv_goto (tgt := 18) hx hb dX3_isIn_14 (by decide) ?_
      obtain ⟨hz, hv⟩ := rz_s hf
      subst hv
      exact r_zret X dX3_isIn_18 (Nat.le_refl _) (Nat.le_refl _) hz rfl hH hS
theorem cs_X3_isPlace : CalS yX3_isPlace cX3_isPlace 1 (some .boolean) 1 := ⟨q1137, q57, q1138, by decide +kernel, by decide +kernel, by decide +kernel⟩
set_option maxHeartbeats 4000000 in
theorem met_X3_isPlace (l : Launch) (G : GG) (σ : SG) (N : Nat) (a0 : Int32) (rf : Int32) (hf : f_X3_isPlace N a0 = some rf) : Con l yX3_isPlace cX3_isPlace 1 (some .boolean) 1 0 0 G σ [.int a0] σ (some (.int rf)) := by
  refine con_of (by decide) (Nat.le_of_ble_eq_true rfl) ?_
  intro p e s m below meth c ls X hK hH hl hS
  have hx := X.1
  have hb := X.2.1
  have hown : s.vm.findClass RX3 = some m.cls := X.2.2.2.2.1
  have hts := X.2.2.2.2.2.1
  have hl : lv_has ls 1 [(0, .int a0)] := hl
  unfold f_X3_isPlace at hf
  refine lv_iload_n hx hb dX3_isPlace_0 rfl (lv_at hl 0 rfl) ?_
  refine lv_i2l (v := (a0).toInt64) hx hb dX3_isPlace_1 rfl ?_
  refine lv_lconst (v := (0 : Int64)) hx hb dX3_isPlace_2 (by decide) ?_
  refine lv_ldc2 (v := (11 : Int64)) hx hb hown (hts _ q1139) dX3_isPlace_3 ?_
  obtain ⟨v1, hv, hf⟩ := bd hf
  refine r_Si (As := [.long ((a0).toInt64), .long (0 : Int64), .long (11 : Int64)]) (rest := []) X (met_X3_isIn l G _ N ((a0).toInt64) (0 : Int64) (11 : Int64) v1 hv) cs_X3_isIn q1015 rfl rfl hl.1 (Nat.le_of_ble_eq_true rfl) ⟨Nat.le_of_ble_eq_true rfl, Nat.le_of_ble_eq_true rfl⟩ ⟨Nat.le_refl _, Nat.le_refl _⟩ dX3_isPlace_6 hK hH hS (fun H locs hH hS => ?_)
  obtain ⟨hz, hv⟩ := rz_s hf
  subst hv
  exact r_zret X dX3_isPlace_9 (Nat.le_refl _) (Nat.le_refl _) hz rfl hH hS
theorem cv_X3_isEmpty : CalV "WordBenchModel" yX3_isEmpty cX3_isEmpty 2 (some .boolean) 1 := ⟨q1150, qs20, q57, q1151, by decide +kernel⟩
set_option maxHeartbeats 4000000 in
theorem met_X3_isEmpty (l : Launch) (G : GG) (sz M : Nat) (rst : Nat → Option AE) (N : Nat) (st : MS) (a1 : Int32) (rf : Int32) (hf : f_X3_isEmpty N st a1 = some rf) : Con l yX3_isEmpty cX3_isEmpty 2 (some .boolean) 0 0 0 G (sz, MH M st rst) [.ref M, .int a1] (sz, MH M st rst) (some (.int rf)) := by
  refine con_of (by decide) (Nat.le_of_ble_eq_true rfl) ?_
  intro p e s m below meth c ls X hK hH hl hS
  have hx := X.1
  have hb := X.2.1
  have hown : s.vm.findClass RX3 = some m.cls := X.2.2.2.2.1
  have hts := X.2.2.2.2.2.1
  have hl : lv_has ls 2 [(0, .ref M), (1, .int a1)] := hl
  unfold f_X3_isEmpty at hf
  refine lv_aload_n hx hb dX3_isEmpty_0 rfl (lv_at hl 0 rfl) ?_
  refine m_get X hK hH 1 (by decide) rfl (mg_1 _ _) q1060 dX3_isEmpty_1 ?_
  refine lv_iload_n hx hb dX3_isEmpty_4 rfl (lv_at hl 1 rfl) ?_
  obtain ⟨v1, hv, hf⟩ := bd hf
  refine m_iald X hK hH 1 (mc_1 _ _) hv dX3_isEmpty_5 ?_
  refine lv_iconst (v := (-1 : Int32)) hx hb dX3_isEmpty_6 (by decide) ?_
  refine lv_icmp_ne (tgt := 14) hx hb dX3_isEmpty_7 (by decide) (fun c_ => ?_) (fun c_ => ?_)
  · have hf := (if_neg c_).symm.trans hf
    refine lv_iconst (v := (0 : Int32)) hx hb dX3_isEmpty_14 (by decide) ?_
    obtain ⟨hz, hv⟩ := rz_s hf
    subst hv
    exact r_zret X dX3_isEmpty_15 (Nat.le_refl _) (Nat.le_refl _) hz rfl hH hS
  · have hf := (if_pos c_).symm.trans hf
    refine lv_iconst (v := (1 : Int32)) hx hb dX3_isEmpty_10 (by decide) ?_
    refine lv_goto (tgt := 15) hx hb dX3_isEmpty_11 (by decide) ?_
    obtain ⟨hz, hv⟩ := rz_s hf
    subst hv
    exact r_zret X dX3_isEmpty_15 (Nat.le_refl _) (Nat.le_refl _) hz rfl hH hS
theorem cs_X3_power : CalS yX3_power cX3_power 5 (some .long) 2 := ⟨q1023, q57, q1024, by decide +kernel, by decide +kernel, by decide +kernel⟩
set_option maxHeartbeats 4000000 in
theorem met_X3_power (l : Launch) (G : GG) (σ : SG) (N : Nat) (a0 : Int32) (a1 : Int32) (rf : Int64) (hf : f_X3_power N a0 a1 = some rf) : Con l yX3_power cX3_power 5 (some .long) 0 0 0 G σ [.int a0, .int a1] σ (some (.long rf)) := by
  refine con_of (by decide) (Nat.le_of_ble_eq_true rfl) ?_
  intro p e s m below meth c ls X hK hH hl hS
  have hx := X.1
  have hb := X.2.1
  have hown : s.vm.findClass RX3 = some m.cls := X.2.2.2.2.1
  have hts := X.2.2.2.2.2.1
  have hl : lv_has ls 5 [(0, .int a0), (1, .int a1)] := hl
  unfold f_X3_power at hf
  have L5 : ∀ (c0 : Int32) (c1 : Int32) (n : Nat) (s5 : (Int64 × Int32)) (r5 : Int64), lp (f_X3_power_b5 N c0 c1) n s5 = some r5 → (∀ (ls : Array Slot) (H : Heap) (locs : List Loc), lv_has ls 5 [(2, .long r5)] → HH G σ H → va_S (AG G) s.heap H locs → W p l e (rm_ 0 0 0) s m ([.int a0, .int a1] : List Value).toArray below meth c H locs 0 0 (MQ below (PostC G σ (some (.long rf))) ([.int a0, .int a1] : List Value).toArray s 0 0 (AG G)) (F0 m 22 ls [])) → ∀ (ls : Array Slot) (H : Heap) (locs : List Loc), lv_has ls 5 [(0, .int c0), (1, .int c1), (2, .long s5.1), (4, .int s5.2)] → HH G σ H → va_S (AG G) s.heap H locs → W p l e (rm_ 0 0 0) s m ([.int a0, .int a1] : List Value).toArray below meth c H locs 0 0 (MQ below (PostC G σ (some (.long rf))) ([.int a0, .int a1] : List Value).toArray s 0 0 (AG G)) (F0 m 5 ls []) := by
    intro c0 c1 n s5 r5 hr hq
    refine lp_ind (P := fun s5 => ∀ (ls : Array Slot) (H : Heap) (locs : List Loc), lv_has ls 5 [(0, .int c0), (1, .int c1), (2, .long s5.1), (4, .int s5.2)] → HH G σ H → va_S (AG G) s.heap H locs → W p l e (rm_ 0 0 0) s m ([.int a0, .int a1] : List Value).toArray below meth c H locs 0 0 (MQ below (PostC G σ (some (.long rf))) ([.int a0, .int a1] : List Value).toArray s 0 0 (AG G)) (F0 m 5 ls [])) (Q := fun r5 => ∀ (ls : Array Slot) (H : Heap) (locs : List Loc), lv_has ls 5 [(2, .long r5)] → HH G σ H → va_S (AG G) s.heap H locs → W p l e (rm_ 0 0 0) s m ([.int a0, .int a1] : List Value).toArray below meth c H locs 0 0 (MQ below (PostC G σ (some (.long rf))) ([.int a0, .int a1] : List Value).toArray s 0 0 (AG G)) (F0 m 22 ls [])) ?_ n s5 r5 hr hq
    intro s5 x5 hf hx5 ls H locs hl hH hS
    unfold f_X3_power_b5 at hf
    refine lv_iload hx hb dX3_power_5 (lv_at hl 3 rfl) ?_
    refine lv_iload_n hx hb dX3_power_7 rfl (lv_at hl 1 rfl) ?_
    refine lv_icmp_ge (tgt := 22) hx hb dX3_power_8 (by decide) (fun c_ => ?_) (fun c_ => ?_)
    · have hf := (if_pos c_).symm.trans hf
      cases hf
      exact hx5 _ _ _ (lv_sub hl [2] rfl) hH hS
    · have hf := (if_neg c_).symm.trans hf
      refine lv_lload_n hx hb dX3_power_11 rfl (lv_at hl 2 rfl) ?_
      refine lv_iload_n hx hb dX3_power_12 rfl (lv_at hl 0 rfl) ?_
      refine lv_i2l (v := (c0).toInt64) hx hb dX3_power_13 rfl ?_
      refine lv_lmul hx hb dX3_power_14 ?_
      refine lv_lstore_n (lv' := [(2, .long (s5.1 * ((c0).toInt64))), (0, .int c0), (1, .int c1), (4, .int s5.2)]) hx hb dX3_power_15 rfl hl (by decide) rfl (fun ls hl => ?_)
      refine lv_iinc (v := (s5.2 + 1)) (lv' := [(4, .int (s5.2 + 1)), (2, .long (s5.1 * ((c0).toInt64))), (0, .int c0), (1, .int c1)]) hx hb dX3_power_16 hl (k := 3) rfl rfl (by decide) rfl (fun ls hl => ?_)
      refine lv_goto (tgt := 5) hx hb dX3_power_19 (by decide) ?_
      cases hf
      exact hx5 _ _ _ (lv_sub hl [2, 3, 1, 0] rfl) hH hS
  refine lv_lconst (v := (1 : Int64)) hx hb dX3_power_0 (by decide) ?_
  refine lv_lstore_n (lv' := [(2, .long (1 : Int64)), (0, .int a0), (1, .int a1)]) hx hb dX3_power_1 rfl hl (by decide) rfl (fun ls hl => ?_)
  refine lv_iconst (v := (0 : Int32)) hx hb dX3_power_2 (by decide) ?_
  refine lv_istore (lv' := [(4, .int (0 : Int32)), (2, .long (1 : Int64)), (0, .int a0), (1, .int a1)]) hx hb dX3_power_3 hl (by decide) rfl (fun ls hl => ?_)
  obtain ⟨r5_1, hr, hf⟩ := bd hf
  refine L5 a0 a1 N _ r5_1 hr ?_ _ _ _ (lv_sub hl [2, 3, 1, 0] rfl) hH hS
  intro ls H locs hl hH hS
  refine lv_lload_n hx hb dX3_power_22 rfl (lv_at hl 0 rfl) ?_
  cases hf
  exact r_lret X dX3_power_23 (Nat.le_refl _) (Nat.le_refl _) rfl hH hS
theorem cs_X3_isWord : CalS yX3_isWord cX3_isWord 4 (some .boolean) 3 := ⟨q1020, q57, q1021, by decide +kernel, by decide +kernel, by decide +kernel⟩
set_option maxHeartbeats 4000000 in
theorem met_X3_isWord (l : Launch) (G : GG) (σ : SG) (N : Nat) (a0 : Int32) (a1 : Int32) (a2 : Int64) (rf : Int32) (hf : f_X3_isWord N a0 a1 a2 = some rf) : Con l yX3_isWord cX3_isWord 4 (some .boolean) 1 0 0 G σ [.int a0, .int a1, .long a2] σ (some (.int rf)) := by
  refine con_of (by decide) (Nat.le_of_ble_eq_true rfl) ?_
  intro p e s m below meth c ls X hK hH hl hS
  have hx := X.1
  have hb := X.2.1
  have hown : s.vm.findClass RX3 = some m.cls := X.2.2.2.2.1
  have hts := X.2.2.2.2.2.1
  have hl : lv_has ls 4 [(0, .int a0), (1, .int a1), (2, .long a2)] := hl
  unfold f_X3_isWord at hf
  refine lv_lload_n hx hb dX3_isWord_0 rfl (lv_at hl 2 rfl) ?_
  refine lv_lconst (v := (0 : Int64)) hx hb dX3_isWord_1 (by decide) ?_
  refine W.lcmp hx hb dX3_isWord_2 ?_
  refine lv_if_lt (tgt := 20) hx hb dX3_isWord_3 (by decide) (fun c_ => ?_) (fun c_ => ?_)
  · have hf := (if_pos ((lg_cmp_lt a2 (0 : Int64)).mp c_)).symm.trans hf
    refine lv_iconst (v := (0 : Int32)) hx hb dX3_isWord_20 (by decide) ?_
    obtain ⟨hz, hv⟩ := rz_s hf
    subst hv
    exact r_zret X dX3_isWord_21 (Nat.le_refl _) (Nat.le_refl _) hz rfl hH hS
  · have hf := (if_neg (fun z => c_ ((lg_cmp_lt a2 (0 : Int64)).mpr z))).symm.trans hf
    refine lv_lload_n hx hb dX3_isWord_6 rfl (lv_at hl 2 rfl) ?_
    refine lv_iload_n hx hb dX3_isWord_7 rfl (lv_at hl 0 rfl) ?_
    refine lv_iload_n hx hb dX3_isWord_8 rfl (lv_at hl 1 rfl) ?_
    obtain ⟨v1, hv, hf⟩ := bd hf
    refine r_Sl (As := [.int a0, .int a1]) (rest := [.long a2]) X (met_X3_power l G _ N a0 a1 v1 hv) cs_X3_power q1022 rfl rfl hl.1 (Nat.le_of_ble_eq_true rfl) ⟨Nat.le_of_ble_eq_true rfl, Nat.le_of_ble_eq_true rfl⟩ ⟨Nat.le_refl _, Nat.le_refl _⟩ dX3_isWord_9 hK hH hS (fun H locs hH hS => ?_)
    refine W.lcmp hx hb dX3_isWord_12 ?_
    refine lv_if_ge (tgt := 20) hx hb dX3_isWord_13 (by decide) (fun c_ => ?_) (fun c_ => ?_)
    · have hf := (if_pos ((lg_cmp_ge a2 v1).mp c_)).symm.trans hf
      refine lv_iconst (v := (0 : Int32)) hx hb dX3_isWord_20 (by decide) ?_
      obtain ⟨hz, hv⟩ := rz_s hf
      subst hv
      exact r_zret X dX3_isWord_21 (Nat.le_refl _) (Nat.le_refl _) hz rfl hH hS
    · have hf := (if_neg (fun z => c_ ((lg_cmp_ge a2 v1).mpr z))).symm.trans hf
      refine lv_iconst (v := (1 : Int32)) hx hb dX3_isWord_16 (by decide) ?_
      refine lv_goto (tgt := 21) hx hb dX3_isWord_17 (by decide) ?_
      obtain ⟨hz, hv⟩ := rz_s hf
      subst hv
      exact r_zret X dX3_isWord_21 (Nat.le_refl _) (Nat.le_refl _) hz rfl hH hS
theorem cv_X3_hasWord : CalV "WordBenchModel" yX3_hasWord cX3_hasWord 4 (some .boolean) 2 := ⟨q1154, qs21, q57, q1155, by decide +kernel⟩
set_option maxHeartbeats 4000000 in
theorem met_X3_hasWord (l : Launch) (G : GG) (sz M : Nat) (rst : Nat → Option AE) (N : Nat) (st : MS) (a1 : Int32) (a2 : Int64) (rf : Int32) (hf : f_X3_hasWord N st a1 a2 = some rf) : Con l yX3_hasWord cX3_hasWord 4 (some .boolean) 2 0 0 G (sz, MH M st rst) [.ref M, .int a1, .long a2] (sz, MH M st rst) (some (.int rf)) := by
  refine con_of (by decide) (Nat.le_of_ble_eq_true rfl) ?_
  intro p e s m below meth c ls X hK hH hl hS
  have hx := X.1
  have hb := X.2.1
  have hown : s.vm.findClass RX3 = some m.cls := X.2.2.2.2.1
  have hts := X.2.2.2.2.2.1
  have hl : lv_has ls 4 [(0, .ref M), (1, .int a1), (2, .long a2)] := hl
  unfold f_X3_hasWord at hf
  refine lv_aload_n hx hb dX3_hasWord_0 rfl (lv_at hl 0 rfl) ?_
  refine m_get X hK hH 2 (by decide) rfl (mg_2 _ _) q1061 dX3_hasWord_1 ?_
  refine lv_iload_n hx hb dX3_hasWord_4 rfl (lv_at hl 1 rfl) ?_
  obtain ⟨v1, hv, hf⟩ := bd hf
  refine m_iald X hK hH 2 (mc_2 _ _) hv dX3_hasWord_5 ?_
  refine lv_aload_n hx hb dX3_hasWord_6 rfl (lv_at hl 0 rfl) ?_
  refine m_get X hK hH 3 (by decide) rfl (mg_3 _ _) q1062 dX3_hasWord_7 ?_
  refine lv_iload_n hx hb dX3_hasWord_10 rfl (lv_at hl 1 rfl) ?_
  obtain ⟨v2, hv, hf⟩ := bd hf
  refine m_iald X hK hH 3 (mc_3 _ _) hv dX3_hasWord_11 ?_
  refine lv_lload_n hx hb dX3_hasWord_12 rfl (lv_at hl 2 rfl) ?_
  obtain ⟨v3, hv, hf⟩ := bd hf
  refine r_Si (As := [.int v1, .int v2, .long a2]) (rest := []) X (met_X3_isWord l G _ N v1 v2 a2 v3 hv) cs_X3_isWord q1019 rfl rfl hl.1 (Nat.le_of_ble_eq_true rfl) ⟨Nat.le_of_ble_eq_true rfl, Nat.le_of_ble_eq_true rfl⟩ ⟨Nat.le_refl _, Nat.le_refl _⟩ dX3_hasWord_13 hK hH hS (fun H locs hH hS => ?_)
  obtain ⟨hz, hv⟩ := rz_s hf
  subst hv
  exact r_zret X dX3_hasWord_16 (Nat.le_refl _) (Nat.le_refl _) hz rfl hH hS
theorem cv_X3_find : CalV "WordBenchModel" yX3_find cX3_find 5 (some .int) 2 := ⟨q1158, qs22, q57, q1159, by decide +kernel⟩
set_option maxHeartbeats 4000000 in
theorem met_X3_find (l : Launch) (G : GG) (sz M : Nat) (rst : Nat → Option AE) (N : Nat) (st : MS) (a1 : Int32) (a2 : Int64) (rf : Int32) (hf : f_X3_find N st a1 a2 = some rf) : Con l yX3_find cX3_find 5 (some .int) 0 0 0 G (sz, MH M st rst) [.ref M, .int a1, .long a2] (sz, MH M st rst) (some (.int rf)) := by
  refine con_of (by decide) (Nat.le_of_ble_eq_true rfl) ?_
  intro p e s m below meth c ls X hK hH hl hS
  have hx := X.1
  have hb := X.2.1
  have hown : s.vm.findClass RX3 = some m.cls := X.2.2.2.2.1
  have hts := X.2.2.2.2.2.1
  have hl : lv_has ls 5 [(0, .ref M), (1, .int a1), (2, .long a2)] := hl
  unfold f_X3_find at hf
  have L3 : ∀ (c1 : Int32) (c2 : Int64) (n : Nat) (s3 : Int32) (r3 : Int32), lp (f_X3_find_b3 N c1 c2 st) n s3 = some r3 → (∀ (ls : Array Slot) (H : Heap) (locs : List Loc), lv_has ls 5 [(0, .ref M), (1, .int c1), (4, .int r3)] → HH G (sz, MH M st rst) H → va_S (AG G) s.heap H locs → W p l e (rm_ 0 0 0) s m ([.ref M, .int a1, .long a2] : List Value).toArray below meth c H locs 0 0 (MQ below (PostC G (sz, MH M st rst) (some (.int rf))) ([.ref M, .int a1, .long a2] : List Value).toArray s 0 0 (AG G)) (F0 m 38 ls [])) → ∀ (ls : Array Slot) (H : Heap) (locs : List Loc), lv_has ls 5 [(0, .ref M), (1, .int c1), (2, .long c2), (4, .int s3)] → HH G (sz, MH M st rst) H → va_S (AG G) s.heap H locs → W p l e (rm_ 0 0 0) s m ([.ref M, .int a1, .long a2] : List Value).toArray below meth c H locs 0 0 (MQ below (PostC G (sz, MH M st rst) (some (.int rf))) ([.ref M, .int a1, .long a2] : List Value).toArray s 0 0 (AG G)) (F0 m 3 ls []) := by
    intro c1 c2 n s3 r3 hr hq
    refine lp_ind (P := fun s3 => ∀ (ls : Array Slot) (H : Heap) (locs : List Loc), lv_has ls 5 [(0, .ref M), (1, .int c1), (2, .long c2), (4, .int s3)] → HH G (sz, MH M st rst) H → va_S (AG G) s.heap H locs → W p l e (rm_ 0 0 0) s m ([.ref M, .int a1, .long a2] : List Value).toArray below meth c H locs 0 0 (MQ below (PostC G (sz, MH M st rst) (some (.int rf))) ([.ref M, .int a1, .long a2] : List Value).toArray s 0 0 (AG G)) (F0 m 3 ls [])) (Q := fun r3 => ∀ (ls : Array Slot) (H : Heap) (locs : List Loc), lv_has ls 5 [(0, .ref M), (1, .int c1), (4, .int r3)] → HH G (sz, MH M st rst) H → va_S (AG G) s.heap H locs → W p l e (rm_ 0 0 0) s m ([.ref M, .int a1, .long a2] : List Value).toArray below meth c H locs 0 0 (MQ below (PostC G (sz, MH M st rst) (some (.int rf))) ([.ref M, .int a1, .long a2] : List Value).toArray s 0 0 (AG G)) (F0 m 38 ls [])) ?_ n s3 r3 hr hq
    intro s3 x3 hf hx3 ls H locs hl hH hS
    unfold f_X3_find_b3 at hf
    refine lv_iload hx hb dX3_find_3 (lv_at hl 3 rfl) ?_
    refine lv_aload_n hx hb dX3_find_5 rfl (lv_at hl 0 rfl) ?_
    refine m_get X hK hH 4 (by decide) rfl (mg_4 _ _) q1063 dX3_find_6 ?_
    refine lv_iload_n hx hb dX3_find_9 rfl (lv_at hl 1 rfl) ?_
    obtain ⟨v1, hv, hf⟩ := bd hf
    refine m_iald X hK hH 4 (mc_4 _ _) hv dX3_find_10 ?_
    refine lv_icmp_ge (tgt := 38) hx hb dX3_find_11 (by decide) (fun c_ => ?_) (fun c_ => ?_)
    · have hf := (if_pos c_).symm.trans hf
      cases hf
      exact hx3 _ _ _ (lv_sub hl [0, 1, 3] rfl) hH hS
    · have hf := (if_neg c_).symm.trans hf
      refine lv_aload_n hx hb dX3_find_14 rfl (lv_at hl 0 rfl) ?_
      refine m_get X hK hH 5 (by decide) rfl (mg_5 _ _) q1064 dX3_find_15 ?_
      refine lv_sipush (v := (200 : Int32)) hx hb dX3_find_18 (by decide) ?_
      refine lv_iload_n hx hb dX3_find_21 rfl (lv_at hl 1 rfl) ?_
      refine lv_imul hx hb dX3_find_22 ?_
      refine lv_iload hx hb dX3_find_23 (lv_at hl 3 rfl) ?_
      refine lv_iadd hx hb dX3_find_25 ?_
      obtain ⟨v2, hv, hf⟩ := bd hf
      refine m_lald X hK hH 5 (mc_5 _ _) hv dX3_find_26 ?_
      refine lv_lload_n hx hb dX3_find_27 rfl (lv_at hl 2 rfl) ?_
      refine W.lcmp hx hb dX3_find_28 ?_
      refine lv_if_eq (tgt := 38) hx hb dX3_find_29 (by decide) (fun c_ => ?_) (fun c_ => ?_)
      · have hf := (if_pos ((lg_cmp_eq v2 c2).mp c_)).symm.trans hf
        cases hf
        exact hx3 _ _ _ (lv_sub hl [0, 1, 3] rfl) hH hS
      · have hf := (if_neg (fun z => c_ ((lg_cmp_eq v2 c2).mpr z))).symm.trans hf
        refine lv_iinc (v := (s3 + 1)) (lv' := [(4, .int (s3 + 1)), (0, .ref M), (1, .int c1), (2, .long c2)]) hx hb dX3_find_32 hl (k := 3) rfl rfl (by decide) rfl (fun ls hl => ?_)
        refine lv_goto (tgt := 3) hx hb dX3_find_35 (by decide) ?_
        cases hf
        exact hx3 _ _ _ (lv_sub hl [1, 2, 3, 0] rfl) hH hS
  have J38 : ∀ (d1 : Int32) (d4 : Int32), f_X3_find_j38 N st d1 d4 = some rf → ∀ (ls : Array Slot) (H : Heap) (locs : List Loc), lv_has ls 5 [(0, .ref M), (1, .int d1), (4, .int d4)] → HH G (sz, MH M st rst) H → va_S (AG G) s.heap H locs → W p l e (rm_ 0 0 0) s m ([.ref M, .int a1, .long a2] : List Value).toArray below meth c H locs 0 0 (MQ below (PostC G (sz, MH M st rst) (some (.int rf))) ([.ref M, .int a1, .long a2] : List Value).toArray s 0 0 (AG G)) (F0 m 38 ls []) := by
    intro d1 d4 hf ls H locs hl hH hS
    unfold f_X3_find_j38 at hf
    refine lv_iload hx hb dX3_find_38 (lv_at hl 2 rfl) ?_
    refine lv_aload_n hx hb dX3_find_40 rfl (lv_at hl 0 rfl) ?_
    refine m_get X hK hH 4 (by decide) rfl (mg_4 _ _) q1063 dX3_find_41 ?_
    refine lv_iload_n hx hb dX3_find_44 rfl (lv_at hl 1 rfl) ?_
    obtain ⟨v4, hv, hf⟩ := bd hf
    refine m_iald X hK hH 4 (mc_4 _ _) hv dX3_find_45 ?_
    refine lv_icmp_ge (tgt := 54) hx hb dX3_find_46 (by decide) (fun c_ => ?_) (fun c_ => ?_)
    · have hf := (if_pos c_).symm.trans hf
      refine lv_iconst (v := (-1 : Int32)) hx hb dX3_find_54 (by decide) ?_
      cases hf
      exact r_iret X dX3_find_55 (Nat.le_refl _) (Nat.le_refl _) rfl hH hS
    · have hf := (if_neg c_).symm.trans hf
      refine lv_iload hx hb dX3_find_49 (lv_at hl 2 rfl) ?_
      refine lv_goto (tgt := 55) hx hb dX3_find_51 (by decide) ?_
      cases hf
      exact r_iret X dX3_find_55 (Nat.le_refl _) (Nat.le_refl _) rfl hH hS
  refine lv_iconst (v := (0 : Int32)) hx hb dX3_find_0 (by decide) ?_
  refine lv_istore (lv' := [(4, .int (0 : Int32)), (0, .ref M), (1, .int a1), (2, .long a2)]) hx hb dX3_find_1 hl (by decide) rfl (fun ls hl => ?_)
  obtain ⟨r3_3, hr, hf⟩ := bd hf
  refine L3 a1 a2 N _ r3_3 hr ?_ _ _ _ (lv_sub hl [1, 2, 3, 0] rfl) hH hS
  intro ls H locs hl hH hS
  exact J38 a1 r3_3 hf _ _ _ (lv_sub hl [0, 1, 2] rfl) hH hS
theorem cs_X3_letter : CalS yX3_letter cX3_letter 5 (some .int) 4 := ⟨q1030, q57, q1031, by decide +kernel, by decide +kernel, by decide +kernel⟩
set_option maxHeartbeats 4000000 in
theorem met_X3_letter (l : Launch) (G : GG) (σ : SG) (N : Nat) (a0 : Int32) (a1 : Int32) (a2 : Int64) (a4 : Int32) (rf : Int32) (hf : f_X3_letter N a0 a1 a2 a4 = some rf) : Con l yX3_letter cX3_letter 5 (some .int) 1 0 0 G σ [.int a0, .int a1, .long a2, .int a4] σ (some (.int rf)) := by
  refine con_of (by decide) (Nat.le_of_ble_eq_true rfl) ?_
  intro p e s m below meth c ls X hK hH hl hS
  have hx := X.1
  have hb := X.2.1
  have hown : s.vm.findClass RX3 = some m.cls := X.2.2.2.2.1
  have hts := X.2.2.2.2.2.1
  have hl : lv_has ls 5 [(0, .int a0), (1, .int a1), (2, .long a2), (4, .int a4)] := hl
  unfold f_X3_letter at hf
  refine lv_lload_n hx hb dX3_letter_0 rfl (lv_at hl 2 rfl) ?_
  refine lv_iload_n hx hb dX3_letter_1 rfl (lv_at hl 0 rfl) ?_
  refine lv_iload_n hx hb dX3_letter_2 rfl (lv_at hl 1 rfl) ?_
  refine lv_iconst (v := (1 : Int32)) hx hb dX3_letter_3 (by decide) ?_
  refine lv_isub hx hb dX3_letter_4 ?_
  refine lv_iload hx hb dX3_letter_5 (lv_at hl 3 rfl) ?_
  refine lv_isub hx hb dX3_letter_7 ?_
  obtain ⟨v1, hv, hf⟩ := bd hf
  refine r_Sl (As := [.int a0, .int ((a1 - (1 : Int32)) - a4)]) (rest := [.long a2]) X (met_X3_power l G _ N a0 ((a1 - (1 : Int32)) - a4) v1 hv) cs_X3_power q1022 rfl rfl hl.1 (Nat.le_of_ble_eq_true rfl) ⟨Nat.le_of_ble_eq_true rfl, Nat.le_of_ble_eq_true rfl⟩ ⟨Nat.le_refl _, Nat.le_refl _⟩ dX3_letter_8 hK hH hS (fun H locs hH hS => ?_)
  obtain ⟨v2, hv, hf⟩ := bd hf
  refine r_ldiv hx hb hv dX3_letter_11 ?_
  refine lv_iload_n hx hb dX3_letter_12 rfl (lv_at hl 0 rfl) ?_
  refine lv_i2l (v := (a0).toInt64) hx hb dX3_letter_13 rfl ?_
  obtain ⟨v3, hv, hf⟩ := bd hf
  refine r_lrem hx hb hv dX3_letter_14 ?_
  refine lv_l2i (v := (v3).toInt32) hx hb dX3_letter_15 rfl ?_
  cases hf
  exact r_iret X dX3_letter_16 (Nat.le_refl _) (Nat.le_refl _) rfl hH hS
theorem cs_X3_times : CalS yX3_times cX3_times 3 (some .int) 3 := ⟨q1033, q57, q1034, by decide +kernel, by decide +kernel, by decide +kernel⟩
set_option maxHeartbeats 4000000 in
theorem met_X3_times (l : Launch) (G : GG) (σ : SG) (N : Nat) (a0 : Int32) (a1 : Int32) (a2 : Int32) (rf : Int32) (hf : f_X3_times N a0 a1 a2 = some rf) : Con l yX3_times cX3_times 3 (some .int) 0 0 0 G σ [.int a0, .int a1, .int a2] σ (some (.int rf)) := by
  refine con_of (by decide) (Nat.le_of_ble_eq_true rfl) ?_
  intro p e s m below meth c ls X hK hH hl hS
  have hx := X.1
  have hb := X.2.1
  have hown : s.vm.findClass RX3 = some m.cls := X.2.2.2.2.1
  have hts := X.2.2.2.2.2.1
  have hl : lv_has ls 3 [(0, .int a0), (1, .int a1), (2, .int a2)] := hl
  unfold f_X3_times at hf
  have J21 : ∀ (d1 : Int32) (d2 : Int32), f_X3_times_j21 N d1 d2 = some rf → ∀ (ls : Array Slot) (H : Heap) (locs : List Loc), lv_has ls 3 [(1, .int d1), (2, .int d2)] → HH G σ H → va_S (AG G) s.heap H locs → W p l e (rm_ 0 0 0) s m ([.int a0, .int a1, .int a2] : List Value).toArray below meth c H locs 0 0 (MQ below (PostC G σ (some (.int rf))) ([.int a0, .int a1, .int a2] : List Value).toArray s 0 0 (AG G)) (F0 m 21 ls []) := by
    intro d1 d2 hf ls H locs hl hH hS
    unfold f_X3_times_j21 at hf
    refine lv_iload_n hx hb dX3_times_21 rfl (lv_at hl 0 rfl) ?_
    refine lv_iload_n hx hb dX3_times_22 rfl (lv_at hl 1 rfl) ?_
    refine lv_imul hx hb dX3_times_23 ?_
    cases hf
    exact r_iret X dX3_times_24 (Nat.le_refl _) (Nat.le_refl _) rfl hH hS
  refine lv_iload_n hx hb dX3_times_0 rfl (lv_at hl 0 rfl) ?_
  refine lv_iconst (v := (4 : Int32)) hx hb dX3_times_1 (by decide) ?_
  refine lv_icmp_eq (tgt := 11) hx hb dX3_times_2 (by decide) (fun c_ => ?_) (fun c_ => ?_)
  · have hf := (if_pos c_).symm.trans hf
    refine lv_iload_n hx hb dX3_times_11 rfl (lv_at hl 1 rfl) ?_
    refine lv_iconst (v := (2 : Int32)) hx hb dX3_times_12 (by decide) ?_
    refine lv_icmp_lt (tgt := 21) hx hb dX3_times_13 (by decide) (fun c_ => ?_) (fun c_ => ?_)
    · have hf := (if_pos c_).symm.trans hf
      exact J21 a1 a2 hf _ _ _ (lv_sub hl [1, 2] rfl) hH hS
    · have hf := (if_neg c_).symm.trans hf
      refine lv_iload_n hx hb dX3_times_16 rfl (lv_at hl 2 rfl) ?_
      refine lv_iconst (v := (2 : Int32)) hx hb dX3_times_17 (by decide) ?_
      refine lv_icmp_ge (tgt := 25) hx hb dX3_times_18 (by decide) (fun c_ => ?_) (fun c_ => ?_)
      · have hf := (if_pos c_).symm.trans hf
        refine lv_iload_n hx hb dX3_times_25 rfl (lv_at hl 1 rfl) ?_
        refine lv_iload_n hx hb dX3_times_26 rfl (lv_at hl 2 rfl) ?_
        refine lv_icmp_eq (tgt := 34) hx hb dX3_times_27 (by decide) (fun c_ => ?_) (fun c_ => ?_)
        · have hf := (if_pos c_).symm.trans hf
          refine lv_iload_n hx hb dX3_times_34 rfl (lv_at hl 1 rfl) ?_
          refine lv_iconst (v := (2 : Int32)) hx hb dX3_times_35 (by decide) ?_
          refine lv_icmp_ne (tgt := 43) hx hb dX3_times_36 (by decide) (fun c_ => ?_) (fun c_ => ?_)
          · have hf := (if_neg c_).symm.trans hf
            refine lv_iconst (v := (2 : Int32)) hx hb dX3_times_43 (by decide) ?_
            cases hf
            exact r_iret X dX3_times_44 (Nat.le_refl _) (Nat.le_refl _) rfl hH hS
          · have hf := (if_pos c_).symm.trans hf
            refine lv_iconst (v := (3 : Int32)) hx hb dX3_times_39 (by decide) ?_
            refine lv_goto (tgt := 44) hx hb dX3_times_40 (by decide) ?_
            cases hf
            exact r_iret X dX3_times_44 (Nat.le_refl _) (Nat.le_refl _) rfl hH hS
        · have hf := (if_neg c_).symm.trans hf
          refine lv_iconst (v := (1 : Int32)) hx hb dX3_times_30 (by decide) ?_
          refine lv_goto (tgt := 44) hx hb dX3_times_31 (by decide) ?_
          cases hf
          exact r_iret X dX3_times_44 (Nat.le_refl _) (Nat.le_refl _) rfl hH hS
      · have hf := (if_neg c_).symm.trans hf
        exact J21 a1 a2 hf _ _ _ (lv_sub hl [1, 2] rfl) hH hS
  · have hf := (if_neg c_).symm.trans hf
    refine lv_iload_n hx hb dX3_times_5 rfl (lv_at hl 1 rfl) ?_
    refine lv_iload_n hx hb dX3_times_6 rfl (lv_at hl 2 rfl) ?_
    refine lv_imul hx hb dX3_times_7 ?_
    refine lv_iload_n hx hb dX3_times_8 rfl (lv_at hl 0 rfl) ?_
    obtain ⟨v1, hv, hf⟩ := bd hf
    refine r_irem hx hb hv dX3_times_9 ?_
    cases hf
    exact r_iret X dX3_times_10 (Nat.le_refl _) (Nat.le_refl _) rfl hH hS
theorem cs_X3_plus : CalS yX3_plus cX3_plus 3 (some .int) 3 := ⟨q1036, q57, q1037, by decide +kernel, by decide +kernel, by decide +kernel⟩
set_option maxHeartbeats 4000000 in
theorem met_X3_plus (l : Launch) (G : GG) (σ : SG) (N : Nat) (a0 : Int32) (a1 : Int32) (a2 : Int32) (rf : Int32) (hf : f_X3_plus N a0 a1 a2 = some rf) : Con l yX3_plus cX3_plus 3 (some .int) 0 0 0 G σ [.int a0, .int a1, .int a2] σ (some (.int rf)) := by
  refine con_of (by decide) (Nat.le_of_ble_eq_true rfl) ?_
  intro p e s m below meth c ls X hK hH hl hS
  have hx := X.1
  have hb := X.2.1
  have hown : s.vm.findClass RX3 = some m.cls := X.2.2.2.2.1
  have hts := X.2.2.2.2.2.1
  have hl : lv_has ls 3 [(0, .int a0), (1, .int a1), (2, .int a2)] := hl
  unfold f_X3_plus at hf
  refine lv_iload_n hx hb dX3_plus_0 rfl (lv_at hl 0 rfl) ?_
  refine lv_iconst (v := (4 : Int32)) hx hb dX3_plus_1 (by decide) ?_
  refine lv_icmp_ne (tgt := 11) hx hb dX3_plus_2 (by decide) (fun c_ => ?_) (fun c_ => ?_)
  · have hf := (if_neg c_).symm.trans hf
    refine lv_iload_n hx hb dX3_plus_11 rfl (lv_at hl 1 rfl) ?_
    refine lv_iload_n hx hb dX3_plus_12 rfl (lv_at hl 2 rfl) ?_
    refine lv_iadd hx hb dX3_plus_13 ?_
    refine lv_iload_n hx hb dX3_plus_14 rfl (lv_at hl 0 rfl) ?_
    obtain ⟨v1, hv, hf⟩ := bd hf
    refine r_irem hx hb hv dX3_plus_15 ?_
    cases hf
    exact r_iret X dX3_plus_16 (Nat.le_refl _) (Nat.le_refl _) rfl hH hS
  · have hf := (if_pos c_).symm.trans hf
    refine lv_iload_n hx hb dX3_plus_5 rfl (lv_at hl 1 rfl) ?_
    refine lv_iload_n hx hb dX3_plus_6 rfl (lv_at hl 2 rfl) ?_
    refine lv_ixor hx hb dX3_plus_7 ?_
    refine lv_goto (tgt := 16) hx hb dX3_plus_8 (by decide) ?_
    cases hf
    exact r_iret X dX3_plus_16 (Nat.le_refl _) (Nat.le_refl _) rfl hH hS
theorem cs_X3_productOf : CalS yX3_productOf cX3_productOf 8 (some .int) 4 := ⟨q1050, q57, q1051, by decide +kernel, by decide +kernel, by decide +kernel⟩
set_option maxHeartbeats 4000000 in
theorem met_X3_productOf (l : Launch) (G : GG) (σ : SG) (N : Nat) (a0 : Int32) (a1 : Int32) (a2 : Int64) (a4 : Int64) (rf : Int32) (hf : f_X3_productOf N a0 a1 a2 a4 = some rf) : Con l yX3_productOf cX3_productOf 8 (some .int) 2 0 0 G σ [.int a0, .int a1, .long a2, .long a4] σ (some (.int rf)) := by
  refine con_of (by decide) (Nat.le_of_ble_eq_true rfl) ?_
  intro p e s m below meth c ls X hK hH hl hS
  have hx := X.1
  have hb := X.2.1
  have hown : s.vm.findClass RX3 = some m.cls := X.2.2.2.2.1
  have hts := X.2.2.2.2.2.1
  have hl : lv_has ls 8 [(0, .int a0), (1, .int a1), (2, .long a2), (4, .long a4)] := hl
  unfold f_X3_productOf at hf
  have L6 : ∀ (c0 : Int32) (c1 : Int32) (c2 : Int64) (c4 : Int64) (n : Nat) (s6 : (Int32 × Int32)) (r6 : Int32), lp (f_X3_productOf_b6 N c0 c1 c2 c4) n s6 = some r6 → (∀ (ls : Array Slot) (H : Heap) (locs : List Loc), lv_has ls 8 [(6, .int r6)] → HH G σ H → va_S (AG G) s.heap H locs → W p l e (rm_ 2 0 0) s m ([.int a0, .int a1, .long a2, .long a4] : List Value).toArray below meth c H locs 0 0 (MQ below (PostC G σ (some (.int rf))) ([.int a0, .int a1, .long a2, .long a4] : List Value).toArray s 0 0 (AG G)) (F0 m 47 ls [])) → ∀ (ls : Array Slot) (H : Heap) (locs : List Loc), lv_has ls 8 [(0, .int c0), (1, .int c1), (2, .long c2), (4, .long c4), (6, .int s6.1), (7, .int s6.2)] → HH G σ H → va_S (AG G) s.heap H locs → W p l e (rm_ 2 0 0) s m ([.int a0, .int a1, .long a2, .long a4] : List Value).toArray below meth c H locs 0 0 (MQ below (PostC G σ (some (.int rf))) ([.int a0, .int a1, .long a2, .long a4] : List Value).toArray s 0 0 (AG G)) (F0 m 6 ls []) := by
    intro c0 c1 c2 c4 n s6 r6 hr hq
    refine lp_ind (P := fun s6 => ∀ (ls : Array Slot) (H : Heap) (locs : List Loc), lv_has ls 8 [(0, .int c0), (1, .int c1), (2, .long c2), (4, .long c4), (6, .int s6.1), (7, .int s6.2)] → HH G σ H → va_S (AG G) s.heap H locs → W p l e (rm_ 2 0 0) s m ([.int a0, .int a1, .long a2, .long a4] : List Value).toArray below meth c H locs 0 0 (MQ below (PostC G σ (some (.int rf))) ([.int a0, .int a1, .long a2, .long a4] : List Value).toArray s 0 0 (AG G)) (F0 m 6 ls [])) (Q := fun r6 => ∀ (ls : Array Slot) (H : Heap) (locs : List Loc), lv_has ls 8 [(6, .int r6)] → HH G σ H → va_S (AG G) s.heap H locs → W p l e (rm_ 2 0 0) s m ([.int a0, .int a1, .long a2, .long a4] : List Value).toArray below meth c H locs 0 0 (MQ below (PostC G σ (some (.int rf))) ([.int a0, .int a1, .long a2, .long a4] : List Value).toArray s 0 0 (AG G)) (F0 m 47 ls [])) ?_ n s6 r6 hr hq
    intro s6 x6 hf hx6 ls H locs hl hH hS
    unfold f_X3_productOf_b6 at hf
    refine lv_iload hx hb dX3_productOf_6 (lv_at hl 5 rfl) ?_
    refine lv_iload_n hx hb dX3_productOf_8 rfl (lv_at hl 1 rfl) ?_
    refine lv_icmp_ge (tgt := 47) hx hb dX3_productOf_9 (by decide) (fun c_ => ?_) (fun c_ => ?_)
    · have hf := (if_pos c_).symm.trans hf
      cases hf
      exact hx6 _ _ _ (lv_sub hl [4] rfl) hH hS
    · have hf := (if_neg c_).symm.trans hf
      refine lv_iload_n hx hb dX3_productOf_12 rfl (lv_at hl 0 rfl) ?_
      refine lv_iload hx hb dX3_productOf_13 (lv_at hl 4 rfl) ?_
      refine lv_iload_n hx hb dX3_productOf_15 rfl (lv_at hl 0 rfl) ?_
      refine lv_iload_n hx hb dX3_productOf_16 rfl (lv_at hl 0 rfl) ?_
      refine lv_iload_n hx hb dX3_productOf_17 rfl (lv_at hl 1 rfl) ?_
      refine lv_lload_n hx hb dX3_productOf_18 rfl (lv_at hl 2 rfl) ?_
      refine lv_iload hx hb dX3_productOf_19 (lv_at hl 5 rfl) ?_
      obtain ⟨v1, hv, hf⟩ := bd hf
      refine r_Si (As := [.int c0, .int c1, .long c2, .int s6.2]) (rest := [.int c0, .int s6.1, .int c0]) X (met_X3_letter l G _ N c0 c1 c2 s6.2 v1 hv) cs_X3_letter q1029 rfl rfl hl.1 (Nat.le_of_ble_eq_true rfl) ⟨Nat.le_of_ble_eq_true rfl, Nat.le_of_ble_eq_true rfl⟩ ⟨Nat.le_refl _, Nat.le_refl _⟩ dX3_productOf_21 hK hH hS (fun H locs hH hS => ?_)
      refine lv_iload_n hx hb dX3_productOf_24 rfl (lv_at hl 0 rfl) ?_
      refine lv_iload_n hx hb dX3_productOf_25 rfl (lv_at hl 1 rfl) ?_
      refine lv_lload hx hb dX3_productOf_26 (lv_at hl 3 rfl) ?_
      refine lv_iload hx hb dX3_productOf_28 (lv_at hl 5 rfl) ?_
      obtain ⟨v2, hv, hf⟩ := bd hf
      refine r_Si (As := [.int c0, .int c1, .long c4, .int s6.2]) (rest := [.int v1, .int c0, .int s6.1, .int c0]) X (met_X3_letter l G _ N c0 c1 c4 s6.2 v2 hv) cs_X3_letter q1029 rfl rfl hl.1 (Nat.le_of_ble_eq_true rfl) ⟨Nat.le_of_ble_eq_true rfl, Nat.le_of_ble_eq_true rfl⟩ ⟨Nat.le_refl _, Nat.le_refl _⟩ dX3_productOf_30 hK hH hS (fun H locs hH hS => ?_)
      obtain ⟨v3, hv, hf⟩ := bd hf
      refine r_Si (As := [.int c0, .int v1, .int v2]) (rest := [.int s6.1, .int c0]) X (met_X3_times l G _ N c0 v1 v2 v3 hv) cs_X3_times q1032 rfl rfl hl.1 (Nat.le_of_ble_eq_true rfl) ⟨Nat.le_of_ble_eq_true rfl, Nat.le_of_ble_eq_true rfl⟩ ⟨Nat.le_refl _, Nat.le_refl _⟩ dX3_productOf_33 hK hH hS (fun H locs hH hS => ?_)
      obtain ⟨v4, hv, hf⟩ := bd hf
      refine r_Si (As := [.int c0, .int s6.1, .int v3]) (rest := []) X (met_X3_plus l G _ N c0 s6.1 v3 v4 hv) cs_X3_plus q1035 rfl rfl hl.1 (Nat.le_of_ble_eq_true rfl) ⟨Nat.le_of_ble_eq_true rfl, Nat.le_of_ble_eq_true rfl⟩ ⟨Nat.le_refl _, Nat.le_refl _⟩ dX3_productOf_36 hK hH hS (fun H locs hH hS => ?_)
      refine lv_istore (lv' := [(6, .int v4), (0, .int c0), (1, .int c1), (2, .long c2), (4, .long c4), (7, .int s6.2)]) hx hb dX3_productOf_39 hl (by decide) rfl (fun ls hl => ?_)
      refine lv_iinc (v := (s6.2 + 1)) (lv' := [(7, .int (s6.2 + 1)), (6, .int v4), (0, .int c0), (1, .int c1), (2, .long c2), (4, .long c4)]) hx hb dX3_productOf_41 hl (k := 5) rfl rfl (by decide) rfl (fun ls hl => ?_)
      refine lv_goto (tgt := 6) hx hb dX3_productOf_44 (by decide) ?_
      cases hf
      exact hx6 _ _ _ (lv_sub hl [2, 3, 4, 5, 1, 0] rfl) hH hS
  refine lv_iconst (v := (0 : Int32)) hx hb dX3_productOf_0 (by decide) ?_
  refine lv_istore (lv' := [(6, .int (0 : Int32)), (0, .int a0), (1, .int a1), (2, .long a2), (4, .long a4)]) hx hb dX3_productOf_1 hl (by decide) rfl (fun ls hl => ?_)
  refine lv_iconst (v := (0 : Int32)) hx hb dX3_productOf_3 (by decide) ?_
  refine lv_istore (lv' := [(7, .int (0 : Int32)), (6, .int (0 : Int32)), (0, .int a0), (1, .int a1), (2, .long a2), (4, .long a4)]) hx hb dX3_productOf_4 hl (by decide) rfl (fun ls hl => ?_)
  obtain ⟨r6_5, hr, hf⟩ := bd hf
  refine L6 a0 a1 a2 a4 N _ r6_5 hr ?_ _ _ _ (lv_sub hl [2, 3, 4, 5, 1, 0] rfl) hH hS
  intro ls H locs hl hH hS
  refine lv_iload hx hb dX3_productOf_47 (lv_at hl 0 rfl) ?_
  cases hf
  exact r_iret X dX3_productOf_49 (Nat.le_refl _) (Nat.le_refl _) rfl hH hS
theorem cv_X3_push : CalV "WordBenchModel" yX3_push cX3_push 4 (some .int) 2 := ⟨q1162, qs23, q57, q1163, by decide +kernel⟩
set_option maxHeartbeats 4000000 in
theorem met_X3_push (l : Launch) (G : GG) (sz M : Nat) (rst : Nat → Option AE) (N : Nat) (st : MS) (a1 : Int32) (a2 : Int64) (stf : MS) (rf : Int32) (hf : f_X3_push N st a1 a2 = some (stf, rf)) : Con l yX3_push cX3_push 4 (some .int) 0 0 0 G (sz, MH M st rst) [.ref M, .int a1, .long a2] (sz, MH M stf rst) (some (.int rf)) := by
  refine con_of (by decide) (Nat.le_of_ble_eq_true rfl) ?_
  intro p e s m below meth c ls X hK hH hl hS
  have hx := X.1
  have hb := X.2.1
  have hown : s.vm.findClass RX3 = some m.cls := X.2.2.2.2.1
  have hts := X.2.2.2.2.2.1
  have hl : lv_has ls 4 [(0, .ref M), (1, .int a1), (2, .long a2)] := hl
  unfold f_X3_push at hf
  refine lv_aload_n hx hb dX3_push_0 rfl (lv_at hl 0 rfl) ?_
  refine m_get X hK hH 5 (by decide) rfl (mg_5 _ _) q1064 dX3_push_1 ?_
  refine lv_sipush (v := (200 : Int32)) hx hb dX3_push_4 (by decide) ?_
  refine lv_iload_n hx hb dX3_push_7 rfl (lv_at hl 1 rfl) ?_
  refine lv_imul hx hb dX3_push_8 ?_
  refine lv_aload_n hx hb dX3_push_9 rfl (lv_at hl 0 rfl) ?_
  refine m_get X hK hH 4 (by decide) rfl (mg_4 _ _) q1063 dX3_push_10 ?_
  refine lv_iload_n hx hb dX3_push_13 rfl (lv_at hl 1 rfl) ?_
  obtain ⟨v1, hv, hf⟩ := bd hf
  refine m_iald X hK hH 4 (mc_4 _ _) hv dX3_push_14 ?_
  refine lv_iadd hx hb dX3_push_15 ?_
  refine lv_lload_n hx hb dX3_push_16 rfl (lv_at hl 2 rfl) ?_
  obtain ⟨w2, hv, hf⟩ := bd hf
  refine m_last X hK hH hS 5 (mc_5 _ _) hv (mt_5 _ _ _) dX3_push_17 (fun H locs hH hS => ?_)
  refine lv_aload_n hx hb dX3_push_18 rfl (lv_at hl 0 rfl) ?_
  refine m_get X hK hH 4 (by decide) rfl (mg_4 _ _) q1063 dX3_push_19 ?_
  refine lv_iload_n hx hb dX3_push_22 rfl (lv_at hl 1 rfl) ?_
  refine lv_dup2_11 hx hb dX3_push_23 rfl rfl ?_
  obtain ⟨v3, hv, hf⟩ := bd hf
  refine m_iald X hK hH 4 (mc_4 _ _) hv dX3_push_24 ?_
  refine lv_iconst (v := (1 : Int32)) hx hb dX3_push_25 (by decide) ?_
  refine lv_iadd hx hb dX3_push_26 ?_
  obtain ⟨w4, hv, hf⟩ := bd hf
  refine m_iast X hK hH hS 4 (mc_4 _ _) hv (mt_4 _ _ _) dX3_push_27 (fun H locs hH hS => ?_)
  refine lv_aload_n hx hb dX3_push_28 rfl (lv_at hl 0 rfl) ?_
  refine m_get X hK hH 4 (by decide) rfl (mg_4 _ _) q1063 dX3_push_29 ?_
  refine lv_iload_n hx hb dX3_push_32 rfl (lv_at hl 1 rfl) ?_
  obtain ⟨v5, hv, hf⟩ := bd hf
  refine m_iald X hK hH 4 (mc_4 _ _) hv dX3_push_33 ?_
  cases hf
  exact r_iret X dX3_push_34 (Nat.le_refl _) (Nat.le_refl _) rfl hH hS
theorem cv_X3_add : CalV "WordBenchModel" yX3_add cX3_add 6 (some .int) 2 := ⟨q1145, q1146, q57, q1147, by decide +kernel⟩
set_option maxHeartbeats 4000000 in
theorem met_X3_add (l : Launch) (G : GG) (sz M : Nat) (rst : Nat → Option AE) (N : Nat) (st : MS) (a1 : Int32) (a2 : Int64) (stf : MS) (rf : Int32) (hf : f_X3_add N st a1 a2 = some (stf, rf)) : Con l yX3_add cX3_add 6 (some .int) 3 0 0 G (sz, MH M st rst) [.ref M, .int a1, .long a2] (sz, MH M stf rst) (some (.int rf)) := by
  refine con_of (by decide) (Nat.le_of_ble_eq_true rfl) ?_
  intro p e s m below meth c ls X hK hH hl hS
  have hx := X.1
  have hb := X.2.1
  have hown : s.vm.findClass RX3 = some m.cls := X.2.2.2.2.1
  have hts := X.2.2.2.2.2.1
  have hl : lv_has ls 6 [(0, .ref M), (1, .int a1), (2, .long a2)] := hl
  unfold f_X3_add at hf
  have J198 : ∀ (d1 : Int32) (d2 : Int64) (k0 : Int32) (k1 : Int32) (u198 : MS), f_X3_add_j198 N d1 d2 k0 k1 u198 = some (stf, rf) → ∀ (ls : Array Slot) (H : Heap) (locs : List Loc), lv_has ls 6 [(0, .ref M), (1, .int d1), (2, .long d2)] → HH G (sz, MH M u198 rst) H → va_S (AG G) s.heap H locs → W p l e (rm_ 3 0 0) s m ([.ref M, .int a1, .long a2] : List Value).toArray below meth c H locs 0 0 (MQ below (PostC G (sz, MH M stf rst) (some (.int rf))) ([.ref M, .int a1, .long a2] : List Value).toArray s 0 0 (AG G)) (F0 m 198 ls [.int k0, .int k1]) := by
    intro d1 d2 k0 k1 u198 hf ls H locs hl hH hS
    unfold f_X3_add_j198 at hf
    refine lv_icmp_ne (tgt := 204) hx hb dX3_add_198 (by decide) (fun c_ => ?_) (fun c_ => ?_)
    · have hf := (if_neg c_).symm.trans hf
      refine lv_aload_n hx hb dX3_add_204 rfl (lv_at hl 0 rfl) ?_
      refine lv_iload_n hx hb dX3_add_205 rfl (lv_at hl 1 rfl) ?_
      refine lv_lload_n hx hb dX3_add_206 rfl (lv_at hl 2 rfl) ?_
      obtain ⟨v9, hv, hf⟩ := bd hf
      refine r_Vi (As := [.int d1, .long d2]) (rest := []) X (met_X3_push l G _ _ _ N u198 d1 d2 v9.1 v9.2 hv) cv_X3_push q1160 (m_recv hK hH) rfl rfl hl.1 (Nat.le_of_ble_eq_true rfl) ⟨Nat.le_of_ble_eq_true rfl, Nat.le_of_ble_eq_true rfl⟩ ⟨Nat.le_refl _, Nat.le_refl _⟩ dX3_add_207 hK hH hS (fun H locs hH hS => ?_)
      cases hf
      exact r_iret X dX3_add_210 (Nat.le_refl _) (Nat.le_refl _) rfl hH hS
    · have hf := (if_pos c_).symm.trans hf
      refine lv_bipush (v := (-6 : Int32)) hx hb dX3_add_201 (by decide) ?_
      cases hf
      exact r_iret X dX3_add_203 (Nat.le_refl _) (Nat.le_refl _) rfl hH hS
  have J175 : ∀ (d1 : Int32) (d2 : Int64) (u175 : MS), f_X3_add_j175 N d1 d2 u175 = some (stf, rf) → ∀ (ls : Array Slot) (H : Heap) (locs : List Loc), lv_has ls 6 [(0, .ref M), (1, .int d1), (2, .long d2)] → HH G (sz, MH M u175 rst) H → va_S (AG G) s.heap H locs → W p l e (rm_ 3 0 0) s m ([.ref M, .int a1, .long a2] : List Value).toArray below meth c H locs 0 0 (MQ below (PostC G (sz, MH M stf rst) (some (.int rf))) ([.ref M, .int a1, .long a2] : List Value).toArray s 0 0 (AG G)) (F0 m 175 ls []) := by
    intro d1 d2 u175 hf ls H locs hl hH hS
    unfold f_X3_add_j175 at hf
    refine lv_aload_n hx hb dX3_add_175 rfl (lv_at hl 0 rfl) ?_
    refine m_get X hK hH 4 (by decide) rfl (mg_4 _ _) q1063 dX3_add_176 ?_
    refine lv_iload_n hx hb dX3_add_179 rfl (lv_at hl 1 rfl) ?_
    obtain ⟨v7, hv, hf⟩ := bd hf
    refine m_iald X hK hH 4 (mc_4 _ _) hv dX3_add_180 ?_
    refine lv_aload_n hx hb dX3_add_181 rfl (lv_at hl 0 rfl) ?_
    refine m_get X hK hH 1 (by decide) rfl (mg_1 _ _) q1060 dX3_add_182 ?_
    refine lv_iload_n hx hb dX3_add_185 rfl (lv_at hl 1 rfl) ?_
    obtain ⟨v8, hv, hf⟩ := bd hf
    refine m_iald X hK hH 1 (mc_1 _ _) hv dX3_add_186 ?_
    refine lv_if_ne (tgt := 196) hx hb dX3_add_187 (by decide) (fun c_ => ?_) (fun c_ => ?_)
    · have hf := (if_neg c_).symm.trans hf
      refine lv_bipush (v := (12 : Int32)) hx hb dX3_add_196 (by decide) ?_
      exact J198 d1 d2 (12 : Int32) v7 u175 hf _ _ _ (lv_sub hl [0, 1, 2] rfl) hH hS
    · have hf := (if_pos c_).symm.trans hf
      refine lv_sipush (v := (200 : Int32)) hx hb dX3_add_190 (by decide) ?_
      refine lv_goto (tgt := 198) hx hb dX3_add_193 (by decide) ?_
      exact J198 d1 d2 (200 : Int32) v7 u175 hf _ _ _ (lv_sub hl [0, 1, 2] rfl) hH hS
  have L106 : ∀ (c1 : Int32) (c2 : Int64) (t106 : MS) (n : Nat) (s106 : (Int32 × Int32)) (r106 : Int32), lp (f_X3_add_b106 N c1 c2 t106) n s106 = some r106 → (∀ (ls : Array Slot) (H : Heap) (locs : List Loc), lv_has ls 6 [(0, .ref M), (1, .int c1), (2, .long c2), (4, .int r106)] → HH G (sz, MH M t106 rst) H → va_S (AG G) s.heap H locs → W p l e (rm_ 3 0 0) s m ([.ref M, .int a1, .long a2] : List Value).toArray below meth c H locs 0 0 (MQ below (PostC G (sz, MH M stf rst) (some (.int rf))) ([.ref M, .int a1, .long a2] : List Value).toArray s 0 0 (AG G)) (F0 m 167 ls [])) → ∀ (ls : Array Slot) (H : Heap) (locs : List Loc), lv_has ls 6 [(0, .ref M), (1, .int c1), (2, .long c2), (4, .int s106.1), (5, .int s106.2)] → HH G (sz, MH M t106 rst) H → va_S (AG G) s.heap H locs → W p l e (rm_ 3 0 0) s m ([.ref M, .int a1, .long a2] : List Value).toArray below meth c H locs 0 0 (MQ below (PostC G (sz, MH M stf rst) (some (.int rf))) ([.ref M, .int a1, .long a2] : List Value).toArray s 0 0 (AG G)) (F0 m 106 ls []) := by
    intro c1 c2 t106 n s106 r106 hr hq
    refine lp_ind (P := fun s106 => ∀ (ls : Array Slot) (H : Heap) (locs : List Loc), lv_has ls 6 [(0, .ref M), (1, .int c1), (2, .long c2), (4, .int s106.1), (5, .int s106.2)] → HH G (sz, MH M t106 rst) H → va_S (AG G) s.heap H locs → W p l e (rm_ 3 0 0) s m ([.ref M, .int a1, .long a2] : List Value).toArray below meth c H locs 0 0 (MQ below (PostC G (sz, MH M stf rst) (some (.int rf))) ([.ref M, .int a1, .long a2] : List Value).toArray s 0 0 (AG G)) (F0 m 106 ls [])) (Q := fun r106 => ∀ (ls : Array Slot) (H : Heap) (locs : List Loc), lv_has ls 6 [(0, .ref M), (1, .int c1), (2, .long c2), (4, .int r106)] → HH G (sz, MH M t106 rst) H → va_S (AG G) s.heap H locs → W p l e (rm_ 3 0 0) s m ([.ref M, .int a1, .long a2] : List Value).toArray below meth c H locs 0 0 (MQ below (PostC G (sz, MH M stf rst) (some (.int rf))) ([.ref M, .int a1, .long a2] : List Value).toArray s 0 0 (AG G)) (F0 m 167 ls [])) ?_ n s106 r106 hr hq
    intro s106 x106 hf hx106 ls H locs hl hH hS
    unfold f_X3_add_b106 at hf
    refine lv_iload hx hb dX3_add_106 (lv_at hl 4 rfl) ?_
    refine lv_aload_n hx hb dX3_add_108 rfl (lv_at hl 0 rfl) ?_
    refine m_get X hK hH 4 (by decide) rfl (mg_4 _ _) q1063 dX3_add_109 ?_
    refine lv_iload_n hx hb dX3_add_112 rfl (lv_at hl 1 rfl) ?_
    obtain ⟨v13, hv, hf⟩ := bd hf
    refine m_iald X hK hH 4 (mc_4 _ _) hv dX3_add_113 ?_
    refine lv_icmp_ge (tgt := 167) hx hb dX3_add_114 (by decide) (fun c_ => ?_) (fun c_ => ?_)
    · have hf := (if_pos c_).symm.trans hf
      cases hf
      exact hx106 _ _ _ (lv_sub hl [0, 1, 2, 3] rfl) hH hS
    · have hf := (if_neg c_).symm.trans hf
      refine lv_iload hx hb dX3_add_117 (lv_at hl 3 rfl) ?_
      refine lv_if_eq (tgt := 158) hx hb dX3_add_119 (by decide) (fun c_ => ?_) (fun c_ => ?_)
      · have hf := (if_pos c_).symm.trans hf
        refine lv_iconst (v := (0 : Int32)) hx hb dX3_add_158 (by decide) ?_
        refine lv_istore (lv' := [(4, .int (0 : Int32)), (0, .ref M), (1, .int c1), (2, .long c2), (5, .int s106.2)]) hx hb dX3_add_159 hl (by decide) rfl (fun ls hl => ?_)
        refine lv_iinc (v := (s106.2 + 1)) (lv' := [(5, .int (s106.2 + 1)), (4, .int (0 : Int32)), (0, .ref M), (1, .int c1), (2, .long c2)]) hx hb dX3_add_161 hl (k := 4) rfl rfl (by decide) rfl (fun ls hl => ?_)
        refine lv_goto (tgt := 106) hx hb dX3_add_164 (by decide) ?_
        cases hf
        exact hx106 _ _ _ (lv_sub hl [2, 3, 4, 1, 0] rfl) hH hS
      · have hf := (if_neg c_).symm.trans hf
        refine lv_aload_n hx hb dX3_add_122 rfl (lv_at hl 0 rfl) ?_
        refine m_get X hK hH 2 (by decide) rfl (mg_2 _ _) q1061 dX3_add_123 ?_
        refine lv_iload_n hx hb dX3_add_126 rfl (lv_at hl 1 rfl) ?_
        obtain ⟨v14, hv, hf⟩ := bd hf
        refine m_iald X hK hH 2 (mc_2 _ _) hv dX3_add_127 ?_
        refine lv_aload_n hx hb dX3_add_128 rfl (lv_at hl 0 rfl) ?_
        refine m_get X hK hH 3 (by decide) rfl (mg_3 _ _) q1062 dX3_add_129 ?_
        refine lv_iload_n hx hb dX3_add_132 rfl (lv_at hl 1 rfl) ?_
        obtain ⟨v15, hv, hf⟩ := bd hf
        refine m_iald X hK hH 3 (mc_3 _ _) hv dX3_add_133 ?_
        refine lv_lload_n hx hb dX3_add_134 rfl (lv_at hl 2 rfl) ?_
        refine lv_aload_n hx hb dX3_add_135 rfl (lv_at hl 0 rfl) ?_
        refine m_get X hK hH 5 (by decide) rfl (mg_5 _ _) q1064 dX3_add_136 ?_
        refine lv_sipush (v := (200 : Int32)) hx hb dX3_add_139 (by decide) ?_
        refine lv_iload_n hx hb dX3_add_142 rfl (lv_at hl 1 rfl) ?_
        refine lv_imul hx hb dX3_add_143 ?_
        refine lv_iload hx hb dX3_add_144 (lv_at hl 4 rfl) ?_
        refine lv_iadd hx hb dX3_add_146 ?_
        obtain ⟨v16, hv, hf⟩ := bd hf
        refine m_lald X hK hH 5 (mc_5 _ _) hv dX3_add_147 ?_
        obtain ⟨v17, hv, hf⟩ := bd hf
        refine r_Si (As := [.int v14, .int v15, .long c2, .long v16]) (rest := []) X (met_X3_productOf l G _ N v14 v15 c2 v16 v17 hv) cs_X3_productOf q1049 rfl rfl hl.1 (Nat.le_of_ble_eq_true rfl) ⟨Nat.le_of_ble_eq_true rfl, Nat.le_of_ble_eq_true rfl⟩ ⟨Nat.le_refl _, Nat.le_refl _⟩ dX3_add_148 hK hH hS (fun H locs hH hS => ?_)
        refine lv_if_ne (tgt := 158) hx hb dX3_add_151 (by decide) (fun c_ => ?_) (fun c_ => ?_)
        · have hf := (if_neg c_).symm.trans hf
          refine lv_iconst (v := (0 : Int32)) hx hb dX3_add_158 (by decide) ?_
          refine lv_istore (lv' := [(4, .int (0 : Int32)), (0, .ref M), (1, .int c1), (2, .long c2), (5, .int s106.2)]) hx hb dX3_add_159 hl (by decide) rfl (fun ls hl => ?_)
          refine lv_iinc (v := (s106.2 + 1)) (lv' := [(5, .int (s106.2 + 1)), (4, .int (0 : Int32)), (0, .ref M), (1, .int c1), (2, .long c2)]) hx hb dX3_add_161 hl (k := 4) rfl rfl (by decide) rfl (fun ls hl => ?_)
          refine lv_goto (tgt := 106) hx hb dX3_add_164 (by decide) ?_
          cases hf
          exact hx106 _ _ _ (lv_sub hl [2, 3, 4, 1, 0] rfl) hH hS
        · have hf := (if_pos c_).symm.trans hf
          refine lv_iconst (v := (1 : Int32)) hx hb dX3_add_154 (by decide) ?_
          refine lv_goto (tgt := 159) hx hb dX3_add_155 (by decide) ?_
          refine lv_istore (lv' := [(4, .int (1 : Int32)), (0, .ref M), (1, .int c1), (2, .long c2), (5, .int s106.2)]) hx hb dX3_add_159 hl (by decide) rfl (fun ls hl => ?_)
          refine lv_iinc (v := (s106.2 + 1)) (lv' := [(5, .int (s106.2 + 1)), (4, .int (1 : Int32)), (0, .ref M), (1, .int c1), (2, .long c2)]) hx hb dX3_add_161 hl (k := 4) rfl rfl (by decide) rfl (fun ls hl => ?_)
          refine lv_goto (tgt := 106) hx hb dX3_add_164 (by decide) ?_
          cases hf
          exact hx106 _ _ _ (lv_sub hl [2, 3, 4, 1, 0] rfl) hH hS
  have J101 : ∀ (d1 : Int32) (d2 : Int64) (k0 : Int32) (u101 : MS), f_X3_add_j101 N d1 d2 k0 u101 = some (stf, rf) → ∀ (ls : Array Slot) (H : Heap) (locs : List Loc), lv_has ls 6 [(0, .ref M), (1, .int d1), (2, .long d2)] → HH G (sz, MH M u101 rst) H → va_S (AG G) s.heap H locs → W p l e (rm_ 3 0 0) s m ([.ref M, .int a1, .long a2] : List Value).toArray below meth c H locs 0 0 (MQ below (PostC G (sz, MH M stf rst) (some (.int rf))) ([.ref M, .int a1, .long a2] : List Value).toArray s 0 0 (AG G)) (F0 m 101 ls [.int k0]) := by
    intro d1 d2 k0 u101 hf ls H locs hl hH hS
    unfold f_X3_add_j101 at hf
    refine lv_istore (lv' := [(4, .int k0), (0, .ref M), (1, .int d1), (2, .long d2)]) hx hb dX3_add_101 hl (by decide) rfl (fun ls hl => ?_)
    refine lv_iconst (v := (0 : Int32)) hx hb dX3_add_103 (by decide) ?_
    refine lv_istore (lv' := [(5, .int (0 : Int32)), (4, .int k0), (0, .ref M), (1, .int d1), (2, .long d2)]) hx hb dX3_add_104 hl (by decide) rfl (fun ls hl => ?_)
    obtain ⟨r106_18, hr, hf⟩ := bd hf
    refine L106 d1 d2 u101 N _ r106_18 hr ?_ _ _ _ (lv_sub hl [2, 3, 4, 1, 0] rfl) hH hS
    intro ls H locs hl hH hS
    refine lv_iload hx hb dX3_add_167 (lv_at hl 3 rfl) ?_
    refine lv_if_ne (tgt := 175) hx hb dX3_add_169 (by decide) (fun c_ => ?_) (fun c_ => ?_)
    · have hf := (if_neg c_).symm.trans hf
      exact J175 d1 d2 u101 hf _ _ _ (lv_sub hl [0, 1, 2] rfl) hH hS
    · have hf := (if_pos c_).symm.trans hf
      refine lv_bipush (v := (-3 : Int32)) hx hb dX3_add_172 (by decide) ?_
      cases hf
      exact r_iret X dX3_add_174 (Nat.le_refl _) (Nat.le_refl _) rfl hH hS
  have J66 : ∀ (d1 : Int32) (d2 : Int64) (u66 : MS), f_X3_add_j66 N d1 d2 u66 = some (stf, rf) → ∀ (ls : Array Slot) (H : Heap) (locs : List Loc), lv_has ls 6 [(0, .ref M), (1, .int d1), (2, .long d2)] → HH G (sz, MH M u66 rst) H → va_S (AG G) s.heap H locs → W p l e (rm_ 3 0 0) s m ([.ref M, .int a1, .long a2] : List Value).toArray below meth c H locs 0 0 (MQ below (PostC G (sz, MH M stf rst) (some (.int rf))) ([.ref M, .int a1, .long a2] : List Value).toArray s 0 0 (AG G)) (F0 m 66 ls []) := by
    intro d1 d2 u66 hf ls H locs hl hH hS
    unfold f_X3_add_j66 at hf
    refine lv_aload_n hx hb dX3_add_66 rfl (lv_at hl 0 rfl) ?_
    refine m_get X hK hH 1 (by decide) rfl (mg_1 _ _) q1060 dX3_add_67 ?_
    refine lv_iload_n hx hb dX3_add_70 rfl (lv_at hl 1 rfl) ?_
    obtain ⟨v6, hv, hf⟩ := bd hf
    refine m_iald X hK hH 1 (mc_1 _ _) hv dX3_add_71 ?_
    refine lv_iconst (v := (3 : Int32)) hx hb dX3_add_72 (by decide) ?_
    refine lv_icmp_ne (tgt := 175) hx hb dX3_add_73 (by decide) (fun c_ => ?_) (fun c_ => ?_)
    · have hf := (if_neg c_).symm.trans hf
      exact J175 d1 d2 u66 hf _ _ _ (lv_sub hl [0, 1, 2] rfl) hH hS
    · have hf := (if_pos c_).symm.trans hf
      refine lv_aload_n hx hb dX3_add_76 rfl (lv_at hl 0 rfl) ?_
      refine m_get X hK hH 2 (by decide) rfl (mg_2 _ _) q1061 dX3_add_77 ?_
      refine lv_iload_n hx hb dX3_add_80 rfl (lv_at hl 1 rfl) ?_
      obtain ⟨v10, hv, hf⟩ := bd hf
      refine m_iald X hK hH 2 (mc_2 _ _) hv dX3_add_81 ?_
      refine lv_aload_n hx hb dX3_add_82 rfl (lv_at hl 0 rfl) ?_
      refine m_get X hK hH 3 (by decide) rfl (mg_3 _ _) q1062 dX3_add_83 ?_
      refine lv_iload_n hx hb dX3_add_86 rfl (lv_at hl 1 rfl) ?_
      obtain ⟨v11, hv, hf⟩ := bd hf
      refine m_iald X hK hH 3 (mc_3 _ _) hv dX3_add_87 ?_
      refine lv_lload_n hx hb dX3_add_88 rfl (lv_at hl 2 rfl) ?_
      refine lv_lload_n hx hb dX3_add_89 rfl (lv_at hl 2 rfl) ?_
      obtain ⟨v12, hv, hf⟩ := bd hf
      refine r_Si (As := [.int v10, .int v11, .long d2, .long d2]) (rest := []) X (met_X3_productOf l G _ N v10 v11 d2 d2 v12 hv) cs_X3_productOf q1049 rfl rfl hl.1 (Nat.le_of_ble_eq_true rfl) ⟨Nat.le_of_ble_eq_true rfl, Nat.le_of_ble_eq_true rfl⟩ ⟨Nat.le_refl _, Nat.le_refl _⟩ dX3_add_90 hK hH hS (fun H locs hH hS => ?_)
      refine lv_if_ne (tgt := 100) hx hb dX3_add_93 (by decide) (fun c_ => ?_) (fun c_ => ?_)
      · have hf := (if_neg c_).symm.trans hf
        refine lv_iconst (v := (0 : Int32)) hx hb dX3_add_100 (by decide) ?_
        exact J101 d1 d2 (0 : Int32) u66 hf _ _ _ (lv_sub hl [0, 1, 2] rfl) hH hS
      · have hf := (if_pos c_).symm.trans hf
        refine lv_iconst (v := (1 : Int32)) hx hb dX3_add_96 (by decide) ?_
        refine lv_goto (tgt := 101) hx hb dX3_add_97 (by decide) ?_
        exact J101 d1 d2 (1 : Int32) u66 hf _ _ _ (lv_sub hl [0, 1, 2] rfl) hH hS
  refine lv_iload_n hx hb dX3_add_0 rfl (lv_at hl 1 rfl) ?_
  obtain ⟨v1, hv, hf⟩ := bd hf
  refine r_Si (As := [.int a1]) (rest := []) X (met_X3_isPlace l G _ N a1 v1 hv) cs_X3_isPlace q1136 rfl rfl hl.1 (Nat.le_of_ble_eq_true rfl) ⟨Nat.le_of_ble_eq_true rfl, Nat.le_of_ble_eq_true rfl⟩ ⟨Nat.le_refl _, Nat.le_refl _⟩ dX3_add_1 hK hH hS (fun H locs hH hS => ?_)
  refine lv_if_ne (tgt := 9) hx hb dX3_add_4 (by decide) (fun c_ => ?_) (fun c_ => ?_)
  · have hf := (if_neg c_).symm.trans hf
    refine lv_aload_n hx hb dX3_add_9 rfl (lv_at hl 0 rfl) ?_
    refine lv_iload_n hx hb dX3_add_10 rfl (lv_at hl 1 rfl) ?_
    obtain ⟨v2, hv, hf⟩ := bd hf
    refine r_Vi (As := [.int a1]) (rest := []) X (met_X3_isEmpty l G _ _ _ N st a1 v2 hv) cv_X3_isEmpty q1148 (m_recv hK hH) rfl rfl hl.1 (Nat.le_of_ble_eq_true rfl) ⟨Nat.le_of_ble_eq_true rfl, Nat.le_of_ble_eq_true rfl⟩ ⟨Nat.le_refl _, Nat.le_refl _⟩ dX3_add_11 hK hH hS (fun H locs hH hS => ?_)
    refine lv_if_eq (tgt := 20) hx hb dX3_add_14 (by decide) (fun c_ => ?_) (fun c_ => ?_)
    · have hf := (if_pos c_).symm.trans hf
      refine lv_aload_n hx hb dX3_add_20 rfl (lv_at hl 0 rfl) ?_
      refine lv_iload_n hx hb dX3_add_21 rfl (lv_at hl 1 rfl) ?_
      refine lv_lload_n hx hb dX3_add_22 rfl (lv_at hl 2 rfl) ?_
      obtain ⟨v3, hv, hf⟩ := bd hf
      refine r_Vi (As := [.int a1, .long a2]) (rest := []) X (met_X3_hasWord l G _ _ _ N st a1 a2 v3 hv) cv_X3_hasWord q1152 (m_recv hK hH) rfl rfl hl.1 (Nat.le_of_ble_eq_true rfl) ⟨Nat.le_of_ble_eq_true rfl, Nat.le_of_ble_eq_true rfl⟩ ⟨Nat.le_refl _, Nat.le_refl _⟩ dX3_add_23 hK hH hS (fun H locs hH hS => ?_)
      refine lv_if_ne (tgt := 31) hx hb dX3_add_26 (by decide) (fun c_ => ?_) (fun c_ => ?_)
      · have hf := (if_neg c_).symm.trans hf
        refine lv_aload_n hx hb dX3_add_31 rfl (lv_at hl 0 rfl) ?_
        refine m_get X hK hH 1 (by decide) rfl (mg_1 _ _) q1060 dX3_add_32 ?_
        refine lv_iload_n hx hb dX3_add_35 rfl (lv_at hl 1 rfl) ?_
        obtain ⟨v4, hv, hf⟩ := bd hf
        refine m_iald X hK hH 1 (mc_1 _ _) hv dX3_add_36 ?_
        refine lv_iconst (v := (2 : Int32)) hx hb dX3_add_37 (by decide) ?_
        refine lv_icmp_ne (tgt := 44) hx hb dX3_add_38 (by decide) (fun c_ => ?_) (fun c_ => ?_)
        · have hf := (if_neg c_).symm.trans hf
          refine lv_aload_n hx hb dX3_add_44 rfl (lv_at hl 0 rfl) ?_
          refine m_get X hK hH 1 (by decide) rfl (mg_1 _ _) q1060 dX3_add_45 ?_
          refine lv_iload_n hx hb dX3_add_48 rfl (lv_at hl 1 rfl) ?_
          obtain ⟨v5, hv, hf⟩ := bd hf
          refine m_iald X hK hH 1 (mc_1 _ _) hv dX3_add_49 ?_
          refine lv_if_ne (tgt := 66) hx hb dX3_add_50 (by decide) (fun c_ => ?_) (fun c_ => ?_)
          · have hf := (if_neg c_).symm.trans hf
            exact J66 a1 a2 st hf _ _ _ (lv_sub hl [0, 1, 2] rfl) hH hS
          · have hf := (if_pos c_).symm.trans hf
            refine lv_aload_n hx hb dX3_add_53 rfl (lv_at hl 0 rfl) ?_
            refine lv_iload_n hx hb dX3_add_54 rfl (lv_at hl 1 rfl) ?_
            refine lv_lload_n hx hb dX3_add_55 rfl (lv_at hl 2 rfl) ?_
            obtain ⟨v19, hv, hf⟩ := bd hf
            refine r_Vi (As := [.int a1, .long a2]) (rest := []) X (met_X3_find l G _ _ _ N st a1 a2 v19 hv) cv_X3_find q1156 (m_recv hK hH) rfl rfl hl.1 (Nat.le_of_ble_eq_true rfl) ⟨Nat.le_of_ble_eq_true rfl, Nat.le_of_ble_eq_true rfl⟩ ⟨Nat.le_refl _, Nat.le_refl _⟩ dX3_add_56 hK hH hS (fun H locs hH hS => ?_)
            refine lv_iconst (v := (-1 : Int32)) hx hb dX3_add_59 (by decide) ?_
            refine lv_icmp_eq (tgt := 66) hx hb dX3_add_60 (by decide) (fun c_ => ?_) (fun c_ => ?_)
            · have hf := (if_pos c_).symm.trans hf
              exact J66 a1 a2 st hf _ _ _ (lv_sub hl [0, 1, 2] rfl) hH hS
            · have hf := (if_neg c_).symm.trans hf
              refine lv_bipush (v := (-3 : Int32)) hx hb dX3_add_63 (by decide) ?_
              cases hf
              exact r_iret X dX3_add_65 (Nat.le_refl _) (Nat.le_refl _) rfl hH hS
        · have hf := (if_pos c_).symm.trans hf
          refine lv_bipush (v := (-12 : Int32)) hx hb dX3_add_41 (by decide) ?_
          cases hf
          exact r_iret X dX3_add_43 (Nat.le_refl _) (Nat.le_refl _) rfl hH hS
      · have hf := (if_pos c_).symm.trans hf
        refine lv_iconst (v := (-1 : Int32)) hx hb dX3_add_29 (by decide) ?_
        cases hf
        exact r_iret X dX3_add_30 (Nat.le_refl _) (Nat.le_refl _) rfl hH hS
    · have hf := (if_neg c_).symm.trans hf
      refine lv_bipush (v := (-11 : Int32)) hx hb dX3_add_17 (by decide) ?_
      cases hf
      exact r_iret X dX3_add_19 (Nat.le_refl _) (Nat.le_refl _) rfl hH hS
  · have hf := (if_pos c_).symm.trans hf
    refine lv_iconst (v := (-1 : Int32)) hx hb dX3_add_7 (by decide) ?_
    cases hf
    exact r_iret X dX3_add_8 (Nat.le_refl _) (Nat.le_refl _) rfl hH hS
theorem cv_X3_asideOnce : CalV "WordBenchModel" yX3_asideOnce cX3_asideOnce 5 none 2 := ⟨q1351, qs43, q57, q1352, by decide +kernel⟩
set_option maxHeartbeats 4000000 in
theorem met_X3_asideOnce (l : Launch) (G : GG) (sz M : Nat) (rst : Nat → Option AE) (N : Nat) (st : MS) (a1 : Int64) (a3 : Int32) (stf : MS) (hf : f_X3_asideOnce N st a1 a3 = some stf) : Con l yX3_asideOnce cX3_asideOnce 5 none 0 0 0 G (sz, MH M st rst) [.ref M, .long a1, .int a3] (sz, MH M stf rst) none := by
  refine con_of (by decide) (Nat.le_of_ble_eq_true rfl) ?_
  intro p e s m below meth c ls X hK hH hl hS
  have hx := X.1
  have hb := X.2.1
  have hown : s.vm.findClass RX3 = some m.cls := X.2.2.2.2.1
  have hts := X.2.2.2.2.2.1
  have hl : lv_has ls 5 [(0, .ref M), (1, .long a1), (3, .int a3)] := hl
  unfold f_X3_asideOnce at hf
  have L3 : ∀ (c1 : Int64) (c3 : Int32) (t3 : MS) (n : Nat) (s3 : Int32) (r3 : (Unit ⊕ Unit)), lp (f_X3_asideOnce_b3 N c1 c3 t3) n s3 = some r3 → (match r3 with | .inl e3 => (∀ (ls : Array Slot) (H : Heap) (locs : List Loc), lv_has ls 5 [] → HH G (sz, MH M t3 rst) H → va_S (AG G) s.heap H locs → W p l e (rm_ 0 0 0) s m ([.ref M, .long a1, .int a3] : List Value).toArray below meth c H locs 0 0 (MQ below (PostC G (sz, MH M stf rst) none) ([.ref M, .long a1, .int a3] : List Value).toArray s 0 0 (AG G)) (F0 m 28 ls [])) | .inr e3 => (∀ (ls : Array Slot) (H : Heap) (locs : List Loc), lv_has ls 5 [(0, .ref M), (1, .long c1)] → HH G (sz, MH M t3 rst) H → va_S (AG G) s.heap H locs → W p l e (rm_ 0 0 0) s m ([.ref M, .long a1, .int a3] : List Value).toArray below meth c H locs 0 0 (MQ below (PostC G (sz, MH M stf rst) none) ([.ref M, .long a1, .int a3] : List Value).toArray s 0 0 (AG G)) (F0 m 35 ls []))) → ∀ (ls : Array Slot) (H : Heap) (locs : List Loc), lv_has ls 5 [(0, .ref M), (1, .long c1), (3, .int c3), (4, .int s3)] → HH G (sz, MH M t3 rst) H → va_S (AG G) s.heap H locs → W p l e (rm_ 0 0 0) s m ([.ref M, .long a1, .int a3] : List Value).toArray below meth c H locs 0 0 (MQ below (PostC G (sz, MH M stf rst) none) ([.ref M, .long a1, .int a3] : List Value).toArray s 0 0 (AG G)) (F0 m 3 ls []) := by
    intro c1 c3 t3 n s3 r3 hr hq
    refine lp_ind (P := fun s3 => ∀ (ls : Array Slot) (H : Heap) (locs : List Loc), lv_has ls 5 [(0, .ref M), (1, .long c1), (3, .int c3), (4, .int s3)] → HH G (sz, MH M t3 rst) H → va_S (AG G) s.heap H locs → W p l e (rm_ 0 0 0) s m ([.ref M, .long a1, .int a3] : List Value).toArray below meth c H locs 0 0 (MQ below (PostC G (sz, MH M stf rst) none) ([.ref M, .long a1, .int a3] : List Value).toArray s 0 0 (AG G)) (F0 m 3 ls [])) (Q := fun r3 => match r3 with | .inl e3 => (∀ (ls : Array Slot) (H : Heap) (locs : List Loc), lv_has ls 5 [] → HH G (sz, MH M t3 rst) H → va_S (AG G) s.heap H locs → W p l e (rm_ 0 0 0) s m ([.ref M, .long a1, .int a3] : List Value).toArray below meth c H locs 0 0 (MQ below (PostC G (sz, MH M stf rst) none) ([.ref M, .long a1, .int a3] : List Value).toArray s 0 0 (AG G)) (F0 m 28 ls [])) | .inr e3 => (∀ (ls : Array Slot) (H : Heap) (locs : List Loc), lv_has ls 5 [(0, .ref M), (1, .long c1)] → HH G (sz, MH M t3 rst) H → va_S (AG G) s.heap H locs → W p l e (rm_ 0 0 0) s m ([.ref M, .long a1, .int a3] : List Value).toArray below meth c H locs 0 0 (MQ below (PostC G (sz, MH M stf rst) none) ([.ref M, .long a1, .int a3] : List Value).toArray s 0 0 (AG G)) (F0 m 35 ls []))) ?_ n s3 r3 hr hq
    intro s3 x3 hf hx3 ls H locs hl hH hS
    unfold f_X3_asideOnce_b3 at hf
    refine lv_iload hx hb dX3_asideOnce_3 (lv_at hl 3 rfl) ?_
    refine lv_aload_n hx hb dX3_asideOnce_5 rfl (lv_at hl 0 rfl) ?_
    refine m_get X hK hH 18 (by decide) rfl (mg_18 _ _) q1077 dX3_asideOnce_6 ?_
    refine lv_icmp_ge (tgt := 35) hx hb dX3_asideOnce_9 (by decide) (fun c_ => ?_) (fun c_ => ?_)
    · have hf := (if_pos c_).symm.trans hf
      cases hf
      exact hx3 _ _ _ (lv_sub hl [0, 1] rfl) hH hS
    · have hf := (if_neg c_).symm.trans hf
      refine lv_iload_n hx hb dX3_asideOnce_12 rfl (lv_at hl 2 rfl) ?_
      refine lv_if_eq (tgt := 35) hx hb dX3_asideOnce_13 (by decide) (fun c_ => ?_) (fun c_ => ?_)
      · have hf := (if_pos c_).symm.trans hf
        cases hf
        exact hx3 _ _ _ (lv_sub hl [0, 1] rfl) hH hS
      · have hf := (if_neg c_).symm.trans hf
        refine lv_aload_n hx hb dX3_asideOnce_16 rfl (lv_at hl 0 rfl) ?_
        refine m_get X hK hH 17 (by decide) rfl (mg_17 _ _) q1076 dX3_asideOnce_17 ?_
        refine lv_iload hx hb dX3_asideOnce_20 (lv_at hl 3 rfl) ?_
        obtain ⟨v1, hv, hf⟩ := bd hf
        refine m_lald X hK hH 13 (mc_17 _ _) hv dX3_asideOnce_22 ?_
        refine lv_lload_n hx hb dX3_asideOnce_23 rfl (lv_at hl 1 rfl) ?_
        refine W.lcmp hx hb dX3_asideOnce_24 ?_
        refine lv_if_ne (tgt := 29) hx hb dX3_asideOnce_25 (by decide) (fun c_ => ?_) (fun c_ => ?_)
        · have hf := (if_neg (fun z => c_ ((lg_cmp_eq v1 c1).mpr z))).symm.trans hf
          refine lv_iinc (v := (s3 + 1)) (lv' := [(4, .int (s3 + 1)), (0, .ref M), (1, .long c1), (3, .int c3)]) hx hb dX3_asideOnce_29 hl (k := 3) rfl rfl (by decide) rfl (fun ls hl => ?_)
          refine lv_goto (tgt := 3) hx hb dX3_asideOnce_32 (by decide) ?_
          cases hf
          exact hx3 _ _ _ (lv_sub hl [1, 2, 3, 0] rfl) hH hS
        · have hf := (if_pos ((lg_cmp_eq v1 c1).mp c_)).symm.trans hf
          cases hf
          exact hx3 _ _ _ (lv_sub hl [] rfl) hH hS
  have J35 : ∀ (d1 : Int64) (u35 : MS), f_X3_asideOnce_j35 N d1 u35 = some stf → ∀ (ls : Array Slot) (H : Heap) (locs : List Loc), lv_has ls 5 [(0, .ref M), (1, .long d1)] → HH G (sz, MH M u35 rst) H → va_S (AG G) s.heap H locs → W p l e (rm_ 0 0 0) s m ([.ref M, .long a1, .int a3] : List Value).toArray below meth c H locs 0 0 (MQ below (PostC G (sz, MH M stf rst) none) ([.ref M, .long a1, .int a3] : List Value).toArray s 0 0 (AG G)) (F0 m 35 ls []) := by
    intro d1 u35 hf ls H locs hl hH hS
    unfold f_X3_asideOnce_j35 at hf
    refine lv_aload_n hx hb dX3_asideOnce_35 rfl (lv_at hl 0 rfl) ?_
    refine m_get X hK hH 17 (by decide) rfl (mg_17 _ _) q1076 dX3_asideOnce_36 ?_
    refine lv_aload_n hx hb dX3_asideOnce_39 rfl (lv_at hl 0 rfl) ?_
    refine m_get X hK hH 18 (by decide) rfl (mg_18 _ _) q1077 dX3_asideOnce_40 ?_
    refine lv_lload_n hx hb dX3_asideOnce_43 rfl (lv_at hl 1 rfl) ?_
    obtain ⟨w3, hv, hf⟩ := bd hf
    refine m_last X hK hH hS 13 (mc_17 _ _) hv (mt_17 _ _ _) dX3_asideOnce_44 (fun H locs hH hS => ?_)
    refine lv_aload_n hx hb dX3_asideOnce_45 rfl (lv_at hl 0 rfl) ?_
    refine lv_dup hx hb dX3_asideOnce_46 rfl ?_
    refine m_get X hK hH 18 (by decide) rfl (mg_18 _ _) q1077 dX3_asideOnce_47 ?_
    refine lv_iconst (v := (1 : Int32)) hx hb dX3_asideOnce_50 (by decide) ?_
    refine lv_iadd hx hb dX3_asideOnce_51 ?_
    refine m_put (ty := .int) X hK hH hS 18 (by decide) rfl (mp_18 _ _ _) q1077 rfl (by decide +kernel) rfl rfl dX3_asideOnce_52 (fun H locs hH hS => ?_)
    cases hf
    exact r_vret X dX3_asideOnce_55 (Nat.le_refl _) (Nat.le_refl _) rfl hH hS
  refine lv_iconst (v := (0 : Int32)) hx hb dX3_asideOnce_0 (by decide) ?_
  refine lv_istore (lv' := [(4, .int (0 : Int32)), (0, .ref M), (1, .long a1), (3, .int a3)]) hx hb dX3_asideOnce_1 hl (by decide) rfl (fun ls hl => ?_)
  obtain ⟨r3_2, hr, hf⟩ := bd hf
  refine L3 a1 a3 st N _ r3_2 hr ?_ _ _ _ (lv_sub hl [1, 2, 3, 0] rfl) hH hS
  rcases r3_2 with r3_2 | r3_2
  · intro ls H locs hl hH hS
    dsimp only at hf
    cases hf
    exact r_vret X dX3_asideOnce_28 (Nat.le_refl _) (Nat.le_refl _) rfl hH hS
  · intro ls H locs hl hH hS
    dsimp only at hf
    exact J35 a1 st hf _ _ _ (lv_sub hl [0, 1] rfl) hH hS
theorem cv_X3_lacks : CalV "WordBenchModel" yX3_lacks cX3_lacks 2 (some .int) 1 := ⟨q1238, qs29, q57, q1239, by decide +kernel⟩
set_option maxHeartbeats 4000000 in
theorem met_X3_lacks (l : Launch) (G : GG) (sz M : Nat) (rst : Nat → Option AE) (N : Nat) (st : MS) (a1 : Int32) (rf : Int32) (hf : f_X3_lacks N st a1 = some rf) : Con l yX3_lacks cX3_lacks 2 (some .int) 2 0 0 G (sz, MH M st rst) [.ref M, .int a1] (sz, MH M st rst) (some (.int rf)) := by
  refine con_of (by decide) (Nat.le_of_ble_eq_true rfl) ?_
  intro p e s m below meth c ls X hK hH hl hS
  have hx := X.1
  have hb := X.2.1
  have hown : s.vm.findClass RX3 = some m.cls := X.2.2.2.2.1
  have hts := X.2.2.2.2.2.1
  have hl : lv_has ls 2 [(0, .ref M), (1, .int a1)] := hl
  unfold f_X3_lacks at hf
  refine lv_iload_n hx hb dX3_lacks_0 rfl (lv_at hl 1 rfl) ?_
  obtain ⟨v1, hv, hf⟩ := bd hf
  refine r_Si (As := [.int a1]) (rest := []) X (met_X3_isPlace l G _ N a1 v1 hv) cs_X3_isPlace q1136 rfl rfl hl.1 (Nat.le_of_ble_eq_true rfl) ⟨Nat.le_of_ble_eq_true rfl, Nat.le_of_ble_eq_true rfl⟩ ⟨Nat.le_refl _, Nat.le_refl _⟩ dX3_lacks_1 hK hH hS (fun H locs hH hS => ?_)
  refine lv_if_ne (tgt := 11) hx hb dX3_lacks_4 (by decide) (fun c_ => ?_) (fun c_ => ?_)
  · have hf := (if_neg c_).symm.trans hf
    refine lv_aload_n hx hb dX3_lacks_11 rfl (lv_at hl 0 rfl) ?_
    refine lv_iload_n hx hb dX3_lacks_12 rfl (lv_at hl 1 rfl) ?_
    obtain ⟨v2, hv, hf⟩ := bd hf
    refine r_Vi (As := [.int a1]) (rest := []) X (met_X3_isEmpty l G _ _ _ N st a1 v2 hv) cv_X3_isEmpty q1148 (m_recv hK hH) rfl rfl hl.1 (Nat.le_of_ble_eq_true rfl) ⟨Nat.le_of_ble_eq_true rfl, Nat.le_of_ble_eq_true rfl⟩ ⟨Nat.le_refl _, Nat.le_refl _⟩ dX3_lacks_13 hK hH hS (fun H locs hH hS => ?_)
    refine lv_if_eq (tgt := 24) hx hb dX3_lacks_16 (by decide) (fun c_ => ?_) (fun c_ => ?_)
    · have hf := (if_pos c_).symm.trans hf
      refine lv_iconst (v := (0 : Int32)) hx hb dX3_lacks_24 (by decide) ?_
      cases hf
      exact r_iret X dX3_lacks_25 (Nat.le_refl _) (Nat.le_refl _) rfl hH hS
    · have hf := (if_neg c_).symm.trans hf
      refine lv_bipush (v := (-11 : Int32)) hx hb dX3_lacks_19 (by decide) ?_
      refine lv_goto (tgt := 25) hx hb dX3_lacks_21 (by decide) ?_
      cases hf
      exact r_iret X dX3_lacks_25 (Nat.le_refl _) (Nat.le_refl _) rfl hH hS
  · have hf := (if_pos c_).symm.trans hf
    refine lv_iconst (v := (-1 : Int32)) hx hb dX3_lacks_7 (by decide) ?_
    refine lv_goto (tgt := 25) hx hb dX3_lacks_8 (by decide) ?_
    cases hf
    exact r_iret X dX3_lacks_25 (Nat.le_refl _) (Nat.le_refl _) rfl hH hS
theorem cs_X3_inverse : CalS yX3_inverse cX3_inverse 3 (some .int) 2 := ⟨q1185, q57, q1186, by decide +kernel, by decide +kernel, by decide +kernel⟩
set_option maxHeartbeats 4000000 in
theorem met_X3_inverse (l : Launch) (G : GG) (σ : SG) (N : Nat) (a0 : Int32) (a1 : Int32) (rf : Int32) (hf : f_X3_inverse N a0 a1 = some rf) : Con l yX3_inverse cX3_inverse 3 (some .int) 1 0 0 G σ [.int a0, .int a1] σ (some (.int rf)) := by
  refine con_of (by decide) (Nat.le_of_ble_eq_true rfl) ?_
  intro p e s m below meth c ls X hK hH hl hS
  have hx := X.1
  have hb := X.2.1
  have hown : s.vm.findClass RX3 = some m.cls := X.2.2.2.2.1
  have hts := X.2.2.2.2.2.1
  have hl : lv_has ls 3 [(0, .int a0), (1, .int a1)] := hl
  unfold f_X3_inverse at hf
  have L2 : ∀ (c0 : Int32) (c1 : Int32) (n : Nat) (s2 : Int32) (r2 : Int32), lp (f_X3_inverse_b2 N c0 c1) n s2 = some r2 → (∀ (ls : Array Slot) (H : Heap) (locs : List Loc), lv_has ls 3 [(2, .int r2)] → HH G σ H → va_S (AG G) s.heap H locs → W p l e (rm_ 1 0 0) s m ([.int a0, .int a1] : List Value).toArray below meth c H locs 0 0 (MQ below (PostC G σ (some (.int rf))) ([.int a0, .int a1] : List Value).toArray s 0 0 (AG G)) (F0 m 18 ls [])) → ∀ (ls : Array Slot) (H : Heap) (locs : List Loc), lv_has ls 3 [(0, .int c0), (1, .int c1), (2, .int s2)] → HH G σ H → va_S (AG G) s.heap H locs → W p l e (rm_ 1 0 0) s m ([.int a0, .int a1] : List Value).toArray below meth c H locs 0 0 (MQ below (PostC G σ (some (.int rf))) ([.int a0, .int a1] : List Value).toArray s 0 0 (AG G)) (F0 m 2 ls []) := by
    intro c0 c1 n s2 r2 hr hq
    refine lp_ind (P := fun s2 => ∀ (ls : Array Slot) (H : Heap) (locs : List Loc), lv_has ls 3 [(0, .int c0), (1, .int c1), (2, .int s2)] → HH G σ H → va_S (AG G) s.heap H locs → W p l e (rm_ 1 0 0) s m ([.int a0, .int a1] : List Value).toArray below meth c H locs 0 0 (MQ below (PostC G σ (some (.int rf))) ([.int a0, .int a1] : List Value).toArray s 0 0 (AG G)) (F0 m 2 ls [])) (Q := fun r2 => ∀ (ls : Array Slot) (H : Heap) (locs : List Loc), lv_has ls 3 [(2, .int r2)] → HH G σ H → va_S (AG G) s.heap H locs → W p l e (rm_ 1 0 0) s m ([.int a0, .int a1] : List Value).toArray below meth c H locs 0 0 (MQ below (PostC G σ (some (.int rf))) ([.int a0, .int a1] : List Value).toArray s 0 0 (AG G)) (F0 m 18 ls [])) ?_ n s2 r2 hr hq
    intro s2 x2 hf hx2 ls H locs hl hH hS
    unfold f_X3_inverse_b2 at hf
    refine lv_iload_n hx hb dX3_inverse_2 rfl (lv_at hl 0 rfl) ?_
    refine lv_iload_n hx hb dX3_inverse_3 rfl (lv_at hl 1 rfl) ?_
    refine lv_iload_n hx hb dX3_inverse_4 rfl (lv_at hl 2 rfl) ?_
    obtain ⟨v1, hv, hf⟩ := bd hf
    refine r_Si (As := [.int c0, .int c1, .int s2]) (rest := []) X (met_X3_times l G _ N c0 c1 s2 v1 hv) cs_X3_times q1032 rfl rfl hl.1 (Nat.le_of_ble_eq_true rfl) ⟨Nat.le_of_ble_eq_true rfl, Nat.le_of_ble_eq_true rfl⟩ ⟨Nat.le_refl _, Nat.le_refl _⟩ dX3_inverse_5 hK hH hS (fun H locs hH hS => ?_)
    refine lv_iconst (v := (1 : Int32)) hx hb dX3_inverse_8 (by decide) ?_
    refine lv_icmp_eq (tgt := 18) hx hb dX3_inverse_9 (by decide) (fun c_ => ?_) (fun c_ => ?_)
    · have hf := (if_pos c_).symm.trans hf
      cases hf
      exact hx2 _ _ _ (lv_sub hl [2] rfl) hH hS
    · have hf := (if_neg c_).symm.trans hf
      refine lv_iinc (v := (s2 + 1)) (lv' := [(2, .int (s2 + 1)), (0, .int c0), (1, .int c1)]) hx hb dX3_inverse_12 hl (k := 2) rfl rfl (by decide) rfl (fun ls hl => ?_)
      refine lv_goto (tgt := 2) hx hb dX3_inverse_15 (by decide) ?_
      cases hf
      exact hx2 _ _ _ (lv_sub hl [1, 2, 0] rfl) hH hS
  refine lv_iconst (v := (1 : Int32)) hx hb dX3_inverse_0 (by decide) ?_
  refine lv_istore_n (lv' := [(2, .int (1 : Int32)), (0, .int a0), (1, .int a1)]) hx hb dX3_inverse_1 rfl hl (by decide) rfl (fun ls hl => ?_)
  obtain ⟨r2_2, hr, hf⟩ := bd hf
  refine L2 a0 a1 N _ r2_2 hr ?_ _ _ _ (lv_sub hl [1, 2, 0] rfl) hH hS
  intro ls H locs hl hH hS
  refine lv_iload_n hx hb dX3_inverse_18 rfl (lv_at hl 0 rfl) ?_
  cases hf
  exact r_iret X dX3_inverse_19 (Nat.le_refl _) (Nat.le_refl _) rfl hH hS
theorem cs_X3_sumOf : CalS yX3_sumOf cX3_sumOf 10 (some .long) 5 := ⟨q1027, q57, q1028, by decide +kernel, by decide +kernel, by decide +kernel⟩
set_option maxHeartbeats 4000000 in
theorem met_X3_sumOf (l : Launch) (G : GG) (σ : SG) (N : Nat) (a0 : Int32) (a1 : Int32) (a2 : Int64) (a4 : Int64) (a6 : Int32) (rf : Int64) (hf : f_X3_sumOf N a0 a1 a2 a4 a6 = some rf) : Con l yX3_sumOf cX3_sumOf 10 (some .long) 2 0 0 G σ [.int a0, .int a1, .long a2, .long a4, .int a6] σ (some (.long rf)) := by
  refine con_of (by decide) (Nat.le_of_ble_eq_true rfl) ?_
  intro p e s m below meth c ls X hK hH hl hS
  have hx := X.1
  have hb := X.2.1
  have hown : s.vm.findClass RX3 = some m.cls := X.2.2.2.2.1
  have hts := X.2.2.2.2.2.1
  have hl : lv_has ls 10 [(0, .int a0), (1, .int a1), (2, .long a2), (4, .long a4), (6, .int a6)] := hl
  unfold f_X3_sumOf at hf
  have L6 : ∀ (c0 : Int32) (c1 : Int32) (c2 : Int64) (c4 : Int64) (c6 : Int32) (n : Nat) (s6 : (Int64 × Int32)) (r6 : Int64), lp (f_X3_sumOf_b6 N c0 c1 c2 c4 c6) n s6 = some r6 → (∀ (ls : Array Slot) (H : Heap) (locs : List Loc), lv_has ls 10 [(7, .long r6)] → HH G σ H → va_S (AG G) s.heap H locs → W p l e (rm_ 2 0 0) s m ([.int a0, .int a1, .long a2, .long a4, .int a6] : List Value).toArray below meth c H locs 0 0 (MQ below (PostC G σ (some (.long rf))) ([.int a0, .int a1, .long a2, .long a4, .int a6] : List Value).toArray s 0 0 (AG G)) (F0 m 54 ls [])) → ∀ (ls : Array Slot) (H : Heap) (locs : List Loc), lv_has ls 10 [(0, .int c0), (1, .int c1), (2, .long c2), (4, .long c4), (6, .int c6), (7, .long s6.1), (9, .int s6.2)] → HH G σ H → va_S (AG G) s.heap H locs → W p l e (rm_ 2 0 0) s m ([.int a0, .int a1, .long a2, .long a4, .int a6] : List Value).toArray below meth c H locs 0 0 (MQ below (PostC G σ (some (.long rf))) ([.int a0, .int a1, .long a2, .long a4, .int a6] : List Value).toArray s 0 0 (AG G)) (F0 m 6 ls []) := by
    intro c0 c1 c2 c4 c6 n s6 r6 hr hq
    refine lp_ind (P := fun s6 => ∀ (ls : Array Slot) (H : Heap) (locs : List Loc), lv_has ls 10 [(0, .int c0), (1, .int c1), (2, .long c2), (4, .long c4), (6, .int c6), (7, .long s6.1), (9, .int s6.2)] → HH G σ H → va_S (AG G) s.heap H locs → W p l e (rm_ 2 0 0) s m ([.int a0, .int a1, .long a2, .long a4, .int a6] : List Value).toArray below meth c H locs 0 0 (MQ below (PostC G σ (some (.long rf))) ([.int a0, .int a1, .long a2, .long a4, .int a6] : List Value).toArray s 0 0 (AG G)) (F0 m 6 ls [])) (Q := fun r6 => ∀ (ls : Array Slot) (H : Heap) (locs : List Loc), lv_has ls 10 [(7, .long r6)] → HH G σ H → va_S (AG G) s.heap H locs → W p l e (rm_ 2 0 0) s m ([.int a0, .int a1, .long a2, .long a4, .int a6] : List Value).toArray below meth c H locs 0 0 (MQ below (PostC G σ (some (.long rf))) ([.int a0, .int a1, .long a2, .long a4, .int a6] : List Value).toArray s 0 0 (AG G)) (F0 m 54 ls [])) ?_ n s6 r6 hr hq
    intro s6 x6 hf hx6 ls H locs hl hH hS
    unfold f_X3_sumOf_b6 at hf
    refine lv_iload hx hb dX3_sumOf_6 (lv_at hl 6 rfl) ?_
    refine lv_iload_n hx hb dX3_sumOf_8 rfl (lv_at hl 1 rfl) ?_
    refine lv_icmp_ge (tgt := 54) hx hb dX3_sumOf_9 (by decide) (fun c_ => ?_) (fun c_ => ?_)
    · have hf := (if_pos c_).symm.trans hf
      cases hf
      exact hx6 _ _ _ (lv_sub hl [5] rfl) hH hS
    · have hf := (if_neg c_).symm.trans hf
      refine lv_iload_n hx hb dX3_sumOf_12 rfl (lv_at hl 0 rfl) ?_
      refine lv_i2l (v := (c0).toInt64) hx hb dX3_sumOf_13 rfl ?_
      refine lv_lload hx hb dX3_sumOf_14 (lv_at hl 5 rfl) ?_
      refine lv_lmul hx hb dX3_sumOf_16 ?_
      refine lv_iload_n hx hb dX3_sumOf_17 rfl (lv_at hl 0 rfl) ?_
      refine lv_iload_n hx hb dX3_sumOf_18 rfl (lv_at hl 0 rfl) ?_
      refine lv_iload_n hx hb dX3_sumOf_19 rfl (lv_at hl 1 rfl) ?_
      refine lv_lload_n hx hb dX3_sumOf_20 rfl (lv_at hl 2 rfl) ?_
      refine lv_iload hx hb dX3_sumOf_21 (lv_at hl 6 rfl) ?_
      obtain ⟨v1, hv, hf⟩ := bd hf
      refine r_Si (As := [.int c0, .int c1, .long c2, .int s6.2]) (rest := [.int c0, .long (((c0).toInt64) * s6.1)]) X (met_X3_letter l G _ N c0 c1 c2 s6.2 v1 hv) cs_X3_letter q1029 rfl rfl hl.1 (Nat.le_of_ble_eq_true rfl) ⟨Nat.le_of_ble_eq_true rfl, Nat.le_of_ble_eq_true rfl⟩ ⟨Nat.le_refl _, Nat.le_refl _⟩ dX3_sumOf_23 hK hH hS (fun H locs hH hS => ?_)
      refine lv_iload_n hx hb dX3_sumOf_26 rfl (lv_at hl 0 rfl) ?_
      refine lv_iload hx hb dX3_sumOf_27 (lv_at hl 4 rfl) ?_
      refine lv_iload_n hx hb dX3_sumOf_29 rfl (lv_at hl 0 rfl) ?_
      refine lv_iload_n hx hb dX3_sumOf_30 rfl (lv_at hl 1 rfl) ?_
      refine lv_lload hx hb dX3_sumOf_31 (lv_at hl 3 rfl) ?_
      refine lv_iload hx hb dX3_sumOf_33 (lv_at hl 6 rfl) ?_
      obtain ⟨v2, hv, hf⟩ := bd hf
      refine r_Si (As := [.int c0, .int c1, .long c4, .int s6.2]) (rest := [.int c6, .int c0, .int v1, .int c0, .long (((c0).toInt64) * s6.1)]) X (met_X3_letter l G _ N c0 c1 c4 s6.2 v2 hv) cs_X3_letter q1029 rfl rfl hl.1 (Nat.le_of_ble_eq_true rfl) ⟨Nat.le_of_ble_eq_true rfl, Nat.le_of_ble_eq_true rfl⟩ ⟨Nat.le_refl _, Nat.le_refl _⟩ dX3_sumOf_35 hK hH hS (fun H locs hH hS => ?_)
      obtain ⟨v3, hv, hf⟩ := bd hf
      refine r_Si (As := [.int c0, .int c6, .int v2]) (rest := [.int v1, .int c0, .long (((c0).toInt64) * s6.1)]) X (met_X3_times l G _ N c0 c6 v2 v3 hv) cs_X3_times q1032 rfl rfl hl.1 (Nat.le_of_ble_eq_true rfl) ⟨Nat.le_of_ble_eq_true rfl, Nat.le_of_ble_eq_true rfl⟩ ⟨Nat.le_refl _, Nat.le_refl _⟩ dX3_sumOf_38 hK hH hS (fun H locs hH hS => ?_)
      obtain ⟨v4, hv, hf⟩ := bd hf
      refine r_Si (As := [.int c0, .int v1, .int v3]) (rest := [.long (((c0).toInt64) * s6.1)]) X (met_X3_plus l G _ N c0 v1 v3 v4 hv) cs_X3_plus q1035 rfl rfl hl.1 (Nat.le_of_ble_eq_true rfl) ⟨Nat.le_of_ble_eq_true rfl, Nat.le_of_ble_eq_true rfl⟩ ⟨Nat.le_refl _, Nat.le_refl _⟩ dX3_sumOf_41 hK hH hS (fun H locs hH hS => ?_)
      refine lv_i2l (v := (v4).toInt64) hx hb dX3_sumOf_44 rfl ?_
      refine lv_ladd hx hb dX3_sumOf_45 ?_
      refine lv_lstore (lv' := [(7, .long ((((c0).toInt64) * s6.1) + ((v4).toInt64))), (0, .int c0), (1, .int c1), (2, .long c2), (4, .long c4), (6, .int c6), (9, .int s6.2)]) hx hb dX3_sumOf_46 hl (by decide) rfl (fun ls hl => ?_)
      refine lv_iinc (v := (s6.2 + 1)) (lv' := [(9, .int (s6.2 + 1)), (7, .long ((((c0).toInt64) * s6.1) + ((v4).toInt64))), (0, .int c0), (1, .int c1), (2, .long c2), (4, .long c4), (6, .int c6)]) hx hb dX3_sumOf_48 hl (k := 6) rfl rfl (by decide) rfl (fun ls hl => ?_)
      refine lv_goto (tgt := 6) hx hb dX3_sumOf_51 (by decide) ?_
      cases hf
      exact hx6 _ _ _ (lv_sub hl [2, 3, 4, 5, 6, 1, 0] rfl) hH hS
  refine lv_lconst (v := (0 : Int64)) hx hb dX3_sumOf_0 (by decide) ?_
  refine lv_lstore (lv' := [(7, .long (0 : Int64)), (0, .int a0), (1, .int a1), (2, .long a2), (4, .long a4), (6, .int a6)]) hx hb dX3_sumOf_1 hl (by decide) rfl (fun ls hl => ?_)
  refine lv_iconst (v := (0 : Int32)) hx hb dX3_sumOf_3 (by decide) ?_
  refine lv_istore (lv' := [(9, .int (0 : Int32)), (7, .long (0 : Int64)), (0, .int a0), (1, .int a1), (2, .long a2), (4, .long a4), (6, .int a6)]) hx hb dX3_sumOf_4 hl (by decide) rfl (fun ls hl => ?_)
  obtain ⟨r6_5, hr, hf⟩ := bd hf
  refine L6 a0 a1 a2 a4 a6 N _ r6_5 hr ?_ _ _ _ (lv_sub hl [2, 3, 4, 5, 6, 1, 0] rfl) hH hS
  intro ls H locs hl hH hS
  refine lv_lload hx hb dX3_sumOf_54 (lv_at hl 0 rfl) ?_
  cases hf
  exact r_lret X dX3_sumOf_56 (Nat.le_refl _) (Nat.le_refl _) rfl hH hS
theorem cs_X3_minus : CalS yX3_minus cX3_minus 2 (some .int) 2 := ⟨q1188, q57, q1189, by decide +kernel, by decide +kernel, by decide +kernel⟩
set_option maxHeartbeats 4000000 in
theorem met_X3_minus (l : Launch) (G : GG) (σ : SG) (N : Nat) (a0 : Int32) (a1 : Int32) (rf : Int32) (hf : f_X3_minus N a0 a1 = some rf) : Con l yX3_minus cX3_minus 2 (some .int) 0 0 0 G σ [.int a0, .int a1] σ (some (.int rf)) := by
  refine con_of (by decide) (Nat.le_of_ble_eq_true rfl) ?_
  intro p e s m below meth c ls X hK hH hl hS
  have hx := X.1
  have hb := X.2.1
  have hown : s.vm.findClass RX3 = some m.cls := X.2.2.2.2.1
  have hts := X.2.2.2.2.2.1
  have hl : lv_has ls 2 [(0, .int a0), (1, .int a1)] := hl
  unfold f_X3_minus at hf
  refine lv_iload_n hx hb dX3_minus_0 rfl (lv_at hl 0 rfl) ?_
  refine lv_iconst (v := (4 : Int32)) hx hb dX3_minus_1 (by decide) ?_
  refine lv_icmp_ne (tgt := 9) hx hb dX3_minus_2 (by decide) (fun c_ => ?_) (fun c_ => ?_)
  · have hf := (if_neg c_).symm.trans hf
    refine lv_iload_n hx hb dX3_minus_9 rfl (lv_at hl 0 rfl) ?_
    refine lv_iload_n hx hb dX3_minus_10 rfl (lv_at hl 1 rfl) ?_
    refine lv_isub hx hb dX3_minus_11 ?_
    refine lv_iload_n hx hb dX3_minus_12 rfl (lv_at hl 0 rfl) ?_
    obtain ⟨v1, hv, hf⟩ := bd hf
    refine r_irem hx hb hv dX3_minus_13 ?_
    cases hf
    exact r_iret X dX3_minus_14 (Nat.le_refl _) (Nat.le_refl _) rfl hH hS
  · have hf := (if_pos c_).symm.trans hf
    refine lv_iload_n hx hb dX3_minus_5 rfl (lv_at hl 1 rfl) ?_
    refine lv_goto (tgt := 14) hx hb dX3_minus_6 (by decide) ?_
    cases hf
    exact r_iret X dX3_minus_14 (Nat.le_refl _) (Nat.le_refl _) rfl hH hS
theorem cv_X3_clear : CalV "WordBenchModel" yX3_clear cX3_clear 10 none 1 := ⟨q1182, qs25, q57, q1183, by decide +kernel⟩
set_option maxHeartbeats 4000000 in
theorem met_X3_clear (l : Launch) (G : GG) (sz M : Nat) (rst : Nat → Option AE) (N : Nat) (st : MS) (a1 : Int32) (stf : MS) (hf : f_X3_clear N st a1 = some stf) : Con l yX3_clear cX3_clear 10 none 3 0 0 G (sz, MH M st rst) [.ref M, .int a1] (sz, MH M stf rst) none := by
  refine con_of (by decide) (Nat.le_of_ble_eq_true rfl) ?_
  intro p e s m below meth c ls X hK hH hl hS
  have hx := X.1
  have hb := X.2.1
  have hown : s.vm.findClass RX3 = some m.cls := X.2.2.2.2.1
  have hts := X.2.2.2.2.2.1
  have hl : lv_has ls 10 [(0, .ref M), (1, .int a1)] := hl
  unfold f_X3_clear at hf
  have L25 : ∀ (c1 : Int32) (c2 : Int32) (c3 : Int32) (c4 : Int32) (n : Nat) (s25 : (Int32 × MS)) (r25 : MS), lp (f_X3_clear_b25 N c1 c2 c3 c4) n s25 = some r25 → (∀ (ls : Array Slot) (H : Heap) (locs : List Loc), lv_has ls 10 [(0, .ref M), (2, .int c2), (3, .int c3), (4, .int c4)] → HH G (sz, MH M r25 rst) H → va_S (AG G) s.heap H locs → W p l e (rm_ 3 0 0) s m ([.ref M, .int a1] : List Value).toArray below meth c H locs 0 0 (MQ below (PostC G (sz, MH M stf rst) none) ([.ref M, .int a1] : List Value).toArray s 0 0 (AG G)) (F0 m 58 ls [])) → ∀ (ls : Array Slot) (H : Heap) (locs : List Loc), lv_has ls 10 [(0, .ref M), (1, .int c1), (2, .int c2), (3, .int c3), (4, .int c4), (5, .int s25.1)] → HH G (sz, MH M s25.2 rst) H → va_S (AG G) s.heap H locs → W p l e (rm_ 3 0 0) s m ([.ref M, .int a1] : List Value).toArray below meth c H locs 0 0 (MQ below (PostC G (sz, MH M stf rst) none) ([.ref M, .int a1] : List Value).toArray s 0 0 (AG G)) (F0 m 25 ls []) := by
    intro c1 c2 c3 c4 n s25 r25 hr hq
    refine lp_ind (P := fun s25 => ∀ (ls : Array Slot) (H : Heap) (locs : List Loc), lv_has ls 10 [(0, .ref M), (1, .int c1), (2, .int c2), (3, .int c3), (4, .int c4), (5, .int s25.1)] → HH G (sz, MH M s25.2 rst) H → va_S (AG G) s.heap H locs → W p l e (rm_ 3 0 0) s m ([.ref M, .int a1] : List Value).toArray below meth c H locs 0 0 (MQ below (PostC G (sz, MH M stf rst) none) ([.ref M, .int a1] : List Value).toArray s 0 0 (AG G)) (F0 m 25 ls [])) (Q := fun r25 => ∀ (ls : Array Slot) (H : Heap) (locs : List Loc), lv_has ls 10 [(0, .ref M), (2, .int c2), (3, .int c3), (4, .int c4)] → HH G (sz, MH M r25 rst) H → va_S (AG G) s.heap H locs → W p l e (rm_ 3 0 0) s m ([.ref M, .int a1] : List Value).toArray below meth c H locs 0 0 (MQ below (PostC G (sz, MH M stf rst) none) ([.ref M, .int a1] : List Value).toArray s 0 0 (AG G)) (F0 m 58 ls [])) ?_ n s25 r25 hr hq
    intro s25 x25 hf hx25 ls H locs hl hH hS
    unfold f_X3_clear_b25 at hf
    refine lv_iload hx hb dX3_clear_25 (lv_at hl 5 rfl) ?_
    refine lv_iload hx hb dX3_clear_27 (lv_at hl 4 rfl) ?_
    refine lv_icmp_ge (tgt := 58) hx hb dX3_clear_29 (by decide) (fun c_ => ?_) (fun c_ => ?_)
    · have hf := (if_pos c_).symm.trans hf
      cases hf
      exact hx25 _ _ _ (lv_sub hl [0, 2, 3, 4] rfl) hH hS
    · have hf := (if_neg c_).symm.trans hf
      refine lv_aload_n hx hb dX3_clear_32 rfl (lv_at hl 0 rfl) ?_
      refine m_get X hK hH 6 (by decide) rfl (mg_6 _ _) q1065 dX3_clear_33 ?_
      refine lv_iload hx hb dX3_clear_36 (lv_at hl 5 rfl) ?_
      refine lv_aload_n hx hb dX3_clear_38 rfl (lv_at hl 0 rfl) ?_
      refine m_get X hK hH 5 (by decide) rfl (mg_5 _ _) q1064 dX3_clear_39 ?_
      refine lv_sipush (v := (200 : Int32)) hx hb dX3_clear_42 (by decide) ?_
      refine lv_iload_n hx hb dX3_clear_45 rfl (lv_at hl 1 rfl) ?_
      refine lv_imul hx hb dX3_clear_46 ?_
      refine lv_iload hx hb dX3_clear_47 (lv_at hl 5 rfl) ?_
      refine lv_iadd hx hb dX3_clear_49 ?_
      obtain ⟨v4, hv, hf⟩ := bd hf
      refine m_lald X hK hH 5 (mc_5 _ _) hv dX3_clear_50 ?_
      obtain ⟨w5, hv, hf⟩ := bd hf
      refine m_last X hK hH hS 6 (mc_6 _ _) hv (mt_6 _ _ _) dX3_clear_51 (fun H locs hH hS => ?_)
      refine lv_iinc (v := (s25.1 + 1)) (lv' := [(5, .int (s25.1 + 1)), (0, .ref M), (1, .int c1), (2, .int c2), (3, .int c3), (4, .int c4)]) hx hb dX3_clear_52 hl (k := 5) rfl rfl (by decide) rfl (fun ls hl => ?_)
      refine lv_goto (tgt := 25) hx hb dX3_clear_55 (by decide) ?_
      cases hf
      exact hx25 _ _ _ (lv_sub hl [1, 2, 3, 4, 5, 0] rfl) hH hS
  have L66 : ∀ (c2 : Int32) (c3 : Int32) (c4 : Int32) (n : Nat) (s66 : (Int32 × MS)) (r66 : MS), lp (f_X3_clear_b66 N c2 c3 c4) n s66 = some r66 → (∀ (ls : Array Slot) (H : Heap) (locs : List Loc), lv_has ls 10 [] → HH G (sz, MH M r66 rst) H → va_S (AG G) s.heap H locs → W p l e (rm_ 3 0 0) s m ([.ref M, .int a1] : List Value).toArray below meth c H locs 0 0 (MQ below (PostC G (sz, MH M stf rst) none) ([.ref M, .int a1] : List Value).toArray s 0 0 (AG G)) (F0 m 271 ls [])) → ∀ (ls : Array Slot) (H : Heap) (locs : List Loc), lv_has ls 10 [(0, .ref M), (2, .int c2), (3, .int c3), (4, .int c4), (5, .int s66.1)] → HH G (sz, MH M s66.2 rst) H → va_S (AG G) s.heap H locs → W p l e (rm_ 3 0 0) s m ([.ref M, .int a1] : List Value).toArray below meth c H locs 0 0 (MQ below (PostC G (sz, MH M stf rst) none) ([.ref M, .int a1] : List Value).toArray s 0 0 (AG G)) (F0 m 66 ls []) := by
    intro c2 c3 c4 n s66 r66 hr hq
    refine lp_ind (P := fun s66 => ∀ (ls : Array Slot) (H : Heap) (locs : List Loc), lv_has ls 10 [(0, .ref M), (2, .int c2), (3, .int c3), (4, .int c4), (5, .int s66.1)] → HH G (sz, MH M s66.2 rst) H → va_S (AG G) s.heap H locs → W p l e (rm_ 3 0 0) s m ([.ref M, .int a1] : List Value).toArray below meth c H locs 0 0 (MQ below (PostC G (sz, MH M stf rst) none) ([.ref M, .int a1] : List Value).toArray s 0 0 (AG G)) (F0 m 66 ls [])) (Q := fun r66 => ∀ (ls : Array Slot) (H : Heap) (locs : List Loc), lv_has ls 10 [] → HH G (sz, MH M r66 rst) H → va_S (AG G) s.heap H locs → W p l e (rm_ 3 0 0) s m ([.ref M, .int a1] : List Value).toArray below meth c H locs 0 0 (MQ below (PostC G (sz, MH M stf rst) none) ([.ref M, .int a1] : List Value).toArray s 0 0 (AG G)) (F0 m 271 ls [])) ?_ n s66 r66 hr hq
    intro s66 x66 hf hx66 ls H locs hl hH hS
    unfold f_X3_clear_b66 at hf
    have L78 : ∀ (c2 : Int32) (c3 : Int32) (c4 : Int32) (c5 : Int32) (t78 : MS) (n : Nat) (s78 : Int32) (r78 : Int32), lp (f_X3_clear_b78 N c2 c3 c4 c5 t78) n s78 = some r78 → (∀ (ls : Array Slot) (H : Heap) (locs : List Loc), lv_has ls 10 [(0, .ref M), (2, .int c2), (3, .int c3), (4, .int c4), (5, .int c5), (6, .int r78)] → HH G (sz, MH M t78 rst) H → va_S (AG G) s.heap H locs → W p l e (rm_ 3 0 0) s m ([.ref M, .int a1] : List Value).toArray below meth c H locs 0 0 (MQ below (PostC G (sz, MH M stf rst) none) ([.ref M, .int a1] : List Value).toArray s 0 0 (AG G)) (F0 m 108 ls [])) → ∀ (ls : Array Slot) (H : Heap) (locs : List Loc), lv_has ls 10 [(0, .ref M), (2, .int c2), (3, .int c3), (4, .int c4), (5, .int c5), (6, .int s78)] → HH G (sz, MH M t78 rst) H → va_S (AG G) s.heap H locs → W p l e (rm_ 3 0 0) s m ([.ref M, .int a1] : List Value).toArray below meth c H locs 0 0 (MQ below (PostC G (sz, MH M stf rst) none) ([.ref M, .int a1] : List Value).toArray s 0 0 (AG G)) (F0 m 78 ls []) := by
      intro c2 c3 c4 c5 t78 n s78 r78 hr hq
      refine lp_ind (P := fun s78 => ∀ (ls : Array Slot) (H : Heap) (locs : List Loc), lv_has ls 10 [(0, .ref M), (2, .int c2), (3, .int c3), (4, .int c4), (5, .int c5), (6, .int s78)] → HH G (sz, MH M t78 rst) H → va_S (AG G) s.heap H locs → W p l e (rm_ 3 0 0) s m ([.ref M, .int a1] : List Value).toArray below meth c H locs 0 0 (MQ below (PostC G (sz, MH M stf rst) none) ([.ref M, .int a1] : List Value).toArray s 0 0 (AG G)) (F0 m 78 ls [])) (Q := fun r78 => ∀ (ls : Array Slot) (H : Heap) (locs : List Loc), lv_has ls 10 [(0, .ref M), (2, .int c2), (3, .int c3), (4, .int c4), (5, .int c5), (6, .int r78)] → HH G (sz, MH M t78 rst) H → va_S (AG G) s.heap H locs → W p l e (rm_ 3 0 0) s m ([.ref M, .int a1] : List Value).toArray below meth c H locs 0 0 (MQ below (PostC G (sz, MH M stf rst) none) ([.ref M, .int a1] : List Value).toArray s 0 0 (AG G)) (F0 m 108 ls [])) ?_ n s78 r78 hr hq
      intro s78 x78 hf hx78 ls H locs hl hH hS
      unfold f_X3_clear_b78 at hf
      refine lv_iload hx hb dX3_clear_78 (lv_at hl 5 rfl) ?_
      refine lv_iload hx hb dX3_clear_80 (lv_at hl 3 rfl) ?_
      refine lv_icmp_ge (tgt := 108) hx hb dX3_clear_82 (by decide) (fun c_ => ?_) (fun c_ => ?_)
      · have hf := (if_pos c_).symm.trans hf
        cases hf
        exact hx78 _ _ _ (lv_sub hl [0, 1, 2, 3, 4, 5] rfl) hH hS
      · have hf := (if_neg c_).symm.trans hf
        refine lv_iload_n hx hb dX3_clear_85 rfl (lv_at hl 1 rfl) ?_
        refine lv_iload_n hx hb dX3_clear_86 rfl (lv_at hl 2 rfl) ?_
        refine lv_aload_n hx hb dX3_clear_87 rfl (lv_at hl 0 rfl) ?_
        refine m_get X hK hH 6 (by decide) rfl (mg_6 _ _) q1065 dX3_clear_88 ?_
        refine lv_iload hx hb dX3_clear_91 (lv_at hl 5 rfl) ?_
        obtain ⟨v7, hv, hf⟩ := bd hf
        refine m_lald X hK hH 6 (mc_6 _ _) hv dX3_clear_93 ?_
        refine lv_iload hx hb dX3_clear_94 (lv_at hl 4 rfl) ?_
        obtain ⟨v8, hv, hf⟩ := bd hf
        refine r_Si (As := [.int c2, .int c3, .long v7, .int c5]) (rest := []) X (met_X3_letter l G _ N c2 c3 v7 c5 v8 hv) cs_X3_letter q1029 rfl rfl hl.1 (Nat.le_of_ble_eq_true rfl) ⟨Nat.le_of_ble_eq_true rfl, Nat.le_of_ble_eq_true rfl⟩ ⟨Nat.le_refl _, Nat.le_refl _⟩ dX3_clear_96 hK hH hS (fun H locs hH hS => ?_)
        refine lv_if_ne (tgt := 108) hx hb dX3_clear_99 (by decide) (fun c_ => ?_) (fun c_ => ?_)
        · have hf := (if_neg c_).symm.trans hf
          cases hf
          exact hx78 _ _ _ (lv_sub hl [0, 1, 2, 3, 4, 5] rfl) hH hS
        · have hf := (if_pos c_).symm.trans hf
          refine lv_iinc (v := (s78 + 1)) (lv' := [(6, .int (s78 + 1)), (0, .ref M), (2, .int c2), (3, .int c3), (4, .int c4), (5, .int c5)]) hx hb dX3_clear_102 hl (k := 5) rfl rfl (by decide) rfl (fun ls hl => ?_)
          refine lv_goto (tgt := 78) hx hb dX3_clear_105 (by decide) ?_
          cases hf
          exact hx78 _ _ _ (lv_sub hl [1, 2, 3, 4, 5, 0] rfl) hH hS
    have L176 : ∀ (c2 : Int32) (c3 : Int32) (c4 : Int32) (c5 : Int32) (n : Nat) (s176 : (Int32 × MS)) (r176 : MS), lp (f_X3_clear_b176 N c2 c3 c4 c5) n s176 = some r176 → (∀ (ls : Array Slot) (H : Heap) (locs : List Loc), lv_has ls 10 [(0, .ref M), (2, .int c2), (3, .int c3), (4, .int c4), (5, .int c5)] → HH G (sz, MH M r176 rst) H → va_S (AG G) s.heap H locs → W p l e (rm_ 3 0 0) s m ([.ref M, .int a1] : List Value).toArray below meth c H locs 0 0 (MQ below (PostC G (sz, MH M stf rst) none) ([.ref M, .int a1] : List Value).toArray s 0 0 (AG G)) (F0 m 244 ls [])) → ∀ (ls : Array Slot) (H : Heap) (locs : List Loc), lv_has ls 10 [(0, .ref M), (2, .int c2), (3, .int c3), (4, .int c4), (5, .int c5), (9, .int s176.1)] → HH G (sz, MH M s176.2 rst) H → va_S (AG G) s.heap H locs → W p l e (rm_ 3 0 0) s m ([.ref M, .int a1] : List Value).toArray below meth c H locs 0 0 (MQ below (PostC G (sz, MH M stf rst) none) ([.ref M, .int a1] : List Value).toArray s 0 0 (AG G)) (F0 m 176 ls []) := by
      intro c2 c3 c4 c5 n s176 r176 hr hq
      refine lp_ind (P := fun s176 => ∀ (ls : Array Slot) (H : Heap) (locs : List Loc), lv_has ls 10 [(0, .ref M), (2, .int c2), (3, .int c3), (4, .int c4), (5, .int c5), (9, .int s176.1)] → HH G (sz, MH M s176.2 rst) H → va_S (AG G) s.heap H locs → W p l e (rm_ 3 0 0) s m ([.ref M, .int a1] : List Value).toArray below meth c H locs 0 0 (MQ below (PostC G (sz, MH M stf rst) none) ([.ref M, .int a1] : List Value).toArray s 0 0 (AG G)) (F0 m 176 ls [])) (Q := fun r176 => ∀ (ls : Array Slot) (H : Heap) (locs : List Loc), lv_has ls 10 [(0, .ref M), (2, .int c2), (3, .int c3), (4, .int c4), (5, .int c5)] → HH G (sz, MH M r176 rst) H → va_S (AG G) s.heap H locs → W p l e (rm_ 3 0 0) s m ([.ref M, .int a1] : List Value).toArray below meth c H locs 0 0 (MQ below (PostC G (sz, MH M stf rst) none) ([.ref M, .int a1] : List Value).toArray s 0 0 (AG G)) (F0 m 244 ls [])) ?_ n s176 r176 hr hq
      intro s176 x176 hf hx176 ls H locs hl hH hS
      unfold f_X3_clear_b176 at hf
      refine lv_iload hx hb dX3_clear_176 (lv_at hl 5 rfl) ?_
      refine lv_iload hx hb dX3_clear_178 (lv_at hl 3 rfl) ?_
      refine lv_icmp_ge (tgt := 244) hx hb dX3_clear_180 (by decide) (fun c_ => ?_) (fun c_ => ?_)
      · have hf := (if_pos c_).symm.trans hf
        cases hf
        exact hx176 _ _ _ (lv_sub hl [0, 1, 2, 3, 4] rfl) hH hS
      · have hf := (if_neg c_).symm.trans hf
        refine lv_iload hx hb dX3_clear_183 (lv_at hl 5 rfl) ?_
        refine lv_aload_n hx hb dX3_clear_185 rfl (lv_at hl 0 rfl) ?_
        refine m_get X hK hH 8 (by decide) rfl (mg_8 _ _) q1067 dX3_clear_186 ?_
        refine lv_icmp_eq (tgt := 238) hx hb dX3_clear_189 (by decide) (fun c_ => ?_) (fun c_ => ?_)
        · have hf := (if_pos c_).symm.trans hf
          refine lv_iinc (v := (s176.1 + 1)) (lv' := [(9, .int (s176.1 + 1)), (0, .ref M), (2, .int c2), (3, .int c3), (4, .int c4), (5, .int c5)]) hx hb dX3_clear_238 hl (k := 5) rfl rfl (by decide) rfl (fun ls hl => ?_)
          refine lv_goto (tgt := 176) hx hb dX3_clear_241 (by decide) ?_
          cases hf
          exact hx176 _ _ _ (lv_sub hl [1, 2, 3, 4, 5, 0] rfl) hH hS
        · have hf := (if_neg c_).symm.trans hf
          refine lv_aload_n hx hb dX3_clear_192 rfl (lv_at hl 0 rfl) ?_
          refine m_get X hK hH 6 (by decide) rfl (mg_6 _ _) q1065 dX3_clear_193 ?_
          refine lv_iload hx hb dX3_clear_196 (lv_at hl 5 rfl) ?_
          refine lv_iload_n hx hb dX3_clear_198 rfl (lv_at hl 1 rfl) ?_
          refine lv_iload_n hx hb dX3_clear_199 rfl (lv_at hl 2 rfl) ?_
          refine lv_aload_n hx hb dX3_clear_200 rfl (lv_at hl 0 rfl) ?_
          refine m_get X hK hH 6 (by decide) rfl (mg_6 _ _) q1065 dX3_clear_201 ?_
          refine lv_iload hx hb dX3_clear_204 (lv_at hl 5 rfl) ?_
          obtain ⟨v17, hv, hf⟩ := bd hf
          refine m_lald X hK hH 6 (mc_6 _ _) hv dX3_clear_206 ?_
          refine lv_aload_n hx hb dX3_clear_207 rfl (lv_at hl 0 rfl) ?_
          refine m_get X hK hH 6 (by decide) rfl (mg_6 _ _) q1065 dX3_clear_208 ?_
          refine lv_aload_n hx hb dX3_clear_211 rfl (lv_at hl 0 rfl) ?_
          refine m_get X hK hH 8 (by decide) rfl (mg_8 _ _) q1067 dX3_clear_212 ?_
          obtain ⟨v18, hv, hf⟩ := bd hf
          refine m_lald X hK hH 6 (mc_6 _ _) hv dX3_clear_215 ?_
          refine lv_iload_n hx hb dX3_clear_216 rfl (lv_at hl 1 rfl) ?_
          refine lv_iload_n hx hb dX3_clear_217 rfl (lv_at hl 1 rfl) ?_
          refine lv_iload_n hx hb dX3_clear_218 rfl (lv_at hl 2 rfl) ?_
          refine lv_aload_n hx hb dX3_clear_219 rfl (lv_at hl 0 rfl) ?_
          refine m_get X hK hH 6 (by decide) rfl (mg_6 _ _) q1065 dX3_clear_220 ?_
          refine lv_iload hx hb dX3_clear_223 (lv_at hl 5 rfl) ?_
          obtain ⟨v19, hv, hf⟩ := bd hf
          refine m_lald X hK hH 6 (mc_6 _ _) hv dX3_clear_225 ?_
          refine lv_iload hx hb dX3_clear_226 (lv_at hl 4 rfl) ?_
          obtain ⟨v20, hv, hf⟩ := bd hf
          refine r_Si (As := [.int c2, .int c3, .long v19, .int c5]) (rest := [.int c2, .long v18, .long v17, .int c3, .int c2, .int s176.1, .ref (M + 6)]) X (met_X3_letter l G _ N c2 c3 v19 c5 v20 hv) cs_X3_letter q1029 rfl rfl hl.1 (Nat.le_of_ble_eq_true rfl) ⟨Nat.le_of_ble_eq_true rfl, Nat.le_of_ble_eq_true rfl⟩ ⟨Nat.le_refl _, Nat.le_refl _⟩ dX3_clear_228 hK hH hS (fun H locs hH hS => ?_)
          obtain ⟨v21, hv, hf⟩ := bd hf
          refine r_Si (As := [.int c2, .int v20]) (rest := [.long v18, .long v17, .int c3, .int c2, .int s176.1, .ref (M + 6)]) X (met_X3_minus l G _ N c2 v20 v21 hv) cs_X3_minus q1187 rfl rfl hl.1 (Nat.le_of_ble_eq_true rfl) ⟨Nat.le_of_ble_eq_true rfl, Nat.le_of_ble_eq_true rfl⟩ ⟨Nat.le_refl _, Nat.le_refl _⟩ dX3_clear_231 hK hH hS (fun H locs hH hS => ?_)
          obtain ⟨v22, hv, hf⟩ := bd hf
          refine r_Sl (As := [.int c2, .int c3, .long v17, .long v18, .int v21]) (rest := [.int s176.1, .ref (M + 6)]) X (met_X3_sumOf l G _ N c2 c3 v17 v18 v21 v22 hv) cs_X3_sumOf q1026 rfl rfl hl.1 (Nat.le_of_ble_eq_true rfl) ⟨Nat.le_of_ble_eq_true rfl, Nat.le_of_ble_eq_true rfl⟩ ⟨Nat.le_refl _, Nat.le_refl _⟩ dX3_clear_234 hK hH hS (fun H locs hH hS => ?_)
          obtain ⟨w23, hv, hf⟩ := bd hf
          refine m_last X hK hH hS 6 (mc_6 _ _) hv (mt_6 _ _ _) dX3_clear_237 (fun H locs hH hS => ?_)
          refine lv_iinc (v := (s176.1 + 1)) (lv' := [(9, .int (s176.1 + 1)), (0, .ref M), (2, .int c2), (3, .int c3), (4, .int c4), (5, .int c5)]) hx hb dX3_clear_238 hl (k := 5) rfl rfl (by decide) rfl (fun ls hl => ?_)
          refine lv_goto (tgt := 176) hx hb dX3_clear_241 (by decide) ?_
          cases hf
          exact hx176 _ _ _ (lv_sub hl [1, 2, 3, 4, 5, 0] rfl) hH hS
    have J108 : ∀ (d5 : Int32) (d6 : Int32) (u108 : MS), f_X3_clear_j108 N c2 c3 c4 d5 d6 u108 = some x66 → ∀ (ls : Array Slot) (H : Heap) (locs : List Loc), lv_has ls 10 [(0, .ref M), (2, .int c2), (3, .int c3), (4, .int c4), (5, .int d5), (6, .int d6)] → HH G (sz, MH M u108 rst) H → va_S (AG G) s.heap H locs → W p l e (rm_ 3 0 0) s m ([.ref M, .int a1] : List Value).toArray below meth c H locs 0 0 (MQ below (PostC G (sz, MH M stf rst) none) ([.ref M, .int a1] : List Value).toArray s 0 0 (AG G)) (F0 m 108 ls []) := by
      intro d5 d6 u108 hf ls H locs hl hH hS
      unfold f_X3_clear_j108 at hf
      refine lv_iload hx hb dX3_clear_108 (lv_at hl 5 rfl) ?_
      refine lv_iload hx hb dX3_clear_110 (lv_at hl 3 rfl) ?_
      refine lv_icmp_ne (tgt := 118) hx hb dX3_clear_112 (by decide) (fun c_ => ?_) (fun c_ => ?_)
      · have hf := (if_neg c_).symm.trans hf
        refine lv_aload_n hx hb dX3_clear_118 rfl (lv_at hl 0 rfl) ?_
        refine m_get X hK hH 6 (by decide) rfl (mg_6 _ _) q1065 dX3_clear_119 ?_
        refine lv_iload hx hb dX3_clear_122 (lv_at hl 5 rfl) ?_
        obtain ⟨v10, hv, hf⟩ := bd hf
        refine m_lald X hK hH 6 (mc_6 _ _) hv dX3_clear_124 ?_
        refine lv_lstore (lv' := [(7, .long v10), (0, .ref M), (2, .int c2), (3, .int c3), (4, .int c4), (5, .int d5), (6, .int d6)]) hx hb dX3_clear_125 hl (by decide) rfl (fun ls hl => ?_)
        refine lv_aload_n hx hb dX3_clear_127 rfl (lv_at hl 1 rfl) ?_
        refine m_get X hK hH 6 (by decide) rfl (mg_6 _ _) q1065 dX3_clear_128 ?_
        refine lv_iload hx hb dX3_clear_131 (lv_at hl 6 rfl) ?_
        refine lv_aload_n hx hb dX3_clear_133 rfl (lv_at hl 1 rfl) ?_
        refine m_get X hK hH 6 (by decide) rfl (mg_6 _ _) q1065 dX3_clear_134 ?_
        refine lv_aload_n hx hb dX3_clear_137 rfl (lv_at hl 1 rfl) ?_
        refine m_get X hK hH 8 (by decide) rfl (mg_8 _ _) q1067 dX3_clear_138 ?_
        obtain ⟨v11, hv, hf⟩ := bd hf
        refine m_lald X hK hH 6 (mc_6 _ _) hv dX3_clear_141 ?_
        obtain ⟨w12, hv, hf⟩ := bd hf
        refine m_last X hK hH hS 6 (mc_6 _ _) hv (mt_6 _ _ _) dX3_clear_142 (fun H locs hH hS => ?_)
        refine lv_aload_n hx hb dX3_clear_143 rfl (lv_at hl 1 rfl) ?_
        refine m_get X hK hH 6 (by decide) rfl (mg_6 _ _) q1065 dX3_clear_144 ?_
        refine lv_aload_n hx hb dX3_clear_147 rfl (lv_at hl 1 rfl) ?_
        refine m_get X hK hH 8 (by decide) rfl (mg_8 _ _) q1067 dX3_clear_148 ?_
        refine lv_iload_n hx hb dX3_clear_151 rfl (lv_at hl 2 rfl) ?_
        refine lv_iload_n hx hb dX3_clear_152 rfl (lv_at hl 3 rfl) ?_
        refine lv_lconst (v := (0 : Int64)) hx hb dX3_clear_153 (by decide) ?_
        refine lv_lload hx hb dX3_clear_154 (lv_at hl 0 rfl) ?_
        refine lv_iload_n hx hb dX3_clear_156 rfl (lv_at hl 2 rfl) ?_
        refine lv_iload_n hx hb dX3_clear_157 rfl (lv_at hl 2 rfl) ?_
        refine lv_iload_n hx hb dX3_clear_158 rfl (lv_at hl 3 rfl) ?_
        refine lv_lload hx hb dX3_clear_159 (lv_at hl 0 rfl) ?_
        refine lv_iload hx hb dX3_clear_161 (lv_at hl 5 rfl) ?_
        obtain ⟨v13, hv, hf⟩ := bd hf
        refine r_Si (As := [.int c2, .int c3, .long v10, .int d5]) (rest := [.int c2, .long v10, .long (0 : Int64), .int c3, .int c2, .int (((sL u108 6 w12)).2.2.1 8), .ref (M + 6)]) X (met_X3_letter l G _ N c2 c3 v10 d5 v13 hv) cs_X3_letter q1029 rfl rfl hl.1 (Nat.le_of_ble_eq_true rfl) ⟨Nat.le_of_ble_eq_true rfl, Nat.le_of_ble_eq_true rfl⟩ ⟨Nat.le_refl _, Nat.le_refl _⟩ dX3_clear_163 hK hH hS (fun H locs hH hS => ?_)
        obtain ⟨v14, hv, hf⟩ := bd hf
        refine r_Si (As := [.int c2, .int v13]) (rest := [.long v10, .long (0 : Int64), .int c3, .int c2, .int (((sL u108 6 w12)).2.2.1 8), .ref (M + 6)]) X (met_X3_inverse l G _ N c2 v13 v14 hv) cs_X3_inverse q1184 rfl rfl hl.1 (Nat.le_of_ble_eq_true rfl) ⟨Nat.le_of_ble_eq_true rfl, Nat.le_of_ble_eq_true rfl⟩ ⟨Nat.le_refl _, Nat.le_refl _⟩ dX3_clear_166 hK hH hS (fun H locs hH hS => ?_)
        obtain ⟨v15, hv, hf⟩ := bd hf
        refine r_Sl (As := [.int c2, .int c3, .long (0 : Int64), .long v10, .int v14]) (rest := [.int (((sL u108 6 w12)).2.2.1 8), .ref (M + 6)]) X (met_X3_sumOf l G _ N c2 c3 (0 : Int64) v10 v14 v15 hv) cs_X3_sumOf q1026 rfl rfl hl.1 (Nat.le_of_ble_eq_true rfl) ⟨Nat.le_of_ble_eq_true rfl, Nat.le_of_ble_eq_true rfl⟩ ⟨Nat.le_refl _, Nat.le_refl _⟩ dX3_clear_169 hK hH hS (fun H locs hH hS => ?_)
        obtain ⟨w16, hv, hf⟩ := bd hf
        refine m_last X hK hH hS 6 (mc_6 _ _) hv (mt_6 _ _ _) dX3_clear_172 (fun H locs hH hS => ?_)
        refine lv_iconst (v := (0 : Int32)) hx hb dX3_clear_173 (by decide) ?_
        refine lv_istore (lv' := [(9, .int (0 : Int32)), (7, .long v10), (0, .ref M), (2, .int c2), (3, .int c3), (4, .int c4), (5, .int d5), (6, .int d6)]) hx hb dX3_clear_174 hl (by decide) rfl (fun ls hl => ?_)
        obtain ⟨r176_24, hr, hf⟩ := bd hf
        refine L176 c2 c3 c4 d5 N _ r176_24 hr ?_ _ _ _ (lv_sub hl [2, 3, 4, 5, 6, 0] rfl) hH hS
        intro ls H locs hl hH hS
        refine lv_aload_n hx hb dX3_clear_244 rfl (lv_at hl 0 rfl) ?_
        refine m_get X hK hH 7 (by decide) rfl (mg_7 _ _) q1066 dX3_clear_245 ?_
        refine lv_aload_n hx hb dX3_clear_248 rfl (lv_at hl 0 rfl) ?_
        refine m_get X hK hH 8 (by decide) rfl (mg_8 _ _) q1067 dX3_clear_249 ?_
        refine lv_iload hx hb dX3_clear_252 (lv_at hl 4 rfl) ?_
        obtain ⟨w25, hv, hf⟩ := bd hf
        refine m_iast X hK hH hS 7 (mc_7 _ _) hv (mt_7 _ _ _) dX3_clear_254 (fun H locs hH hS => ?_)
        refine lv_aload_n hx hb dX3_clear_255 rfl (lv_at hl 0 rfl) ?_
        refine lv_dup hx hb dX3_clear_256 rfl ?_
        refine m_get X hK hH 8 (by decide) rfl (mg_8 _ _) q1067 dX3_clear_257 ?_
        refine lv_iconst (v := (1 : Int32)) hx hb dX3_clear_260 (by decide) ?_
        refine lv_iadd hx hb dX3_clear_261 ?_
        refine m_put (ty := .int) X hK hH hS 8 (by decide) rfl (mp_8 _ _ _) q1067 rfl (by decide +kernel) rfl rfl dX3_clear_262 (fun H locs hH hS => ?_)
        refine lv_iinc (v := (d5 + 1)) (lv' := [(5, .int (d5 + 1)), (0, .ref M), (2, .int c2), (3, .int c3), (4, .int c4)]) hx hb dX3_clear_265 hl (k := 4) rfl rfl (by decide) rfl (fun ls hl => ?_)
        refine lv_goto (tgt := 66) hx hb dX3_clear_268 (by decide) ?_
        cases hf
        exact hx66 _ _ _ (lv_sub hl [1, 2, 3, 4, 0] rfl) hH hS
      · have hf := (if_pos c_).symm.trans hf
        refine lv_goto (tgt := 265) hx hb dX3_clear_115 (by decide) ?_
        refine lv_iinc (v := (d5 + 1)) (lv' := [(5, .int (d5 + 1)), (0, .ref M), (2, .int c2), (3, .int c3), (4, .int c4), (6, .int d6)]) hx hb dX3_clear_265 hl (k := 4) rfl rfl (by decide) rfl (fun ls hl => ?_)
        refine lv_goto (tgt := 66) hx hb dX3_clear_268 (by decide) ?_
        cases hf
        exact hx66 _ _ _ (lv_sub hl [1, 2, 3, 4, 0] rfl) hH hS
    refine lv_iload hx hb dX3_clear_66 (lv_at hl 4 rfl) ?_
    refine lv_iload_n hx hb dX3_clear_68 rfl (lv_at hl 2 rfl) ?_
    refine lv_icmp_ge (tgt := 271) hx hb dX3_clear_69 (by decide) (fun c_ => ?_) (fun c_ => ?_)
    · have hf := (if_pos c_).symm.trans hf
      cases hf
      exact hx66 _ _ _ (lv_sub hl [] rfl) hH hS
    · have hf := (if_neg c_).symm.trans hf
      refine lv_aload_n hx hb dX3_clear_72 rfl (lv_at hl 0 rfl) ?_
      refine m_get X hK hH 8 (by decide) rfl (mg_8 _ _) q1067 dX3_clear_73 ?_
      refine lv_istore (lv' := [(6, .int ((s66.2).2.2.1 8)), (0, .ref M), (2, .int c2), (3, .int c3), (4, .int c4), (5, .int s66.1)]) hx hb dX3_clear_76 hl (by decide) rfl (fun ls hl => ?_)
      obtain ⟨r78_9, hr, hf⟩ := bd hf
      refine L78 c2 c3 c4 s66.1 s66.2 N _ r78_9 hr ?_ _ _ _ (lv_sub hl [1, 2, 3, 4, 5, 0] rfl) hH hS
      intro ls H locs hl hH hS
      exact J108 s66.1 r78_9 s66.2 hf _ _ _ (lv_sub hl [0, 1, 2, 3, 4, 5] rfl) hH hS
  refine lv_aload_n hx hb dX3_clear_0 rfl (lv_at hl 0 rfl) ?_
  refine m_get X hK hH 2 (by decide) rfl (mg_2 _ _) q1061 dX3_clear_1 ?_
  refine lv_iload_n hx hb dX3_clear_4 rfl (lv_at hl 1 rfl) ?_
  obtain ⟨v1, hv, hf⟩ := bd hf
  refine m_iald X hK hH 2 (mc_2 _ _) hv dX3_clear_5 ?_
  refine lv_istore_n (lv' := [(2, .int v1), (0, .ref M), (1, .int a1)]) hx hb dX3_clear_6 rfl hl (by decide) rfl (fun ls hl => ?_)
  refine lv_aload_n hx hb dX3_clear_7 rfl (lv_at hl 1 rfl) ?_
  refine m_get X hK hH 3 (by decide) rfl (mg_3 _ _) q1062 dX3_clear_8 ?_
  refine lv_iload_n hx hb dX3_clear_11 rfl (lv_at hl 2 rfl) ?_
  obtain ⟨v2, hv, hf⟩ := bd hf
  refine m_iald X hK hH 3 (mc_3 _ _) hv dX3_clear_12 ?_
  refine lv_istore_n (lv' := [(3, .int v2), (2, .int v1), (0, .ref M), (1, .int a1)]) hx hb dX3_clear_13 rfl hl (by decide) rfl (fun ls hl => ?_)
  refine lv_aload_n hx hb dX3_clear_14 rfl (lv_at hl 2 rfl) ?_
  refine m_get X hK hH 4 (by decide) rfl (mg_4 _ _) q1063 dX3_clear_15 ?_
  refine lv_iload_n hx hb dX3_clear_18 rfl (lv_at hl 3 rfl) ?_
  obtain ⟨v3, hv, hf⟩ := bd hf
  refine m_iald X hK hH 4 (mc_4 _ _) hv dX3_clear_19 ?_
  refine lv_istore (lv' := [(4, .int v3), (3, .int v2), (2, .int v1), (0, .ref M), (1, .int a1)]) hx hb dX3_clear_20 hl (by decide) rfl (fun ls hl => ?_)
  refine lv_iconst (v := (0 : Int32)) hx hb dX3_clear_22 (by decide) ?_
  refine lv_istore (lv' := [(5, .int (0 : Int32)), (4, .int v3), (3, .int v2), (2, .int v1), (0, .ref M), (1, .int a1)]) hx hb dX3_clear_23 hl (by decide) rfl (fun ls hl => ?_)
  obtain ⟨r25_6, hr, hf⟩ := bd hf
  refine L25 a1 v1 v2 v3 N _ r25_6 hr ?_ _ _ _ (lv_sub hl [4, 5, 3, 2, 1, 0] rfl) hH hS
  intro ls H locs hl hH hS
  refine lv_aload_n hx hb dX3_clear_58 rfl (lv_at hl 0 rfl) ?_
  refine lv_iconst (v := (0 : Int32)) hx hb dX3_clear_59 (by decide) ?_
  refine m_put (ty := .int) X hK hH hS 8 (by decide) rfl (mp_8 _ _ _) q1067 rfl (by decide +kernel) rfl rfl dX3_clear_60 (fun H locs hH hS => ?_)
  refine lv_iconst (v := (0 : Int32)) hx hb dX3_clear_63 (by decide) ?_
  refine lv_istore (lv' := [(5, .int (0 : Int32)), (0, .ref M), (2, .int v1), (3, .int v2), (4, .int v3)]) hx hb dX3_clear_64 hl (by decide) rfl (fun ls hl => ?_)
  obtain ⟨r66_26, hr, hf⟩ := bd hf
  refine L66 v1 v2 v3 N _ r66_26 hr ?_ _ _ _ (lv_sub hl [1, 2, 3, 4, 0] rfl) hH hS
  intro ls H locs hl hH hS
  cases hf
  exact r_vret X dX3_clear_271 (Nat.le_refl _) (Nat.le_refl _) rfl hH hS
theorem cv_X3_sizeOf : CalV "WordBenchModel" yX3_sizeOf cX3_sizeOf 2 (some .long) 1 := ⟨q1201, qs26, q57, q1202, by decide +kernel⟩
set_option maxHeartbeats 4000000 in
theorem met_X3_sizeOf (l : Launch) (G : GG) (sz M : Nat) (rst : Nat → Option AE) (N : Nat) (st : MS) (a1 : Int32) (stf : MS) (rf : Int64) (hf : f_X3_sizeOf N st a1 = some (stf, rf)) : Con l yX3_sizeOf cX3_sizeOf 2 (some .long) 4 0 0 G (sz, MH M st rst) [.ref M, .int a1] (sz, MH M stf rst) (some (.long rf)) := by
  refine con_of (by decide) (Nat.le_of_ble_eq_true rfl) ?_
  intro p e s m below meth c ls X hK hH hl hS
  have hx := X.1
  have hb := X.2.1
  have hown : s.vm.findClass RX3 = some m.cls := X.2.2.2.2.1
  have hts := X.2.2.2.2.2.1
  have hl : lv_has ls 2 [(0, .ref M), (1, .int a1)] := hl
  unfold f_X3_sizeOf at hf
  refine lv_aload_n hx hb dX3_sizeOf_0 rfl (lv_at hl 0 rfl) ?_
  refine m_get X hK hH 1 (by decide) rfl (mg_1 _ _) q1060 dX3_sizeOf_1 ?_
  refine lv_iload_n hx hb dX3_sizeOf_4 rfl (lv_at hl 1 rfl) ?_
  obtain ⟨v1, hv, hf⟩ := bd hf
  refine m_iald X hK hH 1 (mc_1 _ _) hv dX3_sizeOf_5 ?_
  refine lv_if_ne (tgt := 17) hx hb dX3_sizeOf_6 (by decide) (fun c_ => ?_) (fun c_ => ?_)
  · have hf := (if_neg c_).symm.trans hf
    refine lv_aload_n hx hb dX3_sizeOf_17 rfl (lv_at hl 0 rfl) ?_
    refine lv_iload_n hx hb dX3_sizeOf_18 rfl (lv_at hl 1 rfl) ?_
    obtain ⟨v2, hv, hf⟩ := bd hf
    refine r_Vv (As := [.int a1]) (rest := []) X (met_X3_clear l G _ _ _ N st a1 v2 hv) cv_X3_clear q1180 (m_recv hK hH) rfl rfl hl.1 (Nat.le_of_ble_eq_true rfl) ⟨Nat.le_of_ble_eq_true rfl, Nat.le_of_ble_eq_true rfl⟩ ⟨Nat.le_refl _, Nat.le_refl _⟩ dX3_sizeOf_19 hK hH hS (fun H locs hH hS => ?_)
    refine lv_aload_n hx hb dX3_sizeOf_22 rfl (lv_at hl 0 rfl) ?_
    refine m_get X hK hH 2 (by decide) rfl (mg_2 _ _) q1061 dX3_sizeOf_23 ?_
    refine lv_iload_n hx hb dX3_sizeOf_26 rfl (lv_at hl 1 rfl) ?_
    obtain ⟨v3, hv, hf⟩ := bd hf
    refine m_iald X hK hH 2 (mc_2 _ _) hv dX3_sizeOf_27 ?_
    refine lv_aload_n hx hb dX3_sizeOf_28 rfl (lv_at hl 0 rfl) ?_
    refine m_get X hK hH 8 (by decide) rfl (mg_8 _ _) q1067 dX3_sizeOf_29 ?_
    obtain ⟨v4, hv, hf⟩ := bd hf
    refine r_Sl (As := [.int v3, .int ((v2).2.2.1 8)]) (rest := []) X (met_X3_power l G _ N v3 ((v2).2.2.1 8) v4 hv) cs_X3_power q1022 rfl rfl hl.1 (Nat.le_of_ble_eq_true rfl) ⟨Nat.le_of_ble_eq_true rfl, Nat.le_of_ble_eq_true rfl⟩ ⟨Nat.le_refl _, Nat.le_refl _⟩ dX3_sizeOf_32 hK hH hS (fun H locs hH hS => ?_)
    cases hf
    exact r_lret X dX3_sizeOf_35 (Nat.le_refl _) (Nat.le_refl _) rfl hH hS
  · have hf := (if_pos c_).symm.trans hf
    refine lv_aload_n hx hb dX3_sizeOf_9 rfl (lv_at hl 0 rfl) ?_
    refine m_get X hK hH 4 (by decide) rfl (mg_4 _ _) q1063 dX3_sizeOf_10 ?_
    refine lv_iload_n hx hb dX3_sizeOf_13 rfl (lv_at hl 1 rfl) ?_
    obtain ⟨v5, hv, hf⟩ := bd hf
    refine m_iald X hK hH 4 (mc_4 _ _) hv dX3_sizeOf_14 ?_
    refine lv_i2l (v := (v5).toInt64) hx hb dX3_sizeOf_15 rfl ?_
    cases hf
    exact r_lret X dX3_sizeOf_16 (Nat.le_refl _) (Nat.le_refl _) rfl hH hS
theorem cv_X3_laysLine : CalV "WordBenchModel" yX3_laysLine cX3_laysLine 6 none 1 := ⟨q1247, qs31, q57, q1248, by decide +kernel⟩
set_option maxHeartbeats 4000000 in
theorem met_X3_laysLine (l : Launch) (G : GG) (sz M : Nat) (rst : Nat → Option AE) (N : Nat) (st : MS) (a1 : Int32) (stf : MS) (hf : f_X3_laysLine N st a1 = some stf) : Con l yX3_laysLine cX3_laysLine 6 none 3 0 0 G (sz, MH M st rst) [.ref M, .int a1] (sz, MH M stf rst) none := by
  refine con_of (by decide) (Nat.le_of_ble_eq_true rfl) ?_
  intro p e s m below meth c ls X hK hH hl hS
  have hx := X.1
  have hb := X.2.1
  have hown : s.vm.findClass RX3 = some m.cls := X.2.2.2.2.1
  have hts := X.2.2.2.2.2.1
  have hl : lv_has ls 6 [(0, .ref M), (1, .int a1)] := hl
  unfold f_X3_laysLine at hf
  have L26 : ∀ (c1 : Int32) (c2 : Int32) (n : Nat) (s26 : (Int32 × MS)) (r26 : MS), lp (f_X3_laysLine_b26 N c1 c2) n s26 = some r26 → (∀ (ls : Array Slot) (H : Heap) (locs : List Loc), lv_has ls 6 [] → HH G (sz, MH M r26 rst) H → va_S (AG G) s.heap H locs → W p l e (rm_ 3 0 0) s m ([.ref M, .int a1] : List Value).toArray below meth c H locs 0 0 (MQ below (PostC G (sz, MH M stf rst) none) ([.ref M, .int a1] : List Value).toArray s 0 0 (AG G)) (F0 m 123 ls [])) → ∀ (ls : Array Slot) (H : Heap) (locs : List Loc), lv_has ls 6 [(0, .ref M), (1, .int c1), (2, .int c2), (3, .int s26.1)] → HH G (sz, MH M s26.2 rst) H → va_S (AG G) s.heap H locs → W p l e (rm_ 3 0 0) s m ([.ref M, .int a1] : List Value).toArray below meth c H locs 0 0 (MQ below (PostC G (sz, MH M stf rst) none) ([.ref M, .int a1] : List Value).toArray s 0 0 (AG G)) (F0 m 26 ls []) := by
    intro c1 c2 n s26 r26 hr hq
    refine lp_ind (P := fun s26 => ∀ (ls : Array Slot) (H : Heap) (locs : List Loc), lv_has ls 6 [(0, .ref M), (1, .int c1), (2, .int c2), (3, .int s26.1)] → HH G (sz, MH M s26.2 rst) H → va_S (AG G) s.heap H locs → W p l e (rm_ 3 0 0) s m ([.ref M, .int a1] : List Value).toArray below meth c H locs 0 0 (MQ below (PostC G (sz, MH M stf rst) none) ([.ref M, .int a1] : List Value).toArray s 0 0 (AG G)) (F0 m 26 ls [])) (Q := fun r26 => ∀ (ls : Array Slot) (H : Heap) (locs : List Loc), lv_has ls 6 [] → HH G (sz, MH M r26 rst) H → va_S (AG G) s.heap H locs → W p l e (rm_ 3 0 0) s m ([.ref M, .int a1] : List Value).toArray below meth c H locs 0 0 (MQ below (PostC G (sz, MH M stf rst) none) ([.ref M, .int a1] : List Value).toArray s 0 0 (AG G)) (F0 m 123 ls [])) ?_ n s26 r26 hr hq
    intro s26 x26 hf hx26 ls H locs hl hH hS
    unfold f_X3_laysLine_b26 at hf
    have L33 : ∀ (c1 : Int32) (c2 : Int32) (c3 : Int32) (n : Nat) (s33 : (Int32 × MS)) (r33 : MS), lp (f_X3_laysLine_b33 N c1 c2 c3) n s33 = some r33 → (∀ (ls : Array Slot) (H : Heap) (locs : List Loc), lv_has ls 6 [(0, .ref M), (1, .int c1), (2, .int c2), (3, .int c3)] → HH G (sz, MH M r33 rst) H → va_S (AG G) s.heap H locs → W p l e (rm_ 3 0 0) s m ([.ref M, .int a1] : List Value).toArray below meth c H locs 0 0 (MQ below (PostC G (sz, MH M stf rst) none) ([.ref M, .int a1] : List Value).toArray s 0 0 (AG G)) (F0 m 117 ls [])) → ∀ (ls : Array Slot) (H : Heap) (locs : List Loc), lv_has ls 6 [(0, .ref M), (1, .int c1), (2, .int c2), (3, .int c3), (4, .int s33.1)] → HH G (sz, MH M s33.2 rst) H → va_S (AG G) s.heap H locs → W p l e (rm_ 3 0 0) s m ([.ref M, .int a1] : List Value).toArray below meth c H locs 0 0 (MQ below (PostC G (sz, MH M stf rst) none) ([.ref M, .int a1] : List Value).toArray s 0 0 (AG G)) (F0 m 33 ls []) := by
      intro c1 c2 c3 n s33 r33 hr hq
      refine lp_ind (P := fun s33 => ∀ (ls : Array Slot) (H : Heap) (locs : List Loc), lv_has ls 6 [(0, .ref M), (1, .int c1), (2, .int c2), (3, .int c3), (4, .int s33.1)] → HH G (sz, MH M s33.2 rst) H → va_S (AG G) s.heap H locs → W p l e (rm_ 3 0 0) s m ([.ref M, .int a1] : List Value).toArray below meth c H locs 0 0 (MQ below (PostC G (sz, MH M stf rst) none) ([.ref M, .int a1] : List Value).toArray s 0 0 (AG G)) (F0 m 33 ls [])) (Q := fun r33 => ∀ (ls : Array Slot) (H : Heap) (locs : List Loc), lv_has ls 6 [(0, .ref M), (1, .int c1), (2, .int c2), (3, .int c3)] → HH G (sz, MH M r33 rst) H → va_S (AG G) s.heap H locs → W p l e (rm_ 3 0 0) s m ([.ref M, .int a1] : List Value).toArray below meth c H locs 0 0 (MQ below (PostC G (sz, MH M stf rst) none) ([.ref M, .int a1] : List Value).toArray s 0 0 (AG G)) (F0 m 117 ls [])) ?_ n s33 r33 hr hq
      intro s33 x33 hf hx33 ls H locs hl hH hS
      unfold f_X3_laysLine_b33 at hf
      have L42 : ∀ (c1 : Int32) (c2 : Int32) (c3 : Int32) (c4 : Int32) (n : Nat) (s42 : (Int32 × MS)) (r42 : MS), lp (f_X3_laysLine_b42 N c1 c2 c3 c4) n s42 = some r42 → (∀ (ls : Array Slot) (H : Heap) (locs : List Loc), lv_has ls 6 [(0, .ref M), (1, .int c1), (2, .int c2), (3, .int c3), (4, .int c4)] → HH G (sz, MH M r42 rst) H → va_S (AG G) s.heap H locs → W p l e (rm_ 3 0 0) s m ([.ref M, .int a1] : List Value).toArray below meth c H locs 0 0 (MQ below (PostC G (sz, MH M stf rst) none) ([.ref M, .int a1] : List Value).toArray s 0 0 (AG G)) (F0 m 111 ls [])) → ∀ (ls : Array Slot) (H : Heap) (locs : List Loc), lv_has ls 6 [(0, .ref M), (1, .int c1), (2, .int c2), (3, .int c3), (4, .int c4), (5, .int s42.1)] → HH G (sz, MH M s42.2 rst) H → va_S (AG G) s.heap H locs → W p l e (rm_ 3 0 0) s m ([.ref M, .int a1] : List Value).toArray below meth c H locs 0 0 (MQ below (PostC G (sz, MH M stf rst) none) ([.ref M, .int a1] : List Value).toArray s 0 0 (AG G)) (F0 m 42 ls []) := by
        intro c1 c2 c3 c4 n s42 r42 hr hq
        refine lp_ind (P := fun s42 => ∀ (ls : Array Slot) (H : Heap) (locs : List Loc), lv_has ls 6 [(0, .ref M), (1, .int c1), (2, .int c2), (3, .int c3), (4, .int c4), (5, .int s42.1)] → HH G (sz, MH M s42.2 rst) H → va_S (AG G) s.heap H locs → W p l e (rm_ 3 0 0) s m ([.ref M, .int a1] : List Value).toArray below meth c H locs 0 0 (MQ below (PostC G (sz, MH M stf rst) none) ([.ref M, .int a1] : List Value).toArray s 0 0 (AG G)) (F0 m 42 ls [])) (Q := fun r42 => ∀ (ls : Array Slot) (H : Heap) (locs : List Loc), lv_has ls 6 [(0, .ref M), (1, .int c1), (2, .int c2), (3, .int c3), (4, .int c4)] → HH G (sz, MH M r42 rst) H → va_S (AG G) s.heap H locs → W p l e (rm_ 3 0 0) s m ([.ref M, .int a1] : List Value).toArray below meth c H locs 0 0 (MQ below (PostC G (sz, MH M stf rst) none) ([.ref M, .int a1] : List Value).toArray s 0 0 (AG G)) (F0 m 111 ls [])) ?_ n s42 r42 hr hq
        intro s42 x42 hf hx42 ls H locs hl hH hS
        unfold f_X3_laysLine_b42 at hf
        refine lv_iload hx hb dX3_laysLine_42 (lv_at hl 5 rfl) ?_
        refine lv_i2l (v := (s42.1).toInt64) hx hb dX3_laysLine_44 rfl ?_
        refine lv_iload_n hx hb dX3_laysLine_45 rfl (lv_at hl 2 rfl) ?_
        refine lv_aload_n hx hb dX3_laysLine_46 rfl (lv_at hl 0 rfl) ?_
        refine m_get X hK hH 8 (by decide) rfl (mg_8 _ _) q1067 dX3_laysLine_47 ?_
        refine lv_iconst (v := (1 : Int32)) hx hb dX3_laysLine_50 (by decide) ?_
        refine lv_isub hx hb dX3_laysLine_51 ?_
        refine lv_iload_n hx hb dX3_laysLine_52 rfl (lv_at hl 3 rfl) ?_
        refine lv_isub hx hb dX3_laysLine_53 ?_
        obtain ⟨v3, hv, hf⟩ := bd hf
        refine r_Sl (As := [.int c2, .int ((((s42.2).2.2.1 8) - (1 : Int32)) - c3)]) (rest := [.long ((s42.1).toInt64)]) X (met_X3_power l G _ N c2 ((((s42.2).2.2.1 8) - (1 : Int32)) - c3) v3 hv) cs_X3_power q1022 rfl rfl hl.1 (Nat.le_of_ble_eq_true rfl) ⟨Nat.le_of_ble_eq_true rfl, Nat.le_of_ble_eq_true rfl⟩ ⟨Nat.le_refl _, Nat.le_refl _⟩ dX3_laysLine_54 hK hH hS (fun H locs hH hS => ?_)
        refine W.lcmp hx hb dX3_laysLine_57 ?_
        refine lv_if_ge (tgt := 111) hx hb dX3_laysLine_58 (by decide) (fun c_ => ?_) (fun c_ => ?_)
        · have hf := (if_pos ((lg_cmp_ge ((s42.1).toInt64) v3).mp c_)).symm.trans hf
          cases hf
          exact hx42 _ _ _ (lv_sub hl [0, 1, 2, 3, 4] rfl) hH hS
        · have hf := (if_neg (fun z => c_ ((lg_cmp_ge ((s42.1).toInt64) v3).mpr z))).symm.trans hf
          refine lv_aload_n hx hb dX3_laysLine_61 rfl (lv_at hl 0 rfl) ?_
          refine m_get X hK hH 10 (by decide) rfl (mg_10 _ _) q1069 dX3_laysLine_62 ?_
          refine lv_aload_n hx hb dX3_laysLine_65 rfl (lv_at hl 0 rfl) ?_
          refine m_get X hK hH 11 (by decide) rfl (mg_11 _ _) q1070 dX3_laysLine_66 ?_
          refine lv_iload_n hx hb dX3_laysLine_69 rfl (lv_at hl 2 rfl) ?_
          refine lv_aload_n hx hb dX3_laysLine_70 rfl (lv_at hl 0 rfl) ?_
          refine m_get X hK hH 3 (by decide) rfl (mg_3 _ _) q1062 dX3_laysLine_71 ?_
          refine lv_iload_n hx hb dX3_laysLine_74 rfl (lv_at hl 1 rfl) ?_
          obtain ⟨v4, hv, hf⟩ := bd hf
          refine m_iald X hK hH 3 (mc_3 _ _) hv dX3_laysLine_75 ?_
          refine lv_aload_n hx hb dX3_laysLine_76 rfl (lv_at hl 0 rfl) ?_
          refine m_get X hK hH 10 (by decide) rfl (mg_10 _ _) q1069 dX3_laysLine_77 ?_
          refine lv_iload hx hb dX3_laysLine_80 (lv_at hl 5 rfl) ?_
          obtain ⟨v5, hv, hf⟩ := bd hf
          refine m_lald X hK hH 9 (mc_10 _ _) hv dX3_laysLine_82 ?_
          refine lv_aload_n hx hb dX3_laysLine_83 rfl (lv_at hl 0 rfl) ?_
          refine m_get X hK hH 6 (by decide) rfl (mg_6 _ _) q1065 dX3_laysLine_84 ?_
          refine lv_iload_n hx hb dX3_laysLine_87 rfl (lv_at hl 3 rfl) ?_
          obtain ⟨v6, hv, hf⟩ := bd hf
          refine m_lald X hK hH 6 (mc_6 _ _) hv dX3_laysLine_88 ?_
          refine lv_iload hx hb dX3_laysLine_89 (lv_at hl 4 rfl) ?_
          obtain ⟨v7, hv, hf⟩ := bd hf
          refine r_Sl (As := [.int c2, .int v4, .long v5, .long v6, .int c4]) (rest := [.int ((s42.2).2.2.1 11), .ref (M + 9)]) X (met_X3_sumOf l G _ N c2 v4 v5 v6 c4 v7 hv) cs_X3_sumOf q1026 rfl rfl hl.1 (Nat.le_of_ble_eq_true rfl) ⟨Nat.le_of_ble_eq_true rfl, Nat.le_of_ble_eq_true rfl⟩ ⟨Nat.le_refl _, Nat.le_refl _⟩ dX3_laysLine_91 hK hH hS (fun H locs hH hS => ?_)
          obtain ⟨w8, hv, hf⟩ := bd hf
          refine m_last X hK hH hS 9 (mc_10 _ _) hv (mt_10 _ _ _) dX3_laysLine_94 (fun H locs hH hS => ?_)
          refine lv_aload_n hx hb dX3_laysLine_95 rfl (lv_at hl 0 rfl) ?_
          refine lv_dup hx hb dX3_laysLine_96 rfl ?_
          refine m_get X hK hH 11 (by decide) rfl (mg_11 _ _) q1070 dX3_laysLine_97 ?_
          refine lv_iconst (v := (1 : Int32)) hx hb dX3_laysLine_100 (by decide) ?_
          refine lv_iadd hx hb dX3_laysLine_101 ?_
          refine m_put (ty := .int) X hK hH hS 11 (by decide) rfl (mp_11 _ _ _) q1070 rfl (by decide +kernel) rfl rfl dX3_laysLine_102 (fun H locs hH hS => ?_)
          refine lv_iinc (v := (s42.1 + 1)) (lv' := [(5, .int (s42.1 + 1)), (0, .ref M), (1, .int c1), (2, .int c2), (3, .int c3), (4, .int c4)]) hx hb dX3_laysLine_105 hl (k := 5) rfl rfl (by decide) rfl (fun ls hl => ?_)
          refine lv_goto (tgt := 42) hx hb dX3_laysLine_108 (by decide) ?_
          cases hf
          exact hx42 _ _ _ (lv_sub hl [1, 2, 3, 4, 5, 0] rfl) hH hS
      refine lv_iload hx hb dX3_laysLine_33 (lv_at hl 4 rfl) ?_
      refine lv_iload_n hx hb dX3_laysLine_35 rfl (lv_at hl 2 rfl) ?_
      refine lv_icmp_ge (tgt := 117) hx hb dX3_laysLine_36 (by decide) (fun c_ => ?_) (fun c_ => ?_)
      · have hf := (if_pos c_).symm.trans hf
        cases hf
        exact hx33 _ _ _ (lv_sub hl [0, 1, 2, 3] rfl) hH hS
      · have hf := (if_neg c_).symm.trans hf
        refine lv_iconst (v := (0 : Int32)) hx hb dX3_laysLine_39 (by decide) ?_
        refine lv_istore (lv' := [(5, .int (0 : Int32)), (0, .ref M), (1, .int c1), (2, .int c2), (3, .int c3), (4, .int s33.1)]) hx hb dX3_laysLine_40 hl (by decide) rfl (fun ls hl => ?_)
        obtain ⟨r42_9, hr, hf⟩ := bd hf
        refine L42 c1 c2 c3 s33.1 N _ r42_9 hr ?_ _ _ _ (lv_sub hl [1, 2, 3, 4, 5, 0] rfl) hH hS
        intro ls H locs hl hH hS
        refine lv_iinc (v := (s33.1 + 1)) (lv' := [(4, .int (s33.1 + 1)), (0, .ref M), (1, .int c1), (2, .int c2), (3, .int c3)]) hx hb dX3_laysLine_111 hl (k := 4) rfl rfl (by decide) rfl (fun ls hl => ?_)
        refine lv_goto (tgt := 33) hx hb dX3_laysLine_114 (by decide) ?_
        cases hf
        exact hx33 _ _ _ (lv_sub hl [1, 2, 3, 4, 0] rfl) hH hS
    refine lv_iload_n hx hb dX3_laysLine_26 rfl (lv_at hl 3 rfl) ?_
    refine lv_if_lt (tgt := 123) hx hb dX3_laysLine_27 (by decide) (fun c_ => ?_) (fun c_ => ?_)
    · have hf := (if_pos c_).symm.trans hf
      cases hf
      exact hx26 _ _ _ (lv_sub hl [] rfl) hH hS
    · have hf := (if_neg c_).symm.trans hf
      refine lv_iconst (v := (1 : Int32)) hx hb dX3_laysLine_30 (by decide) ?_
      refine lv_istore (lv' := [(4, .int (1 : Int32)), (0, .ref M), (1, .int c1), (2, .int c2), (3, .int s26.1)]) hx hb dX3_laysLine_31 hl (by decide) rfl (fun ls hl => ?_)
      obtain ⟨r33_10, hr, hf⟩ := bd hf
      refine L33 c1 c2 s26.1 N _ r33_10 hr ?_ _ _ _ (lv_sub hl [1, 2, 3, 4, 0] rfl) hH hS
      intro ls H locs hl hH hS
      refine lv_iinc (v := (s26.1 + (-1))) (lv' := [(3, .int (s26.1 + (-1))), (0, .ref M), (1, .int c1), (2, .int c2)]) hx hb dX3_laysLine_117 hl (k := 3) rfl rfl (by decide) rfl (fun ls hl => ?_)
      refine lv_goto (tgt := 26) hx hb dX3_laysLine_120 (by decide) ?_
      cases hf
      exact hx26 _ _ _ (lv_sub hl [1, 2, 3, 0] rfl) hH hS
  refine lv_aload_n hx hb dX3_laysLine_0 rfl (lv_at hl 0 rfl) ?_
  refine m_get X hK hH 2 (by decide) rfl (mg_2 _ _) q1061 dX3_laysLine_1 ?_
  refine lv_iload_n hx hb dX3_laysLine_4 rfl (lv_at hl 1 rfl) ?_
  obtain ⟨v1, hv, hf⟩ := bd hf
  refine m_iald X hK hH 2 (mc_2 _ _) hv dX3_laysLine_5 ?_
  refine lv_istore_n (lv' := [(2, .int v1), (0, .ref M), (1, .int a1)]) hx hb dX3_laysLine_6 rfl hl (by decide) rfl (fun ls hl => ?_)
  refine lv_aload_n hx hb dX3_laysLine_7 rfl (lv_at hl 1 rfl) ?_
  refine m_get X hK hH 10 (by decide) rfl (mg_10 _ _) q1069 dX3_laysLine_8 ?_
  refine lv_iconst (v := (0 : Int32)) hx hb dX3_laysLine_11 (by decide) ?_
  refine lv_lconst (v := (0 : Int64)) hx hb dX3_laysLine_12 (by decide) ?_
  obtain ⟨w2, hv, hf⟩ := bd hf
  refine m_last X hK hH hS 9 (mc_10 _ _) hv (mt_10 _ _ _) dX3_laysLine_13 (fun H locs hH hS => ?_)
  refine lv_aload_n hx hb dX3_laysLine_14 rfl (lv_at hl 1 rfl) ?_
  refine lv_iconst (v := (1 : Int32)) hx hb dX3_laysLine_15 (by decide) ?_
  refine m_put (ty := .int) X hK hH hS 11 (by decide) rfl (mp_11 _ _ _) q1070 rfl (by decide +kernel) rfl rfl dX3_laysLine_16 (fun H locs hH hS => ?_)
  refine lv_aload_n hx hb dX3_laysLine_19 rfl (lv_at hl 1 rfl) ?_
  refine m_get X hK hH 8 (by decide) rfl (mg_8 _ _) q1067 dX3_laysLine_20 ?_
  refine lv_iconst (v := (1 : Int32)) hx hb dX3_laysLine_23 (by decide) ?_
  refine lv_isub hx hb dX3_laysLine_24 ?_
  refine lv_istore_n (lv' := [(3, .int ((((sV (sL st 10 w2) 11 (1 : Int32))).2.2.1 8) - (1 : Int32))), (2, .int v1), (0, .ref M), (1, .int a1)]) hx hb dX3_laysLine_25 rfl hl (by decide) rfl (fun ls hl => ?_)
  obtain ⟨r26_11, hr, hf⟩ := bd hf
  refine L26 a1 v1 N _ r26_11 hr ?_ _ _ _ (lv_sub hl [2, 3, 1, 0] rfl) hH hS
  intro ls H locs hl hH hS
  cases hf
  exact r_vret X dX3_laysLine_123 (Nat.le_refl _) (Nat.le_refl _) rfl hH hS
theorem cv_X3_lays : CalV "WordBenchModel" yX3_lays cX3_lays 6 (some .boolean) 1 := ⟨q1242, qs30, q57, q1243, by decide +kernel⟩
set_option maxHeartbeats 4000000 in
theorem met_X3_lays (l : Launch) (G : GG) (sz M : Nat) (rst : Nat → Option AE) (N : Nat) (st : MS) (a1 : Int32) (stf : MS) (rf : Int32) (hf : f_X3_lays N st a1 = some (stf, rf)) : Con l yX3_lays cX3_lays 6 (some .boolean) 5 0 0 G (sz, MH M st rst) [.ref M, .int a1] (sz, MH M stf rst) (some (.int rf)) := by
  refine con_of (by decide) (Nat.le_of_ble_eq_true rfl) ?_
  intro p e s m below meth c ls X hK hH hl hS
  have hx := X.1
  have hb := X.2.1
  have hown : s.vm.findClass RX3 = some m.cls := X.2.2.2.2.1
  have hts := X.2.2.2.2.2.1
  have hl : lv_has ls 6 [(0, .ref M), (1, .int a1)] := hl
  unfold f_X3_lays at hf
  have L77 : ∀ (c1 : Int32) (n : Nat) (s77 : (Int32 × MS)) (r77 : MS), lp (f_X3_lays_b77 N c1) n s77 = some r77 → (∀ (ls : Array Slot) (H : Heap) (locs : List Loc), lv_has ls 6 [] → HH G (sz, MH M r77 rst) H → va_S (AG G) s.heap H locs → W p l e (rm_ 5 0 0) s m ([.ref M, .int a1] : List Value).toArray below meth c H locs 0 0 (MQ below (PostC G (sz, MH M stf rst) (some (.int rf))) ([.ref M, .int a1] : List Value).toArray s 0 0 (AG G)) (F0 m 151 ls [])) → ∀ (ls : Array Slot) (H : Heap) (locs : List Loc), lv_has ls 6 [(0, .ref M), (1, .int c1), (2, .int s77.1)] → HH G (sz, MH M s77.2 rst) H → va_S (AG G) s.heap H locs → W p l e (rm_ 5 0 0) s m ([.ref M, .int a1] : List Value).toArray below meth c H locs 0 0 (MQ below (PostC G (sz, MH M stf rst) (some (.int rf))) ([.ref M, .int a1] : List Value).toArray s 0 0 (AG G)) (F0 m 77 ls []) := by
    intro c1 n s77 r77 hr hq
    refine lp_ind (P := fun s77 => ∀ (ls : Array Slot) (H : Heap) (locs : List Loc), lv_has ls 6 [(0, .ref M), (1, .int c1), (2, .int s77.1)] → HH G (sz, MH M s77.2 rst) H → va_S (AG G) s.heap H locs → W p l e (rm_ 5 0 0) s m ([.ref M, .int a1] : List Value).toArray below meth c H locs 0 0 (MQ below (PostC G (sz, MH M stf rst) (some (.int rf))) ([.ref M, .int a1] : List Value).toArray s 0 0 (AG G)) (F0 m 77 ls [])) (Q := fun r77 => ∀ (ls : Array Slot) (H : Heap) (locs : List Loc), lv_has ls 6 [] → HH G (sz, MH M r77 rst) H → va_S (AG G) s.heap H locs → W p l e (rm_ 5 0 0) s m ([.ref M, .int a1] : List Value).toArray below meth c H locs 0 0 (MQ below (PostC G (sz, MH M stf rst) (some (.int rf))) ([.ref M, .int a1] : List Value).toArray s 0 0 (AG G)) (F0 m 151 ls [])) ?_ n s77 r77 hr hq
    intro s77 x77 hf hx77 ls H locs hl hH hS
    unfold f_X3_lays_b77 at hf
    have L102 : ∀ (c1 : Int32) (c2 : Int32) (n : Nat) (s102 : (Int64 × Int32 × MS)) (r102 : MS), lp (f_X3_lays_b102 N c1 c2) n s102 = some r102 → (∀ (ls : Array Slot) (H : Heap) (locs : List Loc), lv_has ls 6 [(0, .ref M), (1, .int c1), (2, .int c2)] → HH G (sz, MH M r102 rst) H → va_S (AG G) s.heap H locs → W p l e (rm_ 5 0 0) s m ([.ref M, .int a1] : List Value).toArray below meth c H locs 0 0 (MQ below (PostC G (sz, MH M stf rst) (some (.int rf))) ([.ref M, .int a1] : List Value).toArray s 0 0 (AG G)) (F0 m 145 ls [])) → ∀ (ls : Array Slot) (H : Heap) (locs : List Loc), lv_has ls 6 [(0, .ref M), (1, .int c1), (2, .int c2), (3, .long s102.1), (5, .int s102.2.1)] → HH G (sz, MH M s102.2.2 rst) H → va_S (AG G) s.heap H locs → W p l e (rm_ 5 0 0) s m ([.ref M, .int a1] : List Value).toArray below meth c H locs 0 0 (MQ below (PostC G (sz, MH M stf rst) (some (.int rf))) ([.ref M, .int a1] : List Value).toArray s 0 0 (AG G)) (F0 m 102 ls []) := by
      intro c1 c2 n s102 r102 hr hq
      refine lp_ind (P := fun s102 => ∀ (ls : Array Slot) (H : Heap) (locs : List Loc), lv_has ls 6 [(0, .ref M), (1, .int c1), (2, .int c2), (3, .long s102.1), (5, .int s102.2.1)] → HH G (sz, MH M s102.2.2 rst) H → va_S (AG G) s.heap H locs → W p l e (rm_ 5 0 0) s m ([.ref M, .int a1] : List Value).toArray below meth c H locs 0 0 (MQ below (PostC G (sz, MH M stf rst) (some (.int rf))) ([.ref M, .int a1] : List Value).toArray s 0 0 (AG G)) (F0 m 102 ls [])) (Q := fun r102 => ∀ (ls : Array Slot) (H : Heap) (locs : List Loc), lv_has ls 6 [(0, .ref M), (1, .int c1), (2, .int c2)] → HH G (sz, MH M r102 rst) H → va_S (AG G) s.heap H locs → W p l e (rm_ 5 0 0) s m ([.ref M, .int a1] : List Value).toArray below meth c H locs 0 0 (MQ below (PostC G (sz, MH M stf rst) (some (.int rf))) ([.ref M, .int a1] : List Value).toArray s 0 0 (AG G)) (F0 m 145 ls [])) ?_ n s102 r102 hr hq
      intro s102 x102 hf hx102 ls H locs hl hH hS
      unfold f_X3_lays_b102 at hf
      refine lv_iload hx hb dX3_lays_102 (lv_at hl 4 rfl) ?_
      refine lv_if_lt (tgt := 145) hx hb dX3_lays_104 (by decide) (fun c_ => ?_) (fun c_ => ?_)
      · have hf := (if_pos c_).symm.trans hf
        cases hf
        exact hx102 _ _ _ (lv_sub hl [0, 1, 2] rfl) hH hS
      · have hf := (if_neg c_).symm.trans hf
        refine lv_aload_n hx hb dX3_lays_107 rfl (lv_at hl 0 rfl) ?_
        refine m_get X hK hH 12 (by decide) rfl (mg_12 _ _) q1071 dX3_lays_108 ?_
        refine lv_bipush (v := (12 : Int32)) hx hb dX3_lays_111 (by decide) ?_
        refine lv_iload_n hx hb dX3_lays_113 rfl (lv_at hl 2 rfl) ?_
        refine lv_imul hx hb dX3_lays_114 ?_
        refine lv_iload hx hb dX3_lays_115 (lv_at hl 4 rfl) ?_
        refine lv_iadd hx hb dX3_lays_117 ?_
        refine lv_lload_n hx hb dX3_lays_118 rfl (lv_at hl 3 rfl) ?_
        refine lv_aload_n hx hb dX3_lays_119 rfl (lv_at hl 0 rfl) ?_
        refine m_get X hK hH 2 (by decide) rfl (mg_2 _ _) q1061 dX3_lays_120 ?_
        refine lv_iload_n hx hb dX3_lays_123 rfl (lv_at hl 1 rfl) ?_
        obtain ⟨v6, hv, hf⟩ := bd hf
        refine m_iald X hK hH 2 (mc_2 _ _) hv dX3_lays_124 ?_
        refine lv_i2l (v := (v6).toInt64) hx hb dX3_lays_125 rfl ?_
        obtain ⟨v7, hv, hf⟩ := bd hf
        refine r_lrem hx hb hv dX3_lays_126 ?_
        refine lv_l2i (v := (v7).toInt32) hx hb dX3_lays_127 rfl ?_
        obtain ⟨w8, hv, hf⟩ := bd hf
        refine m_iast X hK hH hS 10 (mc_12 _ _) hv (mt_12 _ _ _) dX3_lays_128 (fun H locs hH hS => ?_)
        refine lv_lload_n hx hb dX3_lays_129 rfl (lv_at hl 3 rfl) ?_
        refine lv_aload_n hx hb dX3_lays_130 rfl (lv_at hl 0 rfl) ?_
        refine m_get X hK hH 2 (by decide) rfl (mg_2 _ _) q1061 dX3_lays_131 ?_
        refine lv_iload_n hx hb dX3_lays_134 rfl (lv_at hl 1 rfl) ?_
        obtain ⟨v9, hv, hf⟩ := bd hf
        refine m_iald X hK hH 2 (mc_2 _ _) hv dX3_lays_135 ?_
        refine lv_i2l (v := (v9).toInt64) hx hb dX3_lays_136 rfl ?_
        obtain ⟨v10, hv, hf⟩ := bd hf
        refine r_ldiv hx hb hv dX3_lays_137 ?_
        refine lv_lstore_n (lv' := [(3, .long v10), (0, .ref M), (1, .int c1), (2, .int c2), (5, .int s102.2.1)]) hx hb dX3_lays_138 rfl hl (by decide) rfl (fun ls hl => ?_)
        refine lv_iinc (v := (s102.2.1 + (-1))) (lv' := [(5, .int (s102.2.1 + (-1))), (3, .long v10), (0, .ref M), (1, .int c1), (2, .int c2)]) hx hb dX3_lays_139 hl (k := 4) rfl rfl (by decide) rfl (fun ls hl => ?_)
        refine lv_goto (tgt := 102) hx hb dX3_lays_142 (by decide) ?_
        cases hf
        exact hx102 _ _ _ (lv_sub hl [2, 3, 4, 1, 0] rfl) hH hS
    refine lv_iload_n hx hb dX3_lays_77 rfl (lv_at hl 2 rfl) ?_
    refine lv_aload_n hx hb dX3_lays_78 rfl (lv_at hl 0 rfl) ?_
    refine m_get X hK hH 11 (by decide) rfl (mg_11 _ _) q1070 dX3_lays_79 ?_
    refine lv_icmp_ge (tgt := 151) hx hb dX3_lays_82 (by decide) (fun c_ => ?_) (fun c_ => ?_)
    · have hf := (if_pos c_).symm.trans hf
      cases hf
      exact hx77 _ _ _ (lv_sub hl [] rfl) hH hS
    · have hf := (if_neg c_).symm.trans hf
      refine lv_aload_n hx hb dX3_lays_85 rfl (lv_at hl 0 rfl) ?_
      refine m_get X hK hH 10 (by decide) rfl (mg_10 _ _) q1069 dX3_lays_86 ?_
      refine lv_iload_n hx hb dX3_lays_89 rfl (lv_at hl 2 rfl) ?_
      obtain ⟨v4, hv, hf⟩ := bd hf
      refine m_lald X hK hH 9 (mc_10 _ _) hv dX3_lays_90 ?_
      refine lv_lstore_n (lv' := [(3, .long v4), (0, .ref M), (1, .int c1), (2, .int s77.1)]) hx hb dX3_lays_91 rfl hl (by decide) rfl (fun ls hl => ?_)
      refine lv_aload_n hx hb dX3_lays_92 rfl (lv_at hl 1 rfl) ?_
      refine m_get X hK hH 3 (by decide) rfl (mg_3 _ _) q1062 dX3_lays_93 ?_
      refine lv_iload_n hx hb dX3_lays_96 rfl (lv_at hl 2 rfl) ?_
      obtain ⟨v5, hv, hf⟩ := bd hf
      refine m_iald X hK hH 3 (mc_3 _ _) hv dX3_lays_97 ?_
      refine lv_iconst (v := (1 : Int32)) hx hb dX3_lays_98 (by decide) ?_
      refine lv_isub hx hb dX3_lays_99 ?_
      refine lv_istore (lv' := [(5, .int (v5 - (1 : Int32))), (3, .long v4), (0, .ref M), (1, .int c1), (2, .int s77.1)]) hx hb dX3_lays_100 hl (by decide) rfl (fun ls hl => ?_)
      obtain ⟨r102_11, hr, hf⟩ := bd hf
      refine L102 c1 s77.1 N _ r102_11 hr ?_ _ _ _ (lv_sub hl [2, 3, 4, 1, 0] rfl) hH hS
      intro ls H locs hl hH hS
      refine lv_iinc (v := (s77.1 + 1)) (lv' := [(2, .int (s77.1 + 1)), (0, .ref M), (1, .int c1)]) hx hb dX3_lays_145 hl (k := 2) rfl rfl (by decide) rfl (fun ls hl => ?_)
      refine lv_goto (tgt := 77) hx hb dX3_lays_148 (by decide) ?_
      cases hf
      exact hx77 _ _ _ (lv_sub hl [1, 2, 0] rfl) hH hS
  have L35 : ∀ (c1 : Int32) (n : Nat) (s35 : (Int32 × MS)) (r35 : MS), lp (f_X3_lays_b35 N c1) n s35 = some r35 → (∀ (ls : Array Slot) (H : Heap) (locs : List Loc), lv_has ls 6 [(0, .ref M), (1, .int c1)] → HH G (sz, MH M r35 rst) H → va_S (AG G) s.heap H locs → W p l e (rm_ 5 0 0) s m ([.ref M, .int a1] : List Value).toArray below meth c H locs 0 0 (MQ below (PostC G (sz, MH M stf rst) (some (.int rf))) ([.ref M, .int a1] : List Value).toArray s 0 0 (AG G)) (F0 m 67 ls [])) → ∀ (ls : Array Slot) (H : Heap) (locs : List Loc), lv_has ls 6 [(0, .ref M), (1, .int c1), (2, .int s35.1)] → HH G (sz, MH M s35.2 rst) H → va_S (AG G) s.heap H locs → W p l e (rm_ 5 0 0) s m ([.ref M, .int a1] : List Value).toArray below meth c H locs 0 0 (MQ below (PostC G (sz, MH M stf rst) (some (.int rf))) ([.ref M, .int a1] : List Value).toArray s 0 0 (AG G)) (F0 m 35 ls []) := by
    intro c1 n s35 r35 hr hq
    refine lp_ind (P := fun s35 => ∀ (ls : Array Slot) (H : Heap) (locs : List Loc), lv_has ls 6 [(0, .ref M), (1, .int c1), (2, .int s35.1)] → HH G (sz, MH M s35.2 rst) H → va_S (AG G) s.heap H locs → W p l e (rm_ 5 0 0) s m ([.ref M, .int a1] : List Value).toArray below meth c H locs 0 0 (MQ below (PostC G (sz, MH M stf rst) (some (.int rf))) ([.ref M, .int a1] : List Value).toArray s 0 0 (AG G)) (F0 m 35 ls [])) (Q := fun r35 => ∀ (ls : Array Slot) (H : Heap) (locs : List Loc), lv_has ls 6 [(0, .ref M), (1, .int c1)] → HH G (sz, MH M r35 rst) H → va_S (AG G) s.heap H locs → W p l e (rm_ 5 0 0) s m ([.ref M, .int a1] : List Value).toArray below meth c H locs 0 0 (MQ below (PostC G (sz, MH M stf rst) (some (.int rf))) ([.ref M, .int a1] : List Value).toArray s 0 0 (AG G)) (F0 m 67 ls [])) ?_ n s35 r35 hr hq
    intro s35 x35 hf hx35 ls H locs hl hH hS
    unfold f_X3_lays_b35 at hf
    refine lv_iload_n hx hb dX3_lays_35 rfl (lv_at hl 2 rfl) ?_
    refine lv_aload_n hx hb dX3_lays_36 rfl (lv_at hl 0 rfl) ?_
    refine m_get X hK hH 11 (by decide) rfl (mg_11 _ _) q1070 dX3_lays_37 ?_
    refine lv_icmp_ge (tgt := 67) hx hb dX3_lays_40 (by decide) (fun c_ => ?_) (fun c_ => ?_)
    · have hf := (if_pos c_).symm.trans hf
      cases hf
      exact hx35 _ _ _ (lv_sub hl [0, 1] rfl) hH hS
    · have hf := (if_neg c_).symm.trans hf
      refine lv_aload_n hx hb dX3_lays_43 rfl (lv_at hl 0 rfl) ?_
      refine m_get X hK hH 10 (by decide) rfl (mg_10 _ _) q1069 dX3_lays_44 ?_
      refine lv_iload_n hx hb dX3_lays_47 rfl (lv_at hl 2 rfl) ?_
      refine lv_aload_n hx hb dX3_lays_48 rfl (lv_at hl 0 rfl) ?_
      refine m_get X hK hH 5 (by decide) rfl (mg_5 _ _) q1064 dX3_lays_49 ?_
      refine lv_sipush (v := (200 : Int32)) hx hb dX3_lays_52 (by decide) ?_
      refine lv_iload_n hx hb dX3_lays_55 rfl (lv_at hl 1 rfl) ?_
      refine lv_imul hx hb dX3_lays_56 ?_
      refine lv_iload_n hx hb dX3_lays_57 rfl (lv_at hl 2 rfl) ?_
      refine lv_iadd hx hb dX3_lays_58 ?_
      obtain ⟨v15, hv, hf⟩ := bd hf
      refine m_lald X hK hH 5 (mc_5 _ _) hv dX3_lays_59 ?_
      obtain ⟨w16, hv, hf⟩ := bd hf
      refine m_last X hK hH hS 9 (mc_10 _ _) hv (mt_10 _ _ _) dX3_lays_60 (fun H locs hH hS => ?_)
      refine lv_iinc (v := (s35.1 + 1)) (lv' := [(2, .int (s35.1 + 1)), (0, .ref M), (1, .int c1)]) hx hb dX3_lays_61 hl (k := 2) rfl rfl (by decide) rfl (fun ls hl => ?_)
      refine lv_goto (tgt := 35) hx hb dX3_lays_64 (by decide) ?_
      cases hf
      exact hx35 _ _ _ (lv_sub hl [1, 2, 0] rfl) hH hS
  refine lv_aload_n hx hb dX3_lays_0 rfl (lv_at hl 0 rfl) ?_
  refine lv_iload_n hx hb dX3_lays_1 rfl (lv_at hl 1 rfl) ?_
  obtain ⟨v1, hv, hf⟩ := bd hf
  refine r_Vl (As := [.int a1]) (rest := []) X (met_X3_sizeOf l G _ _ _ N st a1 v1.1 v1.2 hv) cv_X3_sizeOf q1199 (m_recv hK hH) rfl rfl hl.1 (Nat.le_of_ble_eq_true rfl) ⟨Nat.le_of_ble_eq_true rfl, Nat.le_of_ble_eq_true rfl⟩ ⟨Nat.le_refl _, Nat.le_refl _⟩ dX3_lays_2 hK hH hS (fun H locs hH hS => ?_)
  refine lv_ldc2 (v := (4096 : Int64)) hx hb hown (hts _ q1244) dX3_lays_5 ?_
  refine W.lcmp hx hb dX3_lays_8 ?_
  refine lv_if_le (tgt := 14) hx hb dX3_lays_9 (by decide) (fun c_ => ?_) (fun c_ => ?_)
  · have hf := (if_pos ((lg_cmp_le v1.2 (4096 : Int64)).mp c_)).symm.trans hf
    refine lv_aload_n hx hb dX3_lays_14 rfl (lv_at hl 0 rfl) ?_
    refine m_get X hK hH 1 (by decide) rfl (mg_1 _ _) q1060 dX3_lays_15 ?_
    refine lv_iload_n hx hb dX3_lays_18 rfl (lv_at hl 1 rfl) ?_
    obtain ⟨v2, hv, hf⟩ := bd hf
    refine m_iald X hK hH 1 (mc_1 _ _) hv dX3_lays_19 ?_
    refine lv_if_ne (tgt := 70) hx hb dX3_lays_20 (by decide) (fun c_ => ?_) (fun c_ => ?_)
    · have hf := (if_neg c_).symm.trans hf
      refine lv_aload_n hx hb dX3_lays_70 rfl (lv_at hl 0 rfl) ?_
      refine lv_iload_n hx hb dX3_lays_71 rfl (lv_at hl 1 rfl) ?_
      obtain ⟨v3, hv, hf⟩ := bd hf
      refine r_Vv (As := [.int a1]) (rest := []) X (met_X3_laysLine l G _ _ _ N v1.1 a1 v3 hv) cv_X3_laysLine q1245 (m_recv hK hH) rfl rfl hl.1 (Nat.le_of_ble_eq_true rfl) ⟨Nat.le_of_ble_eq_true rfl, Nat.le_of_ble_eq_true rfl⟩ ⟨Nat.le_refl _, Nat.le_refl _⟩ dX3_lays_72 hK hH hS (fun H locs hH hS => ?_)
      refine lv_iconst (v := (0 : Int32)) hx hb dX3_lays_75 (by decide) ?_
      refine lv_istore_n (lv' := [(2, .int (0 : Int32)), (0, .ref M), (1, .int a1)]) hx hb dX3_lays_76 rfl hl (by decide) rfl (fun ls hl => ?_)
      obtain ⟨r77_12, hr, hf⟩ := bd hf
      refine L77 a1 N _ r77_12 hr ?_ _ _ _ (lv_sub hl [1, 2, 0] rfl) hH hS
      intro ls H locs hl hH hS
      refine lv_iconst (v := (1 : Int32)) hx hb dX3_lays_151 (by decide) ?_
      obtain ⟨v13, hv, hf⟩ := bd hf
      obtain ⟨hz, hv⟩ := rz_s hv
      subst hv
      cases hf
      exact r_zret X dX3_lays_152 (Nat.le_refl _) (Nat.le_refl _) hz rfl hH hS
    · have hf := (if_pos c_).symm.trans hf
      refine lv_aload_n hx hb dX3_lays_23 rfl (lv_at hl 0 rfl) ?_
      refine lv_aload_n hx hb dX3_lays_24 rfl (lv_at hl 0 rfl) ?_
      refine m_get X hK hH 4 (by decide) rfl (mg_4 _ _) q1063 dX3_lays_25 ?_
      refine lv_iload_n hx hb dX3_lays_28 rfl (lv_at hl 1 rfl) ?_
      obtain ⟨v14, hv, hf⟩ := bd hf
      refine m_iald X hK hH 4 (mc_4 _ _) hv dX3_lays_29 ?_
      refine m_put (ty := .int) X hK hH hS 11 (by decide) rfl (mp_11 _ _ _) q1070 rfl (by decide +kernel) rfl rfl dX3_lays_30 (fun H locs hH hS => ?_)
      refine lv_iconst (v := (0 : Int32)) hx hb dX3_lays_33 (by decide) ?_
      refine lv_istore_n (lv' := [(2, .int (0 : Int32)), (0, .ref M), (1, .int a1)]) hx hb dX3_lays_34 rfl hl (by decide) rfl (fun ls hl => ?_)
      obtain ⟨r35_17, hr, hf⟩ := bd hf
      refine L35 a1 N _ r35_17 hr ?_ _ _ _ (lv_sub hl [1, 2, 0] rfl) hH hS
      intro ls H locs hl hH hS
      refine lv_goto (tgt := 75) hx hb dX3_lays_67 (by decide) ?_
      refine lv_iconst (v := (0 : Int32)) hx hb dX3_lays_75 (by decide) ?_
      refine lv_istore_n (lv' := [(2, .int (0 : Int32)), (0, .ref M), (1, .int a1)]) hx hb dX3_lays_76 rfl hl (by decide) rfl (fun ls hl => ?_)
      obtain ⟨r77_18, hr, hf⟩ := bd hf
      refine L77 a1 N _ r77_18 hr ?_ _ _ _ (lv_sub hl [1, 2, 0] rfl) hH hS
      intro ls H locs hl hH hS
      refine lv_iconst (v := (1 : Int32)) hx hb dX3_lays_151 (by decide) ?_
      obtain ⟨v19, hv, hf⟩ := bd hf
      obtain ⟨hz, hv⟩ := rz_s hv
      subst hv
      cases hf
      exact r_zret X dX3_lays_152 (Nat.le_refl _) (Nat.le_refl _) hz rfl hH hS
  · have hf := (if_neg (fun z => c_ ((lg_cmp_le v1.2 (4096 : Int64)).mpr z))).symm.trans hf
    refine lv_iconst (v := (0 : Int32)) hx hb dX3_lays_12 (by decide) ?_
    obtain ⟨v20, hv, hf⟩ := bd hf
    obtain ⟨hz, hv⟩ := rz_s hv
    subst hv
    cases hf
    exact r_zret X dX3_lays_13 (Nat.le_refl _) (Nat.le_refl _) hz rfl hH hS
theorem cv_X3_wayOfTwo : CalV "WordBenchModel" yX3_wayOfTwo cX3_wayOfTwo 6 (some .int) 3 := ⟨q1255, qs33, q57, q1256, by decide +kernel⟩
set_option maxHeartbeats 4000000 in
theorem met_X3_wayOfTwo (l : Launch) (G : GG) (sz M : Nat) (rst : Nat → Option AE) (N : Nat) (st : MS) (a1 : Int32) (a2 : Int32) (a3 : Int32) (rf : Int32) (hf : f_X3_wayOfTwo N st a1 a2 a3 = some rf) : Con l yX3_wayOfTwo cX3_wayOfTwo 6 (some .int) 0 0 0 G (sz, MH M st rst) [.ref M, .int a1, .int a2, .int a3] (sz, MH M st rst) (some (.int rf)) := by
  refine con_of (by decide) (Nat.le_of_ble_eq_true rfl) ?_
  intro p e s m below meth c ls X hK hH hl hS
  have hx := X.1
  have hb := X.2.1
  have hown : s.vm.findClass RX3 = some m.cls := X.2.2.2.2.1
  have hts := X.2.2.2.2.2.1
  have hl : lv_has ls 6 [(0, .ref M), (1, .int a1), (2, .int a2), (3, .int a3)] := hl
  unfold f_X3_wayOfTwo at hf
  have L6 : ∀ (c1 : Int32) (c2 : Int32) (c3 : Int32) (n : Nat) (s6 : (Int32 × Int32)) (r6 : Int32), lp (f_X3_wayOfTwo_b6 N c1 c2 c3 st) n s6 = some r6 → (∀ (ls : Array Slot) (H : Heap) (locs : List Loc), lv_has ls 6 [(4, .int r6)] → HH G (sz, MH M st rst) H → va_S (AG G) s.heap H locs → W p l e (rm_ 0 0 0) s m ([.ref M, .int a1, .int a2, .int a3] : List Value).toArray below meth c H locs 0 0 (MQ below (PostC G (sz, MH M st rst) (some (.int rf))) ([.ref M, .int a1, .int a2, .int a3] : List Value).toArray s 0 0 (AG G)) (F0 m 60 ls [])) → ∀ (ls : Array Slot) (H : Heap) (locs : List Loc), lv_has ls 6 [(0, .ref M), (1, .int c1), (2, .int c2), (3, .int c3), (4, .int s6.1), (5, .int s6.2)] → HH G (sz, MH M st rst) H → va_S (AG G) s.heap H locs → W p l e (rm_ 0 0 0) s m ([.ref M, .int a1, .int a2, .int a3] : List Value).toArray below meth c H locs 0 0 (MQ below (PostC G (sz, MH M st rst) (some (.int rf))) ([.ref M, .int a1, .int a2, .int a3] : List Value).toArray s 0 0 (AG G)) (F0 m 6 ls []) := by
    intro c1 c2 c3 n s6 r6 hr hq
    refine lp_ind (P := fun s6 => ∀ (ls : Array Slot) (H : Heap) (locs : List Loc), lv_has ls 6 [(0, .ref M), (1, .int c1), (2, .int c2), (3, .int c3), (4, .int s6.1), (5, .int s6.2)] → HH G (sz, MH M st rst) H → va_S (AG G) s.heap H locs → W p l e (rm_ 0 0 0) s m ([.ref M, .int a1, .int a2, .int a3] : List Value).toArray below meth c H locs 0 0 (MQ below (PostC G (sz, MH M st rst) (some (.int rf))) ([.ref M, .int a1, .int a2, .int a3] : List Value).toArray s 0 0 (AG G)) (F0 m 6 ls [])) (Q := fun r6 => ∀ (ls : Array Slot) (H : Heap) (locs : List Loc), lv_has ls 6 [(4, .int r6)] → HH G (sz, MH M st rst) H → va_S (AG G) s.heap H locs → W p l e (rm_ 0 0 0) s m ([.ref M, .int a1, .int a2, .int a3] : List Value).toArray below meth c H locs 0 0 (MQ below (PostC G (sz, MH M st rst) (some (.int rf))) ([.ref M, .int a1, .int a2, .int a3] : List Value).toArray s 0 0 (AG G)) (F0 m 60 ls [])) ?_ n s6 r6 hr hq
    intro s6 x6 hf hx6 ls H locs hl hH hS
    unfold f_X3_wayOfTwo_b6 at hf
    refine lv_iload hx hb dX3_wayOfTwo_6 (lv_at hl 5 rfl) ?_
    refine lv_aload_n hx hb dX3_wayOfTwo_8 rfl (lv_at hl 0 rfl) ?_
    refine m_get X hK hH 3 (by decide) rfl (mg_3 _ _) q1062 dX3_wayOfTwo_9 ?_
    refine lv_iload_n hx hb dX3_wayOfTwo_12 rfl (lv_at hl 1 rfl) ?_
    obtain ⟨v1, hv, hf⟩ := bd hf
    refine m_iald X hK hH 3 (mc_3 _ _) hv dX3_wayOfTwo_13 ?_
    refine lv_icmp_ge (tgt := 60) hx hb dX3_wayOfTwo_14 (by decide) (fun c_ => ?_) (fun c_ => ?_)
    · have hf := (if_pos c_).symm.trans hf
      cases hf
      exact hx6 _ _ _ (lv_sub hl [4] rfl) hH hS
    · have hf := (if_neg c_).symm.trans hf
      refine lv_iload hx hb dX3_wayOfTwo_17 (lv_at hl 4 rfl) ?_
      refine lv_aload_n hx hb dX3_wayOfTwo_19 rfl (lv_at hl 0 rfl) ?_
      refine m_get X hK hH 12 (by decide) rfl (mg_12 _ _) q1071 dX3_wayOfTwo_20 ?_
      refine lv_bipush (v := (12 : Int32)) hx hb dX3_wayOfTwo_23 (by decide) ?_
      refine lv_iload_n hx hb dX3_wayOfTwo_25 rfl (lv_at hl 2 rfl) ?_
      refine lv_imul hx hb dX3_wayOfTwo_26 ?_
      refine lv_iload hx hb dX3_wayOfTwo_27 (lv_at hl 5 rfl) ?_
      refine lv_iadd hx hb dX3_wayOfTwo_29 ?_
      obtain ⟨v2, hv, hf⟩ := bd hf
      refine m_iald X hK hH 10 (mc_12 _ _) hv dX3_wayOfTwo_30 ?_
      refine lv_aload_n hx hb dX3_wayOfTwo_31 rfl (lv_at hl 0 rfl) ?_
      refine m_get X hK hH 12 (by decide) rfl (mg_12 _ _) q1071 dX3_wayOfTwo_32 ?_
      refine lv_bipush (v := (12 : Int32)) hx hb dX3_wayOfTwo_35 (by decide) ?_
      refine lv_iload_n hx hb dX3_wayOfTwo_37 rfl (lv_at hl 3 rfl) ?_
      refine lv_imul hx hb dX3_wayOfTwo_38 ?_
      refine lv_iload hx hb dX3_wayOfTwo_39 (lv_at hl 5 rfl) ?_
      refine lv_iadd hx hb dX3_wayOfTwo_41 ?_
      obtain ⟨v3, hv, hf⟩ := bd hf
      refine m_iald X hK hH 10 (mc_12 _ _) hv dX3_wayOfTwo_42 ?_
      refine lv_icmp_eq (tgt := 50) hx hb dX3_wayOfTwo_43 (by decide) (fun c_ => ?_) (fun c_ => ?_)
      · have hf := (if_pos c_).symm.trans hf
        refine lv_iconst (v := (0 : Int32)) hx hb dX3_wayOfTwo_50 (by decide) ?_
        refine lv_iadd hx hb dX3_wayOfTwo_51 ?_
        refine lv_istore (lv' := [(4, .int (s6.1 + (0 : Int32))), (0, .ref M), (1, .int c1), (2, .int c2), (3, .int c3), (5, .int s6.2)]) hx hb dX3_wayOfTwo_52 hl (by decide) rfl (fun ls hl => ?_)
        refine lv_iinc (v := (s6.2 + 1)) (lv' := [(5, .int (s6.2 + 1)), (4, .int (s6.1 + (0 : Int32))), (0, .ref M), (1, .int c1), (2, .int c2), (3, .int c3)]) hx hb dX3_wayOfTwo_54 hl (k := 5) rfl rfl (by decide) rfl (fun ls hl => ?_)
        refine lv_goto (tgt := 6) hx hb dX3_wayOfTwo_57 (by decide) ?_
        cases hf
        exact hx6 _ _ _ (lv_sub hl [2, 3, 4, 5, 1, 0] rfl) hH hS
      · have hf := (if_neg c_).symm.trans hf
        refine lv_iconst (v := (1 : Int32)) hx hb dX3_wayOfTwo_46 (by decide) ?_
        refine lv_goto (tgt := 51) hx hb dX3_wayOfTwo_47 (by decide) ?_
        refine lv_iadd hx hb dX3_wayOfTwo_51 ?_
        refine lv_istore (lv' := [(4, .int (s6.1 + (1 : Int32))), (0, .ref M), (1, .int c1), (2, .int c2), (3, .int c3), (5, .int s6.2)]) hx hb dX3_wayOfTwo_52 hl (by decide) rfl (fun ls hl => ?_)
        refine lv_iinc (v := (s6.2 + 1)) (lv' := [(5, .int (s6.2 + 1)), (4, .int (s6.1 + (1 : Int32))), (0, .ref M), (1, .int c1), (2, .int c2), (3, .int c3)]) hx hb dX3_wayOfTwo_54 hl (k := 5) rfl rfl (by decide) rfl (fun ls hl => ?_)
        refine lv_goto (tgt := 6) hx hb dX3_wayOfTwo_57 (by decide) ?_
        cases hf
        exact hx6 _ _ _ (lv_sub hl [2, 3, 4, 5, 1, 0] rfl) hH hS
  refine lv_iconst (v := (0 : Int32)) hx hb dX3_wayOfTwo_0 (by decide) ?_
  refine lv_istore (lv' := [(4, .int (0 : Int32)), (0, .ref M), (1, .int a1), (2, .int a2), (3, .int a3)]) hx hb dX3_wayOfTwo_1 hl (by decide) rfl (fun ls hl => ?_)
  refine lv_iconst (v := (0 : Int32)) hx hb dX3_wayOfTwo_3 (by decide) ?_
  refine lv_istore (lv' := [(5, .int (0 : Int32)), (4, .int (0 : Int32)), (0, .ref M), (1, .int a1), (2, .int a2), (3, .int a3)]) hx hb dX3_wayOfTwo_4 hl (by decide) rfl (fun ls hl => ?_)
  obtain ⟨r6_4, hr, hf⟩ := bd hf
  refine L6 a1 a2 a3 N _ r6_4 hr ?_ _ _ _ (lv_sub hl [2, 3, 4, 5, 1, 0] rfl) hH hS
  intro ls H locs hl hH hS
  refine lv_iload hx hb dX3_wayOfTwo_60 (lv_at hl 0 rfl) ?_
  cases hf
  exact r_iret X dX3_wayOfTwo_62 (Nat.le_refl _) (Nat.le_refl _) rfl hH hS
theorem cv_X3_weigh : CalV "WordBenchModel" yX3_weigh cX3_weigh 4 none 1 := ⟨q1264, qs34, q57, q1265, by decide +kernel⟩
set_option maxHeartbeats 4000000 in
theorem met_X3_weigh (l : Launch) (G : GG) (sz M : Nat) (rst : Nat → Option AE) (N : Nat) (st : MS) (a1 : Int32) (stf : MS) (hf : f_X3_weigh N st a1 = some stf) : Con l yX3_weigh cX3_weigh 4 none 1 0 0 G (sz, MH M st rst) [.ref M, .int a1] (sz, MH M stf rst) none := by
  refine con_of (by decide) (Nat.le_of_ble_eq_true rfl) ?_
  intro p e s m below meth c ls X hK hH hl hS
  have hx := X.1
  have hb := X.2.1
  have hown : s.vm.findClass RX3 = some m.cls := X.2.2.2.2.1
  have hts := X.2.2.2.2.2.1
  have hl : lv_has ls 4 [(0, .ref M), (1, .int a1)] := hl
  unfold f_X3_weigh at hf
  have L2 : ∀ (c1 : Int32) (n : Nat) (s2 : (Int32 × MS)) (r2 : MS), lp (f_X3_weigh_b2 N c1) n s2 = some r2 → (∀ (ls : Array Slot) (H : Heap) (locs : List Loc), lv_has ls 4 [(0, .ref M), (1, .int c1)] → HH G (sz, MH M r2 rst) H → va_S (AG G) s.heap H locs → W p l e (rm_ 1 0 0) s m ([.ref M, .int a1] : List Value).toArray below meth c H locs 0 0 (MQ below (PostC G (sz, MH M stf rst) none) ([.ref M, .int a1] : List Value).toArray s 0 0 (AG G)) (F0 m 21 ls [])) → ∀ (ls : Array Slot) (H : Heap) (locs : List Loc), lv_has ls 4 [(0, .ref M), (1, .int c1), (2, .int s2.1)] → HH G (sz, MH M s2.2 rst) H → va_S (AG G) s.heap H locs → W p l e (rm_ 1 0 0) s m ([.ref M, .int a1] : List Value).toArray below meth c H locs 0 0 (MQ below (PostC G (sz, MH M stf rst) none) ([.ref M, .int a1] : List Value).toArray s 0 0 (AG G)) (F0 m 2 ls []) := by
    intro c1 n s2 r2 hr hq
    refine lp_ind (P := fun s2 => ∀ (ls : Array Slot) (H : Heap) (locs : List Loc), lv_has ls 4 [(0, .ref M), (1, .int c1), (2, .int s2.1)] → HH G (sz, MH M s2.2 rst) H → va_S (AG G) s.heap H locs → W p l e (rm_ 1 0 0) s m ([.ref M, .int a1] : List Value).toArray below meth c H locs 0 0 (MQ below (PostC G (sz, MH M stf rst) none) ([.ref M, .int a1] : List Value).toArray s 0 0 (AG G)) (F0 m 2 ls [])) (Q := fun r2 => ∀ (ls : Array Slot) (H : Heap) (locs : List Loc), lv_has ls 4 [(0, .ref M), (1, .int c1)] → HH G (sz, MH M r2 rst) H → va_S (AG G) s.heap H locs → W p l e (rm_ 1 0 0) s m ([.ref M, .int a1] : List Value).toArray below meth c H locs 0 0 (MQ below (PostC G (sz, MH M stf rst) none) ([.ref M, .int a1] : List Value).toArray s 0 0 (AG G)) (F0 m 21 ls [])) ?_ n s2 r2 hr hq
    intro s2 x2 hf hx2 ls H locs hl hH hS
    unfold f_X3_weigh_b2 at hf
    refine lv_iload_n hx hb dX3_weigh_2 rfl (lv_at hl 2 rfl) ?_
    refine lv_bipush (v := (13 : Int32)) hx hb dX3_weigh_3 (by decide) ?_
    refine lv_icmp_ge (tgt := 21) hx hb dX3_weigh_5 (by decide) (fun c_ => ?_) (fun c_ => ?_)
    · have hf := (if_pos c_).symm.trans hf
      cases hf
      exact hx2 _ _ _ (lv_sub hl [0, 1] rfl) hH hS
    · have hf := (if_neg c_).symm.trans hf
      refine lv_aload_n hx hb dX3_weigh_8 rfl (lv_at hl 0 rfl) ?_
      refine m_get X hK hH 14 (by decide) rfl (mg_14 _ _) q1073 dX3_weigh_9 ?_
      refine lv_iload_n hx hb dX3_weigh_12 rfl (lv_at hl 2 rfl) ?_
      refine lv_lconst (v := (0 : Int64)) hx hb dX3_weigh_13 (by decide) ?_
      obtain ⟨w1, hv, hf⟩ := bd hf
      refine m_last X hK hH hS 12 (mc_14 _ _) hv (mt_14 _ _ _) dX3_weigh_14 (fun H locs hH hS => ?_)
      refine lv_iinc (v := (s2.1 + 1)) (lv' := [(2, .int (s2.1 + 1)), (0, .ref M), (1, .int c1)]) hx hb dX3_weigh_15 hl (k := 2) rfl rfl (by decide) rfl (fun ls hl => ?_)
      refine lv_goto (tgt := 2) hx hb dX3_weigh_18 (by decide) ?_
      cases hf
      exact hx2 _ _ _ (lv_sub hl [1, 2, 0] rfl) hH hS
  have L23 : ∀ (c1 : Int32) (n : Nat) (s23 : (Int32 × MS)) (r23 : MS), lp (f_X3_weigh_b23 N c1) n s23 = some r23 → (∀ (ls : Array Slot) (H : Heap) (locs : List Loc), lv_has ls 4 [(0, .ref M), (1, .int c1)] → HH G (sz, MH M r23 rst) H → va_S (AG G) s.heap H locs → W p l e (rm_ 1 0 0) s m ([.ref M, .int a1] : List Value).toArray below meth c H locs 0 0 (MQ below (PostC G (sz, MH M stf rst) none) ([.ref M, .int a1] : List Value).toArray s 0 0 (AG G)) (F0 m 82 ls [])) → ∀ (ls : Array Slot) (H : Heap) (locs : List Loc), lv_has ls 4 [(0, .ref M), (1, .int c1), (2, .int s23.1)] → HH G (sz, MH M s23.2 rst) H → va_S (AG G) s.heap H locs → W p l e (rm_ 1 0 0) s m ([.ref M, .int a1] : List Value).toArray below meth c H locs 0 0 (MQ below (PostC G (sz, MH M stf rst) none) ([.ref M, .int a1] : List Value).toArray s 0 0 (AG G)) (F0 m 23 ls []) := by
    intro c1 n s23 r23 hr hq
    refine lp_ind (P := fun s23 => ∀ (ls : Array Slot) (H : Heap) (locs : List Loc), lv_has ls 4 [(0, .ref M), (1, .int c1), (2, .int s23.1)] → HH G (sz, MH M s23.2 rst) H → va_S (AG G) s.heap H locs → W p l e (rm_ 1 0 0) s m ([.ref M, .int a1] : List Value).toArray below meth c H locs 0 0 (MQ below (PostC G (sz, MH M stf rst) none) ([.ref M, .int a1] : List Value).toArray s 0 0 (AG G)) (F0 m 23 ls [])) (Q := fun r23 => ∀ (ls : Array Slot) (H : Heap) (locs : List Loc), lv_has ls 4 [(0, .ref M), (1, .int c1)] → HH G (sz, MH M r23 rst) H → va_S (AG G) s.heap H locs → W p l e (rm_ 1 0 0) s m ([.ref M, .int a1] : List Value).toArray below meth c H locs 0 0 (MQ below (PostC G (sz, MH M stf rst) none) ([.ref M, .int a1] : List Value).toArray s 0 0 (AG G)) (F0 m 82 ls [])) ?_ n s23 r23 hr hq
    intro s23 x23 hf hx23 ls H locs hl hH hS
    unfold f_X3_weigh_b23 at hf
    have L33 : ∀ (c1 : Int32) (c2 : Int32) (n : Nat) (s33 : (Int32 × MS)) (r33 : MS), lp (f_X3_weigh_b33 N c1 c2) n s33 = some r33 → (∀ (ls : Array Slot) (H : Heap) (locs : List Loc), lv_has ls 4 [(0, .ref M), (1, .int c1), (2, .int c2)] → HH G (sz, MH M r33 rst) H → va_S (AG G) s.heap H locs → W p l e (rm_ 1 0 0) s m ([.ref M, .int a1] : List Value).toArray below meth c H locs 0 0 (MQ below (PostC G (sz, MH M stf rst) none) ([.ref M, .int a1] : List Value).toArray s 0 0 (AG G)) (F0 m 76 ls [])) → ∀ (ls : Array Slot) (H : Heap) (locs : List Loc), lv_has ls 4 [(0, .ref M), (1, .int c1), (2, .int c2), (3, .int s33.1)] → HH G (sz, MH M s33.2 rst) H → va_S (AG G) s.heap H locs → W p l e (rm_ 1 0 0) s m ([.ref M, .int a1] : List Value).toArray below meth c H locs 0 0 (MQ below (PostC G (sz, MH M stf rst) none) ([.ref M, .int a1] : List Value).toArray s 0 0 (AG G)) (F0 m 33 ls []) := by
      intro c1 c2 n s33 r33 hr hq
      refine lp_ind (P := fun s33 => ∀ (ls : Array Slot) (H : Heap) (locs : List Loc), lv_has ls 4 [(0, .ref M), (1, .int c1), (2, .int c2), (3, .int s33.1)] → HH G (sz, MH M s33.2 rst) H → va_S (AG G) s.heap H locs → W p l e (rm_ 1 0 0) s m ([.ref M, .int a1] : List Value).toArray below meth c H locs 0 0 (MQ below (PostC G (sz, MH M stf rst) none) ([.ref M, .int a1] : List Value).toArray s 0 0 (AG G)) (F0 m 33 ls [])) (Q := fun r33 => ∀ (ls : Array Slot) (H : Heap) (locs : List Loc), lv_has ls 4 [(0, .ref M), (1, .int c1), (2, .int c2)] → HH G (sz, MH M r33 rst) H → va_S (AG G) s.heap H locs → W p l e (rm_ 1 0 0) s m ([.ref M, .int a1] : List Value).toArray below meth c H locs 0 0 (MQ below (PostC G (sz, MH M stf rst) none) ([.ref M, .int a1] : List Value).toArray s 0 0 (AG G)) (F0 m 76 ls [])) ?_ n s33 r33 hr hq
      intro s33 x33 hf hx33 ls H locs hl hH hS
      unfold f_X3_weigh_b33 at hf
      have J51 : ∀ (d3 : Int32) (k0 : Int32) (k1 : Int32) (u51 : MS), f_X3_weigh_j51 N c1 c2 d3 k0 k1 u51 = some x33 → ∀ (ls : Array Slot) (H : Heap) (locs : List Loc), lv_has ls 4 [(0, .ref M), (1, .int c1), (2, .int c2), (3, .int d3)] → HH G (sz, MH M u51 rst) H → va_S (AG G) s.heap H locs → W p l e (rm_ 1 0 0) s m ([.ref M, .int a1] : List Value).toArray below meth c H locs 0 0 (MQ below (PostC G (sz, MH M stf rst) none) ([.ref M, .int a1] : List Value).toArray s 0 0 (AG G)) (F0 m 51 ls [.int k0, .int k1]) := by
        intro d3 k0 k1 u51 hf ls H locs hl hH hS
        unfold f_X3_weigh_j51 at hf
        refine lv_icmp_ge (tgt := 76) hx hb dX3_weigh_51 (by decide) (fun c_ => ?_) (fun c_ => ?_)
        · have hf := (if_pos c_).symm.trans hf
          cases hf
          exact hx33 _ _ _ (lv_sub hl [0, 1, 2] rfl) hH hS
        · have hf := (if_neg c_).symm.trans hf
          refine lv_aload_n hx hb dX3_weigh_54 rfl (lv_at hl 0 rfl) ?_
          refine m_get X hK hH 14 (by decide) rfl (mg_14 _ _) q1073 dX3_weigh_55 ?_
          refine lv_aload_n hx hb dX3_weigh_58 rfl (lv_at hl 0 rfl) ?_
          refine lv_iload_n hx hb dX3_weigh_59 rfl (lv_at hl 1 rfl) ?_
          refine lv_iload_n hx hb dX3_weigh_60 rfl (lv_at hl 2 rfl) ?_
          refine lv_iload_n hx hb dX3_weigh_61 rfl (lv_at hl 3 rfl) ?_
          obtain ⟨v4, hv, hf⟩ := bd hf
          refine r_Vi (As := [.int c1, .int c2, .int d3]) (rest := [.ref (M + 12)]) X (met_X3_wayOfTwo l G _ _ _ N u51 c1 c2 d3 v4 hv) cv_X3_wayOfTwo q1253 (m_recv hK hH) rfl rfl hl.1 (Nat.le_of_ble_eq_true rfl) ⟨Nat.le_of_ble_eq_true rfl, Nat.le_of_ble_eq_true rfl⟩ ⟨Nat.le_refl _, Nat.le_refl _⟩ dX3_weigh_62 hK hH hS (fun H locs hH hS => ?_)
          refine lv_dup2_11 hx hb dX3_weigh_65 rfl rfl ?_
          obtain ⟨v5, hv, hf⟩ := bd hf
          refine m_lald X hK hH 12 (mc_14 _ _) hv dX3_weigh_66 ?_
          refine lv_lconst (v := (1 : Int64)) hx hb dX3_weigh_67 (by decide) ?_
          refine lv_ladd hx hb dX3_weigh_68 ?_
          obtain ⟨w6, hv, hf⟩ := bd hf
          refine m_last X hK hH hS 12 (mc_14 _ _) hv (mt_14 _ _ _) dX3_weigh_69 (fun H locs hH hS => ?_)
          refine lv_iinc (v := (d3 + 1)) (lv' := [(3, .int (d3 + 1)), (0, .ref M), (1, .int c1), (2, .int c2)]) hx hb dX3_weigh_70 hl (k := 3) rfl rfl (by decide) rfl (fun ls hl => ?_)
          refine lv_goto (tgt := 33) hx hb dX3_weigh_73 (by decide) ?_
          cases hf
          exact hx33 _ _ _ (lv_sub hl [1, 2, 3, 0] rfl) hH hS
      refine lv_iload_n hx hb dX3_weigh_33 rfl (lv_at hl 3 rfl) ?_
      refine lv_aload_n hx hb dX3_weigh_34 rfl (lv_at hl 0 rfl) ?_
      refine m_get X hK hH 1 (by decide) rfl (mg_1 _ _) q1060 dX3_weigh_35 ?_
      refine lv_iload_n hx hb dX3_weigh_38 rfl (lv_at hl 1 rfl) ?_
      obtain ⟨v3, hv, hf⟩ := bd hf
      refine m_iald X hK hH 1 (mc_1 _ _) hv dX3_weigh_39 ?_
      refine lv_if_ne (tgt := 50) hx hb dX3_weigh_40 (by decide) (fun c_ => ?_) (fun c_ => ?_)
      · have hf := (if_neg c_).symm.trans hf
        refine lv_iconst (v := (1 : Int32)) hx hb dX3_weigh_50 (by decide) ?_
        exact J51 s33.1 (1 : Int32) s33.1 s33.2 hf _ _ _ (lv_sub hl [0, 1, 2, 3] rfl) hH hS
      · have hf := (if_pos c_).symm.trans hf
        refine lv_aload_n hx hb dX3_weigh_43 rfl (lv_at hl 0 rfl) ?_
        refine m_get X hK hH 11 (by decide) rfl (mg_11 _ _) q1070 dX3_weigh_44 ?_
        refine lv_goto (tgt := 51) hx hb dX3_weigh_47 (by decide) ?_
        exact J51 s33.1 ((s33.2).2.2.1 11) s33.1 s33.2 hf _ _ _ (lv_sub hl [0, 1, 2, 3] rfl) hH hS
    refine lv_iload_n hx hb dX3_weigh_23 rfl (lv_at hl 2 rfl) ?_
    refine lv_aload_n hx hb dX3_weigh_24 rfl (lv_at hl 0 rfl) ?_
    refine m_get X hK hH 11 (by decide) rfl (mg_11 _ _) q1070 dX3_weigh_25 ?_
    refine lv_icmp_ge (tgt := 82) hx hb dX3_weigh_28 (by decide) (fun c_ => ?_) (fun c_ => ?_)
    · have hf := (if_pos c_).symm.trans hf
      cases hf
      exact hx23 _ _ _ (lv_sub hl [0, 1] rfl) hH hS
    · have hf := (if_neg c_).symm.trans hf
      refine lv_iconst (v := (0 : Int32)) hx hb dX3_weigh_31 (by decide) ?_
      refine lv_istore_n (lv' := [(3, .int (0 : Int32)), (0, .ref M), (1, .int c1), (2, .int s23.1)]) hx hb dX3_weigh_32 rfl hl (by decide) rfl (fun ls hl => ?_)
      obtain ⟨r33_7, hr, hf⟩ := bd hf
      refine L33 c1 s23.1 N _ r33_7 hr ?_ _ _ _ (lv_sub hl [1, 2, 3, 0] rfl) hH hS
      intro ls H locs hl hH hS
      refine lv_iinc (v := (s23.1 + 1)) (lv' := [(2, .int (s23.1 + 1)), (0, .ref M), (1, .int c1)]) hx hb dX3_weigh_76 hl (k := 2) rfl rfl (by decide) rfl (fun ls hl => ?_)
      refine lv_goto (tgt := 23) hx hb dX3_weigh_79 (by decide) ?_
      cases hf
      exact hx23 _ _ _ (lv_sub hl [1, 2, 0] rfl) hH hS
  have L103 : ∀ (t103 : MS) (n : Nat) (s103 : (Int32 × Int32)) (r103 : Int32), lp (f_X3_weigh_b103 N t103) n s103 = some r103 → (∀ (ls : Array Slot) (H : Heap) (locs : List Loc), lv_has ls 4 [(0, .ref M), (2, .int r103)] → HH G (sz, MH M t103 rst) H → va_S (AG G) s.heap H locs → W p l e (rm_ 1 0 0) s m ([.ref M, .int a1] : List Value).toArray below meth c H locs 0 0 (MQ below (PostC G (sz, MH M stf rst) none) ([.ref M, .int a1] : List Value).toArray s 0 0 (AG G)) (F0 m 142 ls [])) → ∀ (ls : Array Slot) (H : Heap) (locs : List Loc), lv_has ls 4 [(0, .ref M), (2, .int s103.1), (3, .int s103.2)] → HH G (sz, MH M t103 rst) H → va_S (AG G) s.heap H locs → W p l e (rm_ 1 0 0) s m ([.ref M, .int a1] : List Value).toArray below meth c H locs 0 0 (MQ below (PostC G (sz, MH M stf rst) none) ([.ref M, .int a1] : List Value).toArray s 0 0 (AG G)) (F0 m 103 ls []) := by
    intro t103 n s103 r103 hr hq
    refine lp_ind (P := fun s103 => ∀ (ls : Array Slot) (H : Heap) (locs : List Loc), lv_has ls 4 [(0, .ref M), (2, .int s103.1), (3, .int s103.2)] → HH G (sz, MH M t103 rst) H → va_S (AG G) s.heap H locs → W p l e (rm_ 1 0 0) s m ([.ref M, .int a1] : List Value).toArray below meth c H locs 0 0 (MQ below (PostC G (sz, MH M stf rst) none) ([.ref M, .int a1] : List Value).toArray s 0 0 (AG G)) (F0 m 103 ls [])) (Q := fun r103 => ∀ (ls : Array Slot) (H : Heap) (locs : List Loc), lv_has ls 4 [(0, .ref M), (2, .int r103)] → HH G (sz, MH M t103 rst) H → va_S (AG G) s.heap H locs → W p l e (rm_ 1 0 0) s m ([.ref M, .int a1] : List Value).toArray below meth c H locs 0 0 (MQ below (PostC G (sz, MH M stf rst) none) ([.ref M, .int a1] : List Value).toArray s 0 0 (AG G)) (F0 m 142 ls [])) ?_ n s103 r103 hr hq
    intro s103 x103 hf hx103 ls H locs hl hH hS
    unfold f_X3_weigh_b103 at hf
    refine lv_iload_n hx hb dX3_weigh_103 rfl (lv_at hl 2 rfl) ?_
    refine lv_bipush (v := (13 : Int32)) hx hb dX3_weigh_104 (by decide) ?_
    refine lv_icmp_ge (tgt := 142) hx hb dX3_weigh_106 (by decide) (fun c_ => ?_) (fun c_ => ?_)
    · have hf := (if_pos c_).symm.trans hf
      cases hf
      exact hx103 _ _ _ (lv_sub hl [0, 1] rfl) hH hS
    · have hf := (if_neg c_).symm.trans hf
      refine lv_iload_n hx hb dX3_weigh_109 rfl (lv_at hl 1 rfl) ?_
      refine lv_if_eq (tgt := 134) hx hb dX3_weigh_110 (by decide) (fun c_ => ?_) (fun c_ => ?_)
      · have hf := (if_pos c_).symm.trans hf
        refine lv_iconst (v := (0 : Int32)) hx hb dX3_weigh_134 (by decide) ?_
        refine lv_istore_n (lv' := [(2, .int (0 : Int32)), (0, .ref M), (3, .int s103.2)]) hx hb dX3_weigh_135 rfl hl (by decide) rfl (fun ls hl => ?_)
        refine lv_iinc (v := (s103.2 + 1)) (lv' := [(3, .int (s103.2 + 1)), (2, .int (0 : Int32)), (0, .ref M)]) hx hb dX3_weigh_136 hl (k := 2) rfl rfl (by decide) rfl (fun ls hl => ?_)
        refine lv_goto (tgt := 103) hx hb dX3_weigh_139 (by decide) ?_
        cases hf
        exact hx103 _ _ _ (lv_sub hl [2, 1, 0] rfl) hH hS
      · have hf := (if_neg c_).symm.trans hf
        refine lv_aload_n hx hb dX3_weigh_113 rfl (lv_at hl 0 rfl) ?_
        refine m_get X hK hH 14 (by decide) rfl (mg_14 _ _) q1073 dX3_weigh_114 ?_
        refine lv_iload_n hx hb dX3_weigh_117 rfl (lv_at hl 2 rfl) ?_
        obtain ⟨v10, hv, hf⟩ := bd hf
        refine m_lald X hK hH 12 (mc_14 _ _) hv dX3_weigh_118 ?_
        refine lv_aload_n hx hb dX3_weigh_119 rfl (lv_at hl 0 rfl) ?_
        refine m_get X hK hH 11 (by decide) rfl (mg_11 _ _) q1070 dX3_weigh_120 ?_
        refine lv_i2l (v := (((t103).2.2.1 11)).toInt64) hx hb dX3_weigh_123 rfl ?_
        obtain ⟨v11, hv, hf⟩ := bd hf
        refine r_lrem hx hb hv dX3_weigh_124 ?_
        refine lv_lconst (v := (0 : Int64)) hx hb dX3_weigh_125 (by decide) ?_
        refine W.lcmp hx hb dX3_weigh_126 ?_
        refine lv_if_ne (tgt := 134) hx hb dX3_weigh_127 (by decide) (fun c_ => ?_) (fun c_ => ?_)
        · have hf := (if_neg (fun z => c_ ((lg_cmp_eq v11 (0 : Int64)).mpr z))).symm.trans hf
          refine lv_iconst (v := (0 : Int32)) hx hb dX3_weigh_134 (by decide) ?_
          refine lv_istore_n (lv' := [(2, .int (0 : Int32)), (0, .ref M), (3, .int s103.2)]) hx hb dX3_weigh_135 rfl hl (by decide) rfl (fun ls hl => ?_)
          refine lv_iinc (v := (s103.2 + 1)) (lv' := [(3, .int (s103.2 + 1)), (2, .int (0 : Int32)), (0, .ref M)]) hx hb dX3_weigh_136 hl (k := 2) rfl rfl (by decide) rfl (fun ls hl => ?_)
          refine lv_goto (tgt := 103) hx hb dX3_weigh_139 (by decide) ?_
          cases hf
          exact hx103 _ _ _ (lv_sub hl [2, 1, 0] rfl) hH hS
        · have hf := (if_pos ((lg_cmp_eq v11 (0 : Int64)).mp c_)).symm.trans hf
          refine lv_iconst (v := (1 : Int32)) hx hb dX3_weigh_130 (by decide) ?_
          refine lv_goto (tgt := 135) hx hb dX3_weigh_131 (by decide) ?_
          refine lv_istore_n (lv' := [(2, .int (1 : Int32)), (0, .ref M), (3, .int s103.2)]) hx hb dX3_weigh_135 rfl hl (by decide) rfl (fun ls hl => ?_)
          refine lv_iinc (v := (s103.2 + 1)) (lv' := [(3, .int (s103.2 + 1)), (2, .int (1 : Int32)), (0, .ref M)]) hx hb dX3_weigh_136 hl (k := 2) rfl rfl (by decide) rfl (fun ls hl => ?_)
          refine lv_goto (tgt := 103) hx hb dX3_weigh_139 (by decide) ?_
          cases hf
          exact hx103 _ _ _ (lv_sub hl [2, 1, 0] rfl) hH hS
  have L144 : ∀ (c2 : Int32) (n : Nat) (s144 : (Int32 × MS)) (r144 : MS), lp (f_X3_weigh_b144 N c2) n s144 = some r144 → (∀ (ls : Array Slot) (H : Heap) (locs : List Loc), lv_has ls 4 [] → HH G (sz, MH M r144 rst) H → va_S (AG G) s.heap H locs → W p l e (rm_ 1 0 0) s m ([.ref M, .int a1] : List Value).toArray below meth c H locs 0 0 (MQ below (PostC G (sz, MH M stf rst) none) ([.ref M, .int a1] : List Value).toArray s 0 0 (AG G)) (F0 m 174 ls [])) → ∀ (ls : Array Slot) (H : Heap) (locs : List Loc), lv_has ls 4 [(0, .ref M), (2, .int c2), (3, .int s144.1)] → HH G (sz, MH M s144.2 rst) H → va_S (AG G) s.heap H locs → W p l e (rm_ 1 0 0) s m ([.ref M, .int a1] : List Value).toArray below meth c H locs 0 0 (MQ below (PostC G (sz, MH M stf rst) none) ([.ref M, .int a1] : List Value).toArray s 0 0 (AG G)) (F0 m 144 ls []) := by
    intro c2 n s144 r144 hr hq
    refine lp_ind (P := fun s144 => ∀ (ls : Array Slot) (H : Heap) (locs : List Loc), lv_has ls 4 [(0, .ref M), (2, .int c2), (3, .int s144.1)] → HH G (sz, MH M s144.2 rst) H → va_S (AG G) s.heap H locs → W p l e (rm_ 1 0 0) s m ([.ref M, .int a1] : List Value).toArray below meth c H locs 0 0 (MQ below (PostC G (sz, MH M stf rst) none) ([.ref M, .int a1] : List Value).toArray s 0 0 (AG G)) (F0 m 144 ls [])) (Q := fun r144 => ∀ (ls : Array Slot) (H : Heap) (locs : List Loc), lv_has ls 4 [] → HH G (sz, MH M r144 rst) H → va_S (AG G) s.heap H locs → W p l e (rm_ 1 0 0) s m ([.ref M, .int a1] : List Value).toArray below meth c H locs 0 0 (MQ below (PostC G (sz, MH M stf rst) none) ([.ref M, .int a1] : List Value).toArray s 0 0 (AG G)) (F0 m 174 ls [])) ?_ n s144 r144 hr hq
    intro s144 x144 hf hx144 ls H locs hl hH hS
    unfold f_X3_weigh_b144 at hf
    refine lv_iload_n hx hb dX3_weigh_144 rfl (lv_at hl 2 rfl) ?_
    refine lv_bipush (v := (13 : Int32)) hx hb dX3_weigh_145 (by decide) ?_
    refine lv_icmp_ge (tgt := 174) hx hb dX3_weigh_147 (by decide) (fun c_ => ?_) (fun c_ => ?_)
    · have hf := (if_pos c_).symm.trans hf
      cases hf
      exact hx144 _ _ _ (lv_sub hl [] rfl) hH hS
    · have hf := (if_neg c_).symm.trans hf
      refine lv_iload_n hx hb dX3_weigh_150 rfl (lv_at hl 1 rfl) ?_
      refine lv_if_eq (tgt := 174) hx hb dX3_weigh_151 (by decide) (fun c_ => ?_) (fun c_ => ?_)
      · have hf := (if_pos c_).symm.trans hf
        cases hf
        exact hx144 _ _ _ (lv_sub hl [] rfl) hH hS
      · have hf := (if_neg c_).symm.trans hf
        refine lv_aload_n hx hb dX3_weigh_154 rfl (lv_at hl 0 rfl) ?_
        refine m_get X hK hH 14 (by decide) rfl (mg_14 _ _) q1073 dX3_weigh_155 ?_
        refine lv_iload_n hx hb dX3_weigh_158 rfl (lv_at hl 2 rfl) ?_
        refine lv_dup2_11 hx hb dX3_weigh_159 rfl rfl ?_
        obtain ⟨v13, hv, hf⟩ := bd hf
        refine m_lald X hK hH 12 (mc_14 _ _) hv dX3_weigh_160 ?_
        refine lv_aload_n hx hb dX3_weigh_161 rfl (lv_at hl 0 rfl) ?_
        refine m_get X hK hH 11 (by decide) rfl (mg_11 _ _) q1070 dX3_weigh_162 ?_
        refine lv_i2l (v := (((s144.2).2.2.1 11)).toInt64) hx hb dX3_weigh_165 rfl ?_
        obtain ⟨v14, hv, hf⟩ := bd hf
        refine r_ldiv hx hb hv dX3_weigh_166 ?_
        obtain ⟨w15, hv, hf⟩ := bd hf
        refine m_last X hK hH hS 12 (mc_14 _ _) hv (mt_14 _ _ _) dX3_weigh_167 (fun H locs hH hS => ?_)
        refine lv_iinc (v := (s144.1 + 1)) (lv' := [(3, .int (s144.1 + 1)), (0, .ref M), (2, .int c2)]) hx hb dX3_weigh_168 hl (k := 2) rfl rfl (by decide) rfl (fun ls hl => ?_)
        refine lv_goto (tgt := 144) hx hb dX3_weigh_171 (by decide) ?_
        cases hf
        exact hx144 _ _ _ (lv_sub hl [1, 2, 0] rfl) hH hS
  refine lv_iconst (v := (0 : Int32)) hx hb dX3_weigh_0 (by decide) ?_
  refine lv_istore_n (lv' := [(2, .int (0 : Int32)), (0, .ref M), (1, .int a1)]) hx hb dX3_weigh_1 rfl hl (by decide) rfl (fun ls hl => ?_)
  obtain ⟨r2_2, hr, hf⟩ := bd hf
  refine L2 a1 N _ r2_2 hr ?_ _ _ _ (lv_sub hl [1, 2, 0] rfl) hH hS
  intro ls H locs hl hH hS
  refine lv_iconst (v := (0 : Int32)) hx hb dX3_weigh_21 (by decide) ?_
  refine lv_istore_n (lv' := [(2, .int (0 : Int32)), (0, .ref M), (1, .int a1)]) hx hb dX3_weigh_22 rfl hl (by decide) rfl (fun ls hl => ?_)
  obtain ⟨r23_8, hr, hf⟩ := bd hf
  refine L23 a1 N _ r23_8 hr ?_ _ _ _ (lv_sub hl [1, 2, 0] rfl) hH hS
  intro ls H locs hl hH hS
  refine lv_aload_n hx hb dX3_weigh_82 rfl (lv_at hl 0 rfl) ?_
  refine m_get X hK hH 1 (by decide) rfl (mg_1 _ _) q1060 dX3_weigh_83 ?_
  refine lv_iload_n hx hb dX3_weigh_86 rfl (lv_at hl 1 rfl) ?_
  obtain ⟨v9, hv, hf⟩ := bd hf
  refine m_iald X hK hH 1 (mc_1 _ _) hv dX3_weigh_87 ?_
  refine lv_if_ne (tgt := 98) hx hb dX3_weigh_88 (by decide) (fun c_ => ?_) (fun c_ => ?_)
  · have hf := (if_neg c_).symm.trans hf
    cases hf
    exact r_vret X dX3_weigh_98 (Nat.le_refl _) (Nat.le_refl _) rfl hH hS
  · have hf := (if_pos c_).symm.trans hf
    refine lv_aload_n hx hb dX3_weigh_91 rfl (lv_at hl 0 rfl) ?_
    refine m_get X hK hH 11 (by decide) rfl (mg_11 _ _) q1070 dX3_weigh_92 ?_
    refine lv_if_ne (tgt := 99) hx hb dX3_weigh_95 (by decide) (fun c_ => ?_) (fun c_ => ?_)
    · have hf := (if_neg c_).symm.trans hf
      refine lv_iconst (v := (1 : Int32)) hx hb dX3_weigh_99 (by decide) ?_
      refine lv_istore_n (lv' := [(2, .int (1 : Int32)), (0, .ref M), (1, .int a1)]) hx hb dX3_weigh_100 rfl hl (by decide) rfl (fun ls hl => ?_)
      refine lv_iconst (v := (0 : Int32)) hx hb dX3_weigh_101 (by decide) ?_
      refine lv_istore_n (lv' := [(3, .int (0 : Int32)), (2, .int (1 : Int32)), (0, .ref M), (1, .int a1)]) hx hb dX3_weigh_102 rfl hl (by decide) rfl (fun ls hl => ?_)
      obtain ⟨r103_12, hr, hf⟩ := bd hf
      refine L103 r23_8 N _ r103_12 hr ?_ _ _ _ (lv_sub hl [2, 1, 0] rfl) hH hS
      intro ls H locs hl hH hS
      refine lv_iconst (v := (0 : Int32)) hx hb dX3_weigh_142 (by decide) ?_
      refine lv_istore_n (lv' := [(3, .int (0 : Int32)), (0, .ref M), (2, .int r103_12)]) hx hb dX3_weigh_143 rfl hl (by decide) rfl (fun ls hl => ?_)
      obtain ⟨r144_16, hr, hf⟩ := bd hf
      refine L144 r103_12 N _ r144_16 hr ?_ _ _ _ (lv_sub hl [1, 2, 0] rfl) hH hS
      intro ls H locs hl hH hS
      cases hf
      exact r_vret X dX3_weigh_174 (Nat.le_refl _) (Nat.le_refl _) rfl hH hS
    · have hf := (if_pos c_).symm.trans hf
      cases hf
      exact r_vret X dX3_weigh_98 (Nat.le_refl _) (Nat.le_refl _) rfl hH hS
theorem cv_X3_beat : CalV "WordBenchModel" yX3_beat cX3_beat 6 (some .int) 1 := ⟨q1277, q1278, q57, q1279, by decide +kernel⟩
set_option maxHeartbeats 4000000 in
theorem met_X3_beat (l : Launch) (G : GG) (sz M : Nat) (rst : Nat → Option AE) (N : Nat) (st : MS) (a1 : Int32) (stf : MS) (rf : Int32) (hf : f_X3_beat N st a1 = some (stf, rf)) : Con l yX3_beat cX3_beat 6 (some .int) 6 0 0 G (sz, MH M st rst) [.ref M, .int a1] (sz, MH M stf rst) (some (.int rf)) := by
  refine con_of (by decide) (Nat.le_of_ble_eq_true rfl) ?_
  intro p e s m below meth c ls X hK hH hl hS
  have hx := X.1
  have hb := X.2.1
  have hown : s.vm.findClass RX3 = some m.cls := X.2.2.2.2.1
  have hts := X.2.2.2.2.2.1
  have hl : lv_has ls 6 [(0, .ref M), (1, .int a1)] := hl
  unfold f_X3_beat at hf
  have L34 : ∀ (c1 : Int32) (t34 : MS) (n : Nat) (s34 : (Int32 × Int32)) (r34 : Int32), lp (f_X3_beat_b34 N c1 t34) n s34 = some r34 → (∀ (ls : Array Slot) (H : Heap) (locs : List Loc), lv_has ls 6 [(2, .int r34)] → HH G (sz, MH M t34 rst) H → va_S (AG G) s.heap H locs → W p l e (rm_ 6 0 0) s m ([.ref M, .int a1] : List Value).toArray below meth c H locs 0 0 (MQ below (PostC G (sz, MH M stf rst) (some (.int rf))) ([.ref M, .int a1] : List Value).toArray s 0 0 (AG G)) (F0 m 89 ls [])) → ∀ (ls : Array Slot) (H : Heap) (locs : List Loc), lv_has ls 6 [(0, .ref M), (1, .int c1), (2, .int s34.1), (3, .int s34.2)] → HH G (sz, MH M t34 rst) H → va_S (AG G) s.heap H locs → W p l e (rm_ 6 0 0) s m ([.ref M, .int a1] : List Value).toArray below meth c H locs 0 0 (MQ below (PostC G (sz, MH M stf rst) (some (.int rf))) ([.ref M, .int a1] : List Value).toArray s 0 0 (AG G)) (F0 m 34 ls []) := by
    intro c1 t34 n s34 r34 hr hq
    refine lp_ind (P := fun s34 => ∀ (ls : Array Slot) (H : Heap) (locs : List Loc), lv_has ls 6 [(0, .ref M), (1, .int c1), (2, .int s34.1), (3, .int s34.2)] → HH G (sz, MH M t34 rst) H → va_S (AG G) s.heap H locs → W p l e (rm_ 6 0 0) s m ([.ref M, .int a1] : List Value).toArray below meth c H locs 0 0 (MQ below (PostC G (sz, MH M stf rst) (some (.int rf))) ([.ref M, .int a1] : List Value).toArray s 0 0 (AG G)) (F0 m 34 ls [])) (Q := fun r34 => ∀ (ls : Array Slot) (H : Heap) (locs : List Loc), lv_has ls 6 [(2, .int r34)] → HH G (sz, MH M t34 rst) H → va_S (AG G) s.heap H locs → W p l e (rm_ 6 0 0) s m ([.ref M, .int a1] : List Value).toArray below meth c H locs 0 0 (MQ below (PostC G (sz, MH M stf rst) (some (.int rf))) ([.ref M, .int a1] : List Value).toArray s 0 0 (AG G)) (F0 m 89 ls [])) ?_ n s34 r34 hr hq
    intro s34 x34 hf hx34 ls H locs hl hH hS
    unfold f_X3_beat_b34 at hf
    have L62 : ∀ (c1 : Int32) (c3 : Int32) (t62 : MS) (n : Nat) (s62 : (Int32 × Int32)) (r62 : Int32), lp (f_X3_beat_b62 N c1 c3 t62) n s62 = some r62 → (∀ (ls : Array Slot) (H : Heap) (locs : List Loc), lv_has ls 6 [(0, .ref M), (1, .int c1), (2, .int r62), (3, .int c3)] → HH G (sz, MH M t62 rst) H → va_S (AG G) s.heap H locs → W p l e (rm_ 6 0 0) s m ([.ref M, .int a1] : List Value).toArray below meth c H locs 0 0 (MQ below (PostC G (sz, MH M stf rst) (some (.int rf))) ([.ref M, .int a1] : List Value).toArray s 0 0 (AG G)) (F0 m 83 ls [])) → ∀ (ls : Array Slot) (H : Heap) (locs : List Loc), lv_has ls 6 [(0, .ref M), (1, .int c1), (2, .int s62.1), (3, .int c3), (4, .int s62.2)] → HH G (sz, MH M t62 rst) H → va_S (AG G) s.heap H locs → W p l e (rm_ 6 0 0) s m ([.ref M, .int a1] : List Value).toArray below meth c H locs 0 0 (MQ below (PostC G (sz, MH M stf rst) (some (.int rf))) ([.ref M, .int a1] : List Value).toArray s 0 0 (AG G)) (F0 m 62 ls []) := by
      intro c1 c3 t62 n s62 r62 hr hq
      refine lp_ind (P := fun s62 => ∀ (ls : Array Slot) (H : Heap) (locs : List Loc), lv_has ls 6 [(0, .ref M), (1, .int c1), (2, .int s62.1), (3, .int c3), (4, .int s62.2)] → HH G (sz, MH M t62 rst) H → va_S (AG G) s.heap H locs → W p l e (rm_ 6 0 0) s m ([.ref M, .int a1] : List Value).toArray below meth c H locs 0 0 (MQ below (PostC G (sz, MH M stf rst) (some (.int rf))) ([.ref M, .int a1] : List Value).toArray s 0 0 (AG G)) (F0 m 62 ls [])) (Q := fun r62 => ∀ (ls : Array Slot) (H : Heap) (locs : List Loc), lv_has ls 6 [(0, .ref M), (1, .int c1), (2, .int r62), (3, .int c3)] → HH G (sz, MH M t62 rst) H → va_S (AG G) s.heap H locs → W p l e (rm_ 6 0 0) s m ([.ref M, .int a1] : List Value).toArray below meth c H locs 0 0 (MQ below (PostC G (sz, MH M stf rst) (some (.int rf))) ([.ref M, .int a1] : List Value).toArray s 0 0 (AG G)) (F0 m 83 ls [])) ?_ n s62 r62 hr hq
      intro s62 x62 hf hx62 ls H locs hl hH hS
      unfold f_X3_beat_b62 at hf
      refine lv_iload hx hb dX3_beat_62 (lv_at hl 4 rfl) ?_
      refine lv_if_eq (tgt := 83) hx hb dX3_beat_64 (by decide) (fun c_ => ?_) (fun c_ => ?_)
      · have hf := (if_pos c_).symm.trans hf
        cases hf
        exact hx62 _ _ _ (lv_sub hl [0, 1, 2, 3] rfl) hH hS
      · have hf := (if_neg c_).symm.trans hf
        refine lv_iload_n hx hb dX3_beat_67 rfl (lv_at hl 2 rfl) ?_
        refine lv_iload hx hb dX3_beat_68 (lv_at hl 4 rfl) ?_
        obtain ⟨v6, hv, hf⟩ := bd hf
        refine r_irem hx hb hv dX3_beat_70 ?_
        refine lv_istore (lv' := [(5, .int v6), (0, .ref M), (1, .int c1), (2, .int s62.1), (3, .int c3), (4, .int s62.2)]) hx hb dX3_beat_71 hl (by decide) rfl (fun ls hl => ?_)
        refine lv_iload hx hb dX3_beat_73 (lv_at hl 5 rfl) ?_
        refine lv_istore_n (lv' := [(2, .int s62.2), (5, .int v6), (0, .ref M), (1, .int c1), (3, .int c3), (4, .int s62.2)]) hx hb dX3_beat_75 rfl hl (by decide) rfl (fun ls hl => ?_)
        refine lv_iload hx hb dX3_beat_76 (lv_at hl 1 rfl) ?_
        refine lv_istore (lv' := [(4, .int v6), (2, .int s62.2), (5, .int v6), (0, .ref M), (1, .int c1), (3, .int c3)]) hx hb dX3_beat_78 hl (by decide) rfl (fun ls hl => ?_)
        refine lv_goto (tgt := 62) hx hb dX3_beat_80 (by decide) ?_
        cases hf
        exact hx62 _ _ _ (lv_sub hl [3, 4, 1, 5, 0] rfl) hH hS
    refine lv_iload_n hx hb dX3_beat_34 rfl (lv_at hl 3 rfl) ?_
    refine lv_aload_n hx hb dX3_beat_35 rfl (lv_at hl 0 rfl) ?_
    refine m_get X hK hH 3 (by decide) rfl (mg_3 _ _) q1062 dX3_beat_36 ?_
    refine lv_iload_n hx hb dX3_beat_39 rfl (lv_at hl 1 rfl) ?_
    obtain ⟨v4, hv, hf⟩ := bd hf
    refine m_iald X hK hH 3 (mc_3 _ _) hv dX3_beat_40 ?_
    refine lv_icmp_gt (tgt := 89) hx hb dX3_beat_41 (by decide) (fun c_ => ?_) (fun c_ => ?_)
    · have hf := (if_pos c_).symm.trans hf
      cases hf
      exact hx34 _ _ _ (lv_sub hl [2] rfl) hH hS
    · have hf := (if_neg c_).symm.trans hf
      refine lv_aload_n hx hb dX3_beat_44 rfl (lv_at hl 0 rfl) ?_
      refine m_get X hK hH 14 (by decide) rfl (mg_14 _ _) q1073 dX3_beat_45 ?_
      refine lv_iload_n hx hb dX3_beat_48 rfl (lv_at hl 3 rfl) ?_
      obtain ⟨v5, hv, hf⟩ := bd hf
      refine m_lald X hK hH 12 (mc_14 _ _) hv dX3_beat_49 ?_
      refine lv_lconst (v := (0 : Int64)) hx hb dX3_beat_50 (by decide) ?_
      refine W.lcmp hx hb dX3_beat_51 ?_
      refine lv_if_ne (tgt := 59) hx hb dX3_beat_52 (by decide) (fun c_ => ?_) (fun c_ => ?_)
      · have hf := (if_neg (fun z => c_ ((lg_cmp_eq v5 (0 : Int64)).mpr z))).symm.trans hf
        refine lv_iload_n hx hb dX3_beat_59 rfl (lv_at hl 3 rfl) ?_
        refine lv_istore (lv' := [(4, .int s34.2), (0, .ref M), (1, .int c1), (2, .int s34.1), (3, .int s34.2)]) hx hb dX3_beat_60 hl (by decide) rfl (fun ls hl => ?_)
        obtain ⟨r62_7, hr, hf⟩ := bd hf
        refine L62 c1 s34.2 t34 N _ r62_7 hr ?_ _ _ _ (lv_sub hl [1, 2, 3, 4, 0] rfl) hH hS
        intro ls H locs hl hH hS
        refine lv_iinc (v := (s34.2 + 1)) (lv' := [(3, .int (s34.2 + 1)), (0, .ref M), (1, .int c1), (2, .int r62_7)]) hx hb dX3_beat_83 hl (k := 3) rfl rfl (by decide) rfl (fun ls hl => ?_)
        refine lv_goto (tgt := 34) hx hb dX3_beat_86 (by decide) ?_
        cases hf
        exact hx34 _ _ _ (lv_sub hl [1, 2, 3, 0] rfl) hH hS
      · have hf := (if_pos ((lg_cmp_eq v5 (0 : Int64)).mp c_)).symm.trans hf
        refine lv_iconst (v := (0 : Int32)) hx hb dX3_beat_55 (by decide) ?_
        refine lv_goto (tgt := 60) hx hb dX3_beat_56 (by decide) ?_
        refine lv_istore (lv' := [(4, .int (0 : Int32)), (0, .ref M), (1, .int c1), (2, .int s34.1), (3, .int s34.2)]) hx hb dX3_beat_60 hl (by decide) rfl (fun ls hl => ?_)
        obtain ⟨r62_8, hr, hf⟩ := bd hf
        refine L62 c1 s34.2 t34 N _ r62_8 hr ?_ _ _ _ (lv_sub hl [1, 2, 3, 4, 0] rfl) hH hS
        intro ls H locs hl hH hS
        refine lv_iinc (v := (s34.2 + 1)) (lv' := [(3, .int (s34.2 + 1)), (0, .ref M), (1, .int c1), (2, .int r62_8)]) hx hb dX3_beat_83 hl (k := 3) rfl rfl (by decide) rfl (fun ls hl => ?_)
        refine lv_goto (tgt := 34) hx hb dX3_beat_86 (by decide) ?_
        cases hf
        exact hx34 _ _ _ (lv_sub hl [1, 2, 3, 0] rfl) hH hS
  refine lv_aload_n hx hb dX3_beat_0 rfl (lv_at hl 0 rfl) ?_
  refine lv_iload_n hx hb dX3_beat_1 rfl (lv_at hl 1 rfl) ?_
  obtain ⟨v1, hv, hf⟩ := bd hf
  refine r_Vi (As := [.int a1]) (rest := []) X (met_X3_lacks l G _ _ _ N st a1 v1 hv) cv_X3_lacks q1236 (m_recv hK hH) rfl rfl hl.1 (Nat.le_of_ble_eq_true rfl) ⟨Nat.le_of_ble_eq_true rfl, Nat.le_of_ble_eq_true rfl⟩ ⟨Nat.le_refl _, Nat.le_refl _⟩ dX3_beat_2 hK hH hS (fun H locs hH hS => ?_)
  refine lv_if_eq (tgt := 14) hx hb dX3_beat_5 (by decide) (fun c_ => ?_) (fun c_ => ?_)
  · have hf := (if_pos c_).symm.trans hf
    refine lv_aload_n hx hb dX3_beat_14 rfl (lv_at hl 0 rfl) ?_
    refine lv_iload_n hx hb dX3_beat_15 rfl (lv_at hl 1 rfl) ?_
    obtain ⟨v2, hv, hf⟩ := bd hf
    refine r_Vi (As := [.int a1]) (rest := []) X (met_X3_lays l G _ _ _ N st a1 v2.1 v2.2 hv) cv_X3_lays q1240 (m_recv hK hH) rfl rfl hl.1 (Nat.le_of_ble_eq_true rfl) ⟨Nat.le_of_ble_eq_true rfl, Nat.le_of_ble_eq_true rfl⟩ ⟨Nat.le_refl _, Nat.le_refl _⟩ dX3_beat_16 hK hH hS (fun H locs hH hS => ?_)
    refine lv_if_ne (tgt := 25) hx hb dX3_beat_19 (by decide) (fun c_ => ?_) (fun c_ => ?_)
    · have hf := (if_neg c_).symm.trans hf
      refine lv_aload_n hx hb dX3_beat_25 rfl (lv_at hl 0 rfl) ?_
      refine lv_iload_n hx hb dX3_beat_26 rfl (lv_at hl 1 rfl) ?_
      obtain ⟨v3, hv, hf⟩ := bd hf
      refine r_Vv (As := [.int a1]) (rest := []) X (met_X3_weigh l G _ _ _ N v2.1 a1 v3 hv) cv_X3_weigh q1262 (m_recv hK hH) rfl rfl hl.1 (Nat.le_of_ble_eq_true rfl) ⟨Nat.le_of_ble_eq_true rfl, Nat.le_of_ble_eq_true rfl⟩ ⟨Nat.le_refl _, Nat.le_refl _⟩ dX3_beat_27 hK hH hS (fun H locs hH hS => ?_)
      refine lv_iconst (v := (0 : Int32)) hx hb dX3_beat_30 (by decide) ?_
      refine lv_istore_n (lv' := [(2, .int (0 : Int32)), (0, .ref M), (1, .int a1)]) hx hb dX3_beat_31 rfl hl (by decide) rfl (fun ls hl => ?_)
      refine lv_iconst (v := (1 : Int32)) hx hb dX3_beat_32 (by decide) ?_
      refine lv_istore_n (lv' := [(3, .int (1 : Int32)), (2, .int (0 : Int32)), (0, .ref M), (1, .int a1)]) hx hb dX3_beat_33 rfl hl (by decide) rfl (fun ls hl => ?_)
      obtain ⟨r34_9, hr, hf⟩ := bd hf
      refine L34 a1 v3 N _ r34_9 hr ?_ _ _ _ (lv_sub hl [2, 3, 1, 0] rfl) hH hS
      intro ls H locs hl hH hS
      refine lv_iload_n hx hb dX3_beat_89 rfl (lv_at hl 0 rfl) ?_
      cases hf
      exact r_iret X dX3_beat_90 (Nat.le_refl _) (Nat.le_refl _) rfl hH hS
    · have hf := (if_pos c_).symm.trans hf
      refine lv_bipush (v := (-5 : Int32)) hx hb dX3_beat_22 (by decide) ?_
      cases hf
      exact r_iret X dX3_beat_24 (Nat.le_refl _) (Nat.le_refl _) rfl hH hS
  · have hf := (if_neg c_).symm.trans hf
    refine lv_aload_n hx hb dX3_beat_8 rfl (lv_at hl 0 rfl) ?_
    refine lv_iload_n hx hb dX3_beat_9 rfl (lv_at hl 1 rfl) ?_
    obtain ⟨v10, hv, hf⟩ := bd hf
    refine r_Vi (As := [.int a1]) (rest := []) X (met_X3_lacks l G _ _ _ N st a1 v10 hv) cv_X3_lacks q1236 (m_recv hK hH) rfl rfl hl.1 (Nat.le_of_ble_eq_true rfl) ⟨Nat.le_of_ble_eq_true rfl, Nat.le_of_ble_eq_true rfl⟩ ⟨Nat.le_refl _, Nat.le_refl _⟩ dX3_beat_10 hK hH hS (fun H locs hH hS => ?_)
    cases hf
    exact r_iret X dX3_beat_13 (Nat.le_refl _) (Nat.le_refl _) rfl hH hS
theorem cv_X3_begin : CalV "WordBenchModel" yX3_begin cX3_begin 5 none 4 := ⟨q1142, qs19, q57, q1143, by decide +kernel⟩
set_option maxHeartbeats 4000000 in
theorem met_X3_begin (l : Launch) (G : GG) (sz M : Nat) (rst : Nat → Option AE) (N : Nat) (st : MS) (a1 : Int32) (a2 : Int32) (a3 : Int32) (a4 : Int32) (stf : MS) (hf : f_X3_begin N st a1 a2 a3 a4 = some stf) : Con l yX3_begin cX3_begin 5 none 0 0 0 G (sz, MH M st rst) [.ref M, .int a1, .int a2, .int a3, .int a4] (sz, MH M stf rst) none := by
  refine con_of (by decide) (Nat.le_of_ble_eq_true rfl) ?_
  intro p e s m below meth c ls X hK hH hl hS
  have hx := X.1
  have hb := X.2.1
  have hown : s.vm.findClass RX3 = some m.cls := X.2.2.2.2.1
  have hts := X.2.2.2.2.2.1
  have hl : lv_has ls 5 [(0, .ref M), (1, .int a1), (2, .int a2), (3, .int a3), (4, .int a4)] := hl
  unfold f_X3_begin at hf
  refine lv_aload_n hx hb dX3_begin_0 rfl (lv_at hl 0 rfl) ?_
  refine m_get X hK hH 1 (by decide) rfl (mg_1 _ _) q1060 dX3_begin_1 ?_
  refine lv_iload_n hx hb dX3_begin_4 rfl (lv_at hl 1 rfl) ?_
  refine lv_iload_n hx hb dX3_begin_5 rfl (lv_at hl 2 rfl) ?_
  obtain ⟨w1, hv, hf⟩ := bd hf
  refine m_iast X hK hH hS 1 (mc_1 _ _) hv (mt_1 _ _ _) dX3_begin_6 (fun H locs hH hS => ?_)
  refine lv_aload_n hx hb dX3_begin_7 rfl (lv_at hl 0 rfl) ?_
  refine m_get X hK hH 2 (by decide) rfl (mg_2 _ _) q1061 dX3_begin_8 ?_
  refine lv_iload_n hx hb dX3_begin_11 rfl (lv_at hl 1 rfl) ?_
  refine lv_iload_n hx hb dX3_begin_12 rfl (lv_at hl 3 rfl) ?_
  obtain ⟨w2, hv, hf⟩ := bd hf
  refine m_iast X hK hH hS 2 (mc_2 _ _) hv (mt_2 _ _ _) dX3_begin_13 (fun H locs hH hS => ?_)
  refine lv_aload_n hx hb dX3_begin_14 rfl (lv_at hl 0 rfl) ?_
  refine m_get X hK hH 3 (by decide) rfl (mg_3 _ _) q1062 dX3_begin_15 ?_
  refine lv_iload_n hx hb dX3_begin_18 rfl (lv_at hl 1 rfl) ?_
  refine lv_iload hx hb dX3_begin_19 (lv_at hl 4 rfl) ?_
  obtain ⟨w3, hv, hf⟩ := bd hf
  refine m_iast X hK hH hS 3 (mc_3 _ _) hv (mt_3 _ _ _) dX3_begin_21 (fun H locs hH hS => ?_)
  refine lv_aload_n hx hb dX3_begin_22 rfl (lv_at hl 0 rfl) ?_
  refine m_get X hK hH 4 (by decide) rfl (mg_4 _ _) q1063 dX3_begin_23 ?_
  refine lv_iload_n hx hb dX3_begin_26 rfl (lv_at hl 1 rfl) ?_
  refine lv_iconst (v := (0 : Int32)) hx hb dX3_begin_27 (by decide) ?_
  obtain ⟨w4, hv, hf⟩ := bd hf
  refine m_iast X hK hH hS 4 (mc_4 _ _) hv (mt_4 _ _ _) dX3_begin_28 (fun H locs hH hS => ?_)
  cases hf
  exact r_vret X dX3_begin_29 (Nat.le_refl _) (Nat.le_refl _) rfl hH hS
theorem cs_X3_isField : CalS yX3_isField cX3_isField 2 (some .boolean) 2 := ⟨q1011, q57, q1012, by decide +kernel, by decide +kernel, by decide +kernel⟩
set_option maxHeartbeats 4000000 in
theorem met_X3_isField (l : Launch) (G : GG) (σ : SG) (N : Nat) (a0 : Int32) (a1 : Int32) (rf : Int32) (hf : f_X3_isField N a0 a1 = some rf) : Con l yX3_isField cX3_isField 2 (some .boolean) 1 0 0 G σ [.int a0, .int a1] σ (some (.int rf)) := by
  refine con_of (by decide) (Nat.le_of_ble_eq_true rfl) ?_
  intro p e s m below meth c ls X hK hH hl hS
  have hx := X.1
  have hb := X.2.1
  have hown : s.vm.findClass RX3 = some m.cls := X.2.2.2.2.1
  have hts := X.2.2.2.2.2.1
  have hl : lv_has ls 2 [(0, .int a0), (1, .int a1)] := hl
  unfold f_X3_isField at hf
  refine lv_iload_n hx hb dX3_isField_0 rfl (lv_at hl 0 rfl) ?_
  refine lv_i2l (v := (a0).toInt64) hx hb dX3_isField_1 rfl ?_
  refine lv_ldc2 (v := (2 : Int64)) hx hb hown (hts _ q1013) dX3_isField_2 ?_
  refine lv_ldc2 (v := (5 : Int64)) hx hb hown (hts _ q1014) dX3_isField_5 ?_
  obtain ⟨v1, hv, hf⟩ := bd hf
  refine r_Si (As := [.long ((a0).toInt64), .long (2 : Int64), .long (5 : Int64)]) (rest := []) X (met_X3_isIn l G _ N ((a0).toInt64) (2 : Int64) (5 : Int64) v1 hv) cs_X3_isIn q1015 rfl rfl hl.1 (Nat.le_of_ble_eq_true rfl) ⟨Nat.le_of_ble_eq_true rfl, Nat.le_of_ble_eq_true rfl⟩ ⟨Nat.le_refl _, Nat.le_refl _⟩ dX3_isField_8 hK hH hS (fun H locs hH hS => ?_)
  refine lv_if_eq (tgt := 30) hx hb dX3_isField_11 (by decide) (fun c_ => ?_) (fun c_ => ?_)
  · have hf := (if_pos c_).symm.trans hf
    refine lv_iconst (v := (0 : Int32)) hx hb dX3_isField_30 (by decide) ?_
    obtain ⟨hz, hv⟩ := rz_s hf
    subst hv
    exact r_zret X dX3_isField_31 (Nat.le_refl _) (Nat.le_refl _) hz rfl hH hS
  · have hf := (if_neg c_).symm.trans hf
    refine lv_iload_n hx hb dX3_isField_14 rfl (lv_at hl 1 rfl) ?_
    refine lv_i2l (v := (a1).toInt64) hx hb dX3_isField_15 rfl ?_
    refine lv_lconst (v := (1 : Int64)) hx hb dX3_isField_16 (by decide) ?_
    refine lv_ldc2 (v := (12 : Int64)) hx hb hown (hts _ q1018) dX3_isField_17 ?_
    obtain ⟨v2, hv, hf⟩ := bd hf
    refine r_Si (As := [.long ((a1).toInt64), .long (1 : Int64), .long (12 : Int64)]) (rest := []) X (met_X3_isIn l G _ N ((a1).toInt64) (1 : Int64) (12 : Int64) v2 hv) cs_X3_isIn q1015 rfl rfl hl.1 (Nat.le_of_ble_eq_true rfl) ⟨Nat.le_of_ble_eq_true rfl, Nat.le_of_ble_eq_true rfl⟩ ⟨Nat.le_refl _, Nat.le_refl _⟩ dX3_isField_20 hK hH hS (fun H locs hH hS => ?_)
    refine lv_if_eq (tgt := 30) hx hb dX3_isField_23 (by decide) (fun c_ => ?_) (fun c_ => ?_)
    · have hf := (if_pos c_).symm.trans hf
      refine lv_iconst (v := (0 : Int32)) hx hb dX3_isField_30 (by decide) ?_
      obtain ⟨hz, hv⟩ := rz_s hf
      subst hv
      exact r_zret X dX3_isField_31 (Nat.le_refl _) (Nat.le_refl _) hz rfl hH hS
    · have hf := (if_neg c_).symm.trans hf
      refine lv_iconst (v := (1 : Int32)) hx hb dX3_isField_26 (by decide) ?_
      refine lv_goto (tgt := 31) hx hb dX3_isField_27 (by decide) ?_
      obtain ⟨hz, hv⟩ := rz_s hf
      subst hv
      exact r_zret X dX3_isField_31 (Nat.le_refl _) (Nat.le_refl _) hz rfl hH hS
theorem cs_X3_choose : CalS yX3_choose cX3_choose 5 (some .long) 2 := ⟨q1274, q57, q1275, by decide +kernel, by decide +kernel, by decide +kernel⟩
set_option maxHeartbeats 4000000 in
theorem met_X3_choose (l : Launch) (G : GG) (σ : SG) (N : Nat) (a0 : Int32) (a1 : Int32) (rf : Int64) (hf : f_X3_choose N a0 a1 = some rf) : Con l yX3_choose cX3_choose 5 (some .long) 0 0 0 G σ [.int a0, .int a1] σ (some (.long rf)) := by
  refine con_of (by decide) (Nat.le_of_ble_eq_true rfl) ?_
  intro p e s m below meth c ls X hK hH hl hS
  have hx := X.1
  have hb := X.2.1
  have hown : s.vm.findClass RX3 = some m.cls := X.2.2.2.2.1
  have hts := X.2.2.2.2.2.1
  have hl : lv_has ls 5 [(0, .int a0), (1, .int a1)] := hl
  unfold f_X3_choose at hf
  have L16 : ∀ (c0 : Int32) (c1 : Int32) (n : Nat) (s16 : (Int64 × Int32)) (r16 : Int64), lp (f_X3_choose_b16 N c0 c1) n s16 = some r16 → (∀ (ls : Array Slot) (H : Heap) (locs : List Loc), lv_has ls 5 [(2, .long r16)] → HH G σ H → va_S (AG G) s.heap H locs → W p l e (rm_ 0 0 0) s m ([.int a0, .int a1] : List Value).toArray below meth c H locs 0 0 (MQ below (PostC G σ (some (.long rf))) ([.int a0, .int a1] : List Value).toArray s 0 0 (AG G)) (F0 m 42 ls [])) → ∀ (ls : Array Slot) (H : Heap) (locs : List Loc), lv_has ls 5 [(0, .int c0), (1, .int c1), (2, .long s16.1), (4, .int s16.2)] → HH G σ H → va_S (AG G) s.heap H locs → W p l e (rm_ 0 0 0) s m ([.int a0, .int a1] : List Value).toArray below meth c H locs 0 0 (MQ below (PostC G σ (some (.long rf))) ([.int a0, .int a1] : List Value).toArray s 0 0 (AG G)) (F0 m 16 ls []) := by
    intro c0 c1 n s16 r16 hr hq
    refine lp_ind (P := fun s16 => ∀ (ls : Array Slot) (H : Heap) (locs : List Loc), lv_has ls 5 [(0, .int c0), (1, .int c1), (2, .long s16.1), (4, .int s16.2)] → HH G σ H → va_S (AG G) s.heap H locs → W p l e (rm_ 0 0 0) s m ([.int a0, .int a1] : List Value).toArray below meth c H locs 0 0 (MQ below (PostC G σ (some (.long rf))) ([.int a0, .int a1] : List Value).toArray s 0 0 (AG G)) (F0 m 16 ls [])) (Q := fun r16 => ∀ (ls : Array Slot) (H : Heap) (locs : List Loc), lv_has ls 5 [(2, .long r16)] → HH G σ H → va_S (AG G) s.heap H locs → W p l e (rm_ 0 0 0) s m ([.int a0, .int a1] : List Value).toArray below meth c H locs 0 0 (MQ below (PostC G σ (some (.long rf))) ([.int a0, .int a1] : List Value).toArray s 0 0 (AG G)) (F0 m 42 ls [])) ?_ n s16 r16 hr hq
    intro s16 x16 hf hx16 ls H locs hl hH hS
    unfold f_X3_choose_b16 at hf
    refine lv_iload hx hb dX3_choose_16 (lv_at hl 3 rfl) ?_
    refine lv_iload_n hx hb dX3_choose_18 rfl (lv_at hl 1 rfl) ?_
    refine lv_icmp_ge (tgt := 42) hx hb dX3_choose_19 (by decide) (fun c_ => ?_) (fun c_ => ?_)
    · have hf := (if_pos c_).symm.trans hf
      cases hf
      exact hx16 _ _ _ (lv_sub hl [2] rfl) hH hS
    · have hf := (if_neg c_).symm.trans hf
      refine lv_lload_n hx hb dX3_choose_22 rfl (lv_at hl 2 rfl) ?_
      refine lv_iload_n hx hb dX3_choose_23 rfl (lv_at hl 0 rfl) ?_
      refine lv_iload hx hb dX3_choose_24 (lv_at hl 3 rfl) ?_
      refine lv_isub hx hb dX3_choose_26 ?_
      refine lv_i2l (v := ((c0 - s16.2)).toInt64) hx hb dX3_choose_27 rfl ?_
      refine lv_lmul hx hb dX3_choose_28 ?_
      refine lv_iload hx hb dX3_choose_29 (lv_at hl 3 rfl) ?_
      refine lv_iconst (v := (1 : Int32)) hx hb dX3_choose_31 (by decide) ?_
      refine lv_iadd hx hb dX3_choose_32 ?_
      refine lv_i2l (v := ((s16.2 + (1 : Int32))).toInt64) hx hb dX3_choose_33 rfl ?_
      obtain ⟨v1, hv, hf⟩ := bd hf
      refine r_ldiv hx hb hv dX3_choose_34 ?_
      refine lv_lstore_n (lv' := [(2, .long v1), (0, .int c0), (1, .int c1), (4, .int s16.2)]) hx hb dX3_choose_35 rfl hl (by decide) rfl (fun ls hl => ?_)
      refine lv_iinc (v := (s16.2 + 1)) (lv' := [(4, .int (s16.2 + 1)), (2, .long v1), (0, .int c0), (1, .int c1)]) hx hb dX3_choose_36 hl (k := 3) rfl rfl (by decide) rfl (fun ls hl => ?_)
      refine lv_goto (tgt := 16) hx hb dX3_choose_39 (by decide) ?_
      cases hf
      exact hx16 _ _ _ (lv_sub hl [2, 3, 1, 0] rfl) hH hS
  refine lv_iload_n hx hb dX3_choose_0 rfl (lv_at hl 1 rfl) ?_
  refine lv_if_lt (tgt := 9) hx hb dX3_choose_1 (by decide) (fun c_ => ?_) (fun c_ => ?_)
  · have hf := (if_pos c_).symm.trans hf
    refine lv_lconst (v := (0 : Int64)) hx hb dX3_choose_9 (by decide) ?_
    cases hf
    exact r_lret X dX3_choose_10 (Nat.le_refl _) (Nat.le_refl _) rfl hH hS
  · have hf := (if_neg c_).symm.trans hf
    refine lv_iload_n hx hb dX3_choose_4 rfl (lv_at hl 1 rfl) ?_
    refine lv_iload_n hx hb dX3_choose_5 rfl (lv_at hl 0 rfl) ?_
    refine lv_icmp_le (tgt := 11) hx hb dX3_choose_6 (by decide) (fun c_ => ?_) (fun c_ => ?_)
    · have hf := (if_pos c_).symm.trans hf
      refine lv_lconst (v := (1 : Int64)) hx hb dX3_choose_11 (by decide) ?_
      refine lv_lstore_n (lv' := [(2, .long (1 : Int64)), (0, .int a0), (1, .int a1)]) hx hb dX3_choose_12 rfl hl (by decide) rfl (fun ls hl => ?_)
      refine lv_iconst (v := (0 : Int32)) hx hb dX3_choose_13 (by decide) ?_
      refine lv_istore (lv' := [(4, .int (0 : Int32)), (2, .long (1 : Int64)), (0, .int a0), (1, .int a1)]) hx hb dX3_choose_14 hl (by decide) rfl (fun ls hl => ?_)
      obtain ⟨r16_2, hr, hf⟩ := bd hf
      refine L16 a0 a1 N _ r16_2 hr ?_ _ _ _ (lv_sub hl [2, 3, 1, 0] rfl) hH hS
      intro ls H locs hl hH hS
      refine lv_lload_n hx hb dX3_choose_42 rfl (lv_at hl 0 rfl) ?_
      cases hf
      exact r_lret X dX3_choose_43 (Nat.le_refl _) (Nat.le_refl _) rfl hH hS
    · have hf := (if_neg c_).symm.trans hf
      refine lv_lconst (v := (0 : Int64)) hx hb dX3_choose_9 (by decide) ?_
      cases hf
      exact r_lret X dX3_choose_10 (Nat.le_refl _) (Nat.le_refl _) rfl hH hS
theorem cv_X3_bound : CalV "WordBenchModel" yX3_bound cX3_bound 8 (some .long) 4 := ⟨q1281, q1282, q57, q1283, by decide +kernel⟩
set_option maxHeartbeats 4000000 in
theorem met_X3_bound (l : Launch) (G : GG) (sz M : Nat) (rst : Nat → Option AE) (N : Nat) (st : MS) (a1 : Int32) (a2 : Int32) (a3 : Int32) (a4 : Int32) (rf : Int64) (hf : f_X3_bound N st a1 a2 a3 a4 = some rf) : Con l yX3_bound cX3_bound 8 (some .long) 2 0 0 G (sz, MH M st rst) [.ref M, .int a1, .int a2, .int a3, .int a4] (sz, MH M st rst) (some (.long rf)) := by
  refine con_of (by decide) (Nat.le_of_ble_eq_true rfl) ?_
  intro p e s m below meth c ls X hK hH hl hS
  have hx := X.1
  have hb := X.2.1
  have hown : s.vm.findClass RX3 = some m.cls := X.2.2.2.2.1
  have hts := X.2.2.2.2.2.1
  have hl : lv_has ls 8 [(0, .ref M), (1, .int a1), (2, .int a2), (3, .int a3), (4, .int a4)] := hl
  unfold f_X3_bound at hf
  have L56 : ∀ (c1 : Int32) (c2 : Int32) (c3 : Int32) (n : Nat) (s56 : (Int64 × Int32)) (r56 : Int64), lp (f_X3_bound_b56 N c1 c2 c3 st) n s56 = some r56 → (∀ (ls : Array Slot) (H : Heap) (locs : List Loc), lv_has ls 8 [(1, .int c1), (2, .int c2), (5, .long r56)] → HH G (sz, MH M st rst) H → va_S (AG G) s.heap H locs → W p l e (rm_ 2 0 0) s m ([.ref M, .int a1, .int a2, .int a3, .int a4] : List Value).toArray below meth c H locs 0 0 (MQ below (PostC G (sz, MH M st rst) (some (.long rf))) ([.ref M, .int a1, .int a2, .int a3, .int a4] : List Value).toArray s 0 0 (AG G)) (F0 m 92 ls [])) → ∀ (ls : Array Slot) (H : Heap) (locs : List Loc), lv_has ls 8 [(1, .int c1), (2, .int c2), (3, .int c3), (5, .long s56.1), (7, .int s56.2)] → HH G (sz, MH M st rst) H → va_S (AG G) s.heap H locs → W p l e (rm_ 2 0 0) s m ([.ref M, .int a1, .int a2, .int a3, .int a4] : List Value).toArray below meth c H locs 0 0 (MQ below (PostC G (sz, MH M st rst) (some (.long rf))) ([.ref M, .int a1, .int a2, .int a3, .int a4] : List Value).toArray s 0 0 (AG G)) (F0 m 56 ls []) := by
    intro c1 c2 c3 n s56 r56 hr hq
    refine lp_ind (P := fun s56 => ∀ (ls : Array Slot) (H : Heap) (locs : List Loc), lv_has ls 8 [(1, .int c1), (2, .int c2), (3, .int c3), (5, .long s56.1), (7, .int s56.2)] → HH G (sz, MH M st rst) H → va_S (AG G) s.heap H locs → W p l e (rm_ 2 0 0) s m ([.ref M, .int a1, .int a2, .int a3, .int a4] : List Value).toArray below meth c H locs 0 0 (MQ below (PostC G (sz, MH M st rst) (some (.long rf))) ([.ref M, .int a1, .int a2, .int a3, .int a4] : List Value).toArray s 0 0 (AG G)) (F0 m 56 ls [])) (Q := fun r56 => ∀ (ls : Array Slot) (H : Heap) (locs : List Loc), lv_has ls 8 [(1, .int c1), (2, .int c2), (5, .long r56)] → HH G (sz, MH M st rst) H → va_S (AG G) s.heap H locs → W p l e (rm_ 2 0 0) s m ([.ref M, .int a1, .int a2, .int a3, .int a4] : List Value).toArray below meth c H locs 0 0 (MQ below (PostC G (sz, MH M st rst) (some (.long rf))) ([.ref M, .int a1, .int a2, .int a3, .int a4] : List Value).toArray s 0 0 (AG G)) (F0 m 92 ls [])) ?_ n s56 r56 hr hq
    intro s56 x56 hf hx56 ls H locs hl hH hS
    unfold f_X3_bound_b56 at hf
    refine lv_iload hx hb dX3_bound_56 (lv_at hl 4 rfl) ?_
    refine lv_iload_n hx hb dX3_bound_58 rfl (lv_at hl 2 rfl) ?_
    refine lv_iconst (v := (1 : Int32)) hx hb dX3_bound_59 (by decide) ?_
    refine lv_isub hx hb dX3_bound_60 ?_
    refine lv_iconst (v := (2 : Int32)) hx hb dX3_bound_61 (by decide) ?_
    obtain ⟨v4, hv, hf⟩ := bd hf
    refine r_idiv hx hb hv dX3_bound_62 ?_
    refine lv_icmp_gt (tgt := 92) hx hb dX3_bound_63 (by decide) (fun c_ => ?_) (fun c_ => ?_)
    · have hf := (if_pos c_).symm.trans hf
      cases hf
      exact hx56 _ _ _ (lv_sub hl [0, 1, 3] rfl) hH hS
    · have hf := (if_neg c_).symm.trans hf
      refine lv_lload hx hb dX3_bound_66 (lv_at hl 3 rfl) ?_
      refine lv_iload_n hx hb dX3_bound_68 rfl (lv_at hl 1 rfl) ?_
      refine lv_iload hx hb dX3_bound_69 (lv_at hl 4 rfl) ?_
      obtain ⟨v5, hv, hf⟩ := bd hf
      refine r_Sl (As := [.int c2, .int s56.2]) (rest := [.long s56.1]) X (met_X3_choose l G _ N c2 s56.2 v5 hv) cs_X3_choose q1273 rfl rfl hl.1 (Nat.le_of_ble_eq_true rfl) ⟨Nat.le_of_ble_eq_true rfl, Nat.le_of_ble_eq_true rfl⟩ ⟨Nat.le_refl _, Nat.le_refl _⟩ dX3_bound_71 hK hH hS (fun H locs hH hS => ?_)
      refine lv_iload_n hx hb dX3_bound_74 rfl (lv_at hl 0 rfl) ?_
      refine lv_iconst (v := (1 : Int32)) hx hb dX3_bound_75 (by decide) ?_
      refine lv_isub hx hb dX3_bound_76 ?_
      refine lv_iload hx hb dX3_bound_77 (lv_at hl 4 rfl) ?_
      obtain ⟨v6, hv, hf⟩ := bd hf
      refine r_Sl (As := [.int (c1 - (1 : Int32)), .int s56.2]) (rest := [.long v5, .long s56.1]) X (met_X3_power l G _ N (c1 - (1 : Int32)) s56.2 v6 hv) cs_X3_power q1022 rfl rfl hl.1 (Nat.le_of_ble_eq_true rfl) ⟨Nat.le_of_ble_eq_true rfl, Nat.le_of_ble_eq_true rfl⟩ ⟨Nat.le_refl _, Nat.le_refl _⟩ dX3_bound_79 hK hH hS (fun H locs hH hS => ?_)
      refine lv_lmul hx hb dX3_bound_82 ?_
      refine lv_ladd hx hb dX3_bound_83 ?_
      refine lv_lstore (lv' := [(5, .long (s56.1 + (v5 * v6))), (1, .int c1), (2, .int c2), (3, .int c3), (7, .int s56.2)]) hx hb dX3_bound_84 hl (by decide) rfl (fun ls hl => ?_)
      refine lv_iinc (v := (s56.2 + 1)) (lv' := [(7, .int (s56.2 + 1)), (5, .long (s56.1 + (v5 * v6))), (1, .int c1), (2, .int c2), (3, .int c3)]) hx hb dX3_bound_86 hl (k := 4) rfl rfl (by decide) rfl (fun ls hl => ?_)
      refine lv_goto (tgt := 56) hx hb dX3_bound_89 (by decide) ?_
      cases hf
      exact hx56 _ _ _ (lv_sub hl [2, 3, 4, 1, 0] rfl) hH hS
  refine lv_iload_n hx hb dX3_bound_0 rfl (lv_at hl 1 rfl) ?_
  refine lv_iload_n hx hb dX3_bound_1 rfl (lv_at hl 2 rfl) ?_
  obtain ⟨v1, hv, hf⟩ := bd hf
  refine r_Si (As := [.int a1, .int a2]) (rest := []) X (met_X3_isField l G _ N a1 a2 v1 hv) cs_X3_isField q1010 rfl rfl hl.1 (Nat.le_of_ble_eq_true rfl) ⟨Nat.le_of_ble_eq_true rfl, Nat.le_of_ble_eq_true rfl⟩ ⟨Nat.le_refl _, Nat.le_refl _⟩ dX3_bound_2 hK hH hS (fun H locs hH hS => ?_)
  refine lv_if_eq (tgt := 30) hx hb dX3_bound_5 (by decide) (fun c_ => ?_) (fun c_ => ?_)
  · have hf := (if_pos c_).symm.trans hf
    refine lv_ldc2 (v := (-1 : Int64)) hx hb hown (hts _ q1025) dX3_bound_30 ?_
    cases hf
    exact r_lret X dX3_bound_33 (Nat.le_refl _) (Nat.le_refl _) rfl hH hS
  · have hf := (if_neg c_).symm.trans hf
    refine lv_iload_n hx hb dX3_bound_8 rfl (lv_at hl 3 rfl) ?_
    refine lv_i2l (v := (a3).toInt64) hx hb dX3_bound_9 rfl ?_
    refine lv_lconst (v := (1 : Int64)) hx hb dX3_bound_10 (by decide) ?_
    refine lv_iload_n hx hb dX3_bound_11 rfl (lv_at hl 2 rfl) ?_
    refine lv_i2l (v := (a2).toInt64) hx hb dX3_bound_12 rfl ?_
    obtain ⟨v2, hv, hf⟩ := bd hf
    refine r_Si (As := [.long ((a3).toInt64), .long (1 : Int64), .long ((a2).toInt64)]) (rest := []) X (met_X3_isIn l G _ N ((a3).toInt64) (1 : Int64) ((a2).toInt64) v2 hv) cs_X3_isIn q1015 rfl rfl hl.1 (Nat.le_of_ble_eq_true rfl) ⟨Nat.le_of_ble_eq_true rfl, Nat.le_of_ble_eq_true rfl⟩ ⟨Nat.le_refl _, Nat.le_refl _⟩ dX3_bound_13 hK hH hS (fun H locs hH hS => ?_)
    refine lv_if_eq (tgt := 30) hx hb dX3_bound_16 (by decide) (fun c_ => ?_) (fun c_ => ?_)
    · have hf := (if_pos c_).symm.trans hf
      refine lv_ldc2 (v := (-1 : Int64)) hx hb hown (hts _ q1025) dX3_bound_30 ?_
      cases hf
      exact r_lret X dX3_bound_33 (Nat.le_refl _) (Nat.le_refl _) rfl hH hS
    · have hf := (if_neg c_).symm.trans hf
      refine lv_iload hx hb dX3_bound_19 (lv_at hl 4 rfl) ?_
      refine lv_i2l (v := (a4).toInt64) hx hb dX3_bound_21 rfl ?_
      refine lv_lconst (v := (0 : Int64)) hx hb dX3_bound_22 (by decide) ?_
      refine lv_lconst (v := (1 : Int64)) hx hb dX3_bound_23 (by decide) ?_
      obtain ⟨v3, hv, hf⟩ := bd hf
      refine r_Si (As := [.long ((a4).toInt64), .long (0 : Int64), .long (1 : Int64)]) (rest := []) X (met_X3_isIn l G _ N ((a4).toInt64) (0 : Int64) (1 : Int64) v3 hv) cs_X3_isIn q1015 rfl rfl hl.1 (Nat.le_of_ble_eq_true rfl) ⟨Nat.le_of_ble_eq_true rfl, Nat.le_of_ble_eq_true rfl⟩ ⟨Nat.le_refl _, Nat.le_refl _⟩ dX3_bound_24 hK hH hS (fun H locs hH hS => ?_)
      refine lv_if_ne (tgt := 34) hx hb dX3_bound_27 (by decide) (fun c_ => ?_) (fun c_ => ?_)
      · have hf := (if_neg c_).symm.trans hf
        refine lv_iload hx hb dX3_bound_34 (lv_at hl 4 rfl) ?_
        refine lv_iconst (v := (1 : Int32)) hx hb dX3_bound_36 (by decide) ?_
        refine lv_icmp_ne (tgt := 50) hx hb dX3_bound_37 (by decide) (fun c_ => ?_) (fun c_ => ?_)
        · have hf := (if_neg c_).symm.trans hf
          refine lv_lconst (v := (0 : Int64)) hx hb dX3_bound_50 (by decide) ?_
          refine lv_lstore (lv' := [(5, .long (0 : Int64)), (0, .ref M), (1, .int a1), (2, .int a2), (3, .int a3), (4, .int a4)]) hx hb dX3_bound_51 hl (by decide) rfl (fun ls hl => ?_)
          refine lv_iconst (v := (0 : Int32)) hx hb dX3_bound_53 (by decide) ?_
          refine lv_istore (lv' := [(7, .int (0 : Int32)), (5, .long (0 : Int64)), (0, .ref M), (1, .int a1), (2, .int a2), (3, .int a3), (4, .int a4)]) hx hb dX3_bound_54 hl (by decide) rfl (fun ls hl => ?_)
          obtain ⟨r56_7, hr, hf⟩ := bd hf
          refine L56 a1 a2 a3 N _ r56_7 hr ?_ _ _ _ (lv_sub hl [3, 4, 5, 1, 0] rfl) hH hS
          intro ls H locs hl hH hS
          refine lv_iload_n hx hb dX3_bound_92 rfl (lv_at hl 0 rfl) ?_
          refine lv_iload_n hx hb dX3_bound_93 rfl (lv_at hl 1 rfl) ?_
          obtain ⟨v8, hv, hf⟩ := bd hf
          refine r_Sl (As := [.int a1, .int a2]) (rest := []) X (met_X3_power l G _ N a1 a2 v8 hv) cs_X3_power q1022 rfl rfl hl.1 (Nat.le_of_ble_eq_true rfl) ⟨Nat.le_of_ble_eq_true rfl, Nat.le_of_ble_eq_true rfl⟩ ⟨Nat.le_refl _, Nat.le_refl _⟩ dX3_bound_94 hK hH hS (fun H locs hH hS => ?_)
          refine lv_lload hx hb dX3_bound_97 (lv_at hl 2 rfl) ?_
          obtain ⟨v9, hv, hf⟩ := bd hf
          refine r_ldiv hx hb hv dX3_bound_99 ?_
          cases hf
          exact r_lret X dX3_bound_100 (Nat.le_refl _) (Nat.le_refl _) rfl hH hS
        · have hf := (if_pos c_).symm.trans hf
          refine lv_iload_n hx hb dX3_bound_40 rfl (lv_at hl 1 rfl) ?_
          refine lv_iload_n hx hb dX3_bound_41 rfl (lv_at hl 2 rfl) ?_
          refine lv_iload_n hx hb dX3_bound_42 rfl (lv_at hl 3 rfl) ?_
          refine lv_isub hx hb dX3_bound_43 ?_
          refine lv_iconst (v := (1 : Int32)) hx hb dX3_bound_44 (by decide) ?_
          refine lv_iadd hx hb dX3_bound_45 ?_
          obtain ⟨v10, hv, hf⟩ := bd hf
          refine r_Sl (As := [.int a1, .int ((a2 - a3) + (1 : Int32))]) (rest := []) X (met_X3_power l G _ N a1 ((a2 - a3) + (1 : Int32)) v10 hv) cs_X3_power q1022 rfl rfl hl.1 (Nat.le_of_ble_eq_true rfl) ⟨Nat.le_of_ble_eq_true rfl, Nat.le_of_ble_eq_true rfl⟩ ⟨Nat.le_refl _, Nat.le_refl _⟩ dX3_bound_46 hK hH hS (fun H locs hH hS => ?_)
          cases hf
          exact r_lret X dX3_bound_49 (Nat.le_refl _) (Nat.le_refl _) rfl hH hS
      · have hf := (if_pos c_).symm.trans hf
        refine lv_ldc2 (v := (-1 : Int64)) hx hb hown (hts _ q1025) dX3_bound_30 ?_
        cases hf
        exact r_lret X dX3_bound_33 (Nat.le_refl _) (Nat.le_refl _) rfl hH hS
theorem cv_X3_dualOf : CalV "WordBenchModel" yX3_dualOf cX3_dualOf 10 (some .int) 1 := ⟨q1225, qs28, q57, q1226, by decide +kernel⟩
set_option maxHeartbeats 4000000 in
theorem met_X3_dualOf (l : Launch) (G : GG) (sz M : Nat) (rst : Nat → Option AE) (N : Nat) (st : MS) (a1 : Int32) (stf : MS) (rf : Int32) (hf : f_X3_dualOf N st a1 = some (stf, rf)) : Con l yX3_dualOf cX3_dualOf 10 (some .int) 4 0 0 G (sz, MH M st rst) [.ref M, .int a1] (sz, MH M stf rst) (some (.int rf)) := by
  refine con_of (by decide) (Nat.le_of_ble_eq_true rfl) ?_
  intro p e s m below meth c ls X hK hH hl hS
  have hx := X.1
  have hb := X.2.1
  have hown : s.vm.findClass RX3 = some m.cls := X.2.2.2.2.1
  have hts := X.2.2.2.2.2.1
  have hl : lv_has ls 10 [(0, .ref M), (1, .int a1)] := hl
  unfold f_X3_dualOf at hf
  have L28 : ∀ (c2 : Int32) (c3 : Int32) (n : Nat) (s28 : (Int32 × Int32 × Int32 × MS)) (r28 : (Int32 × MS)), lp (f_X3_dualOf_b28 N c2 c3) n s28 = some r28 → (∀ (ls : Array Slot) (H : Heap) (locs : List Loc), lv_has ls 10 [(4, .int r28.1)] → HH G (sz, MH M r28.2 rst) H → va_S (AG G) s.heap H locs → W p l e (rm_ 4 0 0) s m ([.ref M, .int a1] : List Value).toArray below meth c H locs 0 0 (MQ below (PostC G (sz, MH M stf rst) (some (.int rf))) ([.ref M, .int a1] : List Value).toArray s 0 0 (AG G)) (F0 m 149 ls [])) → ∀ (ls : Array Slot) (H : Heap) (locs : List Loc), lv_has ls 10 [(0, .ref M), (2, .int c2), (3, .int c3), (4, .int s28.1), (5, .int s28.2.1), (6, .int s28.2.2.1)] → HH G (sz, MH M s28.2.2.2 rst) H → va_S (AG G) s.heap H locs → W p l e (rm_ 4 0 0) s m ([.ref M, .int a1] : List Value).toArray below meth c H locs 0 0 (MQ below (PostC G (sz, MH M stf rst) (some (.int rf))) ([.ref M, .int a1] : List Value).toArray s 0 0 (AG G)) (F0 m 28 ls []) := by
    intro c2 c3 n s28 r28 hr hq
    refine lp_ind (P := fun s28 => ∀ (ls : Array Slot) (H : Heap) (locs : List Loc), lv_has ls 10 [(0, .ref M), (2, .int c2), (3, .int c3), (4, .int s28.1), (5, .int s28.2.1), (6, .int s28.2.2.1)] → HH G (sz, MH M s28.2.2.2 rst) H → va_S (AG G) s.heap H locs → W p l e (rm_ 4 0 0) s m ([.ref M, .int a1] : List Value).toArray below meth c H locs 0 0 (MQ below (PostC G (sz, MH M stf rst) (some (.int rf))) ([.ref M, .int a1] : List Value).toArray s 0 0 (AG G)) (F0 m 28 ls [])) (Q := fun r28 => ∀ (ls : Array Slot) (H : Heap) (locs : List Loc), lv_has ls 10 [(4, .int r28.1)] → HH G (sz, MH M r28.2 rst) H → va_S (AG G) s.heap H locs → W p l e (rm_ 4 0 0) s m ([.ref M, .int a1] : List Value).toArray below meth c H locs 0 0 (MQ below (PostC G (sz, MH M stf rst) (some (.int rf))) ([.ref M, .int a1] : List Value).toArray s 0 0 (AG G)) (F0 m 149 ls [])) ?_ n s28 r28 hr hq
    intro s28 x28 hf hx28 ls H locs hl hH hS
    unfold f_X3_dualOf_b28 at hf
    have L76 : ∀ (c2 : Int32) (c3 : Int32) (c4 : Int32) (c5 : Int32) (c6 : Int32) (t76 : MS) (n : Nat) (s76 : (Int64 × Int32)) (r76 : Int64), lp (f_X3_dualOf_b76 N c2 c3 c4 c5 c6 t76) n s76 = some r76 → (∀ (ls : Array Slot) (H : Heap) (locs : List Loc), lv_has ls 10 [(0, .ref M), (2, .int c2), (3, .int c3), (4, .int c4), (5, .int c5), (6, .int c6), (7, .long r76)] → HH G (sz, MH M t76 rst) H → va_S (AG G) s.heap H locs → W p l e (rm_ 4 0 0) s m ([.ref M, .int a1] : List Value).toArray below meth c H locs 0 0 (MQ below (PostC G (sz, MH M stf rst) (some (.int rf))) ([.ref M, .int a1] : List Value).toArray s 0 0 (AG G)) (F0 m 131 ls [])) → ∀ (ls : Array Slot) (H : Heap) (locs : List Loc), lv_has ls 10 [(0, .ref M), (2, .int c2), (3, .int c3), (4, .int c4), (5, .int c5), (6, .int c6), (7, .long s76.1), (9, .int s76.2)] → HH G (sz, MH M t76 rst) H → va_S (AG G) s.heap H locs → W p l e (rm_ 4 0 0) s m ([.ref M, .int a1] : List Value).toArray below meth c H locs 0 0 (MQ below (PostC G (sz, MH M stf rst) (some (.int rf))) ([.ref M, .int a1] : List Value).toArray s 0 0 (AG G)) (F0 m 76 ls []) := by
      intro c2 c3 c4 c5 c6 t76 n s76 r76 hr hq
      refine lp_ind (P := fun s76 => ∀ (ls : Array Slot) (H : Heap) (locs : List Loc), lv_has ls 10 [(0, .ref M), (2, .int c2), (3, .int c3), (4, .int c4), (5, .int c5), (6, .int c6), (7, .long s76.1), (9, .int s76.2)] → HH G (sz, MH M t76 rst) H → va_S (AG G) s.heap H locs → W p l e (rm_ 4 0 0) s m ([.ref M, .int a1] : List Value).toArray below meth c H locs 0 0 (MQ below (PostC G (sz, MH M stf rst) (some (.int rf))) ([.ref M, .int a1] : List Value).toArray s 0 0 (AG G)) (F0 m 76 ls [])) (Q := fun r76 => ∀ (ls : Array Slot) (H : Heap) (locs : List Loc), lv_has ls 10 [(0, .ref M), (2, .int c2), (3, .int c3), (4, .int c4), (5, .int c5), (6, .int c6), (7, .long r76)] → HH G (sz, MH M t76 rst) H → va_S (AG G) s.heap H locs → W p l e (rm_ 4 0 0) s m ([.ref M, .int a1] : List Value).toArray below meth c H locs 0 0 (MQ below (PostC G (sz, MH M stf rst) (some (.int rf))) ([.ref M, .int a1] : List Value).toArray s 0 0 (AG G)) (F0 m 131 ls [])) ?_ n s76 r76 hr hq
      intro s76 x76 hf hx76 ls H locs hl hH hS
      unfold f_X3_dualOf_b76 at hf
      refine lv_iload hx hb dX3_dualOf_76 (lv_at hl 7 rfl) ?_
      refine lv_aload_n hx hb dX3_dualOf_78 rfl (lv_at hl 0 rfl) ?_
      refine m_get X hK hH 8 (by decide) rfl (mg_8 _ _) q1067 dX3_dualOf_79 ?_
      refine lv_icmp_ge (tgt := 131) hx hb dX3_dualOf_82 (by decide) (fun c_ => ?_) (fun c_ => ?_)
      · have hf := (if_pos c_).symm.trans hf
        cases hf
        exact hx76 _ _ _ (lv_sub hl [0, 1, 2, 3, 4, 5, 6] rfl) hH hS
      · have hf := (if_neg c_).symm.trans hf
        refine lv_lload hx hb dX3_dualOf_85 (lv_at hl 6 rfl) ?_
        refine lv_iload_n hx hb dX3_dualOf_87 rfl (lv_at hl 1 rfl) ?_
        refine lv_iload_n hx hb dX3_dualOf_88 rfl (lv_at hl 1 rfl) ?_
        refine lv_iload_n hx hb dX3_dualOf_89 rfl (lv_at hl 2 rfl) ?_
        refine lv_aload_n hx hb dX3_dualOf_90 rfl (lv_at hl 0 rfl) ?_
        refine m_get X hK hH 6 (by decide) rfl (mg_6 _ _) q1065 dX3_dualOf_91 ?_
        refine lv_iload hx hb dX3_dualOf_94 (lv_at hl 7 rfl) ?_
        obtain ⟨v5, hv, hf⟩ := bd hf
        refine m_lald X hK hH 6 (mc_6 _ _) hv dX3_dualOf_96 ?_
        refine lv_iload hx hb dX3_dualOf_97 (lv_at hl 5 rfl) ?_
        obtain ⟨v6, hv, hf⟩ := bd hf
        refine r_Si (As := [.int c2, .int c3, .long v5, .int c6]) (rest := [.int c2, .long s76.1]) X (met_X3_letter l G _ N c2 c3 v5 c6 v6 hv) cs_X3_letter q1029 rfl rfl hl.1 (Nat.le_of_ble_eq_true rfl) ⟨Nat.le_of_ble_eq_true rfl, Nat.le_of_ble_eq_true rfl⟩ ⟨Nat.le_refl _, Nat.le_refl _⟩ dX3_dualOf_99 hK hH hS (fun H locs hH hS => ?_)
        obtain ⟨v7, hv, hf⟩ := bd hf
        refine r_Si (As := [.int c2, .int v6]) (rest := [.long s76.1]) X (met_X3_minus l G _ N c2 v6 v7 hv) cs_X3_minus q1187 rfl rfl hl.1 (Nat.le_of_ble_eq_true rfl) ⟨Nat.le_of_ble_eq_true rfl, Nat.le_of_ble_eq_true rfl⟩ ⟨Nat.le_refl _, Nat.le_refl _⟩ dX3_dualOf_102 hK hH hS (fun H locs hH hS => ?_)
        refine lv_i2l (v := (v7).toInt64) hx hb dX3_dualOf_105 rfl ?_
        refine lv_iload_n hx hb dX3_dualOf_106 rfl (lv_at hl 1 rfl) ?_
        refine lv_iload_n hx hb dX3_dualOf_107 rfl (lv_at hl 2 rfl) ?_
        refine lv_iconst (v := (1 : Int32)) hx hb dX3_dualOf_108 (by decide) ?_
        refine lv_isub hx hb dX3_dualOf_109 ?_
        refine lv_aload_n hx hb dX3_dualOf_110 rfl (lv_at hl 0 rfl) ?_
        refine m_get X hK hH 7 (by decide) rfl (mg_7 _ _) q1066 dX3_dualOf_111 ?_
        refine lv_iload hx hb dX3_dualOf_114 (lv_at hl 7 rfl) ?_
        obtain ⟨v8, hv, hf⟩ := bd hf
        refine m_iald X hK hH 7 (mc_7 _ _) hv dX3_dualOf_116 ?_
        refine lv_isub hx hb dX3_dualOf_117 ?_
        obtain ⟨v9, hv, hf⟩ := bd hf
        refine r_Sl (As := [.int c2, .int ((c3 - (1 : Int32)) - v8)]) (rest := [.long ((v7).toInt64), .long s76.1]) X (met_X3_power l G _ N c2 ((c3 - (1 : Int32)) - v8) v9 hv) cs_X3_power q1022 rfl rfl hl.1 (Nat.le_of_ble_eq_true rfl) ⟨Nat.le_of_ble_eq_true rfl, Nat.le_of_ble_eq_true rfl⟩ ⟨Nat.le_refl _, Nat.le_refl _⟩ dX3_dualOf_118 hK hH hS (fun H locs hH hS => ?_)
        refine lv_lmul hx hb dX3_dualOf_121 ?_
        refine lv_ladd hx hb dX3_dualOf_122 ?_
        refine lv_lstore (lv' := [(7, .long (s76.1 + (((v7).toInt64) * v9))), (0, .ref M), (2, .int c2), (3, .int c3), (4, .int c4), (5, .int c5), (6, .int c6), (9, .int s76.2)]) hx hb dX3_dualOf_123 hl (by decide) rfl (fun ls hl => ?_)
        refine lv_iinc (v := (s76.2 + 1)) (lv' := [(9, .int (s76.2 + 1)), (7, .long (s76.1 + (((v7).toInt64) * v9))), (0, .ref M), (2, .int c2), (3, .int c3), (4, .int c4), (5, .int c5), (6, .int c6)]) hx hb dX3_dualOf_125 hl (k := 7) rfl rfl (by decide) rfl (fun ls hl => ?_)
        refine lv_goto (tgt := 76) hx hb dX3_dualOf_128 (by decide) ?_
        cases hf
        exact hx76 _ _ _ (lv_sub hl [2, 3, 4, 5, 6, 7, 1, 0] rfl) hH hS
    have J61 : ∀ (d4 : Int32) (d5 : Int32) (d6 : Int32) (u61 : MS), f_X3_dualOf_j61 N c2 c3 d4 d5 d6 u61 = some x28 → ∀ (ls : Array Slot) (H : Heap) (locs : List Loc), lv_has ls 10 [(0, .ref M), (2, .int c2), (3, .int c3), (4, .int d4), (5, .int d5), (6, .int d6)] → HH G (sz, MH M u61 rst) H → va_S (AG G) s.heap H locs → W p l e (rm_ 4 0 0) s m ([.ref M, .int a1] : List Value).toArray below meth c H locs 0 0 (MQ below (PostC G (sz, MH M stf rst) (some (.int rf))) ([.ref M, .int a1] : List Value).toArray s 0 0 (AG G)) (F0 m 61 ls []) := by
      intro d4 d5 d6 u61 hf ls H locs hl hH hS
      unfold f_X3_dualOf_j61 at hf
      refine lv_iload_n hx hb dX3_dualOf_61 rfl (lv_at hl 1 rfl) ?_
      refine lv_iload_n hx hb dX3_dualOf_62 rfl (lv_at hl 2 rfl) ?_
      refine lv_iconst (v := (1 : Int32)) hx hb dX3_dualOf_63 (by decide) ?_
      refine lv_isub hx hb dX3_dualOf_64 ?_
      refine lv_iload hx hb dX3_dualOf_65 (lv_at hl 5 rfl) ?_
      refine lv_isub hx hb dX3_dualOf_67 ?_
      obtain ⟨v4, hv, hf⟩ := bd hf
      refine r_Sl (As := [.int c2, .int ((c3 - (1 : Int32)) - d6)]) (rest := []) X (met_X3_power l G _ N c2 ((c3 - (1 : Int32)) - d6) v4 hv) cs_X3_power q1022 rfl rfl hl.1 (Nat.le_of_ble_eq_true rfl) ⟨Nat.le_of_ble_eq_true rfl, Nat.le_of_ble_eq_true rfl⟩ ⟨Nat.le_refl _, Nat.le_refl _⟩ dX3_dualOf_68 hK hH hS (fun H locs hH hS => ?_)
      refine lv_lstore (lv' := [(7, .long v4), (0, .ref M), (2, .int c2), (3, .int c3), (4, .int d4), (5, .int d5), (6, .int d6)]) hx hb dX3_dualOf_71 hl (by decide) rfl (fun ls hl => ?_)
      refine lv_iconst (v := (0 : Int32)) hx hb dX3_dualOf_73 (by decide) ?_
      refine lv_istore (lv' := [(9, .int (0 : Int32)), (7, .long v4), (0, .ref M), (2, .int c2), (3, .int c3), (4, .int d4), (5, .int d5), (6, .int d6)]) hx hb dX3_dualOf_74 hl (by decide) rfl (fun ls hl => ?_)
      obtain ⟨r76_10, hr, hf⟩ := bd hf
      refine L76 c2 c3 d4 d5 d6 u61 N _ r76_10 hr ?_ _ _ _ (lv_sub hl [2, 3, 4, 5, 6, 7, 1, 0] rfl) hH hS
      intro ls H locs hl hH hS
      refine lv_aload_n hx hb dX3_dualOf_131 rfl (lv_at hl 0 rfl) ?_
      refine m_get X hK hH 9 (by decide) rfl (mg_9 _ _) q1068 dX3_dualOf_132 ?_
      refine lv_iload hx hb dX3_dualOf_135 (lv_at hl 3 rfl) ?_
      refine lv_lload hx hb dX3_dualOf_137 (lv_at hl 6 rfl) ?_
      obtain ⟨w11, hv, hf⟩ := bd hf
      refine m_last X hK hH hS 8 (mc_9 _ _) hv (mt_9 _ _ _) dX3_dualOf_139 (fun H locs hH hS => ?_)
      refine lv_iinc (v := (d4 + 1)) (lv' := [(4, .int (d4 + 1)), (0, .ref M), (2, .int c2), (3, .int c3), (5, .int d5), (6, .int d6), (7, .long r76_10)]) hx hb dX3_dualOf_140 hl (k := 3) rfl rfl (by decide) rfl (fun ls hl => ?_)
      refine lv_iinc (v := (d6 + 1)) (lv' := [(6, .int (d6 + 1)), (4, .int (d4 + 1)), (0, .ref M), (2, .int c2), (3, .int c3), (5, .int d5), (7, .long r76_10)]) hx hb dX3_dualOf_143 hl (k := 5) rfl rfl (by decide) rfl (fun ls hl => ?_)
      refine lv_goto (tgt := 28) hx hb dX3_dualOf_146 (by decide) ?_
      cases hf
      exact hx28 _ _ _ (lv_sub hl [2, 3, 4, 1, 5, 0] rfl) hH hS
    refine lv_iload hx hb dX3_dualOf_28 (lv_at hl 5 rfl) ?_
    refine lv_iload_n hx hb dX3_dualOf_30 rfl (lv_at hl 2 rfl) ?_
    refine lv_icmp_ge (tgt := 149) hx hb dX3_dualOf_31 (by decide) (fun c_ => ?_) (fun c_ => ?_)
    · have hf := (if_pos c_).symm.trans hf
      cases hf
      exact hx28 _ _ _ (lv_sub hl [3] rfl) hH hS
    · have hf := (if_neg c_).symm.trans hf
      refine lv_iload hx hb dX3_dualOf_34 (lv_at hl 4 rfl) ?_
      refine lv_aload_n hx hb dX3_dualOf_36 rfl (lv_at hl 0 rfl) ?_
      refine m_get X hK hH 8 (by decide) rfl (mg_8 _ _) q1067 dX3_dualOf_37 ?_
      refine lv_icmp_ge (tgt := 61) hx hb dX3_dualOf_40 (by decide) (fun c_ => ?_) (fun c_ => ?_)
      · have hf := (if_pos c_).symm.trans hf
        exact J61 s28.1 s28.2.1 s28.2.2.1 s28.2.2.2 hf _ _ _ (lv_sub hl [0, 1, 2, 3, 4, 5] rfl) hH hS
      · have hf := (if_neg c_).symm.trans hf
        refine lv_aload_n hx hb dX3_dualOf_43 rfl (lv_at hl 0 rfl) ?_
        refine m_get X hK hH 7 (by decide) rfl (mg_7 _ _) q1066 dX3_dualOf_44 ?_
        refine lv_iload hx hb dX3_dualOf_47 (lv_at hl 4 rfl) ?_
        obtain ⟨v12, hv, hf⟩ := bd hf
        refine m_iald X hK hH 7 (mc_7 _ _) hv dX3_dualOf_49 ?_
        refine lv_iload hx hb dX3_dualOf_50 (lv_at hl 5 rfl) ?_
        refine lv_icmp_ne (tgt := 61) hx hb dX3_dualOf_52 (by decide) (fun c_ => ?_) (fun c_ => ?_)
        · have hf := (if_neg c_).symm.trans hf
          exact J61 s28.1 s28.2.1 s28.2.2.1 s28.2.2.2 hf _ _ _ (lv_sub hl [0, 1, 2, 3, 4, 5] rfl) hH hS
        · have hf := (if_pos c_).symm.trans hf
          refine lv_iinc (v := (s28.2.1 + 1)) (lv' := [(5, .int (s28.2.1 + 1)), (0, .ref M), (2, .int c2), (3, .int c3), (4, .int s28.1), (6, .int s28.2.2.1)]) hx hb dX3_dualOf_55 hl (k := 4) rfl rfl (by decide) rfl (fun ls hl => ?_)
          refine lv_goto (tgt := 143) hx hb dX3_dualOf_58 (by decide) ?_
          refine lv_iinc (v := (s28.2.2.1 + 1)) (lv' := [(6, .int (s28.2.2.1 + 1)), (5, .int (s28.2.1 + 1)), (0, .ref M), (2, .int c2), (3, .int c3), (4, .int s28.1)]) hx hb dX3_dualOf_143 hl (k := 5) rfl rfl (by decide) rfl (fun ls hl => ?_)
          refine lv_goto (tgt := 28) hx hb dX3_dualOf_146 (by decide) ?_
          cases hf
          exact hx28 _ _ _ (lv_sub hl [2, 3, 4, 5, 1, 0] rfl) hH hS
  refine lv_aload_n hx hb dX3_dualOf_0 rfl (lv_at hl 0 rfl) ?_
  refine m_get X hK hH 2 (by decide) rfl (mg_2 _ _) q1061 dX3_dualOf_1 ?_
  refine lv_iload_n hx hb dX3_dualOf_4 rfl (lv_at hl 1 rfl) ?_
  obtain ⟨v1, hv, hf⟩ := bd hf
  refine m_iald X hK hH 2 (mc_2 _ _) hv dX3_dualOf_5 ?_
  refine lv_istore_n (lv' := [(2, .int v1), (0, .ref M), (1, .int a1)]) hx hb dX3_dualOf_6 rfl hl (by decide) rfl (fun ls hl => ?_)
  refine lv_aload_n hx hb dX3_dualOf_7 rfl (lv_at hl 1 rfl) ?_
  refine m_get X hK hH 3 (by decide) rfl (mg_3 _ _) q1062 dX3_dualOf_8 ?_
  refine lv_iload_n hx hb dX3_dualOf_11 rfl (lv_at hl 2 rfl) ?_
  obtain ⟨v2, hv, hf⟩ := bd hf
  refine m_iald X hK hH 3 (mc_3 _ _) hv dX3_dualOf_12 ?_
  refine lv_istore_n (lv' := [(3, .int v2), (2, .int v1), (0, .ref M), (1, .int a1)]) hx hb dX3_dualOf_13 rfl hl (by decide) rfl (fun ls hl => ?_)
  refine lv_aload_n hx hb dX3_dualOf_14 rfl (lv_at hl 2 rfl) ?_
  refine lv_iload_n hx hb dX3_dualOf_15 rfl (lv_at hl 3 rfl) ?_
  obtain ⟨v3, hv, hf⟩ := bd hf
  refine r_Vv (As := [.int a1]) (rest := []) X (met_X3_clear l G _ _ _ N st a1 v3 hv) cv_X3_clear q1180 (m_recv hK hH) rfl rfl hl.1 (Nat.le_of_ble_eq_true rfl) ⟨Nat.le_of_ble_eq_true rfl, Nat.le_of_ble_eq_true rfl⟩ ⟨Nat.le_refl _, Nat.le_refl _⟩ dX3_dualOf_16 hK hH hS (fun H locs hH hS => ?_)
  refine lv_iconst (v := (0 : Int32)) hx hb dX3_dualOf_19 (by decide) ?_
  refine lv_istore (lv' := [(4, .int (0 : Int32)), (3, .int v2), (2, .int v1), (0, .ref M), (1, .int a1)]) hx hb dX3_dualOf_20 hl (by decide) rfl (fun ls hl => ?_)
  refine lv_iconst (v := (0 : Int32)) hx hb dX3_dualOf_22 (by decide) ?_
  refine lv_istore (lv' := [(5, .int (0 : Int32)), (4, .int (0 : Int32)), (3, .int v2), (2, .int v1), (0, .ref M), (1, .int a1)]) hx hb dX3_dualOf_23 hl (by decide) rfl (fun ls hl => ?_)
  refine lv_iconst (v := (0 : Int32)) hx hb dX3_dualOf_25 (by decide) ?_
  refine lv_istore (lv' := [(6, .int (0 : Int32)), (5, .int (0 : Int32)), (4, .int (0 : Int32)), (3, .int v2), (2, .int v1), (0, .ref M), (1, .int a1)]) hx hb dX3_dualOf_26 hl (by decide) rfl (fun ls hl => ?_)
  obtain ⟨r28_13, hr, hf⟩ := bd hf
  refine L28 v1 v2 N _ r28_13 hr ?_ _ _ _ (lv_sub hl [5, 4, 3, 2, 1, 0] rfl) hH hS
  intro ls H locs hl hH hS
  refine lv_iload hx hb dX3_dualOf_149 (lv_at hl 0 rfl) ?_
  cases hf
  exact r_iret X dX3_dualOf_151 (Nat.le_refl _) (Nat.le_refl _) rfl hH hS
theorem cv_X3_checks : CalV "WordBenchModel" yX3_checks cX3_checks 8 (some .long) 2 := ⟨q1228, q1229, q57, q1230, by decide +kernel⟩
set_option maxHeartbeats 4000000 in
theorem met_X3_checks (l : Launch) (G : GG) (sz M : Nat) (rst : Nat → Option AE) (N : Nat) (st : MS) (a1 : Int32) (a2 : Int64) (stf : MS) (rf : Int64) (hf : f_X3_checks N st a1 a2 = some (stf, rf)) : Con l yX3_checks cX3_checks 8 (some .long) 5 0 0 G (sz, MH M st rst) [.ref M, .int a1, .long a2] (sz, MH M stf rst) (some (.long rf)) := by
  refine con_of (by decide) (Nat.le_of_ble_eq_true rfl) ?_
  intro p e s m below meth c ls X hK hH hl hS
  have hx := X.1
  have hb := X.2.1
  have hown : s.vm.findClass RX3 = some m.cls := X.2.2.2.2.1
  have hts := X.2.2.2.2.2.1
  have hl : lv_has ls 8 [(0, .ref M), (1, .int a1), (2, .long a2)] := hl
  unfold f_X3_checks at hf
  have L62 : ∀ (c1 : Int32) (c2 : Int64) (c4 : Int32) (t62 : MS) (n : Nat) (s62 : (Int64 × Int32)) (r62 : Int64), lp (f_X3_checks_b62 N c1 c2 c4 t62) n s62 = some r62 → (∀ (ls : Array Slot) (H : Heap) (locs : List Loc), lv_has ls 8 [(5, .long r62)] → HH G (sz, MH M t62 rst) H → va_S (AG G) s.heap H locs → W p l e (rm_ 5 0 0) s m ([.ref M, .int a1, .long a2] : List Value).toArray below meth c H locs 0 0 (MQ below (PostC G (sz, MH M stf rst) (some (.long rf))) ([.ref M, .int a1, .long a2] : List Value).toArray s 0 0 (AG G)) (F0 m 112 ls [])) → ∀ (ls : Array Slot) (H : Heap) (locs : List Loc), lv_has ls 8 [(0, .ref M), (1, .int c1), (2, .long c2), (4, .int c4), (5, .long s62.1), (7, .int s62.2)] → HH G (sz, MH M t62 rst) H → va_S (AG G) s.heap H locs → W p l e (rm_ 5 0 0) s m ([.ref M, .int a1, .long a2] : List Value).toArray below meth c H locs 0 0 (MQ below (PostC G (sz, MH M stf rst) (some (.long rf))) ([.ref M, .int a1, .long a2] : List Value).toArray s 0 0 (AG G)) (F0 m 62 ls []) := by
    intro c1 c2 c4 t62 n s62 r62 hr hq
    refine lp_ind (P := fun s62 => ∀ (ls : Array Slot) (H : Heap) (locs : List Loc), lv_has ls 8 [(0, .ref M), (1, .int c1), (2, .long c2), (4, .int c4), (5, .long s62.1), (7, .int s62.2)] → HH G (sz, MH M t62 rst) H → va_S (AG G) s.heap H locs → W p l e (rm_ 5 0 0) s m ([.ref M, .int a1, .long a2] : List Value).toArray below meth c H locs 0 0 (MQ below (PostC G (sz, MH M stf rst) (some (.long rf))) ([.ref M, .int a1, .long a2] : List Value).toArray s 0 0 (AG G)) (F0 m 62 ls [])) (Q := fun r62 => ∀ (ls : Array Slot) (H : Heap) (locs : List Loc), lv_has ls 8 [(5, .long r62)] → HH G (sz, MH M t62 rst) H → va_S (AG G) s.heap H locs → W p l e (rm_ 5 0 0) s m ([.ref M, .int a1, .long a2] : List Value).toArray below meth c H locs 0 0 (MQ below (PostC G (sz, MH M stf rst) (some (.long rf))) ([.ref M, .int a1, .long a2] : List Value).toArray s 0 0 (AG G)) (F0 m 112 ls [])) ?_ n s62 r62 hr hq
    intro s62 x62 hf hx62 ls H locs hl hH hS
    unfold f_X3_checks_b62 at hf
    refine lv_iload hx hb dX3_checks_62 (lv_at hl 5 rfl) ?_
    refine lv_iload hx hb dX3_checks_64 (lv_at hl 3 rfl) ?_
    refine lv_icmp_ge (tgt := 112) hx hb dX3_checks_66 (by decide) (fun c_ => ?_) (fun c_ => ?_)
    · have hf := (if_pos c_).symm.trans hf
      cases hf
      exact hx62 _ _ _ (lv_sub hl [4] rfl) hH hS
    · have hf := (if_neg c_).symm.trans hf
      refine lv_aload_n hx hb dX3_checks_69 rfl (lv_at hl 0 rfl) ?_
      refine m_get X hK hH 2 (by decide) rfl (mg_2 _ _) q1061 dX3_checks_70 ?_
      refine lv_iload_n hx hb dX3_checks_73 rfl (lv_at hl 1 rfl) ?_
      obtain ⟨v6, hv, hf⟩ := bd hf
      refine m_iald X hK hH 2 (mc_2 _ _) hv dX3_checks_74 ?_
      refine lv_i2l (v := (v6).toInt64) hx hb dX3_checks_75 rfl ?_
      refine lv_lload hx hb dX3_checks_76 (lv_at hl 4 rfl) ?_
      refine lv_lmul hx hb dX3_checks_78 ?_
      refine lv_aload_n hx hb dX3_checks_79 rfl (lv_at hl 0 rfl) ?_
      refine m_get X hK hH 2 (by decide) rfl (mg_2 _ _) q1061 dX3_checks_80 ?_
      refine lv_iload_n hx hb dX3_checks_83 rfl (lv_at hl 1 rfl) ?_
      obtain ⟨v7, hv, hf⟩ := bd hf
      refine m_iald X hK hH 2 (mc_2 _ _) hv dX3_checks_84 ?_
      refine lv_aload_n hx hb dX3_checks_85 rfl (lv_at hl 0 rfl) ?_
      refine m_get X hK hH 3 (by decide) rfl (mg_3 _ _) q1062 dX3_checks_86 ?_
      refine lv_iload_n hx hb dX3_checks_89 rfl (lv_at hl 1 rfl) ?_
      obtain ⟨v8, hv, hf⟩ := bd hf
      refine m_iald X hK hH 3 (mc_3 _ _) hv dX3_checks_90 ?_
      refine lv_lload_n hx hb dX3_checks_91 rfl (lv_at hl 2 rfl) ?_
      refine lv_aload_n hx hb dX3_checks_92 rfl (lv_at hl 0 rfl) ?_
      refine m_get X hK hH 9 (by decide) rfl (mg_9 _ _) q1068 dX3_checks_93 ?_
      refine lv_iload hx hb dX3_checks_96 (lv_at hl 5 rfl) ?_
      obtain ⟨v9, hv, hf⟩ := bd hf
      refine m_lald X hK hH 8 (mc_9 _ _) hv dX3_checks_98 ?_
      obtain ⟨v10, hv, hf⟩ := bd hf
      refine r_Si (As := [.int v7, .int v8, .long c2, .long v9]) (rest := [.long (((v6).toInt64) * s62.1)]) X (met_X3_productOf l G _ N v7 v8 c2 v9 v10 hv) cs_X3_productOf q1049 rfl rfl hl.1 (Nat.le_of_ble_eq_true rfl) ⟨Nat.le_of_ble_eq_true rfl, Nat.le_of_ble_eq_true rfl⟩ ⟨Nat.le_refl _, Nat.le_refl _⟩ dX3_checks_99 hK hH hS (fun H locs hH hS => ?_)
      refine lv_i2l (v := (v10).toInt64) hx hb dX3_checks_102 rfl ?_
      refine lv_ladd hx hb dX3_checks_103 ?_
      refine lv_lstore (lv' := [(5, .long ((((v6).toInt64) * s62.1) + ((v10).toInt64))), (0, .ref M), (1, .int c1), (2, .long c2), (4, .int c4), (7, .int s62.2)]) hx hb dX3_checks_104 hl (by decide) rfl (fun ls hl => ?_)
      refine lv_iinc (v := (s62.2 + 1)) (lv' := [(7, .int (s62.2 + 1)), (5, .long ((((v6).toInt64) * s62.1) + ((v10).toInt64))), (0, .ref M), (1, .int c1), (2, .long c2), (4, .int c4)]) hx hb dX3_checks_106 hl (k := 5) rfl rfl (by decide) rfl (fun ls hl => ?_)
      refine lv_goto (tgt := 62) hx hb dX3_checks_109 (by decide) ?_
      cases hf
      exact hx62 _ _ _ (lv_sub hl [2, 3, 4, 5, 1, 0] rfl) hH hS
  refine lv_iload_n hx hb dX3_checks_0 rfl (lv_at hl 1 rfl) ?_
  obtain ⟨v1, hv, hf⟩ := bd hf
  refine r_Si (As := [.int a1]) (rest := []) X (met_X3_isPlace l G _ N a1 v1 hv) cs_X3_isPlace q1136 rfl rfl hl.1 (Nat.le_of_ble_eq_true rfl) ⟨Nat.le_of_ble_eq_true rfl, Nat.le_of_ble_eq_true rfl⟩ ⟨Nat.le_refl _, Nat.le_refl _⟩ dX3_checks_1 hK hH hS (fun H locs hH hS => ?_)
  refine lv_if_ne (tgt := 11) hx hb dX3_checks_4 (by decide) (fun c_ => ?_) (fun c_ => ?_)
  · have hf := (if_neg c_).symm.trans hf
    refine lv_aload_n hx hb dX3_checks_11 rfl (lv_at hl 0 rfl) ?_
    refine lv_iload_n hx hb dX3_checks_12 rfl (lv_at hl 1 rfl) ?_
    obtain ⟨v2, hv, hf⟩ := bd hf
    refine r_Vi (As := [.int a1]) (rest := []) X (met_X3_isEmpty l G _ _ _ N st a1 v2 hv) cv_X3_isEmpty q1148 (m_recv hK hH) rfl rfl hl.1 (Nat.le_of_ble_eq_true rfl) ⟨Nat.le_of_ble_eq_true rfl, Nat.le_of_ble_eq_true rfl⟩ ⟨Nat.le_refl _, Nat.le_refl _⟩ dX3_checks_13 hK hH hS (fun H locs hH hS => ?_)
    refine lv_if_eq (tgt := 23) hx hb dX3_checks_16 (by decide) (fun c_ => ?_) (fun c_ => ?_)
    · have hf := (if_pos c_).symm.trans hf
      refine lv_aload_n hx hb dX3_checks_23 rfl (lv_at hl 0 rfl) ?_
      refine lv_iload_n hx hb dX3_checks_24 rfl (lv_at hl 1 rfl) ?_
      refine lv_lload_n hx hb dX3_checks_25 rfl (lv_at hl 2 rfl) ?_
      obtain ⟨v3, hv, hf⟩ := bd hf
      refine r_Vi (As := [.int a1, .long a2]) (rest := []) X (met_X3_hasWord l G _ _ _ N st a1 a2 v3 hv) cv_X3_hasWord q1152 (m_recv hK hH) rfl rfl hl.1 (Nat.le_of_ble_eq_true rfl) ⟨Nat.le_of_ble_eq_true rfl, Nat.le_of_ble_eq_true rfl⟩ ⟨Nat.le_refl _, Nat.le_refl _⟩ dX3_checks_26 hK hH hS (fun H locs hH hS => ?_)
      refine lv_if_ne (tgt := 36) hx hb dX3_checks_29 (by decide) (fun c_ => ?_) (fun c_ => ?_)
      · have hf := (if_neg c_).symm.trans hf
        refine lv_aload_n hx hb dX3_checks_36 rfl (lv_at hl 0 rfl) ?_
        refine m_get X hK hH 1 (by decide) rfl (mg_1 _ _) q1060 dX3_checks_37 ?_
        refine lv_iload_n hx hb dX3_checks_40 rfl (lv_at hl 1 rfl) ?_
        obtain ⟨v4, hv, hf⟩ := bd hf
        refine m_iald X hK hH 1 (mc_1 _ _) hv dX3_checks_41 ?_
        refine lv_if_ne (tgt := 49) hx hb dX3_checks_42 (by decide) (fun c_ => ?_) (fun c_ => ?_)
        · have hf := (if_neg c_).symm.trans hf
          refine lv_aload_n hx hb dX3_checks_49 rfl (lv_at hl 0 rfl) ?_
          refine lv_iload_n hx hb dX3_checks_50 rfl (lv_at hl 1 rfl) ?_
          obtain ⟨v5, hv, hf⟩ := bd hf
          refine r_Vi (As := [.int a1]) (rest := []) X (met_X3_dualOf l G _ _ _ N st a1 v5.1 v5.2 hv) cv_X3_dualOf q1223 (m_recv hK hH) rfl rfl hl.1 (Nat.le_of_ble_eq_true rfl) ⟨Nat.le_of_ble_eq_true rfl, Nat.le_of_ble_eq_true rfl⟩ ⟨Nat.le_refl _, Nat.le_refl _⟩ dX3_checks_51 hK hH hS (fun H locs hH hS => ?_)
          refine lv_istore (lv' := [(4, .int v5.2), (0, .ref M), (1, .int a1), (2, .long a2)]) hx hb dX3_checks_54 hl (by decide) rfl (fun ls hl => ?_)
          refine lv_lconst (v := (0 : Int64)) hx hb dX3_checks_56 (by decide) ?_
          refine lv_lstore (lv' := [(5, .long (0 : Int64)), (4, .int v5.2), (0, .ref M), (1, .int a1), (2, .long a2)]) hx hb dX3_checks_57 hl (by decide) rfl (fun ls hl => ?_)
          refine lv_iconst (v := (0 : Int32)) hx hb dX3_checks_59 (by decide) ?_
          refine lv_istore (lv' := [(7, .int (0 : Int32)), (5, .long (0 : Int64)), (4, .int v5.2), (0, .ref M), (1, .int a1), (2, .long a2)]) hx hb dX3_checks_60 hl (by decide) rfl (fun ls hl => ?_)
          obtain ⟨r62_11, hr, hf⟩ := bd hf
          refine L62 a1 a2 v5.2 v5.1 N _ r62_11 hr ?_ _ _ _ (lv_sub hl [3, 4, 5, 2, 1, 0] rfl) hH hS
          intro ls H locs hl hH hS
          refine lv_lload hx hb dX3_checks_112 (lv_at hl 0 rfl) ?_
          cases hf
          exact r_lret X dX3_checks_114 (Nat.le_refl _) (Nat.le_refl _) rfl hH hS
        · have hf := (if_pos c_).symm.trans hf
          refine lv_ldc2 (v := (-12 : Int64)) hx hb hown (hts _ q1231) dX3_checks_45 ?_
          cases hf
          exact r_lret X dX3_checks_48 (Nat.le_refl _) (Nat.le_refl _) rfl hH hS
      · have hf := (if_pos c_).symm.trans hf
        refine lv_ldc2 (v := (-1 : Int64)) hx hb hown (hts _ q1025) dX3_checks_32 ?_
        cases hf
        exact r_lret X dX3_checks_35 (Nat.le_refl _) (Nat.le_refl _) rfl hH hS
    · have hf := (if_neg c_).symm.trans hf
      refine lv_ldc2 (v := (-11 : Int64)) hx hb hown (hts _ q1198) dX3_checks_19 ?_
      cases hf
      exact r_lret X dX3_checks_22 (Nat.le_refl _) (Nat.le_refl _) rfl hH hS
  · have hf := (if_pos c_).symm.trans hf
    refine lv_ldc2 (v := (-1 : Int64)) hx hb hown (hts _ q1025) dX3_checks_7 ?_
    cases hf
    exact r_lret X dX3_checks_10 (Nat.le_refl _) (Nat.le_refl _) rfl hH hS
theorem cv_X3_comes : CalV "WordBenchModel" yX3_comes cX3_comes 7 (some .int) 4 := ⟨q1336, qs41, q57, q1337, by decide +kernel⟩
set_option maxHeartbeats 4000000 in
theorem met_X3_comes (l : Launch) (G : GG) (sz M : Nat) (rst : Nat → Option AE) (N : Nat) (st : MS) (a1 : Int32) (a2 : Int32) (a3 : Int32) (a4 : Int32) (stf : MS) (rf : Int32) (hf : f_X3_comes N st a1 a2 a3 a4 = some (stf, rf)) : Con l yX3_comes cX3_comes 7 (some .int) 1 0 0 G (sz, MH M st rst) [.ref M, .int a1, .int a2, .int a3, .int a4] (sz, MH M stf rst) (some (.int rf)) := by
  refine con_of (by decide) (Nat.le_of_ble_eq_true rfl) ?_
  intro p e s m below meth c ls X hK hH hl hS
  have hx := X.1
  have hb := X.2.1
  have hown : s.vm.findClass RX3 = some m.cls := X.2.2.2.2.1
  have hts := X.2.2.2.2.2.1
  have hl : lv_has ls 7 [(0, .ref M), (1, .int a1), (2, .int a2), (3, .int a3), (4, .int a4)] := hl
  unfold f_X3_comes at hf
  have L12 : ∀ (c1 : Int32) (n : Nat) (s12 : (Int32 × MS)) (r12 : MS), lp (f_X3_comes_b12 N c1) n s12 = some r12 → (∀ (ls : Array Slot) (H : Heap) (locs : List Loc), lv_has ls 7 [(0, .ref M)] → HH G (sz, MH M r12 rst) H → va_S (AG G) s.heap H locs → W p l e (rm_ 1 0 0) s m ([.ref M, .int a1, .int a2, .int a3, .int a4] : List Value).toArray below meth c H locs 0 0 (MQ below (PostC G (sz, MH M stf rst) (some (.int rf))) ([.ref M, .int a1, .int a2, .int a3, .int a4] : List Value).toArray s 0 0 (AG G)) (F0 m 41 ls [])) → ∀ (ls : Array Slot) (H : Heap) (locs : List Loc), lv_has ls 7 [(0, .ref M), (1, .int c1), (5, .int s12.1)] → HH G (sz, MH M s12.2 rst) H → va_S (AG G) s.heap H locs → W p l e (rm_ 1 0 0) s m ([.ref M, .int a1, .int a2, .int a3, .int a4] : List Value).toArray below meth c H locs 0 0 (MQ below (PostC G (sz, MH M stf rst) (some (.int rf))) ([.ref M, .int a1, .int a2, .int a3, .int a4] : List Value).toArray s 0 0 (AG G)) (F0 m 12 ls []) := by
    intro c1 n s12 r12 hr hq
    refine lp_ind (P := fun s12 => ∀ (ls : Array Slot) (H : Heap) (locs : List Loc), lv_has ls 7 [(0, .ref M), (1, .int c1), (5, .int s12.1)] → HH G (sz, MH M s12.2 rst) H → va_S (AG G) s.heap H locs → W p l e (rm_ 1 0 0) s m ([.ref M, .int a1, .int a2, .int a3, .int a4] : List Value).toArray below meth c H locs 0 0 (MQ below (PostC G (sz, MH M stf rst) (some (.int rf))) ([.ref M, .int a1, .int a2, .int a3, .int a4] : List Value).toArray s 0 0 (AG G)) (F0 m 12 ls [])) (Q := fun r12 => ∀ (ls : Array Slot) (H : Heap) (locs : List Loc), lv_has ls 7 [(0, .ref M)] → HH G (sz, MH M r12 rst) H → va_S (AG G) s.heap H locs → W p l e (rm_ 1 0 0) s m ([.ref M, .int a1, .int a2, .int a3, .int a4] : List Value).toArray below meth c H locs 0 0 (MQ below (PostC G (sz, MH M stf rst) (some (.int rf))) ([.ref M, .int a1, .int a2, .int a3, .int a4] : List Value).toArray s 0 0 (AG G)) (F0 m 41 ls [])) ?_ n s12 r12 hr hq
    intro s12 x12 hf hx12 ls H locs hl hH hS
    unfold f_X3_comes_b12 at hf
    refine lv_iload hx hb dX3_comes_12 (lv_at hl 2 rfl) ?_
    refine lv_aload_n hx hb dX3_comes_14 rfl (lv_at hl 0 rfl) ?_
    refine m_get X hK hH 18 (by decide) rfl (mg_18 _ _) q1077 dX3_comes_15 ?_
    refine lv_icmp_ge (tgt := 41) hx hb dX3_comes_18 (by decide) (fun c_ => ?_) (fun c_ => ?_)
    · have hf := (if_pos c_).symm.trans hf
      cases hf
      exact hx12 _ _ _ (lv_sub hl [0] rfl) hH hS
    · have hf := (if_neg c_).symm.trans hf
      refine lv_aload_n hx hb dX3_comes_21 rfl (lv_at hl 0 rfl) ?_
      refine lv_iload_n hx hb dX3_comes_22 rfl (lv_at hl 1 rfl) ?_
      refine lv_aload_n hx hb dX3_comes_23 rfl (lv_at hl 0 rfl) ?_
      refine m_get X hK hH 17 (by decide) rfl (mg_17 _ _) q1076 dX3_comes_24 ?_
      refine lv_iload hx hb dX3_comes_27 (lv_at hl 2 rfl) ?_
      obtain ⟨v2, hv, hf⟩ := bd hf
      refine m_lald X hK hH 13 (mc_17 _ _) hv dX3_comes_29 ?_
      obtain ⟨v3, hv, hf⟩ := bd hf
      refine r_Vi (As := [.int c1, .long v2]) (rest := []) X (met_X3_push l G _ _ _ N s12.2 c1 v2 v3.1 v3.2 hv) cv_X3_push q1160 (m_recv hK hH) rfl rfl hl.1 (Nat.le_of_ble_eq_true rfl) ⟨Nat.le_of_ble_eq_true rfl, Nat.le_of_ble_eq_true rfl⟩ ⟨Nat.le_refl _, Nat.le_refl _⟩ dX3_comes_30 hK hH hS (fun H locs hH hS => ?_)
      refine lv_istore (lv' := [(6, .int v3.2), (0, .ref M), (1, .int c1), (5, .int s12.1)]) hx hb dX3_comes_33 hl (by decide) rfl (fun ls hl => ?_)
      refine lv_iinc (v := (s12.1 + 1)) (lv' := [(5, .int (s12.1 + 1)), (6, .int v3.2), (0, .ref M), (1, .int c1)]) hx hb dX3_comes_35 hl (k := 3) rfl rfl (by decide) rfl (fun ls hl => ?_)
      refine lv_goto (tgt := 12) hx hb dX3_comes_38 (by decide) ?_
      cases hf
      exact hx12 _ _ _ (lv_sub hl [2, 3, 0] rfl) hH hS
  refine lv_aload_n hx hb dX3_comes_0 rfl (lv_at hl 0 rfl) ?_
  refine lv_iload_n hx hb dX3_comes_1 rfl (lv_at hl 1 rfl) ?_
  refine lv_iload_n hx hb dX3_comes_2 rfl (lv_at hl 2 rfl) ?_
  refine lv_iload_n hx hb dX3_comes_3 rfl (lv_at hl 3 rfl) ?_
  refine lv_iload hx hb dX3_comes_4 (lv_at hl 4 rfl) ?_
  obtain ⟨v1, hv, hf⟩ := bd hf
  refine r_Vv (As := [.int a1, .int a2, .int a3, .int a4]) (rest := []) X (met_X3_begin l G _ _ _ N st a1 a2 a3 a4 v1 hv) cv_X3_begin q1140 (m_recv hK hH) rfl rfl hl.1 (Nat.le_of_ble_eq_true rfl) ⟨Nat.le_of_ble_eq_true rfl, Nat.le_of_ble_eq_true rfl⟩ ⟨Nat.le_refl _, Nat.le_refl _⟩ dX3_comes_6 hK hH hS (fun H locs hH hS => ?_)
  refine lv_iconst (v := (0 : Int32)) hx hb dX3_comes_9 (by decide) ?_
  refine lv_istore (lv' := [(5, .int (0 : Int32)), (0, .ref M), (1, .int a1), (2, .int a2), (3, .int a3), (4, .int a4)]) hx hb dX3_comes_10 hl (by decide) rfl (fun ls hl => ?_)
  obtain ⟨r12_4, hr, hf⟩ := bd hf
  refine L12 a1 N _ r12_4 hr ?_ _ _ _ (lv_sub hl [1, 2, 0] rfl) hH hS
  intro ls H locs hl hH hS
  refine lv_aload_n hx hb dX3_comes_41 rfl (lv_at hl 0 rfl) ?_
  refine m_get X hK hH 18 (by decide) rfl (mg_18 _ _) q1077 dX3_comes_42 ?_
  cases hf
  exact r_iret X dX3_comes_45 (Nat.le_refl _) (Nat.le_refl _) rfl hH hS
theorem cs_X3_isShelf : CalS yX3_isShelf cX3_isShelf 1 (some .boolean) 1 := ⟨q1391, q57, q1392, by decide +kernel, by decide +kernel, by decide +kernel⟩
set_option maxHeartbeats 4000000 in
theorem met_X3_isShelf (l : Launch) (G : GG) (σ : SG) (N : Nat) (a0 : Int32) (rf : Int32) (hf : f_X3_isShelf N a0 = some rf) : Con l yX3_isShelf cX3_isShelf 1 (some .boolean) 1 0 0 G σ [.int a0] σ (some (.int rf)) := by
  refine con_of (by decide) (Nat.le_of_ble_eq_true rfl) ?_
  intro p e s m below meth c ls X hK hH hl hS
  have hx := X.1
  have hb := X.2.1
  have hown : s.vm.findClass RX3 = some m.cls := X.2.2.2.2.1
  have hts := X.2.2.2.2.2.1
  have hl : lv_has ls 1 [(0, .int a0)] := hl
  unfold f_X3_isShelf at hf
  refine lv_iload_n hx hb dX3_isShelf_0 rfl (lv_at hl 0 rfl) ?_
  refine lv_i2l (v := (a0).toInt64) hx hb dX3_isShelf_1 rfl ?_
  refine lv_lconst (v := (0 : Int64)) hx hb dX3_isShelf_2 (by decide) ?_
  refine lv_ldc2 (v := (5 : Int64)) hx hb hown (hts _ q1014) dX3_isShelf_3 ?_
  obtain ⟨v1, hv, hf⟩ := bd hf
  refine r_Si (As := [.long ((a0).toInt64), .long (0 : Int64), .long (5 : Int64)]) (rest := []) X (met_X3_isIn l G _ N ((a0).toInt64) (0 : Int64) (5 : Int64) v1 hv) cs_X3_isIn q1015 rfl rfl hl.1 (Nat.le_of_ble_eq_true rfl) ⟨Nat.le_of_ble_eq_true rfl, Nat.le_of_ble_eq_true rfl⟩ ⟨Nat.le_refl _, Nat.le_refl _⟩ dX3_isShelf_6 hK hH hS (fun H locs hH hS => ?_)
  obtain ⟨hz, hv⟩ := rz_s hf
  subst hv
  exact r_zret X dX3_isShelf_9 (Nat.le_refl _) (Nat.le_refl _) hz rfl hH hS
theorem cv_X3_copy : CalV "WordBenchModel" yX3_copy cX3_copy 7 (some .int) 5 := ⟨q1402, q1403, q57, q1404, by decide +kernel⟩
set_option maxHeartbeats 4000000 in
theorem met_X3_copy (l : Launch) (G : GG) (sz M : Nat) (rst : Nat → Option AE) (N : Nat) (st : MS) (a1 : Int32) (a2 : Int32) (a3 : Int32) (a4 : Int32) (a5 : Int32) (stf : MS) (rf : Int32) (hf : f_X3_copy N st a1 a2 a3 a4 a5 = some (stf, rf)) : Con l yX3_copy cX3_copy 7 (some .int) 2 0 0 G (sz, MH M st rst) [.ref M, .int a1, .int a2, .int a3, .int a4, .int a5] (sz, MH M stf rst) (some (.int rf)) := by
  refine con_of (by decide) (Nat.le_of_ble_eq_true rfl) ?_
  intro p e s m below meth c ls X hK hH hl hS
  have hx := X.1
  have hb := X.2.1
  have hown : s.vm.findClass RX3 = some m.cls := X.2.2.2.2.1
  have hts := X.2.2.2.2.2.1
  have hl : lv_has ls 7 [(0, .ref M), (1, .int a1), (2, .int a2), (3, .int a3), (4, .int a4), (5, .int a5)] := hl
  unfold f_X3_copy at hf
  have L112 : ∀ (c1 : Int32) (c2 : Int32) (c3 : Int32) (c4 : Int32) (c5 : Int32) (n : Nat) (s112 : (Int32 × MS)) (r112 : MS), lp (f_X3_copy_b112 N c1 c2 c3 c4 c5) n s112 = some r112 → (∀ (ls : Array Slot) (H : Heap) (locs : List Loc), lv_has ls 7 [(0, .ref M), (3, .int c3), (4, .int c4), (5, .int c5)] → HH G (sz, MH M r112 rst) H → va_S (AG G) s.heap H locs → W p l e (rm_ 2 0 0) s m ([.ref M, .int a1, .int a2, .int a3, .int a4, .int a5] : List Value).toArray below meth c H locs 0 0 (MQ below (PostC G (sz, MH M stf rst) (some (.int rf))) ([.ref M, .int a1, .int a2, .int a3, .int a4, .int a5] : List Value).toArray s 0 0 (AG G)) (F0 m 147 ls [])) → ∀ (ls : Array Slot) (H : Heap) (locs : List Loc), lv_has ls 7 [(0, .ref M), (1, .int c1), (2, .int c2), (3, .int c3), (4, .int c4), (5, .int c5), (6, .int s112.1)] → HH G (sz, MH M s112.2 rst) H → va_S (AG G) s.heap H locs → W p l e (rm_ 2 0 0) s m ([.ref M, .int a1, .int a2, .int a3, .int a4, .int a5] : List Value).toArray below meth c H locs 0 0 (MQ below (PostC G (sz, MH M stf rst) (some (.int rf))) ([.ref M, .int a1, .int a2, .int a3, .int a4, .int a5] : List Value).toArray s 0 0 (AG G)) (F0 m 112 ls []) := by
    intro c1 c2 c3 c4 c5 n s112 r112 hr hq
    refine lp_ind (P := fun s112 => ∀ (ls : Array Slot) (H : Heap) (locs : List Loc), lv_has ls 7 [(0, .ref M), (1, .int c1), (2, .int c2), (3, .int c3), (4, .int c4), (5, .int c5), (6, .int s112.1)] → HH G (sz, MH M s112.2 rst) H → va_S (AG G) s.heap H locs → W p l e (rm_ 2 0 0) s m ([.ref M, .int a1, .int a2, .int a3, .int a4, .int a5] : List Value).toArray below meth c H locs 0 0 (MQ below (PostC G (sz, MH M stf rst) (some (.int rf))) ([.ref M, .int a1, .int a2, .int a3, .int a4, .int a5] : List Value).toArray s 0 0 (AG G)) (F0 m 112 ls [])) (Q := fun r112 => ∀ (ls : Array Slot) (H : Heap) (locs : List Loc), lv_has ls 7 [(0, .ref M), (3, .int c3), (4, .int c4), (5, .int c5)] → HH G (sz, MH M r112 rst) H → va_S (AG G) s.heap H locs → W p l e (rm_ 2 0 0) s m ([.ref M, .int a1, .int a2, .int a3, .int a4, .int a5] : List Value).toArray below meth c H locs 0 0 (MQ below (PostC G (sz, MH M stf rst) (some (.int rf))) ([.ref M, .int a1, .int a2, .int a3, .int a4, .int a5] : List Value).toArray s 0 0 (AG G)) (F0 m 147 ls [])) ?_ n s112 r112 hr hq
    intro s112 x112 hf hx112 ls H locs hl hH hS
    unfold f_X3_copy_b112 at hf
    refine lv_iload hx hb dX3_copy_112 (lv_at hl 6 rfl) ?_
    refine lv_iload hx hb dX3_copy_114 (lv_at hl 5 rfl) ?_
    refine lv_icmp_ge (tgt := 147) hx hb dX3_copy_116 (by decide) (fun c_ => ?_) (fun c_ => ?_)
    · have hf := (if_pos c_).symm.trans hf
      cases hf
      exact hx112 _ _ _ (lv_sub hl [0, 3, 4, 5] rfl) hH hS
    · have hf := (if_neg c_).symm.trans hf
      refine lv_aload_n hx hb dX3_copy_119 rfl (lv_at hl 0 rfl) ?_
      refine m_get X hK hH 17 (by decide) rfl (mg_17 _ _) q1076 dX3_copy_120 ?_
      refine lv_iload hx hb dX3_copy_123 (lv_at hl 6 rfl) ?_
      refine lv_aload_n hx hb dX3_copy_125 rfl (lv_at hl 0 rfl) ?_
      refine m_get X hK hH 23 (by decide) rfl (mg_23 _ _) q1082 dX3_copy_126 ?_
      refine lv_sipush (v := (200 : Int32)) hx hb dX3_copy_129 (by decide) ?_
      refine lv_iload_n hx hb dX3_copy_132 rfl (lv_at hl 1 rfl) ?_
      refine lv_imul hx hb dX3_copy_133 ?_
      refine lv_iload_n hx hb dX3_copy_134 rfl (lv_at hl 2 rfl) ?_
      refine lv_iadd hx hb dX3_copy_135 ?_
      refine lv_iload hx hb dX3_copy_136 (lv_at hl 6 rfl) ?_
      refine lv_iadd hx hb dX3_copy_138 ?_
      obtain ⟨v10, hv, hf⟩ := bd hf
      refine m_lald X hK hH 18 (mc_23 _ _) hv dX3_copy_139 ?_
      obtain ⟨w11, hv, hf⟩ := bd hf
      refine m_last X hK hH hS 13 (mc_17 _ _) hv (mt_17 _ _ _) dX3_copy_140 (fun H locs hH hS => ?_)
      refine lv_iinc (v := (s112.1 + 1)) (lv' := [(6, .int (s112.1 + 1)), (0, .ref M), (1, .int c1), (2, .int c2), (3, .int c3), (4, .int c4), (5, .int c5)]) hx hb dX3_copy_141 hl (k := 6) rfl rfl (by decide) rfl (fun ls hl => ?_)
      refine lv_goto (tgt := 112) hx hb dX3_copy_144 (by decide) ?_
      cases hf
      exact hx112 _ _ _ (lv_sub hl [1, 2, 3, 4, 5, 6, 0] rfl) hH hS
  have L150 : ∀ (c3 : Int32) (c4 : Int32) (c5 : Int32) (n : Nat) (s150 : (Int32 × MS)) (r150 : MS), lp (f_X3_copy_b150 N c3 c4 c5) n s150 = some r150 → (∀ (ls : Array Slot) (H : Heap) (locs : List Loc), lv_has ls 7 [(5, .int c5)] → HH G (sz, MH M r150 rst) H → va_S (AG G) s.heap H locs → W p l e (rm_ 2 0 0) s m ([.ref M, .int a1, .int a2, .int a3, .int a4, .int a5] : List Value).toArray below meth c H locs 0 0 (MQ below (PostC G (sz, MH M stf rst) (some (.int rf))) ([.ref M, .int a1, .int a2, .int a3, .int a4, .int a5] : List Value).toArray s 0 0 (AG G)) (F0 m 186 ls [])) → ∀ (ls : Array Slot) (H : Heap) (locs : List Loc), lv_has ls 7 [(0, .ref M), (3, .int c3), (4, .int c4), (5, .int c5), (6, .int s150.1)] → HH G (sz, MH M s150.2 rst) H → va_S (AG G) s.heap H locs → W p l e (rm_ 2 0 0) s m ([.ref M, .int a1, .int a2, .int a3, .int a4, .int a5] : List Value).toArray below meth c H locs 0 0 (MQ below (PostC G (sz, MH M stf rst) (some (.int rf))) ([.ref M, .int a1, .int a2, .int a3, .int a4, .int a5] : List Value).toArray s 0 0 (AG G)) (F0 m 150 ls []) := by
    intro c3 c4 c5 n s150 r150 hr hq
    refine lp_ind (P := fun s150 => ∀ (ls : Array Slot) (H : Heap) (locs : List Loc), lv_has ls 7 [(0, .ref M), (3, .int c3), (4, .int c4), (5, .int c5), (6, .int s150.1)] → HH G (sz, MH M s150.2 rst) H → va_S (AG G) s.heap H locs → W p l e (rm_ 2 0 0) s m ([.ref M, .int a1, .int a2, .int a3, .int a4, .int a5] : List Value).toArray below meth c H locs 0 0 (MQ below (PostC G (sz, MH M stf rst) (some (.int rf))) ([.ref M, .int a1, .int a2, .int a3, .int a4, .int a5] : List Value).toArray s 0 0 (AG G)) (F0 m 150 ls [])) (Q := fun r150 => ∀ (ls : Array Slot) (H : Heap) (locs : List Loc), lv_has ls 7 [(5, .int c5)] → HH G (sz, MH M r150 rst) H → va_S (AG G) s.heap H locs → W p l e (rm_ 2 0 0) s m ([.ref M, .int a1, .int a2, .int a3, .int a4, .int a5] : List Value).toArray below meth c H locs 0 0 (MQ below (PostC G (sz, MH M stf rst) (some (.int rf))) ([.ref M, .int a1, .int a2, .int a3, .int a4, .int a5] : List Value).toArray s 0 0 (AG G)) (F0 m 186 ls [])) ?_ n s150 r150 hr hq
    intro s150 x150 hf hx150 ls H locs hl hH hS
    unfold f_X3_copy_b150 at hf
    refine lv_iload hx hb dX3_copy_150 (lv_at hl 4 rfl) ?_
    refine lv_iload hx hb dX3_copy_152 (lv_at hl 3 rfl) ?_
    refine lv_icmp_ge (tgt := 186) hx hb dX3_copy_154 (by decide) (fun c_ => ?_) (fun c_ => ?_)
    · have hf := (if_pos c_).symm.trans hf
      cases hf
      exact hx150 _ _ _ (lv_sub hl [3] rfl) hH hS
    · have hf := (if_neg c_).symm.trans hf
      refine lv_aload_n hx hb dX3_copy_157 rfl (lv_at hl 0 rfl) ?_
      refine m_get X hK hH 23 (by decide) rfl (mg_23 _ _) q1082 dX3_copy_158 ?_
      refine lv_sipush (v := (200 : Int32)) hx hb dX3_copy_161 (by decide) ?_
      refine lv_iload_n hx hb dX3_copy_164 rfl (lv_at hl 1 rfl) ?_
      refine lv_imul hx hb dX3_copy_165 ?_
      refine lv_iload hx hb dX3_copy_166 (lv_at hl 2 rfl) ?_
      refine lv_iadd hx hb dX3_copy_168 ?_
      refine lv_iload hx hb dX3_copy_169 (lv_at hl 4 rfl) ?_
      refine lv_iadd hx hb dX3_copy_171 ?_
      refine lv_aload_n hx hb dX3_copy_172 rfl (lv_at hl 0 rfl) ?_
      refine m_get X hK hH 17 (by decide) rfl (mg_17 _ _) q1076 dX3_copy_173 ?_
      refine lv_iload hx hb dX3_copy_176 (lv_at hl 4 rfl) ?_
      obtain ⟨v13, hv, hf⟩ := bd hf
      refine m_lald X hK hH 13 (mc_17 _ _) hv dX3_copy_178 ?_
      obtain ⟨w14, hv, hf⟩ := bd hf
      refine m_last X hK hH hS 18 (mc_23 _ _) hv (mt_23 _ _ _) dX3_copy_179 (fun H locs hH hS => ?_)
      refine lv_iinc (v := (s150.1 + 1)) (lv' := [(6, .int (s150.1 + 1)), (0, .ref M), (3, .int c3), (4, .int c4), (5, .int c5)]) hx hb dX3_copy_180 hl (k := 4) rfl rfl (by decide) rfl (fun ls hl => ?_)
      refine lv_goto (tgt := 150) hx hb dX3_copy_183 (by decide) ?_
      cases hf
      exact hx150 _ _ _ (lv_sub hl [1, 2, 3, 4, 0] rfl) hH hS
  refine lv_iload_n hx hb dX3_copy_0 rfl (lv_at hl 1 rfl) ?_
  obtain ⟨v1, hv, hf⟩ := bd hf
  refine r_Si (As := [.int a1]) (rest := []) X (met_X3_isShelf l G _ N a1 v1 hv) cs_X3_isShelf q1390 rfl rfl hl.1 (Nat.le_of_ble_eq_true rfl) ⟨Nat.le_of_ble_eq_true rfl, Nat.le_of_ble_eq_true rfl⟩ ⟨Nat.le_refl _, Nat.le_refl _⟩ dX3_copy_1 hK hH hS (fun H locs hH hS => ?_)
  refine lv_if_eq (tgt := 14) hx hb dX3_copy_4 (by decide) (fun c_ => ?_) (fun c_ => ?_)
  · have hf := (if_pos c_).symm.trans hf
    refine lv_iconst (v := (-1 : Int32)) hx hb dX3_copy_14 (by decide) ?_
    cases hf
    exact r_iret X dX3_copy_15 (Nat.le_refl _) (Nat.le_refl _) rfl hH hS
  · have hf := (if_neg c_).symm.trans hf
    refine lv_iload_n hx hb dX3_copy_7 rfl (lv_at hl 3 rfl) ?_
    obtain ⟨v2, hv, hf⟩ := bd hf
    refine r_Si (As := [.int a3]) (rest := []) X (met_X3_isShelf l G _ N a3 v2 hv) cs_X3_isShelf q1390 rfl rfl hl.1 (Nat.le_of_ble_eq_true rfl) ⟨Nat.le_of_ble_eq_true rfl, Nat.le_of_ble_eq_true rfl⟩ ⟨Nat.le_refl _, Nat.le_refl _⟩ dX3_copy_8 hK hH hS (fun H locs hH hS => ?_)
    refine lv_if_ne (tgt := 16) hx hb dX3_copy_11 (by decide) (fun c_ => ?_) (fun c_ => ?_)
    · have hf := (if_neg c_).symm.trans hf
      refine lv_aload_n hx hb dX3_copy_16 rfl (lv_at hl 0 rfl) ?_
      refine m_get X hK hH 19 (by decide) rfl (mg_19 _ _) q1078 dX3_copy_17 ?_
      refine lv_iload_n hx hb dX3_copy_20 rfl (lv_at hl 1 rfl) ?_
      obtain ⟨v3, hv, hf⟩ := bd hf
      refine m_iald X hK hH 14 (mc_19 _ _) hv dX3_copy_21 ?_
      refine lv_if_eq (tgt := 34) hx hb dX3_copy_22 (by decide) (fun c_ => ?_) (fun c_ => ?_)
      · have hf := (if_pos c_).symm.trans hf
        refine lv_bipush (v := (-11 : Int32)) hx hb dX3_copy_34 (by decide) ?_
        cases hf
        exact r_iret X dX3_copy_36 (Nat.le_refl _) (Nat.le_refl _) rfl hH hS
      · have hf := (if_neg c_).symm.trans hf
        refine lv_aload_n hx hb dX3_copy_25 rfl (lv_at hl 0 rfl) ?_
        refine m_get X hK hH 19 (by decide) rfl (mg_19 _ _) q1078 dX3_copy_26 ?_
        refine lv_iload_n hx hb dX3_copy_29 rfl (lv_at hl 3 rfl) ?_
        obtain ⟨v4, hv, hf⟩ := bd hf
        refine m_iald X hK hH 14 (mc_19 _ _) hv dX3_copy_30 ?_
        refine lv_if_ne (tgt := 37) hx hb dX3_copy_31 (by decide) (fun c_ => ?_) (fun c_ => ?_)
        · have hf := (if_neg c_).symm.trans hf
          refine lv_aload_n hx hb dX3_copy_37 rfl (lv_at hl 0 rfl) ?_
          refine m_get X hK hH 19 (by decide) rfl (mg_19 _ _) q1078 dX3_copy_38 ?_
          refine lv_iload_n hx hb dX3_copy_41 rfl (lv_at hl 1 rfl) ?_
          obtain ⟨v5, hv, hf⟩ := bd hf
          refine m_iald X hK hH 14 (mc_19 _ _) hv dX3_copy_42 ?_
          refine lv_iconst (v := (3 : Int32)) hx hb dX3_copy_43 (by decide) ?_
          refine lv_icmp_lt (tgt := 62) hx hb dX3_copy_44 (by decide) (fun c_ => ?_) (fun c_ => ?_)
          · have hf := (if_pos c_).symm.trans hf
            refine lv_bipush (v := (-12 : Int32)) hx hb dX3_copy_62 (by decide) ?_
            cases hf
            exact r_iret X dX3_copy_64 (Nat.le_refl _) (Nat.le_refl _) rfl hH hS
          · have hf := (if_neg c_).symm.trans hf
            refine lv_aload_n hx hb dX3_copy_47 rfl (lv_at hl 0 rfl) ?_
            refine m_get X hK hH 19 (by decide) rfl (mg_19 _ _) q1078 dX3_copy_48 ?_
            refine lv_iload_n hx hb dX3_copy_51 rfl (lv_at hl 3 rfl) ?_
            obtain ⟨v6, hv, hf⟩ := bd hf
            refine m_iald X hK hH 14 (mc_19 _ _) hv dX3_copy_52 ?_
            refine lv_aload_n hx hb dX3_copy_53 rfl (lv_at hl 0 rfl) ?_
            refine m_get X hK hH 19 (by decide) rfl (mg_19 _ _) q1078 dX3_copy_54 ?_
            refine lv_iload_n hx hb dX3_copy_57 rfl (lv_at hl 1 rfl) ?_
            obtain ⟨v7, hv, hf⟩ := bd hf
            refine m_iald X hK hH 14 (mc_19 _ _) hv dX3_copy_58 ?_
            refine lv_icmp_eq (tgt := 65) hx hb dX3_copy_59 (by decide) (fun c_ => ?_) (fun c_ => ?_)
            · have hf := (if_pos c_).symm.trans hf
              refine lv_iload hx hb dX3_copy_65 (lv_at hl 5 rfl) ?_
              refine lv_if_lt (tgt := 106) hx hb dX3_copy_67 (by decide) (fun c_ => ?_) (fun c_ => ?_)
              · have hf := (if_pos c_).symm.trans hf
                refine lv_bipush (v := (-13 : Int32)) hx hb dX3_copy_106 (by decide) ?_
                cases hf
                exact r_iret X dX3_copy_108 (Nat.le_refl _) (Nat.le_refl _) rfl hH hS
              · have hf := (if_neg c_).symm.trans hf
                refine lv_iload_n hx hb dX3_copy_70 rfl (lv_at hl 2 rfl) ?_
                refine lv_if_lt (tgt := 106) hx hb dX3_copy_71 (by decide) (fun c_ => ?_) (fun c_ => ?_)
                · have hf := (if_pos c_).symm.trans hf
                  refine lv_bipush (v := (-13 : Int32)) hx hb dX3_copy_106 (by decide) ?_
                  cases hf
                  exact r_iret X dX3_copy_108 (Nat.le_refl _) (Nat.le_refl _) rfl hH hS
                · have hf := (if_neg c_).symm.trans hf
                  refine lv_iload hx hb dX3_copy_74 (lv_at hl 4 rfl) ?_
                  refine lv_if_lt (tgt := 106) hx hb dX3_copy_76 (by decide) (fun c_ => ?_) (fun c_ => ?_)
                  · have hf := (if_pos c_).symm.trans hf
                    refine lv_bipush (v := (-13 : Int32)) hx hb dX3_copy_106 (by decide) ?_
                    cases hf
                    exact r_iret X dX3_copy_108 (Nat.le_refl _) (Nat.le_refl _) rfl hH hS
                  · have hf := (if_neg c_).symm.trans hf
                    refine lv_iload_n hx hb dX3_copy_79 rfl (lv_at hl 2 rfl) ?_
                    refine lv_aload_n hx hb dX3_copy_80 rfl (lv_at hl 0 rfl) ?_
                    refine m_get X hK hH 22 (by decide) rfl (mg_22 _ _) q1081 dX3_copy_81 ?_
                    refine lv_iload_n hx hb dX3_copy_84 rfl (lv_at hl 1 rfl) ?_
                    obtain ⟨v8, hv, hf⟩ := bd hf
                    refine m_iald X hK hH 17 (mc_22 _ _) hv dX3_copy_85 ?_
                    refine lv_iload hx hb dX3_copy_86 (lv_at hl 5 rfl) ?_
                    refine lv_isub hx hb dX3_copy_88 ?_
                    refine lv_icmp_gt (tgt := 106) hx hb dX3_copy_89 (by decide) (fun c_ => ?_) (fun c_ => ?_)
                    · have hf := (if_pos c_).symm.trans hf
                      refine lv_bipush (v := (-13 : Int32)) hx hb dX3_copy_106 (by decide) ?_
                      cases hf
                      exact r_iret X dX3_copy_108 (Nat.le_refl _) (Nat.le_refl _) rfl hH hS
                    · have hf := (if_neg c_).symm.trans hf
                      refine lv_iload hx hb dX3_copy_92 (lv_at hl 4 rfl) ?_
                      refine lv_aload_n hx hb dX3_copy_94 rfl (lv_at hl 0 rfl) ?_
                      refine m_get X hK hH 22 (by decide) rfl (mg_22 _ _) q1081 dX3_copy_95 ?_
                      refine lv_iload_n hx hb dX3_copy_98 rfl (lv_at hl 3 rfl) ?_
                      obtain ⟨v9, hv, hf⟩ := bd hf
                      refine m_iald X hK hH 17 (mc_22 _ _) hv dX3_copy_99 ?_
                      refine lv_iload hx hb dX3_copy_100 (lv_at hl 5 rfl) ?_
                      refine lv_isub hx hb dX3_copy_102 ?_
                      refine lv_icmp_le (tgt := 109) hx hb dX3_copy_103 (by decide) (fun c_ => ?_) (fun c_ => ?_)
                      · have hf := (if_pos c_).symm.trans hf
                        refine lv_iconst (v := (0 : Int32)) hx hb dX3_copy_109 (by decide) ?_
                        refine lv_istore (lv' := [(6, .int (0 : Int32)), (0, .ref M), (1, .int a1), (2, .int a2), (3, .int a3), (4, .int a4), (5, .int a5)]) hx hb dX3_copy_110 hl (by decide) rfl (fun ls hl => ?_)
                        obtain ⟨r112_12, hr, hf⟩ := bd hf
                        refine L112 a1 a2 a3 a4 a5 N _ r112_12 hr ?_ _ _ _ (lv_sub hl [1, 2, 3, 4, 5, 6, 0] rfl) hH hS
                        intro ls H locs hl hH hS
                        refine lv_iconst (v := (0 : Int32)) hx hb dX3_copy_147 (by decide) ?_
                        refine lv_istore (lv' := [(6, .int (0 : Int32)), (0, .ref M), (3, .int a3), (4, .int a4), (5, .int a5)]) hx hb dX3_copy_148 hl (by decide) rfl (fun ls hl => ?_)
                        obtain ⟨r150_15, hr, hf⟩ := bd hf
                        refine L150 a3 a4 a5 N _ r150_15 hr ?_ _ _ _ (lv_sub hl [1, 2, 3, 4, 0] rfl) hH hS
                        intro ls H locs hl hH hS
                        refine lv_iload hx hb dX3_copy_186 (lv_at hl 0 rfl) ?_
                        cases hf
                        exact r_iret X dX3_copy_188 (Nat.le_refl _) (Nat.le_refl _) rfl hH hS
                      · have hf := (if_neg c_).symm.trans hf
                        refine lv_bipush (v := (-13 : Int32)) hx hb dX3_copy_106 (by decide) ?_
                        cases hf
                        exact r_iret X dX3_copy_108 (Nat.le_refl _) (Nat.le_refl _) rfl hH hS
            · have hf := (if_neg c_).symm.trans hf
              refine lv_bipush (v := (-12 : Int32)) hx hb dX3_copy_62 (by decide) ?_
              cases hf
              exact r_iret X dX3_copy_64 (Nat.le_refl _) (Nat.le_refl _) rfl hH hS
        · have hf := (if_pos c_).symm.trans hf
          refine lv_bipush (v := (-11 : Int32)) hx hb dX3_copy_34 (by decide) ?_
          cases hf
          exact r_iret X dX3_copy_36 (Nat.le_refl _) (Nat.le_refl _) rfl hH hS
    · have hf := (if_pos c_).symm.trans hf
      refine lv_iconst (v := (-1 : Int32)) hx hb dX3_copy_14 (by decide) ?_
      cases hf
      exact r_iret X dX3_copy_15 (Nat.le_refl _) (Nat.le_refl _) rfl hH hS
theorem cv_X3_looksAt : CalV "WordBenchModel" yX3_looksAt cX3_looksAt 7 none 2 := ⟨q1295, qs36, q57, q1296, by decide +kernel⟩
set_option maxHeartbeats 4000000 in
theorem met_X3_looksAt (l : Launch) (G : GG) (sz M : Nat) (rst : Nat → Option AE) (N : Nat) (st : MS) (a1 : Int32) (a2 : Int64) (stf : MS) (hf : f_X3_looksAt N st a1 a2 = some stf) : Con l yX3_looksAt cX3_looksAt 7 none 0 0 0 G (sz, MH M st rst) [.ref M, .int a1, .long a2] (sz, MH M stf rst) none := by
  refine con_of (by decide) (Nat.le_of_ble_eq_true rfl) ?_
  intro p e s m below meth c ls X hK hH hl hS
  have hx := X.1
  have hb := X.2.1
  have hown : s.vm.findClass RX3 = some m.cls := X.2.2.2.2.1
  have hts := X.2.2.2.2.2.1
  have hl : lv_has ls 7 [(0, .ref M), (1, .int a1), (2, .long a2)] := hl
  unfold f_X3_looksAt at hf
  have L13 : ∀ (c1 : Int32) (n : Nat) (s13 : (Int64 × Int32 × MS)) (r13 : MS), lp (f_X3_looksAt_b13 N c1) n s13 = some r13 → (∀ (ls : Array Slot) (H : Heap) (locs : List Loc), lv_has ls 7 [] → HH G (sz, MH M r13 rst) H → va_S (AG G) s.heap H locs → W p l e (rm_ 0 0 0) s m ([.ref M, .int a1, .long a2] : List Value).toArray below meth c H locs 0 0 (MQ below (PostC G (sz, MH M stf rst) none) ([.ref M, .int a1, .long a2] : List Value).toArray s 0 0 (AG G)) (F0 m 54 ls [])) → ∀ (ls : Array Slot) (H : Heap) (locs : List Loc), lv_has ls 7 [(0, .ref M), (1, .int c1), (4, .long s13.1), (6, .int s13.2.1)] → HH G (sz, MH M s13.2.2 rst) H → va_S (AG G) s.heap H locs → W p l e (rm_ 0 0 0) s m ([.ref M, .int a1, .long a2] : List Value).toArray below meth c H locs 0 0 (MQ below (PostC G (sz, MH M stf rst) none) ([.ref M, .int a1, .long a2] : List Value).toArray s 0 0 (AG G)) (F0 m 13 ls []) := by
    intro c1 n s13 r13 hr hq
    refine lp_ind (P := fun s13 => ∀ (ls : Array Slot) (H : Heap) (locs : List Loc), lv_has ls 7 [(0, .ref M), (1, .int c1), (4, .long s13.1), (6, .int s13.2.1)] → HH G (sz, MH M s13.2.2 rst) H → va_S (AG G) s.heap H locs → W p l e (rm_ 0 0 0) s m ([.ref M, .int a1, .long a2] : List Value).toArray below meth c H locs 0 0 (MQ below (PostC G (sz, MH M stf rst) none) ([.ref M, .int a1, .long a2] : List Value).toArray s 0 0 (AG G)) (F0 m 13 ls [])) (Q := fun r13 => ∀ (ls : Array Slot) (H : Heap) (locs : List Loc), lv_has ls 7 [] → HH G (sz, MH M r13 rst) H → va_S (AG G) s.heap H locs → W p l e (rm_ 0 0 0) s m ([.ref M, .int a1, .long a2] : List Value).toArray below meth c H locs 0 0 (MQ below (PostC G (sz, MH M stf rst) none) ([.ref M, .int a1, .long a2] : List Value).toArray s 0 0 (AG G)) (F0 m 54 ls [])) ?_ n s13 r13 hr hq
    intro s13 x13 hf hx13 ls H locs hl hH hS
    unfold f_X3_looksAt_b13 at hf
    refine lv_iload hx hb dX3_looksAt_13 (lv_at hl 3 rfl) ?_
    refine lv_if_lt (tgt := 54) hx hb dX3_looksAt_15 (by decide) (fun c_ => ?_) (fun c_ => ?_)
    · have hf := (if_pos c_).symm.trans hf
      cases hf
      exact hx13 _ _ _ (lv_sub hl [] rfl) hH hS
    · have hf := (if_neg c_).symm.trans hf
      refine lv_aload_n hx hb dX3_looksAt_18 rfl (lv_at hl 0 rfl) ?_
      refine m_get X hK hH 13 (by decide) rfl (mg_13 _ _) q1072 dX3_looksAt_19 ?_
      refine lv_iload hx hb dX3_looksAt_22 (lv_at hl 3 rfl) ?_
      refine lv_lload hx hb dX3_looksAt_24 (lv_at hl 2 rfl) ?_
      refine lv_aload_n hx hb dX3_looksAt_26 rfl (lv_at hl 0 rfl) ?_
      refine m_get X hK hH 2 (by decide) rfl (mg_2 _ _) q1061 dX3_looksAt_27 ?_
      refine lv_iload_n hx hb dX3_looksAt_30 rfl (lv_at hl 1 rfl) ?_
      obtain ⟨v2, hv, hf⟩ := bd hf
      refine m_iald X hK hH 2 (mc_2 _ _) hv dX3_looksAt_31 ?_
      refine lv_i2l (v := (v2).toInt64) hx hb dX3_looksAt_32 rfl ?_
      obtain ⟨v3, hv, hf⟩ := bd hf
      refine r_lrem hx hb hv dX3_looksAt_33 ?_
      refine lv_l2i (v := (v3).toInt32) hx hb dX3_looksAt_34 rfl ?_
      obtain ⟨w4, hv, hf⟩ := bd hf
      refine m_iast X hK hH hS 11 (mc_13 _ _) hv (mt_13 _ _ _) dX3_looksAt_35 (fun H locs hH hS => ?_)
      refine lv_lload hx hb dX3_looksAt_36 (lv_at hl 2 rfl) ?_
      refine lv_aload_n hx hb dX3_looksAt_38 rfl (lv_at hl 0 rfl) ?_
      refine m_get X hK hH 2 (by decide) rfl (mg_2 _ _) q1061 dX3_looksAt_39 ?_
      refine lv_iload_n hx hb dX3_looksAt_42 rfl (lv_at hl 1 rfl) ?_
      obtain ⟨v5, hv, hf⟩ := bd hf
      refine m_iald X hK hH 2 (mc_2 _ _) hv dX3_looksAt_43 ?_
      refine lv_i2l (v := (v5).toInt64) hx hb dX3_looksAt_44 rfl ?_
      obtain ⟨v6, hv, hf⟩ := bd hf
      refine r_ldiv hx hb hv dX3_looksAt_45 ?_
      refine lv_lstore (lv' := [(4, .long v6), (0, .ref M), (1, .int c1), (6, .int s13.2.1)]) hx hb dX3_looksAt_46 hl (by decide) rfl (fun ls hl => ?_)
      refine lv_iinc (v := (s13.2.1 + (-1))) (lv' := [(6, .int (s13.2.1 + (-1))), (4, .long v6), (0, .ref M), (1, .int c1)]) hx hb dX3_looksAt_48 hl (k := 3) rfl rfl (by decide) rfl (fun ls hl => ?_)
      refine lv_goto (tgt := 13) hx hb dX3_looksAt_51 (by decide) ?_
      cases hf
      exact hx13 _ _ _ (lv_sub hl [2, 3, 1, 0] rfl) hH hS
  refine lv_lload_n hx hb dX3_looksAt_0 rfl (lv_at hl 2 rfl) ?_
  refine lv_lstore (lv' := [(4, .long a2), (0, .ref M), (1, .int a1), (2, .long a2)]) hx hb dX3_looksAt_1 hl (by decide) rfl (fun ls hl => ?_)
  refine lv_aload_n hx hb dX3_looksAt_3 rfl (lv_at hl 1 rfl) ?_
  refine m_get X hK hH 3 (by decide) rfl (mg_3 _ _) q1062 dX3_looksAt_4 ?_
  refine lv_iload_n hx hb dX3_looksAt_7 rfl (lv_at hl 2 rfl) ?_
  obtain ⟨v1, hv, hf⟩ := bd hf
  refine m_iald X hK hH 3 (mc_3 _ _) hv dX3_looksAt_8 ?_
  refine lv_iconst (v := (1 : Int32)) hx hb dX3_looksAt_9 (by decide) ?_
  refine lv_isub hx hb dX3_looksAt_10 ?_
  refine lv_istore (lv' := [(6, .int (v1 - (1 : Int32))), (4, .long a2), (0, .ref M), (1, .int a1), (2, .long a2)]) hx hb dX3_looksAt_11 hl (by decide) rfl (fun ls hl => ?_)
  obtain ⟨r13_7, hr, hf⟩ := bd hf
  refine L13 a1 N _ r13_7 hr ?_ _ _ _ (lv_sub hl [2, 3, 1, 0] rfl) hH hS
  intro ls H locs hl hH hS
  cases hf
  exact r_vret X dX3_looksAt_54 (Nat.le_refl _) (Nat.le_refl _) rfl hH hS
theorem cv_X3_wayTo : CalV "WordBenchModel" yX3_wayTo cX3_wayTo 6 (some .int) 3 := ⟨q1299, qs37, q57, q1300, by decide +kernel⟩
set_option maxHeartbeats 4000000 in
theorem met_X3_wayTo (l : Launch) (G : GG) (sz M : Nat) (rst : Nat → Option AE) (N : Nat) (st : MS) (a1 : Int32) (a2 : Int32) (a3 : Int32) (rf : Int32) (hf : f_X3_wayTo N st a1 a2 a3 = some rf) : Con l yX3_wayTo cX3_wayTo 6 (some .int) 0 0 0 G (sz, MH M st rst) [.ref M, .int a1, .int a2, .int a3] (sz, MH M st rst) (some (.int rf)) := by
  refine con_of (by decide) (Nat.le_of_ble_eq_true rfl) ?_
  intro p e s m below meth c ls X hK hH hl hS
  have hx := X.1
  have hb := X.2.1
  have hown : s.vm.findClass RX3 = some m.cls := X.2.2.2.2.1
  have hts := X.2.2.2.2.2.1
  have hl : lv_has ls 6 [(0, .ref M), (1, .int a1), (2, .int a2), (3, .int a3)] := hl
  unfold f_X3_wayTo at hf
  have L6 : ∀ (c1 : Int32) (c2 : Int32) (c3 : Int32) (n : Nat) (s6 : (Int32 × Int32)) (r6 : Int32), lp (f_X3_wayTo_b6 N c1 c2 c3 st) n s6 = some r6 → (∀ (ls : Array Slot) (H : Heap) (locs : List Loc), lv_has ls 6 [(4, .int r6)] → HH G (sz, MH M st rst) H → va_S (AG G) s.heap H locs → W p l e (rm_ 0 0 0) s m ([.ref M, .int a1, .int a2, .int a3] : List Value).toArray below meth c H locs 0 0 (MQ below (PostC G (sz, MH M st rst) (some (.int rf))) ([.ref M, .int a1, .int a2, .int a3] : List Value).toArray s 0 0 (AG G)) (F0 m 64 ls [])) → ∀ (ls : Array Slot) (H : Heap) (locs : List Loc), lv_has ls 6 [(0, .ref M), (1, .int c1), (2, .int c2), (3, .int c3), (4, .int s6.1), (5, .int s6.2)] → HH G (sz, MH M st rst) H → va_S (AG G) s.heap H locs → W p l e (rm_ 0 0 0) s m ([.ref M, .int a1, .int a2, .int a3] : List Value).toArray below meth c H locs 0 0 (MQ below (PostC G (sz, MH M st rst) (some (.int rf))) ([.ref M, .int a1, .int a2, .int a3] : List Value).toArray s 0 0 (AG G)) (F0 m 6 ls []) := by
    intro c1 c2 c3 n s6 r6 hr hq
    refine lp_ind (P := fun s6 => ∀ (ls : Array Slot) (H : Heap) (locs : List Loc), lv_has ls 6 [(0, .ref M), (1, .int c1), (2, .int c2), (3, .int c3), (4, .int s6.1), (5, .int s6.2)] → HH G (sz, MH M st rst) H → va_S (AG G) s.heap H locs → W p l e (rm_ 0 0 0) s m ([.ref M, .int a1, .int a2, .int a3] : List Value).toArray below meth c H locs 0 0 (MQ below (PostC G (sz, MH M st rst) (some (.int rf))) ([.ref M, .int a1, .int a2, .int a3] : List Value).toArray s 0 0 (AG G)) (F0 m 6 ls [])) (Q := fun r6 => ∀ (ls : Array Slot) (H : Heap) (locs : List Loc), lv_has ls 6 [(4, .int r6)] → HH G (sz, MH M st rst) H → va_S (AG G) s.heap H locs → W p l e (rm_ 0 0 0) s m ([.ref M, .int a1, .int a2, .int a3] : List Value).toArray below meth c H locs 0 0 (MQ below (PostC G (sz, MH M st rst) (some (.int rf))) ([.ref M, .int a1, .int a2, .int a3] : List Value).toArray s 0 0 (AG G)) (F0 m 64 ls [])) ?_ n s6 r6 hr hq
    intro s6 x6 hf hx6 ls H locs hl hH hS
    unfold f_X3_wayTo_b6 at hf
    refine lv_iload hx hb dX3_wayTo_6 (lv_at hl 5 rfl) ?_
    refine lv_aload_n hx hb dX3_wayTo_8 rfl (lv_at hl 0 rfl) ?_
    refine m_get X hK hH 3 (by decide) rfl (mg_3 _ _) q1062 dX3_wayTo_9 ?_
    refine lv_iload_n hx hb dX3_wayTo_12 rfl (lv_at hl 1 rfl) ?_
    obtain ⟨v1, hv, hf⟩ := bd hf
    refine m_iald X hK hH 3 (mc_3 _ _) hv dX3_wayTo_13 ?_
    refine lv_icmp_ge (tgt := 64) hx hb dX3_wayTo_14 (by decide) (fun c_ => ?_) (fun c_ => ?_)
    · have hf := (if_pos c_).symm.trans hf
      cases hf
      exact hx6 _ _ _ (lv_sub hl [4] rfl) hH hS
    · have hf := (if_neg c_).symm.trans hf
      refine lv_iload hx hb dX3_wayTo_17 (lv_at hl 4 rfl) ?_
      refine lv_iload_n hx hb dX3_wayTo_19 rfl (lv_at hl 3 rfl) ?_
      refine lv_iload hx hb dX3_wayTo_20 (lv_at hl 5 rfl) ?_
      refine lv_ishr hx hb dX3_wayTo_22 ?_
      refine lv_iconst (v := (1 : Int32)) hx hb dX3_wayTo_23 (by decide) ?_
      refine lv_iand hx hb dX3_wayTo_24 ?_
      refine lv_if_ne (tgt := 54) hx hb dX3_wayTo_25 (by decide) (fun c_ => ?_) (fun c_ => ?_)
      · have hf := (if_neg c_).symm.trans hf
        refine lv_iconst (v := (0 : Int32)) hx hb dX3_wayTo_54 (by decide) ?_
        refine lv_iadd hx hb dX3_wayTo_55 ?_
        refine lv_istore (lv' := [(4, .int (s6.1 + (0 : Int32))), (0, .ref M), (1, .int c1), (2, .int c2), (3, .int c3), (5, .int s6.2)]) hx hb dX3_wayTo_56 hl (by decide) rfl (fun ls hl => ?_)
        refine lv_iinc (v := (s6.2 + 1)) (lv' := [(5, .int (s6.2 + 1)), (4, .int (s6.1 + (0 : Int32))), (0, .ref M), (1, .int c1), (2, .int c2), (3, .int c3)]) hx hb dX3_wayTo_58 hl (k := 5) rfl rfl (by decide) rfl (fun ls hl => ?_)
        refine lv_goto (tgt := 6) hx hb dX3_wayTo_61 (by decide) ?_
        cases hf
        exact hx6 _ _ _ (lv_sub hl [2, 3, 4, 5, 1, 0] rfl) hH hS
      · have hf := (if_pos c_).symm.trans hf
        refine lv_aload_n hx hb dX3_wayTo_28 rfl (lv_at hl 0 rfl) ?_
        refine m_get X hK hH 13 (by decide) rfl (mg_13 _ _) q1072 dX3_wayTo_29 ?_
        refine lv_iload hx hb dX3_wayTo_32 (lv_at hl 5 rfl) ?_
        obtain ⟨v2, hv, hf⟩ := bd hf
        refine m_iald X hK hH 11 (mc_13 _ _) hv dX3_wayTo_34 ?_
        refine lv_aload_n hx hb dX3_wayTo_35 rfl (lv_at hl 0 rfl) ?_
        refine m_get X hK hH 12 (by decide) rfl (mg_12 _ _) q1071 dX3_wayTo_36 ?_
        refine lv_bipush (v := (12 : Int32)) hx hb dX3_wayTo_39 (by decide) ?_
        refine lv_iload_n hx hb dX3_wayTo_41 rfl (lv_at hl 2 rfl) ?_
        refine lv_imul hx hb dX3_wayTo_42 ?_
        refine lv_iload hx hb dX3_wayTo_43 (lv_at hl 5 rfl) ?_
        refine lv_iadd hx hb dX3_wayTo_45 ?_
        obtain ⟨v3, hv, hf⟩ := bd hf
        refine m_iald X hK hH 10 (mc_12 _ _) hv dX3_wayTo_46 ?_
        refine lv_icmp_eq (tgt := 54) hx hb dX3_wayTo_47 (by decide) (fun c_ => ?_) (fun c_ => ?_)
        · have hf := (if_pos c_).symm.trans hf
          refine lv_iconst (v := (0 : Int32)) hx hb dX3_wayTo_54 (by decide) ?_
          refine lv_iadd hx hb dX3_wayTo_55 ?_
          refine lv_istore (lv' := [(4, .int (s6.1 + (0 : Int32))), (0, .ref M), (1, .int c1), (2, .int c2), (3, .int c3), (5, .int s6.2)]) hx hb dX3_wayTo_56 hl (by decide) rfl (fun ls hl => ?_)
          refine lv_iinc (v := (s6.2 + 1)) (lv' := [(5, .int (s6.2 + 1)), (4, .int (s6.1 + (0 : Int32))), (0, .ref M), (1, .int c1), (2, .int c2), (3, .int c3)]) hx hb dX3_wayTo_58 hl (k := 5) rfl rfl (by decide) rfl (fun ls hl => ?_)
          refine lv_goto (tgt := 6) hx hb dX3_wayTo_61 (by decide) ?_
          cases hf
          exact hx6 _ _ _ (lv_sub hl [2, 3, 4, 5, 1, 0] rfl) hH hS
        · have hf := (if_neg c_).symm.trans hf
          refine lv_iconst (v := (1 : Int32)) hx hb dX3_wayTo_50 (by decide) ?_
          refine lv_goto (tgt := 55) hx hb dX3_wayTo_51 (by decide) ?_
          refine lv_iadd hx hb dX3_wayTo_55 ?_
          refine lv_istore (lv' := [(4, .int (s6.1 + (1 : Int32))), (0, .ref M), (1, .int c1), (2, .int c2), (3, .int c3), (5, .int s6.2)]) hx hb dX3_wayTo_56 hl (by decide) rfl (fun ls hl => ?_)
          refine lv_iinc (v := (s6.2 + 1)) (lv' := [(5, .int (s6.2 + 1)), (4, .int (s6.1 + (1 : Int32))), (0, .ref M), (1, .int c1), (2, .int c2), (3, .int c3)]) hx hb dX3_wayTo_58 hl (k := 5) rfl rfl (by decide) rfl (fun ls hl => ?_)
          refine lv_goto (tgt := 6) hx hb dX3_wayTo_61 (by decide) ?_
          cases hf
          exact hx6 _ _ _ (lv_sub hl [2, 3, 4, 5, 1, 0] rfl) hH hS
  refine lv_iconst (v := (0 : Int32)) hx hb dX3_wayTo_0 (by decide) ?_
  refine lv_istore (lv' := [(4, .int (0 : Int32)), (0, .ref M), (1, .int a1), (2, .int a2), (3, .int a3)]) hx hb dX3_wayTo_1 hl (by decide) rfl (fun ls hl => ?_)
  refine lv_iconst (v := (0 : Int32)) hx hb dX3_wayTo_3 (by decide) ?_
  refine lv_istore (lv' := [(5, .int (0 : Int32)), (4, .int (0 : Int32)), (0, .ref M), (1, .int a1), (2, .int a2), (3, .int a3)]) hx hb dX3_wayTo_4 hl (by decide) rfl (fun ls hl => ?_)
  obtain ⟨r6_4, hr, hf⟩ := bd hf
  refine L6 a1 a2 a3 N _ r6_4 hr ?_ _ _ _ (lv_sub hl [2, 3, 4, 5, 1, 0] rfl) hH hS
  intro ls H locs hl hH hS
  refine lv_iload hx hb dX3_wayTo_64 (lv_at hl 0 rfl) ?_
  cases hf
  exact r_iret X dX3_wayTo_66 (Nat.le_refl _) (Nat.le_refl _) rfl hH hS
theorem cv_X3_nearest : CalV "WordBenchModel" yX3_nearest cX3_nearest 9 (some .int) 3 := ⟨q1291, qs35, q57, q1292, by decide +kernel⟩
set_option maxHeartbeats 4000000 in
theorem met_X3_nearest (l : Launch) (G : GG) (sz M : Nat) (rst : Nat → Option AE) (N : Nat) (st : MS) (a1 : Int32) (a2 : Int64) (a4 : Int32) (stf : MS) (rf : Int32) (hf : f_X3_nearest N st a1 a2 a4 = some (stf, rf)) : Con l yX3_nearest cX3_nearest 9 (some .int) 1 0 0 G (sz, MH M st rst) [.ref M, .int a1, .long a2, .int a4] (sz, MH M stf rst) (some (.int rf)) := by
  refine con_of (by decide) (Nat.le_of_ble_eq_true rfl) ?_
  intro p e s m below meth c ls X hK hH hl hS
  have hx := X.1
  have hb := X.2.1
  have hown : s.vm.findClass RX3 = some m.cls := X.2.2.2.2.1
  have hts := X.2.2.2.2.2.1
  have hl : lv_has ls 9 [(0, .ref M), (1, .int a1), (2, .long a2), (4, .int a4)] := hl
  unfold f_X3_nearest at hf
  have L16 : ∀ (c1 : Int32) (c4 : Int32) (t16 : MS) (n : Nat) (s16 : (Int32 × Int32 × Int32)) (r16 : Int32), lp (f_X3_nearest_b16 N c1 c4 t16) n s16 = some r16 → (∀ (ls : Array Slot) (H : Heap) (locs : List Loc), lv_has ls 9 [(5, .int r16)] → HH G (sz, MH M t16 rst) H → va_S (AG G) s.heap H locs → W p l e (rm_ 1 0 0) s m ([.ref M, .int a1, .long a2, .int a4] : List Value).toArray below meth c H locs 0 0 (MQ below (PostC G (sz, MH M stf rst) (some (.int rf))) ([.ref M, .int a1, .long a2, .int a4] : List Value).toArray s 0 0 (AG G)) (F0 m 60 ls [])) → ∀ (ls : Array Slot) (H : Heap) (locs : List Loc), lv_has ls 9 [(0, .ref M), (1, .int c1), (4, .int c4), (5, .int s16.1), (6, .int s16.2.1), (7, .int s16.2.2)] → HH G (sz, MH M t16 rst) H → va_S (AG G) s.heap H locs → W p l e (rm_ 1 0 0) s m ([.ref M, .int a1, .long a2, .int a4] : List Value).toArray below meth c H locs 0 0 (MQ below (PostC G (sz, MH M stf rst) (some (.int rf))) ([.ref M, .int a1, .long a2, .int a4] : List Value).toArray s 0 0 (AG G)) (F0 m 16 ls []) := by
    intro c1 c4 t16 n s16 r16 hr hq
    refine lp_ind (P := fun s16 => ∀ (ls : Array Slot) (H : Heap) (locs : List Loc), lv_has ls 9 [(0, .ref M), (1, .int c1), (4, .int c4), (5, .int s16.1), (6, .int s16.2.1), (7, .int s16.2.2)] → HH G (sz, MH M t16 rst) H → va_S (AG G) s.heap H locs → W p l e (rm_ 1 0 0) s m ([.ref M, .int a1, .long a2, .int a4] : List Value).toArray below meth c H locs 0 0 (MQ below (PostC G (sz, MH M stf rst) (some (.int rf))) ([.ref M, .int a1, .long a2, .int a4] : List Value).toArray s 0 0 (AG G)) (F0 m 16 ls [])) (Q := fun r16 => ∀ (ls : Array Slot) (H : Heap) (locs : List Loc), lv_has ls 9 [(5, .int r16)] → HH G (sz, MH M t16 rst) H → va_S (AG G) s.heap H locs → W p l e (rm_ 1 0 0) s m ([.ref M, .int a1, .long a2, .int a4] : List Value).toArray below meth c H locs 0 0 (MQ below (PostC G (sz, MH M stf rst) (some (.int rf))) ([.ref M, .int a1, .long a2, .int a4] : List Value).toArray s 0 0 (AG G)) (F0 m 60 ls [])) ?_ n s16 r16 hr hq
    intro s16 x16 hf hx16 ls H locs hl hH hS
    unfold f_X3_nearest_b16 at hf
    refine lv_iload hx hb dX3_nearest_16 (lv_at hl 5 rfl) ?_
    refine lv_aload_n hx hb dX3_nearest_18 rfl (lv_at hl 0 rfl) ?_
    refine m_get X hK hH 11 (by decide) rfl (mg_11 _ _) q1070 dX3_nearest_19 ?_
    refine lv_icmp_ge (tgt := 60) hx hb dX3_nearest_22 (by decide) (fun c_ => ?_) (fun c_ => ?_)
    · have hf := (if_pos c_).symm.trans hf
      cases hf
      exact hx16 _ _ _ (lv_sub hl [3] rfl) hH hS
    · have hf := (if_neg c_).symm.trans hf
      refine lv_aload_n hx hb dX3_nearest_25 rfl (lv_at hl 0 rfl) ?_
      refine lv_iload_n hx hb dX3_nearest_26 rfl (lv_at hl 1 rfl) ?_
      refine lv_iload hx hb dX3_nearest_27 (lv_at hl 5 rfl) ?_
      refine lv_iload hx hb dX3_nearest_29 (lv_at hl 2 rfl) ?_
      obtain ⟨v2, hv, hf⟩ := bd hf
      refine r_Vi (As := [.int c1, .int s16.2.2, .int c4]) (rest := []) X (met_X3_wayTo l G _ _ _ N t16 c1 s16.2.2 c4 v2 hv) cv_X3_wayTo q1297 (m_recv hK hH) rfl rfl hl.1 (Nat.le_of_ble_eq_true rfl) ⟨Nat.le_of_ble_eq_true rfl, Nat.le_of_ble_eq_true rfl⟩ ⟨Nat.le_refl _, Nat.le_refl _⟩ dX3_nearest_31 hK hH hS (fun H locs hH hS => ?_)
      refine lv_istore (lv' := [(8, .int v2), (0, .ref M), (1, .int c1), (4, .int c4), (5, .int s16.1), (6, .int s16.2.1), (7, .int s16.2.2)]) hx hb dX3_nearest_34 hl (by decide) rfl (fun ls hl => ?_)
      refine lv_iload hx hb dX3_nearest_36 (lv_at hl 0 rfl) ?_
      refine lv_iload hx hb dX3_nearest_38 (lv_at hl 5 rfl) ?_
      refine lv_icmp_lt (tgt := 46) hx hb dX3_nearest_40 (by decide) (fun c_ => ?_) (fun c_ => ?_)
      · have hf := (if_pos c_).symm.trans hf
        refine lv_iload hx hb dX3_nearest_46 (lv_at hl 6 rfl) ?_
        refine lv_istore (lv' := [(5, .int s16.2.2), (8, .int v2), (0, .ref M), (1, .int c1), (4, .int c4), (6, .int s16.2.1), (7, .int s16.2.2)]) hx hb dX3_nearest_48 hl (by decide) rfl (fun ls hl => ?_)
        refine lv_iload hx hb dX3_nearest_50 (lv_at hl 1 rfl) ?_
        refine lv_istore (lv' := [(6, .int v2), (5, .int s16.2.2), (8, .int v2), (0, .ref M), (1, .int c1), (4, .int c4), (7, .int s16.2.2)]) hx hb dX3_nearest_52 hl (by decide) rfl (fun ls hl => ?_)
        refine lv_iinc (v := (s16.2.2 + 1)) (lv' := [(7, .int (s16.2.2 + 1)), (6, .int v2), (5, .int s16.2.2), (8, .int v2), (0, .ref M), (1, .int c1), (4, .int c4)]) hx hb dX3_nearest_54 hl (k := 6) rfl rfl (by decide) rfl (fun ls hl => ?_)
        refine lv_goto (tgt := 16) hx hb dX3_nearest_57 (by decide) ?_
        cases hf
        exact hx16 _ _ _ (lv_sub hl [4, 5, 6, 2, 1, 0] rfl) hH hS
      · have hf := (if_neg c_).symm.trans hf
        refine lv_goto (tgt := 54) hx hb dX3_nearest_43 (by decide) ?_
        refine lv_iinc (v := (s16.2.2 + 1)) (lv' := [(7, .int (s16.2.2 + 1)), (8, .int v2), (0, .ref M), (1, .int c1), (4, .int c4), (5, .int s16.1), (6, .int s16.2.1)]) hx hb dX3_nearest_54 hl (k := 6) rfl rfl (by decide) rfl (fun ls hl => ?_)
        refine lv_goto (tgt := 16) hx hb dX3_nearest_57 (by decide) ?_
        cases hf
        exact hx16 _ _ _ (lv_sub hl [2, 3, 4, 5, 6, 0] rfl) hH hS
  refine lv_aload_n hx hb dX3_nearest_0 rfl (lv_at hl 0 rfl) ?_
  refine lv_iload_n hx hb dX3_nearest_1 rfl (lv_at hl 1 rfl) ?_
  refine lv_lload_n hx hb dX3_nearest_2 rfl (lv_at hl 2 rfl) ?_
  obtain ⟨v1, hv, hf⟩ := bd hf
  refine r_Vv (As := [.int a1, .long a2]) (rest := []) X (met_X3_looksAt l G _ _ _ N st a1 a2 v1 hv) cv_X3_looksAt q1293 (m_recv hK hH) rfl rfl hl.1 (Nat.le_of_ble_eq_true rfl) ⟨Nat.le_of_ble_eq_true rfl, Nat.le_of_ble_eq_true rfl⟩ ⟨Nat.le_refl _, Nat.le_refl _⟩ dX3_nearest_3 hK hH hS (fun H locs hH hS => ?_)
  refine lv_iconst (v := (0 : Int32)) hx hb dX3_nearest_6 (by decide) ?_
  refine lv_istore (lv' := [(5, .int (0 : Int32)), (0, .ref M), (1, .int a1), (2, .long a2), (4, .int a4)]) hx hb dX3_nearest_7 hl (by decide) rfl (fun ls hl => ?_)
  refine lv_bipush (v := (13 : Int32)) hx hb dX3_nearest_9 (by decide) ?_
  refine lv_istore (lv' := [(6, .int (13 : Int32)), (5, .int (0 : Int32)), (0, .ref M), (1, .int a1), (2, .long a2), (4, .int a4)]) hx hb dX3_nearest_11 hl (by decide) rfl (fun ls hl => ?_)
  refine lv_iconst (v := (0 : Int32)) hx hb dX3_nearest_13 (by decide) ?_
  refine lv_istore (lv' := [(7, .int (0 : Int32)), (6, .int (13 : Int32)), (5, .int (0 : Int32)), (0, .ref M), (1, .int a1), (2, .long a2), (4, .int a4)]) hx hb dX3_nearest_14 hl (by decide) rfl (fun ls hl => ?_)
  obtain ⟨r16_3, hr, hf⟩ := bd hf
  refine L16 a1 a4 v1 N _ r16_3 hr ?_ _ _ _ (lv_sub hl [3, 4, 6, 2, 1, 0] rfl) hH hS
  intro ls H locs hl hH hS
  refine lv_iload hx hb dX3_nearest_60 (lv_at hl 0 rfl) ?_
  cases hf
  exact r_iret X dX3_nearest_62 (Nat.le_refl _) (Nat.le_refl _) rfl hH hS
theorem cv_X3_covers : CalV "WordBenchModel" yX3_covers cX3_covers 5 (some .int) 1 := ⟨q1315, qs39, q57, q1316, by decide +kernel⟩
set_option maxHeartbeats 4000000 in
theorem met_X3_covers (l : Launch) (G : GG) (sz M : Nat) (rst : Nat → Option AE) (N : Nat) (st : MS) (a1 : Int32) (stf : MS) (rf : Int32) (hf : f_X3_covers N st a1 = some (stf, rf)) : Con l yX3_covers cX3_covers 5 (some .int) 6 0 0 G (sz, MH M st rst) [.ref M, .int a1] (sz, MH M stf rst) (some (.int rf)) := by
  refine con_of (by decide) (Nat.le_of_ble_eq_true rfl) ?_
  intro p e s m below meth c ls X hK hH hl hS
  have hx := X.1
  have hb := X.2.1
  have hown : s.vm.findClass RX3 = some m.cls := X.2.2.2.2.1
  have hts := X.2.2.2.2.2.1
  have hl : lv_has ls 5 [(0, .ref M), (1, .int a1)] := hl
  unfold f_X3_covers at hf
  have L64 : ∀ (c1 : Int32) (n : Nat) (s64 : (Int64 × MS)) (r64 : MS), lp (f_X3_covers_b64 N c1) n s64 = some r64 → (∀ (ls : Array Slot) (H : Heap) (locs : List Loc), lv_has ls 5 [] → HH G (sz, MH M r64 rst) H → va_S (AG G) s.heap H locs → W p l e (rm_ 6 0 0) s m ([.ref M, .int a1] : List Value).toArray below meth c H locs 0 0 (MQ below (PostC G (sz, MH M stf rst) (some (.int rf))) ([.ref M, .int a1] : List Value).toArray s 0 0 (AG G)) (F0 m 129 ls [])) → ∀ (ls : Array Slot) (H : Heap) (locs : List Loc), lv_has ls 5 [(0, .ref M), (1, .int c1), (2, .long s64.1)] → HH G (sz, MH M s64.2 rst) H → va_S (AG G) s.heap H locs → W p l e (rm_ 6 0 0) s m ([.ref M, .int a1] : List Value).toArray below meth c H locs 0 0 (MQ below (PostC G (sz, MH M stf rst) (some (.int rf))) ([.ref M, .int a1] : List Value).toArray s 0 0 (AG G)) (F0 m 64 ls []) := by
    intro c1 n s64 r64 hr hq
    refine lp_ind (P := fun s64 => ∀ (ls : Array Slot) (H : Heap) (locs : List Loc), lv_has ls 5 [(0, .ref M), (1, .int c1), (2, .long s64.1)] → HH G (sz, MH M s64.2 rst) H → va_S (AG G) s.heap H locs → W p l e (rm_ 6 0 0) s m ([.ref M, .int a1] : List Value).toArray below meth c H locs 0 0 (MQ below (PostC G (sz, MH M stf rst) (some (.int rf))) ([.ref M, .int a1] : List Value).toArray s 0 0 (AG G)) (F0 m 64 ls [])) (Q := fun r64 => ∀ (ls : Array Slot) (H : Heap) (locs : List Loc), lv_has ls 5 [] → HH G (sz, MH M r64 rst) H → va_S (AG G) s.heap H locs → W p l e (rm_ 6 0 0) s m ([.ref M, .int a1] : List Value).toArray below meth c H locs 0 0 (MQ below (PostC G (sz, MH M stf rst) (some (.int rf))) ([.ref M, .int a1] : List Value).toArray s 0 0 (AG G)) (F0 m 129 ls [])) ?_ n s64 r64 hr hq
    intro s64 x64 hf hx64 ls H locs hl hH hS
    unfold f_X3_covers_b64 at hf
    have J122 : ∀ (d2 : Int64) (u122 : MS), f_X3_covers_j122 N c1 d2 u122 = some x64 → ∀ (ls : Array Slot) (H : Heap) (locs : List Loc), lv_has ls 5 [(0, .ref M), (1, .int c1), (2, .long d2)] → HH G (sz, MH M u122 rst) H → va_S (AG G) s.heap H locs → W p l e (rm_ 6 0 0) s m ([.ref M, .int a1] : List Value).toArray below meth c H locs 0 0 (MQ below (PostC G (sz, MH M stf rst) (some (.int rf))) ([.ref M, .int a1] : List Value).toArray s 0 0 (AG G)) (F0 m 122 ls []) := by
      intro d2 u122 hf ls H locs hl hH hS
      unfold f_X3_covers_j122 at hf
      refine lv_lload_n hx hb dX3_covers_122 rfl (lv_at hl 2 rfl) ?_
      refine lv_lconst (v := (1 : Int64)) hx hb dX3_covers_123 (by decide) ?_
      refine lv_ladd hx hb dX3_covers_124 ?_
      refine lv_lstore_n (lv' := [(2, .long (d2 + (1 : Int64))), (0, .ref M), (1, .int c1)]) hx hb dX3_covers_125 rfl hl (by decide) rfl (fun ls hl => ?_)
      refine lv_goto (tgt := 64) hx hb dX3_covers_126 (by decide) ?_
      cases hf
      exact hx64 _ _ _ (lv_sub hl [1, 2, 0] rfl) hH hS
    refine lv_lload_n hx hb dX3_covers_64 rfl (lv_at hl 2 rfl) ?_
    refine lv_aload_n hx hb dX3_covers_65 rfl (lv_at hl 0 rfl) ?_
    refine m_get X hK hH 2 (by decide) rfl (mg_2 _ _) q1061 dX3_covers_66 ?_
    refine lv_iload_n hx hb dX3_covers_69 rfl (lv_at hl 1 rfl) ?_
    obtain ⟨v6, hv, hf⟩ := bd hf
    refine m_iald X hK hH 2 (mc_2 _ _) hv dX3_covers_70 ?_
    refine lv_aload_n hx hb dX3_covers_71 rfl (lv_at hl 0 rfl) ?_
    refine m_get X hK hH 3 (by decide) rfl (mg_3 _ _) q1062 dX3_covers_72 ?_
    refine lv_iload_n hx hb dX3_covers_75 rfl (lv_at hl 1 rfl) ?_
    obtain ⟨v7, hv, hf⟩ := bd hf
    refine m_iald X hK hH 3 (mc_3 _ _) hv dX3_covers_76 ?_
    obtain ⟨v8, hv, hf⟩ := bd hf
    refine r_Sl (As := [.int v6, .int v7]) (rest := [.long s64.1]) X (met_X3_power l G _ N v6 v7 v8 hv) cs_X3_power q1022 rfl rfl hl.1 (Nat.le_of_ble_eq_true rfl) ⟨Nat.le_of_ble_eq_true rfl, Nat.le_of_ble_eq_true rfl⟩ ⟨Nat.le_refl _, Nat.le_refl _⟩ dX3_covers_77 hK hH hS (fun H locs hH hS => ?_)
    refine W.lcmp hx hb dX3_covers_80 ?_
    refine lv_if_ge (tgt := 129) hx hb dX3_covers_81 (by decide) (fun c_ => ?_) (fun c_ => ?_)
    · have hf := (if_pos ((lg_cmp_ge s64.1 v8).mp c_)).symm.trans hf
      cases hf
      exact hx64 _ _ _ (lv_sub hl [] rfl) hH hS
    · have hf := (if_neg (fun z => c_ ((lg_cmp_ge s64.1 v8).mpr z))).symm.trans hf
      refine lv_aload_n hx hb dX3_covers_84 rfl (lv_at hl 0 rfl) ?_
      refine lv_iload_n hx hb dX3_covers_85 rfl (lv_at hl 1 rfl) ?_
      refine lv_aload_n hx hb dX3_covers_86 rfl (lv_at hl 0 rfl) ?_
      refine lv_iload_n hx hb dX3_covers_87 rfl (lv_at hl 1 rfl) ?_
      refine lv_lload_n hx hb dX3_covers_88 rfl (lv_at hl 2 rfl) ?_
      refine lv_iconst (v := (0 : Int32)) hx hb dX3_covers_89 (by decide) ?_
      obtain ⟨v9, hv, hf⟩ := bd hf
      refine r_Vi (As := [.int c1, .long s64.1, .int (0 : Int32)]) (rest := [.int c1, .ref M]) X (met_X3_nearest l G _ _ _ N s64.2 c1 s64.1 (0 : Int32) v9.1 v9.2 hv) cv_X3_nearest q1289 (m_recv hK hH) rfl rfl hl.1 (Nat.le_of_ble_eq_true rfl) ⟨Nat.le_of_ble_eq_true rfl, Nat.le_of_ble_eq_true rfl⟩ ⟨Nat.le_refl _, Nat.le_refl _⟩ dX3_covers_90 hK hH hS (fun H locs hH hS => ?_)
      refine lv_iconst (v := (0 : Int32)) hx hb dX3_covers_93 (by decide) ?_
      obtain ⟨v10, hv, hf⟩ := bd hf
      refine r_Vi (As := [.int c1, .int v9.2, .int (0 : Int32)]) (rest := []) X (met_X3_wayTo l G _ _ _ N v9.1 c1 v9.2 (0 : Int32) v10 hv) cv_X3_wayTo q1297 (m_recv hK hH) rfl rfl hl.1 (Nat.le_of_ble_eq_true rfl) ⟨Nat.le_of_ble_eq_true rfl, Nat.le_of_ble_eq_true rfl⟩ ⟨Nat.le_refl _, Nat.le_refl _⟩ dX3_covers_94 hK hH hS (fun H locs hH hS => ?_)
      refine lv_istore (lv' := [(4, .int v10), (0, .ref M), (1, .int c1), (2, .long s64.1)]) hx hb dX3_covers_97 hl (by decide) rfl (fun ls hl => ?_)
      refine lv_iload hx hb dX3_covers_99 (lv_at hl 0 rfl) ?_
      refine lv_aload_n hx hb dX3_covers_101 rfl (lv_at hl 1 rfl) ?_
      refine m_get X hK hH 16 (by decide) rfl (mg_16 _ _) q1075 dX3_covers_102 ?_
      refine lv_icmp_gt (tgt := 111) hx hb dX3_covers_105 (by decide) (fun c_ => ?_) (fun c_ => ?_)
      · have hf := (if_pos c_).symm.trans hf
        refine lv_aload_n hx hb dX3_covers_111 rfl (lv_at hl 1 rfl) ?_
        refine lv_iload hx hb dX3_covers_112 (lv_at hl 0 rfl) ?_
        refine m_put (ty := .int) X hK hH hS 16 (by decide) rfl (mp_16 _ _ _) q1075 rfl (by decide +kernel) rfl rfl dX3_covers_114 (fun H locs hH hS => ?_)
        refine lv_aload_n hx hb dX3_covers_117 rfl (lv_at hl 1 rfl) ?_
        refine lv_lload_n hx hb dX3_covers_118 rfl (lv_at hl 3 rfl) ?_
        refine m_put (ty := .long) X hK hH hS 15 (by decide) rfl (mp_15 _ _ _) q1074 rfl (by decide +kernel) rfl rfl dX3_covers_119 (fun H locs hH hS => ?_)
        exact J122 s64.1 (sH (sV v9.1 16 v10) s64.1) hf _ _ _ (lv_sub hl [1, 2, 3] rfl) hH hS
      · have hf := (if_neg c_).symm.trans hf
        refine lv_goto (tgt := 122) hx hb dX3_covers_108 (by decide) ?_
        exact J122 s64.1 v9.1 hf _ _ _ (lv_sub hl [1, 2, 3] rfl) hH hS
  refine lv_aload_n hx hb dX3_covers_0 rfl (lv_at hl 0 rfl) ?_
  refine lv_iload_n hx hb dX3_covers_1 rfl (lv_at hl 1 rfl) ?_
  obtain ⟨v1, hv, hf⟩ := bd hf
  refine r_Vi (As := [.int a1]) (rest := []) X (met_X3_lacks l G _ _ _ N st a1 v1 hv) cv_X3_lacks q1236 (m_recv hK hH) rfl rfl hl.1 (Nat.le_of_ble_eq_true rfl) ⟨Nat.le_of_ble_eq_true rfl, Nat.le_of_ble_eq_true rfl⟩ ⟨Nat.le_refl _, Nat.le_refl _⟩ dX3_covers_2 hK hH hS (fun H locs hH hS => ?_)
  refine lv_if_eq (tgt := 14) hx hb dX3_covers_5 (by decide) (fun c_ => ?_) (fun c_ => ?_)
  · have hf := (if_pos c_).symm.trans hf
    refine lv_aload_n hx hb dX3_covers_14 rfl (lv_at hl 0 rfl) ?_
    refine m_get X hK hH 2 (by decide) rfl (mg_2 _ _) q1061 dX3_covers_15 ?_
    refine lv_iload_n hx hb dX3_covers_18 rfl (lv_at hl 1 rfl) ?_
    obtain ⟨v2, hv, hf⟩ := bd hf
    refine m_iald X hK hH 2 (mc_2 _ _) hv dX3_covers_19 ?_
    refine lv_aload_n hx hb dX3_covers_20 rfl (lv_at hl 0 rfl) ?_
    refine m_get X hK hH 3 (by decide) rfl (mg_3 _ _) q1062 dX3_covers_21 ?_
    refine lv_iload_n hx hb dX3_covers_24 rfl (lv_at hl 1 rfl) ?_
    obtain ⟨v3, hv, hf⟩ := bd hf
    refine m_iald X hK hH 3 (mc_3 _ _) hv dX3_covers_25 ?_
    obtain ⟨v4, hv, hf⟩ := bd hf
    refine r_Sl (As := [.int v2, .int v3]) (rest := []) X (met_X3_power l G _ N v2 v3 v4 hv) cs_X3_power q1022 rfl rfl hl.1 (Nat.le_of_ble_eq_true rfl) ⟨Nat.le_of_ble_eq_true rfl, Nat.le_of_ble_eq_true rfl⟩ ⟨Nat.le_refl _, Nat.le_refl _⟩ dX3_covers_26 hK hH hS (fun H locs hH hS => ?_)
    refine lv_ldc2 (v := (1024 : Int64)) hx hb hown (hts _ q1317) dX3_covers_29 ?_
    refine W.lcmp hx hb dX3_covers_32 ?_
    refine lv_if_gt (tgt := 44) hx hb dX3_covers_33 (by decide) (fun c_ => ?_) (fun c_ => ?_)
    · have hf := (if_pos ((lg_cmp_gt v4 (1024 : Int64)).mp c_)).symm.trans hf
      refine lv_bipush (v := (-5 : Int32)) hx hb dX3_covers_44 (by decide) ?_
      cases hf
      exact r_iret X dX3_covers_46 (Nat.le_refl _) (Nat.le_refl _) rfl hH hS
    · have hf := (if_neg (fun z => c_ ((lg_cmp_gt v4 (1024 : Int64)).mpr z))).symm.trans hf
      refine lv_aload_n hx hb dX3_covers_36 rfl (lv_at hl 0 rfl) ?_
      refine lv_iload_n hx hb dX3_covers_37 rfl (lv_at hl 1 rfl) ?_
      obtain ⟨v5, hv, hf⟩ := bd hf
      refine r_Vi (As := [.int a1]) (rest := []) X (met_X3_lays l G _ _ _ N st a1 v5.1 v5.2 hv) cv_X3_lays q1240 (m_recv hK hH) rfl rfl hl.1 (Nat.le_of_ble_eq_true rfl) ⟨Nat.le_of_ble_eq_true rfl, Nat.le_of_ble_eq_true rfl⟩ ⟨Nat.le_refl _, Nat.le_refl _⟩ dX3_covers_38 hK hH hS (fun H locs hH hS => ?_)
      refine lv_if_ne (tgt := 47) hx hb dX3_covers_41 (by decide) (fun c_ => ?_) (fun c_ => ?_)
      · have hf := (if_neg c_).symm.trans hf
        refine lv_aload_n hx hb dX3_covers_47 rfl (lv_at hl 0 rfl) ?_
        refine m_get X hK hH 11 (by decide) rfl (mg_11 _ _) q1070 dX3_covers_48 ?_
        refine lv_if_ne (tgt := 57) hx hb dX3_covers_51 (by decide) (fun c_ => ?_) (fun c_ => ?_)
        · have hf := (if_neg c_).symm.trans hf
          refine lv_aload_n hx hb dX3_covers_57 rfl (lv_at hl 0 rfl) ?_
          refine lv_iconst (v := (-1 : Int32)) hx hb dX3_covers_58 (by decide) ?_
          refine m_put (ty := .int) X hK hH hS 16 (by decide) rfl (mp_16 _ _ _) q1075 rfl (by decide +kernel) rfl rfl dX3_covers_59 (fun H locs hH hS => ?_)
          refine lv_lconst (v := (0 : Int64)) hx hb dX3_covers_62 (by decide) ?_
          refine lv_lstore_n (lv' := [(2, .long (0 : Int64)), (0, .ref M), (1, .int a1)]) hx hb dX3_covers_63 rfl hl (by decide) rfl (fun ls hl => ?_)
          obtain ⟨r64_11, hr, hf⟩ := bd hf
          refine L64 a1 N _ r64_11 hr ?_ _ _ _ (lv_sub hl [1, 2, 0] rfl) hH hS
          intro ls H locs hl hH hS
          refine lv_iconst (v := (0 : Int32)) hx hb dX3_covers_129 (by decide) ?_
          cases hf
          exact r_iret X dX3_covers_130 (Nat.le_refl _) (Nat.le_refl _) rfl hH hS
        · have hf := (if_pos c_).symm.trans hf
          refine lv_bipush (v := (-2 : Int32)) hx hb dX3_covers_54 (by decide) ?_
          cases hf
          exact r_iret X dX3_covers_56 (Nat.le_refl _) (Nat.le_refl _) rfl hH hS
      · have hf := (if_pos c_).symm.trans hf
        refine lv_bipush (v := (-5 : Int32)) hx hb dX3_covers_44 (by decide) ?_
        cases hf
        exact r_iret X dX3_covers_46 (Nat.le_refl _) (Nat.le_refl _) rfl hH hS
  · have hf := (if_neg c_).symm.trans hf
    refine lv_aload_n hx hb dX3_covers_8 rfl (lv_at hl 0 rfl) ?_
    refine lv_iload_n hx hb dX3_covers_9 rfl (lv_at hl 1 rfl) ?_
    obtain ⟨v12, hv, hf⟩ := bd hf
    refine r_Vi (As := [.int a1]) (rest := []) X (met_X3_lacks l G _ _ _ N st a1 v12 hv) cv_X3_lacks q1236 (m_recv hK hH) rfl rfl hl.1 (Nat.le_of_ble_eq_true rfl) ⟨Nat.le_of_ble_eq_true rfl, Nat.le_of_ble_eq_true rfl⟩ ⟨Nat.le_refl _, Nat.le_refl _⟩ dX3_covers_10 hK hH hS (fun H locs hH hS => ?_)
    cases hf
    exact r_iret X dX3_covers_13 (Nat.le_refl _) (Nat.le_refl _) rfl hH hS
theorem cv_X3_cover : CalV "WordBenchModel" yX3_cover cX3_cover 3 (some .int) 1 := ⟨q1310, q1311, q57, q1312, by decide +kernel⟩
set_option maxHeartbeats 4000000 in
theorem met_X3_cover (l : Launch) (G : GG) (sz M : Nat) (rst : Nat → Option AE) (N : Nat) (st : MS) (a1 : Int32) (stf : MS) (rf : Int32) (hf : f_X3_cover N st a1 = some (stf, rf)) : Con l yX3_cover cX3_cover 3 (some .int) 7 0 0 G (sz, MH M st rst) [.ref M, .int a1] (sz, MH M stf rst) (some (.int rf)) := by
  refine con_of (by decide) (Nat.le_of_ble_eq_true rfl) ?_
  intro p e s m below meth c ls X hK hH hl hS
  have hx := X.1
  have hb := X.2.1
  have hown : s.vm.findClass RX3 = some m.cls := X.2.2.2.2.1
  have hts := X.2.2.2.2.2.1
  have hl : lv_has ls 3 [(0, .ref M), (1, .int a1)] := hl
  unfold f_X3_cover at hf
  refine lv_aload_n hx hb dX3_cover_0 rfl (lv_at hl 0 rfl) ?_
  refine lv_iload_n hx hb dX3_cover_1 rfl (lv_at hl 1 rfl) ?_
  obtain ⟨v1, hv, hf⟩ := bd hf
  refine r_Vi (As := [.int a1]) (rest := []) X (met_X3_covers l G _ _ _ N st a1 v1.1 v1.2 hv) cv_X3_covers q1313 (m_recv hK hH) rfl rfl hl.1 (Nat.le_of_ble_eq_true rfl) ⟨Nat.le_of_ble_eq_true rfl, Nat.le_of_ble_eq_true rfl⟩ ⟨Nat.le_refl _, Nat.le_refl _⟩ dX3_cover_2 hK hH hS (fun H locs hH hS => ?_)
  refine lv_istore_n (lv' := [(2, .int v1.2), (0, .ref M), (1, .int a1)]) hx hb dX3_cover_5 rfl hl (by decide) rfl (fun ls hl => ?_)
  refine lv_iload_n hx hb dX3_cover_6 rfl (lv_at hl 0 rfl) ?_
  refine lv_if_eq (tgt := 14) hx hb dX3_cover_7 (by decide) (fun c_ => ?_) (fun c_ => ?_)
  · have hf := (if_pos c_).symm.trans hf
    refine lv_aload_n hx hb dX3_cover_14 rfl (lv_at hl 1 rfl) ?_
    refine m_get X hK hH 16 (by decide) rfl (mg_16 _ _) q1075 dX3_cover_15 ?_
    cases hf
    exact r_iret X dX3_cover_18 (Nat.le_refl _) (Nat.le_refl _) rfl hH hS
  · have hf := (if_neg c_).symm.trans hf
    refine lv_iload_n hx hb dX3_cover_10 rfl (lv_at hl 0 rfl) ?_
    refine lv_goto (tgt := 18) hx hb dX3_cover_11 (by decide) ?_
    cases hf
    exact r_iret X dX3_cover_18 (Nat.le_refl _) (Nat.le_refl _) rfl hH hS
theorem cv_X3_lacksPlace : CalV "WordBenchModel" yX3_lacksPlace cX3_lacksPlace 4 (some .int) 3 := ⟨q1344, qs42, q57, q1345, by decide +kernel⟩
set_option maxHeartbeats 4000000 in
theorem met_X3_lacksPlace (l : Launch) (G : GG) (sz M : Nat) (rst : Nat → Option AE) (N : Nat) (st : MS) (a1 : Int32) (a2 : Int32) (a3 : Int32) (rf : Int32) (hf : f_X3_lacksPlace N st a1 a2 a3 = some rf) : Con l yX3_lacksPlace cX3_lacksPlace 4 (some .int) 2 0 0 G (sz, MH M st rst) [.ref M, .int a1, .int a2, .int a3] (sz, MH M st rst) (some (.int rf)) := by
  refine con_of (by decide) (Nat.le_of_ble_eq_true rfl) ?_
  intro p e s m below meth c ls X hK hH hl hS
  have hx := X.1
  have hb := X.2.1
  have hown : s.vm.findClass RX3 = some m.cls := X.2.2.2.2.1
  have hts := X.2.2.2.2.2.1
  have hl : lv_has ls 4 [(0, .ref M), (1, .int a1), (2, .int a2), (3, .int a3)] := hl
  unfold f_X3_lacksPlace at hf
  refine lv_iload_n hx hb dX3_lacksPlace_0 rfl (lv_at hl 1 rfl) ?_
  obtain ⟨v1, hv, hf⟩ := bd hf
  refine r_Si (As := [.int a1]) (rest := []) X (met_X3_isPlace l G _ N a1 v1 hv) cs_X3_isPlace q1136 rfl rfl hl.1 (Nat.le_of_ble_eq_true rfl) ⟨Nat.le_of_ble_eq_true rfl, Nat.le_of_ble_eq_true rfl⟩ ⟨Nat.le_refl _, Nat.le_refl _⟩ dX3_lacksPlace_1 hK hH hS (fun H locs hH hS => ?_)
  refine lv_if_eq (tgt := 14) hx hb dX3_lacksPlace_4 (by decide) (fun c_ => ?_) (fun c_ => ?_)
  · have hf := (if_pos c_).symm.trans hf
    refine lv_iconst (v := (-1 : Int32)) hx hb dX3_lacksPlace_14 (by decide) ?_
    cases hf
    exact r_iret X dX3_lacksPlace_15 (Nat.le_refl _) (Nat.le_refl _) rfl hH hS
  · have hf := (if_neg c_).symm.trans hf
    refine lv_iload_n hx hb dX3_lacksPlace_7 rfl (lv_at hl 3 rfl) ?_
    obtain ⟨v2, hv, hf⟩ := bd hf
    refine r_Si (As := [.int a3]) (rest := []) X (met_X3_isPlace l G _ N a3 v2 hv) cs_X3_isPlace q1136 rfl rfl hl.1 (Nat.le_of_ble_eq_true rfl) ⟨Nat.le_of_ble_eq_true rfl, Nat.le_of_ble_eq_true rfl⟩ ⟨Nat.le_refl _, Nat.le_refl _⟩ dX3_lacksPlace_8 hK hH hS (fun H locs hH hS => ?_)
    refine lv_if_ne (tgt := 16) hx hb dX3_lacksPlace_11 (by decide) (fun c_ => ?_) (fun c_ => ?_)
    · have hf := (if_neg c_).symm.trans hf
      refine lv_aload_n hx hb dX3_lacksPlace_16 rfl (lv_at hl 0 rfl) ?_
      refine lv_iload_n hx hb dX3_lacksPlace_17 rfl (lv_at hl 1 rfl) ?_
      obtain ⟨v3, hv, hf⟩ := bd hf
      refine r_Vi (As := [.int a1]) (rest := []) X (met_X3_isEmpty l G _ _ _ N st a1 v3 hv) cv_X3_isEmpty q1148 (m_recv hK hH) rfl rfl hl.1 (Nat.le_of_ble_eq_true rfl) ⟨Nat.le_of_ble_eq_true rfl, Nat.le_of_ble_eq_true rfl⟩ ⟨Nat.le_refl _, Nat.le_refl _⟩ dX3_lacksPlace_18 hK hH hS (fun H locs hH hS => ?_)
      refine lv_if_eq (tgt := 27) hx hb dX3_lacksPlace_21 (by decide) (fun c_ => ?_) (fun c_ => ?_)
      · have hf := (if_pos c_).symm.trans hf
        refine lv_aload_n hx hb dX3_lacksPlace_27 rfl (lv_at hl 0 rfl) ?_
        refine m_get X hK hH 3 (by decide) rfl (mg_3 _ _) q1062 dX3_lacksPlace_28 ?_
        refine lv_iload_n hx hb dX3_lacksPlace_31 rfl (lv_at hl 1 rfl) ?_
        obtain ⟨v4, hv, hf⟩ := bd hf
        refine m_iald X hK hH 3 (mc_3 _ _) hv dX3_lacksPlace_32 ?_
        refine lv_iconst (v := (1 : Int32)) hx hb dX3_lacksPlace_33 (by decide) ?_
        refine lv_icmp_eq (tgt := 55) hx hb dX3_lacksPlace_34 (by decide) (fun c_ => ?_) (fun c_ => ?_)
        · have hf := (if_pos c_).symm.trans hf
          refine lv_iconst (v := (-1 : Int32)) hx hb dX3_lacksPlace_55 (by decide) ?_
          refine lv_goto (tgt := 60) hx hb dX3_lacksPlace_56 (by decide) ?_
          cases hf
          exact r_iret X dX3_lacksPlace_60 (Nat.le_refl _) (Nat.le_refl _) rfl hH hS
        · have hf := (if_neg c_).symm.trans hf
          refine lv_iload_n hx hb dX3_lacksPlace_37 rfl (lv_at hl 2 rfl) ?_
          refine lv_i2l (v := (a2).toInt64) hx hb dX3_lacksPlace_38 rfl ?_
          refine lv_lconst (v := (0 : Int64)) hx hb dX3_lacksPlace_39 (by decide) ?_
          refine lv_aload_n hx hb dX3_lacksPlace_40 rfl (lv_at hl 0 rfl) ?_
          refine m_get X hK hH 3 (by decide) rfl (mg_3 _ _) q1062 dX3_lacksPlace_41 ?_
          refine lv_iload_n hx hb dX3_lacksPlace_44 rfl (lv_at hl 1 rfl) ?_
          obtain ⟨v5, hv, hf⟩ := bd hf
          refine m_iald X hK hH 3 (mc_3 _ _) hv dX3_lacksPlace_45 ?_
          refine lv_iconst (v := (1 : Int32)) hx hb dX3_lacksPlace_46 (by decide) ?_
          refine lv_isub hx hb dX3_lacksPlace_47 ?_
          refine lv_i2l (v := ((v5 - (1 : Int32))).toInt64) hx hb dX3_lacksPlace_48 rfl ?_
          obtain ⟨v6, hv, hf⟩ := bd hf
          refine r_Si (As := [.long ((a2).toInt64), .long (0 : Int64), .long (((v5 - (1 : Int32))).toInt64)]) (rest := []) X (met_X3_isIn l G _ N ((a2).toInt64) (0 : Int64) (((v5 - (1 : Int32))).toInt64) v6 hv) cs_X3_isIn q1015 rfl rfl hl.1 (Nat.le_of_ble_eq_true rfl) ⟨Nat.le_of_ble_eq_true rfl, Nat.le_of_ble_eq_true rfl⟩ ⟨Nat.le_refl _, Nat.le_refl _⟩ dX3_lacksPlace_49 hK hH hS (fun H locs hH hS => ?_)
          refine lv_if_ne (tgt := 59) hx hb dX3_lacksPlace_52 (by decide) (fun c_ => ?_) (fun c_ => ?_)
          · have hf := (if_neg c_).symm.trans hf
            refine lv_iconst (v := (0 : Int32)) hx hb dX3_lacksPlace_59 (by decide) ?_
            cases hf
            exact r_iret X dX3_lacksPlace_60 (Nat.le_refl _) (Nat.le_refl _) rfl hH hS
          · have hf := (if_pos c_).symm.trans hf
            refine lv_iconst (v := (-1 : Int32)) hx hb dX3_lacksPlace_55 (by decide) ?_
            refine lv_goto (tgt := 60) hx hb dX3_lacksPlace_56 (by decide) ?_
            cases hf
            exact r_iret X dX3_lacksPlace_60 (Nat.le_refl _) (Nat.le_refl _) rfl hH hS
      · have hf := (if_neg c_).symm.trans hf
        refine lv_bipush (v := (-11 : Int32)) hx hb dX3_lacksPlace_24 (by decide) ?_
        cases hf
        exact r_iret X dX3_lacksPlace_26 (Nat.le_refl _) (Nat.le_refl _) rfl hH hS
    · have hf := (if_pos c_).symm.trans hf
      refine lv_iconst (v := (-1 : Int32)) hx hb dX3_lacksPlace_14 (by decide) ?_
      cases hf
      exact r_iret X dX3_lacksPlace_15 (Nat.le_refl _) (Nat.le_refl _) rfl hH hS
theorem cs_X3_without : CalS yX3_without cX3_without 7 (some .long) 4 := ⟨q1347, q57, q1348, by decide +kernel, by decide +kernel, by decide +kernel⟩
set_option maxHeartbeats 4000000 in
theorem met_X3_without (l : Launch) (G : GG) (σ : SG) (N : Nat) (a0 : Int32) (a1 : Int32) (a2 : Int64) (a4 : Int32) (rf : Int64) (hf : f_X3_without N a0 a1 a2 a4 = some rf) : Con l yX3_without cX3_without 7 (some .long) 1 0 0 G σ [.int a0, .int a1, .long a2, .int a4] σ (some (.long rf)) := by
  refine con_of (by decide) (Nat.le_of_ble_eq_true rfl) ?_
  intro p e s m below meth c ls X hK hH hl hS
  have hx := X.1
  have hb := X.2.1
  have hown : s.vm.findClass RX3 = some m.cls := X.2.2.2.2.1
  have hts := X.2.2.2.2.2.1
  have hl : lv_has ls 7 [(0, .int a0), (1, .int a1), (2, .long a2), (4, .int a4)] := hl
  unfold f_X3_without at hf
  refine lv_iload_n hx hb dX3_without_0 rfl (lv_at hl 0 rfl) ?_
  refine lv_iload_n hx hb dX3_without_1 rfl (lv_at hl 1 rfl) ?_
  refine lv_iconst (v := (1 : Int32)) hx hb dX3_without_2 (by decide) ?_
  refine lv_isub hx hb dX3_without_3 ?_
  refine lv_iload hx hb dX3_without_4 (lv_at hl 3 rfl) ?_
  refine lv_isub hx hb dX3_without_6 ?_
  obtain ⟨v1, hv, hf⟩ := bd hf
  refine r_Sl (As := [.int a0, .int ((a1 - (1 : Int32)) - a4)]) (rest := []) X (met_X3_power l G _ N a0 ((a1 - (1 : Int32)) - a4) v1 hv) cs_X3_power q1022 rfl rfl hl.1 (Nat.le_of_ble_eq_true rfl) ⟨Nat.le_of_ble_eq_true rfl, Nat.le_of_ble_eq_true rfl⟩ ⟨Nat.le_refl _, Nat.le_refl _⟩ dX3_without_7 hK hH hS (fun H locs hH hS => ?_)
  refine lv_lstore (lv' := [(5, .long v1), (0, .int a0), (1, .int a1), (2, .long a2), (4, .int a4)]) hx hb dX3_without_10 hl (by decide) rfl (fun ls hl => ?_)
  refine lv_lload_n hx hb dX3_without_12 rfl (lv_at hl 3 rfl) ?_
  refine lv_lload hx hb dX3_without_13 (lv_at hl 0 rfl) ?_
  refine lv_iload_n hx hb dX3_without_15 rfl (lv_at hl 1 rfl) ?_
  refine lv_i2l (v := (a0).toInt64) hx hb dX3_without_16 rfl ?_
  refine lv_lmul hx hb dX3_without_17 ?_
  obtain ⟨v2, hv, hf⟩ := bd hf
  refine r_ldiv hx hb hv dX3_without_18 ?_
  refine lv_lload hx hb dX3_without_19 (lv_at hl 0 rfl) ?_
  refine lv_lmul hx hb dX3_without_21 ?_
  refine lv_lload_n hx hb dX3_without_22 rfl (lv_at hl 3 rfl) ?_
  refine lv_lload hx hb dX3_without_23 (lv_at hl 0 rfl) ?_
  obtain ⟨v3, hv, hf⟩ := bd hf
  refine r_lrem hx hb hv dX3_without_25 ?_
  refine lv_ladd hx hb dX3_without_26 ?_
  cases hf
  exact r_lret X dX3_without_27 (Nat.le_refl _) (Nat.le_refl _) rfl hH hS
theorem cv_X3_lineOr : CalV "WordBenchModel" yX3_lineOr cX3_lineOr 2 (some .int) 1 := ⟨q1332, qs40, q57, q1333, by decide +kernel⟩
set_option maxHeartbeats 4000000 in
theorem met_X3_lineOr (l : Launch) (G : GG) (sz M : Nat) (rst : Nat → Option AE) (N : Nat) (st : MS) (a1 : Int32) (rf : Int32) (hf : f_X3_lineOr N st a1 = some rf) : Con l yX3_lineOr cX3_lineOr 2 (some .int) 0 0 0 G (sz, MH M st rst) [.ref M, .int a1] (sz, MH M st rst) (some (.int rf)) := by
  refine con_of (by decide) (Nat.le_of_ble_eq_true rfl) ?_
  intro p e s m below meth c ls X hK hH hl hS
  have hx := X.1
  have hb := X.2.1
  have hown : s.vm.findClass RX3 = some m.cls := X.2.2.2.2.1
  have hts := X.2.2.2.2.2.1
  have hl : lv_has ls 2 [(0, .ref M), (1, .int a1)] := hl
  unfold f_X3_lineOr at hf
  refine lv_aload_n hx hb dX3_lineOr_0 rfl (lv_at hl 0 rfl) ?_
  refine m_get X hK hH 1 (by decide) rfl (mg_1 _ _) q1060 dX3_lineOr_1 ?_
  refine lv_iload_n hx hb dX3_lineOr_4 rfl (lv_at hl 1 rfl) ?_
  obtain ⟨v1, hv, hf⟩ := bd hf
  refine m_iald X hK hH 1 (mc_1 _ _) hv dX3_lineOr_5 ?_
  refine lv_if_ne (tgt := 13) hx hb dX3_lineOr_6 (by decide) (fun c_ => ?_) (fun c_ => ?_)
  · have hf := (if_neg c_).symm.trans hf
    refine lv_iconst (v := (1 : Int32)) hx hb dX3_lineOr_13 (by decide) ?_
    cases hf
    exact r_iret X dX3_lineOr_14 (Nat.le_refl _) (Nat.le_refl _) rfl hH hS
  · have hf := (if_pos c_).symm.trans hf
    refine lv_iconst (v := (0 : Int32)) hx hb dX3_lineOr_9 (by decide) ?_
    refine lv_goto (tgt := 14) hx hb dX3_lineOr_10 (by decide) ?_
    cases hf
    exact r_iret X dX3_lineOr_14 (Nat.le_refl _) (Nat.le_refl _) rfl hH hS
theorem cv_X3_cut : CalV "WordBenchModel" yX3_cut cX3_cut 5 (some .int) 3 := ⟨q1339, q1340, q57, q1341, by decide +kernel⟩
set_option maxHeartbeats 4000000 in
theorem met_X3_cut (l : Launch) (G : GG) (sz M : Nat) (rst : Nat → Option AE) (N : Nat) (st : MS) (a1 : Int32) (a2 : Int32) (a3 : Int32) (stf : MS) (rf : Int32) (hf : f_X3_cut N st a1 a2 a3 = some (stf, rf)) : Con l yX3_cut cX3_cut 5 (some .int) 3 0 0 G (sz, MH M st rst) [.ref M, .int a1, .int a2, .int a3] (sz, MH M stf rst) (some (.int rf)) := by
  refine con_of (by decide) (Nat.le_of_ble_eq_true rfl) ?_
  intro p e s m below meth c ls X hK hH hl hS
  have hx := X.1
  have hb := X.2.1
  have hown : s.vm.findClass RX3 = some m.cls := X.2.2.2.2.1
  have hts := X.2.2.2.2.2.1
  have hl : lv_has ls 5 [(0, .ref M), (1, .int a1), (2, .int a2), (3, .int a3)] := hl
  unfold f_X3_cut at hf
  have L26 : ∀ (c1 : Int32) (c2 : Int32) (c3 : Int32) (n : Nat) (s26 : (Int32 × MS)) (r26 : MS), lp (f_X3_cut_b26 N c1 c2 c3) n s26 = some r26 → (∀ (ls : Array Slot) (H : Heap) (locs : List Loc), lv_has ls 5 [(0, .ref M), (1, .int c1), (3, .int c3)] → HH G (sz, MH M r26 rst) H → va_S (AG G) s.heap H locs → W p l e (rm_ 3 0 0) s m ([.ref M, .int a1, .int a2, .int a3] : List Value).toArray below meth c H locs 0 0 (MQ below (PostC G (sz, MH M stf rst) (some (.int rf))) ([.ref M, .int a1, .int a2, .int a3] : List Value).toArray s 0 0 (AG G)) (F0 m 90 ls [])) → ∀ (ls : Array Slot) (H : Heap) (locs : List Loc), lv_has ls 5 [(0, .ref M), (1, .int c1), (2, .int c2), (3, .int c3), (4, .int s26.1)] → HH G (sz, MH M s26.2 rst) H → va_S (AG G) s.heap H locs → W p l e (rm_ 3 0 0) s m ([.ref M, .int a1, .int a2, .int a3] : List Value).toArray below meth c H locs 0 0 (MQ below (PostC G (sz, MH M stf rst) (some (.int rf))) ([.ref M, .int a1, .int a2, .int a3] : List Value).toArray s 0 0 (AG G)) (F0 m 26 ls []) := by
    intro c1 c2 c3 n s26 r26 hr hq
    refine lp_ind (P := fun s26 => ∀ (ls : Array Slot) (H : Heap) (locs : List Loc), lv_has ls 5 [(0, .ref M), (1, .int c1), (2, .int c2), (3, .int c3), (4, .int s26.1)] → HH G (sz, MH M s26.2 rst) H → va_S (AG G) s.heap H locs → W p l e (rm_ 3 0 0) s m ([.ref M, .int a1, .int a2, .int a3] : List Value).toArray below meth c H locs 0 0 (MQ below (PostC G (sz, MH M stf rst) (some (.int rf))) ([.ref M, .int a1, .int a2, .int a3] : List Value).toArray s 0 0 (AG G)) (F0 m 26 ls [])) (Q := fun r26 => ∀ (ls : Array Slot) (H : Heap) (locs : List Loc), lv_has ls 5 [(0, .ref M), (1, .int c1), (3, .int c3)] → HH G (sz, MH M r26 rst) H → va_S (AG G) s.heap H locs → W p l e (rm_ 3 0 0) s m ([.ref M, .int a1, .int a2, .int a3] : List Value).toArray below meth c H locs 0 0 (MQ below (PostC G (sz, MH M stf rst) (some (.int rf))) ([.ref M, .int a1, .int a2, .int a3] : List Value).toArray s 0 0 (AG G)) (F0 m 90 ls [])) ?_ n s26 r26 hr hq
    intro s26 x26 hf hx26 ls H locs hl hH hS
    unfold f_X3_cut_b26 at hf
    have J81 : ∀ (d4 : Int32) (k0 : Int32) (k1 : Int64) (u81 : MS), f_X3_cut_j81 N c1 c2 c3 d4 k0 k1 u81 = some x26 → ∀ (ls : Array Slot) (H : Heap) (locs : List Loc), lv_has ls 5 [(0, .ref M), (1, .int c1), (2, .int c2), (3, .int c3), (4, .int d4)] → HH G (sz, MH M u81 rst) H → va_S (AG G) s.heap H locs → W p l e (rm_ 3 0 0) s m ([.ref M, .int a1, .int a2, .int a3] : List Value).toArray below meth c H locs 0 0 (MQ below (PostC G (sz, MH M stf rst) (some (.int rf))) ([.ref M, .int a1, .int a2, .int a3] : List Value).toArray s 0 0 (AG G)) (F0 m 81 ls [.int k0, .long k1, .ref M]) := by
      intro d4 k0 k1 u81 hf ls H locs hl hH hS
      unfold f_X3_cut_j81 at hf
      obtain ⟨v8, hv, hf⟩ := bd hf
      refine r_Vv (As := [.long k1, .int k0]) (rest := []) X (met_X3_asideOnce l G _ _ _ N u81 k1 k0 v8 hv) cv_X3_asideOnce q1349 (m_recv hK hH) rfl rfl hl.1 (Nat.le_of_ble_eq_true rfl) ⟨Nat.le_of_ble_eq_true rfl, Nat.le_of_ble_eq_true rfl⟩ ⟨Nat.le_refl _, Nat.le_refl _⟩ dX3_cut_81 hK hH hS (fun H locs hH hS => ?_)
      refine lv_iinc (v := (d4 + 1)) (lv' := [(4, .int (d4 + 1)), (0, .ref M), (1, .int c1), (2, .int c2), (3, .int c3)]) hx hb dX3_cut_84 hl (k := 4) rfl rfl (by decide) rfl (fun ls hl => ?_)
      refine lv_goto (tgt := 26) hx hb dX3_cut_87 (by decide) ?_
      cases hf
      exact hx26 _ _ _ (lv_sub hl [1, 2, 3, 4, 0] rfl) hH hS
    refine lv_iload hx hb dX3_cut_26 (lv_at hl 4 rfl) ?_
    refine lv_aload_n hx hb dX3_cut_28 rfl (lv_at hl 0 rfl) ?_
    refine m_get X hK hH 4 (by decide) rfl (mg_4 _ _) q1063 dX3_cut_29 ?_
    refine lv_iload_n hx hb dX3_cut_32 rfl (lv_at hl 1 rfl) ?_
    obtain ⟨v2, hv, hf⟩ := bd hf
    refine m_iald X hK hH 4 (mc_4 _ _) hv dX3_cut_33 ?_
    refine lv_icmp_ge (tgt := 90) hx hb dX3_cut_34 (by decide) (fun c_ => ?_) (fun c_ => ?_)
    · have hf := (if_pos c_).symm.trans hf
      cases hf
      exact hx26 _ _ _ (lv_sub hl [0, 1, 3] rfl) hH hS
    · have hf := (if_neg c_).symm.trans hf
      refine lv_aload_n hx hb dX3_cut_37 rfl (lv_at hl 0 rfl) ?_
      refine lv_aload_n hx hb dX3_cut_38 rfl (lv_at hl 0 rfl) ?_
      refine m_get X hK hH 2 (by decide) rfl (mg_2 _ _) q1061 dX3_cut_39 ?_
      refine lv_iload_n hx hb dX3_cut_42 rfl (lv_at hl 1 rfl) ?_
      obtain ⟨v3, hv, hf⟩ := bd hf
      refine m_iald X hK hH 2 (mc_2 _ _) hv dX3_cut_43 ?_
      refine lv_aload_n hx hb dX3_cut_44 rfl (lv_at hl 0 rfl) ?_
      refine m_get X hK hH 3 (by decide) rfl (mg_3 _ _) q1062 dX3_cut_45 ?_
      refine lv_iload_n hx hb dX3_cut_48 rfl (lv_at hl 1 rfl) ?_
      obtain ⟨v4, hv, hf⟩ := bd hf
      refine m_iald X hK hH 3 (mc_3 _ _) hv dX3_cut_49 ?_
      refine lv_aload_n hx hb dX3_cut_50 rfl (lv_at hl 0 rfl) ?_
      refine m_get X hK hH 5 (by decide) rfl (mg_5 _ _) q1064 dX3_cut_51 ?_
      refine lv_sipush (v := (200 : Int32)) hx hb dX3_cut_54 (by decide) ?_
      refine lv_iload_n hx hb dX3_cut_57 rfl (lv_at hl 1 rfl) ?_
      refine lv_imul hx hb dX3_cut_58 ?_
      refine lv_iload hx hb dX3_cut_59 (lv_at hl 4 rfl) ?_
      refine lv_iadd hx hb dX3_cut_61 ?_
      obtain ⟨v5, hv, hf⟩ := bd hf
      refine m_lald X hK hH 5 (mc_5 _ _) hv dX3_cut_62 ?_
      refine lv_iload_n hx hb dX3_cut_63 rfl (lv_at hl 2 rfl) ?_
      obtain ⟨v6, hv, hf⟩ := bd hf
      refine r_Sl (As := [.int v3, .int v4, .long v5, .int c2]) (rest := [.ref M]) X (met_X3_without l G _ N v3 v4 v5 c2 v6 hv) cs_X3_without q1346 rfl rfl hl.1 (Nat.le_of_ble_eq_true rfl) ⟨Nat.le_of_ble_eq_true rfl, Nat.le_of_ble_eq_true rfl⟩ ⟨Nat.le_refl _, Nat.le_refl _⟩ dX3_cut_64 hK hH hS (fun H locs hH hS => ?_)
      refine lv_aload_n hx hb dX3_cut_67 rfl (lv_at hl 0 rfl) ?_
      refine m_get X hK hH 1 (by decide) rfl (mg_1 _ _) q1060 dX3_cut_68 ?_
      refine lv_iload_n hx hb dX3_cut_71 rfl (lv_at hl 1 rfl) ?_
      obtain ⟨v7, hv, hf⟩ := bd hf
      refine m_iald X hK hH 1 (mc_1 _ _) hv dX3_cut_72 ?_
      refine lv_if_ne (tgt := 80) hx hb dX3_cut_73 (by decide) (fun c_ => ?_) (fun c_ => ?_)
      · have hf := (if_neg c_).symm.trans hf
        refine lv_iconst (v := (0 : Int32)) hx hb dX3_cut_80 (by decide) ?_
        exact J81 s26.1 (0 : Int32) v6 s26.2 hf _ _ _ (lv_sub hl [0, 1, 2, 3, 4] rfl) hH hS
      · have hf := (if_pos c_).symm.trans hf
        refine lv_iconst (v := (1 : Int32)) hx hb dX3_cut_76 (by decide) ?_
        refine lv_goto (tgt := 81) hx hb dX3_cut_77 (by decide) ?_
        exact J81 s26.1 (1 : Int32) v6 s26.2 hf _ _ _ (lv_sub hl [0, 1, 2, 3, 4] rfl) hH hS
  refine lv_aload_n hx hb dX3_cut_0 rfl (lv_at hl 0 rfl) ?_
  refine lv_iload_n hx hb dX3_cut_1 rfl (lv_at hl 1 rfl) ?_
  refine lv_iload_n hx hb dX3_cut_2 rfl (lv_at hl 2 rfl) ?_
  refine lv_iload_n hx hb dX3_cut_3 rfl (lv_at hl 3 rfl) ?_
  obtain ⟨v1, hv, hf⟩ := bd hf
  refine r_Vi (As := [.int a1, .int a2, .int a3]) (rest := []) X (met_X3_lacksPlace l G _ _ _ N st a1 a2 a3 v1 hv) cv_X3_lacksPlace q1342 (m_recv hK hH) rfl rfl hl.1 (Nat.le_of_ble_eq_true rfl) ⟨Nat.le_of_ble_eq_true rfl, Nat.le_of_ble_eq_true rfl⟩ ⟨Nat.le_refl _, Nat.le_refl _⟩ dX3_cut_4 hK hH hS (fun H locs hH hS => ?_)
  refine lv_if_eq (tgt := 18) hx hb dX3_cut_7 (by decide) (fun c_ => ?_) (fun c_ => ?_)
  · have hf := (if_pos c_).symm.trans hf
    refine lv_aload_n hx hb dX3_cut_18 rfl (lv_at hl 0 rfl) ?_
    refine lv_iconst (v := (0 : Int32)) hx hb dX3_cut_19 (by decide) ?_
    refine m_put (ty := .int) X hK hH hS 18 (by decide) rfl (mp_18 _ _ _) q1077 rfl (by decide +kernel) rfl rfl dX3_cut_20 (fun H locs hH hS => ?_)
    refine lv_iconst (v := (0 : Int32)) hx hb dX3_cut_23 (by decide) ?_
    refine lv_istore (lv' := [(4, .int (0 : Int32)), (0, .ref M), (1, .int a1), (2, .int a2), (3, .int a3)]) hx hb dX3_cut_24 hl (by decide) rfl (fun ls hl => ?_)
    obtain ⟨r26_9, hr, hf⟩ := bd hf
    refine L26 a1 a2 a3 N _ r26_9 hr ?_ _ _ _ (lv_sub hl [1, 2, 3, 4, 0] rfl) hH hS
    intro ls H locs hl hH hS
    refine lv_aload_n hx hb dX3_cut_90 rfl (lv_at hl 0 rfl) ?_
    refine lv_iload_n hx hb dX3_cut_91 rfl (lv_at hl 2 rfl) ?_
    refine lv_aload_n hx hb dX3_cut_92 rfl (lv_at hl 0 rfl) ?_
    refine lv_iload_n hx hb dX3_cut_93 rfl (lv_at hl 1 rfl) ?_
    obtain ⟨v10, hv, hf⟩ := bd hf
    refine r_Vi (As := [.int a1]) (rest := [.int a3, .ref M]) X (met_X3_lineOr l G _ _ _ N r26_9 a1 v10 hv) cv_X3_lineOr q1330 (m_recv hK hH) rfl rfl hl.1 (Nat.le_of_ble_eq_true rfl) ⟨Nat.le_of_ble_eq_true rfl, Nat.le_of_ble_eq_true rfl⟩ ⟨Nat.le_refl _, Nat.le_refl _⟩ dX3_cut_94 hK hH hS (fun H locs hH hS => ?_)
    refine lv_aload_n hx hb dX3_cut_97 rfl (lv_at hl 0 rfl) ?_
    refine m_get X hK hH 2 (by decide) rfl (mg_2 _ _) q1061 dX3_cut_98 ?_
    refine lv_iload_n hx hb dX3_cut_101 rfl (lv_at hl 1 rfl) ?_
    obtain ⟨v11, hv, hf⟩ := bd hf
    refine m_iald X hK hH 2 (mc_2 _ _) hv dX3_cut_102 ?_
    refine lv_aload_n hx hb dX3_cut_103 rfl (lv_at hl 0 rfl) ?_
    refine m_get X hK hH 3 (by decide) rfl (mg_3 _ _) q1062 dX3_cut_104 ?_
    refine lv_iload_n hx hb dX3_cut_107 rfl (lv_at hl 1 rfl) ?_
    obtain ⟨v12, hv, hf⟩ := bd hf
    refine m_iald X hK hH 3 (mc_3 _ _) hv dX3_cut_108 ?_
    refine lv_iconst (v := (1 : Int32)) hx hb dX3_cut_109 (by decide) ?_
    refine lv_isub hx hb dX3_cut_110 ?_
    obtain ⟨v13, hv, hf⟩ := bd hf
    refine r_Vi (As := [.int a3, .int v10, .int v11, .int (v12 - (1 : Int32))]) (rest := []) X (met_X3_comes l G _ _ _ N r26_9 a3 v10 v11 (v12 - (1 : Int32)) v13.1 v13.2 hv) cv_X3_comes q1334 (m_recv hK hH) rfl rfl hl.1 (Nat.le_of_ble_eq_true rfl) ⟨Nat.le_of_ble_eq_true rfl, Nat.le_of_ble_eq_true rfl⟩ ⟨Nat.le_refl _, Nat.le_refl _⟩ dX3_cut_111 hK hH hS (fun H locs hH hS => ?_)
    cases hf
    exact r_iret X dX3_cut_114 (Nat.le_refl _) (Nat.le_refl _) rfl hH hS
  · have hf := (if_neg c_).symm.trans hf
    refine lv_aload_n hx hb dX3_cut_10 rfl (lv_at hl 0 rfl) ?_
    refine lv_iload_n hx hb dX3_cut_11 rfl (lv_at hl 1 rfl) ?_
    refine lv_iload_n hx hb dX3_cut_12 rfl (lv_at hl 2 rfl) ?_
    refine lv_iload_n hx hb dX3_cut_13 rfl (lv_at hl 3 rfl) ?_
    obtain ⟨v14, hv, hf⟩ := bd hf
    refine r_Vi (As := [.int a1, .int a2, .int a3]) (rest := []) X (met_X3_lacksPlace l G _ _ _ N st a1 a2 a3 v14 hv) cv_X3_lacksPlace q1342 (m_recv hK hH) rfl rfl hl.1 (Nat.le_of_ble_eq_true rfl) ⟨Nat.le_of_ble_eq_true rfl, Nat.le_of_ble_eq_true rfl⟩ ⟨Nat.le_refl _, Nat.le_refl _⟩ dX3_cut_14 hK hH hS (fun H locs hH hS => ?_)
    cases hf
    exact r_iret X dX3_cut_17 (Nat.le_refl _) (Nat.le_refl _) rfl hH hS
theorem cv_X3_design : CalV "WordBenchModel" yX3_design cX3_design 9 (some .int) 3 := ⟨q1383, q1384, q57, q1385, by decide +kernel⟩
set_option maxHeartbeats 4000000 in
theorem met_X3_design (l : Launch) (G : GG) (sz M : Nat) (rst : Nat → Option AE) (N : Nat) (st : MS) (a1 : Int32) (a2 : Int32) (a3 : Int32) (stf : MS) (rf : Int32) (hf : f_X3_design N st a1 a2 a3 = some (stf, rf)) : Con l yX3_design cX3_design 9 (some .int) 6 0 0 G (sz, MH M st rst) [.ref M, .int a1, .int a2, .int a3] (sz, MH M stf rst) (some (.int rf)) := by
  refine con_of (by decide) (Nat.le_of_ble_eq_true rfl) ?_
  intro p e s m below meth c ls X hK hH hl hS
  have hx := X.1
  have hb := X.2.1
  have hown : s.vm.findClass RX3 = some m.cls := X.2.2.2.2.1
  have hts := X.2.2.2.2.2.1
  have hl : lv_has ls 9 [(0, .ref M), (1, .int a1), (2, .int a2), (3, .int a3)] := hl
  unfold f_X3_design at hf
  have L69 : ∀ (c1 : Int32) (c2 : Int32) (c3 : Int32) (t69 : MS) (n : Nat) (s69 : (Int32 × Int32)) (r69 : Int32), lp (f_X3_design_b69 N c1 c2 c3 t69) n s69 = some r69 → (∀ (ls : Array Slot) (H : Heap) (locs : List Loc), lv_has ls 9 [(4, .int r69)] → HH G (sz, MH M t69 rst) H → va_S (AG G) s.heap H locs → W p l e (rm_ 6 0 0) s m ([.ref M, .int a1, .int a2, .int a3] : List Value).toArray below meth c H locs 0 0 (MQ below (PostC G (sz, MH M stf rst) (some (.int rf))) ([.ref M, .int a1, .int a2, .int a3] : List Value).toArray s 0 0 (AG G)) (F0 m 206 ls [])) → ∀ (ls : Array Slot) (H : Heap) (locs : List Loc), lv_has ls 9 [(0, .ref M), (1, .int c1), (2, .int c2), (3, .int c3), (4, .int s69.1), (5, .int s69.2)] → HH G (sz, MH M t69 rst) H → va_S (AG G) s.heap H locs → W p l e (rm_ 6 0 0) s m ([.ref M, .int a1, .int a2, .int a3] : List Value).toArray below meth c H locs 0 0 (MQ below (PostC G (sz, MH M stf rst) (some (.int rf))) ([.ref M, .int a1, .int a2, .int a3] : List Value).toArray s 0 0 (AG G)) (F0 m 69 ls []) := by
    intro c1 c2 c3 t69 n s69 r69 hr hq
    refine lp_ind (P := fun s69 => ∀ (ls : Array Slot) (H : Heap) (locs : List Loc), lv_has ls 9 [(0, .ref M), (1, .int c1), (2, .int c2), (3, .int c3), (4, .int s69.1), (5, .int s69.2)] → HH G (sz, MH M t69 rst) H → va_S (AG G) s.heap H locs → W p l e (rm_ 6 0 0) s m ([.ref M, .int a1, .int a2, .int a3] : List Value).toArray below meth c H locs 0 0 (MQ below (PostC G (sz, MH M stf rst) (some (.int rf))) ([.ref M, .int a1, .int a2, .int a3] : List Value).toArray s 0 0 (AG G)) (F0 m 69 ls [])) (Q := fun r69 => ∀ (ls : Array Slot) (H : Heap) (locs : List Loc), lv_has ls 9 [(4, .int r69)] → HH G (sz, MH M t69 rst) H → va_S (AG G) s.heap H locs → W p l e (rm_ 6 0 0) s m ([.ref M, .int a1, .int a2, .int a3] : List Value).toArray below meth c H locs 0 0 (MQ below (PostC G (sz, MH M stf rst) (some (.int rf))) ([.ref M, .int a1, .int a2, .int a3] : List Value).toArray s 0 0 (AG G)) (F0 m 206 ls [])) ?_ n s69 r69 hr hq
    intro s69 x69 hf hx69 ls H locs hl hH hS
    unfold f_X3_design_b69 at hf
    have L87 : ∀ (c1 : Int32) (c2 : Int32) (c3 : Int32) (c4 : Int32) (c5 : Int32) (t87 : MS) (n : Nat) (s87 : (Int32 × Int32 × Int32)) (r87 : (Int32 × Int32)), lp (f_X3_design_b87 N c1 c2 c3 c4 c5 t87) n s87 = some r87 → (∀ (ls : Array Slot) (H : Heap) (locs : List Loc), lv_has ls 9 [(0, .ref M), (1, .int c1), (2, .int c2), (3, .int c3), (4, .int c4), (5, .int c5), (6, .int r87.1), (7, .int r87.2)] → HH G (sz, MH M t87 rst) H → va_S (AG G) s.heap H locs → W p l e (rm_ 6 0 0) s m ([.ref M, .int a1, .int a2, .int a3] : List Value).toArray below meth c H locs 0 0 (MQ below (PostC G (sz, MH M stf rst) (some (.int rf))) ([.ref M, .int a1, .int a2, .int a3] : List Value).toArray s 0 0 (AG G)) (F0 m 167 ls [])) → ∀ (ls : Array Slot) (H : Heap) (locs : List Loc), lv_has ls 9 [(0, .ref M), (1, .int c1), (2, .int c2), (3, .int c3), (4, .int c4), (5, .int c5), (6, .int s87.1), (7, .int s87.2.1), (8, .int s87.2.2)] → HH G (sz, MH M t87 rst) H → va_S (AG G) s.heap H locs → W p l e (rm_ 6 0 0) s m ([.ref M, .int a1, .int a2, .int a3] : List Value).toArray below meth c H locs 0 0 (MQ below (PostC G (sz, MH M stf rst) (some (.int rf))) ([.ref M, .int a1, .int a2, .int a3] : List Value).toArray s 0 0 (AG G)) (F0 m 87 ls []) := by
      intro c1 c2 c3 c4 c5 t87 n s87 r87 hr hq
      refine lp_ind (P := fun s87 => ∀ (ls : Array Slot) (H : Heap) (locs : List Loc), lv_has ls 9 [(0, .ref M), (1, .int c1), (2, .int c2), (3, .int c3), (4, .int c4), (5, .int c5), (6, .int s87.1), (7, .int s87.2.1), (8, .int s87.2.2)] → HH G (sz, MH M t87 rst) H → va_S (AG G) s.heap H locs → W p l e (rm_ 6 0 0) s m ([.ref M, .int a1, .int a2, .int a3] : List Value).toArray below meth c H locs 0 0 (MQ below (PostC G (sz, MH M stf rst) (some (.int rf))) ([.ref M, .int a1, .int a2, .int a3] : List Value).toArray s 0 0 (AG G)) (F0 m 87 ls [])) (Q := fun r87 => ∀ (ls : Array Slot) (H : Heap) (locs : List Loc), lv_has ls 9 [(0, .ref M), (1, .int c1), (2, .int c2), (3, .int c3), (4, .int c4), (5, .int c5), (6, .int r87.1), (7, .int r87.2)] → HH G (sz, MH M t87 rst) H → va_S (AG G) s.heap H locs → W p l e (rm_ 6 0 0) s m ([.ref M, .int a1, .int a2, .int a3] : List Value).toArray below meth c H locs 0 0 (MQ below (PostC G (sz, MH M stf rst) (some (.int rf))) ([.ref M, .int a1, .int a2, .int a3] : List Value).toArray s 0 0 (AG G)) (F0 m 167 ls [])) ?_ n s87 r87 hr hq
      intro s87 x87 hf hx87 ls H locs hl hH hS
      unfold f_X3_design_b87 at hf
      have J121 : ∀ (d7 : Int32) (d8 : Int32) (k0 : Int32) (k1 : Int32), f_X3_design_j121 N c1 c2 c3 c4 c5 t87 d7 d8 k0 k1 = some x87 → ∀ (ls : Array Slot) (H : Heap) (locs : List Loc), lv_has ls 9 [(0, .ref M), (1, .int c1), (2, .int c2), (3, .int c3), (4, .int c4), (5, .int c5), (7, .int d7), (8, .int d8)] → HH G (sz, MH M t87 rst) H → va_S (AG G) s.heap H locs → W p l e (rm_ 6 0 0) s m ([.ref M, .int a1, .int a2, .int a3] : List Value).toArray below meth c H locs 0 0 (MQ below (PostC G (sz, MH M stf rst) (some (.int rf))) ([.ref M, .int a1, .int a2, .int a3] : List Value).toArray s 0 0 (AG G)) (F0 m 121 ls [.int k0, .int k1]) := by
        intro d7 d8 k0 k1 hf ls H locs hl hH hS
        unfold f_X3_design_j121 at hf
        refine lv_iadd hx hb dX3_design_121 ?_
        refine lv_istore (lv' := [(6, .int (k1 + k0)), (0, .ref M), (1, .int c1), (2, .int c2), (3, .int c3), (4, .int c4), (5, .int c5), (7, .int d7), (8, .int d8)]) hx hb dX3_design_122 hl (by decide) rfl (fun ls hl => ?_)
        refine lv_iload hx hb dX3_design_124 (lv_at hl 7 rfl) ?_
        refine lv_if_eq (tgt := 158) hx hb dX3_design_126 (by decide) (fun c_ => ?_) (fun c_ => ?_)
        · have hf := (if_pos c_).symm.trans hf
          refine lv_iconst (v := (0 : Int32)) hx hb dX3_design_158 (by decide) ?_
          refine lv_istore (lv' := [(7, .int (0 : Int32)), (6, .int (k1 + k0)), (0, .ref M), (1, .int c1), (2, .int c2), (3, .int c3), (4, .int c4), (5, .int c5), (8, .int d8)]) hx hb dX3_design_159 hl (by decide) rfl (fun ls hl => ?_)
          refine lv_iinc (v := (d8 + 1)) (lv' := [(8, .int (d8 + 1)), (7, .int (0 : Int32)), (6, .int (k1 + k0)), (0, .ref M), (1, .int c1), (2, .int c2), (3, .int c3), (4, .int c4), (5, .int c5)]) hx hb dX3_design_161 hl (k := 8) rfl rfl (by decide) rfl (fun ls hl => ?_)
          refine lv_goto (tgt := 87) hx hb dX3_design_164 (by decide) ?_
          cases hf
          exact hx87 _ _ _ (lv_sub hl [3, 4, 5, 6, 7, 8, 2, 1, 0] rfl) hH hS
        · have hf := (if_neg c_).symm.trans hf
          refine lv_iload_n hx hb dX3_design_129 rfl (lv_at hl 4 rfl) ?_
          refine lv_iload hx hb dX3_design_130 (lv_at hl 8 rfl) ?_
          refine lv_ishr hx hb dX3_design_132 ?_
          refine lv_iconst (v := (1 : Int32)) hx hb dX3_design_133 (by decide) ?_
          refine lv_iand hx hb dX3_design_134 ?_
          refine lv_if_eq (tgt := 154) hx hb dX3_design_135 (by decide) (fun c_ => ?_) (fun c_ => ?_)
          · have hf := (if_pos c_).symm.trans hf
            refine lv_iconst (v := (1 : Int32)) hx hb dX3_design_154 (by decide) ?_
            refine lv_goto (tgt := 159) hx hb dX3_design_155 (by decide) ?_
            refine lv_istore (lv' := [(7, .int (1 : Int32)), (6, .int (k1 + k0)), (0, .ref M), (1, .int c1), (2, .int c2), (3, .int c3), (4, .int c4), (5, .int c5), (8, .int d8)]) hx hb dX3_design_159 hl (by decide) rfl (fun ls hl => ?_)
            refine lv_iinc (v := (d8 + 1)) (lv' := [(8, .int (d8 + 1)), (7, .int (1 : Int32)), (6, .int (k1 + k0)), (0, .ref M), (1, .int c1), (2, .int c2), (3, .int c3), (4, .int c4), (5, .int c5)]) hx hb dX3_design_161 hl (k := 8) rfl rfl (by decide) rfl (fun ls hl => ?_)
            refine lv_goto (tgt := 87) hx hb dX3_design_164 (by decide) ?_
            cases hf
            exact hx87 _ _ _ (lv_sub hl [3, 4, 5, 6, 7, 8, 2, 1, 0] rfl) hH hS
          · have hf := (if_neg c_).symm.trans hf
            refine lv_aload_n hx hb dX3_design_138 rfl (lv_at hl 1 rfl) ?_
            refine m_get X hK hH 12 (by decide) rfl (mg_12 _ _) q1071 dX3_design_139 ?_
            refine lv_bipush (v := (12 : Int32)) hx hb dX3_design_142 (by decide) ?_
            refine lv_iload hx hb dX3_design_144 (lv_at hl 6 rfl) ?_
            refine lv_imul hx hb dX3_design_146 ?_
            refine lv_iload hx hb dX3_design_147 (lv_at hl 8 rfl) ?_
            refine lv_iadd hx hb dX3_design_149 ?_
            obtain ⟨v9, hv, hf⟩ := bd hf
            refine m_iald X hK hH 10 (mc_12 _ _) hv dX3_design_150 ?_
            refine lv_if_eq (tgt := 158) hx hb dX3_design_151 (by decide) (fun c_ => ?_) (fun c_ => ?_)
            · have hf := (if_pos c_).symm.trans hf
              refine lv_iconst (v := (0 : Int32)) hx hb dX3_design_158 (by decide) ?_
              refine lv_istore (lv' := [(7, .int (0 : Int32)), (6, .int (k1 + k0)), (0, .ref M), (1, .int c1), (2, .int c2), (3, .int c3), (4, .int c4), (5, .int c5), (8, .int d8)]) hx hb dX3_design_159 hl (by decide) rfl (fun ls hl => ?_)
              refine lv_iinc (v := (d8 + 1)) (lv' := [(8, .int (d8 + 1)), (7, .int (0 : Int32)), (6, .int (k1 + k0)), (0, .ref M), (1, .int c1), (2, .int c2), (3, .int c3), (4, .int c4), (5, .int c5)]) hx hb dX3_design_161 hl (k := 8) rfl rfl (by decide) rfl (fun ls hl => ?_)
              refine lv_goto (tgt := 87) hx hb dX3_design_164 (by decide) ?_
              cases hf
              exact hx87 _ _ _ (lv_sub hl [3, 4, 5, 6, 7, 8, 2, 1, 0] rfl) hH hS
            · have hf := (if_neg c_).symm.trans hf
              refine lv_iconst (v := (1 : Int32)) hx hb dX3_design_154 (by decide) ?_
              refine lv_goto (tgt := 159) hx hb dX3_design_155 (by decide) ?_
              refine lv_istore (lv' := [(7, .int (1 : Int32)), (6, .int (k1 + k0)), (0, .ref M), (1, .int c1), (2, .int c2), (3, .int c3), (4, .int c4), (5, .int c5), (8, .int d8)]) hx hb dX3_design_159 hl (by decide) rfl (fun ls hl => ?_)
              refine lv_iinc (v := (d8 + 1)) (lv' := [(8, .int (d8 + 1)), (7, .int (1 : Int32)), (6, .int (k1 + k0)), (0, .ref M), (1, .int c1), (2, .int c2), (3, .int c3), (4, .int c4), (5, .int c5)]) hx hb dX3_design_161 hl (k := 8) rfl rfl (by decide) rfl (fun ls hl => ?_)
              refine lv_goto (tgt := 87) hx hb dX3_design_164 (by decide) ?_
              cases hf
              exact hx87 _ _ _ (lv_sub hl [3, 4, 5, 6, 7, 8, 2, 1, 0] rfl) hH hS
      refine lv_iload hx hb dX3_design_87 (lv_at hl 8 rfl) ?_
      refine lv_aload_n hx hb dX3_design_89 rfl (lv_at hl 0 rfl) ?_
      refine m_get X hK hH 3 (by decide) rfl (mg_3 _ _) q1062 dX3_design_90 ?_
      refine lv_iload_n hx hb dX3_design_93 rfl (lv_at hl 1 rfl) ?_
      obtain ⟨v7, hv, hf⟩ := bd hf
      refine m_iald X hK hH 3 (mc_3 _ _) hv dX3_design_94 ?_
      refine lv_icmp_ge (tgt := 167) hx hb dX3_design_95 (by decide) (fun c_ => ?_) (fun c_ => ?_)
      · have hf := (if_pos c_).symm.trans hf
        cases hf
        exact hx87 _ _ _ (lv_sub hl [0, 1, 2, 3, 4, 5, 6, 7] rfl) hH hS
      · have hf := (if_neg c_).symm.trans hf
        refine lv_iload hx hb dX3_design_98 (lv_at hl 6 rfl) ?_
        refine lv_aload_n hx hb dX3_design_100 rfl (lv_at hl 0 rfl) ?_
        refine m_get X hK hH 12 (by decide) rfl (mg_12 _ _) q1071 dX3_design_101 ?_
        refine lv_bipush (v := (12 : Int32)) hx hb dX3_design_104 (by decide) ?_
        refine lv_iload hx hb dX3_design_106 (lv_at hl 5 rfl) ?_
        refine lv_imul hx hb dX3_design_108 ?_
        refine lv_iload hx hb dX3_design_109 (lv_at hl 8 rfl) ?_
        refine lv_iadd hx hb dX3_design_111 ?_
        obtain ⟨v8, hv, hf⟩ := bd hf
        refine m_iald X hK hH 10 (mc_12 _ _) hv dX3_design_112 ?_
        refine lv_if_eq (tgt := 120) hx hb dX3_design_113 (by decide) (fun c_ => ?_) (fun c_ => ?_)
        · have hf := (if_pos c_).symm.trans hf
          refine lv_iconst (v := (0 : Int32)) hx hb dX3_design_120 (by decide) ?_
          exact J121 s87.2.1 s87.2.2 (0 : Int32) s87.1 hf _ _ _ (lv_sub hl [0, 1, 2, 3, 4, 5, 7, 8] rfl) hH hS
        · have hf := (if_neg c_).symm.trans hf
          refine lv_iconst (v := (1 : Int32)) hx hb dX3_design_116 (by decide) ?_
          refine lv_goto (tgt := 121) hx hb dX3_design_117 (by decide) ?_
          exact J121 s87.2.1 s87.2.2 (1 : Int32) s87.1 hf _ _ _ (lv_sub hl [0, 1, 2, 3, 4, 5, 7, 8] rfl) hH hS
    have J183 : ∀ (d4 : Int32) (d5 : Int32) (k0 : Int32), f_X3_design_j183 N c1 c2 c3 t69 d4 d5 k0 = some x69 → ∀ (ls : Array Slot) (H : Heap) (locs : List Loc), lv_has ls 9 [(0, .ref M), (1, .int c1), (2, .int c2), (3, .int c3), (4, .int d4), (5, .int d5)] → HH G (sz, MH M t69 rst) H → va_S (AG G) s.heap H locs → W p l e (rm_ 6 0 0) s m ([.ref M, .int a1, .int a2, .int a3] : List Value).toArray below meth c H locs 0 0 (MQ below (PostC G (sz, MH M stf rst) (some (.int rf))) ([.ref M, .int a1, .int a2, .int a3] : List Value).toArray s 0 0 (AG G)) (F0 m 183 ls [.int k0]) := by
      intro d4 d5 k0 hf ls H locs hl hH hS
      unfold f_X3_design_j183 at hf
      refine lv_istore (lv' := [(7, .int k0), (0, .ref M), (1, .int c1), (2, .int c2), (3, .int c3), (4, .int d4), (5, .int d5)]) hx hb dX3_design_183 hl (by decide) rfl (fun ls hl => ?_)
      refine lv_iload hx hb dX3_design_185 (lv_at hl 5 rfl) ?_
      refine lv_iload hx hb dX3_design_187 (lv_at hl 0 rfl) ?_
      refine lv_if_eq (tgt := 196) hx hb dX3_design_189 (by decide) (fun c_ => ?_) (fun c_ => ?_)
      · have hf := (if_pos c_).symm.trans hf
        refine lv_iconst (v := (0 : Int32)) hx hb dX3_design_196 (by decide) ?_
        refine lv_iadd hx hb dX3_design_197 ?_
        refine lv_istore (lv' := [(4, .int (d4 + (0 : Int32))), (7, .int k0), (0, .ref M), (1, .int c1), (2, .int c2), (3, .int c3), (5, .int d5)]) hx hb dX3_design_198 hl (by decide) rfl (fun ls hl => ?_)
        refine lv_iinc (v := (d5 + 1)) (lv' := [(5, .int (d5 + 1)), (4, .int (d4 + (0 : Int32))), (7, .int k0), (0, .ref M), (1, .int c1), (2, .int c2), (3, .int c3)]) hx hb dX3_design_200 hl (k := 6) rfl rfl (by decide) rfl (fun ls hl => ?_)
        refine lv_goto (tgt := 69) hx hb dX3_design_203 (by decide) ?_
        cases hf
        exact hx69 _ _ _ (lv_sub hl [3, 4, 5, 6, 1, 0] rfl) hH hS
      · have hf := (if_neg c_).symm.trans hf
        refine lv_iconst (v := (1 : Int32)) hx hb dX3_design_192 (by decide) ?_
        refine lv_goto (tgt := 197) hx hb dX3_design_193 (by decide) ?_
        refine lv_iadd hx hb dX3_design_197 ?_
        refine lv_istore (lv' := [(4, .int (d4 + (1 : Int32))), (7, .int k0), (0, .ref M), (1, .int c1), (2, .int c2), (3, .int c3), (5, .int d5)]) hx hb dX3_design_198 hl (by decide) rfl (fun ls hl => ?_)
        refine lv_iinc (v := (d5 + 1)) (lv' := [(5, .int (d5 + 1)), (4, .int (d4 + (1 : Int32))), (7, .int k0), (0, .ref M), (1, .int c1), (2, .int c2), (3, .int c3)]) hx hb dX3_design_200 hl (k := 6) rfl rfl (by decide) rfl (fun ls hl => ?_)
        refine lv_goto (tgt := 69) hx hb dX3_design_203 (by decide) ?_
        cases hf
        exact hx69 _ _ _ (lv_sub hl [3, 4, 5, 6, 1, 0] rfl) hH hS
    refine lv_iload hx hb dX3_design_69 (lv_at hl 5 rfl) ?_
    refine lv_aload_n hx hb dX3_design_71 rfl (lv_at hl 0 rfl) ?_
    refine m_get X hK hH 11 (by decide) rfl (mg_11 _ _) q1070 dX3_design_72 ?_
    refine lv_icmp_ge (tgt := 206) hx hb dX3_design_75 (by decide) (fun c_ => ?_) (fun c_ => ?_)
    · have hf := (if_pos c_).symm.trans hf
      cases hf
      exact hx69 _ _ _ (lv_sub hl [4] rfl) hH hS
    · have hf := (if_neg c_).symm.trans hf
      refine lv_iconst (v := (0 : Int32)) hx hb dX3_design_78 (by decide) ?_
      refine lv_istore (lv' := [(6, .int (0 : Int32)), (0, .ref M), (1, .int c1), (2, .int c2), (3, .int c3), (4, .int s69.1), (5, .int s69.2)]) hx hb dX3_design_79 hl (by decide) rfl (fun ls hl => ?_)
      refine lv_iconst (v := (1 : Int32)) hx hb dX3_design_81 (by decide) ?_
      refine lv_istore (lv' := [(7, .int (1 : Int32)), (6, .int (0 : Int32)), (0, .ref M), (1, .int c1), (2, .int c2), (3, .int c3), (4, .int s69.1), (5, .int s69.2)]) hx hb dX3_design_82 hl (by decide) rfl (fun ls hl => ?_)
      refine lv_iconst (v := (0 : Int32)) hx hb dX3_design_84 (by decide) ?_
      refine lv_istore (lv' := [(8, .int (0 : Int32)), (7, .int (1 : Int32)), (6, .int (0 : Int32)), (0, .ref M), (1, .int c1), (2, .int c2), (3, .int c3), (4, .int s69.1), (5, .int s69.2)]) hx hb dX3_design_85 hl (by decide) rfl (fun ls hl => ?_)
      obtain ⟨r87_10, hr, hf⟩ := bd hf
      refine L87 c1 c2 c3 s69.1 s69.2 t69 N _ r87_10 hr ?_ _ _ _ (lv_sub hl [3, 4, 5, 6, 7, 8, 2, 1, 0] rfl) hH hS
      intro ls H locs hl hH hS
      refine lv_iload hx hb dX3_design_167 (lv_at hl 7 rfl) ?_
      refine lv_if_eq (tgt := 182) hx hb dX3_design_169 (by decide) (fun c_ => ?_) (fun c_ => ?_)
      · have hf := (if_pos c_).symm.trans hf
        refine lv_iconst (v := (0 : Int32)) hx hb dX3_design_182 (by decide) ?_
        exact J183 s69.1 s69.2 (0 : Int32) hf _ _ _ (lv_sub hl [0, 1, 2, 3, 4, 5] rfl) hH hS
      · have hf := (if_neg c_).symm.trans hf
        refine lv_iload hx hb dX3_design_172 (lv_at hl 6 rfl) ?_
        refine lv_iload_n hx hb dX3_design_174 rfl (lv_at hl 2 rfl) ?_
        refine lv_icmp_ne (tgt := 182) hx hb dX3_design_175 (by decide) (fun c_ => ?_) (fun c_ => ?_)
        · have hf := (if_neg c_).symm.trans hf
          refine lv_iconst (v := (0 : Int32)) hx hb dX3_design_182 (by decide) ?_
          exact J183 s69.1 s69.2 (0 : Int32) hf _ _ _ (lv_sub hl [0, 1, 2, 3, 4, 5] rfl) hH hS
        · have hf := (if_pos c_).symm.trans hf
          refine lv_iconst (v := (1 : Int32)) hx hb dX3_design_178 (by decide) ?_
          refine lv_goto (tgt := 183) hx hb dX3_design_179 (by decide) ?_
          exact J183 s69.1 s69.2 (1 : Int32) hf _ _ _ (lv_sub hl [0, 1, 2, 3, 4, 5] rfl) hH hS
  refine lv_aload_n hx hb dX3_design_0 rfl (lv_at hl 0 rfl) ?_
  refine lv_iload_n hx hb dX3_design_1 rfl (lv_at hl 1 rfl) ?_
  obtain ⟨v1, hv, hf⟩ := bd hf
  refine r_Vi (As := [.int a1]) (rest := []) X (met_X3_lacks l G _ _ _ N st a1 v1 hv) cv_X3_lacks q1236 (m_recv hK hH) rfl rfl hl.1 (Nat.le_of_ble_eq_true rfl) ⟨Nat.le_of_ble_eq_true rfl, Nat.le_of_ble_eq_true rfl⟩ ⟨Nat.le_refl _, Nat.le_refl _⟩ dX3_design_2 hK hH hS (fun H locs hH hS => ?_)
  refine lv_if_eq (tgt := 14) hx hb dX3_design_5 (by decide) (fun c_ => ?_) (fun c_ => ?_)
  · have hf := (if_pos c_).symm.trans hf
    refine lv_iload_n hx hb dX3_design_14 rfl (lv_at hl 2 rfl) ?_
    refine lv_i2l (v := (a2).toInt64) hx hb dX3_design_15 rfl ?_
    refine lv_lconst (v := (0 : Int64)) hx hb dX3_design_16 (by decide) ?_
    refine lv_aload_n hx hb dX3_design_17 rfl (lv_at hl 0 rfl) ?_
    refine m_get X hK hH 3 (by decide) rfl (mg_3 _ _) q1062 dX3_design_18 ?_
    refine lv_iload_n hx hb dX3_design_21 rfl (lv_at hl 1 rfl) ?_
    obtain ⟨v2, hv, hf⟩ := bd hf
    refine m_iald X hK hH 3 (mc_3 _ _) hv dX3_design_22 ?_
    refine lv_i2l (v := (v2).toInt64) hx hb dX3_design_23 rfl ?_
    obtain ⟨v3, hv, hf⟩ := bd hf
    refine r_Si (As := [.long ((a2).toInt64), .long (0 : Int64), .long ((v2).toInt64)]) (rest := []) X (met_X3_isIn l G _ N ((a2).toInt64) (0 : Int64) ((v2).toInt64) v3 hv) cs_X3_isIn q1015 rfl rfl hl.1 (Nat.le_of_ble_eq_true rfl) ⟨Nat.le_of_ble_eq_true rfl, Nat.le_of_ble_eq_true rfl⟩ ⟨Nat.le_refl _, Nat.le_refl _⟩ dX3_design_24 hK hH hS (fun H locs hH hS => ?_)
    refine lv_if_eq (tgt := 50) hx hb dX3_design_27 (by decide) (fun c_ => ?_) (fun c_ => ?_)
    · have hf := (if_pos c_).symm.trans hf
      refine lv_iconst (v := (-1 : Int32)) hx hb dX3_design_50 (by decide) ?_
      cases hf
      exact r_iret X dX3_design_51 (Nat.le_refl _) (Nat.le_refl _) rfl hH hS
    · have hf := (if_neg c_).symm.trans hf
      refine lv_iload_n hx hb dX3_design_30 rfl (lv_at hl 3 rfl) ?_
      refine lv_i2l (v := (a3).toInt64) hx hb dX3_design_31 rfl ?_
      refine lv_lconst (v := (0 : Int64)) hx hb dX3_design_32 (by decide) ?_
      refine lv_iconst (v := (1 : Int32)) hx hb dX3_design_33 (by decide) ?_
      refine lv_aload_n hx hb dX3_design_34 rfl (lv_at hl 0 rfl) ?_
      refine m_get X hK hH 3 (by decide) rfl (mg_3 _ _) q1062 dX3_design_35 ?_
      refine lv_iload_n hx hb dX3_design_38 rfl (lv_at hl 1 rfl) ?_
      obtain ⟨v4, hv, hf⟩ := bd hf
      refine m_iald X hK hH 3 (mc_3 _ _) hv dX3_design_39 ?_
      refine lv_ishl hx hb dX3_design_40 ?_
      refine lv_iconst (v := (1 : Int32)) hx hb dX3_design_41 (by decide) ?_
      refine lv_isub hx hb dX3_design_42 ?_
      refine lv_i2l (v := ((((1 : Int32) <<< (v4 &&& 31)) - (1 : Int32))).toInt64) hx hb dX3_design_43 rfl ?_
      obtain ⟨v5, hv, hf⟩ := bd hf
      refine r_Si (As := [.long ((a3).toInt64), .long (0 : Int64), .long (((((1 : Int32) <<< (v4 &&& 31)) - (1 : Int32))).toInt64)]) (rest := []) X (met_X3_isIn l G _ N ((a3).toInt64) (0 : Int64) (((((1 : Int32) <<< (v4 &&& 31)) - (1 : Int32))).toInt64) v5 hv) cs_X3_isIn q1015 rfl rfl hl.1 (Nat.le_of_ble_eq_true rfl) ⟨Nat.le_of_ble_eq_true rfl, Nat.le_of_ble_eq_true rfl⟩ ⟨Nat.le_refl _, Nat.le_refl _⟩ dX3_design_44 hK hH hS (fun H locs hH hS => ?_)
      refine lv_if_ne (tgt := 52) hx hb dX3_design_47 (by decide) (fun c_ => ?_) (fun c_ => ?_)
      · have hf := (if_neg c_).symm.trans hf
        refine lv_aload_n hx hb dX3_design_52 rfl (lv_at hl 0 rfl) ?_
        refine lv_iload_n hx hb dX3_design_53 rfl (lv_at hl 1 rfl) ?_
        obtain ⟨v6, hv, hf⟩ := bd hf
        refine r_Vi (As := [.int a1]) (rest := []) X (met_X3_lays l G _ _ _ N st a1 v6.1 v6.2 hv) cv_X3_lays q1240 (m_recv hK hH) rfl rfl hl.1 (Nat.le_of_ble_eq_true rfl) ⟨Nat.le_of_ble_eq_true rfl, Nat.le_of_ble_eq_true rfl⟩ ⟨Nat.le_refl _, Nat.le_refl _⟩ dX3_design_54 hK hH hS (fun H locs hH hS => ?_)
        refine lv_if_ne (tgt := 63) hx hb dX3_design_57 (by decide) (fun c_ => ?_) (fun c_ => ?_)
        · have hf := (if_neg c_).symm.trans hf
          refine lv_iconst (v := (0 : Int32)) hx hb dX3_design_63 (by decide) ?_
          refine lv_istore (lv' := [(4, .int (0 : Int32)), (0, .ref M), (1, .int a1), (2, .int a2), (3, .int a3)]) hx hb dX3_design_64 hl (by decide) rfl (fun ls hl => ?_)
          refine lv_iconst (v := (0 : Int32)) hx hb dX3_design_66 (by decide) ?_
          refine lv_istore (lv' := [(5, .int (0 : Int32)), (4, .int (0 : Int32)), (0, .ref M), (1, .int a1), (2, .int a2), (3, .int a3)]) hx hb dX3_design_67 hl (by decide) rfl (fun ls hl => ?_)
          obtain ⟨r69_11, hr, hf⟩ := bd hf
          refine L69 a1 a2 a3 v6.1 N _ r69_11 hr ?_ _ _ _ (lv_sub hl [2, 3, 4, 5, 1, 0] rfl) hH hS
          intro ls H locs hl hH hS
          refine lv_iload hx hb dX3_design_206 (lv_at hl 0 rfl) ?_
          cases hf
          exact r_iret X dX3_design_208 (Nat.le_refl _) (Nat.le_refl _) rfl hH hS
        · have hf := (if_pos c_).symm.trans hf
          refine lv_bipush (v := (-5 : Int32)) hx hb dX3_design_60 (by decide) ?_
          cases hf
          exact r_iret X dX3_design_62 (Nat.le_refl _) (Nat.le_refl _) rfl hH hS
      · have hf := (if_pos c_).symm.trans hf
        refine lv_iconst (v := (-1 : Int32)) hx hb dX3_design_50 (by decide) ?_
        cases hf
        exact r_iret X dX3_design_51 (Nat.le_refl _) (Nat.le_refl _) rfl hH hS
  · have hf := (if_neg c_).symm.trans hf
    refine lv_aload_n hx hb dX3_design_8 rfl (lv_at hl 0 rfl) ?_
    refine lv_iload_n hx hb dX3_design_9 rfl (lv_at hl 1 rfl) ?_
    obtain ⟨v12, hv, hf⟩ := bd hf
    refine r_Vi (As := [.int a1]) (rest := []) X (met_X3_lacks l G _ _ _ N st a1 v12 hv) cv_X3_lacks q1236 (m_recv hK hH) rfl rfl hl.1 (Nat.le_of_ble_eq_true rfl) ⟨Nat.le_of_ble_eq_true rfl, Nat.le_of_ble_eq_true rfl⟩ ⟨Nat.le_refl _, Nat.le_refl _⟩ dX3_design_10 hK hH hS (fun H locs hH hS => ?_)
    cases hf
    exact r_iret X dX3_design_13 (Nat.le_refl _) (Nat.le_refl _) rfl hH hS
theorem cv_X3_dual : CalV "WordBenchModel" yX3_dual cX3_dual 6 (some .int) 2 := ⟨q1220, q1221, q57, q1222, by decide +kernel⟩
set_option maxHeartbeats 4000000 in
theorem met_X3_dual (l : Launch) (G : GG) (sz M : Nat) (rst : Nat → Option AE) (N : Nat) (st : MS) (a1 : Int32) (a2 : Int32) (stf : MS) (rf : Int32) (hf : f_X3_dual N st a1 a2 = some (stf, rf)) : Con l yX3_dual cX3_dual 6 (some .int) 5 0 0 G (sz, MH M st rst) [.ref M, .int a1, .int a2] (sz, MH M stf rst) (some (.int rf)) := by
  refine con_of (by decide) (Nat.le_of_ble_eq_true rfl) ?_
  intro p e s m below meth c ls X hK hH hl hS
  have hx := X.1
  have hb := X.2.1
  have hown : s.vm.findClass RX3 = some m.cls := X.2.2.2.2.1
  have hts := X.2.2.2.2.2.1
  have hl : lv_has ls 6 [(0, .ref M), (1, .int a1), (2, .int a2)] := hl
  unfold f_X3_dual at hf
  have L66 : ∀ (c2 : Int32) (c3 : Int32) (n : Nat) (s66 : (Int32 × MS)) (r66 : MS), lp (f_X3_dual_b66 N c2 c3) n s66 = some r66 → (∀ (ls : Array Slot) (H : Heap) (locs : List Loc), lv_has ls 6 [(3, .int c3)] → HH G (sz, MH M r66 rst) H → va_S (AG G) s.heap H locs → W p l e (rm_ 5 0 0) s m ([.ref M, .int a1, .int a2] : List Value).toArray below meth c H locs 0 0 (MQ below (PostC G (sz, MH M stf rst) (some (.int rf))) ([.ref M, .int a1, .int a2] : List Value).toArray s 0 0 (AG G)) (F0 m 92 ls [])) → ∀ (ls : Array Slot) (H : Heap) (locs : List Loc), lv_has ls 6 [(0, .ref M), (2, .int c2), (3, .int c3), (4, .int s66.1)] → HH G (sz, MH M s66.2 rst) H → va_S (AG G) s.heap H locs → W p l e (rm_ 5 0 0) s m ([.ref M, .int a1, .int a2] : List Value).toArray below meth c H locs 0 0 (MQ below (PostC G (sz, MH M stf rst) (some (.int rf))) ([.ref M, .int a1, .int a2] : List Value).toArray s 0 0 (AG G)) (F0 m 66 ls []) := by
    intro c2 c3 n s66 r66 hr hq
    refine lp_ind (P := fun s66 => ∀ (ls : Array Slot) (H : Heap) (locs : List Loc), lv_has ls 6 [(0, .ref M), (2, .int c2), (3, .int c3), (4, .int s66.1)] → HH G (sz, MH M s66.2 rst) H → va_S (AG G) s.heap H locs → W p l e (rm_ 5 0 0) s m ([.ref M, .int a1, .int a2] : List Value).toArray below meth c H locs 0 0 (MQ below (PostC G (sz, MH M stf rst) (some (.int rf))) ([.ref M, .int a1, .int a2] : List Value).toArray s 0 0 (AG G)) (F0 m 66 ls [])) (Q := fun r66 => ∀ (ls : Array Slot) (H : Heap) (locs : List Loc), lv_has ls 6 [(3, .int c3)] → HH G (sz, MH M r66 rst) H → va_S (AG G) s.heap H locs → W p l e (rm_ 5 0 0) s m ([.ref M, .int a1, .int a2] : List Value).toArray below meth c H locs 0 0 (MQ below (PostC G (sz, MH M stf rst) (some (.int rf))) ([.ref M, .int a1, .int a2] : List Value).toArray s 0 0 (AG G)) (F0 m 92 ls [])) ?_ n s66 r66 hr hq
    intro s66 x66 hf hx66 ls H locs hl hH hS
    unfold f_X3_dual_b66 at hf
    refine lv_iload hx hb dX3_dual_66 (lv_at hl 3 rfl) ?_
    refine lv_iload_n hx hb dX3_dual_68 rfl (lv_at hl 2 rfl) ?_
    refine lv_icmp_ge (tgt := 92) hx hb dX3_dual_69 (by decide) (fun c_ => ?_) (fun c_ => ?_)
    · have hf := (if_pos c_).symm.trans hf
      cases hf
      exact hx66 _ _ _ (lv_sub hl [2] rfl) hH hS
    · have hf := (if_neg c_).symm.trans hf
      refine lv_aload_n hx hb dX3_dual_72 rfl (lv_at hl 0 rfl) ?_
      refine lv_iload_n hx hb dX3_dual_73 rfl (lv_at hl 1 rfl) ?_
      refine lv_aload_n hx hb dX3_dual_74 rfl (lv_at hl 0 rfl) ?_
      refine m_get X hK hH 9 (by decide) rfl (mg_9 _ _) q1068 dX3_dual_75 ?_
      refine lv_iload hx hb dX3_dual_78 (lv_at hl 3 rfl) ?_
      obtain ⟨v9, hv, hf⟩ := bd hf
      refine m_lald X hK hH 8 (mc_9 _ _) hv dX3_dual_80 ?_
      obtain ⟨v10, hv, hf⟩ := bd hf
      refine r_Vi (As := [.int c2, .long v9]) (rest := []) X (met_X3_push l G _ _ _ N s66.2 c2 v9 v10.1 v10.2 hv) cv_X3_push q1160 (m_recv hK hH) rfl rfl hl.1 (Nat.le_of_ble_eq_true rfl) ⟨Nat.le_of_ble_eq_true rfl, Nat.le_of_ble_eq_true rfl⟩ ⟨Nat.le_refl _, Nat.le_refl _⟩ dX3_dual_81 hK hH hS (fun H locs hH hS => ?_)
      refine lv_istore (lv' := [(5, .int v10.2), (0, .ref M), (2, .int c2), (3, .int c3), (4, .int s66.1)]) hx hb dX3_dual_84 hl (by decide) rfl (fun ls hl => ?_)
      refine lv_iinc (v := (s66.1 + 1)) (lv' := [(4, .int (s66.1 + 1)), (5, .int v10.2), (0, .ref M), (2, .int c2), (3, .int c3)]) hx hb dX3_dual_86 hl (k := 4) rfl rfl (by decide) rfl (fun ls hl => ?_)
      refine lv_goto (tgt := 66) hx hb dX3_dual_89 (by decide) ?_
      cases hf
      exact hx66 _ _ _ (lv_sub hl [2, 3, 4, 0] rfl) hH hS
  refine lv_iload_n hx hb dX3_dual_0 rfl (lv_at hl 1 rfl) ?_
  obtain ⟨v1, hv, hf⟩ := bd hf
  refine r_Si (As := [.int a1]) (rest := []) X (met_X3_isPlace l G _ N a1 v1 hv) cs_X3_isPlace q1136 rfl rfl hl.1 (Nat.le_of_ble_eq_true rfl) ⟨Nat.le_of_ble_eq_true rfl, Nat.le_of_ble_eq_true rfl⟩ ⟨Nat.le_refl _, Nat.le_refl _⟩ dX3_dual_1 hK hH hS (fun H locs hH hS => ?_)
  refine lv_if_eq (tgt := 14) hx hb dX3_dual_4 (by decide) (fun c_ => ?_) (fun c_ => ?_)
  · have hf := (if_pos c_).symm.trans hf
    refine lv_iconst (v := (-1 : Int32)) hx hb dX3_dual_14 (by decide) ?_
    cases hf
    exact r_iret X dX3_dual_15 (Nat.le_refl _) (Nat.le_refl _) rfl hH hS
  · have hf := (if_neg c_).symm.trans hf
    refine lv_iload_n hx hb dX3_dual_7 rfl (lv_at hl 2 rfl) ?_
    obtain ⟨v2, hv, hf⟩ := bd hf
    refine r_Si (As := [.int a2]) (rest := []) X (met_X3_isPlace l G _ N a2 v2 hv) cs_X3_isPlace q1136 rfl rfl hl.1 (Nat.le_of_ble_eq_true rfl) ⟨Nat.le_of_ble_eq_true rfl, Nat.le_of_ble_eq_true rfl⟩ ⟨Nat.le_refl _, Nat.le_refl _⟩ dX3_dual_8 hK hH hS (fun H locs hH hS => ?_)
    refine lv_if_ne (tgt := 16) hx hb dX3_dual_11 (by decide) (fun c_ => ?_) (fun c_ => ?_)
    · have hf := (if_neg c_).symm.trans hf
      refine lv_aload_n hx hb dX3_dual_16 rfl (lv_at hl 0 rfl) ?_
      refine lv_iload_n hx hb dX3_dual_17 rfl (lv_at hl 1 rfl) ?_
      obtain ⟨v3, hv, hf⟩ := bd hf
      refine r_Vi (As := [.int a1]) (rest := []) X (met_X3_isEmpty l G _ _ _ N st a1 v3 hv) cv_X3_isEmpty q1148 (m_recv hK hH) rfl rfl hl.1 (Nat.le_of_ble_eq_true rfl) ⟨Nat.le_of_ble_eq_true rfl, Nat.le_of_ble_eq_true rfl⟩ ⟨Nat.le_refl _, Nat.le_refl _⟩ dX3_dual_18 hK hH hS (fun H locs hH hS => ?_)
      refine lv_if_eq (tgt := 27) hx hb dX3_dual_21 (by decide) (fun c_ => ?_) (fun c_ => ?_)
      · have hf := (if_pos c_).symm.trans hf
        refine lv_aload_n hx hb dX3_dual_27 rfl (lv_at hl 0 rfl) ?_
        refine m_get X hK hH 1 (by decide) rfl (mg_1 _ _) q1060 dX3_dual_28 ?_
        refine lv_iload_n hx hb dX3_dual_31 rfl (lv_at hl 1 rfl) ?_
        obtain ⟨v4, hv, hf⟩ := bd hf
        refine m_iald X hK hH 1 (mc_1 _ _) hv dX3_dual_32 ?_
        refine lv_if_ne (tgt := 39) hx hb dX3_dual_33 (by decide) (fun c_ => ?_) (fun c_ => ?_)
        · have hf := (if_neg c_).symm.trans hf
          refine lv_aload_n hx hb dX3_dual_39 rfl (lv_at hl 0 rfl) ?_
          refine lv_iload_n hx hb dX3_dual_40 rfl (lv_at hl 1 rfl) ?_
          obtain ⟨v5, hv, hf⟩ := bd hf
          refine r_Vi (As := [.int a1]) (rest := []) X (met_X3_dualOf l G _ _ _ N st a1 v5.1 v5.2 hv) cv_X3_dualOf q1223 (m_recv hK hH) rfl rfl hl.1 (Nat.le_of_ble_eq_true rfl) ⟨Nat.le_of_ble_eq_true rfl, Nat.le_of_ble_eq_true rfl⟩ ⟨Nat.le_refl _, Nat.le_refl _⟩ dX3_dual_41 hK hH hS (fun H locs hH hS => ?_)
          refine lv_istore_n (lv' := [(3, .int v5.2), (0, .ref M), (1, .int a1), (2, .int a2)]) hx hb dX3_dual_44 rfl hl (by decide) rfl (fun ls hl => ?_)
          refine lv_aload_n hx hb dX3_dual_45 rfl (lv_at hl 1 rfl) ?_
          refine lv_iload_n hx hb dX3_dual_46 rfl (lv_at hl 3 rfl) ?_
          refine lv_iconst (v := (1 : Int32)) hx hb dX3_dual_47 (by decide) ?_
          refine lv_aload_n hx hb dX3_dual_48 rfl (lv_at hl 1 rfl) ?_
          refine m_get X hK hH 2 (by decide) rfl (mg_2 _ _) q1061 dX3_dual_49 ?_
          refine lv_iload_n hx hb dX3_dual_52 rfl (lv_at hl 2 rfl) ?_
          obtain ⟨v6, hv, hf⟩ := bd hf
          refine m_iald X hK hH 2 (mc_2 _ _) hv dX3_dual_53 ?_
          refine lv_aload_n hx hb dX3_dual_54 rfl (lv_at hl 1 rfl) ?_
          refine m_get X hK hH 3 (by decide) rfl (mg_3 _ _) q1062 dX3_dual_55 ?_
          refine lv_iload_n hx hb dX3_dual_58 rfl (lv_at hl 2 rfl) ?_
          obtain ⟨v7, hv, hf⟩ := bd hf
          refine m_iald X hK hH 3 (mc_3 _ _) hv dX3_dual_59 ?_
          obtain ⟨v8, hv, hf⟩ := bd hf
          refine r_Vv (As := [.int a2, .int (1 : Int32), .int v6, .int v7]) (rest := []) X (met_X3_begin l G _ _ _ N v5.1 a2 (1 : Int32) v6 v7 v8 hv) cv_X3_begin q1140 (m_recv hK hH) rfl rfl hl.1 (Nat.le_of_ble_eq_true rfl) ⟨Nat.le_of_ble_eq_true rfl, Nat.le_of_ble_eq_true rfl⟩ ⟨Nat.le_refl _, Nat.le_refl _⟩ dX3_dual_60 hK hH hS (fun H locs hH hS => ?_)
          refine lv_iconst (v := (0 : Int32)) hx hb dX3_dual_63 (by decide) ?_
          refine lv_istore (lv' := [(4, .int (0 : Int32)), (3, .int v5.2), (0, .ref M), (1, .int a1), (2, .int a2)]) hx hb dX3_dual_64 hl (by decide) rfl (fun ls hl => ?_)
          obtain ⟨r66_11, hr, hf⟩ := bd hf
          refine L66 a2 v5.2 N _ r66_11 hr ?_ _ _ _ (lv_sub hl [2, 4, 1, 0] rfl) hH hS
          intro ls H locs hl hH hS
          refine lv_iload_n hx hb dX3_dual_92 rfl (lv_at hl 0 rfl) ?_
          cases hf
          exact r_iret X dX3_dual_93 (Nat.le_refl _) (Nat.le_refl _) rfl hH hS
        · have hf := (if_pos c_).symm.trans hf
          refine lv_bipush (v := (-12 : Int32)) hx hb dX3_dual_36 (by decide) ?_
          cases hf
          exact r_iret X dX3_dual_38 (Nat.le_refl _) (Nat.le_refl _) rfl hH hS
      · have hf := (if_neg c_).symm.trans hf
        refine lv_bipush (v := (-11 : Int32)) hx hb dX3_dual_24 (by decide) ?_
        cases hf
        exact r_iret X dX3_dual_26 (Nat.le_refl _) (Nat.le_refl _) rfl hH hS
    · have hf := (if_pos c_).symm.trans hf
      refine lv_iconst (v := (-1 : Int32)) hx hb dX3_dual_14 (by decide) ?_
      cases hf
      exact r_iret X dX3_dual_15 (Nat.le_refl _) (Nat.le_refl _) rfl hH hS
theorem cv_X3_element : CalV "WordBenchModel" yX3_element cX3_element 3 (some .long) 2 := ⟨q1398, q1399, q57, q1400, by decide +kernel⟩
set_option maxHeartbeats 4000000 in
theorem met_X3_element (l : Launch) (G : GG) (sz M : Nat) (rst : Nat → Option AE) (N : Nat) (st : MS) (a1 : Int32) (a2 : Int32) (stf : MS) (rf : Int64) (hf : f_X3_element N st a1 a2 = some (stf, rf)) : Con l yX3_element cX3_element 3 (some .long) 2 0 0 G (sz, MH M st rst) [.ref M, .int a1, .int a2] (sz, MH M stf rst) (some (.long rf)) := by
  refine con_of (by decide) (Nat.le_of_ble_eq_true rfl) ?_
  intro p e s m below meth c ls X hK hH hl hS
  have hx := X.1
  have hb := X.2.1
  have hown : s.vm.findClass RX3 = some m.cls := X.2.2.2.2.1
  have hts := X.2.2.2.2.2.1
  have hl : lv_has ls 3 [(0, .ref M), (1, .int a1), (2, .int a2)] := hl
  unfold f_X3_element at hf
  have J45 : ∀ (d1 : Int32) (d2 : Int32) (k0 : Int32) (u45 : MS), f_X3_element_j45 N d1 d2 k0 u45 = some (stf, rf) → ∀ (ls : Array Slot) (H : Heap) (locs : List Loc), lv_has ls 3 [(0, .ref M), (1, .int d1), (2, .int d2)] → HH G (sz, MH M u45 rst) H → va_S (AG G) s.heap H locs → W p l e (rm_ 2 0 0) s m ([.ref M, .int a1, .int a2] : List Value).toArray below meth c H locs 0 0 (MQ below (PostC G (sz, MH M stf rst) (some (.long rf))) ([.ref M, .int a1, .int a2] : List Value).toArray s 0 0 (AG G)) (F0 m 45 ls [.int k0, .ref M]) := by
    intro d1 d2 k0 u45 hf ls H locs hl hH hS
    unfold f_X3_element_j45 at hf
    refine m_put (ty := .int) X hK hH hS 0 (by decide) rfl (mp_0 _ _ _) q1059 rfl (by decide +kernel) rfl rfl dX3_element_45 (fun H locs hH hS => ?_)
    refine lv_aload_n hx hb dX3_element_48 rfl (lv_at hl 0 rfl) ?_
    refine m_get X hK hH 0 (by decide) rfl (mg_0 _ _) q1059 dX3_element_49 ?_
    refine lv_if_le (tgt := 59) hx hb dX3_element_52 (by decide) (fun c_ => ?_) (fun c_ => ?_)
    · have hf := (if_pos c_).symm.trans hf
      refine lv_aload_n hx hb dX3_element_59 rfl (lv_at hl 0 rfl) ?_
      refine m_get X hK hH 23 (by decide) rfl (mg_23 _ _) q1082 dX3_element_60 ?_
      refine lv_sipush (v := (200 : Int32)) hx hb dX3_element_63 (by decide) ?_
      refine lv_iload_n hx hb dX3_element_66 rfl (lv_at hl 1 rfl) ?_
      refine lv_imul hx hb dX3_element_67 ?_
      refine lv_iload_n hx hb dX3_element_68 rfl (lv_at hl 2 rfl) ?_
      refine lv_iadd hx hb dX3_element_69 ?_
      obtain ⟨v3, hv, hf⟩ := bd hf
      refine m_lald X hK hH 18 (mc_23 _ _) hv dX3_element_70 ?_
      cases hf
      exact r_lret X dX3_element_71 (Nat.le_refl _) (Nat.le_refl _) rfl hH hS
    · have hf := (if_neg c_).symm.trans hf
      refine lv_lconst (v := (0 : Int64)) hx hb dX3_element_55 (by decide) ?_
      refine lv_goto (tgt := 71) hx hb dX3_element_56 (by decide) ?_
      cases hf
      exact r_lret X dX3_element_71 (Nat.le_refl _) (Nat.le_refl _) rfl hH hS
  refine lv_aload_n hx hb dX3_element_0 rfl (lv_at hl 0 rfl) ?_
  refine lv_iload_n hx hb dX3_element_1 rfl (lv_at hl 1 rfl) ?_
  obtain ⟨v1, hv, hf⟩ := bd hf
  refine r_Si (As := [.int a1]) (rest := [.ref M]) X (met_X3_isShelf l G _ N a1 v1 hv) cs_X3_isShelf q1390 rfl rfl hl.1 (Nat.le_of_ble_eq_true rfl) ⟨Nat.le_of_ble_eq_true rfl, Nat.le_of_ble_eq_true rfl⟩ ⟨Nat.le_refl _, Nat.le_refl _⟩ dX3_element_2 hK hH hS (fun H locs hH hS => ?_)
  refine lv_if_ne (tgt := 12) hx hb dX3_element_5 (by decide) (fun c_ => ?_) (fun c_ => ?_)
  · have hf := (if_neg c_).symm.trans hf
    refine lv_aload_n hx hb dX3_element_12 rfl (lv_at hl 0 rfl) ?_
    refine m_get X hK hH 19 (by decide) rfl (mg_19 _ _) q1078 dX3_element_13 ?_
    refine lv_iload_n hx hb dX3_element_16 rfl (lv_at hl 1 rfl) ?_
    obtain ⟨v2, hv, hf⟩ := bd hf
    refine m_iald X hK hH 14 (mc_19 _ _) hv dX3_element_17 ?_
    refine lv_iconst (v := (3 : Int32)) hx hb dX3_element_18 (by decide) ?_
    refine lv_icmp_lt (tgt := 40) hx hb dX3_element_19 (by decide) (fun c_ => ?_) (fun c_ => ?_)
    · have hf := (if_pos c_).symm.trans hf
      refine lv_iconst (v := (2 : Int32)) hx hb dX3_element_40 (by decide) ?_
      refine lv_goto (tgt := 45) hx hb dX3_element_41 (by decide) ?_
      exact J45 a1 a2 (2 : Int32) st hf _ _ _ (lv_sub hl [0, 1, 2] rfl) hH hS
    · have hf := (if_neg c_).symm.trans hf
      refine lv_iload_n hx hb dX3_element_22 rfl (lv_at hl 2 rfl) ?_
      refine lv_i2l (v := (a2).toInt64) hx hb dX3_element_23 rfl ?_
      refine lv_lconst (v := (0 : Int64)) hx hb dX3_element_24 (by decide) ?_
      refine lv_aload_n hx hb dX3_element_25 rfl (lv_at hl 0 rfl) ?_
      refine m_get X hK hH 22 (by decide) rfl (mg_22 _ _) q1081 dX3_element_26 ?_
      refine lv_iload_n hx hb dX3_element_29 rfl (lv_at hl 1 rfl) ?_
      obtain ⟨v4, hv, hf⟩ := bd hf
      refine m_iald X hK hH 17 (mc_22 _ _) hv dX3_element_30 ?_
      refine lv_iconst (v := (1 : Int32)) hx hb dX3_element_31 (by decide) ?_
      refine lv_isub hx hb dX3_element_32 ?_
      refine lv_i2l (v := ((v4 - (1 : Int32))).toInt64) hx hb dX3_element_33 rfl ?_
      obtain ⟨v5, hv, hf⟩ := bd hf
      refine r_Si (As := [.long ((a2).toInt64), .long (0 : Int64), .long (((v4 - (1 : Int32))).toInt64)]) (rest := [.ref M]) X (met_X3_isIn l G _ N ((a2).toInt64) (0 : Int64) (((v4 - (1 : Int32))).toInt64) v5 hv) cs_X3_isIn q1015 rfl rfl hl.1 (Nat.le_of_ble_eq_true rfl) ⟨Nat.le_of_ble_eq_true rfl, Nat.le_of_ble_eq_true rfl⟩ ⟨Nat.le_refl _, Nat.le_refl _⟩ dX3_element_34 hK hH hS (fun H locs hH hS => ?_)
      refine lv_if_ne (tgt := 44) hx hb dX3_element_37 (by decide) (fun c_ => ?_) (fun c_ => ?_)
      · have hf := (if_neg c_).symm.trans hf
        refine lv_iconst (v := (0 : Int32)) hx hb dX3_element_44 (by decide) ?_
        exact J45 a1 a2 (0 : Int32) st hf _ _ _ (lv_sub hl [0, 1, 2] rfl) hH hS
      · have hf := (if_pos c_).symm.trans hf
        refine lv_iconst (v := (2 : Int32)) hx hb dX3_element_40 (by decide) ?_
        refine lv_goto (tgt := 45) hx hb dX3_element_41 (by decide) ?_
        exact J45 a1 a2 (2 : Int32) st hf _ _ _ (lv_sub hl [0, 1, 2] rfl) hH hS
  · have hf := (if_pos c_).symm.trans hf
    refine lv_iconst (v := (1 : Int32)) hx hb dX3_element_8 (by decide) ?_
    refine lv_goto (tgt := 45) hx hb dX3_element_9 (by decide) ?_
    exact J45 a1 a2 (1 : Int32) st hf _ _ _ (lv_sub hl [0, 1, 2] rfl) hH hS
theorem cv_X3_empty : CalV "WordBenchModel" yX3_empty cX3_empty 3 (some .int) 1 := ⟨q1169, q1170, q57, q1171, by decide +kernel⟩
set_option maxHeartbeats 4000000 in
theorem met_X3_empty (l : Launch) (G : GG) (sz M : Nat) (rst : Nat → Option AE) (N : Nat) (st : MS) (a1 : Int32) (stf : MS) (rf : Int32) (hf : f_X3_empty N st a1 = some (stf, rf)) : Con l yX3_empty cX3_empty 3 (some .int) 2 0 0 G (sz, MH M st rst) [.ref M, .int a1] (sz, MH M stf rst) (some (.int rf)) := by
  refine con_of (by decide) (Nat.le_of_ble_eq_true rfl) ?_
  intro p e s m below meth c ls X hK hH hl hS
  have hx := X.1
  have hb := X.2.1
  have hown : s.vm.findClass RX3 = some m.cls := X.2.2.2.2.1
  have hts := X.2.2.2.2.2.1
  have hl : lv_has ls 3 [(0, .ref M), (1, .int a1)] := hl
  unfold f_X3_empty at hf
  have J22 : ∀ (d1 : Int32) (k0 : Int32) (u22 : MS), f_X3_empty_j22 N d1 k0 u22 = some (stf, rf) → ∀ (ls : Array Slot) (H : Heap) (locs : List Loc), lv_has ls 3 [(0, .ref M), (1, .int d1)] → HH G (sz, MH M u22 rst) H → va_S (AG G) s.heap H locs → W p l e (rm_ 2 0 0) s m ([.ref M, .int a1] : List Value).toArray below meth c H locs 0 0 (MQ below (PostC G (sz, MH M stf rst) (some (.int rf))) ([.ref M, .int a1] : List Value).toArray s 0 0 (AG G)) (F0 m 22 ls [.int k0]) := by
    intro d1 k0 u22 hf ls H locs hl hH hS
    unfold f_X3_empty_j22 at hf
    refine lv_istore_n (lv' := [(2, .int k0), (0, .ref M), (1, .int d1)]) hx hb dX3_empty_22 rfl hl (by decide) rfl (fun ls hl => ?_)
    refine lv_aload_n hx hb dX3_empty_23 rfl (lv_at hl 1 rfl) ?_
    refine m_get X hK hH 1 (by decide) rfl (mg_1 _ _) q1060 dX3_empty_24 ?_
    refine lv_iload_n hx hb dX3_empty_27 rfl (lv_at hl 2 rfl) ?_
    refine lv_iconst (v := (-1 : Int32)) hx hb dX3_empty_28 (by decide) ?_
    obtain ⟨w3, hv, hf⟩ := bd hf
    refine m_iast X hK hH hS 1 (mc_1 _ _) hv (mt_1 _ _ _) dX3_empty_29 (fun H locs hH hS => ?_)
    refine lv_iload_n hx hb dX3_empty_30 rfl (lv_at hl 0 rfl) ?_
    cases hf
    exact r_iret X dX3_empty_31 (Nat.le_refl _) (Nat.le_refl _) rfl hH hS
  refine lv_iload_n hx hb dX3_empty_0 rfl (lv_at hl 1 rfl) ?_
  obtain ⟨v1, hv, hf⟩ := bd hf
  refine r_Si (As := [.int a1]) (rest := []) X (met_X3_isPlace l G _ N a1 v1 hv) cs_X3_isPlace q1136 rfl rfl hl.1 (Nat.le_of_ble_eq_true rfl) ⟨Nat.le_of_ble_eq_true rfl, Nat.le_of_ble_eq_true rfl⟩ ⟨Nat.le_refl _, Nat.le_refl _⟩ dX3_empty_1 hK hH hS (fun H locs hH hS => ?_)
  refine lv_if_ne (tgt := 9) hx hb dX3_empty_4 (by decide) (fun c_ => ?_) (fun c_ => ?_)
  · have hf := (if_neg c_).symm.trans hf
    refine lv_aload_n hx hb dX3_empty_9 rfl (lv_at hl 0 rfl) ?_
    refine lv_iload_n hx hb dX3_empty_10 rfl (lv_at hl 1 rfl) ?_
    obtain ⟨v2, hv, hf⟩ := bd hf
    refine r_Vi (As := [.int a1]) (rest := []) X (met_X3_isEmpty l G _ _ _ N st a1 v2 hv) cv_X3_isEmpty q1148 (m_recv hK hH) rfl rfl hl.1 (Nat.le_of_ble_eq_true rfl) ⟨Nat.le_of_ble_eq_true rfl, Nat.le_of_ble_eq_true rfl⟩ ⟨Nat.le_refl _, Nat.le_refl _⟩ dX3_empty_11 hK hH hS (fun H locs hH hS => ?_)
    refine lv_if_eq (tgt := 21) hx hb dX3_empty_14 (by decide) (fun c_ => ?_) (fun c_ => ?_)
    · have hf := (if_pos c_).symm.trans hf
      refine lv_iconst (v := (1 : Int32)) hx hb dX3_empty_21 (by decide) ?_
      exact J22 a1 (1 : Int32) st hf _ _ _ (lv_sub hl [0, 1] rfl) hH hS
    · have hf := (if_neg c_).symm.trans hf
      refine lv_iconst (v := (0 : Int32)) hx hb dX3_empty_17 (by decide) ?_
      refine lv_goto (tgt := 22) hx hb dX3_empty_18 (by decide) ?_
      exact J22 a1 (0 : Int32) st hf _ _ _ (lv_sub hl [0, 1] rfl) hH hS
  · have hf := (if_pos c_).symm.trans hf
    refine lv_iconst (v := (-1 : Int32)) hx hb dX3_empty_7 (by decide) ?_
    cases hf
    exact r_iret X dX3_empty_8 (Nat.le_refl _) (Nat.le_refl _) rfl hH hS
theorem cv_X3_form : CalV "WordBenchModel" yX3_form cX3_form 3 (some .int) 1 := ⟨q1212, q1213, q57, q1214, by decide +kernel⟩
set_option maxHeartbeats 4000000 in
theorem met_X3_form (l : Launch) (G : GG) (sz M : Nat) (rst : Nat → Option AE) (N : Nat) (st : MS) (a1 : Int32) (stf : MS) (rf : Int32) (hf : f_X3_form N st a1 = some (stf, rf)) : Con l yX3_form cX3_form 3 (some .int) 4 0 0 G (sz, MH M st rst) [.ref M, .int a1] (sz, MH M stf rst) (some (.int rf)) := by
  refine con_of (by decide) (Nat.le_of_ble_eq_true rfl) ?_
  intro p e s m below meth c ls X hK hH hl hS
  have hx := X.1
  have hb := X.2.1
  have hown : s.vm.findClass RX3 = some m.cls := X.2.2.2.2.1
  have hts := X.2.2.2.2.2.1
  have hl : lv_has ls 3 [(0, .ref M), (1, .int a1)] := hl
  unfold f_X3_form at hf
  have L75 : ∀ (c1 : Int32) (n : Nat) (s75 : (Int32 × MS)) (r75 : MS), lp (f_X3_form_b75 N c1) n s75 = some r75 → (∀ (ls : Array Slot) (H : Heap) (locs : List Loc), lv_has ls 3 [(0, .ref M)] → HH G (sz, MH M r75 rst) H → va_S (AG G) s.heap H locs → W p l e (rm_ 4 0 0) s m ([.ref M, .int a1] : List Value).toArray below meth c H locs 0 0 (MQ below (PostC G (sz, MH M stf rst) (some (.int rf))) ([.ref M, .int a1] : List Value).toArray s 0 0 (AG G)) (F0 m 107 ls [])) → ∀ (ls : Array Slot) (H : Heap) (locs : List Loc), lv_has ls 3 [(0, .ref M), (1, .int c1), (2, .int s75.1)] → HH G (sz, MH M s75.2 rst) H → va_S (AG G) s.heap H locs → W p l e (rm_ 4 0 0) s m ([.ref M, .int a1] : List Value).toArray below meth c H locs 0 0 (MQ below (PostC G (sz, MH M stf rst) (some (.int rf))) ([.ref M, .int a1] : List Value).toArray s 0 0 (AG G)) (F0 m 75 ls []) := by
    intro c1 n s75 r75 hr hq
    refine lp_ind (P := fun s75 => ∀ (ls : Array Slot) (H : Heap) (locs : List Loc), lv_has ls 3 [(0, .ref M), (1, .int c1), (2, .int s75.1)] → HH G (sz, MH M s75.2 rst) H → va_S (AG G) s.heap H locs → W p l e (rm_ 4 0 0) s m ([.ref M, .int a1] : List Value).toArray below meth c H locs 0 0 (MQ below (PostC G (sz, MH M stf rst) (some (.int rf))) ([.ref M, .int a1] : List Value).toArray s 0 0 (AG G)) (F0 m 75 ls [])) (Q := fun r75 => ∀ (ls : Array Slot) (H : Heap) (locs : List Loc), lv_has ls 3 [(0, .ref M)] → HH G (sz, MH M r75 rst) H → va_S (AG G) s.heap H locs → W p l e (rm_ 4 0 0) s m ([.ref M, .int a1] : List Value).toArray below meth c H locs 0 0 (MQ below (PostC G (sz, MH M stf rst) (some (.int rf))) ([.ref M, .int a1] : List Value).toArray s 0 0 (AG G)) (F0 m 107 ls [])) ?_ n s75 r75 hr hq
    intro s75 x75 hf hx75 ls H locs hl hH hS
    unfold f_X3_form_b75 at hf
    refine lv_iload_n hx hb dX3_form_75 rfl (lv_at hl 2 rfl) ?_
    refine lv_aload_n hx hb dX3_form_76 rfl (lv_at hl 0 rfl) ?_
    refine m_get X hK hH 8 (by decide) rfl (mg_8 _ _) q1067 dX3_form_77 ?_
    refine lv_icmp_ge (tgt := 107) hx hb dX3_form_80 (by decide) (fun c_ => ?_) (fun c_ => ?_)
    · have hf := (if_pos c_).symm.trans hf
      cases hf
      exact hx75 _ _ _ (lv_sub hl [0] rfl) hH hS
    · have hf := (if_neg c_).symm.trans hf
      refine lv_aload_n hx hb dX3_form_83 rfl (lv_at hl 0 rfl) ?_
      refine m_get X hK hH 5 (by decide) rfl (mg_5 _ _) q1064 dX3_form_84 ?_
      refine lv_sipush (v := (200 : Int32)) hx hb dX3_form_87 (by decide) ?_
      refine lv_iload_n hx hb dX3_form_90 rfl (lv_at hl 1 rfl) ?_
      refine lv_imul hx hb dX3_form_91 ?_
      refine lv_iload_n hx hb dX3_form_92 rfl (lv_at hl 2 rfl) ?_
      refine lv_iadd hx hb dX3_form_93 ?_
      refine lv_aload_n hx hb dX3_form_94 rfl (lv_at hl 0 rfl) ?_
      refine m_get X hK hH 6 (by decide) rfl (mg_6 _ _) q1065 dX3_form_95 ?_
      refine lv_iload_n hx hb dX3_form_98 rfl (lv_at hl 2 rfl) ?_
      obtain ⟨v9, hv, hf⟩ := bd hf
      refine m_lald X hK hH 6 (mc_6 _ _) hv dX3_form_99 ?_
      obtain ⟨w10, hv, hf⟩ := bd hf
      refine m_last X hK hH hS 5 (mc_5 _ _) hv (mt_5 _ _ _) dX3_form_100 (fun H locs hH hS => ?_)
      refine lv_iinc (v := (s75.1 + 1)) (lv' := [(2, .int (s75.1 + 1)), (0, .ref M), (1, .int c1)]) hx hb dX3_form_101 hl (k := 2) rfl rfl (by decide) rfl (fun ls hl => ?_)
      refine lv_goto (tgt := 75) hx hb dX3_form_104 (by decide) ?_
      cases hf
      exact hx75 _ _ _ (lv_sub hl [1, 2, 0] rfl) hH hS
  have J62 : ∀ (d1 : Int32) (k0 : Int32) (k1 : Int32) (u62 : MS), f_X3_form_j62 N d1 k0 k1 u62 = some (stf, rf) → ∀ (ls : Array Slot) (H : Heap) (locs : List Loc), lv_has ls 3 [(0, .ref M), (1, .int d1)] → HH G (sz, MH M u62 rst) H → va_S (AG G) s.heap H locs → W p l e (rm_ 4 0 0) s m ([.ref M, .int a1] : List Value).toArray below meth c H locs 0 0 (MQ below (PostC G (sz, MH M stf rst) (some (.int rf))) ([.ref M, .int a1] : List Value).toArray s 0 0 (AG G)) (F0 m 62 ls [.int k0, .int k1, .ref (M + 1)]) := by
    intro d1 k0 k1 u62 hf ls H locs hl hH hS
    unfold f_X3_form_j62 at hf
    obtain ⟨w7, hv, hf⟩ := bd hf
    refine m_iast X hK hH hS 1 (mc_1 _ _) hv (mt_1 _ _ _) dX3_form_62 (fun H locs hH hS => ?_)
    refine lv_aload_n hx hb dX3_form_63 rfl (lv_at hl 0 rfl) ?_
    refine m_get X hK hH 4 (by decide) rfl (mg_4 _ _) q1063 dX3_form_64 ?_
    refine lv_iload_n hx hb dX3_form_67 rfl (lv_at hl 1 rfl) ?_
    refine lv_aload_n hx hb dX3_form_68 rfl (lv_at hl 0 rfl) ?_
    refine m_get X hK hH 8 (by decide) rfl (mg_8 _ _) q1067 dX3_form_69 ?_
    obtain ⟨w8, hv, hf⟩ := bd hf
    refine m_iast X hK hH hS 4 (mc_4 _ _) hv (mt_4 _ _ _) dX3_form_72 (fun H locs hH hS => ?_)
    refine lv_iconst (v := (0 : Int32)) hx hb dX3_form_73 (by decide) ?_
    refine lv_istore_n (lv' := [(2, .int (0 : Int32)), (0, .ref M), (1, .int d1)]) hx hb dX3_form_74 rfl hl (by decide) rfl (fun ls hl => ?_)
    obtain ⟨r75_11, hr, hf⟩ := bd hf
    refine L75 d1 N _ r75_11 hr ?_ _ _ _ (lv_sub hl [1, 2, 0] rfl) hH hS
    intro ls H locs hl hH hS
    refine lv_aload_n hx hb dX3_form_107 rfl (lv_at hl 0 rfl) ?_
    refine m_get X hK hH 8 (by decide) rfl (mg_8 _ _) q1067 dX3_form_108 ?_
    cases hf
    exact r_iret X dX3_form_111 (Nat.le_refl _) (Nat.le_refl _) rfl hH hS
  refine lv_iload_n hx hb dX3_form_0 rfl (lv_at hl 1 rfl) ?_
  obtain ⟨v1, hv, hf⟩ := bd hf
  refine r_Si (As := [.int a1]) (rest := []) X (met_X3_isPlace l G _ N a1 v1 hv) cs_X3_isPlace q1136 rfl rfl hl.1 (Nat.le_of_ble_eq_true rfl) ⟨Nat.le_of_ble_eq_true rfl, Nat.le_of_ble_eq_true rfl⟩ ⟨Nat.le_refl _, Nat.le_refl _⟩ dX3_form_1 hK hH hS (fun H locs hH hS => ?_)
  refine lv_if_ne (tgt := 9) hx hb dX3_form_4 (by decide) (fun c_ => ?_) (fun c_ => ?_)
  · have hf := (if_neg c_).symm.trans hf
    refine lv_aload_n hx hb dX3_form_9 rfl (lv_at hl 0 rfl) ?_
    refine lv_iload_n hx hb dX3_form_10 rfl (lv_at hl 1 rfl) ?_
    obtain ⟨v2, hv, hf⟩ := bd hf
    refine r_Vi (As := [.int a1]) (rest := []) X (met_X3_isEmpty l G _ _ _ N st a1 v2 hv) cv_X3_isEmpty q1148 (m_recv hK hH) rfl rfl hl.1 (Nat.le_of_ble_eq_true rfl) ⟨Nat.le_of_ble_eq_true rfl, Nat.le_of_ble_eq_true rfl⟩ ⟨Nat.le_refl _, Nat.le_refl _⟩ dX3_form_11 hK hH hS (fun H locs hH hS => ?_)
    refine lv_if_eq (tgt := 20) hx hb dX3_form_14 (by decide) (fun c_ => ?_) (fun c_ => ?_)
    · have hf := (if_pos c_).symm.trans hf
      refine lv_aload_n hx hb dX3_form_20 rfl (lv_at hl 0 rfl) ?_
      refine m_get X hK hH 1 (by decide) rfl (mg_1 _ _) q1060 dX3_form_21 ?_
      refine lv_iload_n hx hb dX3_form_24 rfl (lv_at hl 1 rfl) ?_
      obtain ⟨v3, hv, hf⟩ := bd hf
      refine m_iald X hK hH 1 (mc_1 _ _) hv dX3_form_25 ?_
      refine lv_if_ne (tgt := 32) hx hb dX3_form_26 (by decide) (fun c_ => ?_) (fun c_ => ?_)
      · have hf := (if_neg c_).symm.trans hf
        refine lv_aload_n hx hb dX3_form_32 rfl (lv_at hl 0 rfl) ?_
        refine lv_iload_n hx hb dX3_form_33 rfl (lv_at hl 1 rfl) ?_
        obtain ⟨v4, hv, hf⟩ := bd hf
        refine r_Vv (As := [.int a1]) (rest := []) X (met_X3_clear l G _ _ _ N st a1 v4 hv) cv_X3_clear q1180 (m_recv hK hH) rfl rfl hl.1 (Nat.le_of_ble_eq_true rfl) ⟨Nat.le_of_ble_eq_true rfl, Nat.le_of_ble_eq_true rfl⟩ ⟨Nat.le_refl _, Nat.le_refl _⟩ dX3_form_34 hK hH hS (fun H locs hH hS => ?_)
        refine lv_aload_n hx hb dX3_form_37 rfl (lv_at hl 0 rfl) ?_
        refine m_get X hK hH 1 (by decide) rfl (mg_1 _ _) q1060 dX3_form_38 ?_
        refine lv_iload_n hx hb dX3_form_41 rfl (lv_at hl 1 rfl) ?_
        refine lv_aload_n hx hb dX3_form_42 rfl (lv_at hl 0 rfl) ?_
        refine m_get X hK hH 1 (by decide) rfl (mg_1 _ _) q1060 dX3_form_43 ?_
        refine lv_iload_n hx hb dX3_form_46 rfl (lv_at hl 1 rfl) ?_
        obtain ⟨v5, hv, hf⟩ := bd hf
        refine m_iald X hK hH 1 (mc_1 _ _) hv dX3_form_47 ?_
        refine lv_iconst (v := (2 : Int32)) hx hb dX3_form_48 (by decide) ?_
        refine lv_icmp_ne (tgt := 56) hx hb dX3_form_49 (by decide) (fun c_ => ?_) (fun c_ => ?_)
        · have hf := (if_neg c_).symm.trans hf
          refine lv_aload_n hx hb dX3_form_56 rfl (lv_at hl 0 rfl) ?_
          refine m_get X hK hH 1 (by decide) rfl (mg_1 _ _) q1060 dX3_form_57 ?_
          refine lv_iload_n hx hb dX3_form_60 rfl (lv_at hl 1 rfl) ?_
          obtain ⟨v6, hv, hf⟩ := bd hf
          refine m_iald X hK hH 1 (mc_1 _ _) hv dX3_form_61 ?_
          exact J62 a1 v6 a1 v4 hf _ _ _ (lv_sub hl [0, 1] rfl) hH hS
        · have hf := (if_pos c_).symm.trans hf
          refine lv_iconst (v := (1 : Int32)) hx hb dX3_form_52 (by decide) ?_
          refine lv_goto (tgt := 62) hx hb dX3_form_53 (by decide) ?_
          exact J62 a1 (1 : Int32) a1 v4 hf _ _ _ (lv_sub hl [0, 1] rfl) hH hS
      · have hf := (if_pos c_).symm.trans hf
        refine lv_bipush (v := (-12 : Int32)) hx hb dX3_form_29 (by decide) ?_
        cases hf
        exact r_iret X dX3_form_31 (Nat.le_refl _) (Nat.le_refl _) rfl hH hS
    · have hf := (if_neg c_).symm.trans hf
      refine lv_bipush (v := (-11 : Int32)) hx hb dX3_form_17 (by decide) ?_
      cases hf
      exact r_iret X dX3_form_19 (Nat.le_refl _) (Nat.le_refl _) rfl hH hS
  · have hf := (if_pos c_).symm.trans hf
    refine lv_iconst (v := (-1 : Int32)) hx hb dX3_form_7 (by decide) ?_
    cases hf
    exact r_iret X dX3_form_8 (Nat.le_refl _) (Nat.le_refl _) rfl hH hS
theorem cv_X3_isInLine : CalV "WordBenchModel" yX3_isInLine cX3_isInLine 7 (some .boolean) 2 := ⟨q1209, qs27, q57, q1210, by decide +kernel⟩
set_option maxHeartbeats 4000000 in
theorem met_X3_isInLine (l : Launch) (G : GG) (sz M : Nat) (rst : Nat → Option AE) (N : Nat) (st : MS) (a1 : Int32) (a2 : Int64) (stf : MS) (rf : Int32) (hf : f_X3_isInLine N st a1 a2 = some (stf, rf)) : Con l yX3_isInLine cX3_isInLine 7 (some .boolean) 4 0 0 G (sz, MH M st rst) [.ref M, .int a1, .long a2] (sz, MH M stf rst) (some (.int rf)) := by
  refine con_of (by decide) (Nat.le_of_ble_eq_true rfl) ?_
  intro p e s m below meth c ls X hK hH hl hS
  have hx := X.1
  have hb := X.2.1
  have hown : s.vm.findClass RX3 = some m.cls := X.2.2.2.2.1
  have hts := X.2.2.2.2.2.1
  have hl : lv_has ls 7 [(0, .ref M), (1, .int a1), (2, .long a2)] := hl
  unfold f_X3_isInLine at hf
  have L11 : ∀ (c1 : Int32) (t11 : MS) (n : Nat) (s11 : (Int64 × Int32)) (r11 : Int64), lp (f_X3_isInLine_b11 N c1 t11) n s11 = some r11 → (∀ (ls : Array Slot) (H : Heap) (locs : List Loc), lv_has ls 7 [(4, .long r11)] → HH G (sz, MH M t11 rst) H → va_S (AG G) s.heap H locs → W p l e (rm_ 4 0 0) s m ([.ref M, .int a1, .long a2] : List Value).toArray below meth c H locs 0 0 (MQ below (PostC G (sz, MH M stf rst) (some (.int rf))) ([.ref M, .int a1, .long a2] : List Value).toArray s 0 0 (AG G)) (F0 m 85 ls [])) → ∀ (ls : Array Slot) (H : Heap) (locs : List Loc), lv_has ls 7 [(0, .ref M), (1, .int c1), (4, .long s11.1), (6, .int s11.2)] → HH G (sz, MH M t11 rst) H → va_S (AG G) s.heap H locs → W p l e (rm_ 4 0 0) s m ([.ref M, .int a1, .long a2] : List Value).toArray below meth c H locs 0 0 (MQ below (PostC G (sz, MH M stf rst) (some (.int rf))) ([.ref M, .int a1, .long a2] : List Value).toArray s 0 0 (AG G)) (F0 m 11 ls []) := by
    intro c1 t11 n s11 r11 hr hq
    refine lp_ind (P := fun s11 => ∀ (ls : Array Slot) (H : Heap) (locs : List Loc), lv_has ls 7 [(0, .ref M), (1, .int c1), (4, .long s11.1), (6, .int s11.2)] → HH G (sz, MH M t11 rst) H → va_S (AG G) s.heap H locs → W p l e (rm_ 4 0 0) s m ([.ref M, .int a1, .long a2] : List Value).toArray below meth c H locs 0 0 (MQ below (PostC G (sz, MH M stf rst) (some (.int rf))) ([.ref M, .int a1, .long a2] : List Value).toArray s 0 0 (AG G)) (F0 m 11 ls [])) (Q := fun r11 => ∀ (ls : Array Slot) (H : Heap) (locs : List Loc), lv_has ls 7 [(4, .long r11)] → HH G (sz, MH M t11 rst) H → va_S (AG G) s.heap H locs → W p l e (rm_ 4 0 0) s m ([.ref M, .int a1, .long a2] : List Value).toArray below meth c H locs 0 0 (MQ below (PostC G (sz, MH M stf rst) (some (.int rf))) ([.ref M, .int a1, .long a2] : List Value).toArray s 0 0 (AG G)) (F0 m 85 ls [])) ?_ n s11 r11 hr hq
    intro s11 x11 hf hx11 ls H locs hl hH hS
    unfold f_X3_isInLine_b11 at hf
    refine lv_iload hx hb dX3_isInLine_11 (lv_at hl 3 rfl) ?_
    refine lv_aload_n hx hb dX3_isInLine_13 rfl (lv_at hl 0 rfl) ?_
    refine m_get X hK hH 8 (by decide) rfl (mg_8 _ _) q1067 dX3_isInLine_14 ?_
    refine lv_icmp_ge (tgt := 85) hx hb dX3_isInLine_17 (by decide) (fun c_ => ?_) (fun c_ => ?_)
    · have hf := (if_pos c_).symm.trans hf
      cases hf
      exact hx11 _ _ _ (lv_sub hl [2] rfl) hH hS
    · have hf := (if_neg c_).symm.trans hf
      refine lv_aload_n hx hb dX3_isInLine_20 rfl (lv_at hl 0 rfl) ?_
      refine m_get X hK hH 2 (by decide) rfl (mg_2 _ _) q1061 dX3_isInLine_21 ?_
      refine lv_iload_n hx hb dX3_isInLine_24 rfl (lv_at hl 1 rfl) ?_
      obtain ⟨v2, hv, hf⟩ := bd hf
      refine m_iald X hK hH 2 (mc_2 _ _) hv dX3_isInLine_25 ?_
      refine lv_aload_n hx hb dX3_isInLine_26 rfl (lv_at hl 0 rfl) ?_
      refine m_get X hK hH 3 (by decide) rfl (mg_3 _ _) q1062 dX3_isInLine_27 ?_
      refine lv_iload_n hx hb dX3_isInLine_30 rfl (lv_at hl 1 rfl) ?_
      obtain ⟨v3, hv, hf⟩ := bd hf
      refine m_iald X hK hH 3 (mc_3 _ _) hv dX3_isInLine_31 ?_
      refine lv_lload hx hb dX3_isInLine_32 (lv_at hl 2 rfl) ?_
      refine lv_aload_n hx hb dX3_isInLine_34 rfl (lv_at hl 0 rfl) ?_
      refine m_get X hK hH 6 (by decide) rfl (mg_6 _ _) q1065 dX3_isInLine_35 ?_
      refine lv_iload hx hb dX3_isInLine_38 (lv_at hl 3 rfl) ?_
      obtain ⟨v4, hv, hf⟩ := bd hf
      refine m_lald X hK hH 6 (mc_6 _ _) hv dX3_isInLine_40 ?_
      refine lv_aload_n hx hb dX3_isInLine_41 rfl (lv_at hl 0 rfl) ?_
      refine m_get X hK hH 2 (by decide) rfl (mg_2 _ _) q1061 dX3_isInLine_42 ?_
      refine lv_iload_n hx hb dX3_isInLine_45 rfl (lv_at hl 1 rfl) ?_
      obtain ⟨v5, hv, hf⟩ := bd hf
      refine m_iald X hK hH 2 (mc_2 _ _) hv dX3_isInLine_46 ?_
      refine lv_aload_n hx hb dX3_isInLine_47 rfl (lv_at hl 0 rfl) ?_
      refine m_get X hK hH 2 (by decide) rfl (mg_2 _ _) q1061 dX3_isInLine_48 ?_
      refine lv_iload_n hx hb dX3_isInLine_51 rfl (lv_at hl 1 rfl) ?_
      obtain ⟨v6, hv, hf⟩ := bd hf
      refine m_iald X hK hH 2 (mc_2 _ _) hv dX3_isInLine_52 ?_
      refine lv_aload_n hx hb dX3_isInLine_53 rfl (lv_at hl 0 rfl) ?_
      refine m_get X hK hH 3 (by decide) rfl (mg_3 _ _) q1062 dX3_isInLine_54 ?_
      refine lv_iload_n hx hb dX3_isInLine_57 rfl (lv_at hl 1 rfl) ?_
      obtain ⟨v7, hv, hf⟩ := bd hf
      refine m_iald X hK hH 3 (mc_3 _ _) hv dX3_isInLine_58 ?_
      refine lv_lload hx hb dX3_isInLine_59 (lv_at hl 2 rfl) ?_
      refine lv_aload_n hx hb dX3_isInLine_61 rfl (lv_at hl 0 rfl) ?_
      refine m_get X hK hH 7 (by decide) rfl (mg_7 _ _) q1066 dX3_isInLine_62 ?_
      refine lv_iload hx hb dX3_isInLine_65 (lv_at hl 3 rfl) ?_
      obtain ⟨v8, hv, hf⟩ := bd hf
      refine m_iald X hK hH 7 (mc_7 _ _) hv dX3_isInLine_67 ?_
      obtain ⟨v9, hv, hf⟩ := bd hf
      refine r_Si (As := [.int v6, .int v7, .long s11.1, .int v8]) (rest := [.int v5, .long v4, .long s11.1, .int v3, .int v2]) X (met_X3_letter l G _ N v6 v7 s11.1 v8 v9 hv) cs_X3_letter q1029 rfl rfl hl.1 (Nat.le_of_ble_eq_true rfl) ⟨Nat.le_of_ble_eq_true rfl, Nat.le_of_ble_eq_true rfl⟩ ⟨Nat.le_refl _, Nat.le_refl _⟩ dX3_isInLine_68 hK hH hS (fun H locs hH hS => ?_)
      obtain ⟨v10, hv, hf⟩ := bd hf
      refine r_Si (As := [.int v5, .int v9]) (rest := [.long v4, .long s11.1, .int v3, .int v2]) X (met_X3_minus l G _ N v5 v9 v10 hv) cs_X3_minus q1187 rfl rfl hl.1 (Nat.le_of_ble_eq_true rfl) ⟨Nat.le_of_ble_eq_true rfl, Nat.le_of_ble_eq_true rfl⟩ ⟨Nat.le_refl _, Nat.le_refl _⟩ dX3_isInLine_71 hK hH hS (fun H locs hH hS => ?_)
      obtain ⟨v11, hv, hf⟩ := bd hf
      refine r_Sl (As := [.int v2, .int v3, .long s11.1, .long v4, .int v10]) (rest := []) X (met_X3_sumOf l G _ N v2 v3 s11.1 v4 v10 v11 hv) cs_X3_sumOf q1026 rfl rfl hl.1 (Nat.le_of_ble_eq_true rfl) ⟨Nat.le_of_ble_eq_true rfl, Nat.le_of_ble_eq_true rfl⟩ ⟨Nat.le_refl _, Nat.le_refl _⟩ dX3_isInLine_74 hK hH hS (fun H locs hH hS => ?_)
      refine lv_lstore (lv' := [(4, .long v11), (0, .ref M), (1, .int c1), (6, .int s11.2)]) hx hb dX3_isInLine_77 hl (by decide) rfl (fun ls hl => ?_)
      refine lv_iinc (v := (s11.2 + 1)) (lv' := [(6, .int (s11.2 + 1)), (4, .long v11), (0, .ref M), (1, .int c1)]) hx hb dX3_isInLine_79 hl (k := 3) rfl rfl (by decide) rfl (fun ls hl => ?_)
      refine lv_goto (tgt := 11) hx hb dX3_isInLine_82 (by decide) ?_
      cases hf
      exact hx11 _ _ _ (lv_sub hl [2, 3, 1, 0] rfl) hH hS
  refine lv_aload_n hx hb dX3_isInLine_0 rfl (lv_at hl 0 rfl) ?_
  refine lv_iload_n hx hb dX3_isInLine_1 rfl (lv_at hl 1 rfl) ?_
  obtain ⟨v1, hv, hf⟩ := bd hf
  refine r_Vv (As := [.int a1]) (rest := []) X (met_X3_clear l G _ _ _ N st a1 v1 hv) cv_X3_clear q1180 (m_recv hK hH) rfl rfl hl.1 (Nat.le_of_ble_eq_true rfl) ⟨Nat.le_of_ble_eq_true rfl, Nat.le_of_ble_eq_true rfl⟩ ⟨Nat.le_refl _, Nat.le_refl _⟩ dX3_isInLine_2 hK hH hS (fun H locs hH hS => ?_)
  refine lv_lload_n hx hb dX3_isInLine_5 rfl (lv_at hl 2 rfl) ?_
  refine lv_lstore (lv' := [(4, .long a2), (0, .ref M), (1, .int a1), (2, .long a2)]) hx hb dX3_isInLine_6 hl (by decide) rfl (fun ls hl => ?_)
  refine lv_iconst (v := (0 : Int32)) hx hb dX3_isInLine_8 (by decide) ?_
  refine lv_istore (lv' := [(6, .int (0 : Int32)), (4, .long a2), (0, .ref M), (1, .int a1), (2, .long a2)]) hx hb dX3_isInLine_9 hl (by decide) rfl (fun ls hl => ?_)
  obtain ⟨r11_12, hr, hf⟩ := bd hf
  refine L11 a1 v1 N _ r11_12 hr ?_ _ _ _ (lv_sub hl [2, 3, 1, 0] rfl) hH hS
  intro ls H locs hl hH hS
  refine lv_lload hx hb dX3_isInLine_85 (lv_at hl 0 rfl) ?_
  refine lv_lconst (v := (0 : Int64)) hx hb dX3_isInLine_87 (by decide) ?_
  refine W.lcmp hx hb dX3_isInLine_88 ?_
  refine lv_if_ne (tgt := 96) hx hb dX3_isInLine_89 (by decide) (fun c_ => ?_) (fun c_ => ?_)
  · have hf := (if_neg (fun z => c_ ((lg_cmp_eq r11_12 (0 : Int64)).mpr z))).symm.trans hf
    refine lv_iconst (v := (0 : Int32)) hx hb dX3_isInLine_96 (by decide) ?_
    obtain ⟨v13, hv, hf⟩ := bd hf
    obtain ⟨hz, hv⟩ := rz_s hv
    subst hv
    cases hf
    exact r_zret X dX3_isInLine_97 (Nat.le_refl _) (Nat.le_refl _) hz rfl hH hS
  · have hf := (if_pos ((lg_cmp_eq r11_12 (0 : Int64)).mp c_)).symm.trans hf
    refine lv_iconst (v := (1 : Int32)) hx hb dX3_isInLine_92 (by decide) ?_
    refine lv_goto (tgt := 97) hx hb dX3_isInLine_93 (by decide) ?_
    obtain ⟨v14, hv, hf⟩ := bd hf
    obtain ⟨hz, hv⟩ := rz_s hv
    subst hv
    cases hf
    exact r_zret X dX3_isInLine_97 (Nat.le_refl _) (Nat.le_refl _) hz rfl hH hS
theorem cv_X3_hasAll : CalV "WordBenchModel" yX3_hasAll cX3_hasAll 3 (some .boolean) 1 := ⟨q1380, qs45, q57, q1381, by decide +kernel⟩
set_option maxHeartbeats 4000000 in
theorem met_X3_hasAll (l : Launch) (G : GG) (sz M : Nat) (rst : Nat → Option AE) (N : Nat) (st : MS) (a1 : Int32) (stf : MS) (rf : Int32) (hf : f_X3_hasAll N st a1 = some (stf, rf)) : Con l yX3_hasAll cX3_hasAll 3 (some .boolean) 5 0 0 G (sz, MH M st rst) [.ref M, .int a1] (sz, MH M stf rst) (some (.int rf)) := by
  refine con_of (by decide) (Nat.le_of_ble_eq_true rfl) ?_
  intro p e s m below meth c ls X hK hH hl hS
  have hx := X.1
  have hb := X.2.1
  have hown : s.vm.findClass RX3 = some m.cls := X.2.2.2.2.1
  have hts := X.2.2.2.2.2.1
  have hl : lv_has ls 3 [(0, .ref M), (1, .int a1)] := hl
  unfold f_X3_hasAll at hf
  have L18 : ∀ (c1 : Int32) (n : Nat) (s18 : (Int32 × MS)) (r18 : (MS ⊕ MS ⊕ MS)), lp (f_X3_hasAll_b18 N c1) n s18 = some r18 → (match r18 with | .inl e18 => (∀ (ls : Array Slot) (H : Heap) (locs : List Loc), lv_has ls 3 [] → HH G (sz, MH M e18 rst) H → va_S (AG G) s.heap H locs → W p l e (rm_ 5 0 0) s m ([.ref M, .int a1] : List Value).toArray below meth c H locs 0 0 (MQ below (PostC G (sz, MH M stf rst) (some (.int rf))) ([.ref M, .int a1] : List Value).toArray s 0 0 (AG G)) (F0 m 50 ls [])) | .inr (.inl e18) => (∀ (ls : Array Slot) (H : Heap) (locs : List Loc), lv_has ls 3 [] → HH G (sz, MH M e18 rst) H → va_S (AG G) s.heap H locs → W p l e (rm_ 5 0 0) s m ([.ref M, .int a1] : List Value).toArray below meth c H locs 0 0 (MQ below (PostC G (sz, MH M stf rst) (some (.int rf))) ([.ref M, .int a1] : List Value).toArray s 0 0 (AG G)) (F0 m 67 ls [])) | .inr (.inr e18) => (∀ (ls : Array Slot) (H : Heap) (locs : List Loc), lv_has ls 3 [] → HH G (sz, MH M e18 rst) H → va_S (AG G) s.heap H locs → W p l e (rm_ 5 0 0) s m ([.ref M, .int a1] : List Value).toArray below meth c H locs 0 0 (MQ below (PostC G (sz, MH M stf rst) (some (.int rf))) ([.ref M, .int a1] : List Value).toArray s 0 0 (AG G)) (F0 m 75 ls []))) → ∀ (ls : Array Slot) (H : Heap) (locs : List Loc), lv_has ls 3 [(0, .ref M), (1, .int c1), (2, .int s18.1)] → HH G (sz, MH M s18.2 rst) H → va_S (AG G) s.heap H locs → W p l e (rm_ 5 0 0) s m ([.ref M, .int a1] : List Value).toArray below meth c H locs 0 0 (MQ below (PostC G (sz, MH M stf rst) (some (.int rf))) ([.ref M, .int a1] : List Value).toArray s 0 0 (AG G)) (F0 m 18 ls []) := by
    intro c1 n s18 r18 hr hq
    refine lp_ind (P := fun s18 => ∀ (ls : Array Slot) (H : Heap) (locs : List Loc), lv_has ls 3 [(0, .ref M), (1, .int c1), (2, .int s18.1)] → HH G (sz, MH M s18.2 rst) H → va_S (AG G) s.heap H locs → W p l e (rm_ 5 0 0) s m ([.ref M, .int a1] : List Value).toArray below meth c H locs 0 0 (MQ below (PostC G (sz, MH M stf rst) (some (.int rf))) ([.ref M, .int a1] : List Value).toArray s 0 0 (AG G)) (F0 m 18 ls [])) (Q := fun r18 => match r18 with | .inl e18 => (∀ (ls : Array Slot) (H : Heap) (locs : List Loc), lv_has ls 3 [] → HH G (sz, MH M e18 rst) H → va_S (AG G) s.heap H locs → W p l e (rm_ 5 0 0) s m ([.ref M, .int a1] : List Value).toArray below meth c H locs 0 0 (MQ below (PostC G (sz, MH M stf rst) (some (.int rf))) ([.ref M, .int a1] : List Value).toArray s 0 0 (AG G)) (F0 m 50 ls [])) | .inr (.inl e18) => (∀ (ls : Array Slot) (H : Heap) (locs : List Loc), lv_has ls 3 [] → HH G (sz, MH M e18 rst) H → va_S (AG G) s.heap H locs → W p l e (rm_ 5 0 0) s m ([.ref M, .int a1] : List Value).toArray below meth c H locs 0 0 (MQ below (PostC G (sz, MH M stf rst) (some (.int rf))) ([.ref M, .int a1] : List Value).toArray s 0 0 (AG G)) (F0 m 67 ls [])) | .inr (.inr e18) => (∀ (ls : Array Slot) (H : Heap) (locs : List Loc), lv_has ls 3 [] → HH G (sz, MH M e18 rst) H → va_S (AG G) s.heap H locs → W p l e (rm_ 5 0 0) s m ([.ref M, .int a1] : List Value).toArray below meth c H locs 0 0 (MQ below (PostC G (sz, MH M stf rst) (some (.int rf))) ([.ref M, .int a1] : List Value).toArray s 0 0 (AG G)) (F0 m 75 ls []))) ?_ n s18 r18 hr hq
    intro s18 x18 hf hx18 ls H locs hl hH hS
    unfold f_X3_hasAll_b18 at hf
    refine lv_iload_n hx hb dX3_hasAll_18 rfl (lv_at hl 2 rfl) ?_
    refine lv_aload_n hx hb dX3_hasAll_19 rfl (lv_at hl 0 rfl) ?_
    refine m_get X hK hH 11 (by decide) rfl (mg_11 _ _) q1070 dX3_hasAll_20 ?_
    refine lv_icmp_ge (tgt := 75) hx hb dX3_hasAll_23 (by decide) (fun c_ => ?_) (fun c_ => ?_)
    · have hf := (if_pos c_).symm.trans hf
      cases hf
      exact hx18 _ _ _ (lv_sub hl [] rfl) hH hS
    · have hf := (if_neg c_).symm.trans hf
      refine lv_aload_n hx hb dX3_hasAll_26 rfl (lv_at hl 0 rfl) ?_
      refine m_get X hK hH 1 (by decide) rfl (mg_1 _ _) q1060 dX3_hasAll_27 ?_
      refine lv_iload_n hx hb dX3_hasAll_30 rfl (lv_at hl 1 rfl) ?_
      obtain ⟨v2, hv, hf⟩ := bd hf
      refine m_iald X hK hH 1 (mc_1 _ _) hv dX3_hasAll_31 ?_
      refine lv_if_ne (tgt := 53) hx hb dX3_hasAll_32 (by decide) (fun c_ => ?_) (fun c_ => ?_)
      · have hf := (if_neg c_).symm.trans hf
        refine lv_aload_n hx hb dX3_hasAll_53 rfl (lv_at hl 0 rfl) ?_
        refine lv_iload_n hx hb dX3_hasAll_54 rfl (lv_at hl 1 rfl) ?_
        refine lv_aload_n hx hb dX3_hasAll_55 rfl (lv_at hl 0 rfl) ?_
        refine m_get X hK hH 10 (by decide) rfl (mg_10 _ _) q1069 dX3_hasAll_56 ?_
        refine lv_iload_n hx hb dX3_hasAll_59 rfl (lv_at hl 2 rfl) ?_
        obtain ⟨v3, hv, hf⟩ := bd hf
        refine m_lald X hK hH 9 (mc_10 _ _) hv dX3_hasAll_60 ?_
        obtain ⟨v4, hv, hf⟩ := bd hf
        refine r_Vi (As := [.int c1, .long v3]) (rest := []) X (met_X3_isInLine l G _ _ _ N s18.2 c1 v3 v4.1 v4.2 hv) cv_X3_isInLine q1207 (m_recv hK hH) rfl rfl hl.1 (Nat.le_of_ble_eq_true rfl) ⟨Nat.le_of_ble_eq_true rfl, Nat.le_of_ble_eq_true rfl⟩ ⟨Nat.le_refl _, Nat.le_refl _⟩ dX3_hasAll_61 hK hH hS (fun H locs hH hS => ?_)
        refine lv_if_ne (tgt := 69) hx hb dX3_hasAll_64 (by decide) (fun c_ => ?_) (fun c_ => ?_)
        · have hf := (if_neg c_).symm.trans hf
          refine lv_iinc (v := (s18.1 + 1)) (lv' := [(2, .int (s18.1 + 1)), (0, .ref M), (1, .int c1)]) hx hb dX3_hasAll_69 hl (k := 2) rfl rfl (by decide) rfl (fun ls hl => ?_)
          refine lv_goto (tgt := 18) hx hb dX3_hasAll_72 (by decide) ?_
          cases hf
          exact hx18 _ _ _ (lv_sub hl [1, 2, 0] rfl) hH hS
        · have hf := (if_pos c_).symm.trans hf
          cases hf
          exact hx18 _ _ _ (lv_sub hl [] rfl) hH hS
      · have hf := (if_pos c_).symm.trans hf
        refine lv_aload_n hx hb dX3_hasAll_35 rfl (lv_at hl 0 rfl) ?_
        refine lv_iload_n hx hb dX3_hasAll_36 rfl (lv_at hl 1 rfl) ?_
        refine lv_aload_n hx hb dX3_hasAll_37 rfl (lv_at hl 0 rfl) ?_
        refine m_get X hK hH 10 (by decide) rfl (mg_10 _ _) q1069 dX3_hasAll_38 ?_
        refine lv_iload_n hx hb dX3_hasAll_41 rfl (lv_at hl 2 rfl) ?_
        obtain ⟨v5, hv, hf⟩ := bd hf
        refine m_lald X hK hH 9 (mc_10 _ _) hv dX3_hasAll_42 ?_
        obtain ⟨v6, hv, hf⟩ := bd hf
        refine r_Vi (As := [.int c1, .long v5]) (rest := []) X (met_X3_find l G _ _ _ N s18.2 c1 v5 v6 hv) cv_X3_find q1156 (m_recv hK hH) rfl rfl hl.1 (Nat.le_of_ble_eq_true rfl) ⟨Nat.le_of_ble_eq_true rfl, Nat.le_of_ble_eq_true rfl⟩ ⟨Nat.le_refl _, Nat.le_refl _⟩ dX3_hasAll_43 hK hH hS (fun H locs hH hS => ?_)
        refine lv_iconst (v := (-1 : Int32)) hx hb dX3_hasAll_46 (by decide) ?_
        refine lv_icmp_ne (tgt := 69) hx hb dX3_hasAll_47 (by decide) (fun c_ => ?_) (fun c_ => ?_)
        · have hf := (if_neg c_).symm.trans hf
          refine lv_iinc (v := (s18.1 + 1)) (lv' := [(2, .int (s18.1 + 1)), (0, .ref M), (1, .int c1)]) hx hb dX3_hasAll_69 hl (k := 2) rfl rfl (by decide) rfl (fun ls hl => ?_)
          refine lv_goto (tgt := 18) hx hb dX3_hasAll_72 (by decide) ?_
          cases hf
          exact hx18 _ _ _ (lv_sub hl [1, 2, 0] rfl) hH hS
        · have hf := (if_pos c_).symm.trans hf
          cases hf
          exact hx18 _ _ _ (lv_sub hl [] rfl) hH hS
  refine lv_aload_n hx hb dX3_hasAll_0 rfl (lv_at hl 0 rfl) ?_
  refine lv_iload_n hx hb dX3_hasAll_1 rfl (lv_at hl 1 rfl) ?_
  obtain ⟨v1, hv, hf⟩ := bd hf
  refine r_Vl (As := [.int a1]) (rest := []) X (met_X3_sizeOf l G _ _ _ N st a1 v1.1 v1.2 hv) cv_X3_sizeOf q1199 (m_recv hK hH) rfl rfl hl.1 (Nat.le_of_ble_eq_true rfl) ⟨Nat.le_of_ble_eq_true rfl, Nat.le_of_ble_eq_true rfl⟩ ⟨Nat.le_refl _, Nat.le_refl _⟩ dX3_hasAll_2 hK hH hS (fun H locs hH hS => ?_)
  refine lv_aload_n hx hb dX3_hasAll_5 rfl (lv_at hl 0 rfl) ?_
  refine m_get X hK hH 11 (by decide) rfl (mg_11 _ _) q1070 dX3_hasAll_6 ?_
  refine lv_i2l (v := (((v1.1).2.2.1 11)).toInt64) hx hb dX3_hasAll_9 rfl ?_
  refine W.lcmp hx hb dX3_hasAll_10 ?_
  refine lv_if_eq (tgt := 16) hx hb dX3_hasAll_11 (by decide) (fun c_ => ?_) (fun c_ => ?_)
  · have hf := (if_pos ((lg_cmp_eq v1.2 ((((v1.1).2.2.1 11)).toInt64)).mp c_)).symm.trans hf
    refine lv_iconst (v := (0 : Int32)) hx hb dX3_hasAll_16 (by decide) ?_
    refine lv_istore_n (lv' := [(2, .int (0 : Int32)), (0, .ref M), (1, .int a1)]) hx hb dX3_hasAll_17 rfl hl (by decide) rfl (fun ls hl => ?_)
    obtain ⟨r18_7, hr, hf⟩ := bd hf
    refine L18 a1 N _ r18_7 hr ?_ _ _ _ (lv_sub hl [1, 2, 0] rfl) hH hS
    rcases r18_7 with r18_7 | r18_7 | r18_7
    · intro ls H locs hl hH hS
      dsimp only at hf
      refine lv_goto (tgt := 67) hx hb dX3_hasAll_50 (by decide) ?_
      refine lv_iconst (v := (0 : Int32)) hx hb dX3_hasAll_67 (by decide) ?_
      obtain ⟨v8, hv, hf⟩ := bd hf
      obtain ⟨hz, hv⟩ := rz_s hv
      subst hv
      cases hf
      exact r_zret X dX3_hasAll_68 (Nat.le_refl _) (Nat.le_refl _) hz rfl hH hS
    · intro ls H locs hl hH hS
      dsimp only at hf
      refine lv_iconst (v := (0 : Int32)) hx hb dX3_hasAll_67 (by decide) ?_
      obtain ⟨v9, hv, hf⟩ := bd hf
      obtain ⟨hz, hv⟩ := rz_s hv
      subst hv
      cases hf
      exact r_zret X dX3_hasAll_68 (Nat.le_refl _) (Nat.le_refl _) hz rfl hH hS
    · intro ls H locs hl hH hS
      dsimp only at hf
      refine lv_iconst (v := (1 : Int32)) hx hb dX3_hasAll_75 (by decide) ?_
      obtain ⟨v10, hv, hf⟩ := bd hf
      obtain ⟨hz, hv⟩ := rz_s hv
      subst hv
      cases hf
      exact r_zret X dX3_hasAll_76 (Nat.le_refl _) (Nat.le_refl _) hz rfl hH hS
  · have hf := (if_neg (fun z => c_ ((lg_cmp_eq v1.2 ((((v1.1).2.2.1 11)).toInt64)).mpr z))).symm.trans hf
    refine lv_iconst (v := (0 : Int32)) hx hb dX3_hasAll_14 (by decide) ?_
    obtain ⟨v11, hv, hf⟩ := bd hf
    obtain ⟨hz, hv⟩ := rz_s hv
    subst hv
    cases hf
    exact r_zret X dX3_hasAll_15 (Nat.le_refl _) (Nat.le_refl _) hz rfl hH hS
theorem cv_X3_head : CalV "WordBenchModel" yX3_head cX3_head 3 (some .int) 2 := ⟨q1216, q1217, q57, q1218, by decide +kernel⟩
set_option maxHeartbeats 4000000 in
theorem met_X3_head (l : Launch) (G : GG) (sz M : Nat) (rst : Nat → Option AE) (N : Nat) (st : MS) (a1 : Int32) (a2 : Int32) (stf : MS) (rf : Int32) (hf : f_X3_head N st a1 a2 = some (stf, rf)) : Con l yX3_head cX3_head 3 (some .int) 4 0 0 G (sz, MH M st rst) [.ref M, .int a1, .int a2] (sz, MH M stf rst) (some (.int rf)) := by
  refine con_of (by decide) (Nat.le_of_ble_eq_true rfl) ?_
  intro p e s m below meth c ls X hK hH hl hS
  have hx := X.1
  have hb := X.2.1
  have hown : s.vm.findClass RX3 = some m.cls := X.2.2.2.2.1
  have hts := X.2.2.2.2.2.1
  have hl : lv_has ls 3 [(0, .ref M), (1, .int a1), (2, .int a2)] := hl
  unfold f_X3_head at hf
  refine lv_iload_n hx hb dX3_head_0 rfl (lv_at hl 1 rfl) ?_
  obtain ⟨v1, hv, hf⟩ := bd hf
  refine r_Si (As := [.int a1]) (rest := []) X (met_X3_isPlace l G _ N a1 v1 hv) cs_X3_isPlace q1136 rfl rfl hl.1 (Nat.le_of_ble_eq_true rfl) ⟨Nat.le_of_ble_eq_true rfl, Nat.le_of_ble_eq_true rfl⟩ ⟨Nat.le_refl _, Nat.le_refl _⟩ dX3_head_1 hK hH hS (fun H locs hH hS => ?_)
  refine lv_if_eq (tgt := 11) hx hb dX3_head_4 (by decide) (fun c_ => ?_) (fun c_ => ?_)
  · have hf := (if_pos c_).symm.trans hf
    refine lv_iconst (v := (-1 : Int32)) hx hb dX3_head_11 (by decide) ?_
    cases hf
    exact r_iret X dX3_head_12 (Nat.le_refl _) (Nat.le_refl _) rfl hH hS
  · have hf := (if_neg c_).symm.trans hf
    refine lv_iload_n hx hb dX3_head_7 rfl (lv_at hl 2 rfl) ?_
    refine lv_if_ge (tgt := 13) hx hb dX3_head_8 (by decide) (fun c_ => ?_) (fun c_ => ?_)
    · have hf := (if_pos c_).symm.trans hf
      refine lv_aload_n hx hb dX3_head_13 rfl (lv_at hl 0 rfl) ?_
      refine lv_iload_n hx hb dX3_head_14 rfl (lv_at hl 1 rfl) ?_
      obtain ⟨v2, hv, hf⟩ := bd hf
      refine r_Vi (As := [.int a1]) (rest := []) X (met_X3_isEmpty l G _ _ _ N st a1 v2 hv) cv_X3_isEmpty q1148 (m_recv hK hH) rfl rfl hl.1 (Nat.le_of_ble_eq_true rfl) ⟨Nat.le_of_ble_eq_true rfl, Nat.le_of_ble_eq_true rfl⟩ ⟨Nat.le_refl _, Nat.le_refl _⟩ dX3_head_15 hK hH hS (fun H locs hH hS => ?_)
      refine lv_if_eq (tgt := 24) hx hb dX3_head_18 (by decide) (fun c_ => ?_) (fun c_ => ?_)
      · have hf := (if_pos c_).symm.trans hf
        refine lv_aload_n hx hb dX3_head_24 rfl (lv_at hl 0 rfl) ?_
        refine m_get X hK hH 1 (by decide) rfl (mg_1 _ _) q1060 dX3_head_25 ?_
        refine lv_iload_n hx hb dX3_head_28 rfl (lv_at hl 1 rfl) ?_
        obtain ⟨v3, hv, hf⟩ := bd hf
        refine m_iald X hK hH 1 (mc_1 _ _) hv dX3_head_29 ?_
        refine lv_if_ne (tgt := 36) hx hb dX3_head_30 (by decide) (fun c_ => ?_) (fun c_ => ?_)
        · have hf := (if_neg c_).symm.trans hf
          refine lv_aload_n hx hb dX3_head_36 rfl (lv_at hl 0 rfl) ?_
          refine lv_iload_n hx hb dX3_head_37 rfl (lv_at hl 1 rfl) ?_
          obtain ⟨v4, hv, hf⟩ := bd hf
          refine r_Vv (As := [.int a1]) (rest := []) X (met_X3_clear l G _ _ _ N st a1 v4 hv) cv_X3_clear q1180 (m_recv hK hH) rfl rfl hl.1 (Nat.le_of_ble_eq_true rfl) ⟨Nat.le_of_ble_eq_true rfl, Nat.le_of_ble_eq_true rfl⟩ ⟨Nat.le_refl _, Nat.le_refl _⟩ dX3_head_38 hK hH hS (fun H locs hH hS => ?_)
          refine lv_iload_n hx hb dX3_head_41 rfl (lv_at hl 2 rfl) ?_
          refine lv_aload_n hx hb dX3_head_42 rfl (lv_at hl 0 rfl) ?_
          refine m_get X hK hH 8 (by decide) rfl (mg_8 _ _) q1067 dX3_head_43 ?_
          refine lv_icmp_ge (tgt := 58) hx hb dX3_head_46 (by decide) (fun c_ => ?_) (fun c_ => ?_)
          · have hf := (if_pos c_).symm.trans hf
            refine lv_bipush (v := (-2 : Int32)) hx hb dX3_head_58 (by decide) ?_
            cases hf
            exact r_iret X dX3_head_60 (Nat.le_refl _) (Nat.le_refl _) rfl hH hS
          · have hf := (if_neg c_).symm.trans hf
            refine lv_aload_n hx hb dX3_head_49 rfl (lv_at hl 0 rfl) ?_
            refine m_get X hK hH 7 (by decide) rfl (mg_7 _ _) q1066 dX3_head_50 ?_
            refine lv_iload_n hx hb dX3_head_53 rfl (lv_at hl 2 rfl) ?_
            obtain ⟨v5, hv, hf⟩ := bd hf
            refine m_iald X hK hH 7 (mc_7 _ _) hv dX3_head_54 ?_
            refine lv_goto (tgt := 60) hx hb dX3_head_55 (by decide) ?_
            cases hf
            exact r_iret X dX3_head_60 (Nat.le_refl _) (Nat.le_refl _) rfl hH hS
        · have hf := (if_pos c_).symm.trans hf
          refine lv_bipush (v := (-12 : Int32)) hx hb dX3_head_33 (by decide) ?_
          cases hf
          exact r_iret X dX3_head_35 (Nat.le_refl _) (Nat.le_refl _) rfl hH hS
      · have hf := (if_neg c_).symm.trans hf
        refine lv_bipush (v := (-11 : Int32)) hx hb dX3_head_21 (by decide) ?_
        cases hf
        exact r_iret X dX3_head_23 (Nat.le_refl _) (Nat.le_refl _) rfl hH hS
    · have hf := (if_neg c_).symm.trans hf
      refine lv_iconst (v := (-1 : Int32)) hx hb dX3_head_11 (by decide) ?_
      cases hf
      exact r_iret X dX3_head_12 (Nat.le_refl _) (Nat.le_refl _) rfl hH hS
theorem cv_X3_lacksCode : CalV "WordBenchModel" yX3_lacksCode cX3_lacksCode 2 (some .int) 1 := ⟨q1411, qs46, q57, q1412, by decide +kernel⟩
set_option maxHeartbeats 4000000 in
theorem met_X3_lacksCode (l : Launch) (G : GG) (sz M : Nat) (rst : Nat → Option AE) (N : Nat) (st : MS) (a1 : Int32) (rf : Int32) (hf : f_X3_lacksCode N st a1 = some rf) : Con l yX3_lacksCode cX3_lacksCode 2 (some .int) 2 0 0 G (sz, MH M st rst) [.ref M, .int a1] (sz, MH M st rst) (some (.int rf)) := by
  refine con_of (by decide) (Nat.le_of_ble_eq_true rfl) ?_
  intro p e s m below meth c ls X hK hH hl hS
  have hx := X.1
  have hb := X.2.1
  have hown : s.vm.findClass RX3 = some m.cls := X.2.2.2.2.1
  have hts := X.2.2.2.2.2.1
  have hl : lv_has ls 2 [(0, .ref M), (1, .int a1)] := hl
  unfold f_X3_lacksCode at hf
  refine lv_iload_n hx hb dX3_lacksCode_0 rfl (lv_at hl 1 rfl) ?_
  obtain ⟨v1, hv, hf⟩ := bd hf
  refine r_Si (As := [.int a1]) (rest := []) X (met_X3_isShelf l G _ N a1 v1 hv) cs_X3_isShelf q1390 rfl rfl hl.1 (Nat.le_of_ble_eq_true rfl) ⟨Nat.le_of_ble_eq_true rfl, Nat.le_of_ble_eq_true rfl⟩ ⟨Nat.le_refl _, Nat.le_refl _⟩ dX3_lacksCode_1 hK hH hS (fun H locs hH hS => ?_)
  refine lv_if_ne (tgt := 11) hx hb dX3_lacksCode_4 (by decide) (fun c_ => ?_) (fun c_ => ?_)
  · have hf := (if_neg c_).symm.trans hf
    refine lv_aload_n hx hb dX3_lacksCode_11 rfl (lv_at hl 0 rfl) ?_
    refine m_get X hK hH 19 (by decide) rfl (mg_19 _ _) q1078 dX3_lacksCode_12 ?_
    refine lv_iload_n hx hb dX3_lacksCode_15 rfl (lv_at hl 1 rfl) ?_
    obtain ⟨v2, hv, hf⟩ := bd hf
    refine m_iald X hK hH 14 (mc_19 _ _) hv dX3_lacksCode_16 ?_
    refine lv_if_ne (tgt := 25) hx hb dX3_lacksCode_17 (by decide) (fun c_ => ?_) (fun c_ => ?_)
    · have hf := (if_neg c_).symm.trans hf
      refine lv_aload_n hx hb dX3_lacksCode_25 rfl (lv_at hl 0 rfl) ?_
      refine m_get X hK hH 19 (by decide) rfl (mg_19 _ _) q1078 dX3_lacksCode_26 ?_
      refine lv_iload_n hx hb dX3_lacksCode_29 rfl (lv_at hl 1 rfl) ?_
      obtain ⟨v3, hv, hf⟩ := bd hf
      refine m_iald X hK hH 14 (mc_19 _ _) hv dX3_lacksCode_30 ?_
      refine lv_iconst (v := (1 : Int32)) hx hb dX3_lacksCode_31 (by decide) ?_
      refine lv_icmp_eq (tgt := 40) hx hb dX3_lacksCode_32 (by decide) (fun c_ => ?_) (fun c_ => ?_)
      · have hf := (if_pos c_).symm.trans hf
        refine lv_iconst (v := (0 : Int32)) hx hb dX3_lacksCode_40 (by decide) ?_
        cases hf
        exact r_iret X dX3_lacksCode_41 (Nat.le_refl _) (Nat.le_refl _) rfl hH hS
      · have hf := (if_neg c_).symm.trans hf
        refine lv_bipush (v := (-12 : Int32)) hx hb dX3_lacksCode_35 (by decide) ?_
        refine lv_goto (tgt := 41) hx hb dX3_lacksCode_37 (by decide) ?_
        cases hf
        exact r_iret X dX3_lacksCode_41 (Nat.le_refl _) (Nat.le_refl _) rfl hH hS
    · have hf := (if_pos c_).symm.trans hf
      refine lv_bipush (v := (-11 : Int32)) hx hb dX3_lacksCode_20 (by decide) ?_
      refine lv_goto (tgt := 41) hx hb dX3_lacksCode_22 (by decide) ?_
      cases hf
      exact r_iret X dX3_lacksCode_41 (Nat.le_refl _) (Nat.le_refl _) rfl hH hS
  · have hf := (if_pos c_).symm.trans hf
    refine lv_iconst (v := (-1 : Int32)) hx hb dX3_lacksCode_7 (by decide) ?_
    refine lv_goto (tgt := 41) hx hb dX3_lacksCode_8 (by decide) ?_
    cases hf
    exact r_iret X dX3_lacksCode_41 (Nat.le_refl _) (Nat.le_refl _) rfl hH hS
theorem cv_X3_heft : CalV "WordBenchModel" yX3_heft cX3_heft 3 (some .int) 1 := ⟨q1406, q1407, q57, q1408, by decide +kernel⟩
set_option maxHeartbeats 4000000 in
theorem met_X3_heft (l : Launch) (G : GG) (sz M : Nat) (rst : Nat → Option AE) (N : Nat) (st : MS) (a1 : Int32) (rf : Int32) (hf : f_X3_heft N st a1 = some rf) : Con l yX3_heft cX3_heft 3 (some .int) 3 0 0 G (sz, MH M st rst) [.ref M, .int a1] (sz, MH M st rst) (some (.int rf)) := by
  refine con_of (by decide) (Nat.le_of_ble_eq_true rfl) ?_
  intro p e s m below meth c ls X hK hH hl hS
  have hx := X.1
  have hb := X.2.1
  have hown : s.vm.findClass RX3 = some m.cls := X.2.2.2.2.1
  have hts := X.2.2.2.2.2.1
  have hl : lv_has ls 3 [(0, .ref M), (1, .int a1)] := hl
  unfold f_X3_heft at hf
  refine lv_aload_n hx hb dX3_heft_0 rfl (lv_at hl 0 rfl) ?_
  refine lv_iload_n hx hb dX3_heft_1 rfl (lv_at hl 1 rfl) ?_
  obtain ⟨v1, hv, hf⟩ := bd hf
  refine r_Vi (As := [.int a1]) (rest := []) X (met_X3_lacksCode l G _ _ _ N st a1 v1 hv) cv_X3_lacksCode q1409 (m_recv hK hH) rfl rfl hl.1 (Nat.le_of_ble_eq_true rfl) ⟨Nat.le_of_ble_eq_true rfl, Nat.le_of_ble_eq_true rfl⟩ ⟨Nat.le_refl _, Nat.le_refl _⟩ dX3_heft_2 hK hH hS (fun H locs hH hS => ?_)
  refine lv_if_eq (tgt := 14) hx hb dX3_heft_5 (by decide) (fun c_ => ?_) (fun c_ => ?_)
  · have hf := (if_pos c_).symm.trans hf
    refine lv_aload_n hx hb dX3_heft_14 rfl (lv_at hl 0 rfl) ?_
    refine m_get X hK hH 20 (by decide) rfl (mg_20 _ _) q1079 dX3_heft_15 ?_
    refine lv_iload_n hx hb dX3_heft_18 rfl (lv_at hl 1 rfl) ?_
    obtain ⟨v2, hv, hf⟩ := bd hf
    refine m_iald X hK hH 15 (mc_20 _ _) hv dX3_heft_19 ?_
    refine lv_if_ne (tgt := 30) hx hb dX3_heft_20 (by decide) (fun c_ => ?_) (fun c_ => ?_)
    · have hf := (if_neg c_).symm.trans hf
      refine lv_bipush (v := (100 : Int32)) hx hb dX3_heft_30 (by decide) ?_
      refine lv_bipush (v := (10 : Int32)) hx hb dX3_heft_32 (by decide) ?_
      refine lv_aload_n hx hb dX3_heft_34 rfl (lv_at hl 0 rfl) ?_
      refine m_get X hK hH 22 (by decide) rfl (mg_22 _ _) q1081 dX3_heft_35 ?_
      refine lv_iload_n hx hb dX3_heft_38 rfl (lv_at hl 1 rfl) ?_
      obtain ⟨v3, hv, hf⟩ := bd hf
      refine m_iald X hK hH 17 (mc_22 _ _) hv dX3_heft_39 ?_
      refine lv_imul hx hb dX3_heft_40 ?_
      refine lv_iadd hx hb dX3_heft_41 ?_
      refine lv_istore_n (lv' := [(2, .int ((100 : Int32) + ((10 : Int32) * v3))), (0, .ref M), (1, .int a1)]) hx hb dX3_heft_42 rfl hl (by decide) rfl (fun ls hl => ?_)
      refine lv_aload_n hx hb dX3_heft_43 rfl (lv_at hl 1 rfl) ?_
      refine m_get X hK hH 20 (by decide) rfl (mg_20 _ _) q1079 dX3_heft_44 ?_
      refine lv_iload_n hx hb dX3_heft_47 rfl (lv_at hl 2 rfl) ?_
      obtain ⟨v4, hv, hf⟩ := bd hf
      refine m_iald X hK hH 15 (mc_20 _ _) hv dX3_heft_48 ?_
      refine lv_iconst (v := (2 : Int32)) hx hb dX3_heft_49 (by decide) ?_
      refine lv_icmp_ne (tgt := 61) hx hb dX3_heft_50 (by decide) (fun c_ => ?_) (fun c_ => ?_)
      · have hf := (if_neg c_).symm.trans hf
        refine lv_aload_n hx hb dX3_heft_61 rfl (lv_at hl 1 rfl) ?_
        refine m_get X hK hH 20 (by decide) rfl (mg_20 _ _) q1079 dX3_heft_62 ?_
        refine lv_iload_n hx hb dX3_heft_65 rfl (lv_at hl 2 rfl) ?_
        obtain ⟨v5, hv, hf⟩ := bd hf
        refine m_iald X hK hH 15 (mc_20 _ _) hv dX3_heft_66 ?_
        refine lv_iconst (v := (3 : Int32)) hx hb dX3_heft_67 (by decide) ?_
        refine lv_icmp_ne (tgt := 77) hx hb dX3_heft_68 (by decide) (fun c_ => ?_) (fun c_ => ?_)
        · have hf := (if_neg c_).symm.trans hf
          refine lv_iload_n hx hb dX3_heft_77 rfl (lv_at hl 0 rfl) ?_
          cases hf
          exact r_iret X dX3_heft_78 (Nat.le_refl _) (Nat.le_refl _) rfl hH hS
        · have hf := (if_pos c_).symm.trans hf
          refine lv_iconst (v := (2 : Int32)) hx hb dX3_heft_71 (by decide) ?_
          refine lv_iload_n hx hb dX3_heft_72 rfl (lv_at hl 0 rfl) ?_
          refine lv_imul hx hb dX3_heft_73 ?_
          refine lv_goto (tgt := 78) hx hb dX3_heft_74 (by decide) ?_
          cases hf
          exact r_iret X dX3_heft_78 (Nat.le_refl _) (Nat.le_refl _) rfl hH hS
      · have hf := (if_pos c_).symm.trans hf
        refine lv_iload_n hx hb dX3_heft_53 rfl (lv_at hl 0 rfl) ?_
        refine lv_sipush (v := (1000 : Int32)) hx hb dX3_heft_54 (by decide) ?_
        refine lv_iadd hx hb dX3_heft_57 ?_
        refine lv_goto (tgt := 78) hx hb dX3_heft_58 (by decide) ?_
        cases hf
        exact r_iret X dX3_heft_78 (Nat.le_refl _) (Nat.le_refl _) rfl hH hS
    · have hf := (if_pos c_).symm.trans hf
      refine lv_aload_n hx hb dX3_heft_23 rfl (lv_at hl 0 rfl) ?_
      refine m_get X hK hH 22 (by decide) rfl (mg_22 _ _) q1081 dX3_heft_24 ?_
      refine lv_iload_n hx hb dX3_heft_27 rfl (lv_at hl 1 rfl) ?_
      obtain ⟨v6, hv, hf⟩ := bd hf
      refine m_iald X hK hH 17 (mc_22 _ _) hv dX3_heft_28 ?_
      cases hf
      exact r_iret X dX3_heft_29 (Nat.le_refl _) (Nat.le_refl _) rfl hH hS
  · have hf := (if_neg c_).symm.trans hf
    refine lv_aload_n hx hb dX3_heft_8 rfl (lv_at hl 0 rfl) ?_
    refine lv_iload_n hx hb dX3_heft_9 rfl (lv_at hl 1 rfl) ?_
    obtain ⟨v7, hv, hf⟩ := bd hf
    refine r_Vi (As := [.int a1]) (rest := []) X (met_X3_lacksCode l G _ _ _ N st a1 v7 hv) cv_X3_lacksCode q1409 (m_recv hK hH) rfl rfl hl.1 (Nat.le_of_ble_eq_true rfl) ⟨Nat.le_of_ble_eq_true rfl, Nat.le_of_ble_eq_true rfl⟩ ⟨Nat.le_refl _, Nat.le_refl _⟩ dX3_heft_10 hK hH hS (fun H locs hH hS => ?_)
    cases hf
    exact r_iret X dX3_heft_13 (Nat.le_refl _) (Nat.le_refl _) rfl hH hS
theorem cv_X3_hole : CalV "WordBenchModel" yX3_hole cX3_hole 3 (some .long) 1 := ⟨q1319, q1320, q57, q1321, by decide +kernel⟩
set_option maxHeartbeats 4000000 in
theorem met_X3_hole (l : Launch) (G : GG) (sz M : Nat) (rst : Nat → Option AE) (N : Nat) (st : MS) (a1 : Int32) (stf : MS) (rf : Int64) (hf : f_X3_hole N st a1 = some (stf, rf)) : Con l yX3_hole cX3_hole 3 (some .long) 7 0 0 G (sz, MH M st rst) [.ref M, .int a1] (sz, MH M stf rst) (some (.long rf)) := by
  refine con_of (by decide) (Nat.le_of_ble_eq_true rfl) ?_
  intro p e s m below meth c ls X hK hH hl hS
  have hx := X.1
  have hb := X.2.1
  have hown : s.vm.findClass RX3 = some m.cls := X.2.2.2.2.1
  have hts := X.2.2.2.2.2.1
  have hl : lv_has ls 3 [(0, .ref M), (1, .int a1)] := hl
  unfold f_X3_hole at hf
  refine lv_aload_n hx hb dX3_hole_0 rfl (lv_at hl 0 rfl) ?_
  refine lv_iload_n hx hb dX3_hole_1 rfl (lv_at hl 1 rfl) ?_
  obtain ⟨v1, hv, hf⟩ := bd hf
  refine r_Vi (As := [.int a1]) (rest := []) X (met_X3_covers l G _ _ _ N st a1 v1.1 v1.2 hv) cv_X3_covers q1313 (m_recv hK hH) rfl rfl hl.1 (Nat.le_of_ble_eq_true rfl) ⟨Nat.le_of_ble_eq_true rfl, Nat.le_of_ble_eq_true rfl⟩ ⟨Nat.le_refl _, Nat.le_refl _⟩ dX3_hole_2 hK hH hS (fun H locs hH hS => ?_)
  refine lv_istore_n (lv' := [(2, .int v1.2), (0, .ref M), (1, .int a1)]) hx hb dX3_hole_5 rfl hl (by decide) rfl (fun ls hl => ?_)
  refine lv_iload_n hx hb dX3_hole_6 rfl (lv_at hl 0 rfl) ?_
  refine lv_if_eq (tgt := 15) hx hb dX3_hole_7 (by decide) (fun c_ => ?_) (fun c_ => ?_)
  · have hf := (if_pos c_).symm.trans hf
    refine lv_aload_n hx hb dX3_hole_15 rfl (lv_at hl 1 rfl) ?_
    refine m_get X hK hH 15 (by decide) rfl (mg_15 _ _) q1074 dX3_hole_16 ?_
    cases hf
    exact r_lret X dX3_hole_19 (Nat.le_refl _) (Nat.le_refl _) rfl hH hS
  · have hf := (if_neg c_).symm.trans hf
    refine lv_iload_n hx hb dX3_hole_10 rfl (lv_at hl 0 rfl) ?_
    refine lv_i2l (v := (v1.2).toInt64) hx hb dX3_hole_11 rfl ?_
    refine lv_goto (tgt := 19) hx hb dX3_hole_12 (by decide) ?_
    cases hf
    exact r_lret X dX3_hole_19 (Nat.le_refl _) (Nat.le_refl _) rfl hH hS
theorem cv_X3_in : CalV "WordBenchModel" yX3_in cX3_in 4 (some .int) 2 := ⟨q1204, q1205, q57, q1206, by decide +kernel⟩
set_option maxHeartbeats 4000000 in
theorem met_X3_in (l : Launch) (G : GG) (sz M : Nat) (rst : Nat → Option AE) (N : Nat) (st : MS) (a1 : Int32) (a2 : Int64) (stf : MS) (rf : Int32) (hf : f_X3_in N st a1 a2 = some (stf, rf)) : Con l yX3_in cX3_in 4 (some .int) 5 0 0 G (sz, MH M st rst) [.ref M, .int a1, .long a2] (sz, MH M stf rst) (some (.int rf)) := by
  refine con_of (by decide) (Nat.le_of_ble_eq_true rfl) ?_
  intro p e s m below meth c ls X hK hH hl hS
  have hx := X.1
  have hb := X.2.1
  have hown : s.vm.findClass RX3 = some m.cls := X.2.2.2.2.1
  have hts := X.2.2.2.2.2.1
  have hl : lv_has ls 4 [(0, .ref M), (1, .int a1), (2, .long a2)] := hl
  unfold f_X3_in at hf
  refine lv_iload_n hx hb dX3_in_0 rfl (lv_at hl 1 rfl) ?_
  obtain ⟨v1, hv, hf⟩ := bd hf
  refine r_Si (As := [.int a1]) (rest := []) X (met_X3_isPlace l G _ N a1 v1 hv) cs_X3_isPlace q1136 rfl rfl hl.1 (Nat.le_of_ble_eq_true rfl) ⟨Nat.le_of_ble_eq_true rfl, Nat.le_of_ble_eq_true rfl⟩ ⟨Nat.le_refl _, Nat.le_refl _⟩ dX3_in_1 hK hH hS (fun H locs hH hS => ?_)
  refine lv_if_ne (tgt := 9) hx hb dX3_in_4 (by decide) (fun c_ => ?_) (fun c_ => ?_)
  · have hf := (if_neg c_).symm.trans hf
    refine lv_aload_n hx hb dX3_in_9 rfl (lv_at hl 0 rfl) ?_
    refine lv_iload_n hx hb dX3_in_10 rfl (lv_at hl 1 rfl) ?_
    obtain ⟨v2, hv, hf⟩ := bd hf
    refine r_Vi (As := [.int a1]) (rest := []) X (met_X3_isEmpty l G _ _ _ N st a1 v2 hv) cv_X3_isEmpty q1148 (m_recv hK hH) rfl rfl hl.1 (Nat.le_of_ble_eq_true rfl) ⟨Nat.le_of_ble_eq_true rfl, Nat.le_of_ble_eq_true rfl⟩ ⟨Nat.le_refl _, Nat.le_refl _⟩ dX3_in_11 hK hH hS (fun H locs hH hS => ?_)
    refine lv_if_eq (tgt := 20) hx hb dX3_in_14 (by decide) (fun c_ => ?_) (fun c_ => ?_)
    · have hf := (if_pos c_).symm.trans hf
      refine lv_aload_n hx hb dX3_in_20 rfl (lv_at hl 0 rfl) ?_
      refine lv_iload_n hx hb dX3_in_21 rfl (lv_at hl 1 rfl) ?_
      refine lv_lload_n hx hb dX3_in_22 rfl (lv_at hl 2 rfl) ?_
      obtain ⟨v3, hv, hf⟩ := bd hf
      refine r_Vi (As := [.int a1, .long a2]) (rest := []) X (met_X3_hasWord l G _ _ _ N st a1 a2 v3 hv) cv_X3_hasWord q1152 (m_recv hK hH) rfl rfl hl.1 (Nat.le_of_ble_eq_true rfl) ⟨Nat.le_of_ble_eq_true rfl, Nat.le_of_ble_eq_true rfl⟩ ⟨Nat.le_refl _, Nat.le_refl _⟩ dX3_in_23 hK hH hS (fun H locs hH hS => ?_)
      refine lv_if_ne (tgt := 31) hx hb dX3_in_26 (by decide) (fun c_ => ?_) (fun c_ => ?_)
      · have hf := (if_neg c_).symm.trans hf
        refine lv_aload_n hx hb dX3_in_31 rfl (lv_at hl 0 rfl) ?_
        refine m_get X hK hH 1 (by decide) rfl (mg_1 _ _) q1060 dX3_in_32 ?_
        refine lv_iload_n hx hb dX3_in_35 rfl (lv_at hl 1 rfl) ?_
        obtain ⟨v4, hv, hf⟩ := bd hf
        refine m_iald X hK hH 1 (mc_1 _ _) hv dX3_in_36 ?_
        refine lv_if_ne (tgt := 53) hx hb dX3_in_37 (by decide) (fun c_ => ?_) (fun c_ => ?_)
        · have hf := (if_neg c_).symm.trans hf
          refine lv_aload_n hx hb dX3_in_53 rfl (lv_at hl 0 rfl) ?_
          refine lv_iload_n hx hb dX3_in_54 rfl (lv_at hl 1 rfl) ?_
          refine lv_lload_n hx hb dX3_in_55 rfl (lv_at hl 2 rfl) ?_
          obtain ⟨v5, hv, hf⟩ := bd hf
          refine r_Vi (As := [.int a1, .long a2]) (rest := []) X (met_X3_isInLine l G _ _ _ N st a1 a2 v5.1 v5.2 hv) cv_X3_isInLine q1207 (m_recv hK hH) rfl rfl hl.1 (Nat.le_of_ble_eq_true rfl) ⟨Nat.le_of_ble_eq_true rfl, Nat.le_of_ble_eq_true rfl⟩ ⟨Nat.le_refl _, Nat.le_refl _⟩ dX3_in_56 hK hH hS (fun H locs hH hS => ?_)
          refine lv_if_eq (tgt := 66) hx hb dX3_in_59 (by decide) (fun c_ => ?_) (fun c_ => ?_)
          · have hf := (if_pos c_).symm.trans hf
            refine lv_iconst (v := (0 : Int32)) hx hb dX3_in_66 (by decide) ?_
            cases hf
            exact r_iret X dX3_in_67 (Nat.le_refl _) (Nat.le_refl _) rfl hH hS
          · have hf := (if_neg c_).symm.trans hf
            refine lv_iconst (v := (1 : Int32)) hx hb dX3_in_62 (by decide) ?_
            refine lv_goto (tgt := 67) hx hb dX3_in_63 (by decide) ?_
            cases hf
            exact r_iret X dX3_in_67 (Nat.le_refl _) (Nat.le_refl _) rfl hH hS
        · have hf := (if_pos c_).symm.trans hf
          refine lv_aload_n hx hb dX3_in_40 rfl (lv_at hl 0 rfl) ?_
          refine lv_iload_n hx hb dX3_in_41 rfl (lv_at hl 1 rfl) ?_
          refine lv_lload_n hx hb dX3_in_42 rfl (lv_at hl 2 rfl) ?_
          obtain ⟨v6, hv, hf⟩ := bd hf
          refine r_Vi (As := [.int a1, .long a2]) (rest := []) X (met_X3_find l G _ _ _ N st a1 a2 v6 hv) cv_X3_find q1156 (m_recv hK hH) rfl rfl hl.1 (Nat.le_of_ble_eq_true rfl) ⟨Nat.le_of_ble_eq_true rfl, Nat.le_of_ble_eq_true rfl⟩ ⟨Nat.le_refl _, Nat.le_refl _⟩ dX3_in_43 hK hH hS (fun H locs hH hS => ?_)
          refine lv_iconst (v := (-1 : Int32)) hx hb dX3_in_46 (by decide) ?_
          refine lv_icmp_eq (tgt := 66) hx hb dX3_in_47 (by decide) (fun c_ => ?_) (fun c_ => ?_)
          · have hf := (if_pos c_).symm.trans hf
            refine lv_iconst (v := (0 : Int32)) hx hb dX3_in_66 (by decide) ?_
            cases hf
            exact r_iret X dX3_in_67 (Nat.le_refl _) (Nat.le_refl _) rfl hH hS
          · have hf := (if_neg c_).symm.trans hf
            refine lv_goto (tgt := 62) hx hb dX3_in_50 (by decide) ?_
            refine lv_iconst (v := (1 : Int32)) hx hb dX3_in_62 (by decide) ?_
            refine lv_goto (tgt := 67) hx hb dX3_in_63 (by decide) ?_
            cases hf
            exact r_iret X dX3_in_67 (Nat.le_refl _) (Nat.le_refl _) rfl hH hS
      · have hf := (if_pos c_).symm.trans hf
        refine lv_iconst (v := (-1 : Int32)) hx hb dX3_in_29 (by decide) ?_
        cases hf
        exact r_iret X dX3_in_30 (Nat.le_refl _) (Nat.le_refl _) rfl hH hS
    · have hf := (if_neg c_).symm.trans hf
      refine lv_bipush (v := (-11 : Int32)) hx hb dX3_in_17 (by decide) ?_
      cases hf
      exact r_iret X dX3_in_19 (Nat.le_refl _) (Nat.le_refl _) rfl hH hS
  · have hf := (if_pos c_).symm.trans hf
    refine lv_iconst (v := (-1 : Int32)) hx hb dX3_in_7 (by decide) ?_
    cases hf
    exact r_iret X dX3_in_8 (Nat.le_refl _) (Nat.le_refl _) rfl hH hS
theorem cv_X3_isWithin : CalV "WordBenchModel" yX3_isWithin cX3_isWithin 4 (some .boolean) 1 := ⟨q1178, qs24, q57, q1179, by decide +kernel⟩
set_option maxHeartbeats 4000000 in
theorem met_X3_isWithin (l : Launch) (G : GG) (sz M : Nat) (rst : Nat → Option AE) (N : Nat) (st : MS) (a1 : Int32) (rf : Int32) (hf : f_X3_isWithin N st a1 = some rf) : Con l yX3_isWithin cX3_isWithin 4 (some .boolean) 3 0 0 G (sz, MH M st rst) [.ref M, .int a1] (sz, MH M st rst) (some (.int rf)) := by
  refine con_of (by decide) (Nat.le_of_ble_eq_true rfl) ?_
  intro p e s m below meth c ls X hK hH hl hS
  have hx := X.1
  have hb := X.2.1
  have hown : s.vm.findClass RX3 = some m.cls := X.2.2.2.2.1
  have hts := X.2.2.2.2.2.1
  have hl : lv_has ls 4 [(0, .ref M), (1, .int a1)] := hl
  unfold f_X3_isWithin at hf
  have L2 : ∀ (c1 : Int32) (n : Nat) (s2 : Int32) (r2 : (Unit ⊕ Unit)), lp (f_X3_isWithin_b2 N c1 st) n s2 = some r2 → (match r2 with | .inl e2 => (∀ (ls : Array Slot) (H : Heap) (locs : List Loc), lv_has ls 4 [] → HH G (sz, MH M st rst) H → va_S (AG G) s.heap H locs → W p l e (rm_ 3 0 0) s m ([.ref M, .int a1] : List Value).toArray below meth c H locs 0 0 (MQ below (PostC G (sz, MH M st rst) (some (.int rf))) ([.ref M, .int a1] : List Value).toArray s 0 0 (AG G)) (F0 m 61 ls [])) | .inr e2 => (∀ (ls : Array Slot) (H : Heap) (locs : List Loc), lv_has ls 4 [] → HH G (sz, MH M st rst) H → va_S (AG G) s.heap H locs → W p l e (rm_ 3 0 0) s m ([.ref M, .int a1] : List Value).toArray below meth c H locs 0 0 (MQ below (PostC G (sz, MH M st rst) (some (.int rf))) ([.ref M, .int a1] : List Value).toArray s 0 0 (AG G)) (F0 m 75 ls []))) → ∀ (ls : Array Slot) (H : Heap) (locs : List Loc), lv_has ls 4 [(0, .ref M), (1, .int c1), (2, .int s2)] → HH G (sz, MH M st rst) H → va_S (AG G) s.heap H locs → W p l e (rm_ 3 0 0) s m ([.ref M, .int a1] : List Value).toArray below meth c H locs 0 0 (MQ below (PostC G (sz, MH M st rst) (some (.int rf))) ([.ref M, .int a1] : List Value).toArray s 0 0 (AG G)) (F0 m 2 ls []) := by
    intro c1 n s2 r2 hr hq
    refine lp_ind (P := fun s2 => ∀ (ls : Array Slot) (H : Heap) (locs : List Loc), lv_has ls 4 [(0, .ref M), (1, .int c1), (2, .int s2)] → HH G (sz, MH M st rst) H → va_S (AG G) s.heap H locs → W p l e (rm_ 3 0 0) s m ([.ref M, .int a1] : List Value).toArray below meth c H locs 0 0 (MQ below (PostC G (sz, MH M st rst) (some (.int rf))) ([.ref M, .int a1] : List Value).toArray s 0 0 (AG G)) (F0 m 2 ls [])) (Q := fun r2 => match r2 with | .inl e2 => (∀ (ls : Array Slot) (H : Heap) (locs : List Loc), lv_has ls 4 [] → HH G (sz, MH M st rst) H → va_S (AG G) s.heap H locs → W p l e (rm_ 3 0 0) s m ([.ref M, .int a1] : List Value).toArray below meth c H locs 0 0 (MQ below (PostC G (sz, MH M st rst) (some (.int rf))) ([.ref M, .int a1] : List Value).toArray s 0 0 (AG G)) (F0 m 61 ls [])) | .inr e2 => (∀ (ls : Array Slot) (H : Heap) (locs : List Loc), lv_has ls 4 [] → HH G (sz, MH M st rst) H → va_S (AG G) s.heap H locs → W p l e (rm_ 3 0 0) s m ([.ref M, .int a1] : List Value).toArray below meth c H locs 0 0 (MQ below (PostC G (sz, MH M st rst) (some (.int rf))) ([.ref M, .int a1] : List Value).toArray s 0 0 (AG G)) (F0 m 75 ls []))) ?_ n s2 r2 hr hq
    intro s2 x2 hf hx2 ls H locs hl hH hS
    unfold f_X3_isWithin_b2 at hf
    have L14 : ∀ (c1 : Int32) (c2 : Int32) (n : Nat) (s14 : Int32) (r14 : (Unit ⊕ Unit)), lp (f_X3_isWithin_b14 N c1 c2 st) n s14 = some r14 → (match r14 with | .inl e14 => (∀ (ls : Array Slot) (H : Heap) (locs : List Loc), lv_has ls 4 [] → HH G (sz, MH M st rst) H → va_S (AG G) s.heap H locs → W p l e (rm_ 3 0 0) s m ([.ref M, .int a1] : List Value).toArray below meth c H locs 0 0 (MQ below (PostC G (sz, MH M st rst) (some (.int rf))) ([.ref M, .int a1] : List Value).toArray s 0 0 (AG G)) (F0 m 61 ls [])) | .inr e14 => (∀ (ls : Array Slot) (H : Heap) (locs : List Loc), lv_has ls 4 [(0, .ref M), (1, .int c1), (2, .int c2)] → HH G (sz, MH M st rst) H → va_S (AG G) s.heap H locs → W p l e (rm_ 3 0 0) s m ([.ref M, .int a1] : List Value).toArray below meth c H locs 0 0 (MQ below (PostC G (sz, MH M st rst) (some (.int rf))) ([.ref M, .int a1] : List Value).toArray s 0 0 (AG G)) (F0 m 69 ls []))) → ∀ (ls : Array Slot) (H : Heap) (locs : List Loc), lv_has ls 4 [(0, .ref M), (1, .int c1), (2, .int c2), (3, .int s14)] → HH G (sz, MH M st rst) H → va_S (AG G) s.heap H locs → W p l e (rm_ 3 0 0) s m ([.ref M, .int a1] : List Value).toArray below meth c H locs 0 0 (MQ below (PostC G (sz, MH M st rst) (some (.int rf))) ([.ref M, .int a1] : List Value).toArray s 0 0 (AG G)) (F0 m 14 ls []) := by
      intro c1 c2 n s14 r14 hr hq
      refine lp_ind (P := fun s14 => ∀ (ls : Array Slot) (H : Heap) (locs : List Loc), lv_has ls 4 [(0, .ref M), (1, .int c1), (2, .int c2), (3, .int s14)] → HH G (sz, MH M st rst) H → va_S (AG G) s.heap H locs → W p l e (rm_ 3 0 0) s m ([.ref M, .int a1] : List Value).toArray below meth c H locs 0 0 (MQ below (PostC G (sz, MH M st rst) (some (.int rf))) ([.ref M, .int a1] : List Value).toArray s 0 0 (AG G)) (F0 m 14 ls [])) (Q := fun r14 => match r14 with | .inl e14 => (∀ (ls : Array Slot) (H : Heap) (locs : List Loc), lv_has ls 4 [] → HH G (sz, MH M st rst) H → va_S (AG G) s.heap H locs → W p l e (rm_ 3 0 0) s m ([.ref M, .int a1] : List Value).toArray below meth c H locs 0 0 (MQ below (PostC G (sz, MH M st rst) (some (.int rf))) ([.ref M, .int a1] : List Value).toArray s 0 0 (AG G)) (F0 m 61 ls [])) | .inr e14 => (∀ (ls : Array Slot) (H : Heap) (locs : List Loc), lv_has ls 4 [(0, .ref M), (1, .int c1), (2, .int c2)] → HH G (sz, MH M st rst) H → va_S (AG G) s.heap H locs → W p l e (rm_ 3 0 0) s m ([.ref M, .int a1] : List Value).toArray below meth c H locs 0 0 (MQ below (PostC G (sz, MH M st rst) (some (.int rf))) ([.ref M, .int a1] : List Value).toArray s 0 0 (AG G)) (F0 m 69 ls []))) ?_ n s14 r14 hr hq
      intro s14 x14 hf hx14 ls H locs hl hH hS
      unfold f_X3_isWithin_b14 at hf
      refine lv_iload_n hx hb dX3_isWithin_14 rfl (lv_at hl 3 rfl) ?_
      refine lv_iload_n hx hb dX3_isWithin_15 rfl (lv_at hl 2 rfl) ?_
      refine lv_icmp_gt (tgt := 69) hx hb dX3_isWithin_16 (by decide) (fun c_ => ?_) (fun c_ => ?_)
      · have hf := (if_pos c_).symm.trans hf
        cases hf
        exact hx14 _ _ _ (lv_sub hl [0, 1, 2] rfl) hH hS
      · have hf := (if_neg c_).symm.trans hf
        refine lv_aload_n hx hb dX3_isWithin_19 rfl (lv_at hl 0 rfl) ?_
        refine m_get X hK hH 2 (by decide) rfl (mg_2 _ _) q1061 dX3_isWithin_20 ?_
        refine lv_iload_n hx hb dX3_isWithin_23 rfl (lv_at hl 1 rfl) ?_
        obtain ⟨v2, hv, hf⟩ := bd hf
        refine m_iald X hK hH 2 (mc_2 _ _) hv dX3_isWithin_24 ?_
        refine lv_aload_n hx hb dX3_isWithin_25 rfl (lv_at hl 0 rfl) ?_
        refine m_get X hK hH 3 (by decide) rfl (mg_3 _ _) q1062 dX3_isWithin_26 ?_
        refine lv_iload_n hx hb dX3_isWithin_29 rfl (lv_at hl 1 rfl) ?_
        obtain ⟨v3, hv, hf⟩ := bd hf
        refine m_iald X hK hH 3 (mc_3 _ _) hv dX3_isWithin_30 ?_
        refine lv_aload_n hx hb dX3_isWithin_31 rfl (lv_at hl 0 rfl) ?_
        refine m_get X hK hH 5 (by decide) rfl (mg_5 _ _) q1064 dX3_isWithin_32 ?_
        refine lv_sipush (v := (200 : Int32)) hx hb dX3_isWithin_35 (by decide) ?_
        refine lv_iload_n hx hb dX3_isWithin_38 rfl (lv_at hl 1 rfl) ?_
        refine lv_imul hx hb dX3_isWithin_39 ?_
        refine lv_iload_n hx hb dX3_isWithin_40 rfl (lv_at hl 2 rfl) ?_
        refine lv_iadd hx hb dX3_isWithin_41 ?_
        obtain ⟨v4, hv, hf⟩ := bd hf
        refine m_lald X hK hH 5 (mc_5 _ _) hv dX3_isWithin_42 ?_
        refine lv_aload_n hx hb dX3_isWithin_43 rfl (lv_at hl 0 rfl) ?_
        refine m_get X hK hH 5 (by decide) rfl (mg_5 _ _) q1064 dX3_isWithin_44 ?_
        refine lv_sipush (v := (200 : Int32)) hx hb dX3_isWithin_47 (by decide) ?_
        refine lv_iload_n hx hb dX3_isWithin_50 rfl (lv_at hl 1 rfl) ?_
        refine lv_imul hx hb dX3_isWithin_51 ?_
        refine lv_iload_n hx hb dX3_isWithin_52 rfl (lv_at hl 3 rfl) ?_
        refine lv_iadd hx hb dX3_isWithin_53 ?_
        obtain ⟨v5, hv, hf⟩ := bd hf
        refine m_lald X hK hH 5 (mc_5 _ _) hv dX3_isWithin_54 ?_
        obtain ⟨v6, hv, hf⟩ := bd hf
        refine r_Si (As := [.int v2, .int v3, .long v4, .long v5]) (rest := []) X (met_X3_productOf l G _ N v2 v3 v4 v5 v6 hv) cs_X3_productOf q1049 rfl rfl hl.1 (Nat.le_of_ble_eq_true rfl) ⟨Nat.le_of_ble_eq_true rfl, Nat.le_of_ble_eq_true rfl⟩ ⟨Nat.le_refl _, Nat.le_refl _⟩ dX3_isWithin_55 hK hH hS (fun H locs hH hS => ?_)
        refine lv_if_eq (tgt := 63) hx hb dX3_isWithin_58 (by decide) (fun c_ => ?_) (fun c_ => ?_)
        · have hf := (if_pos c_).symm.trans hf
          refine lv_iinc (v := (s14 + 1)) (lv' := [(3, .int (s14 + 1)), (0, .ref M), (1, .int c1), (2, .int c2)]) hx hb dX3_isWithin_63 hl (k := 3) rfl rfl (by decide) rfl (fun ls hl => ?_)
          refine lv_goto (tgt := 14) hx hb dX3_isWithin_66 (by decide) ?_
          cases hf
          exact hx14 _ _ _ (lv_sub hl [1, 2, 3, 0] rfl) hH hS
        · have hf := (if_neg c_).symm.trans hf
          cases hf
          exact hx14 _ _ _ (lv_sub hl [] rfl) hH hS
    refine lv_iload_n hx hb dX3_isWithin_2 rfl (lv_at hl 2 rfl) ?_
    refine lv_aload_n hx hb dX3_isWithin_3 rfl (lv_at hl 0 rfl) ?_
    refine m_get X hK hH 4 (by decide) rfl (mg_4 _ _) q1063 dX3_isWithin_4 ?_
    refine lv_iload_n hx hb dX3_isWithin_7 rfl (lv_at hl 1 rfl) ?_
    obtain ⟨v1, hv, hf⟩ := bd hf
    refine m_iald X hK hH 4 (mc_4 _ _) hv dX3_isWithin_8 ?_
    refine lv_icmp_ge (tgt := 75) hx hb dX3_isWithin_9 (by decide) (fun c_ => ?_) (fun c_ => ?_)
    · have hf := (if_pos c_).symm.trans hf
      cases hf
      exact hx2 _ _ _ (lv_sub hl [] rfl) hH hS
    · have hf := (if_neg c_).symm.trans hf
      refine lv_iconst (v := (0 : Int32)) hx hb dX3_isWithin_12 (by decide) ?_
      refine lv_istore_n (lv' := [(3, .int (0 : Int32)), (0, .ref M), (1, .int c1), (2, .int s2)]) hx hb dX3_isWithin_13 rfl hl (by decide) rfl (fun ls hl => ?_)
      obtain ⟨r14_7, hr, hf⟩ := bd hf
      refine L14 c1 s2 N _ r14_7 hr ?_ _ _ _ (lv_sub hl [1, 2, 3, 0] rfl) hH hS
      rcases r14_7 with r14_7 | r14_7
      · intro ls H locs hl hH hS
        dsimp only at hf
        cases hf
        exact hx2 _ _ _ (lv_sub hl [] rfl) hH hS
      · intro ls H locs hl hH hS
        dsimp only at hf
        refine lv_iinc (v := (s2 + 1)) (lv' := [(2, .int (s2 + 1)), (0, .ref M), (1, .int c1)]) hx hb dX3_isWithin_69 hl (k := 2) rfl rfl (by decide) rfl (fun ls hl => ?_)
        refine lv_goto (tgt := 2) hx hb dX3_isWithin_72 (by decide) ?_
        cases hf
        exact hx2 _ _ _ (lv_sub hl [1, 2, 0] rfl) hH hS
  refine lv_iconst (v := (0 : Int32)) hx hb dX3_isWithin_0 (by decide) ?_
  refine lv_istore_n (lv' := [(2, .int (0 : Int32)), (0, .ref M), (1, .int a1)]) hx hb dX3_isWithin_1 rfl hl (by decide) rfl (fun ls hl => ?_)
  obtain ⟨r2_8, hr, hf⟩ := bd hf
  refine L2 a1 N _ r2_8 hr ?_ _ _ _ (lv_sub hl [1, 2, 0] rfl) hH hS
  rcases r2_8 with r2_8 | r2_8
  · intro ls H locs hl hH hS
    dsimp only at hf
    refine lv_iconst (v := (0 : Int32)) hx hb dX3_isWithin_61 (by decide) ?_
    obtain ⟨hz, hv⟩ := rz_s hf
    subst hv
    exact r_zret X dX3_isWithin_62 (Nat.le_refl _) (Nat.le_refl _) hz rfl hH hS
  · intro ls H locs hl hH hS
    dsimp only at hf
    refine lv_iconst (v := (1 : Int32)) hx hb dX3_isWithin_75 (by decide) ?_
    obtain ⟨hz, hv⟩ := rz_s hf
    subst hv
    exact r_zret X dX3_isWithin_76 (Nat.le_refl _) (Nat.le_refl _) hz rfl hH hS
theorem cv_X3_lacksLine : CalV "WordBenchModel" yX3_lacksLine cX3_lacksLine 2 (some .int) 1 := ⟨q1363, qs44, q57, q1364, by decide +kernel⟩
set_option maxHeartbeats 4000000 in
theorem met_X3_lacksLine (l : Launch) (G : GG) (sz M : Nat) (rst : Nat → Option AE) (N : Nat) (st : MS) (a1 : Int32) (rf : Int32) (hf : f_X3_lacksLine N st a1 = some rf) : Con l yX3_lacksLine cX3_lacksLine 2 (some .int) 1 0 0 G (sz, MH M st rst) [.ref M, .int a1] (sz, MH M st rst) (some (.int rf)) := by
  refine con_of (by decide) (Nat.le_of_ble_eq_true rfl) ?_
  intro p e s m below meth c ls X hK hH hl hS
  have hx := X.1
  have hb := X.2.1
  have hown : s.vm.findClass RX3 = some m.cls := X.2.2.2.2.1
  have hts := X.2.2.2.2.2.1
  have hl : lv_has ls 2 [(0, .ref M), (1, .int a1)] := hl
  unfold f_X3_lacksLine at hf
  refine lv_aload_n hx hb dX3_lacksLine_0 rfl (lv_at hl 0 rfl) ?_
  refine lv_iload_n hx hb dX3_lacksLine_1 rfl (lv_at hl 1 rfl) ?_
  obtain ⟨v1, hv, hf⟩ := bd hf
  refine r_Vi (As := [.int a1]) (rest := []) X (met_X3_isEmpty l G _ _ _ N st a1 v1 hv) cv_X3_isEmpty q1148 (m_recv hK hH) rfl rfl hl.1 (Nat.le_of_ble_eq_true rfl) ⟨Nat.le_of_ble_eq_true rfl, Nat.le_of_ble_eq_true rfl⟩ ⟨Nat.le_refl _, Nat.le_refl _⟩ dX3_lacksLine_2 hK hH hS (fun H locs hH hS => ?_)
  refine lv_if_eq (tgt := 13) hx hb dX3_lacksLine_5 (by decide) (fun c_ => ?_) (fun c_ => ?_)
  · have hf := (if_pos c_).symm.trans hf
    refine lv_aload_n hx hb dX3_lacksLine_13 rfl (lv_at hl 0 rfl) ?_
    refine m_get X hK hH 1 (by decide) rfl (mg_1 _ _) q1060 dX3_lacksLine_14 ?_
    refine lv_iload_n hx hb dX3_lacksLine_17 rfl (lv_at hl 1 rfl) ?_
    obtain ⟨v2, hv, hf⟩ := bd hf
    refine m_iald X hK hH 1 (mc_1 _ _) hv dX3_lacksLine_18 ?_
    refine lv_if_ne (tgt := 27) hx hb dX3_lacksLine_19 (by decide) (fun c_ => ?_) (fun c_ => ?_)
    · have hf := (if_neg c_).symm.trans hf
      refine lv_iconst (v := (0 : Int32)) hx hb dX3_lacksLine_27 (by decide) ?_
      cases hf
      exact r_iret X dX3_lacksLine_28 (Nat.le_refl _) (Nat.le_refl _) rfl hH hS
    · have hf := (if_pos c_).symm.trans hf
      refine lv_bipush (v := (-12 : Int32)) hx hb dX3_lacksLine_22 (by decide) ?_
      refine lv_goto (tgt := 28) hx hb dX3_lacksLine_24 (by decide) ?_
      cases hf
      exact r_iret X dX3_lacksLine_28 (Nat.le_refl _) (Nat.le_refl _) rfl hH hS
  · have hf := (if_neg c_).symm.trans hf
    refine lv_bipush (v := (-11 : Int32)) hx hb dX3_lacksLine_8 (by decide) ?_
    refine lv_goto (tgt := 28) hx hb dX3_lacksLine_10 (by decide) ?_
    cases hf
    exact r_iret X dX3_lacksLine_28 (Nat.le_refl _) (Nat.le_refl _) rfl hH hS
theorem cv_X3_join : CalV "WordBenchModel" yX3_join cX3_join 12 (some .int) 4 := ⟨q1358, q1359, q57, q1360, by decide +kernel⟩
set_option maxHeartbeats 4000000 in
theorem met_X3_join (l : Launch) (G : GG) (sz M : Nat) (rst : Nat → Option AE) (N : Nat) (st : MS) (a1 : Int32) (a2 : Int32) (a3 : Int32) (a4 : Int32) (stf : MS) (rf : Int32) (hf : f_X3_join N st a1 a2 a3 a4 = some (stf, rf)) : Con l yX3_join cX3_join 12 (some .int) 2 0 0 G (sz, MH M st rst) [.ref M, .int a1, .int a2, .int a3, .int a4] (sz, MH M stf rst) (some (.int rf)) := by
  refine con_of (by decide) (Nat.le_of_ble_eq_true rfl) ?_
  intro p e s m below meth c ls X hK hH hl hS
  have hx := X.1
  have hb := X.2.1
  have hown : s.vm.findClass RX3 = some m.cls := X.2.2.2.2.1
  have hts := X.2.2.2.2.2.1
  have hl : lv_has ls 12 [(0, .ref M), (1, .int a1), (2, .int a2), (3, .int a3), (4, .int a4)] := hl
  unfold f_X3_join at hf
  have L191 : ∀ (c1 : Int32) (c2 : Int32) (c3 : Int32) (c4 : Int32) (c5 : Int32) (c6 : Int32) (c7 : Int64) (n : Nat) (s191 : (Int32 × MS)) (r191 : MS), lp (f_X3_join_b191 N c1 c2 c3 c4 c5 c6 c7) n s191 = some r191 → (∀ (ls : Array Slot) (H : Heap) (locs : List Loc), lv_has ls 12 [(0, .ref M), (2, .int c2), (4, .int c4), (5, .int c5), (6, .int c6)] → HH G (sz, MH M r191 rst) H → va_S (AG G) s.heap H locs → W p l e (rm_ 2 0 0) s m ([.ref M, .int a1, .int a2, .int a3, .int a4] : List Value).toArray below meth c H locs 0 0 (MQ below (PostC G (sz, MH M stf rst) (some (.int rf))) ([.ref M, .int a1, .int a2, .int a3, .int a4] : List Value).toArray s 0 0 (AG G)) (F0 m 245 ls [])) → ∀ (ls : Array Slot) (H : Heap) (locs : List Loc), lv_has ls 12 [(0, .ref M), (1, .int c1), (2, .int c2), (3, .int c3), (4, .int c4), (5, .int c5), (6, .int c6), (7, .long c7), (9, .int s191.1)] → HH G (sz, MH M s191.2 rst) H → va_S (AG G) s.heap H locs → W p l e (rm_ 2 0 0) s m ([.ref M, .int a1, .int a2, .int a3, .int a4] : List Value).toArray below meth c H locs 0 0 (MQ below (PostC G (sz, MH M stf rst) (some (.int rf))) ([.ref M, .int a1, .int a2, .int a3, .int a4] : List Value).toArray s 0 0 (AG G)) (F0 m 191 ls []) := by
    intro c1 c2 c3 c4 c5 c6 c7 n s191 r191 hr hq
    refine lp_ind (P := fun s191 => ∀ (ls : Array Slot) (H : Heap) (locs : List Loc), lv_has ls 12 [(0, .ref M), (1, .int c1), (2, .int c2), (3, .int c3), (4, .int c4), (5, .int c5), (6, .int c6), (7, .long c7), (9, .int s191.1)] → HH G (sz, MH M s191.2 rst) H → va_S (AG G) s.heap H locs → W p l e (rm_ 2 0 0) s m ([.ref M, .int a1, .int a2, .int a3, .int a4] : List Value).toArray below meth c H locs 0 0 (MQ below (PostC G (sz, MH M stf rst) (some (.int rf))) ([.ref M, .int a1, .int a2, .int a3, .int a4] : List Value).toArray s 0 0 (AG G)) (F0 m 191 ls [])) (Q := fun r191 => ∀ (ls : Array Slot) (H : Heap) (locs : List Loc), lv_has ls 12 [(0, .ref M), (2, .int c2), (4, .int c4), (5, .int c5), (6, .int c6)] → HH G (sz, MH M r191 rst) H → va_S (AG G) s.heap H locs → W p l e (rm_ 2 0 0) s m ([.ref M, .int a1, .int a2, .int a3, .int a4] : List Value).toArray below meth c H locs 0 0 (MQ below (PostC G (sz, MH M stf rst) (some (.int rf))) ([.ref M, .int a1, .int a2, .int a3, .int a4] : List Value).toArray s 0 0 (AG G)) (F0 m 245 ls [])) ?_ n s191 r191 hr hq
    intro s191 x191 hf hx191 ls H locs hl hH hS
    unfold f_X3_join_b191 at hf
    have J234 : ∀ (d9 : Int32) (k0 : Int64) (k1 : Int64) (u234 : MS), f_X3_join_j234 N c1 c2 c3 c4 c5 c6 c7 d9 k0 k1 u234 = some x191 → ∀ (ls : Array Slot) (H : Heap) (locs : List Loc), lv_has ls 12 [(0, .ref M), (1, .int c1), (2, .int c2), (3, .int c3), (4, .int c4), (5, .int c5), (6, .int c6), (7, .long c7), (9, .int d9)] → HH G (sz, MH M u234 rst) H → va_S (AG G) s.heap H locs → W p l e (rm_ 2 0 0) s m ([.ref M, .int a1, .int a2, .int a3, .int a4] : List Value).toArray below meth c H locs 0 0 (MQ below (PostC G (sz, MH M stf rst) (some (.int rf))) ([.ref M, .int a1, .int a2, .int a3, .int a4] : List Value).toArray s 0 0 (AG G)) (F0 m 234 ls [.long k0, .long k1, .ref M]) := by
      intro d9 k0 k1 u234 hf ls H locs hl hH hS
      unfold f_X3_join_j234 at hf
      refine lv_ladd hx hb dX3_join_234 ?_
      refine lv_iconst (v := (0 : Int32)) hx hb dX3_join_235 (by decide) ?_
      obtain ⟨v17, hv, hf⟩ := bd hf
      refine r_Vv (As := [.long (k1 + k0), .int (0 : Int32)]) (rest := []) X (met_X3_asideOnce l G _ _ _ N u234 (k1 + k0) (0 : Int32) v17 hv) cv_X3_asideOnce q1349 (m_recv hK hH) rfl rfl hl.1 (Nat.le_of_ble_eq_true rfl) ⟨Nat.le_of_ble_eq_true rfl, Nat.le_of_ble_eq_true rfl⟩ ⟨Nat.le_refl _, Nat.le_refl _⟩ dX3_join_236 hK hH hS (fun H locs hH hS => ?_)
      refine lv_iinc (v := (d9 + 1)) (lv' := [(9, .int (d9 + 1)), (0, .ref M), (1, .int c1), (2, .int c2), (3, .int c3), (4, .int c4), (5, .int c5), (6, .int c6), (7, .long c7)]) hx hb dX3_join_239 hl (k := 8) rfl rfl (by decide) rfl (fun ls hl => ?_)
      refine lv_goto (tgt := 191) hx hb dX3_join_242 (by decide) ?_
      cases hf
      exact hx191 _ _ _ (lv_sub hl [1, 2, 3, 4, 5, 6, 7, 8, 0] rfl) hH hS
    refine lv_iload hx hb dX3_join_191 (lv_at hl 8 rfl) ?_
    refine lv_aload_n hx hb dX3_join_193 rfl (lv_at hl 0 rfl) ?_
    refine m_get X hK hH 4 (by decide) rfl (mg_4 _ _) q1063 dX3_join_194 ?_
    refine lv_iload_n hx hb dX3_join_197 rfl (lv_at hl 1 rfl) ?_
    obtain ⟨v15, hv, hf⟩ := bd hf
    refine m_iald X hK hH 4 (mc_4 _ _) hv dX3_join_198 ?_
    refine lv_icmp_ge (tgt := 245) hx hb dX3_join_199 (by decide) (fun c_ => ?_) (fun c_ => ?_)
    · have hf := (if_pos c_).symm.trans hf
      cases hf
      exact hx191 _ _ _ (lv_sub hl [0, 2, 4, 5, 6] rfl) hH hS
    · have hf := (if_neg c_).symm.trans hf
      refine lv_aload_n hx hb dX3_join_202 rfl (lv_at hl 0 rfl) ?_
      refine m_get X hK hH 5 (by decide) rfl (mg_5 _ _) q1064 dX3_join_203 ?_
      refine lv_sipush (v := (200 : Int32)) hx hb dX3_join_206 (by decide) ?_
      refine lv_iload_n hx hb dX3_join_209 rfl (lv_at hl 1 rfl) ?_
      refine lv_imul hx hb dX3_join_210 ?_
      refine lv_iload hx hb dX3_join_211 (lv_at hl 8 rfl) ?_
      refine lv_iadd hx hb dX3_join_213 ?_
      obtain ⟨v16, hv, hf⟩ := bd hf
      refine m_lald X hK hH 5 (mc_5 _ _) hv dX3_join_214 ?_
      refine lv_lstore (lv' := [(10, .long v16), (0, .ref M), (1, .int c1), (2, .int c2), (3, .int c3), (4, .int c4), (5, .int c5), (6, .int c6), (7, .long c7), (9, .int s191.1)]) hx hb dX3_join_215 hl (by decide) rfl (fun ls hl => ?_)
      refine lv_aload_n hx hb dX3_join_217 rfl (lv_at hl 1 rfl) ?_
      refine lv_lload hx hb dX3_join_218 (lv_at hl 0 rfl) ?_
      refine lv_lload hx hb dX3_join_220 (lv_at hl 8 rfl) ?_
      refine lv_lmul hx hb dX3_join_222 ?_
      refine lv_iload_n hx hb dX3_join_223 rfl (lv_at hl 4 rfl) ?_
      refine lv_iconst (v := (2 : Int32)) hx hb dX3_join_224 (by decide) ?_
      refine lv_icmp_ne (tgt := 233) hx hb dX3_join_225 (by decide) (fun c_ => ?_) (fun c_ => ?_)
      · have hf := (if_neg c_).symm.trans hf
        refine lv_lconst (v := (0 : Int64)) hx hb dX3_join_233 (by decide) ?_
        exact J234 s191.1 (0 : Int64) (v16 * c7) s191.2 hf _ _ _ (lv_sub hl [1, 2, 3, 4, 5, 6, 7, 8, 9] rfl) hH hS
      · have hf := (if_pos c_).symm.trans hf
        refine lv_lload hx hb dX3_join_228 (lv_at hl 0 rfl) ?_
        refine lv_goto (tgt := 234) hx hb dX3_join_230 (by decide) ?_
        exact J234 s191.1 v16 (v16 * c7) s191.2 hf _ _ _ (lv_sub hl [1, 2, 3, 4, 5, 6, 7, 8, 9] rfl) hH hS
  have L248 : ∀ (c2 : Int32) (c4 : Int32) (c5 : Int32) (c6 : Int32) (n : Nat) (s248 : (Int32 × MS)) (r248 : MS), lp (f_X3_join_b248 N c2 c4 c5 c6) n s248 = some r248 → (∀ (ls : Array Slot) (H : Heap) (locs : List Loc), lv_has ls 12 [(0, .ref M), (4, .int c4), (5, .int c5), (6, .int c6)] → HH G (sz, MH M r248 rst) H → va_S (AG G) s.heap H locs → W p l e (rm_ 2 0 0) s m ([.ref M, .int a1, .int a2, .int a3, .int a4] : List Value).toArray below meth c H locs 0 0 (MQ below (PostC G (sz, MH M stf rst) (some (.int rf))) ([.ref M, .int a1, .int a2, .int a3, .int a4] : List Value).toArray s 0 0 (AG G)) (F0 m 283 ls [])) → ∀ (ls : Array Slot) (H : Heap) (locs : List Loc), lv_has ls 12 [(0, .ref M), (2, .int c2), (4, .int c4), (5, .int c5), (6, .int c6), (9, .int s248.1)] → HH G (sz, MH M s248.2 rst) H → va_S (AG G) s.heap H locs → W p l e (rm_ 2 0 0) s m ([.ref M, .int a1, .int a2, .int a3, .int a4] : List Value).toArray below meth c H locs 0 0 (MQ below (PostC G (sz, MH M stf rst) (some (.int rf))) ([.ref M, .int a1, .int a2, .int a3, .int a4] : List Value).toArray s 0 0 (AG G)) (F0 m 248 ls []) := by
    intro c2 c4 c5 c6 n s248 r248 hr hq
    refine lp_ind (P := fun s248 => ∀ (ls : Array Slot) (H : Heap) (locs : List Loc), lv_has ls 12 [(0, .ref M), (2, .int c2), (4, .int c4), (5, .int c5), (6, .int c6), (9, .int s248.1)] → HH G (sz, MH M s248.2 rst) H → va_S (AG G) s.heap H locs → W p l e (rm_ 2 0 0) s m ([.ref M, .int a1, .int a2, .int a3, .int a4] : List Value).toArray below meth c H locs 0 0 (MQ below (PostC G (sz, MH M stf rst) (some (.int rf))) ([.ref M, .int a1, .int a2, .int a3, .int a4] : List Value).toArray s 0 0 (AG G)) (F0 m 248 ls [])) (Q := fun r248 => ∀ (ls : Array Slot) (H : Heap) (locs : List Loc), lv_has ls 12 [(0, .ref M), (4, .int c4), (5, .int c5), (6, .int c6)] → HH G (sz, MH M r248 rst) H → va_S (AG G) s.heap H locs → W p l e (rm_ 2 0 0) s m ([.ref M, .int a1, .int a2, .int a3, .int a4] : List Value).toArray below meth c H locs 0 0 (MQ below (PostC G (sz, MH M stf rst) (some (.int rf))) ([.ref M, .int a1, .int a2, .int a3, .int a4] : List Value).toArray s 0 0 (AG G)) (F0 m 283 ls [])) ?_ n s248 r248 hr hq
    intro s248 x248 hf hx248 ls H locs hl hH hS
    unfold f_X3_join_b248 at hf
    refine lv_iload hx hb dX3_join_248 (lv_at hl 5 rfl) ?_
    refine lv_aload_n hx hb dX3_join_250 rfl (lv_at hl 0 rfl) ?_
    refine m_get X hK hH 4 (by decide) rfl (mg_4 _ _) q1063 dX3_join_251 ?_
    refine lv_iload_n hx hb dX3_join_254 rfl (lv_at hl 1 rfl) ?_
    obtain ⟨v19, hv, hf⟩ := bd hf
    refine m_iald X hK hH 4 (mc_4 _ _) hv dX3_join_255 ?_
    refine lv_icmp_ge (tgt := 283) hx hb dX3_join_256 (by decide) (fun c_ => ?_) (fun c_ => ?_)
    · have hf := (if_pos c_).symm.trans hf
      cases hf
      exact hx248 _ _ _ (lv_sub hl [0, 2, 3, 4] rfl) hH hS
    · have hf := (if_neg c_).symm.trans hf
      refine lv_aload_n hx hb dX3_join_259 rfl (lv_at hl 0 rfl) ?_
      refine lv_aload_n hx hb dX3_join_260 rfl (lv_at hl 0 rfl) ?_
      refine m_get X hK hH 5 (by decide) rfl (mg_5 _ _) q1064 dX3_join_261 ?_
      refine lv_sipush (v := (200 : Int32)) hx hb dX3_join_264 (by decide) ?_
      refine lv_iload_n hx hb dX3_join_267 rfl (lv_at hl 1 rfl) ?_
      refine lv_imul hx hb dX3_join_268 ?_
      refine lv_iload hx hb dX3_join_269 (lv_at hl 5 rfl) ?_
      refine lv_iadd hx hb dX3_join_271 ?_
      obtain ⟨v20, hv, hf⟩ := bd hf
      refine m_lald X hK hH 5 (mc_5 _ _) hv dX3_join_272 ?_
      refine lv_iconst (v := (0 : Int32)) hx hb dX3_join_273 (by decide) ?_
      obtain ⟨v21, hv, hf⟩ := bd hf
      refine r_Vv (As := [.long v20, .int (0 : Int32)]) (rest := []) X (met_X3_asideOnce l G _ _ _ N s248.2 v20 (0 : Int32) v21 hv) cv_X3_asideOnce q1349 (m_recv hK hH) rfl rfl hl.1 (Nat.le_of_ble_eq_true rfl) ⟨Nat.le_of_ble_eq_true rfl, Nat.le_of_ble_eq_true rfl⟩ ⟨Nat.le_refl _, Nat.le_refl _⟩ dX3_join_274 hK hH hS (fun H locs hH hS => ?_)
      refine lv_iinc (v := (s248.1 + 1)) (lv' := [(9, .int (s248.1 + 1)), (0, .ref M), (2, .int c2), (4, .int c4), (5, .int c5), (6, .int c6)]) hx hb dX3_join_277 hl (k := 5) rfl rfl (by decide) rfl (fun ls hl => ?_)
      refine lv_goto (tgt := 248) hx hb dX3_join_280 (by decide) ?_
      cases hf
      exact hx248 _ _ _ (lv_sub hl [1, 2, 3, 4, 5, 0] rfl) hH hS
  have J181 : ∀ (d1 : Int32) (d2 : Int32) (d3 : Int32) (d4 : Int32) (d5 : Int32) (d6 : Int32) (k0 : Int64) (u181 : MS), f_X3_join_j181 N d1 d2 d3 d4 d5 d6 k0 u181 = some (stf, rf) → ∀ (ls : Array Slot) (H : Heap) (locs : List Loc), lv_has ls 12 [(0, .ref M), (1, .int d1), (2, .int d2), (3, .int d3), (4, .int d4), (5, .int d5), (6, .int d6)] → HH G (sz, MH M u181 rst) H → va_S (AG G) s.heap H locs → W p l e (rm_ 2 0 0) s m ([.ref M, .int a1, .int a2, .int a3, .int a4] : List Value).toArray below meth c H locs 0 0 (MQ below (PostC G (sz, MH M stf rst) (some (.int rf))) ([.ref M, .int a1, .int a2, .int a3, .int a4] : List Value).toArray s 0 0 (AG G)) (F0 m 181 ls [.long k0]) := by
    intro d1 d2 d3 d4 d5 d6 k0 u181 hf ls H locs hl hH hS
    unfold f_X3_join_j181 at hf
    refine lv_lstore (lv' := [(7, .long k0), (0, .ref M), (1, .int d1), (2, .int d2), (3, .int d3), (4, .int d4), (5, .int d5), (6, .int d6)]) hx hb dX3_join_181 hl (by decide) rfl (fun ls hl => ?_)
    refine lv_aload_n hx hb dX3_join_183 rfl (lv_at hl 1 rfl) ?_
    refine lv_iconst (v := (0 : Int32)) hx hb dX3_join_184 (by decide) ?_
    refine m_put (ty := .int) X hK hH hS 18 (by decide) rfl (mp_18 _ _ _) q1077 rfl (by decide +kernel) rfl rfl dX3_join_185 (fun H locs hH hS => ?_)
    refine lv_iconst (v := (0 : Int32)) hx hb dX3_join_188 (by decide) ?_
    refine lv_istore (lv' := [(9, .int (0 : Int32)), (7, .long k0), (0, .ref M), (1, .int d1), (2, .int d2), (3, .int d3), (4, .int d4), (5, .int d5), (6, .int d6)]) hx hb dX3_join_189 hl (by decide) rfl (fun ls hl => ?_)
    obtain ⟨r191_18, hr, hf⟩ := bd hf
    refine L191 d1 d2 d3 d4 d5 d6 k0 N _ r191_18 hr ?_ _ _ _ (lv_sub hl [2, 3, 4, 5, 6, 7, 8, 1, 0] rfl) hH hS
    intro ls H locs hl hH hS
    refine lv_iconst (v := (0 : Int32)) hx hb dX3_join_245 (by decide) ?_
    refine lv_istore (lv' := [(9, .int (0 : Int32)), (0, .ref M), (2, .int d2), (4, .int d4), (5, .int d5), (6, .int d6)]) hx hb dX3_join_246 hl (by decide) rfl (fun ls hl => ?_)
    obtain ⟨r248_22, hr, hf⟩ := bd hf
    refine L248 d2 d4 d5 d6 N _ r248_22 hr ?_ _ _ _ (lv_sub hl [1, 2, 3, 4, 5, 0] rfl) hH hS
    intro ls H locs hl hH hS
    refine lv_aload_n hx hb dX3_join_283 rfl (lv_at hl 0 rfl) ?_
    refine lv_iload hx hb dX3_join_284 (lv_at hl 1 rfl) ?_
    refine lv_iconst (v := (1 : Int32)) hx hb dX3_join_286 (by decide) ?_
    refine lv_iload hx hb dX3_join_287 (lv_at hl 2 rfl) ?_
    refine lv_iload hx hb dX3_join_289 (lv_at hl 3 rfl) ?_
    obtain ⟨v23, hv, hf⟩ := bd hf
    refine r_Vi (As := [.int d4, .int (1 : Int32), .int d5, .int d6]) (rest := []) X (met_X3_comes l G _ _ _ N r248_22 d4 (1 : Int32) d5 d6 v23.1 v23.2 hv) cv_X3_comes q1334 (m_recv hK hH) rfl rfl hl.1 (Nat.le_of_ble_eq_true rfl) ⟨Nat.le_of_ble_eq_true rfl, Nat.le_of_ble_eq_true rfl⟩ ⟨Nat.le_refl _, Nat.le_refl _⟩ dX3_join_291 hK hH hS (fun H locs hH hS => ?_)
    cases hf
    exact r_iret X dX3_join_294 (Nat.le_refl _) (Nat.le_refl _) rfl hH hS
  have J134 : ∀ (d1 : Int32) (d2 : Int32) (d3 : Int32) (d4 : Int32) (d5 : Int32) (d6 : Int32) (u134 : MS), f_X3_join_j134 N d1 d2 d3 d4 d5 d6 u134 = some (stf, rf) → ∀ (ls : Array Slot) (H : Heap) (locs : List Loc), lv_has ls 12 [(0, .ref M), (1, .int d1), (2, .int d2), (3, .int d3), (4, .int d4), (5, .int d5), (6, .int d6)] → HH G (sz, MH M u134 rst) H → va_S (AG G) s.heap H locs → W p l e (rm_ 2 0 0) s m ([.ref M, .int a1, .int a2, .int a3, .int a4] : List Value).toArray below meth c H locs 0 0 (MQ below (PostC G (sz, MH M stf rst) (some (.int rf))) ([.ref M, .int a1, .int a2, .int a3, .int a4] : List Value).toArray s 0 0 (AG G)) (F0 m 134 ls []) := by
    intro d1 d2 d3 d4 d5 d6 u134 hf ls H locs hl hH hS
    unfold f_X3_join_j134 at hf
    refine lv_aload_n hx hb dX3_join_134 rfl (lv_at hl 0 rfl) ?_
    refine m_get X hK hH 4 (by decide) rfl (mg_4 _ _) q1063 dX3_join_135 ?_
    refine lv_iload_n hx hb dX3_join_138 rfl (lv_at hl 1 rfl) ?_
    obtain ⟨v11, hv, hf⟩ := bd hf
    refine m_iald X hK hH 4 (mc_4 _ _) hv dX3_join_139 ?_
    refine lv_aload_n hx hb dX3_join_140 rfl (lv_at hl 0 rfl) ?_
    refine m_get X hK hH 4 (by decide) rfl (mg_4 _ _) q1063 dX3_join_141 ?_
    refine lv_iload_n hx hb dX3_join_144 rfl (lv_at hl 2 rfl) ?_
    obtain ⟨v12, hv, hf⟩ := bd hf
    refine m_iald X hK hH 4 (mc_4 _ _) hv dX3_join_145 ?_
    refine lv_iadd hx hb dX3_join_146 ?_
    refine lv_bipush (v := (12 : Int32)) hx hb dX3_join_147 (by decide) ?_
    refine lv_icmp_gt (tgt := 159) hx hb dX3_join_149 (by decide) (fun c_ => ?_) (fun c_ => ?_)
    · have hf := (if_pos c_).symm.trans hf
      refine lv_bipush (v := (-6 : Int32)) hx hb dX3_join_159 (by decide) ?_
      cases hf
      exact r_iret X dX3_join_161 (Nat.le_refl _) (Nat.le_refl _) rfl hH hS
    · have hf := (if_neg c_).symm.trans hf
      refine lv_iload hx hb dX3_join_152 (lv_at hl 6 rfl) ?_
      refine lv_bipush (v := (12 : Int32)) hx hb dX3_join_154 (by decide) ?_
      refine lv_icmp_le (tgt := 162) hx hb dX3_join_156 (by decide) (fun c_ => ?_) (fun c_ => ?_)
      · have hf := (if_pos c_).symm.trans hf
        refine lv_iload_n hx hb dX3_join_162 rfl (lv_at hl 3 rfl) ?_
        refine lv_if_ne (tgt := 170) hx hb dX3_join_163 (by decide) (fun c_ => ?_) (fun c_ => ?_)
        · have hf := (if_neg c_).symm.trans hf
          refine lv_iload hx hb dX3_join_170 (lv_at hl 5 rfl) ?_
          refine lv_aload_n hx hb dX3_join_172 rfl (lv_at hl 0 rfl) ?_
          refine m_get X hK hH 3 (by decide) rfl (mg_3 _ _) q1062 dX3_join_173 ?_
          refine lv_iload_n hx hb dX3_join_176 rfl (lv_at hl 2 rfl) ?_
          obtain ⟨v13, hv, hf⟩ := bd hf
          refine m_iald X hK hH 3 (mc_3 _ _) hv dX3_join_177 ?_
          obtain ⟨v14, hv, hf⟩ := bd hf
          refine r_Sl (As := [.int d5, .int v13]) (rest := []) X (met_X3_power l G _ N d5 v13 v14 hv) cs_X3_power q1022 rfl rfl hl.1 (Nat.le_of_ble_eq_true rfl) ⟨Nat.le_of_ble_eq_true rfl, Nat.le_of_ble_eq_true rfl⟩ ⟨Nat.le_refl _, Nat.le_refl _⟩ dX3_join_178 hK hH hS (fun H locs hH hS => ?_)
          exact J181 d1 d2 d3 d4 d5 d6 v14 u134 hf _ _ _ (lv_sub hl [0, 1, 2, 3, 4, 5, 6] rfl) hH hS
        · have hf := (if_pos c_).symm.trans hf
          refine lv_lconst (v := (1 : Int64)) hx hb dX3_join_166 (by decide) ?_
          refine lv_goto (tgt := 181) hx hb dX3_join_167 (by decide) ?_
          exact J181 d1 d2 d3 d4 d5 d6 (1 : Int64) u134 hf _ _ _ (lv_sub hl [0, 1, 2, 3, 4, 5, 6] rfl) hH hS
      · have hf := (if_neg c_).symm.trans hf
        refine lv_bipush (v := (-6 : Int32)) hx hb dX3_join_159 (by decide) ?_
        cases hf
        exact r_iret X dX3_join_161 (Nat.le_refl _) (Nat.le_refl _) rfl hH hS
  have J98 : ∀ (d1 : Int32) (d2 : Int32) (d3 : Int32) (d4 : Int32) (d5 : Int32) (k0 : Int32) (u98 : MS), f_X3_join_j98 N d1 d2 d3 d4 d5 k0 u98 = some (stf, rf) → ∀ (ls : Array Slot) (H : Heap) (locs : List Loc), lv_has ls 12 [(0, .ref M), (1, .int d1), (2, .int d2), (3, .int d3), (4, .int d4), (5, .int d5)] → HH G (sz, MH M u98 rst) H → va_S (AG G) s.heap H locs → W p l e (rm_ 2 0 0) s m ([.ref M, .int a1, .int a2, .int a3, .int a4] : List Value).toArray below meth c H locs 0 0 (MQ below (PostC G (sz, MH M stf rst) (some (.int rf))) ([.ref M, .int a1, .int a2, .int a3, .int a4] : List Value).toArray s 0 0 (AG G)) (F0 m 98 ls [.int k0]) := by
    intro d1 d2 d3 d4 d5 k0 u98 hf ls H locs hl hH hS
    unfold f_X3_join_j98 at hf
    refine lv_istore (lv' := [(6, .int k0), (0, .ref M), (1, .int d1), (2, .int d2), (3, .int d3), (4, .int d4), (5, .int d5)]) hx hb dX3_join_98 hl (by decide) rfl (fun ls hl => ?_)
    refine lv_aload_n hx hb dX3_join_100 rfl (lv_at hl 1 rfl) ?_
    refine m_get X hK hH 2 (by decide) rfl (mg_2 _ _) q1061 dX3_join_101 ?_
    refine lv_iload_n hx hb dX3_join_104 rfl (lv_at hl 3 rfl) ?_
    obtain ⟨v10, hv, hf⟩ := bd hf
    refine m_iald X hK hH 2 (mc_2 _ _) hv dX3_join_105 ?_
    refine lv_iload hx hb dX3_join_106 (lv_at hl 6 rfl) ?_
    refine lv_icmp_ne (tgt := 131) hx hb dX3_join_108 (by decide) (fun c_ => ?_) (fun c_ => ?_)
    · have hf := (if_neg c_).symm.trans hf
      refine lv_bipush (v := (-4 : Int32)) hx hb dX3_join_131 (by decide) ?_
      cases hf
      exact r_iret X dX3_join_133 (Nat.le_refl _) (Nat.le_refl _) rfl hH hS
    · have hf := (if_pos c_).symm.trans hf
      refine lv_iload_n hx hb dX3_join_111 rfl (lv_at hl 4 rfl) ?_
      refine lv_iconst (v := (1 : Int32)) hx hb dX3_join_112 (by decide) ?_
      refine lv_icmp_eq (tgt := 134) hx hb dX3_join_113 (by decide) (fun c_ => ?_) (fun c_ => ?_)
      · have hf := (if_pos c_).symm.trans hf
        exact J134 d1 d2 d3 d4 d5 k0 u98 hf _ _ _ (lv_sub hl [1, 2, 3, 4, 5, 6, 0] rfl) hH hS
      · have hf := (if_neg c_).symm.trans hf
        refine lv_aload_n hx hb dX3_join_116 rfl (lv_at hl 1 rfl) ?_
        refine m_get X hK hH 3 (by decide) rfl (mg_3 _ _) q1062 dX3_join_117 ?_
        refine lv_iload_n hx hb dX3_join_120 rfl (lv_at hl 2 rfl) ?_
        obtain ⟨v24, hv, hf⟩ := bd hf
        refine m_iald X hK hH 3 (mc_3 _ _) hv dX3_join_121 ?_
        refine lv_aload_n hx hb dX3_join_122 rfl (lv_at hl 1 rfl) ?_
        refine m_get X hK hH 3 (by decide) rfl (mg_3 _ _) q1062 dX3_join_123 ?_
        refine lv_iload_n hx hb dX3_join_126 rfl (lv_at hl 3 rfl) ?_
        obtain ⟨v25, hv, hf⟩ := bd hf
        refine m_iald X hK hH 3 (mc_3 _ _) hv dX3_join_127 ?_
        refine lv_icmp_eq (tgt := 134) hx hb dX3_join_128 (by decide) (fun c_ => ?_) (fun c_ => ?_)
        · have hf := (if_pos c_).symm.trans hf
          exact J134 d1 d2 d3 d4 d5 k0 u98 hf _ _ _ (lv_sub hl [1, 2, 3, 4, 5, 6, 0] rfl) hH hS
        · have hf := (if_neg c_).symm.trans hf
          refine lv_bipush (v := (-4 : Int32)) hx hb dX3_join_131 (by decide) ?_
          cases hf
          exact r_iret X dX3_join_133 (Nat.le_refl _) (Nat.le_refl _) rfl hH hS
  refine lv_iload_n hx hb dX3_join_0 rfl (lv_at hl 1 rfl) ?_
  obtain ⟨v1, hv, hf⟩ := bd hf
  refine r_Si (As := [.int a1]) (rest := []) X (met_X3_isPlace l G _ N a1 v1 hv) cs_X3_isPlace q1136 rfl rfl hl.1 (Nat.le_of_ble_eq_true rfl) ⟨Nat.le_of_ble_eq_true rfl, Nat.le_of_ble_eq_true rfl⟩ ⟨Nat.le_refl _, Nat.le_refl _⟩ dX3_join_1 hK hH hS (fun H locs hH hS => ?_)
  refine lv_if_eq (tgt := 34) hx hb dX3_join_4 (by decide) (fun c_ => ?_) (fun c_ => ?_)
  · have hf := (if_pos c_).symm.trans hf
    refine lv_iconst (v := (-1 : Int32)) hx hb dX3_join_34 (by decide) ?_
    cases hf
    exact r_iret X dX3_join_35 (Nat.le_refl _) (Nat.le_refl _) rfl hH hS
  · have hf := (if_neg c_).symm.trans hf
    refine lv_iload_n hx hb dX3_join_7 rfl (lv_at hl 2 rfl) ?_
    obtain ⟨v2, hv, hf⟩ := bd hf
    refine r_Si (As := [.int a2]) (rest := []) X (met_X3_isPlace l G _ N a2 v2 hv) cs_X3_isPlace q1136 rfl rfl hl.1 (Nat.le_of_ble_eq_true rfl) ⟨Nat.le_of_ble_eq_true rfl, Nat.le_of_ble_eq_true rfl⟩ ⟨Nat.le_refl _, Nat.le_refl _⟩ dX3_join_8 hK hH hS (fun H locs hH hS => ?_)
    refine lv_if_eq (tgt := 34) hx hb dX3_join_11 (by decide) (fun c_ => ?_) (fun c_ => ?_)
    · have hf := (if_pos c_).symm.trans hf
      refine lv_iconst (v := (-1 : Int32)) hx hb dX3_join_34 (by decide) ?_
      cases hf
      exact r_iret X dX3_join_35 (Nat.le_refl _) (Nat.le_refl _) rfl hH hS
    · have hf := (if_neg c_).symm.trans hf
      refine lv_iload_n hx hb dX3_join_14 rfl (lv_at hl 3 rfl) ?_
      refine lv_i2l (v := (a3).toInt64) hx hb dX3_join_15 rfl ?_
      refine lv_lconst (v := (0 : Int64)) hx hb dX3_join_16 (by decide) ?_
      refine lv_ldc2 (v := (2 : Int64)) hx hb hown (hts _ q1013) dX3_join_17 ?_
      obtain ⟨v3, hv, hf⟩ := bd hf
      refine r_Si (As := [.long ((a3).toInt64), .long (0 : Int64), .long (2 : Int64)]) (rest := []) X (met_X3_isIn l G _ N ((a3).toInt64) (0 : Int64) (2 : Int64) v3 hv) cs_X3_isIn q1015 rfl rfl hl.1 (Nat.le_of_ble_eq_true rfl) ⟨Nat.le_of_ble_eq_true rfl, Nat.le_of_ble_eq_true rfl⟩ ⟨Nat.le_refl _, Nat.le_refl _⟩ dX3_join_20 hK hH hS (fun H locs hH hS => ?_)
      refine lv_if_eq (tgt := 34) hx hb dX3_join_23 (by decide) (fun c_ => ?_) (fun c_ => ?_)
      · have hf := (if_pos c_).symm.trans hf
        refine lv_iconst (v := (-1 : Int32)) hx hb dX3_join_34 (by decide) ?_
        cases hf
        exact r_iret X dX3_join_35 (Nat.le_refl _) (Nat.le_refl _) rfl hH hS
      · have hf := (if_neg c_).symm.trans hf
        refine lv_iload hx hb dX3_join_26 (lv_at hl 4 rfl) ?_
        obtain ⟨v4, hv, hf⟩ := bd hf
        refine r_Si (As := [.int a4]) (rest := []) X (met_X3_isPlace l G _ N a4 v4 hv) cs_X3_isPlace q1136 rfl rfl hl.1 (Nat.le_of_ble_eq_true rfl) ⟨Nat.le_of_ble_eq_true rfl, Nat.le_of_ble_eq_true rfl⟩ ⟨Nat.le_refl _, Nat.le_refl _⟩ dX3_join_28 hK hH hS (fun H locs hH hS => ?_)
        refine lv_if_ne (tgt := 36) hx hb dX3_join_31 (by decide) (fun c_ => ?_) (fun c_ => ?_)
        · have hf := (if_neg c_).symm.trans hf
          refine lv_aload_n hx hb dX3_join_36 rfl (lv_at hl 0 rfl) ?_
          refine lv_iload_n hx hb dX3_join_37 rfl (lv_at hl 1 rfl) ?_
          obtain ⟨v5, hv, hf⟩ := bd hf
          refine r_Vi (As := [.int a1]) (rest := []) X (met_X3_lacksLine l G _ _ _ N st a1 v5 hv) cv_X3_lacksLine q1361 (m_recv hK hH) rfl rfl hl.1 (Nat.le_of_ble_eq_true rfl) ⟨Nat.le_of_ble_eq_true rfl, Nat.le_of_ble_eq_true rfl⟩ ⟨Nat.le_refl _, Nat.le_refl _⟩ dX3_join_38 hK hH hS (fun H locs hH hS => ?_)
          refine lv_if_eq (tgt := 50) hx hb dX3_join_41 (by decide) (fun c_ => ?_) (fun c_ => ?_)
          · have hf := (if_pos c_).symm.trans hf
            refine lv_aload_n hx hb dX3_join_50 rfl (lv_at hl 0 rfl) ?_
            refine lv_iload_n hx hb dX3_join_51 rfl (lv_at hl 2 rfl) ?_
            obtain ⟨v6, hv, hf⟩ := bd hf
            refine r_Vi (As := [.int a2]) (rest := []) X (met_X3_lacksLine l G _ _ _ N st a2 v6 hv) cv_X3_lacksLine q1361 (m_recv hK hH) rfl rfl hl.1 (Nat.le_of_ble_eq_true rfl) ⟨Nat.le_of_ble_eq_true rfl, Nat.le_of_ble_eq_true rfl⟩ ⟨Nat.le_refl _, Nat.le_refl _⟩ dX3_join_52 hK hH hS (fun H locs hH hS => ?_)
            refine lv_if_eq (tgt := 64) hx hb dX3_join_55 (by decide) (fun c_ => ?_) (fun c_ => ?_)
            · have hf := (if_pos c_).symm.trans hf
              refine lv_aload_n hx hb dX3_join_64 rfl (lv_at hl 0 rfl) ?_
              refine m_get X hK hH 2 (by decide) rfl (mg_2 _ _) q1061 dX3_join_65 ?_
              refine lv_iload_n hx hb dX3_join_68 rfl (lv_at hl 1 rfl) ?_
              obtain ⟨v7, hv, hf⟩ := bd hf
              refine m_iald X hK hH 2 (mc_2 _ _) hv dX3_join_69 ?_
              refine lv_istore (lv' := [(5, .int v7), (0, .ref M), (1, .int a1), (2, .int a2), (3, .int a3), (4, .int a4)]) hx hb dX3_join_70 hl (by decide) rfl (fun ls hl => ?_)
              refine lv_iload_n hx hb dX3_join_72 rfl (lv_at hl 4 rfl) ?_
              refine lv_if_ne (tgt := 85) hx hb dX3_join_73 (by decide) (fun c_ => ?_) (fun c_ => ?_)
              · have hf := (if_neg c_).symm.trans hf
                refine lv_aload_n hx hb dX3_join_85 rfl (lv_at hl 1 rfl) ?_
                refine m_get X hK hH 3 (by decide) rfl (mg_3 _ _) q1062 dX3_join_86 ?_
                refine lv_iload_n hx hb dX3_join_89 rfl (lv_at hl 2 rfl) ?_
                obtain ⟨v8, hv, hf⟩ := bd hf
                refine m_iald X hK hH 3 (mc_3 _ _) hv dX3_join_90 ?_
                refine lv_aload_n hx hb dX3_join_91 rfl (lv_at hl 1 rfl) ?_
                refine m_get X hK hH 3 (by decide) rfl (mg_3 _ _) q1062 dX3_join_92 ?_
                refine lv_iload_n hx hb dX3_join_95 rfl (lv_at hl 3 rfl) ?_
                obtain ⟨v9, hv, hf⟩ := bd hf
                refine m_iald X hK hH 3 (mc_3 _ _) hv dX3_join_96 ?_
                refine lv_iadd hx hb dX3_join_97 ?_
                exact J98 a1 a2 a3 a4 v7 (v8 + v9) st hf _ _ _ (lv_sub hl [1, 2, 3, 4, 5, 0] rfl) hH hS
              · have hf := (if_pos c_).symm.trans hf
                refine lv_aload_n hx hb dX3_join_76 rfl (lv_at hl 1 rfl) ?_
                refine m_get X hK hH 3 (by decide) rfl (mg_3 _ _) q1062 dX3_join_77 ?_
                refine lv_iload_n hx hb dX3_join_80 rfl (lv_at hl 2 rfl) ?_
                obtain ⟨v26, hv, hf⟩ := bd hf
                refine m_iald X hK hH 3 (mc_3 _ _) hv dX3_join_81 ?_
                refine lv_goto (tgt := 98) hx hb dX3_join_82 (by decide) ?_
                exact J98 a1 a2 a3 a4 v7 v26 st hf _ _ _ (lv_sub hl [1, 2, 3, 4, 5, 0] rfl) hH hS
            · have hf := (if_neg c_).symm.trans hf
              refine lv_aload_n hx hb dX3_join_58 rfl (lv_at hl 0 rfl) ?_
              refine lv_iload_n hx hb dX3_join_59 rfl (lv_at hl 2 rfl) ?_
              obtain ⟨v27, hv, hf⟩ := bd hf
              refine r_Vi (As := [.int a2]) (rest := []) X (met_X3_lacksLine l G _ _ _ N st a2 v27 hv) cv_X3_lacksLine q1361 (m_recv hK hH) rfl rfl hl.1 (Nat.le_of_ble_eq_true rfl) ⟨Nat.le_of_ble_eq_true rfl, Nat.le_of_ble_eq_true rfl⟩ ⟨Nat.le_refl _, Nat.le_refl _⟩ dX3_join_60 hK hH hS (fun H locs hH hS => ?_)
              cases hf
              exact r_iret X dX3_join_63 (Nat.le_refl _) (Nat.le_refl _) rfl hH hS
          · have hf := (if_neg c_).symm.trans hf
            refine lv_aload_n hx hb dX3_join_44 rfl (lv_at hl 0 rfl) ?_
            refine lv_iload_n hx hb dX3_join_45 rfl (lv_at hl 1 rfl) ?_
            obtain ⟨v28, hv, hf⟩ := bd hf
            refine r_Vi (As := [.int a1]) (rest := []) X (met_X3_lacksLine l G _ _ _ N st a1 v28 hv) cv_X3_lacksLine q1361 (m_recv hK hH) rfl rfl hl.1 (Nat.le_of_ble_eq_true rfl) ⟨Nat.le_of_ble_eq_true rfl, Nat.le_of_ble_eq_true rfl⟩ ⟨Nat.le_refl _, Nat.le_refl _⟩ dX3_join_46 hK hH hS (fun H locs hH hS => ?_)
            cases hf
            exact r_iret X dX3_join_49 (Nat.le_refl _) (Nat.le_refl _) rfl hH hS
        · have hf := (if_pos c_).symm.trans hf
          refine lv_iconst (v := (-1 : Int32)) hx hb dX3_join_34 (by decide) ?_
          cases hf
          exact r_iret X dX3_join_35 (Nat.le_refl _) (Nat.le_refl _) rfl hH hS
theorem cv_X3_keep : CalV "WordBenchModel" yX3_keep cX3_keep 6 (some .int) 4 := ⟨q1387, q1388, q57, q1389, by decide +kernel⟩
set_option maxHeartbeats 4000000 in
theorem met_X3_keep (l : Launch) (G : GG) (sz M : Nat) (rst : Nat → Option AE) (N : Nat) (st : MS) (a1 : Int32) (a2 : Int32) (a3 : Int32) (a4 : Int32) (stf : MS) (rf : Int32) (hf : f_X3_keep N st a1 a2 a3 a4 = some (stf, rf)) : Con l yX3_keep cX3_keep 6 (some .int) 2 0 0 G (sz, MH M st rst) [.ref M, .int a1, .int a2, .int a3, .int a4] (sz, MH M stf rst) (some (.int rf)) := by
  refine con_of (by decide) (Nat.le_of_ble_eq_true rfl) ?_
  intro p e s m below meth c ls X hK hH hl hS
  have hx := X.1
  have hb := X.2.1
  have hown : s.vm.findClass RX3 = some m.cls := X.2.2.2.2.1
  have hts := X.2.2.2.2.2.1
  have hl : lv_has ls 6 [(0, .ref M), (1, .int a1), (2, .int a2), (3, .int a3), (4, .int a4)] := hl
  unfold f_X3_keep at hf
  have L148 : ∀ (c1 : Int32) (c2 : Int32) (c3 : Int32) (c4 : Int32) (n : Nat) (s148 : (Int32 × MS)) (r148 : MS), lp (f_X3_keep_b148 N c1 c2 c3 c4) n s148 = some r148 → (∀ (ls : Array Slot) (H : Heap) (locs : List Loc), lv_has ls 6 [] → HH G (sz, MH M r148 rst) H → va_S (AG G) s.heap H locs → W p l e (rm_ 2 0 0) s m ([.ref M, .int a1, .int a2, .int a3, .int a4] : List Value).toArray below meth c H locs 0 0 (MQ below (PostC G (sz, MH M stf rst) (some (.int rf))) ([.ref M, .int a1, .int a2, .int a3, .int a4] : List Value).toArray s 0 0 (AG G)) (F0 m 230 ls [])) → ∀ (ls : Array Slot) (H : Heap) (locs : List Loc), lv_has ls 6 [(0, .ref M), (1, .int c1), (2, .int c2), (3, .int c3), (4, .int c4), (5, .int s148.1)] → HH G (sz, MH M s148.2 rst) H → va_S (AG G) s.heap H locs → W p l e (rm_ 2 0 0) s m ([.ref M, .int a1, .int a2, .int a3, .int a4] : List Value).toArray below meth c H locs 0 0 (MQ below (PostC G (sz, MH M stf rst) (some (.int rf))) ([.ref M, .int a1, .int a2, .int a3, .int a4] : List Value).toArray s 0 0 (AG G)) (F0 m 148 ls []) := by
    intro c1 c2 c3 c4 n s148 r148 hr hq
    refine lp_ind (P := fun s148 => ∀ (ls : Array Slot) (H : Heap) (locs : List Loc), lv_has ls 6 [(0, .ref M), (1, .int c1), (2, .int c2), (3, .int c3), (4, .int c4), (5, .int s148.1)] → HH G (sz, MH M s148.2 rst) H → va_S (AG G) s.heap H locs → W p l e (rm_ 2 0 0) s m ([.ref M, .int a1, .int a2, .int a3, .int a4] : List Value).toArray below meth c H locs 0 0 (MQ below (PostC G (sz, MH M stf rst) (some (.int rf))) ([.ref M, .int a1, .int a2, .int a3, .int a4] : List Value).toArray s 0 0 (AG G)) (F0 m 148 ls [])) (Q := fun r148 => ∀ (ls : Array Slot) (H : Heap) (locs : List Loc), lv_has ls 6 [] → HH G (sz, MH M r148 rst) H → va_S (AG G) s.heap H locs → W p l e (rm_ 2 0 0) s m ([.ref M, .int a1, .int a2, .int a3, .int a4] : List Value).toArray below meth c H locs 0 0 (MQ below (PostC G (sz, MH M stf rst) (some (.int rf))) ([.ref M, .int a1, .int a2, .int a3, .int a4] : List Value).toArray s 0 0 (AG G)) (F0 m 230 ls [])) ?_ n s148 r148 hr hq
    intro s148 x148 hf hx148 ls H locs hl hH hS
    unfold f_X3_keep_b148 at hf
    have J223 : ∀ (d5 : Int32) (k0 : Int64) (k1 : Int32) (u223 : MS), f_X3_keep_j223 N c1 c2 c3 c4 d5 k0 k1 u223 = some x148 → ∀ (ls : Array Slot) (H : Heap) (locs : List Loc), lv_has ls 6 [(0, .ref M), (1, .int c1), (2, .int c2), (3, .int c3), (4, .int c4), (5, .int d5)] → HH G (sz, MH M u223 rst) H → va_S (AG G) s.heap H locs → W p l e (rm_ 2 0 0) s m ([.ref M, .int a1, .int a2, .int a3, .int a4] : List Value).toArray below meth c H locs 0 0 (MQ below (PostC G (sz, MH M stf rst) (some (.int rf))) ([.ref M, .int a1, .int a2, .int a3, .int a4] : List Value).toArray s 0 0 (AG G)) (F0 m 223 ls [.long k0, .int k1, .ref (M + 18)]) := by
      intro d5 k0 k1 u223 hf ls H locs hl hH hS
      unfold f_X3_keep_j223 at hf
      obtain ⟨w13, hv, hf⟩ := bd hf
      refine m_last X hK hH hS 18 (mc_23 _ _) hv (mt_23 _ _ _) dX3_keep_223 (fun H locs hH hS => ?_)
      refine lv_iinc (v := (d5 + 1)) (lv' := [(5, .int (d5 + 1)), (0, .ref M), (1, .int c1), (2, .int c2), (3, .int c3), (4, .int c4)]) hx hb dX3_keep_224 hl (k := 5) rfl rfl (by decide) rfl (fun ls hl => ?_)
      refine lv_goto (tgt := 148) hx hb dX3_keep_227 (by decide) ?_
      cases hf
      exact hx148 _ _ _ (lv_sub hl [1, 2, 3, 4, 5, 0] rfl) hH hS
    refine lv_iload hx hb dX3_keep_148 (lv_at hl 5 rfl) ?_
    refine lv_aload_n hx hb dX3_keep_150 rfl (lv_at hl 0 rfl) ?_
    refine m_get X hK hH 22 (by decide) rfl (mg_22 _ _) q1081 dX3_keep_151 ?_
    refine lv_iload_n hx hb dX3_keep_154 rfl (lv_at hl 1 rfl) ?_
    obtain ⟨v11, hv, hf⟩ := bd hf
    refine m_iald X hK hH 17 (mc_22 _ _) hv dX3_keep_155 ?_
    refine lv_icmp_ge (tgt := 230) hx hb dX3_keep_156 (by decide) (fun c_ => ?_) (fun c_ => ?_)
    · have hf := (if_pos c_).symm.trans hf
      cases hf
      exact hx148 _ _ _ (lv_sub hl [] rfl) hH hS
    · have hf := (if_neg c_).symm.trans hf
      refine lv_aload_n hx hb dX3_keep_159 rfl (lv_at hl 0 rfl) ?_
      refine m_get X hK hH 23 (by decide) rfl (mg_23 _ _) q1082 dX3_keep_160 ?_
      refine lv_sipush (v := (200 : Int32)) hx hb dX3_keep_163 (by decide) ?_
      refine lv_iload_n hx hb dX3_keep_166 rfl (lv_at hl 1 rfl) ?_
      refine lv_imul hx hb dX3_keep_167 ?_
      refine lv_iload hx hb dX3_keep_168 (lv_at hl 5 rfl) ?_
      refine lv_iadd hx hb dX3_keep_170 ?_
      refine lv_iload_n hx hb dX3_keep_171 rfl (lv_at hl 2 rfl) ?_
      refine lv_iconst (v := (3 : Int32)) hx hb dX3_keep_172 (by decide) ?_
      refine lv_icmp_ne (tgt := 210) hx hb dX3_keep_173 (by decide) (fun c_ => ?_) (fun c_ => ?_)
      · have hf := (if_neg c_).symm.trans hf
        refine lv_aload_n hx hb dX3_keep_210 rfl (lv_at hl 0 rfl) ?_
        refine m_get X hK hH 5 (by decide) rfl (mg_5 _ _) q1064 dX3_keep_211 ?_
        refine lv_sipush (v := (200 : Int32)) hx hb dX3_keep_214 (by decide) ?_
        refine lv_iload_n hx hb dX3_keep_217 rfl (lv_at hl 3 rfl) ?_
        refine lv_imul hx hb dX3_keep_218 ?_
        refine lv_iload hx hb dX3_keep_219 (lv_at hl 5 rfl) ?_
        refine lv_iadd hx hb dX3_keep_221 ?_
        obtain ⟨v12, hv, hf⟩ := bd hf
        refine m_lald X hK hH 5 (mc_5 _ _) hv dX3_keep_222 ?_
        exact J223 s148.1 v12 (((200 : Int32) * c1) + s148.1) s148.2 hf _ _ _ (lv_sub hl [0, 1, 2, 3, 4, 5] rfl) hH hS
      · have hf := (if_pos c_).symm.trans hf
        refine lv_aload_n hx hb dX3_keep_176 rfl (lv_at hl 0 rfl) ?_
        refine m_get X hK hH 2 (by decide) rfl (mg_2 _ _) q1061 dX3_keep_177 ?_
        refine lv_iload_n hx hb dX3_keep_180 rfl (lv_at hl 3 rfl) ?_
        obtain ⟨v14, hv, hf⟩ := bd hf
        refine m_iald X hK hH 2 (mc_2 _ _) hv dX3_keep_181 ?_
        refine lv_aload_n hx hb dX3_keep_182 rfl (lv_at hl 0 rfl) ?_
        refine m_get X hK hH 3 (by decide) rfl (mg_3 _ _) q1062 dX3_keep_183 ?_
        refine lv_iload_n hx hb dX3_keep_186 rfl (lv_at hl 3 rfl) ?_
        obtain ⟨v15, hv, hf⟩ := bd hf
        refine m_iald X hK hH 3 (mc_3 _ _) hv dX3_keep_187 ?_
        refine lv_aload_n hx hb dX3_keep_188 rfl (lv_at hl 0 rfl) ?_
        refine m_get X hK hH 5 (by decide) rfl (mg_5 _ _) q1064 dX3_keep_189 ?_
        refine lv_sipush (v := (200 : Int32)) hx hb dX3_keep_192 (by decide) ?_
        refine lv_iload_n hx hb dX3_keep_195 rfl (lv_at hl 3 rfl) ?_
        refine lv_imul hx hb dX3_keep_196 ?_
        refine lv_iload hx hb dX3_keep_197 (lv_at hl 4 rfl) ?_
        refine lv_iadd hx hb dX3_keep_199 ?_
        obtain ⟨v16, hv, hf⟩ := bd hf
        refine m_lald X hK hH 5 (mc_5 _ _) hv dX3_keep_200 ?_
        refine lv_iload hx hb dX3_keep_201 (lv_at hl 5 rfl) ?_
        obtain ⟨v17, hv, hf⟩ := bd hf
        refine r_Si (As := [.int v14, .int v15, .long v16, .int s148.1]) (rest := [.int (((200 : Int32) * c1) + s148.1), .ref (M + 18)]) X (met_X3_letter l G _ N v14 v15 v16 s148.1 v17 hv) cs_X3_letter q1029 rfl rfl hl.1 (Nat.le_of_ble_eq_true rfl) ⟨Nat.le_of_ble_eq_true rfl, Nat.le_of_ble_eq_true rfl⟩ ⟨Nat.le_refl _, Nat.le_refl _⟩ dX3_keep_203 hK hH hS (fun H locs hH hS => ?_)
        refine lv_i2l (v := (v17).toInt64) hx hb dX3_keep_206 rfl ?_
        refine lv_goto (tgt := 223) hx hb dX3_keep_207 (by decide) ?_
        exact J223 s148.1 ((v17).toInt64) (((200 : Int32) * c1) + s148.1) s148.2 hf _ _ _ (lv_sub hl [0, 1, 2, 3, 4, 5] rfl) hH hS
  have J144 : ∀ (d1 : Int32) (d2 : Int32) (d3 : Int32) (d4 : Int32) (k0 : Int32) (k1 : Int32) (u144 : MS), f_X3_keep_j144 N d1 d2 d3 d4 k0 k1 u144 = some (stf, rf) → ∀ (ls : Array Slot) (H : Heap) (locs : List Loc), lv_has ls 6 [(0, .ref M), (1, .int d1), (2, .int d2), (3, .int d3), (4, .int d4)] → HH G (sz, MH M u144 rst) H → va_S (AG G) s.heap H locs → W p l e (rm_ 2 0 0) s m ([.ref M, .int a1, .int a2, .int a3, .int a4] : List Value).toArray below meth c H locs 0 0 (MQ below (PostC G (sz, MH M stf rst) (some (.int rf))) ([.ref M, .int a1, .int a2, .int a3, .int a4] : List Value).toArray s 0 0 (AG G)) (F0 m 144 ls [.int k0, .int k1, .ref (M + 17)]) := by
    intro d1 d2 d3 d4 k0 k1 u144 hf ls H locs hl hH hS
    unfold f_X3_keep_j144 at hf
    obtain ⟨w10, hv, hf⟩ := bd hf
    refine m_iast X hK hH hS 17 (mc_22 _ _) hv (mt_22 _ _ _) dX3_keep_144 (fun H locs hH hS => ?_)
    refine lv_iconst (v := (0 : Int32)) hx hb dX3_keep_145 (by decide) ?_
    refine lv_istore (lv' := [(5, .int (0 : Int32)), (0, .ref M), (1, .int d1), (2, .int d2), (3, .int d3), (4, .int d4)]) hx hb dX3_keep_146 hl (by decide) rfl (fun ls hl => ?_)
    obtain ⟨r148_18, hr, hf⟩ := bd hf
    refine L148 d1 d2 d3 d4 N _ r148_18 hr ?_ _ _ _ (lv_sub hl [1, 2, 3, 4, 5, 0] rfl) hH hS
    intro ls H locs hl hH hS
    refine lv_iconst (v := (0 : Int32)) hx hb dX3_keep_230 (by decide) ?_
    cases hf
    exact r_iret X dX3_keep_231 (Nat.le_refl _) (Nat.le_refl _) rfl hH hS
  have J88 : ∀ (d1 : Int32) (d2 : Int32) (d3 : Int32) (d4 : Int32) (u88 : MS), f_X3_keep_j88 N d1 d2 d3 d4 u88 = some (stf, rf) → ∀ (ls : Array Slot) (H : Heap) (locs : List Loc), lv_has ls 6 [(0, .ref M), (1, .int d1), (2, .int d2), (3, .int d3), (4, .int d4)] → HH G (sz, MH M u88 rst) H → va_S (AG G) s.heap H locs → W p l e (rm_ 2 0 0) s m ([.ref M, .int a1, .int a2, .int a3, .int a4] : List Value).toArray below meth c H locs 0 0 (MQ below (PostC G (sz, MH M stf rst) (some (.int rf))) ([.ref M, .int a1, .int a2, .int a3, .int a4] : List Value).toArray s 0 0 (AG G)) (F0 m 88 ls []) := by
    intro d1 d2 d3 d4 u88 hf ls H locs hl hH hS
    unfold f_X3_keep_j88 at hf
    refine lv_aload_n hx hb dX3_keep_88 rfl (lv_at hl 0 rfl) ?_
    refine m_get X hK hH 19 (by decide) rfl (mg_19 _ _) q1078 dX3_keep_89 ?_
    refine lv_iload_n hx hb dX3_keep_92 rfl (lv_at hl 1 rfl) ?_
    refine lv_iload_n hx hb dX3_keep_93 rfl (lv_at hl 2 rfl) ?_
    obtain ⟨w4, hv, hf⟩ := bd hf
    refine m_iast X hK hH hS 14 (mc_19 _ _) hv (mt_19 _ _ _) dX3_keep_94 (fun H locs hH hS => ?_)
    refine lv_aload_n hx hb dX3_keep_95 rfl (lv_at hl 0 rfl) ?_
    refine m_get X hK hH 20 (by decide) rfl (mg_20 _ _) q1079 dX3_keep_96 ?_
    refine lv_iload_n hx hb dX3_keep_99 rfl (lv_at hl 1 rfl) ?_
    refine lv_aload_n hx hb dX3_keep_100 rfl (lv_at hl 0 rfl) ?_
    refine m_get X hK hH 1 (by decide) rfl (mg_1 _ _) q1060 dX3_keep_101 ?_
    refine lv_iload_n hx hb dX3_keep_104 rfl (lv_at hl 3 rfl) ?_
    obtain ⟨v5, hv, hf⟩ := bd hf
    refine m_iald X hK hH 1 (mc_1 _ _) hv dX3_keep_105 ?_
    obtain ⟨w6, hv, hf⟩ := bd hf
    refine m_iast X hK hH hS 15 (mc_20 _ _) hv (mt_20 _ _ _) dX3_keep_106 (fun H locs hH hS => ?_)
    refine lv_aload_n hx hb dX3_keep_107 rfl (lv_at hl 0 rfl) ?_
    refine m_get X hK hH 21 (by decide) rfl (mg_21 _ _) q1080 dX3_keep_108 ?_
    refine lv_iload_n hx hb dX3_keep_111 rfl (lv_at hl 1 rfl) ?_
    refine lv_aload_n hx hb dX3_keep_112 rfl (lv_at hl 0 rfl) ?_
    refine m_get X hK hH 3 (by decide) rfl (mg_3 _ _) q1062 dX3_keep_113 ?_
    refine lv_iload_n hx hb dX3_keep_116 rfl (lv_at hl 3 rfl) ?_
    obtain ⟨v7, hv, hf⟩ := bd hf
    refine m_iald X hK hH 3 (mc_3 _ _) hv dX3_keep_117 ?_
    obtain ⟨w8, hv, hf⟩ := bd hf
    refine m_iast X hK hH hS 16 (mc_21 _ _) hv (mt_21 _ _ _) dX3_keep_118 (fun H locs hH hS => ?_)
    refine lv_aload_n hx hb dX3_keep_119 rfl (lv_at hl 0 rfl) ?_
    refine m_get X hK hH 22 (by decide) rfl (mg_22 _ _) q1081 dX3_keep_120 ?_
    refine lv_iload_n hx hb dX3_keep_123 rfl (lv_at hl 1 rfl) ?_
    refine lv_iload_n hx hb dX3_keep_124 rfl (lv_at hl 2 rfl) ?_
    refine lv_iconst (v := (3 : Int32)) hx hb dX3_keep_125 (by decide) ?_
    refine lv_icmp_ne (tgt := 138) hx hb dX3_keep_126 (by decide) (fun c_ => ?_) (fun c_ => ?_)
    · have hf := (if_neg c_).symm.trans hf
      refine lv_aload_n hx hb dX3_keep_138 rfl (lv_at hl 0 rfl) ?_
      refine m_get X hK hH 4 (by decide) rfl (mg_4 _ _) q1063 dX3_keep_139 ?_
      refine lv_iload_n hx hb dX3_keep_142 rfl (lv_at hl 3 rfl) ?_
      obtain ⟨v9, hv, hf⟩ := bd hf
      refine m_iald X hK hH 4 (mc_4 _ _) hv dX3_keep_143 ?_
      exact J144 d1 d2 d3 d4 v9 d1 (sI (sI (sI u88 19 w4) 20 w6) 21 w8) hf _ _ _ (lv_sub hl [0, 1, 2, 3, 4] rfl) hH hS
    · have hf := (if_pos c_).symm.trans hf
      refine lv_aload_n hx hb dX3_keep_129 rfl (lv_at hl 0 rfl) ?_
      refine m_get X hK hH 3 (by decide) rfl (mg_3 _ _) q1062 dX3_keep_130 ?_
      refine lv_iload_n hx hb dX3_keep_133 rfl (lv_at hl 3 rfl) ?_
      obtain ⟨v19, hv, hf⟩ := bd hf
      refine m_iald X hK hH 3 (mc_3 _ _) hv dX3_keep_134 ?_
      refine lv_goto (tgt := 144) hx hb dX3_keep_135 (by decide) ?_
      exact J144 d1 d2 d3 d4 v19 d1 (sI (sI (sI u88 19 w4) 20 w6) 21 w8) hf _ _ _ (lv_sub hl [0, 1, 2, 3, 4] rfl) hH hS
  have J28 : ∀ (d1 : Int32) (d2 : Int32) (d3 : Int32) (d4 : Int32) (u28 : MS), f_X3_keep_j28 N d1 d2 d3 d4 u28 = some (stf, rf) → ∀ (ls : Array Slot) (H : Heap) (locs : List Loc), lv_has ls 6 [(0, .ref M), (1, .int d1), (2, .int d2), (3, .int d3), (4, .int d4)] → HH G (sz, MH M u28 rst) H → va_S (AG G) s.heap H locs → W p l e (rm_ 2 0 0) s m ([.ref M, .int a1, .int a2, .int a3, .int a4] : List Value).toArray below meth c H locs 0 0 (MQ below (PostC G (sz, MH M stf rst) (some (.int rf))) ([.ref M, .int a1, .int a2, .int a3, .int a4] : List Value).toArray s 0 0 (AG G)) (F0 m 28 ls []) := by
    intro d1 d2 d3 d4 u28 hf ls H locs hl hH hS
    unfold f_X3_keep_j28 at hf
    refine lv_iload_n hx hb dX3_keep_28 rfl (lv_at hl 2 rfl) ?_
    refine lv_if_ne (tgt := 41) hx hb dX3_keep_29 (by decide) (fun c_ => ?_) (fun c_ => ?_)
    · have hf := (if_neg c_).symm.trans hf
      refine lv_iload_n hx hb dX3_keep_41 rfl (lv_at hl 3 rfl) ?_
      obtain ⟨v2, hv, hf⟩ := bd hf
      refine r_Si (As := [.int d3]) (rest := []) X (met_X3_isPlace l G _ N d3 v2 hv) cs_X3_isPlace q1136 rfl rfl hl.1 (Nat.le_of_ble_eq_true rfl) ⟨Nat.le_of_ble_eq_true rfl, Nat.le_of_ble_eq_true rfl⟩ ⟨Nat.le_refl _, Nat.le_refl _⟩ dX3_keep_42 hK hH hS (fun H locs hH hS => ?_)
      refine lv_if_ne (tgt := 50) hx hb dX3_keep_45 (by decide) (fun c_ => ?_) (fun c_ => ?_)
      · have hf := (if_neg c_).symm.trans hf
        refine lv_aload_n hx hb dX3_keep_50 rfl (lv_at hl 0 rfl) ?_
        refine lv_iload_n hx hb dX3_keep_51 rfl (lv_at hl 3 rfl) ?_
        obtain ⟨v3, hv, hf⟩ := bd hf
        refine r_Vi (As := [.int d3]) (rest := []) X (met_X3_isEmpty l G _ _ _ N u28 d3 v3 hv) cv_X3_isEmpty q1148 (m_recv hK hH) rfl rfl hl.1 (Nat.le_of_ble_eq_true rfl) ⟨Nat.le_of_ble_eq_true rfl, Nat.le_of_ble_eq_true rfl⟩ ⟨Nat.le_refl _, Nat.le_refl _⟩ dX3_keep_52 hK hH hS (fun H locs hH hS => ?_)
        refine lv_if_eq (tgt := 61) hx hb dX3_keep_55 (by decide) (fun c_ => ?_) (fun c_ => ?_)
        · have hf := (if_pos c_).symm.trans hf
          refine lv_iload_n hx hb dX3_keep_61 rfl (lv_at hl 2 rfl) ?_
          refine lv_iconst (v := (3 : Int32)) hx hb dX3_keep_62 (by decide) ?_
          refine lv_icmp_ne (tgt := 88) hx hb dX3_keep_63 (by decide) (fun c_ => ?_) (fun c_ => ?_)
          · have hf := (if_neg c_).symm.trans hf
            exact J88 d1 d2 d3 d4 u28 hf _ _ _ (lv_sub hl [0, 1, 2, 3, 4] rfl) hH hS
          · have hf := (if_pos c_).symm.trans hf
            refine lv_iload hx hb dX3_keep_66 (lv_at hl 4 rfl) ?_
            refine lv_i2l (v := (d4).toInt64) hx hb dX3_keep_68 rfl ?_
            refine lv_lconst (v := (0 : Int64)) hx hb dX3_keep_69 (by decide) ?_
            refine lv_aload_n hx hb dX3_keep_70 rfl (lv_at hl 0 rfl) ?_
            refine m_get X hK hH 4 (by decide) rfl (mg_4 _ _) q1063 dX3_keep_71 ?_
            refine lv_iload_n hx hb dX3_keep_74 rfl (lv_at hl 3 rfl) ?_
            obtain ⟨v20, hv, hf⟩ := bd hf
            refine m_iald X hK hH 4 (mc_4 _ _) hv dX3_keep_75 ?_
            refine lv_iconst (v := (1 : Int32)) hx hb dX3_keep_76 (by decide) ?_
            refine lv_isub hx hb dX3_keep_77 ?_
            refine lv_i2l (v := ((v20 - (1 : Int32))).toInt64) hx hb dX3_keep_78 rfl ?_
            obtain ⟨v21, hv, hf⟩ := bd hf
            refine r_Si (As := [.long ((d4).toInt64), .long (0 : Int64), .long (((v20 - (1 : Int32))).toInt64)]) (rest := []) X (met_X3_isIn l G _ N ((d4).toInt64) (0 : Int64) (((v20 - (1 : Int32))).toInt64) v21 hv) cs_X3_isIn q1015 rfl rfl hl.1 (Nat.le_of_ble_eq_true rfl) ⟨Nat.le_of_ble_eq_true rfl, Nat.le_of_ble_eq_true rfl⟩ ⟨Nat.le_refl _, Nat.le_refl _⟩ dX3_keep_79 hK hH hS (fun H locs hH hS => ?_)
            refine lv_if_ne (tgt := 88) hx hb dX3_keep_82 (by decide) (fun c_ => ?_) (fun c_ => ?_)
            · have hf := (if_neg c_).symm.trans hf
              exact J88 d1 d2 d3 d4 u28 hf _ _ _ (lv_sub hl [0, 1, 2, 3, 4] rfl) hH hS
            · have hf := (if_pos c_).symm.trans hf
              refine lv_bipush (v := (-2 : Int32)) hx hb dX3_keep_85 (by decide) ?_
              cases hf
              exact r_iret X dX3_keep_87 (Nat.le_refl _) (Nat.le_refl _) rfl hH hS
        · have hf := (if_neg c_).symm.trans hf
          refine lv_bipush (v := (-11 : Int32)) hx hb dX3_keep_58 (by decide) ?_
          cases hf
          exact r_iret X dX3_keep_60 (Nat.le_refl _) (Nat.le_refl _) rfl hH hS
      · have hf := (if_pos c_).symm.trans hf
        refine lv_iconst (v := (-1 : Int32)) hx hb dX3_keep_48 (by decide) ?_
        cases hf
        exact r_iret X dX3_keep_49 (Nat.le_refl _) (Nat.le_refl _) rfl hH hS
    · have hf := (if_pos c_).symm.trans hf
      refine lv_aload_n hx hb dX3_keep_32 rfl (lv_at hl 0 rfl) ?_
      refine m_get X hK hH 19 (by decide) rfl (mg_19 _ _) q1078 dX3_keep_33 ?_
      refine lv_iload_n hx hb dX3_keep_36 rfl (lv_at hl 1 rfl) ?_
      refine lv_iconst (v := (0 : Int32)) hx hb dX3_keep_37 (by decide) ?_
      obtain ⟨w22, hv, hf⟩ := bd hf
      refine m_iast X hK hH hS 14 (mc_19 _ _) hv (mt_19 _ _ _) dX3_keep_38 (fun H locs hH hS => ?_)
      refine lv_iconst (v := (0 : Int32)) hx hb dX3_keep_39 (by decide) ?_
      cases hf
      exact r_iret X dX3_keep_40 (Nat.le_refl _) (Nat.le_refl _) rfl hH hS
  refine lv_iload_n hx hb dX3_keep_0 rfl (lv_at hl 1 rfl) ?_
  obtain ⟨v1, hv, hf⟩ := bd hf
  refine r_Si (As := [.int a1]) (rest := []) X (met_X3_isShelf l G _ N a1 v1 hv) cs_X3_isShelf q1390 rfl rfl hl.1 (Nat.le_of_ble_eq_true rfl) ⟨Nat.le_of_ble_eq_true rfl, Nat.le_of_ble_eq_true rfl⟩ ⟨Nat.le_refl _, Nat.le_refl _⟩ dX3_keep_1 hK hH hS (fun H locs hH hS => ?_)
  refine lv_if_eq (tgt := 26) hx hb dX3_keep_4 (by decide) (fun c_ => ?_) (fun c_ => ?_)
  · have hf := (if_pos c_).symm.trans hf
    refine lv_iconst (v := (-1 : Int32)) hx hb dX3_keep_26 (by decide) ?_
    cases hf
    exact r_iret X dX3_keep_27 (Nat.le_refl _) (Nat.le_refl _) rfl hH hS
  · have hf := (if_neg c_).symm.trans hf
    refine lv_iload_n hx hb dX3_keep_7 rfl (lv_at hl 2 rfl) ?_
    refine lv_if_eq (tgt := 28) hx hb dX3_keep_8 (by decide) (fun c_ => ?_) (fun c_ => ?_)
    · have hf := (if_pos c_).symm.trans hf
      exact J28 a1 a2 a3 a4 st hf _ _ _ (lv_sub hl [0, 1, 2, 3, 4] rfl) hH hS
    · have hf := (if_neg c_).symm.trans hf
      refine lv_iload_n hx hb dX3_keep_11 rfl (lv_at hl 2 rfl) ?_
      refine lv_iconst (v := (1 : Int32)) hx hb dX3_keep_12 (by decide) ?_
      refine lv_icmp_eq (tgt := 28) hx hb dX3_keep_13 (by decide) (fun c_ => ?_) (fun c_ => ?_)
      · have hf := (if_pos c_).symm.trans hf
        exact J28 a1 a2 a3 a4 st hf _ _ _ (lv_sub hl [0, 1, 2, 3, 4] rfl) hH hS
      · have hf := (if_neg c_).symm.trans hf
        refine lv_iload_n hx hb dX3_keep_16 rfl (lv_at hl 2 rfl) ?_
        refine lv_iconst (v := (3 : Int32)) hx hb dX3_keep_17 (by decide) ?_
        refine lv_icmp_eq (tgt := 28) hx hb dX3_keep_18 (by decide) (fun c_ => ?_) (fun c_ => ?_)
        · have hf := (if_pos c_).symm.trans hf
          exact J28 a1 a2 a3 a4 st hf _ _ _ (lv_sub hl [0, 1, 2, 3, 4] rfl) hH hS
        · have hf := (if_neg c_).symm.trans hf
          refine lv_iload_n hx hb dX3_keep_21 rfl (lv_at hl 2 rfl) ?_
          refine lv_iconst (v := (4 : Int32)) hx hb dX3_keep_22 (by decide) ?_
          refine lv_icmp_eq (tgt := 28) hx hb dX3_keep_23 (by decide) (fun c_ => ?_) (fun c_ => ?_)
          · have hf := (if_pos c_).symm.trans hf
            exact J28 a1 a2 a3 a4 st hf _ _ _ (lv_sub hl [0, 1, 2, 3, 4] rfl) hH hS
          · have hf := (if_neg c_).symm.trans hf
            refine lv_iconst (v := (-1 : Int32)) hx hb dX3_keep_26 (by decide) ?_
            cases hf
            exact r_iret X dX3_keep_27 (Nat.le_refl _) (Nat.le_refl _) rfl hH hS
theorem cs_X3_turnsOf : CalS yX3_turnsOf cX3_turnsOf 7 (some .long) 4 := ⟨q1271, q57, q1272, by decide +kernel, by decide +kernel, by decide +kernel⟩
set_option maxHeartbeats 4000000 in
theorem met_X3_turnsOf (l : Launch) (G : GG) (σ : SG) (N : Nat) (a0 : Int32) (a1 : Int32) (a2 : Int32) (a3 : Int32) (rf : Int64) (hf : f_X3_turnsOf N a0 a1 a2 a3 = some rf) : Con l yX3_turnsOf cX3_turnsOf 7 (some .long) 1 0 0 G σ [.int a0, .int a1, .int a2, .int a3] σ (some (.long rf)) := by
  refine con_of (by decide) (Nat.le_of_ble_eq_true rfl) ?_
  intro p e s m below meth c ls X hK hH hl hS
  have hx := X.1
  have hb := X.2.1
  have hown : s.vm.findClass RX3 = some m.cls := X.2.2.2.2.1
  have hts := X.2.2.2.2.2.1
  have hl : lv_has ls 7 [(0, .int a0), (1, .int a1), (2, .int a2), (3, .int a3)] := hl
  unfold f_X3_turnsOf at hf
  have L6 : ∀ (c0 : Int32) (c1 : Int32) (c2 : Int32) (c3 : Int32) (n : Nat) (s6 : (Int64 × Int32)) (r6 : Int64), lp (f_X3_turnsOf_b6 N c0 c1 c2 c3) n s6 = some r6 → (∀ (ls : Array Slot) (H : Heap) (locs : List Loc), lv_has ls 7 [(4, .long r6)] → HH G σ H → va_S (AG G) s.heap H locs → W p l e (rm_ 1 0 0) s m ([.int a0, .int a1, .int a2, .int a3] : List Value).toArray below meth c H locs 0 0 (MQ below (PostC G σ (some (.long rf))) ([.int a0, .int a1, .int a2, .int a3] : List Value).toArray s 0 0 (AG G)) (F0 m 66 ls [])) → ∀ (ls : Array Slot) (H : Heap) (locs : List Loc), lv_has ls 7 [(0, .int c0), (1, .int c1), (2, .int c2), (3, .int c3), (4, .long s6.1), (6, .int s6.2)] → HH G σ H → va_S (AG G) s.heap H locs → W p l e (rm_ 1 0 0) s m ([.int a0, .int a1, .int a2, .int a3] : List Value).toArray below meth c H locs 0 0 (MQ below (PostC G σ (some (.long rf))) ([.int a0, .int a1, .int a2, .int a3] : List Value).toArray s 0 0 (AG G)) (F0 m 6 ls []) := by
    intro c0 c1 c2 c3 n s6 r6 hr hq
    refine lp_ind (P := fun s6 => ∀ (ls : Array Slot) (H : Heap) (locs : List Loc), lv_has ls 7 [(0, .int c0), (1, .int c1), (2, .int c2), (3, .int c3), (4, .long s6.1), (6, .int s6.2)] → HH G σ H → va_S (AG G) s.heap H locs → W p l e (rm_ 1 0 0) s m ([.int a0, .int a1, .int a2, .int a3] : List Value).toArray below meth c H locs 0 0 (MQ below (PostC G σ (some (.long rf))) ([.int a0, .int a1, .int a2, .int a3] : List Value).toArray s 0 0 (AG G)) (F0 m 6 ls [])) (Q := fun r6 => ∀ (ls : Array Slot) (H : Heap) (locs : List Loc), lv_has ls 7 [(4, .long r6)] → HH G σ H → va_S (AG G) s.heap H locs → W p l e (rm_ 1 0 0) s m ([.int a0, .int a1, .int a2, .int a3] : List Value).toArray below meth c H locs 0 0 (MQ below (PostC G σ (some (.long rf))) ([.int a0, .int a1, .int a2, .int a3] : List Value).toArray s 0 0 (AG G)) (F0 m 66 ls [])) ?_ n s6 r6 hr hq
    intro s6 x6 hf hx6 ls H locs hl hH hS
    unfold f_X3_turnsOf_b6 at hf
    have J28 : ∀ (d6 : Int32) (k0 : Int64) (k1 : Int64), f_X3_turnsOf_j28 N c0 c1 c2 c3 d6 k0 k1 = some x6 → ∀ (ls : Array Slot) (H : Heap) (locs : List Loc), lv_has ls 7 [(0, .int c0), (1, .int c1), (2, .int c2), (3, .int c3), (6, .int d6)] → HH G σ H → va_S (AG G) s.heap H locs → W p l e (rm_ 1 0 0) s m ([.int a0, .int a1, .int a2, .int a3] : List Value).toArray below meth c H locs 0 0 (MQ below (PostC G σ (some (.long rf))) ([.int a0, .int a1, .int a2, .int a3] : List Value).toArray s 0 0 (AG G)) (F0 m 28 ls [.long k0, .long k1]) := by
      intro d6 k0 k1 hf ls H locs hl hH hS
      unfold f_X3_turnsOf_j28 at hf
      refine lv_iload_n hx hb dX3_turnsOf_28 rfl (lv_at hl 0 rfl) ?_
      refine lv_iconst (v := (1 : Int32)) hx hb dX3_turnsOf_29 (by decide) ?_
      refine lv_isub hx hb dX3_turnsOf_30 ?_
      refine lv_iload_n hx hb dX3_turnsOf_31 rfl (lv_at hl 2 rfl) ?_
      refine lv_iload hx hb dX3_turnsOf_32 (lv_at hl 4 rfl) ?_
      refine lv_isub hx hb dX3_turnsOf_34 ?_
      obtain ⟨v2, hv, hf⟩ := bd hf
      refine r_Sl (As := [.int (c0 - (1 : Int32)), .int (c2 - d6)]) (rest := [.long k0, .long k1]) X (met_X3_power l G _ N (c0 - (1 : Int32)) (c2 - d6) v2 hv) cs_X3_power q1022 rfl rfl hl.1 (Nat.le_of_ble_eq_true rfl) ⟨Nat.le_of_ble_eq_true rfl, Nat.le_of_ble_eq_true rfl⟩ ⟨Nat.le_refl _, Nat.le_refl _⟩ dX3_turnsOf_35 hK hH hS (fun H locs hH hS => ?_)
      refine lv_lmul hx hb dX3_turnsOf_38 ?_
      refine lv_iload_n hx hb dX3_turnsOf_39 rfl (lv_at hl 3 rfl) ?_
      refine lv_iload hx hb dX3_turnsOf_40 (lv_at hl 4 rfl) ?_
      obtain ⟨v3, hv, hf⟩ := bd hf
      refine r_Sl (As := [.int c3, .int d6]) (rest := [.long (k0 * v2), .long k1]) X (met_X3_choose l G _ N c3 d6 v3 hv) cs_X3_choose q1273 rfl rfl hl.1 (Nat.le_of_ble_eq_true rfl) ⟨Nat.le_of_ble_eq_true rfl, Nat.le_of_ble_eq_true rfl⟩ ⟨Nat.le_refl _, Nat.le_refl _⟩ dX3_turnsOf_42 hK hH hS (fun H locs hH hS => ?_)
      refine lv_lmul hx hb dX3_turnsOf_45 ?_
      refine lv_iload_n hx hb dX3_turnsOf_46 rfl (lv_at hl 1 rfl) ?_
      refine lv_iload_n hx hb dX3_turnsOf_47 rfl (lv_at hl 3 rfl) ?_
      refine lv_isub hx hb dX3_turnsOf_48 ?_
      refine lv_iload_n hx hb dX3_turnsOf_49 rfl (lv_at hl 2 rfl) ?_
      refine lv_iload hx hb dX3_turnsOf_50 (lv_at hl 4 rfl) ?_
      refine lv_isub hx hb dX3_turnsOf_52 ?_
      obtain ⟨v4, hv, hf⟩ := bd hf
      refine r_Sl (As := [.int (c1 - c3), .int (c2 - d6)]) (rest := [.long ((k0 * v2) * v3), .long k1]) X (met_X3_choose l G _ N (c1 - c3) (c2 - d6) v4 hv) cs_X3_choose q1273 rfl rfl hl.1 (Nat.le_of_ble_eq_true rfl) ⟨Nat.le_of_ble_eq_true rfl, Nat.le_of_ble_eq_true rfl⟩ ⟨Nat.le_refl _, Nat.le_refl _⟩ dX3_turnsOf_53 hK hH hS (fun H locs hH hS => ?_)
      refine lv_lmul hx hb dX3_turnsOf_56 ?_
      refine lv_ladd hx hb dX3_turnsOf_57 ?_
      refine lv_lstore (lv' := [(4, .long (k1 + (((k0 * v2) * v3) * v4))), (0, .int c0), (1, .int c1), (2, .int c2), (3, .int c3), (6, .int d6)]) hx hb dX3_turnsOf_58 hl (by decide) rfl (fun ls hl => ?_)
      refine lv_iinc (v := (d6 + 1)) (lv' := [(6, .int (d6 + 1)), (4, .long (k1 + (((k0 * v2) * v3) * v4))), (0, .int c0), (1, .int c1), (2, .int c2), (3, .int c3)]) hx hb dX3_turnsOf_60 hl (k := 5) rfl rfl (by decide) rfl (fun ls hl => ?_)
      refine lv_goto (tgt := 6) hx hb dX3_turnsOf_63 (by decide) ?_
      cases hf
      exact hx6 _ _ _ (lv_sub hl [2, 3, 4, 5, 1, 0] rfl) hH hS
    refine lv_iload hx hb dX3_turnsOf_6 (lv_at hl 5 rfl) ?_
    refine lv_iload_n hx hb dX3_turnsOf_8 rfl (lv_at hl 2 rfl) ?_
    refine lv_icmp_gt (tgt := 66) hx hb dX3_turnsOf_9 (by decide) (fun c_ => ?_) (fun c_ => ?_)
    · have hf := (if_pos c_).symm.trans hf
      cases hf
      exact hx6 _ _ _ (lv_sub hl [4] rfl) hH hS
    · have hf := (if_neg c_).symm.trans hf
      refine lv_lload hx hb dX3_turnsOf_12 (lv_at hl 4 rfl) ?_
      refine lv_iload hx hb dX3_turnsOf_14 (lv_at hl 5 rfl) ?_
      refine lv_iconst (v := (2 : Int32)) hx hb dX3_turnsOf_16 (by decide) ?_
      obtain ⟨v1, hv, hf⟩ := bd hf
      refine r_irem hx hb hv dX3_turnsOf_17 ?_
      refine lv_if_ne (tgt := 25) hx hb dX3_turnsOf_18 (by decide) (fun c_ => ?_) (fun c_ => ?_)
      · have hf := (if_neg c_).symm.trans hf
        refine lv_ldc2 (v := (-1 : Int64)) hx hb hown (hts _ q1025) dX3_turnsOf_25 ?_
        exact J28 s6.2 (-1 : Int64) s6.1 hf _ _ _ (lv_sub hl [0, 1, 2, 3, 5] rfl) hH hS
      · have hf := (if_pos c_).symm.trans hf
        refine lv_lconst (v := (1 : Int64)) hx hb dX3_turnsOf_21 (by decide) ?_
        refine lv_goto (tgt := 28) hx hb dX3_turnsOf_22 (by decide) ?_
        exact J28 s6.2 (1 : Int64) s6.1 hf _ _ _ (lv_sub hl [0, 1, 2, 3, 5] rfl) hH hS
  refine lv_lconst (v := (0 : Int64)) hx hb dX3_turnsOf_0 (by decide) ?_
  refine lv_lstore (lv' := [(4, .long (0 : Int64)), (0, .int a0), (1, .int a1), (2, .int a2), (3, .int a3)]) hx hb dX3_turnsOf_1 hl (by decide) rfl (fun ls hl => ?_)
  refine lv_iconst (v := (0 : Int32)) hx hb dX3_turnsOf_3 (by decide) ?_
  refine lv_istore (lv' := [(6, .int (0 : Int32)), (4, .long (0 : Int64)), (0, .int a0), (1, .int a1), (2, .int a2), (3, .int a3)]) hx hb dX3_turnsOf_4 hl (by decide) rfl (fun ls hl => ?_)
  obtain ⟨r6_5, hr, hf⟩ := bd hf
  refine L6 a0 a1 a2 a3 N _ r6_5 hr ?_ _ _ _ (lv_sub hl [2, 3, 4, 5, 1, 0] rfl) hH hS
  intro ls H locs hl hH hS
  refine lv_lload hx hb dX3_turnsOf_66 (lv_at hl 0 rfl) ?_
  cases hf
  exact r_lret X dX3_turnsOf_68 (Nat.le_refl _) (Nat.le_refl _) rfl hH hS
theorem cv_X3_law : CalV "WordBenchModel" yX3_law cX3_law 6 (some .long) 2 := ⟨q1267, q1268, q57, q1269, by decide +kernel⟩
set_option maxHeartbeats 4000000 in
theorem met_X3_law (l : Launch) (G : GG) (sz M : Nat) (rst : Nat → Option AE) (N : Nat) (st : MS) (a1 : Int32) (a2 : Int32) (stf : MS) (rf : Int64) (hf : f_X3_law N st a1 a2 = some (stf, rf)) : Con l yX3_law cX3_law 6 (some .long) 6 0 0 G (sz, MH M st rst) [.ref M, .int a1, .int a2] (sz, MH M stf rst) (some (.long rf)) := by
  refine con_of (by decide) (Nat.le_of_ble_eq_true rfl) ?_
  intro p e s m below meth c ls X hK hH hl hS
  have hx := X.1
  have hb := X.2.1
  have hown : s.vm.findClass RX3 = some m.cls := X.2.2.2.2.1
  have hts := X.2.2.2.2.2.1
  have hl : lv_has ls 6 [(0, .ref M), (1, .int a1), (2, .int a2)] := hl
  unfold f_X3_law at hf
  have L79 : ∀ (c1 : Int32) (c2 : Int32) (t79 : MS) (n : Nat) (s79 : (Int64 × Int32)) (r79 : Int64), lp (f_X3_law_b79 N c1 c2 t79) n s79 = some r79 → (∀ (ls : Array Slot) (H : Heap) (locs : List Loc), lv_has ls 6 [(3, .long r79)] → HH G (sz, MH M t79 rst) H → va_S (AG G) s.heap H locs → W p l e (rm_ 6 0 0) s m ([.ref M, .int a1, .int a2] : List Value).toArray below meth c H locs 0 0 (MQ below (PostC G (sz, MH M stf rst) (some (.long rf))) ([.ref M, .int a1, .int a2] : List Value).toArray s 0 0 (AG G)) (F0 m 125 ls [])) → ∀ (ls : Array Slot) (H : Heap) (locs : List Loc), lv_has ls 6 [(0, .ref M), (1, .int c1), (2, .int c2), (3, .long s79.1), (5, .int s79.2)] → HH G (sz, MH M t79 rst) H → va_S (AG G) s.heap H locs → W p l e (rm_ 6 0 0) s m ([.ref M, .int a1, .int a2] : List Value).toArray below meth c H locs 0 0 (MQ below (PostC G (sz, MH M stf rst) (some (.long rf))) ([.ref M, .int a1, .int a2] : List Value).toArray s 0 0 (AG G)) (F0 m 79 ls []) := by
    intro c1 c2 t79 n s79 r79 hr hq
    refine lp_ind (P := fun s79 => ∀ (ls : Array Slot) (H : Heap) (locs : List Loc), lv_has ls 6 [(0, .ref M), (1, .int c1), (2, .int c2), (3, .long s79.1), (5, .int s79.2)] → HH G (sz, MH M t79 rst) H → va_S (AG G) s.heap H locs → W p l e (rm_ 6 0 0) s m ([.ref M, .int a1, .int a2] : List Value).toArray below meth c H locs 0 0 (MQ below (PostC G (sz, MH M stf rst) (some (.long rf))) ([.ref M, .int a1, .int a2] : List Value).toArray s 0 0 (AG G)) (F0 m 79 ls [])) (Q := fun r79 => ∀ (ls : Array Slot) (H : Heap) (locs : List Loc), lv_has ls 6 [(3, .long r79)] → HH G (sz, MH M t79 rst) H → va_S (AG G) s.heap H locs → W p l e (rm_ 6 0 0) s m ([.ref M, .int a1, .int a2] : List Value).toArray below meth c H locs 0 0 (MQ below (PostC G (sz, MH M stf rst) (some (.long rf))) ([.ref M, .int a1, .int a2] : List Value).toArray s 0 0 (AG G)) (F0 m 125 ls [])) ?_ n s79 r79 hr hq
    intro s79 x79 hf hx79 ls H locs hl hH hS
    unfold f_X3_law_b79 at hf
    refine lv_iload hx hb dX3_law_79 (lv_at hl 4 rfl) ?_
    refine lv_aload_n hx hb dX3_law_81 rfl (lv_at hl 0 rfl) ?_
    refine m_get X hK hH 3 (by decide) rfl (mg_3 _ _) q1062 dX3_law_82 ?_
    refine lv_iload_n hx hb dX3_law_85 rfl (lv_at hl 1 rfl) ?_
    obtain ⟨v7, hv, hf⟩ := bd hf
    refine m_iald X hK hH 3 (mc_3 _ _) hv dX3_law_86 ?_
    refine lv_icmp_gt (tgt := 125) hx hb dX3_law_87 (by decide) (fun c_ => ?_) (fun c_ => ?_)
    · have hf := (if_pos c_).symm.trans hf
      cases hf
      exact hx79 _ _ _ (lv_sub hl [3] rfl) hH hS
    · have hf := (if_neg c_).symm.trans hf
      refine lv_lload_n hx hb dX3_law_90 rfl (lv_at hl 3 rfl) ?_
      refine lv_aload_n hx hb dX3_law_91 rfl (lv_at hl 0 rfl) ?_
      refine m_get X hK hH 14 (by decide) rfl (mg_14 _ _) q1073 dX3_law_92 ?_
      refine lv_iload hx hb dX3_law_95 (lv_at hl 4 rfl) ?_
      obtain ⟨v8, hv, hf⟩ := bd hf
      refine m_lald X hK hH 12 (mc_14 _ _) hv dX3_law_97 ?_
      refine lv_aload_n hx hb dX3_law_98 rfl (lv_at hl 0 rfl) ?_
      refine m_get X hK hH 2 (by decide) rfl (mg_2 _ _) q1061 dX3_law_99 ?_
      refine lv_iload_n hx hb dX3_law_102 rfl (lv_at hl 1 rfl) ?_
      obtain ⟨v9, hv, hf⟩ := bd hf
      refine m_iald X hK hH 2 (mc_2 _ _) hv dX3_law_103 ?_
      refine lv_aload_n hx hb dX3_law_104 rfl (lv_at hl 0 rfl) ?_
      refine m_get X hK hH 3 (by decide) rfl (mg_3 _ _) q1062 dX3_law_105 ?_
      refine lv_iload_n hx hb dX3_law_108 rfl (lv_at hl 1 rfl) ?_
      obtain ⟨v10, hv, hf⟩ := bd hf
      refine m_iald X hK hH 3 (mc_3 _ _) hv dX3_law_109 ?_
      refine lv_iload_n hx hb dX3_law_110 rfl (lv_at hl 2 rfl) ?_
      refine lv_iload hx hb dX3_law_111 (lv_at hl 4 rfl) ?_
      obtain ⟨v11, hv, hf⟩ := bd hf
      refine r_Sl (As := [.int v9, .int v10, .int c2, .int s79.2]) (rest := [.long v8, .long s79.1]) X (met_X3_turnsOf l G _ N v9 v10 c2 s79.2 v11 hv) cs_X3_turnsOf q1270 rfl rfl hl.1 (Nat.le_of_ble_eq_true rfl) ⟨Nat.le_of_ble_eq_true rfl, Nat.le_of_ble_eq_true rfl⟩ ⟨Nat.le_refl _, Nat.le_refl _⟩ dX3_law_113 hK hH hS (fun H locs hH hS => ?_)
      refine lv_lmul hx hb dX3_law_116 ?_
      refine lv_ladd hx hb dX3_law_117 ?_
      refine lv_lstore_n (lv' := [(3, .long (s79.1 + (v8 * v11))), (0, .ref M), (1, .int c1), (2, .int c2), (5, .int s79.2)]) hx hb dX3_law_118 rfl hl (by decide) rfl (fun ls hl => ?_)
      refine lv_iinc (v := (s79.2 + 1)) (lv' := [(5, .int (s79.2 + 1)), (3, .long (s79.1 + (v8 * v11))), (0, .ref M), (1, .int c1), (2, .int c2)]) hx hb dX3_law_119 hl (k := 4) rfl rfl (by decide) rfl (fun ls hl => ?_)
      refine lv_goto (tgt := 79) hx hb dX3_law_122 (by decide) ?_
      cases hf
      exact hx79 _ _ _ (lv_sub hl [2, 3, 4, 1, 0] rfl) hH hS
  have J57 : ∀ (d1 : Int32) (d2 : Int32) (k0 : Int32) (u57 : MS), f_X3_law_j57 N d1 d2 k0 u57 = some (stf, rf) → ∀ (ls : Array Slot) (H : Heap) (locs : List Loc), lv_has ls 6 [(0, .ref M), (1, .int d1), (2, .int d2)] → HH G (sz, MH M u57 rst) H → va_S (AG G) s.heap H locs → W p l e (rm_ 6 0 0) s m ([.ref M, .int a1, .int a2] : List Value).toArray below meth c H locs 0 0 (MQ below (PostC G (sz, MH M stf rst) (some (.long rf))) ([.ref M, .int a1, .int a2] : List Value).toArray s 0 0 (AG G)) (F0 m 57 ls [.int k0, .ref M]) := by
    intro d1 d2 k0 u57 hf ls H locs hl hH hS
    unfold f_X3_law_j57 at hf
    refine m_put (ty := .int) X hK hH hS 0 (by decide) rfl (mp_0 _ _ _) q1059 rfl (by decide +kernel) rfl rfl dX3_law_57 (fun H locs hH hS => ?_)
    refine lv_aload_n hx hb dX3_law_60 rfl (lv_at hl 0 rfl) ?_
    refine m_get X hK hH 0 (by decide) rfl (mg_0 _ _) q1059 dX3_law_61 ?_
    refine lv_if_le (tgt := 69) hx hb dX3_law_64 (by decide) (fun c_ => ?_) (fun c_ => ?_)
    · have hf := (if_pos c_).symm.trans hf
      refine lv_aload_n hx hb dX3_law_69 rfl (lv_at hl 0 rfl) ?_
      refine lv_iload_n hx hb dX3_law_70 rfl (lv_at hl 1 rfl) ?_
      obtain ⟨v6, hv, hf⟩ := bd hf
      refine r_Vv (As := [.int d1]) (rest := []) X (met_X3_weigh l G _ _ _ N (sV u57 0 k0) d1 v6 hv) cv_X3_weigh q1262 (m_recv hK hH) rfl rfl hl.1 (Nat.le_of_ble_eq_true rfl) ⟨Nat.le_of_ble_eq_true rfl, Nat.le_of_ble_eq_true rfl⟩ ⟨Nat.le_refl _, Nat.le_refl _⟩ dX3_law_71 hK hH hS (fun H locs hH hS => ?_)
      refine lv_lconst (v := (0 : Int64)) hx hb dX3_law_74 (by decide) ?_
      refine lv_lstore_n (lv' := [(3, .long (0 : Int64)), (0, .ref M), (1, .int d1), (2, .int d2)]) hx hb dX3_law_75 rfl hl (by decide) rfl (fun ls hl => ?_)
      refine lv_iconst (v := (0 : Int32)) hx hb dX3_law_76 (by decide) ?_
      refine lv_istore (lv' := [(5, .int (0 : Int32)), (3, .long (0 : Int64)), (0, .ref M), (1, .int d1), (2, .int d2)]) hx hb dX3_law_77 hl (by decide) rfl (fun ls hl => ?_)
      obtain ⟨r79_12, hr, hf⟩ := bd hf
      refine L79 d1 d2 v6 N _ r79_12 hr ?_ _ _ _ (lv_sub hl [2, 3, 4, 1, 0] rfl) hH hS
      intro ls H locs hl hH hS
      refine lv_lload_n hx hb dX3_law_125 rfl (lv_at hl 0 rfl) ?_
      cases hf
      exact r_lret X dX3_law_126 (Nat.le_refl _) (Nat.le_refl _) rfl hH hS
    · have hf := (if_neg c_).symm.trans hf
      refine lv_lconst (v := (0 : Int64)) hx hb dX3_law_67 (by decide) ?_
      cases hf
      exact r_lret X dX3_law_68 (Nat.le_refl _) (Nat.le_refl _) rfl hH hS
  refine lv_aload_n hx hb dX3_law_0 rfl (lv_at hl 0 rfl) ?_
  refine lv_iload_n hx hb dX3_law_1 rfl (lv_at hl 1 rfl) ?_
  obtain ⟨v1, hv, hf⟩ := bd hf
  refine r_Si (As := [.int a1]) (rest := [.ref M]) X (met_X3_isPlace l G _ N a1 v1 hv) cs_X3_isPlace q1136 rfl rfl hl.1 (Nat.le_of_ble_eq_true rfl) ⟨Nat.le_of_ble_eq_true rfl, Nat.le_of_ble_eq_true rfl⟩ ⟨Nat.le_refl _, Nat.le_refl _⟩ dX3_law_2 hK hH hS (fun H locs hH hS => ?_)
  refine lv_if_ne (tgt := 12) hx hb dX3_law_5 (by decide) (fun c_ => ?_) (fun c_ => ?_)
  · have hf := (if_neg c_).symm.trans hf
    refine lv_aload_n hx hb dX3_law_12 rfl (lv_at hl 0 rfl) ?_
    refine lv_iload_n hx hb dX3_law_13 rfl (lv_at hl 1 rfl) ?_
    obtain ⟨v2, hv, hf⟩ := bd hf
    refine r_Vi (As := [.int a1]) (rest := [.ref M]) X (met_X3_isEmpty l G _ _ _ N st a1 v2 hv) cv_X3_isEmpty q1148 (m_recv hK hH) rfl rfl hl.1 (Nat.le_of_ble_eq_true rfl) ⟨Nat.le_of_ble_eq_true rfl, Nat.le_of_ble_eq_true rfl⟩ ⟨Nat.le_refl _, Nat.le_refl _⟩ dX3_law_14 hK hH hS (fun H locs hH hS => ?_)
    refine lv_if_eq (tgt := 24) hx hb dX3_law_17 (by decide) (fun c_ => ?_) (fun c_ => ?_)
    · have hf := (if_pos c_).symm.trans hf
      refine lv_iload_n hx hb dX3_law_24 rfl (lv_at hl 2 rfl) ?_
      refine lv_i2l (v := (a2).toInt64) hx hb dX3_law_25 rfl ?_
      refine lv_lconst (v := (0 : Int64)) hx hb dX3_law_26 (by decide) ?_
      refine lv_aload_n hx hb dX3_law_27 rfl (lv_at hl 0 rfl) ?_
      refine m_get X hK hH 3 (by decide) rfl (mg_3 _ _) q1062 dX3_law_28 ?_
      refine lv_iload_n hx hb dX3_law_31 rfl (lv_at hl 1 rfl) ?_
      obtain ⟨v3, hv, hf⟩ := bd hf
      refine m_iald X hK hH 3 (mc_3 _ _) hv dX3_law_32 ?_
      refine lv_i2l (v := (v3).toInt64) hx hb dX3_law_33 rfl ?_
      obtain ⟨v4, hv, hf⟩ := bd hf
      refine r_Si (As := [.long ((a2).toInt64), .long (0 : Int64), .long ((v3).toInt64)]) (rest := [.ref M]) X (met_X3_isIn l G _ N ((a2).toInt64) (0 : Int64) ((v3).toInt64) v4 hv) cs_X3_isIn q1015 rfl rfl hl.1 (Nat.le_of_ble_eq_true rfl) ⟨Nat.le_of_ble_eq_true rfl, Nat.le_of_ble_eq_true rfl⟩ ⟨Nat.le_refl _, Nat.le_refl _⟩ dX3_law_34 hK hH hS (fun H locs hH hS => ?_)
      refine lv_if_ne (tgt := 44) hx hb dX3_law_37 (by decide) (fun c_ => ?_) (fun c_ => ?_)
      · have hf := (if_neg c_).symm.trans hf
        refine lv_aload_n hx hb dX3_law_44 rfl (lv_at hl 0 rfl) ?_
        refine lv_iload_n hx hb dX3_law_45 rfl (lv_at hl 1 rfl) ?_
        obtain ⟨v5, hv, hf⟩ := bd hf
        refine r_Vi (As := [.int a1]) (rest := [.ref M]) X (met_X3_lays l G _ _ _ N st a1 v5.1 v5.2 hv) cv_X3_lays q1240 (m_recv hK hH) rfl rfl hl.1 (Nat.le_of_ble_eq_true rfl) ⟨Nat.le_of_ble_eq_true rfl, Nat.le_of_ble_eq_true rfl⟩ ⟨Nat.le_refl _, Nat.le_refl _⟩ dX3_law_46 hK hH hS (fun H locs hH hS => ?_)
        refine lv_if_ne (tgt := 56) hx hb dX3_law_49 (by decide) (fun c_ => ?_) (fun c_ => ?_)
        · have hf := (if_neg c_).symm.trans hf
          refine lv_iconst (v := (0 : Int32)) hx hb dX3_law_56 (by decide) ?_
          exact J57 a1 a2 (0 : Int32) v5.1 hf _ _ _ (lv_sub hl [0, 1, 2] rfl) hH hS
        · have hf := (if_pos c_).symm.trans hf
          refine lv_iconst (v := (2 : Int32)) hx hb dX3_law_52 (by decide) ?_
          refine lv_goto (tgt := 57) hx hb dX3_law_53 (by decide) ?_
          exact J57 a1 a2 (2 : Int32) v5.1 hf _ _ _ (lv_sub hl [0, 1, 2] rfl) hH hS
      · have hf := (if_pos c_).symm.trans hf
        refine lv_iconst (v := (1 : Int32)) hx hb dX3_law_40 (by decide) ?_
        refine lv_goto (tgt := 57) hx hb dX3_law_41 (by decide) ?_
        exact J57 a1 a2 (1 : Int32) st hf _ _ _ (lv_sub hl [0, 1, 2] rfl) hH hS
    · have hf := (if_neg c_).symm.trans hf
      refine lv_iconst (v := (2 : Int32)) hx hb dX3_law_20 (by decide) ?_
      refine lv_goto (tgt := 57) hx hb dX3_law_21 (by decide) ?_
      exact J57 a1 a2 (2 : Int32) st hf _ _ _ (lv_sub hl [0, 1, 2] rfl) hH hS
  · have hf := (if_pos c_).symm.trans hf
    refine lv_iconst (v := (1 : Int32)) hx hb dX3_law_8 (by decide) ?_
    refine lv_goto (tgt := 57) hx hb dX3_law_9 (by decide) ?_
    exact J57 a1 a2 (1 : Int32) st hf _ _ _ (lv_sub hl [0, 1, 2] rfl) hH hS
theorem cv_X3_leastOf : CalV "WordBenchModel" yX3_leastOf cX3_leastOf 6 (some .int) 1 := ⟨q1251, qs32, q57, q1252, by decide +kernel⟩
set_option maxHeartbeats 4000000 in
theorem met_X3_leastOf (l : Launch) (G : GG) (sz M : Nat) (rst : Nat → Option AE) (N : Nat) (st : MS) (a1 : Int32) (rf : Int32) (hf : f_X3_leastOf N st a1 = some rf) : Con l yX3_leastOf cX3_leastOf 6 (some .int) 1 0 0 G (sz, MH M st rst) [.ref M, .int a1] (sz, MH M st rst) (some (.int rf)) := by
  refine con_of (by decide) (Nat.le_of_ble_eq_true rfl) ?_
  intro p e s m below meth c ls X hK hH hl hS
  have hx := X.1
  have hb := X.2.1
  have hown : s.vm.findClass RX3 = some m.cls := X.2.2.2.2.1
  have hts := X.2.2.2.2.2.1
  have hl : lv_has ls 6 [(0, .ref M), (1, .int a1)] := hl
  unfold f_X3_leastOf at hf
  have L4 : ∀ (c1 : Int32) (n : Nat) (s4 : (Int32 × Int32)) (r4 : Int32), lp (f_X3_leastOf_b4 N c1 st) n s4 = some r4 → (∀ (ls : Array Slot) (H : Heap) (locs : List Loc), lv_has ls 6 [(2, .int r4)] → HH G (sz, MH M st rst) H → va_S (AG G) s.heap H locs → W p l e (rm_ 1 0 0) s m ([.ref M, .int a1] : List Value).toArray below meth c H locs 0 0 (MQ below (PostC G (sz, MH M st rst) (some (.int rf))) ([.ref M, .int a1] : List Value).toArray s 0 0 (AG G)) (F0 m 77 ls [])) → ∀ (ls : Array Slot) (H : Heap) (locs : List Loc), lv_has ls 6 [(0, .ref M), (1, .int c1), (2, .int s4.1), (3, .int s4.2)] → HH G (sz, MH M st rst) H → va_S (AG G) s.heap H locs → W p l e (rm_ 1 0 0) s m ([.ref M, .int a1] : List Value).toArray below meth c H locs 0 0 (MQ below (PostC G (sz, MH M st rst) (some (.int rf))) ([.ref M, .int a1] : List Value).toArray s 0 0 (AG G)) (F0 m 4 ls []) := by
    intro c1 n s4 r4 hr hq
    refine lp_ind (P := fun s4 => ∀ (ls : Array Slot) (H : Heap) (locs : List Loc), lv_has ls 6 [(0, .ref M), (1, .int c1), (2, .int s4.1), (3, .int s4.2)] → HH G (sz, MH M st rst) H → va_S (AG G) s.heap H locs → W p l e (rm_ 1 0 0) s m ([.ref M, .int a1] : List Value).toArray below meth c H locs 0 0 (MQ below (PostC G (sz, MH M st rst) (some (.int rf))) ([.ref M, .int a1] : List Value).toArray s 0 0 (AG G)) (F0 m 4 ls [])) (Q := fun r4 => ∀ (ls : Array Slot) (H : Heap) (locs : List Loc), lv_has ls 6 [(2, .int r4)] → HH G (sz, MH M st rst) H → va_S (AG G) s.heap H locs → W p l e (rm_ 1 0 0) s m ([.ref M, .int a1] : List Value).toArray below meth c H locs 0 0 (MQ below (PostC G (sz, MH M st rst) (some (.int rf))) ([.ref M, .int a1] : List Value).toArray s 0 0 (AG G)) (F0 m 77 ls [])) ?_ n s4 r4 hr hq
    intro s4 x4 hf hx4 ls H locs hl hH hS
    unfold f_X3_leastOf_b4 at hf
    have L15 : ∀ (c1 : Int32) (c3 : Int32) (n : Nat) (s15 : (Int32 × Int32)) (r15 : (Int32 ⊕ Int32)), lp (f_X3_leastOf_b15 N c1 c3 st) n s15 = some r15 → (match r15 with | .inl e15 => (∀ (ls : Array Slot) (H : Heap) (locs : List Loc), lv_has ls 6 [(0, .ref M), (1, .int c1), (2, .int e15), (3, .int c3)] → HH G (sz, MH M st rst) H → va_S (AG G) s.heap H locs → W p l e (rm_ 1 0 0) s m ([.ref M, .int a1] : List Value).toArray below meth c H locs 0 0 (MQ below (PostC G (sz, MH M st rst) (some (.int rf))) ([.ref M, .int a1] : List Value).toArray s 0 0 (AG G)) (F0 m 35 ls [])) | .inr e15 => (∀ (ls : Array Slot) (H : Heap) (locs : List Loc), lv_has ls 6 [(0, .ref M), (1, .int c1), (2, .int e15), (3, .int c3)] → HH G (sz, MH M st rst) H → va_S (AG G) s.heap H locs → W p l e (rm_ 1 0 0) s m ([.ref M, .int a1] : List Value).toArray below meth c H locs 0 0 (MQ below (PostC G (sz, MH M st rst) (some (.int rf))) ([.ref M, .int a1] : List Value).toArray s 0 0 (AG G)) (F0 m 71 ls []))) → ∀ (ls : Array Slot) (H : Heap) (locs : List Loc), lv_has ls 6 [(0, .ref M), (1, .int c1), (2, .int s15.1), (3, .int c3), (4, .int s15.2)] → HH G (sz, MH M st rst) H → va_S (AG G) s.heap H locs → W p l e (rm_ 1 0 0) s m ([.ref M, .int a1] : List Value).toArray below meth c H locs 0 0 (MQ below (PostC G (sz, MH M st rst) (some (.int rf))) ([.ref M, .int a1] : List Value).toArray s 0 0 (AG G)) (F0 m 15 ls []) := by
      intro c1 c3 n s15 r15 hr hq
      refine lp_ind (P := fun s15 => ∀ (ls : Array Slot) (H : Heap) (locs : List Loc), lv_has ls 6 [(0, .ref M), (1, .int c1), (2, .int s15.1), (3, .int c3), (4, .int s15.2)] → HH G (sz, MH M st rst) H → va_S (AG G) s.heap H locs → W p l e (rm_ 1 0 0) s m ([.ref M, .int a1] : List Value).toArray below meth c H locs 0 0 (MQ below (PostC G (sz, MH M st rst) (some (.int rf))) ([.ref M, .int a1] : List Value).toArray s 0 0 (AG G)) (F0 m 15 ls [])) (Q := fun r15 => match r15 with | .inl e15 => (∀ (ls : Array Slot) (H : Heap) (locs : List Loc), lv_has ls 6 [(0, .ref M), (1, .int c1), (2, .int e15), (3, .int c3)] → HH G (sz, MH M st rst) H → va_S (AG G) s.heap H locs → W p l e (rm_ 1 0 0) s m ([.ref M, .int a1] : List Value).toArray below meth c H locs 0 0 (MQ below (PostC G (sz, MH M st rst) (some (.int rf))) ([.ref M, .int a1] : List Value).toArray s 0 0 (AG G)) (F0 m 35 ls [])) | .inr e15 => (∀ (ls : Array Slot) (H : Heap) (locs : List Loc), lv_has ls 6 [(0, .ref M), (1, .int c1), (2, .int e15), (3, .int c3)] → HH G (sz, MH M st rst) H → va_S (AG G) s.heap H locs → W p l e (rm_ 1 0 0) s m ([.ref M, .int a1] : List Value).toArray below meth c H locs 0 0 (MQ below (PostC G (sz, MH M st rst) (some (.int rf))) ([.ref M, .int a1] : List Value).toArray s 0 0 (AG G)) (F0 m 71 ls []))) ?_ n s15 r15 hr hq
      intro s15 x15 hf hx15 ls H locs hl hH hS
      unfold f_X3_leastOf_b15 at hf
      have J38 : ∀ (d2 : Int32) (d4 : Int32), f_X3_leastOf_j38 N c1 c3 st d2 d4 = some x15 → ∀ (ls : Array Slot) (H : Heap) (locs : List Loc), lv_has ls 6 [(0, .ref M), (1, .int c1), (2, .int d2), (3, .int c3), (4, .int d4)] → HH G (sz, MH M st rst) H → va_S (AG G) s.heap H locs → W p l e (rm_ 1 0 0) s m ([.ref M, .int a1] : List Value).toArray below meth c H locs 0 0 (MQ below (PostC G (sz, MH M st rst) (some (.int rf))) ([.ref M, .int a1] : List Value).toArray s 0 0 (AG G)) (F0 m 38 ls []) := by
        intro d2 d4 hf ls H locs hl hH hS
        unfold f_X3_leastOf_j38 at hf
        refine lv_aload_n hx hb dX3_leastOf_38 rfl (lv_at hl 0 rfl) ?_
        refine lv_iload_n hx hb dX3_leastOf_39 rfl (lv_at hl 1 rfl) ?_
        refine lv_iload_n hx hb dX3_leastOf_40 rfl (lv_at hl 3 rfl) ?_
        refine lv_iload hx hb dX3_leastOf_41 (lv_at hl 4 rfl) ?_
        obtain ⟨v2, hv, hf⟩ := bd hf
        refine r_Vi (As := [.int c1, .int c3, .int d4]) (rest := []) X (met_X3_wayOfTwo l G _ _ _ N st c1 c3 d4 v2 hv) cv_X3_wayOfTwo q1253 (m_recv hK hH) rfl rfl hl.1 (Nat.le_of_ble_eq_true rfl) ⟨Nat.le_of_ble_eq_true rfl, Nat.le_of_ble_eq_true rfl⟩ ⟨Nat.le_refl _, Nat.le_refl _⟩ dX3_leastOf_43 hK hH hS (fun H locs hH hS => ?_)
        refine lv_istore (lv' := [(5, .int v2), (0, .ref M), (1, .int c1), (2, .int d2), (3, .int c3), (4, .int d4)]) hx hb dX3_leastOf_46 hl (by decide) rfl (fun ls hl => ?_)
        refine lv_iload_n hx hb dX3_leastOf_48 rfl (lv_at hl 3 rfl) ?_
        refine lv_if_eq (tgt := 58) hx hb dX3_leastOf_49 (by decide) (fun c_ => ?_) (fun c_ => ?_)
        · have hf := (if_pos c_).symm.trans hf
          refine lv_iload hx hb dX3_leastOf_58 (lv_at hl 0 rfl) ?_
          refine lv_goto (tgt := 64) hx hb dX3_leastOf_60 (by decide) ?_
          refine lv_istore_n (lv' := [(2, .int v2), (5, .int v2), (0, .ref M), (1, .int c1), (3, .int c3), (4, .int d4)]) hx hb dX3_leastOf_64 rfl hl (by decide) rfl (fun ls hl => ?_)
          refine lv_iinc (v := (d4 + 1)) (lv' := [(4, .int (d4 + 1)), (2, .int v2), (5, .int v2), (0, .ref M), (1, .int c1), (3, .int c3)]) hx hb dX3_leastOf_65 hl (k := 5) rfl rfl (by decide) rfl (fun ls hl => ?_)
          refine lv_goto (tgt := 15) hx hb dX3_leastOf_68 (by decide) ?_
          cases hf
          exact hx15 _ _ _ (lv_sub hl [3, 4, 1, 5, 0] rfl) hH hS
        · have hf := (if_neg c_).symm.trans hf
          refine lv_iload hx hb dX3_leastOf_52 (lv_at hl 0 rfl) ?_
          refine lv_iload_n hx hb dX3_leastOf_54 rfl (lv_at hl 3 rfl) ?_
          refine lv_icmp_ge (tgt := 63) hx hb dX3_leastOf_55 (by decide) (fun c_ => ?_) (fun c_ => ?_)
          · have hf := (if_pos c_).symm.trans hf
            refine lv_iload_n hx hb dX3_leastOf_63 rfl (lv_at hl 3 rfl) ?_
            refine lv_istore_n (lv' := [(2, .int d2), (5, .int v2), (0, .ref M), (1, .int c1), (3, .int c3), (4, .int d4)]) hx hb dX3_leastOf_64 rfl hl (by decide) rfl (fun ls hl => ?_)
            refine lv_iinc (v := (d4 + 1)) (lv' := [(4, .int (d4 + 1)), (2, .int d2), (5, .int v2), (0, .ref M), (1, .int c1), (3, .int c3)]) hx hb dX3_leastOf_65 hl (k := 5) rfl rfl (by decide) rfl (fun ls hl => ?_)
            refine lv_goto (tgt := 15) hx hb dX3_leastOf_68 (by decide) ?_
            cases hf
            exact hx15 _ _ _ (lv_sub hl [3, 4, 1, 5, 0] rfl) hH hS
          · have hf := (if_neg c_).symm.trans hf
            refine lv_iload hx hb dX3_leastOf_58 (lv_at hl 0 rfl) ?_
            refine lv_goto (tgt := 64) hx hb dX3_leastOf_60 (by decide) ?_
            refine lv_istore_n (lv' := [(2, .int v2), (5, .int v2), (0, .ref M), (1, .int c1), (3, .int c3), (4, .int d4)]) hx hb dX3_leastOf_64 rfl hl (by decide) rfl (fun ls hl => ?_)
            refine lv_iinc (v := (d4 + 1)) (lv' := [(4, .int (d4 + 1)), (2, .int v2), (5, .int v2), (0, .ref M), (1, .int c1), (3, .int c3)]) hx hb dX3_leastOf_65 hl (k := 5) rfl rfl (by decide) rfl (fun ls hl => ?_)
            refine lv_goto (tgt := 15) hx hb dX3_leastOf_68 (by decide) ?_
            cases hf
            exact hx15 _ _ _ (lv_sub hl [3, 4, 1, 5, 0] rfl) hH hS
      refine lv_iload hx hb dX3_leastOf_15 (lv_at hl 4 rfl) ?_
      refine lv_iload_n hx hb dX3_leastOf_17 rfl (lv_at hl 3 rfl) ?_
      refine lv_icmp_ge (tgt := 71) hx hb dX3_leastOf_18 (by decide) (fun c_ => ?_) (fun c_ => ?_)
      · have hf := (if_pos c_).symm.trans hf
        cases hf
        exact hx15 _ _ _ (lv_sub hl [0, 1, 2, 3] rfl) hH hS
      · have hf := (if_neg c_).symm.trans hf
        refine lv_aload_n hx hb dX3_leastOf_21 rfl (lv_at hl 0 rfl) ?_
        refine m_get X hK hH 1 (by decide) rfl (mg_1 _ _) q1060 dX3_leastOf_22 ?_
        refine lv_iload_n hx hb dX3_leastOf_25 rfl (lv_at hl 1 rfl) ?_
        obtain ⟨v1, hv, hf⟩ := bd hf
        refine m_iald X hK hH 1 (mc_1 _ _) hv dX3_leastOf_26 ?_
        refine lv_if_eq (tgt := 38) hx hb dX3_leastOf_27 (by decide) (fun c_ => ?_) (fun c_ => ?_)
        · have hf := (if_pos c_).symm.trans hf
          exact J38 s15.1 s15.2 hf _ _ _ (lv_sub hl [0, 1, 2, 3, 4] rfl) hH hS
        · have hf := (if_neg c_).symm.trans hf
          refine lv_iload hx hb dX3_leastOf_30 (lv_at hl 4 rfl) ?_
          refine lv_if_le (tgt := 38) hx hb dX3_leastOf_32 (by decide) (fun c_ => ?_) (fun c_ => ?_)
          · have hf := (if_pos c_).symm.trans hf
            exact J38 s15.1 s15.2 hf _ _ _ (lv_sub hl [0, 1, 2, 3, 4] rfl) hH hS
          · have hf := (if_neg c_).symm.trans hf
            cases hf
            exact hx15 _ _ _ (lv_sub hl [0, 1, 2, 3] rfl) hH hS
    refine lv_iload_n hx hb dX3_leastOf_4 rfl (lv_at hl 3 rfl) ?_
    refine lv_aload_n hx hb dX3_leastOf_5 rfl (lv_at hl 0 rfl) ?_
    refine m_get X hK hH 11 (by decide) rfl (mg_11 _ _) q1070 dX3_leastOf_6 ?_
    refine lv_icmp_ge (tgt := 77) hx hb dX3_leastOf_9 (by decide) (fun c_ => ?_) (fun c_ => ?_)
    · have hf := (if_pos c_).symm.trans hf
      cases hf
      exact hx4 _ _ _ (lv_sub hl [2] rfl) hH hS
    · have hf := (if_neg c_).symm.trans hf
      refine lv_iconst (v := (0 : Int32)) hx hb dX3_leastOf_12 (by decide) ?_
      refine lv_istore (lv' := [(4, .int (0 : Int32)), (0, .ref M), (1, .int c1), (2, .int s4.1), (3, .int s4.2)]) hx hb dX3_leastOf_13 hl (by decide) rfl (fun ls hl => ?_)
      obtain ⟨r15_3, hr, hf⟩ := bd hf
      refine L15 c1 s4.2 N _ r15_3 hr ?_ _ _ _ (lv_sub hl [1, 2, 3, 4, 0] rfl) hH hS
      rcases r15_3 with r15_3 | r15_3
      · intro ls H locs hl hH hS
        dsimp only at hf
        refine lv_goto (tgt := 71) hx hb dX3_leastOf_35 (by decide) ?_
        refine lv_iinc (v := (s4.2 + 1)) (lv' := [(3, .int (s4.2 + 1)), (0, .ref M), (1, .int c1), (2, .int r15_3)]) hx hb dX3_leastOf_71 hl (k := 3) rfl rfl (by decide) rfl (fun ls hl => ?_)
        refine lv_goto (tgt := 4) hx hb dX3_leastOf_74 (by decide) ?_
        cases hf
        exact hx4 _ _ _ (lv_sub hl [1, 2, 3, 0] rfl) hH hS
      · intro ls H locs hl hH hS
        dsimp only at hf
        refine lv_iinc (v := (s4.2 + 1)) (lv' := [(3, .int (s4.2 + 1)), (0, .ref M), (1, .int c1), (2, .int r15_3)]) hx hb dX3_leastOf_71 hl (k := 3) rfl rfl (by decide) rfl (fun ls hl => ?_)
        refine lv_goto (tgt := 4) hx hb dX3_leastOf_74 (by decide) ?_
        cases hf
        exact hx4 _ _ _ (lv_sub hl [1, 2, 3, 0] rfl) hH hS
  refine lv_iconst (v := (0 : Int32)) hx hb dX3_leastOf_0 (by decide) ?_
  refine lv_istore_n (lv' := [(2, .int (0 : Int32)), (0, .ref M), (1, .int a1)]) hx hb dX3_leastOf_1 rfl hl (by decide) rfl (fun ls hl => ?_)
  refine lv_iconst (v := (0 : Int32)) hx hb dX3_leastOf_2 (by decide) ?_
  refine lv_istore_n (lv' := [(3, .int (0 : Int32)), (2, .int (0 : Int32)), (0, .ref M), (1, .int a1)]) hx hb dX3_leastOf_3 rfl hl (by decide) rfl (fun ls hl => ?_)
  obtain ⟨r4_4, hr, hf⟩ := bd hf
  refine L4 a1 N _ r4_4 hr ?_ _ _ _ (lv_sub hl [2, 3, 1, 0] rfl) hH hS
  intro ls H locs hl hH hS
  refine lv_iload_n hx hb dX3_leastOf_77 rfl (lv_at hl 0 rfl) ?_
  cases hf
  exact r_iret X dX3_leastOf_78 (Nat.le_refl _) (Nat.le_refl _) rfl hH hS
theorem cv_X3_least : CalV "WordBenchModel" yX3_least cX3_least 2 (some .int) 1 := ⟨q1233, q1234, q57, q1235, by decide +kernel⟩
set_option maxHeartbeats 4000000 in
theorem met_X3_least (l : Launch) (G : GG) (sz M : Nat) (rst : Nat → Option AE) (N : Nat) (st : MS) (a1 : Int32) (stf : MS) (rf : Int32) (hf : f_X3_least N st a1 = some (stf, rf)) : Con l yX3_least cX3_least 2 (some .int) 6 0 0 G (sz, MH M st rst) [.ref M, .int a1] (sz, MH M stf rst) (some (.int rf)) := by
  refine con_of (by decide) (Nat.le_of_ble_eq_true rfl) ?_
  intro p e s m below meth c ls X hK hH hl hS
  have hx := X.1
  have hb := X.2.1
  have hown : s.vm.findClass RX3 = some m.cls := X.2.2.2.2.1
  have hts := X.2.2.2.2.2.1
  have hl : lv_has ls 2 [(0, .ref M), (1, .int a1)] := hl
  unfold f_X3_least at hf
  refine lv_aload_n hx hb dX3_least_0 rfl (lv_at hl 0 rfl) ?_
  refine lv_iload_n hx hb dX3_least_1 rfl (lv_at hl 1 rfl) ?_
  obtain ⟨v1, hv, hf⟩ := bd hf
  refine r_Vi (As := [.int a1]) (rest := []) X (met_X3_lacks l G _ _ _ N st a1 v1 hv) cv_X3_lacks q1236 (m_recv hK hH) rfl rfl hl.1 (Nat.le_of_ble_eq_true rfl) ⟨Nat.le_of_ble_eq_true rfl, Nat.le_of_ble_eq_true rfl⟩ ⟨Nat.le_refl _, Nat.le_refl _⟩ dX3_least_2 hK hH hS (fun H locs hH hS => ?_)
  refine lv_if_eq (tgt := 14) hx hb dX3_least_5 (by decide) (fun c_ => ?_) (fun c_ => ?_)
  · have hf := (if_pos c_).symm.trans hf
    refine lv_aload_n hx hb dX3_least_14 rfl (lv_at hl 0 rfl) ?_
    refine lv_iload_n hx hb dX3_least_15 rfl (lv_at hl 1 rfl) ?_
    obtain ⟨v2, hv, hf⟩ := bd hf
    refine r_Vi (As := [.int a1]) (rest := []) X (met_X3_lays l G _ _ _ N st a1 v2.1 v2.2 hv) cv_X3_lays q1240 (m_recv hK hH) rfl rfl hl.1 (Nat.le_of_ble_eq_true rfl) ⟨Nat.le_of_ble_eq_true rfl, Nat.le_of_ble_eq_true rfl⟩ ⟨Nat.le_refl _, Nat.le_refl _⟩ dX3_least_16 hK hH hS (fun H locs hH hS => ?_)
    refine lv_if_eq (tgt := 30) hx hb dX3_least_19 (by decide) (fun c_ => ?_) (fun c_ => ?_)
    · have hf := (if_pos c_).symm.trans hf
      refine lv_bipush (v := (-5 : Int32)) hx hb dX3_least_30 (by decide) ?_
      cases hf
      exact r_iret X dX3_least_32 (Nat.le_refl _) (Nat.le_refl _) rfl hH hS
    · have hf := (if_neg c_).symm.trans hf
      refine lv_aload_n hx hb dX3_least_22 rfl (lv_at hl 0 rfl) ?_
      refine lv_iload_n hx hb dX3_least_23 rfl (lv_at hl 1 rfl) ?_
      obtain ⟨v3, hv, hf⟩ := bd hf
      refine r_Vi (As := [.int a1]) (rest := []) X (met_X3_leastOf l G _ _ _ N v2.1 a1 v3 hv) cv_X3_leastOf q1249 (m_recv hK hH) rfl rfl hl.1 (Nat.le_of_ble_eq_true rfl) ⟨Nat.le_of_ble_eq_true rfl, Nat.le_of_ble_eq_true rfl⟩ ⟨Nat.le_refl _, Nat.le_refl _⟩ dX3_least_24 hK hH hS (fun H locs hH hS => ?_)
      refine lv_goto (tgt := 32) hx hb dX3_least_27 (by decide) ?_
      cases hf
      exact r_iret X dX3_least_32 (Nat.le_refl _) (Nat.le_refl _) rfl hH hS
  · have hf := (if_neg c_).symm.trans hf
    refine lv_aload_n hx hb dX3_least_8 rfl (lv_at hl 0 rfl) ?_
    refine lv_iload_n hx hb dX3_least_9 rfl (lv_at hl 1 rfl) ?_
    obtain ⟨v4, hv, hf⟩ := bd hf
    refine r_Vi (As := [.int a1]) (rest := []) X (met_X3_lacks l G _ _ _ N st a1 v4 hv) cv_X3_lacks q1236 (m_recv hK hH) rfl rfl hl.1 (Nat.le_of_ble_eq_true rfl) ⟨Nat.le_of_ble_eq_true rfl, Nat.le_of_ble_eq_true rfl⟩ ⟨Nat.le_refl _, Nat.le_refl _⟩ dX3_least_10 hK hH hS (fun H locs hH hS => ?_)
    cases hf
    exact r_iret X dX3_least_13 (Nat.le_refl _) (Nat.le_refl _) rfl hH hS
theorem cv_X3_list : CalV "WordBenchModel" yX3_list cX3_list 4 (some .int) 2 := ⟨q1366, q1367, q57, q1368, by decide +kernel⟩
set_option maxHeartbeats 4000000 in
theorem met_X3_list (l : Launch) (G : GG) (sz M : Nat) (rst : Nat → Option AE) (N : Nat) (st : MS) (a1 : Int32) (a2 : Int32) (stf : MS) (rf : Int32) (hf : f_X3_list N st a1 a2 = some (stf, rf)) : Con l yX3_list cX3_list 4 (some .int) 6 0 0 G (sz, MH M st rst) [.ref M, .int a1, .int a2] (sz, MH M stf rst) (some (.int rf)) := by
  refine con_of (by decide) (Nat.le_of_ble_eq_true rfl) ?_
  intro p e s m below meth c ls X hK hH hl hS
  have hx := X.1
  have hb := X.2.1
  have hown : s.vm.findClass RX3 = some m.cls := X.2.2.2.2.1
  have hts := X.2.2.2.2.2.1
  have hl : lv_has ls 4 [(0, .ref M), (1, .int a1), (2, .int a2)] := hl
  unfold f_X3_list at hf
  have L61 : ∀ (c1 : Int32) (c2 : Int32) (n : Nat) (s61 : (Int32 × MS)) (r61 : MS), lp (f_X3_list_b61 N c1 c2) n s61 = some r61 → (∀ (ls : Array Slot) (H : Heap) (locs : List Loc), lv_has ls 4 [(0, .ref M), (1, .int c1), (2, .int c2)] → HH G (sz, MH M r61 rst) H → va_S (AG G) s.heap H locs → W p l e (rm_ 6 0 0) s m ([.ref M, .int a1, .int a2] : List Value).toArray below meth c H locs 0 0 (MQ below (PostC G (sz, MH M stf rst) (some (.int rf))) ([.ref M, .int a1, .int a2] : List Value).toArray s 0 0 (AG G)) (F0 m 86 ls [])) → ∀ (ls : Array Slot) (H : Heap) (locs : List Loc), lv_has ls 4 [(0, .ref M), (1, .int c1), (2, .int c2), (3, .int s61.1)] → HH G (sz, MH M s61.2 rst) H → va_S (AG G) s.heap H locs → W p l e (rm_ 6 0 0) s m ([.ref M, .int a1, .int a2] : List Value).toArray below meth c H locs 0 0 (MQ below (PostC G (sz, MH M stf rst) (some (.int rf))) ([.ref M, .int a1, .int a2] : List Value).toArray s 0 0 (AG G)) (F0 m 61 ls []) := by
    intro c1 c2 n s61 r61 hr hq
    refine lp_ind (P := fun s61 => ∀ (ls : Array Slot) (H : Heap) (locs : List Loc), lv_has ls 4 [(0, .ref M), (1, .int c1), (2, .int c2), (3, .int s61.1)] → HH G (sz, MH M s61.2 rst) H → va_S (AG G) s.heap H locs → W p l e (rm_ 6 0 0) s m ([.ref M, .int a1, .int a2] : List Value).toArray below meth c H locs 0 0 (MQ below (PostC G (sz, MH M stf rst) (some (.int rf))) ([.ref M, .int a1, .int a2] : List Value).toArray s 0 0 (AG G)) (F0 m 61 ls [])) (Q := fun r61 => ∀ (ls : Array Slot) (H : Heap) (locs : List Loc), lv_has ls 4 [(0, .ref M), (1, .int c1), (2, .int c2)] → HH G (sz, MH M r61 rst) H → va_S (AG G) s.heap H locs → W p l e (rm_ 6 0 0) s m ([.ref M, .int a1, .int a2] : List Value).toArray below meth c H locs 0 0 (MQ below (PostC G (sz, MH M stf rst) (some (.int rf))) ([.ref M, .int a1, .int a2] : List Value).toArray s 0 0 (AG G)) (F0 m 86 ls [])) ?_ n s61 r61 hr hq
    intro s61 x61 hf hx61 ls H locs hl hH hS
    unfold f_X3_list_b61 at hf
    refine lv_iload_n hx hb dX3_list_61 rfl (lv_at hl 3 rfl) ?_
    refine lv_aload_n hx hb dX3_list_62 rfl (lv_at hl 0 rfl) ?_
    refine m_get X hK hH 11 (by decide) rfl (mg_11 _ _) q1070 dX3_list_63 ?_
    refine lv_icmp_ge (tgt := 86) hx hb dX3_list_66 (by decide) (fun c_ => ?_) (fun c_ => ?_)
    · have hf := (if_pos c_).symm.trans hf
      cases hf
      exact hx61 _ _ _ (lv_sub hl [0, 1, 2] rfl) hH hS
    · have hf := (if_neg c_).symm.trans hf
      refine lv_aload_n hx hb dX3_list_69 rfl (lv_at hl 0 rfl) ?_
      refine lv_aload_n hx hb dX3_list_70 rfl (lv_at hl 0 rfl) ?_
      refine m_get X hK hH 10 (by decide) rfl (mg_10 _ _) q1069 dX3_list_71 ?_
      refine lv_iload_n hx hb dX3_list_74 rfl (lv_at hl 3 rfl) ?_
      obtain ⟨v5, hv, hf⟩ := bd hf
      refine m_lald X hK hH 9 (mc_10 _ _) hv dX3_list_75 ?_
      refine lv_iconst (v := (0 : Int32)) hx hb dX3_list_76 (by decide) ?_
      obtain ⟨v6, hv, hf⟩ := bd hf
      refine r_Vv (As := [.long v5, .int (0 : Int32)]) (rest := []) X (met_X3_asideOnce l G _ _ _ N s61.2 v5 (0 : Int32) v6 hv) cv_X3_asideOnce q1349 (m_recv hK hH) rfl rfl hl.1 (Nat.le_of_ble_eq_true rfl) ⟨Nat.le_of_ble_eq_true rfl, Nat.le_of_ble_eq_true rfl⟩ ⟨Nat.le_refl _, Nat.le_refl _⟩ dX3_list_77 hK hH hS (fun H locs hH hS => ?_)
      refine lv_iinc (v := (s61.1 + 1)) (lv' := [(3, .int (s61.1 + 1)), (0, .ref M), (1, .int c1), (2, .int c2)]) hx hb dX3_list_80 hl (k := 3) rfl rfl (by decide) rfl (fun ls hl => ?_)
      refine lv_goto (tgt := 61) hx hb dX3_list_83 (by decide) ?_
      cases hf
      exact hx61 _ _ _ (lv_sub hl [1, 2, 3, 0] rfl) hH hS
  refine lv_iload_n hx hb dX3_list_0 rfl (lv_at hl 1 rfl) ?_
  obtain ⟨v1, hv, hf⟩ := bd hf
  refine r_Si (As := [.int a1]) (rest := []) X (met_X3_isPlace l G _ N a1 v1 hv) cs_X3_isPlace q1136 rfl rfl hl.1 (Nat.le_of_ble_eq_true rfl) ⟨Nat.le_of_ble_eq_true rfl, Nat.le_of_ble_eq_true rfl⟩ ⟨Nat.le_refl _, Nat.le_refl _⟩ dX3_list_1 hK hH hS (fun H locs hH hS => ?_)
  refine lv_if_eq (tgt := 14) hx hb dX3_list_4 (by decide) (fun c_ => ?_) (fun c_ => ?_)
  · have hf := (if_pos c_).symm.trans hf
    refine lv_iconst (v := (-1 : Int32)) hx hb dX3_list_14 (by decide) ?_
    cases hf
    exact r_iret X dX3_list_15 (Nat.le_refl _) (Nat.le_refl _) rfl hH hS
  · have hf := (if_neg c_).symm.trans hf
    refine lv_iload_n hx hb dX3_list_7 rfl (lv_at hl 2 rfl) ?_
    obtain ⟨v2, hv, hf⟩ := bd hf
    refine r_Si (As := [.int a2]) (rest := []) X (met_X3_isPlace l G _ N a2 v2 hv) cs_X3_isPlace q1136 rfl rfl hl.1 (Nat.le_of_ble_eq_true rfl) ⟨Nat.le_of_ble_eq_true rfl, Nat.le_of_ble_eq_true rfl⟩ ⟨Nat.le_refl _, Nat.le_refl _⟩ dX3_list_8 hK hH hS (fun H locs hH hS => ?_)
    refine lv_if_ne (tgt := 16) hx hb dX3_list_11 (by decide) (fun c_ => ?_) (fun c_ => ?_)
    · have hf := (if_neg c_).symm.trans hf
      refine lv_aload_n hx hb dX3_list_16 rfl (lv_at hl 0 rfl) ?_
      refine lv_iload_n hx hb dX3_list_17 rfl (lv_at hl 1 rfl) ?_
      obtain ⟨v3, hv, hf⟩ := bd hf
      refine r_Vi (As := [.int a1]) (rest := []) X (met_X3_lacksLine l G _ _ _ N st a1 v3 hv) cv_X3_lacksLine q1361 (m_recv hK hH) rfl rfl hl.1 (Nat.le_of_ble_eq_true rfl) ⟨Nat.le_of_ble_eq_true rfl, Nat.le_of_ble_eq_true rfl⟩ ⟨Nat.le_refl _, Nat.le_refl _⟩ dX3_list_18 hK hH hS (fun H locs hH hS => ?_)
      refine lv_if_eq (tgt := 30) hx hb dX3_list_21 (by decide) (fun c_ => ?_) (fun c_ => ?_)
      · have hf := (if_pos c_).symm.trans hf
        refine lv_aload_n hx hb dX3_list_30 rfl (lv_at hl 0 rfl) ?_
        refine lv_iload_n hx hb dX3_list_31 rfl (lv_at hl 1 rfl) ?_
        obtain ⟨v4, hv, hf⟩ := bd hf
        refine r_Vi (As := [.int a1]) (rest := []) X (met_X3_lays l G _ _ _ N st a1 v4.1 v4.2 hv) cv_X3_lays q1240 (m_recv hK hH) rfl rfl hl.1 (Nat.le_of_ble_eq_true rfl) ⟨Nat.le_of_ble_eq_true rfl, Nat.le_of_ble_eq_true rfl⟩ ⟨Nat.le_refl _, Nat.le_refl _⟩ dX3_list_32 hK hH hS (fun H locs hH hS => ?_)
        refine lv_if_ne (tgt := 41) hx hb dX3_list_35 (by decide) (fun c_ => ?_) (fun c_ => ?_)
        · have hf := (if_neg c_).symm.trans hf
          refine lv_aload_n hx hb dX3_list_41 rfl (lv_at hl 0 rfl) ?_
          refine m_get X hK hH 11 (by decide) rfl (mg_11 _ _) q1070 dX3_list_42 ?_
          refine lv_sipush (v := (200 : Int32)) hx hb dX3_list_45 (by decide) ?_
          refine lv_icmp_le (tgt := 54) hx hb dX3_list_48 (by decide) (fun c_ => ?_) (fun c_ => ?_)
          · have hf := (if_pos c_).symm.trans hf
            refine lv_aload_n hx hb dX3_list_54 rfl (lv_at hl 0 rfl) ?_
            refine lv_iconst (v := (0 : Int32)) hx hb dX3_list_55 (by decide) ?_
            refine m_put (ty := .int) X hK hH hS 18 (by decide) rfl (mp_18 _ _ _) q1077 rfl (by decide +kernel) rfl rfl dX3_list_56 (fun H locs hH hS => ?_)
            refine lv_iconst (v := (0 : Int32)) hx hb dX3_list_59 (by decide) ?_
            refine lv_istore_n (lv' := [(3, .int (0 : Int32)), (0, .ref M), (1, .int a1), (2, .int a2)]) hx hb dX3_list_60 rfl hl (by decide) rfl (fun ls hl => ?_)
            obtain ⟨r61_7, hr, hf⟩ := bd hf
            refine L61 a1 a2 N _ r61_7 hr ?_ _ _ _ (lv_sub hl [1, 2, 3, 0] rfl) hH hS
            intro ls H locs hl hH hS
            refine lv_aload_n hx hb dX3_list_86 rfl (lv_at hl 0 rfl) ?_
            refine lv_iload_n hx hb dX3_list_87 rfl (lv_at hl 2 rfl) ?_
            refine lv_iconst (v := (0 : Int32)) hx hb dX3_list_88 (by decide) ?_
            refine lv_aload_n hx hb dX3_list_89 rfl (lv_at hl 0 rfl) ?_
            refine m_get X hK hH 2 (by decide) rfl (mg_2 _ _) q1061 dX3_list_90 ?_
            refine lv_iload_n hx hb dX3_list_93 rfl (lv_at hl 1 rfl) ?_
            obtain ⟨v8, hv, hf⟩ := bd hf
            refine m_iald X hK hH 2 (mc_2 _ _) hv dX3_list_94 ?_
            refine lv_aload_n hx hb dX3_list_95 rfl (lv_at hl 0 rfl) ?_
            refine m_get X hK hH 3 (by decide) rfl (mg_3 _ _) q1062 dX3_list_96 ?_
            refine lv_iload_n hx hb dX3_list_99 rfl (lv_at hl 1 rfl) ?_
            obtain ⟨v9, hv, hf⟩ := bd hf
            refine m_iald X hK hH 3 (mc_3 _ _) hv dX3_list_100 ?_
            obtain ⟨v10, hv, hf⟩ := bd hf
            refine r_Vi (As := [.int a2, .int (0 : Int32), .int v8, .int v9]) (rest := []) X (met_X3_comes l G _ _ _ N r61_7 a2 (0 : Int32) v8 v9 v10.1 v10.2 hv) cv_X3_comes q1334 (m_recv hK hH) rfl rfl hl.1 (Nat.le_of_ble_eq_true rfl) ⟨Nat.le_of_ble_eq_true rfl, Nat.le_of_ble_eq_true rfl⟩ ⟨Nat.le_refl _, Nat.le_refl _⟩ dX3_list_101 hK hH hS (fun H locs hH hS => ?_)
            cases hf
            exact r_iret X dX3_list_104 (Nat.le_refl _) (Nat.le_refl _) rfl hH hS
          · have hf := (if_neg c_).symm.trans hf
            refine lv_bipush (v := (-6 : Int32)) hx hb dX3_list_51 (by decide) ?_
            cases hf
            exact r_iret X dX3_list_53 (Nat.le_refl _) (Nat.le_refl _) rfl hH hS
        · have hf := (if_pos c_).symm.trans hf
          refine lv_bipush (v := (-5 : Int32)) hx hb dX3_list_38 (by decide) ?_
          cases hf
          exact r_iret X dX3_list_40 (Nat.le_refl _) (Nat.le_refl _) rfl hH hS
      · have hf := (if_neg c_).symm.trans hf
        refine lv_aload_n hx hb dX3_list_24 rfl (lv_at hl 0 rfl) ?_
        refine lv_iload_n hx hb dX3_list_25 rfl (lv_at hl 1 rfl) ?_
        obtain ⟨v11, hv, hf⟩ := bd hf
        refine r_Vi (As := [.int a1]) (rest := []) X (met_X3_lacksLine l G _ _ _ N st a1 v11 hv) cv_X3_lacksLine q1361 (m_recv hK hH) rfl rfl hl.1 (Nat.le_of_ble_eq_true rfl) ⟨Nat.le_of_ble_eq_true rfl, Nat.le_of_ble_eq_true rfl⟩ ⟨Nat.le_refl _, Nat.le_refl _⟩ dX3_list_26 hK hH hS (fun H locs hH hS => ?_)
        cases hf
        exact r_iret X dX3_list_29 (Nat.le_refl _) (Nat.le_refl _) rfl hH hS
    · have hf := (if_pos c_).symm.trans hf
      refine lv_iconst (v := (-1 : Int32)) hx hb dX3_list_14 (by decide) ?_
      cases hf
      exact r_iret X dX3_list_15 (Nat.le_refl _) (Nat.le_refl _) rfl hH hS
theorem cv_X3_longer : CalV "WordBenchModel" yX3_longer cX3_longer 7 (some .int) 2 := ⟨q1327, q1328, q57, q1329, by decide +kernel⟩
set_option maxHeartbeats 4000000 in
theorem met_X3_longer (l : Launch) (G : GG) (sz M : Nat) (rst : Nat → Option AE) (N : Nat) (st : MS) (a1 : Int32) (a2 : Int32) (stf : MS) (rf : Int32) (hf : f_X3_longer N st a1 a2 = some (stf, rf)) : Con l yX3_longer cX3_longer 7 (some .int) 2 0 0 G (sz, MH M st rst) [.ref M, .int a1, .int a2] (sz, MH M stf rst) (some (.int rf)) := by
  refine con_of (by decide) (Nat.le_of_ble_eq_true rfl) ?_
  intro p e s m below meth c ls X hK hH hl hS
  have hx := X.1
  have hb := X.2.1
  have hown : s.vm.findClass RX3 = some m.cls := X.2.2.2.2.1
  have hts := X.2.2.2.2.2.1
  have hl : lv_has ls 7 [(0, .ref M), (1, .int a1), (2, .int a2)] := hl
  unfold f_X3_longer at hf
  have L61 : ∀ (c1 : Int32) (c2 : Int32) (c3 : Int32) (n : Nat) (s61 : (Int32 × MS)) (r61 : MS), lp (f_X3_longer_b61 N c1 c2 c3) n s61 = some r61 → (∀ (ls : Array Slot) (H : Heap) (locs : List Loc), lv_has ls 7 [(0, .ref M), (1, .int c1), (2, .int c2), (3, .int c3)] → HH G (sz, MH M r61 rst) H → va_S (AG G) s.heap H locs → W p l e (rm_ 2 0 0) s m ([.ref M, .int a1, .int a2] : List Value).toArray below meth c H locs 0 0 (MQ below (PostC G (sz, MH M stf rst) (some (.int rf))) ([.ref M, .int a1, .int a2] : List Value).toArray s 0 0 (AG G)) (F0 m 163 ls [])) → ∀ (ls : Array Slot) (H : Heap) (locs : List Loc), lv_has ls 7 [(0, .ref M), (1, .int c1), (2, .int c2), (3, .int c3), (4, .int s61.1)] → HH G (sz, MH M s61.2 rst) H → va_S (AG G) s.heap H locs → W p l e (rm_ 2 0 0) s m ([.ref M, .int a1, .int a2] : List Value).toArray below meth c H locs 0 0 (MQ below (PostC G (sz, MH M stf rst) (some (.int rf))) ([.ref M, .int a1, .int a2] : List Value).toArray s 0 0 (AG G)) (F0 m 61 ls []) := by
    intro c1 c2 c3 n s61 r61 hr hq
    refine lp_ind (P := fun s61 => ∀ (ls : Array Slot) (H : Heap) (locs : List Loc), lv_has ls 7 [(0, .ref M), (1, .int c1), (2, .int c2), (3, .int c3), (4, .int s61.1)] → HH G (sz, MH M s61.2 rst) H → va_S (AG G) s.heap H locs → W p l e (rm_ 2 0 0) s m ([.ref M, .int a1, .int a2] : List Value).toArray below meth c H locs 0 0 (MQ below (PostC G (sz, MH M stf rst) (some (.int rf))) ([.ref M, .int a1, .int a2] : List Value).toArray s 0 0 (AG G)) (F0 m 61 ls [])) (Q := fun r61 => ∀ (ls : Array Slot) (H : Heap) (locs : List Loc), lv_has ls 7 [(0, .ref M), (1, .int c1), (2, .int c2), (3, .int c3)] → HH G (sz, MH M r61 rst) H → va_S (AG G) s.heap H locs → W p l e (rm_ 2 0 0) s m ([.ref M, .int a1, .int a2] : List Value).toArray below meth c H locs 0 0 (MQ below (PostC G (sz, MH M stf rst) (some (.int rf))) ([.ref M, .int a1, .int a2] : List Value).toArray s 0 0 (AG G)) (F0 m 163 ls [])) ?_ n s61 r61 hr hq
    intro s61 x61 hf hx61 ls H locs hl hH hS
    unfold f_X3_longer_b61 at hf
    have L76 : ∀ (c1 : Int32) (c2 : Int32) (c3 : Int32) (c4 : Int32) (t76 : MS) (n : Nat) (s76 : (Int32 × Int32)) (r76 : Int32), lp (f_X3_longer_b76 N c1 c2 c3 c4 t76) n s76 = some r76 → (∀ (ls : Array Slot) (H : Heap) (locs : List Loc), lv_has ls 7 [(0, .ref M), (1, .int c1), (2, .int c2), (3, .int c3), (4, .int c4), (5, .int r76)] → HH G (sz, MH M t76 rst) H → va_S (AG G) s.heap H locs → W p l e (rm_ 2 0 0) s m ([.ref M, .int a1, .int a2] : List Value).toArray below meth c H locs 0 0 (MQ below (PostC G (sz, MH M stf rst) (some (.int rf))) ([.ref M, .int a1, .int a2] : List Value).toArray s 0 0 (AG G)) (F0 m 126 ls [])) → ∀ (ls : Array Slot) (H : Heap) (locs : List Loc), lv_has ls 7 [(0, .ref M), (1, .int c1), (2, .int c2), (3, .int c3), (4, .int c4), (5, .int s76.1), (6, .int s76.2)] → HH G (sz, MH M t76 rst) H → va_S (AG G) s.heap H locs → W p l e (rm_ 2 0 0) s m ([.ref M, .int a1, .int a2] : List Value).toArray below meth c H locs 0 0 (MQ below (PostC G (sz, MH M stf rst) (some (.int rf))) ([.ref M, .int a1, .int a2] : List Value).toArray s 0 0 (AG G)) (F0 m 76 ls []) := by
      intro c1 c2 c3 c4 t76 n s76 r76 hr hq
      refine lp_ind (P := fun s76 => ∀ (ls : Array Slot) (H : Heap) (locs : List Loc), lv_has ls 7 [(0, .ref M), (1, .int c1), (2, .int c2), (3, .int c3), (4, .int c4), (5, .int s76.1), (6, .int s76.2)] → HH G (sz, MH M t76 rst) H → va_S (AG G) s.heap H locs → W p l e (rm_ 2 0 0) s m ([.ref M, .int a1, .int a2] : List Value).toArray below meth c H locs 0 0 (MQ below (PostC G (sz, MH M stf rst) (some (.int rf))) ([.ref M, .int a1, .int a2] : List Value).toArray s 0 0 (AG G)) (F0 m 76 ls [])) (Q := fun r76 => ∀ (ls : Array Slot) (H : Heap) (locs : List Loc), lv_has ls 7 [(0, .ref M), (1, .int c1), (2, .int c2), (3, .int c3), (4, .int c4), (5, .int r76)] → HH G (sz, MH M t76 rst) H → va_S (AG G) s.heap H locs → W p l e (rm_ 2 0 0) s m ([.ref M, .int a1, .int a2] : List Value).toArray below meth c H locs 0 0 (MQ below (PostC G (sz, MH M stf rst) (some (.int rf))) ([.ref M, .int a1, .int a2] : List Value).toArray s 0 0 (AG G)) (F0 m 126 ls [])) ?_ n s76 r76 hr hq
      intro s76 x76 hf hx76 ls H locs hl hH hS
      unfold f_X3_longer_b76 at hf
      refine lv_iload hx hb dX3_longer_76 (lv_at hl 6 rfl) ?_
      refine lv_aload_n hx hb dX3_longer_78 rfl (lv_at hl 0 rfl) ?_
      refine m_get X hK hH 3 (by decide) rfl (mg_3 _ _) q1062 dX3_longer_79 ?_
      refine lv_iload_n hx hb dX3_longer_82 rfl (lv_at hl 1 rfl) ?_
      obtain ⟨v7, hv, hf⟩ := bd hf
      refine m_iald X hK hH 3 (mc_3 _ _) hv dX3_longer_83 ?_
      refine lv_icmp_ge (tgt := 126) hx hb dX3_longer_84 (by decide) (fun c_ => ?_) (fun c_ => ?_)
      · have hf := (if_pos c_).symm.trans hf
        cases hf
        exact hx76 _ _ _ (lv_sub hl [0, 1, 2, 3, 4, 5] rfl) hH hS
      · have hf := (if_neg c_).symm.trans hf
        refine lv_iload_n hx hb dX3_longer_87 rfl (lv_at hl 3 rfl) ?_
        refine lv_iload hx hb dX3_longer_88 (lv_at hl 5 rfl) ?_
        refine lv_iload_n hx hb dX3_longer_90 rfl (lv_at hl 3 rfl) ?_
        refine lv_aload_n hx hb dX3_longer_91 rfl (lv_at hl 0 rfl) ?_
        refine m_get X hK hH 3 (by decide) rfl (mg_3 _ _) q1062 dX3_longer_92 ?_
        refine lv_iload_n hx hb dX3_longer_95 rfl (lv_at hl 1 rfl) ?_
        obtain ⟨v8, hv, hf⟩ := bd hf
        refine m_iald X hK hH 3 (mc_3 _ _) hv dX3_longer_96 ?_
        refine lv_aload_n hx hb dX3_longer_97 rfl (lv_at hl 0 rfl) ?_
        refine m_get X hK hH 5 (by decide) rfl (mg_5 _ _) q1064 dX3_longer_98 ?_
        refine lv_sipush (v := (200 : Int32)) hx hb dX3_longer_101 (by decide) ?_
        refine lv_iload_n hx hb dX3_longer_104 rfl (lv_at hl 1 rfl) ?_
        refine lv_imul hx hb dX3_longer_105 ?_
        refine lv_iload hx hb dX3_longer_106 (lv_at hl 4 rfl) ?_
        refine lv_iadd hx hb dX3_longer_108 ?_
        obtain ⟨v9, hv, hf⟩ := bd hf
        refine m_lald X hK hH 5 (mc_5 _ _) hv dX3_longer_109 ?_
        refine lv_iload hx hb dX3_longer_110 (lv_at hl 6 rfl) ?_
        obtain ⟨v10, hv, hf⟩ := bd hf
        refine r_Si (As := [.int c3, .int v8, .long v9, .int s76.2]) (rest := [.int s76.1, .int c3]) X (met_X3_letter l G _ N c3 v8 v9 s76.2 v10 hv) cs_X3_letter q1029 rfl rfl hl.1 (Nat.le_of_ble_eq_true rfl) ⟨Nat.le_of_ble_eq_true rfl, Nat.le_of_ble_eq_true rfl⟩ ⟨Nat.le_refl _, Nat.le_refl _⟩ dX3_longer_112 hK hH hS (fun H locs hH hS => ?_)
        obtain ⟨v11, hv, hf⟩ := bd hf
        refine r_Si (As := [.int c3, .int s76.1, .int v10]) (rest := []) X (met_X3_plus l G _ N c3 s76.1 v10 v11 hv) cs_X3_plus q1035 rfl rfl hl.1 (Nat.le_of_ble_eq_true rfl) ⟨Nat.le_of_ble_eq_true rfl, Nat.le_of_ble_eq_true rfl⟩ ⟨Nat.le_refl _, Nat.le_refl _⟩ dX3_longer_115 hK hH hS (fun H locs hH hS => ?_)
        refine lv_istore (lv' := [(5, .int v11), (0, .ref M), (1, .int c1), (2, .int c2), (3, .int c3), (4, .int c4), (6, .int s76.2)]) hx hb dX3_longer_118 hl (by decide) rfl (fun ls hl => ?_)
        refine lv_iinc (v := (s76.2 + 1)) (lv' := [(6, .int (s76.2 + 1)), (5, .int v11), (0, .ref M), (1, .int c1), (2, .int c2), (3, .int c3), (4, .int c4)]) hx hb dX3_longer_120 hl (k := 6) rfl rfl (by decide) rfl (fun ls hl => ?_)
        refine lv_goto (tgt := 76) hx hb dX3_longer_123 (by decide) ?_
        cases hf
        exact hx76 _ _ _ (lv_sub hl [2, 3, 4, 5, 6, 1, 0] rfl) hH hS
    refine lv_iload hx hb dX3_longer_61 (lv_at hl 4 rfl) ?_
    refine lv_aload_n hx hb dX3_longer_63 rfl (lv_at hl 0 rfl) ?_
    refine m_get X hK hH 18 (by decide) rfl (mg_18 _ _) q1077 dX3_longer_64 ?_
    refine lv_icmp_ge (tgt := 163) hx hb dX3_longer_67 (by decide) (fun c_ => ?_) (fun c_ => ?_)
    · have hf := (if_pos c_).symm.trans hf
      cases hf
      exact hx61 _ _ _ (lv_sub hl [0, 1, 2, 3] rfl) hH hS
    · have hf := (if_neg c_).symm.trans hf
      refine lv_iconst (v := (0 : Int32)) hx hb dX3_longer_70 (by decide) ?_
      refine lv_istore (lv' := [(5, .int (0 : Int32)), (0, .ref M), (1, .int c1), (2, .int c2), (3, .int c3), (4, .int s61.1)]) hx hb dX3_longer_71 hl (by decide) rfl (fun ls hl => ?_)
      refine lv_iconst (v := (0 : Int32)) hx hb dX3_longer_73 (by decide) ?_
      refine lv_istore (lv' := [(6, .int (0 : Int32)), (5, .int (0 : Int32)), (0, .ref M), (1, .int c1), (2, .int c2), (3, .int c3), (4, .int s61.1)]) hx hb dX3_longer_74 hl (by decide) rfl (fun ls hl => ?_)
      obtain ⟨r76_12, hr, hf⟩ := bd hf
      refine L76 c1 c2 c3 s61.1 s61.2 N _ r76_12 hr ?_ _ _ _ (lv_sub hl [2, 3, 4, 5, 6, 1, 0] rfl) hH hS
      intro ls H locs hl hH hS
      refine lv_aload_n hx hb dX3_longer_126 rfl (lv_at hl 0 rfl) ?_
      refine m_get X hK hH 17 (by decide) rfl (mg_17 _ _) q1076 dX3_longer_127 ?_
      refine lv_iload hx hb dX3_longer_130 (lv_at hl 4 rfl) ?_
      refine lv_iload_n hx hb dX3_longer_132 rfl (lv_at hl 3 rfl) ?_
      refine lv_i2l (v := (c3).toInt64) hx hb dX3_longer_133 rfl ?_
      refine lv_aload_n hx hb dX3_longer_134 rfl (lv_at hl 0 rfl) ?_
      refine m_get X hK hH 5 (by decide) rfl (mg_5 _ _) q1064 dX3_longer_135 ?_
      refine lv_sipush (v := (200 : Int32)) hx hb dX3_longer_138 (by decide) ?_
      refine lv_iload_n hx hb dX3_longer_141 rfl (lv_at hl 1 rfl) ?_
      refine lv_imul hx hb dX3_longer_142 ?_
      refine lv_iload hx hb dX3_longer_143 (lv_at hl 4 rfl) ?_
      refine lv_iadd hx hb dX3_longer_145 ?_
      obtain ⟨v13, hv, hf⟩ := bd hf
      refine m_lald X hK hH 5 (mc_5 _ _) hv dX3_longer_146 ?_
      refine lv_lmul hx hb dX3_longer_147 ?_
      refine lv_iload_n hx hb dX3_longer_148 rfl (lv_at hl 3 rfl) ?_
      refine lv_iload hx hb dX3_longer_149 (lv_at hl 5 rfl) ?_
      obtain ⟨v14, hv, hf⟩ := bd hf
      refine r_Si (As := [.int c3, .int r76_12]) (rest := [.long (((c3).toInt64) * v13), .int s61.1, .ref (M + 13)]) X (met_X3_minus l G _ N c3 r76_12 v14 hv) cs_X3_minus q1187 rfl rfl hl.1 (Nat.le_of_ble_eq_true rfl) ⟨Nat.le_of_ble_eq_true rfl, Nat.le_of_ble_eq_true rfl⟩ ⟨Nat.le_refl _, Nat.le_refl _⟩ dX3_longer_151 hK hH hS (fun H locs hH hS => ?_)
      refine lv_i2l (v := (v14).toInt64) hx hb dX3_longer_154 rfl ?_
      refine lv_ladd hx hb dX3_longer_155 ?_
      obtain ⟨w15, hv, hf⟩ := bd hf
      refine m_last X hK hH hS 13 (mc_17 _ _) hv (mt_17 _ _ _) dX3_longer_156 (fun H locs hH hS => ?_)
      refine lv_iinc (v := (s61.1 + 1)) (lv' := [(4, .int (s61.1 + 1)), (0, .ref M), (1, .int c1), (2, .int c2), (3, .int c3), (5, .int r76_12)]) hx hb dX3_longer_157 hl (k := 4) rfl rfl (by decide) rfl (fun ls hl => ?_)
      refine lv_goto (tgt := 61) hx hb dX3_longer_160 (by decide) ?_
      cases hf
      exact hx61 _ _ _ (lv_sub hl [1, 2, 3, 4, 0] rfl) hH hS
  refine lv_iload_n hx hb dX3_longer_0 rfl (lv_at hl 1 rfl) ?_
  obtain ⟨v1, hv, hf⟩ := bd hf
  refine r_Si (As := [.int a1]) (rest := []) X (met_X3_isPlace l G _ N a1 v1 hv) cs_X3_isPlace q1136 rfl rfl hl.1 (Nat.le_of_ble_eq_true rfl) ⟨Nat.le_of_ble_eq_true rfl, Nat.le_of_ble_eq_true rfl⟩ ⟨Nat.le_refl _, Nat.le_refl _⟩ dX3_longer_1 hK hH hS (fun H locs hH hS => ?_)
  refine lv_if_eq (tgt := 14) hx hb dX3_longer_4 (by decide) (fun c_ => ?_) (fun c_ => ?_)
  · have hf := (if_pos c_).symm.trans hf
    refine lv_iconst (v := (-1 : Int32)) hx hb dX3_longer_14 (by decide) ?_
    cases hf
    exact r_iret X dX3_longer_15 (Nat.le_refl _) (Nat.le_refl _) rfl hH hS
  · have hf := (if_neg c_).symm.trans hf
    refine lv_iload_n hx hb dX3_longer_7 rfl (lv_at hl 2 rfl) ?_
    obtain ⟨v2, hv, hf⟩ := bd hf
    refine r_Si (As := [.int a2]) (rest := []) X (met_X3_isPlace l G _ N a2 v2 hv) cs_X3_isPlace q1136 rfl rfl hl.1 (Nat.le_of_ble_eq_true rfl) ⟨Nat.le_of_ble_eq_true rfl, Nat.le_of_ble_eq_true rfl⟩ ⟨Nat.le_refl _, Nat.le_refl _⟩ dX3_longer_8 hK hH hS (fun H locs hH hS => ?_)
    refine lv_if_ne (tgt := 16) hx hb dX3_longer_11 (by decide) (fun c_ => ?_) (fun c_ => ?_)
    · have hf := (if_neg c_).symm.trans hf
      refine lv_aload_n hx hb dX3_longer_16 rfl (lv_at hl 0 rfl) ?_
      refine lv_iload_n hx hb dX3_longer_17 rfl (lv_at hl 1 rfl) ?_
      obtain ⟨v3, hv, hf⟩ := bd hf
      refine r_Vi (As := [.int a1]) (rest := []) X (met_X3_isEmpty l G _ _ _ N st a1 v3 hv) cv_X3_isEmpty q1148 (m_recv hK hH) rfl rfl hl.1 (Nat.le_of_ble_eq_true rfl) ⟨Nat.le_of_ble_eq_true rfl, Nat.le_of_ble_eq_true rfl⟩ ⟨Nat.le_refl _, Nat.le_refl _⟩ dX3_longer_18 hK hH hS (fun H locs hH hS => ?_)
      refine lv_if_eq (tgt := 27) hx hb dX3_longer_21 (by decide) (fun c_ => ?_) (fun c_ => ?_)
      · have hf := (if_pos c_).symm.trans hf
        refine lv_aload_n hx hb dX3_longer_27 rfl (lv_at hl 0 rfl) ?_
        refine m_get X hK hH 3 (by decide) rfl (mg_3 _ _) q1062 dX3_longer_28 ?_
        refine lv_iload_n hx hb dX3_longer_31 rfl (lv_at hl 1 rfl) ?_
        obtain ⟨v4, hv, hf⟩ := bd hf
        refine m_iald X hK hH 3 (mc_3 _ _) hv dX3_longer_32 ?_
        refine lv_bipush (v := (12 : Int32)) hx hb dX3_longer_33 (by decide) ?_
        refine lv_icmp_ne (tgt := 41) hx hb dX3_longer_35 (by decide) (fun c_ => ?_) (fun c_ => ?_)
        · have hf := (if_neg c_).symm.trans hf
          refine lv_aload_n hx hb dX3_longer_41 rfl (lv_at hl 0 rfl) ?_
          refine m_get X hK hH 2 (by decide) rfl (mg_2 _ _) q1061 dX3_longer_42 ?_
          refine lv_iload_n hx hb dX3_longer_45 rfl (lv_at hl 1 rfl) ?_
          obtain ⟨v5, hv, hf⟩ := bd hf
          refine m_iald X hK hH 2 (mc_2 _ _) hv dX3_longer_46 ?_
          refine lv_istore_n (lv' := [(3, .int v5), (0, .ref M), (1, .int a1), (2, .int a2)]) hx hb dX3_longer_47 rfl hl (by decide) rfl (fun ls hl => ?_)
          refine lv_aload_n hx hb dX3_longer_48 rfl (lv_at hl 1 rfl) ?_
          refine lv_aload_n hx hb dX3_longer_49 rfl (lv_at hl 1 rfl) ?_
          refine m_get X hK hH 4 (by decide) rfl (mg_4 _ _) q1063 dX3_longer_50 ?_
          refine lv_iload_n hx hb dX3_longer_53 rfl (lv_at hl 2 rfl) ?_
          obtain ⟨v6, hv, hf⟩ := bd hf
          refine m_iald X hK hH 4 (mc_4 _ _) hv dX3_longer_54 ?_
          refine m_put (ty := .int) X hK hH hS 18 (by decide) rfl (mp_18 _ _ _) q1077 rfl (by decide +kernel) rfl rfl dX3_longer_55 (fun H locs hH hS => ?_)
          refine lv_iconst (v := (0 : Int32)) hx hb dX3_longer_58 (by decide) ?_
          refine lv_istore (lv' := [(4, .int (0 : Int32)), (3, .int v5), (0, .ref M), (1, .int a1), (2, .int a2)]) hx hb dX3_longer_59 hl (by decide) rfl (fun ls hl => ?_)
          obtain ⟨r61_16, hr, hf⟩ := bd hf
          refine L61 a1 a2 v5 N _ r61_16 hr ?_ _ _ _ (lv_sub hl [2, 3, 4, 1, 0] rfl) hH hS
          intro ls H locs hl hH hS
          refine lv_aload_n hx hb dX3_longer_163 rfl (lv_at hl 0 rfl) ?_
          refine lv_iload_n hx hb dX3_longer_164 rfl (lv_at hl 2 rfl) ?_
          refine lv_aload_n hx hb dX3_longer_165 rfl (lv_at hl 0 rfl) ?_
          refine lv_iload_n hx hb dX3_longer_166 rfl (lv_at hl 1 rfl) ?_
          obtain ⟨v17, hv, hf⟩ := bd hf
          refine r_Vi (As := [.int a1]) (rest := [.int a2, .ref M]) X (met_X3_lineOr l G _ _ _ N r61_16 a1 v17 hv) cv_X3_lineOr q1330 (m_recv hK hH) rfl rfl hl.1 (Nat.le_of_ble_eq_true rfl) ⟨Nat.le_of_ble_eq_true rfl, Nat.le_of_ble_eq_true rfl⟩ ⟨Nat.le_refl _, Nat.le_refl _⟩ dX3_longer_167 hK hH hS (fun H locs hH hS => ?_)
          refine lv_iload_n hx hb dX3_longer_170 rfl (lv_at hl 3 rfl) ?_
          refine lv_aload_n hx hb dX3_longer_171 rfl (lv_at hl 0 rfl) ?_
          refine m_get X hK hH 3 (by decide) rfl (mg_3 _ _) q1062 dX3_longer_172 ?_
          refine lv_iload_n hx hb dX3_longer_175 rfl (lv_at hl 1 rfl) ?_
          obtain ⟨v18, hv, hf⟩ := bd hf
          refine m_iald X hK hH 3 (mc_3 _ _) hv dX3_longer_176 ?_
          refine lv_iconst (v := (1 : Int32)) hx hb dX3_longer_177 (by decide) ?_
          refine lv_iadd hx hb dX3_longer_178 ?_
          obtain ⟨v19, hv, hf⟩ := bd hf
          refine r_Vi (As := [.int a2, .int v17, .int v5, .int (v18 + (1 : Int32))]) (rest := []) X (met_X3_comes l G _ _ _ N r61_16 a2 v17 v5 (v18 + (1 : Int32)) v19.1 v19.2 hv) cv_X3_comes q1334 (m_recv hK hH) rfl rfl hl.1 (Nat.le_of_ble_eq_true rfl) ⟨Nat.le_of_ble_eq_true rfl, Nat.le_of_ble_eq_true rfl⟩ ⟨Nat.le_refl _, Nat.le_refl _⟩ dX3_longer_179 hK hH hS (fun H locs hH hS => ?_)
          cases hf
          exact r_iret X dX3_longer_182 (Nat.le_refl _) (Nat.le_refl _) rfl hH hS
        · have hf := (if_pos c_).symm.trans hf
          refine lv_bipush (v := (-6 : Int32)) hx hb dX3_longer_38 (by decide) ?_
          cases hf
          exact r_iret X dX3_longer_40 (Nat.le_refl _) (Nat.le_refl _) rfl hH hS
      · have hf := (if_neg c_).symm.trans hf
        refine lv_bipush (v := (-11 : Int32)) hx hb dX3_longer_24 (by decide) ?_
        cases hf
        exact r_iret X dX3_longer_26 (Nat.le_refl _) (Nat.le_refl _) rfl hH hS
    · have hf := (if_pos c_).symm.trans hf
      refine lv_iconst (v := (-1 : Int32)) hx hb dX3_longer_14 (by decide) ?_
      cases hf
      exact r_iret X dX3_longer_15 (Nat.le_refl _) (Nat.le_refl _) rfl hH hS
theorem cv_X3_look : CalV "WordBenchModel" yX3_look cX3_look 3 (some .int) 2 := ⟨q1173, q1174, q57, q1175, by decide +kernel⟩
set_option maxHeartbeats 4000000 in
theorem met_X3_look (l : Launch) (G : GG) (sz M : Nat) (rst : Nat → Option AE) (N : Nat) (st : MS) (a1 : Int32) (a2 : Int32) (stf : MS) (rf : Int32) (hf : f_X3_look N st a1 a2 = some (stf, rf)) : Con l yX3_look cX3_look 3 (some .int) 4 0 0 G (sz, MH M st rst) [.ref M, .int a1, .int a2] (sz, MH M stf rst) (some (.int rf)) := by
  refine con_of (by decide) (Nat.le_of_ble_eq_true rfl) ?_
  intro p e s m below meth c ls X hK hH hl hS
  have hx := X.1
  have hb := X.2.1
  have hown : s.vm.findClass RX3 = some m.cls := X.2.2.2.2.1
  have hts := X.2.2.2.2.2.1
  have hl : lv_has ls 3 [(0, .ref M), (1, .int a1), (2, .int a2)] := hl
  unfold f_X3_look at hf
  refine lv_iload_n hx hb dX3_look_0 rfl (lv_at hl 1 rfl) ?_
  obtain ⟨v1, hv, hf⟩ := bd hf
  refine r_Si (As := [.int a1]) (rest := []) X (met_X3_isPlace l G _ N a1 v1 hv) cs_X3_isPlace q1136 rfl rfl hl.1 (Nat.le_of_ble_eq_true rfl) ⟨Nat.le_of_ble_eq_true rfl, Nat.le_of_ble_eq_true rfl⟩ ⟨Nat.le_refl _, Nat.le_refl _⟩ dX3_look_1 hK hH hS (fun H locs hH hS => ?_)
  refine lv_if_eq (tgt := 19) hx hb dX3_look_4 (by decide) (fun c_ => ?_) (fun c_ => ?_)
  · have hf := (if_pos c_).symm.trans hf
    refine lv_iconst (v := (-1 : Int32)) hx hb dX3_look_19 (by decide) ?_
    cases hf
    exact r_iret X dX3_look_20 (Nat.le_refl _) (Nat.le_refl _) rfl hH hS
  · have hf := (if_neg c_).symm.trans hf
    refine lv_iload_n hx hb dX3_look_7 rfl (lv_at hl 2 rfl) ?_
    refine lv_i2l (v := (a2).toInt64) hx hb dX3_look_8 rfl ?_
    refine lv_lconst (v := (0 : Int64)) hx hb dX3_look_9 (by decide) ?_
    refine lv_ldc2 (v := (5 : Int64)) hx hb hown (hts _ q1014) dX3_look_10 ?_
    obtain ⟨v2, hv, hf⟩ := bd hf
    refine r_Si (As := [.long ((a2).toInt64), .long (0 : Int64), .long (5 : Int64)]) (rest := []) X (met_X3_isIn l G _ N ((a2).toInt64) (0 : Int64) (5 : Int64) v2 hv) cs_X3_isIn q1015 rfl rfl hl.1 (Nat.le_of_ble_eq_true rfl) ⟨Nat.le_of_ble_eq_true rfl, Nat.le_of_ble_eq_true rfl⟩ ⟨Nat.le_refl _, Nat.le_refl _⟩ dX3_look_13 hK hH hS (fun H locs hH hS => ?_)
    refine lv_if_ne (tgt := 21) hx hb dX3_look_16 (by decide) (fun c_ => ?_) (fun c_ => ?_)
    · have hf := (if_neg c_).symm.trans hf
      refine lv_aload_n hx hb dX3_look_21 rfl (lv_at hl 0 rfl) ?_
      refine lv_iload_n hx hb dX3_look_22 rfl (lv_at hl 1 rfl) ?_
      obtain ⟨v3, hv, hf⟩ := bd hf
      refine r_Vi (As := [.int a1]) (rest := []) X (met_X3_isEmpty l G _ _ _ N st a1 v3 hv) cv_X3_isEmpty q1148 (m_recv hK hH) rfl rfl hl.1 (Nat.le_of_ble_eq_true rfl) ⟨Nat.le_of_ble_eq_true rfl, Nat.le_of_ble_eq_true rfl⟩ ⟨Nat.le_refl _, Nat.le_refl _⟩ dX3_look_23 hK hH hS (fun H locs hH hS => ?_)
      refine lv_if_eq (tgt := 32) hx hb dX3_look_26 (by decide) (fun c_ => ?_) (fun c_ => ?_)
      · have hf := (if_pos c_).symm.trans hf
        refine lv_iload_n hx hb dX3_look_32 rfl (lv_at hl 2 rfl) ?_
        by_cases c0_ : a2 = 0
        · have hf := (if_pos c0_).symm.trans hf
          refine lv_tableIn (off := 31) (tgt := 64) hx hb dX3_look_33 (by rw [c0_]; decide) (by rw [c0_]; decide) (by rw [c0_]; rfl) (by decide) ?_
          refine lv_aload_n hx hb dX3_look_64 rfl (lv_at hl 0 rfl) ?_
          refine m_get X hK hH 1 (by decide) rfl (mg_1 _ _) q1060 dX3_look_65 ?_
          refine lv_iload_n hx hb dX3_look_68 rfl (lv_at hl 1 rfl) ?_
          obtain ⟨v4, hv, hf⟩ := bd hf
          refine m_iald X hK hH 1 (mc_1 _ _) hv dX3_look_69 ?_
          cases hf
          exact r_iret X dX3_look_70 (Nat.le_refl _) (Nat.le_refl _) rfl hH hS
        have hf := (if_neg c0_).symm.trans hf
        by_cases c1_ : a2 = 1
        · have hf := (if_pos c1_).symm.trans hf
          refine lv_tableIn (off := 38) (tgt := 71) hx hb dX3_look_33 (by rw [c1_]; decide) (by rw [c1_]; decide) (by rw [c1_]; rfl) (by decide) ?_
          refine lv_aload_n hx hb dX3_look_71 rfl (lv_at hl 0 rfl) ?_
          refine m_get X hK hH 2 (by decide) rfl (mg_2 _ _) q1061 dX3_look_72 ?_
          refine lv_iload_n hx hb dX3_look_75 rfl (lv_at hl 1 rfl) ?_
          obtain ⟨v5, hv, hf⟩ := bd hf
          refine m_iald X hK hH 2 (mc_2 _ _) hv dX3_look_76 ?_
          cases hf
          exact r_iret X dX3_look_77 (Nat.le_refl _) (Nat.le_refl _) rfl hH hS
        have hf := (if_neg c1_).symm.trans hf
        by_cases c2_ : a2 = 2
        · have hf := (if_pos c2_).symm.trans hf
          refine lv_tableIn (off := 45) (tgt := 78) hx hb dX3_look_33 (by rw [c2_]; decide) (by rw [c2_]; decide) (by rw [c2_]; rfl) (by decide) ?_
          refine lv_aload_n hx hb dX3_look_78 rfl (lv_at hl 0 rfl) ?_
          refine m_get X hK hH 3 (by decide) rfl (mg_3 _ _) q1062 dX3_look_79 ?_
          refine lv_iload_n hx hb dX3_look_82 rfl (lv_at hl 1 rfl) ?_
          obtain ⟨v6, hv, hf⟩ := bd hf
          refine m_iald X hK hH 3 (mc_3 _ _) hv dX3_look_83 ?_
          cases hf
          exact r_iret X dX3_look_84 (Nat.le_refl _) (Nat.le_refl _) rfl hH hS
        have hf := (if_neg c2_).symm.trans hf
        by_cases c3_ : a2 = 3
        · have hf := (if_pos c3_).symm.trans hf
          refine lv_tableIn (off := 52) (tgt := 85) hx hb dX3_look_33 (by rw [c3_]; decide) (by rw [c3_]; decide) (by rw [c3_]; rfl) (by decide) ?_
          refine lv_aload_n hx hb dX3_look_85 rfl (lv_at hl 0 rfl) ?_
          refine m_get X hK hH 4 (by decide) rfl (mg_4 _ _) q1063 dX3_look_86 ?_
          refine lv_iload_n hx hb dX3_look_89 rfl (lv_at hl 1 rfl) ?_
          obtain ⟨v7, hv, hf⟩ := bd hf
          refine m_iald X hK hH 4 (mc_4 _ _) hv dX3_look_90 ?_
          cases hf
          exact r_iret X dX3_look_91 (Nat.le_refl _) (Nat.le_refl _) rfl hH hS
        have hf := (if_neg c3_).symm.trans hf
        have ho : (a2).toInt < 0 ∨ 3 < (a2).toInt := by
          have h0 := lv_neT (a := 0) c0_ rfl
          have h1 := lv_neT (a := 1) c1_ rfl
          have h2 := lv_neT (a := 2) c2_ rfl
          have h3 := lv_neT (a := 3) c3_ rfl
          omega
        refine lv_tableOut (tgt := 92) hx hb dX3_look_33 ho (by decide) ?_
        refine lv_aload_n hx hb dX3_look_92 rfl (lv_at hl 0 rfl) ?_
        refine m_get X hK hH 1 (by decide) rfl (mg_1 _ _) q1060 dX3_look_93 ?_
        refine lv_iload_n hx hb dX3_look_96 rfl (lv_at hl 1 rfl) ?_
        obtain ⟨v8, hv, hf⟩ := bd hf
        refine m_iald X hK hH 1 (mc_1 _ _) hv dX3_look_97 ?_
        refine lv_if_ne (tgt := 104) hx hb dX3_look_98 (by decide) (fun c_ => ?_) (fun c_ => ?_)
        · have hf := (if_neg c_).symm.trans hf
          refine lv_iload_n hx hb dX3_look_104 rfl (lv_at hl 2 rfl) ?_
          refine lv_iconst (v := (5 : Int32)) hx hb dX3_look_105 (by decide) ?_
          refine lv_icmp_ne (tgt := 123) hx hb dX3_look_106 (by decide) (fun c_ => ?_) (fun c_ => ?_)
          · have hf := (if_neg c_).symm.trans hf
            refine lv_aload_n hx hb dX3_look_123 rfl (lv_at hl 0 rfl) ?_
            refine lv_iload_n hx hb dX3_look_124 rfl (lv_at hl 1 rfl) ?_
            obtain ⟨v9, hv, hf⟩ := bd hf
            refine r_Vv (As := [.int a1]) (rest := []) X (met_X3_clear l G _ _ _ N st a1 v9 hv) cv_X3_clear q1180 (m_recv hK hH) rfl rfl hl.1 (Nat.le_of_ble_eq_true rfl) ⟨Nat.le_of_ble_eq_true rfl, Nat.le_of_ble_eq_true rfl⟩ ⟨Nat.le_refl _, Nat.le_refl _⟩ dX3_look_125 hK hH hS (fun H locs hH hS => ?_)
            refine lv_aload_n hx hb dX3_look_128 rfl (lv_at hl 0 rfl) ?_
            refine m_get X hK hH 8 (by decide) rfl (mg_8 _ _) q1067 dX3_look_129 ?_
            cases hf
            exact r_iret X dX3_look_132 (Nat.le_refl _) (Nat.le_refl _) rfl hH hS
          · have hf := (if_pos c_).symm.trans hf
            refine lv_aload_n hx hb dX3_look_109 rfl (lv_at hl 0 rfl) ?_
            refine lv_iload_n hx hb dX3_look_110 rfl (lv_at hl 1 rfl) ?_
            obtain ⟨v10, hv, hf⟩ := bd hf
            refine r_Vi (As := [.int a1]) (rest := []) X (met_X3_isWithin l G _ _ _ N st a1 v10 hv) cv_X3_isWithin q1176 (m_recv hK hH) rfl rfl hl.1 (Nat.le_of_ble_eq_true rfl) ⟨Nat.le_of_ble_eq_true rfl, Nat.le_of_ble_eq_true rfl⟩ ⟨Nat.le_refl _, Nat.le_refl _⟩ dX3_look_111 hK hH hS (fun H locs hH hS => ?_)
            refine lv_if_eq (tgt := 121) hx hb dX3_look_114 (by decide) (fun c_ => ?_) (fun c_ => ?_)
            · have hf := (if_pos c_).symm.trans hf
              refine lv_iconst (v := (0 : Int32)) hx hb dX3_look_121 (by decide) ?_
              cases hf
              exact r_iret X dX3_look_122 (Nat.le_refl _) (Nat.le_refl _) rfl hH hS
            · have hf := (if_neg c_).symm.trans hf
              refine lv_iconst (v := (1 : Int32)) hx hb dX3_look_117 (by decide) ?_
              refine lv_goto (tgt := 122) hx hb dX3_look_118 (by decide) ?_
              cases hf
              exact r_iret X dX3_look_122 (Nat.le_refl _) (Nat.le_refl _) rfl hH hS
        · have hf := (if_pos c_).symm.trans hf
          refine lv_bipush (v := (-12 : Int32)) hx hb dX3_look_101 (by decide) ?_
          cases hf
          exact r_iret X dX3_look_103 (Nat.le_refl _) (Nat.le_refl _) rfl hH hS
      · have hf := (if_neg c_).symm.trans hf
        refine lv_bipush (v := (-11 : Int32)) hx hb dX3_look_29 (by decide) ?_
        cases hf
        exact r_iret X dX3_look_31 (Nat.le_refl _) (Nat.le_refl _) rfl hH hS
    · have hf := (if_pos c_).symm.trans hf
      refine lv_iconst (v := (-1 : Int32)) hx hb dX3_look_19 (by decide) ?_
      cases hf
      exact r_iret X dX3_look_20 (Nat.le_refl _) (Nat.le_refl _) rfl hH hS
theorem cv_X3_make : CalV "WordBenchModel" yX3_make cX3_make 5 (some .int) 4 := ⟨q1133, q1134, q57, q1135, by decide +kernel⟩
set_option maxHeartbeats 4000000 in
theorem met_X3_make (l : Launch) (G : GG) (sz M : Nat) (rst : Nat → Option AE) (N : Nat) (st : MS) (a1 : Int32) (a2 : Int32) (a3 : Int32) (a4 : Int32) (stf : MS) (rf : Int32) (hf : f_X3_make N st a1 a2 a3 a4 = some (stf, rf)) : Con l yX3_make cX3_make 5 (some .int) 2 0 0 G (sz, MH M st rst) [.ref M, .int a1, .int a2, .int a3, .int a4] (sz, MH M stf rst) (some (.int rf)) := by
  refine con_of (by decide) (Nat.le_of_ble_eq_true rfl) ?_
  intro p e s m below meth c ls X hK hH hl hS
  have hx := X.1
  have hb := X.2.1
  have hown : s.vm.findClass RX3 = some m.cls := X.2.2.2.2.1
  have hts := X.2.2.2.2.2.1
  have hl : lv_has ls 5 [(0, .ref M), (1, .int a1), (2, .int a2), (3, .int a3), (4, .int a4)] := hl
  unfold f_X3_make at hf
  have J21 : ∀ (d1 : Int32) (d2 : Int32) (d3 : Int32) (d4 : Int32) (u21 : MS), f_X3_make_j21 N d1 d2 d3 d4 u21 = some (stf, rf) → ∀ (ls : Array Slot) (H : Heap) (locs : List Loc), lv_has ls 5 [(0, .ref M), (1, .int d1), (2, .int d2), (3, .int d3), (4, .int d4)] → HH G (sz, MH M u21 rst) H → va_S (AG G) s.heap H locs → W p l e (rm_ 2 0 0) s m ([.ref M, .int a1, .int a2, .int a3, .int a4] : List Value).toArray below meth c H locs 0 0 (MQ below (PostC G (sz, MH M stf rst) (some (.int rf))) ([.ref M, .int a1, .int a2, .int a3, .int a4] : List Value).toArray s 0 0 (AG G)) (F0 m 21 ls []) := by
    intro d1 d2 d3 d4 u21 hf ls H locs hl hH hS
    unfold f_X3_make_j21 at hf
    refine lv_iload_n hx hb dX3_make_21 rfl (lv_at hl 3 rfl) ?_
    refine lv_iload hx hb dX3_make_22 (lv_at hl 4 rfl) ?_
    obtain ⟨v2, hv, hf⟩ := bd hf
    refine r_Si (As := [.int d3, .int d4]) (rest := []) X (met_X3_isField l G _ N d3 d4 v2 hv) cs_X3_isField q1010 rfl rfl hl.1 (Nat.le_of_ble_eq_true rfl) ⟨Nat.le_of_ble_eq_true rfl, Nat.le_of_ble_eq_true rfl⟩ ⟨Nat.le_refl _, Nat.le_refl _⟩ dX3_make_24 hK hH hS (fun H locs hH hS => ?_)
    refine lv_if_ne (tgt := 32) hx hb dX3_make_27 (by decide) (fun c_ => ?_) (fun c_ => ?_)
    · have hf := (if_neg c_).symm.trans hf
      refine lv_aload_n hx hb dX3_make_32 rfl (lv_at hl 0 rfl) ?_
      refine lv_iload_n hx hb dX3_make_33 rfl (lv_at hl 1 rfl) ?_
      refine lv_iload_n hx hb dX3_make_34 rfl (lv_at hl 2 rfl) ?_
      refine lv_iload_n hx hb dX3_make_35 rfl (lv_at hl 3 rfl) ?_
      refine lv_iload hx hb dX3_make_36 (lv_at hl 4 rfl) ?_
      obtain ⟨v3, hv, hf⟩ := bd hf
      refine r_Vv (As := [.int d1, .int d2, .int d3, .int d4]) (rest := []) X (met_X3_begin l G _ _ _ N u21 d1 d2 d3 d4 v3 hv) cv_X3_begin q1140 (m_recv hK hH) rfl rfl hl.1 (Nat.le_of_ble_eq_true rfl) ⟨Nat.le_of_ble_eq_true rfl, Nat.le_of_ble_eq_true rfl⟩ ⟨Nat.le_refl _, Nat.le_refl _⟩ dX3_make_38 hK hH hS (fun H locs hH hS => ?_)
      refine lv_iconst (v := (0 : Int32)) hx hb dX3_make_41 (by decide) ?_
      cases hf
      exact r_iret X dX3_make_42 (Nat.le_refl _) (Nat.le_refl _) rfl hH hS
    · have hf := (if_pos c_).symm.trans hf
      refine lv_iconst (v := (-1 : Int32)) hx hb dX3_make_30 (by decide) ?_
      cases hf
      exact r_iret X dX3_make_31 (Nat.le_refl _) (Nat.le_refl _) rfl hH hS
  refine lv_iload_n hx hb dX3_make_0 rfl (lv_at hl 1 rfl) ?_
  obtain ⟨v1, hv, hf⟩ := bd hf
  refine r_Si (As := [.int a1]) (rest := []) X (met_X3_isPlace l G _ N a1 v1 hv) cs_X3_isPlace q1136 rfl rfl hl.1 (Nat.le_of_ble_eq_true rfl) ⟨Nat.le_of_ble_eq_true rfl, Nat.le_of_ble_eq_true rfl⟩ ⟨Nat.le_refl _, Nat.le_refl _⟩ dX3_make_1 hK hH hS (fun H locs hH hS => ?_)
  refine lv_if_eq (tgt := 30) hx hb dX3_make_4 (by decide) (fun c_ => ?_) (fun c_ => ?_)
  · have hf := (if_pos c_).symm.trans hf
    refine lv_iconst (v := (-1 : Int32)) hx hb dX3_make_30 (by decide) ?_
    cases hf
    exact r_iret X dX3_make_31 (Nat.le_refl _) (Nat.le_refl _) rfl hH hS
  · have hf := (if_neg c_).symm.trans hf
    refine lv_iload_n hx hb dX3_make_7 rfl (lv_at hl 2 rfl) ?_
    refine lv_if_eq (tgt := 21) hx hb dX3_make_8 (by decide) (fun c_ => ?_) (fun c_ => ?_)
    · have hf := (if_pos c_).symm.trans hf
      exact J21 a1 a2 a3 a4 st hf _ _ _ (lv_sub hl [0, 1, 2, 3, 4] rfl) hH hS
    · have hf := (if_neg c_).symm.trans hf
      refine lv_iload_n hx hb dX3_make_11 rfl (lv_at hl 2 rfl) ?_
      refine lv_iconst (v := (1 : Int32)) hx hb dX3_make_12 (by decide) ?_
      refine lv_icmp_eq (tgt := 21) hx hb dX3_make_13 (by decide) (fun c_ => ?_) (fun c_ => ?_)
      · have hf := (if_pos c_).symm.trans hf
        exact J21 a1 a2 a3 a4 st hf _ _ _ (lv_sub hl [0, 1, 2, 3, 4] rfl) hH hS
      · have hf := (if_neg c_).symm.trans hf
        refine lv_iload_n hx hb dX3_make_16 rfl (lv_at hl 2 rfl) ?_
        refine lv_iconst (v := (3 : Int32)) hx hb dX3_make_17 (by decide) ?_
        refine lv_icmp_ne (tgt := 30) hx hb dX3_make_18 (by decide) (fun c_ => ?_) (fun c_ => ?_)
        · have hf := (if_neg c_).symm.trans hf
          refine lv_iconst (v := (-1 : Int32)) hx hb dX3_make_30 (by decide) ?_
          cases hf
          exact r_iret X dX3_make_31 (Nat.le_refl _) (Nat.le_refl _) rfl hH hS
        · have hf := (if_pos c_).symm.trans hf
          exact J21 a1 a2 a3 a4 st hf _ _ _ (lv_sub hl [0, 1, 2, 3, 4] rfl) hH hS
theorem cv_X3_nearOf : CalV "WordBenchModel" yX3_nearOf cX3_nearOf 7 (some .int) 3 := ⟨q1307, qs38, q57, q1308, by decide +kernel⟩
set_option maxHeartbeats 4000000 in
theorem met_X3_nearOf (l : Launch) (G : GG) (sz M : Nat) (rst : Nat → Option AE) (N : Nat) (st : MS) (a1 : Int32) (a2 : Int64) (a4 : Int32) (stf : MS) (rf : Int32) (hf : f_X3_nearOf N st a1 a2 a4 = some (stf, rf)) : Con l yX3_nearOf cX3_nearOf 7 (some .int) 1 0 0 G (sz, MH M st rst) [.ref M, .int a1, .long a2, .int a4] (sz, MH M stf rst) (some (.int rf)) := by
  refine con_of (by decide) (Nat.le_of_ble_eq_true rfl) ?_
  intro p e s m below meth c ls X hK hH hl hS
  have hx := X.1
  have hb := X.2.1
  have hown : s.vm.findClass RX3 = some m.cls := X.2.2.2.2.1
  have hts := X.2.2.2.2.2.1
  have hl : lv_has ls 7 [(0, .ref M), (1, .int a1), (2, .long a2), (4, .int a4)] := hl
  unfold f_X3_nearOf at hf
  have L12 : ∀ (c1 : Int32) (c4 : Int32) (t12 : MS) (n : Nat) (s12 : (Int32 × Int32)) (r12 : Int32), lp (f_X3_nearOf_b12 N c1 c4 t12) n s12 = some r12 → (∀ (ls : Array Slot) (H : Heap) (locs : List Loc), lv_has ls 7 [(5, .int r12)] → HH G (sz, MH M t12 rst) H → va_S (AG G) s.heap H locs → W p l e (rm_ 1 0 0) s m ([.ref M, .int a1, .long a2, .int a4] : List Value).toArray below meth c H locs 0 0 (MQ below (PostC G (sz, MH M stf rst) (some (.int rf))) ([.ref M, .int a1, .long a2, .int a4] : List Value).toArray s 0 0 (AG G)) (F0 m 50 ls [])) → ∀ (ls : Array Slot) (H : Heap) (locs : List Loc), lv_has ls 7 [(0, .ref M), (1, .int c1), (4, .int c4), (5, .int s12.1), (6, .int s12.2)] → HH G (sz, MH M t12 rst) H → va_S (AG G) s.heap H locs → W p l e (rm_ 1 0 0) s m ([.ref M, .int a1, .long a2, .int a4] : List Value).toArray below meth c H locs 0 0 (MQ below (PostC G (sz, MH M stf rst) (some (.int rf))) ([.ref M, .int a1, .long a2, .int a4] : List Value).toArray s 0 0 (AG G)) (F0 m 12 ls []) := by
    intro c1 c4 t12 n s12 r12 hr hq
    refine lp_ind (P := fun s12 => ∀ (ls : Array Slot) (H : Heap) (locs : List Loc), lv_has ls 7 [(0, .ref M), (1, .int c1), (4, .int c4), (5, .int s12.1), (6, .int s12.2)] → HH G (sz, MH M t12 rst) H → va_S (AG G) s.heap H locs → W p l e (rm_ 1 0 0) s m ([.ref M, .int a1, .long a2, .int a4] : List Value).toArray below meth c H locs 0 0 (MQ below (PostC G (sz, MH M stf rst) (some (.int rf))) ([.ref M, .int a1, .long a2, .int a4] : List Value).toArray s 0 0 (AG G)) (F0 m 12 ls [])) (Q := fun r12 => ∀ (ls : Array Slot) (H : Heap) (locs : List Loc), lv_has ls 7 [(5, .int r12)] → HH G (sz, MH M t12 rst) H → va_S (AG G) s.heap H locs → W p l e (rm_ 1 0 0) s m ([.ref M, .int a1, .long a2, .int a4] : List Value).toArray below meth c H locs 0 0 (MQ below (PostC G (sz, MH M stf rst) (some (.int rf))) ([.ref M, .int a1, .long a2, .int a4] : List Value).toArray s 0 0 (AG G)) (F0 m 50 ls [])) ?_ n s12 r12 hr hq
    intro s12 x12 hf hx12 ls H locs hl hH hS
    unfold f_X3_nearOf_b12 at hf
    refine lv_iload hx hb dX3_nearOf_12 (lv_at hl 4 rfl) ?_
    refine lv_aload_n hx hb dX3_nearOf_14 rfl (lv_at hl 0 rfl) ?_
    refine m_get X hK hH 11 (by decide) rfl (mg_11 _ _) q1070 dX3_nearOf_15 ?_
    refine lv_icmp_ge (tgt := 50) hx hb dX3_nearOf_18 (by decide) (fun c_ => ?_) (fun c_ => ?_)
    · have hf := (if_pos c_).symm.trans hf
      cases hf
      exact hx12 _ _ _ (lv_sub hl [3] rfl) hH hS
    · have hf := (if_neg c_).symm.trans hf
      refine lv_iload hx hb dX3_nearOf_21 (lv_at hl 3 rfl) ?_
      refine lv_aload_n hx hb dX3_nearOf_23 rfl (lv_at hl 0 rfl) ?_
      refine lv_iload_n hx hb dX3_nearOf_24 rfl (lv_at hl 1 rfl) ?_
      refine lv_iload hx hb dX3_nearOf_25 (lv_at hl 4 rfl) ?_
      refine lv_iconst (v := (0 : Int32)) hx hb dX3_nearOf_27 (by decide) ?_
      obtain ⟨v2, hv, hf⟩ := bd hf
      refine r_Vi (As := [.int c1, .int s12.2, .int (0 : Int32)]) (rest := [.int s12.1]) X (met_X3_wayTo l G _ _ _ N t12 c1 s12.2 (0 : Int32) v2 hv) cv_X3_wayTo q1297 (m_recv hK hH) rfl rfl hl.1 (Nat.le_of_ble_eq_true rfl) ⟨Nat.le_of_ble_eq_true rfl, Nat.le_of_ble_eq_true rfl⟩ ⟨Nat.le_refl _, Nat.le_refl _⟩ dX3_nearOf_28 hK hH hS (fun H locs hH hS => ?_)
      refine lv_iload hx hb dX3_nearOf_31 (lv_at hl 2 rfl) ?_
      refine lv_icmp_gt (tgt := 40) hx hb dX3_nearOf_33 (by decide) (fun c_ => ?_) (fun c_ => ?_)
      · have hf := (if_pos c_).symm.trans hf
        refine lv_iconst (v := (0 : Int32)) hx hb dX3_nearOf_40 (by decide) ?_
        refine lv_iadd hx hb dX3_nearOf_41 ?_
        refine lv_istore (lv' := [(5, .int (s12.1 + (0 : Int32))), (0, .ref M), (1, .int c1), (4, .int c4), (6, .int s12.2)]) hx hb dX3_nearOf_42 hl (by decide) rfl (fun ls hl => ?_)
        refine lv_iinc (v := (s12.2 + 1)) (lv' := [(6, .int (s12.2 + 1)), (5, .int (s12.1 + (0 : Int32))), (0, .ref M), (1, .int c1), (4, .int c4)]) hx hb dX3_nearOf_44 hl (k := 4) rfl rfl (by decide) rfl (fun ls hl => ?_)
        refine lv_goto (tgt := 12) hx hb dX3_nearOf_47 (by decide) ?_
        cases hf
        exact hx12 _ _ _ (lv_sub hl [2, 3, 4, 1, 0] rfl) hH hS
      · have hf := (if_neg c_).symm.trans hf
        refine lv_iconst (v := (1 : Int32)) hx hb dX3_nearOf_36 (by decide) ?_
        refine lv_goto (tgt := 41) hx hb dX3_nearOf_37 (by decide) ?_
        refine lv_iadd hx hb dX3_nearOf_41 ?_
        refine lv_istore (lv' := [(5, .int (s12.1 + (1 : Int32))), (0, .ref M), (1, .int c1), (4, .int c4), (6, .int s12.2)]) hx hb dX3_nearOf_42 hl (by decide) rfl (fun ls hl => ?_)
        refine lv_iinc (v := (s12.2 + 1)) (lv' := [(6, .int (s12.2 + 1)), (5, .int (s12.1 + (1 : Int32))), (0, .ref M), (1, .int c1), (4, .int c4)]) hx hb dX3_nearOf_44 hl (k := 4) rfl rfl (by decide) rfl (fun ls hl => ?_)
        refine lv_goto (tgt := 12) hx hb dX3_nearOf_47 (by decide) ?_
        cases hf
        exact hx12 _ _ _ (lv_sub hl [2, 3, 4, 1, 0] rfl) hH hS
  refine lv_iconst (v := (0 : Int32)) hx hb dX3_nearOf_0 (by decide) ?_
  refine lv_istore (lv' := [(5, .int (0 : Int32)), (0, .ref M), (1, .int a1), (2, .long a2), (4, .int a4)]) hx hb dX3_nearOf_1 hl (by decide) rfl (fun ls hl => ?_)
  refine lv_aload_n hx hb dX3_nearOf_3 rfl (lv_at hl 1 rfl) ?_
  refine lv_iload_n hx hb dX3_nearOf_4 rfl (lv_at hl 2 rfl) ?_
  refine lv_lload_n hx hb dX3_nearOf_5 rfl (lv_at hl 3 rfl) ?_
  obtain ⟨v1, hv, hf⟩ := bd hf
  refine r_Vv (As := [.int a1, .long a2]) (rest := []) X (met_X3_looksAt l G _ _ _ N st a1 a2 v1 hv) cv_X3_looksAt q1293 (m_recv hK hH) rfl rfl hl.1 (Nat.le_of_ble_eq_true rfl) ⟨Nat.le_of_ble_eq_true rfl, Nat.le_of_ble_eq_true rfl⟩ ⟨Nat.le_refl _, Nat.le_refl _⟩ dX3_nearOf_6 hK hH hS (fun H locs hH hS => ?_)
  refine lv_iconst (v := (0 : Int32)) hx hb dX3_nearOf_9 (by decide) ?_
  refine lv_istore (lv' := [(6, .int (0 : Int32)), (5, .int (0 : Int32)), (0, .ref M), (1, .int a1), (2, .long a2), (4, .int a4)]) hx hb dX3_nearOf_10 hl (by decide) rfl (fun ls hl => ?_)
  obtain ⟨r12_3, hr, hf⟩ := bd hf
  refine L12 a1 a4 v1 N _ r12_3 hr ?_ _ _ _ (lv_sub hl [2, 3, 5, 1, 0] rfl) hH hS
  intro ls H locs hl hH hS
  refine lv_iload hx hb dX3_nearOf_50 (lv_at hl 0 rfl) ?_
  cases hf
  exact r_iret X dX3_nearOf_52 (Nat.le_refl _) (Nat.le_refl _) rfl hH hS
theorem cv_X3_near : CalV "WordBenchModel" yX3_near cX3_near 5 (some .int) 3 := ⟨q1302, q1303, q57, q1304, by decide +kernel⟩
set_option maxHeartbeats 4000000 in
theorem met_X3_near (l : Launch) (G : GG) (sz M : Nat) (rst : Nat → Option AE) (N : Nat) (st : MS) (a1 : Int32) (a2 : Int64) (a4 : Int32) (stf : MS) (rf : Int32) (hf : f_X3_near N st a1 a2 a4 = some (stf, rf)) : Con l yX3_near cX3_near 5 (some .int) 6 0 0 G (sz, MH M st rst) [.ref M, .int a1, .long a2, .int a4] (sz, MH M stf rst) (some (.int rf)) := by
  refine con_of (by decide) (Nat.le_of_ble_eq_true rfl) ?_
  intro p e s m below meth c ls X hK hH hl hS
  have hx := X.1
  have hb := X.2.1
  have hown : s.vm.findClass RX3 = some m.cls := X.2.2.2.2.1
  have hts := X.2.2.2.2.2.1
  have hl : lv_has ls 5 [(0, .ref M), (1, .int a1), (2, .long a2), (4, .int a4)] := hl
  unfold f_X3_near at hf
  refine lv_aload_n hx hb dX3_near_0 rfl (lv_at hl 0 rfl) ?_
  refine lv_iload_n hx hb dX3_near_1 rfl (lv_at hl 1 rfl) ?_
  obtain ⟨v1, hv, hf⟩ := bd hf
  refine r_Vi (As := [.int a1]) (rest := []) X (met_X3_lacks l G _ _ _ N st a1 v1 hv) cv_X3_lacks q1236 (m_recv hK hH) rfl rfl hl.1 (Nat.le_of_ble_eq_true rfl) ⟨Nat.le_of_ble_eq_true rfl, Nat.le_of_ble_eq_true rfl⟩ ⟨Nat.le_refl _, Nat.le_refl _⟩ dX3_near_2 hK hH hS (fun H locs hH hS => ?_)
  refine lv_if_eq (tgt := 14) hx hb dX3_near_5 (by decide) (fun c_ => ?_) (fun c_ => ?_)
  · have hf := (if_pos c_).symm.trans hf
    refine lv_aload_n hx hb dX3_near_14 rfl (lv_at hl 0 rfl) ?_
    refine lv_iload_n hx hb dX3_near_15 rfl (lv_at hl 1 rfl) ?_
    refine lv_lload_n hx hb dX3_near_16 rfl (lv_at hl 2 rfl) ?_
    obtain ⟨v2, hv, hf⟩ := bd hf
    refine r_Vi (As := [.int a1, .long a2]) (rest := []) X (met_X3_hasWord l G _ _ _ N st a1 a2 v2 hv) cv_X3_hasWord q1152 (m_recv hK hH) rfl rfl hl.1 (Nat.le_of_ble_eq_true rfl) ⟨Nat.le_of_ble_eq_true rfl, Nat.le_of_ble_eq_true rfl⟩ ⟨Nat.le_refl _, Nat.le_refl _⟩ dX3_near_17 hK hH hS (fun H locs hH hS => ?_)
    refine lv_if_eq (tgt := 40) hx hb dX3_near_20 (by decide) (fun c_ => ?_) (fun c_ => ?_)
    · have hf := (if_pos c_).symm.trans hf
      refine lv_iconst (v := (-1 : Int32)) hx hb dX3_near_40 (by decide) ?_
      cases hf
      exact r_iret X dX3_near_41 (Nat.le_refl _) (Nat.le_refl _) rfl hH hS
    · have hf := (if_neg c_).symm.trans hf
      refine lv_iload hx hb dX3_near_23 (lv_at hl 3 rfl) ?_
      refine lv_i2l (v := (a4).toInt64) hx hb dX3_near_25 rfl ?_
      refine lv_lconst (v := (0 : Int64)) hx hb dX3_near_26 (by decide) ?_
      refine lv_aload_n hx hb dX3_near_27 rfl (lv_at hl 0 rfl) ?_
      refine m_get X hK hH 3 (by decide) rfl (mg_3 _ _) q1062 dX3_near_28 ?_
      refine lv_iload_n hx hb dX3_near_31 rfl (lv_at hl 1 rfl) ?_
      obtain ⟨v3, hv, hf⟩ := bd hf
      refine m_iald X hK hH 3 (mc_3 _ _) hv dX3_near_32 ?_
      refine lv_i2l (v := (v3).toInt64) hx hb dX3_near_33 rfl ?_
      obtain ⟨v4, hv, hf⟩ := bd hf
      refine r_Si (As := [.long ((a4).toInt64), .long (0 : Int64), .long ((v3).toInt64)]) (rest := []) X (met_X3_isIn l G _ N ((a4).toInt64) (0 : Int64) ((v3).toInt64) v4 hv) cs_X3_isIn q1015 rfl rfl hl.1 (Nat.le_of_ble_eq_true rfl) ⟨Nat.le_of_ble_eq_true rfl, Nat.le_of_ble_eq_true rfl⟩ ⟨Nat.le_refl _, Nat.le_refl _⟩ dX3_near_34 hK hH hS (fun H locs hH hS => ?_)
      refine lv_if_ne (tgt := 42) hx hb dX3_near_37 (by decide) (fun c_ => ?_) (fun c_ => ?_)
      · have hf := (if_neg c_).symm.trans hf
        refine lv_aload_n hx hb dX3_near_42 rfl (lv_at hl 0 rfl) ?_
        refine lv_iload_n hx hb dX3_near_43 rfl (lv_at hl 1 rfl) ?_
        obtain ⟨v5, hv, hf⟩ := bd hf
        refine r_Vi (As := [.int a1]) (rest := []) X (met_X3_lays l G _ _ _ N st a1 v5.1 v5.2 hv) cv_X3_lays q1240 (m_recv hK hH) rfl rfl hl.1 (Nat.le_of_ble_eq_true rfl) ⟨Nat.le_of_ble_eq_true rfl, Nat.le_of_ble_eq_true rfl⟩ ⟨Nat.le_refl _, Nat.le_refl _⟩ dX3_near_44 hK hH hS (fun H locs hH hS => ?_)
        refine lv_if_eq (tgt := 61) hx hb dX3_near_47 (by decide) (fun c_ => ?_) (fun c_ => ?_)
        · have hf := (if_pos c_).symm.trans hf
          refine lv_bipush (v := (-5 : Int32)) hx hb dX3_near_61 (by decide) ?_
          cases hf
          exact r_iret X dX3_near_63 (Nat.le_refl _) (Nat.le_refl _) rfl hH hS
        · have hf := (if_neg c_).symm.trans hf
          refine lv_aload_n hx hb dX3_near_50 rfl (lv_at hl 0 rfl) ?_
          refine lv_iload_n hx hb dX3_near_51 rfl (lv_at hl 1 rfl) ?_
          refine lv_lload_n hx hb dX3_near_52 rfl (lv_at hl 2 rfl) ?_
          refine lv_iload hx hb dX3_near_53 (lv_at hl 3 rfl) ?_
          obtain ⟨v6, hv, hf⟩ := bd hf
          refine r_Vi (As := [.int a1, .long a2, .int a4]) (rest := []) X (met_X3_nearOf l G _ _ _ N v5.1 a1 a2 a4 v6.1 v6.2 hv) cv_X3_nearOf q1305 (m_recv hK hH) rfl rfl hl.1 (Nat.le_of_ble_eq_true rfl) ⟨Nat.le_of_ble_eq_true rfl, Nat.le_of_ble_eq_true rfl⟩ ⟨Nat.le_refl _, Nat.le_refl _⟩ dX3_near_55 hK hH hS (fun H locs hH hS => ?_)
          refine lv_goto (tgt := 63) hx hb dX3_near_58 (by decide) ?_
          cases hf
          exact r_iret X dX3_near_63 (Nat.le_refl _) (Nat.le_refl _) rfl hH hS
      · have hf := (if_pos c_).symm.trans hf
        refine lv_iconst (v := (-1 : Int32)) hx hb dX3_near_40 (by decide) ?_
        cases hf
        exact r_iret X dX3_near_41 (Nat.le_refl _) (Nat.le_refl _) rfl hH hS
  · have hf := (if_neg c_).symm.trans hf
    refine lv_aload_n hx hb dX3_near_8 rfl (lv_at hl 0 rfl) ?_
    refine lv_iload_n hx hb dX3_near_9 rfl (lv_at hl 1 rfl) ?_
    obtain ⟨v7, hv, hf⟩ := bd hf
    refine r_Vi (As := [.int a1]) (rest := []) X (met_X3_lacks l G _ _ _ N st a1 v7 hv) cv_X3_lacks q1236 (m_recv hK hH) rfl rfl hl.1 (Nat.le_of_ble_eq_true rfl) ⟨Nat.le_of_ble_eq_true rfl, Nat.le_of_ble_eq_true rfl⟩ ⟨Nat.le_refl _, Nat.le_refl _⟩ dX3_near_10 hK hH hS (fun H locs hH hS => ?_)
    cases hf
    exact r_iret X dX3_near_13 (Nat.le_refl _) (Nat.le_refl _) rfl hH hS
theorem cv_X3_product : CalV "WordBenchModel" yX3_product cX3_product 7 (some .int) 4 := ⟨q1046, q1047, q57, q1048, by decide +kernel⟩
set_option maxHeartbeats 4000000 in
theorem met_X3_product (l : Launch) (G : GG) (sz M : Nat) (rst : Nat → Option AE) (N : Nat) (st : MS) (a1 : Int32) (a2 : Int32) (a3 : Int64) (a5 : Int64) (rf : Int32) (hf : f_X3_product N st a1 a2 a3 a5 = some rf) : Con l yX3_product cX3_product 7 (some .int) 3 0 0 G (sz, MH M st rst) [.ref M, .int a1, .int a2, .long a3, .long a5] (sz, MH M st rst) (some (.int rf)) := by
  refine con_of (by decide) (Nat.le_of_ble_eq_true rfl) ?_
  intro p e s m below meth c ls X hK hH hl hS
  have hx := X.1
  have hb := X.2.1
  have hown : s.vm.findClass RX3 = some m.cls := X.2.2.2.2.1
  have hts := X.2.2.2.2.2.1
  have hl : lv_has ls 7 [(0, .ref M), (1, .int a1), (2, .int a2), (3, .long a3), (5, .long a5)] := hl
  unfold f_X3_product at hf
  refine lv_iload_n hx hb dX3_product_0 rfl (lv_at hl 1 rfl) ?_
  refine lv_iload_n hx hb dX3_product_1 rfl (lv_at hl 2 rfl) ?_
  obtain ⟨v1, hv, hf⟩ := bd hf
  refine r_Si (As := [.int a1, .int a2]) (rest := []) X (met_X3_isField l G _ N a1 a2 v1 hv) cs_X3_isField q1010 rfl rfl hl.1 (Nat.le_of_ble_eq_true rfl) ⟨Nat.le_of_ble_eq_true rfl, Nat.le_of_ble_eq_true rfl⟩ ⟨Nat.le_refl _, Nat.le_refl _⟩ dX3_product_2 hK hH hS (fun H locs hH hS => ?_)
  refine lv_if_eq (tgt := 38) hx hb dX3_product_5 (by decide) (fun c_ => ?_) (fun c_ => ?_)
  · have hf := (if_pos c_).symm.trans hf
    refine lv_iconst (v := (-1 : Int32)) hx hb dX3_product_38 (by decide) ?_
    cases hf
    exact r_iret X dX3_product_39 (Nat.le_refl _) (Nat.le_refl _) rfl hH hS
  · have hf := (if_neg c_).symm.trans hf
    refine lv_iload_n hx hb dX3_product_8 rfl (lv_at hl 1 rfl) ?_
    refine lv_iload_n hx hb dX3_product_9 rfl (lv_at hl 2 rfl) ?_
    refine lv_lload_n hx hb dX3_product_10 rfl (lv_at hl 3 rfl) ?_
    obtain ⟨v2, hv, hf⟩ := bd hf
    refine r_Si (As := [.int a1, .int a2, .long a3]) (rest := []) X (met_X3_isWord l G _ N a1 a2 a3 v2 hv) cs_X3_isWord q1019 rfl rfl hl.1 (Nat.le_of_ble_eq_true rfl) ⟨Nat.le_of_ble_eq_true rfl, Nat.le_of_ble_eq_true rfl⟩ ⟨Nat.le_refl _, Nat.le_refl _⟩ dX3_product_11 hK hH hS (fun H locs hH hS => ?_)
    refine lv_if_eq (tgt := 38) hx hb dX3_product_14 (by decide) (fun c_ => ?_) (fun c_ => ?_)
    · have hf := (if_pos c_).symm.trans hf
      refine lv_iconst (v := (-1 : Int32)) hx hb dX3_product_38 (by decide) ?_
      cases hf
      exact r_iret X dX3_product_39 (Nat.le_refl _) (Nat.le_refl _) rfl hH hS
    · have hf := (if_neg c_).symm.trans hf
      refine lv_iload_n hx hb dX3_product_17 rfl (lv_at hl 1 rfl) ?_
      refine lv_iload_n hx hb dX3_product_18 rfl (lv_at hl 2 rfl) ?_
      refine lv_lload hx hb dX3_product_19 (lv_at hl 4 rfl) ?_
      obtain ⟨v3, hv, hf⟩ := bd hf
      refine r_Si (As := [.int a1, .int a2, .long a5]) (rest := []) X (met_X3_isWord l G _ N a1 a2 a5 v3 hv) cs_X3_isWord q1019 rfl rfl hl.1 (Nat.le_of_ble_eq_true rfl) ⟨Nat.le_of_ble_eq_true rfl, Nat.le_of_ble_eq_true rfl⟩ ⟨Nat.le_refl _, Nat.le_refl _⟩ dX3_product_21 hK hH hS (fun H locs hH hS => ?_)
      refine lv_if_eq (tgt := 38) hx hb dX3_product_24 (by decide) (fun c_ => ?_) (fun c_ => ?_)
      · have hf := (if_pos c_).symm.trans hf
        refine lv_iconst (v := (-1 : Int32)) hx hb dX3_product_38 (by decide) ?_
        cases hf
        exact r_iret X dX3_product_39 (Nat.le_refl _) (Nat.le_refl _) rfl hH hS
      · have hf := (if_neg c_).symm.trans hf
        refine lv_iload_n hx hb dX3_product_27 rfl (lv_at hl 1 rfl) ?_
        refine lv_iload_n hx hb dX3_product_28 rfl (lv_at hl 2 rfl) ?_
        refine lv_lload_n hx hb dX3_product_29 rfl (lv_at hl 3 rfl) ?_
        refine lv_lload hx hb dX3_product_30 (lv_at hl 4 rfl) ?_
        obtain ⟨v4, hv, hf⟩ := bd hf
        refine r_Si (As := [.int a1, .int a2, .long a3, .long a5]) (rest := []) X (met_X3_productOf l G _ N a1 a2 a3 a5 v4 hv) cs_X3_productOf q1049 rfl rfl hl.1 (Nat.le_of_ble_eq_true rfl) ⟨Nat.le_of_ble_eq_true rfl, Nat.le_of_ble_eq_true rfl⟩ ⟨Nat.le_refl _, Nat.le_refl _⟩ dX3_product_32 hK hH hS (fun H locs hH hS => ?_)
        refine lv_goto (tgt := 39) hx hb dX3_product_35 (by decide) ?_
        cases hf
        exact r_iret X dX3_product_39 (Nat.le_refl _) (Nat.le_refl _) rfl hH hS
theorem cv_X3_read : CalV "WordBenchModel" yX3_read cX3_read 5 (some .long) 3 := ⟨q1285, q1286, q57, q1287, by decide +kernel⟩
set_option maxHeartbeats 4000000 in
theorem met_X3_read (l : Launch) (G : GG) (sz M : Nat) (rst : Nat → Option AE) (N : Nat) (st : MS) (a1 : Int32) (a2 : Int64) (a4 : Int32) (stf : MS) (rf : Int64) (hf : f_X3_read N st a1 a2 a4 = some (stf, rf)) : Con l yX3_read cX3_read 5 (some .long) 6 0 0 G (sz, MH M st rst) [.ref M, .int a1, .long a2, .int a4] (sz, MH M stf rst) (some (.long rf)) := by
  refine con_of (by decide) (Nat.le_of_ble_eq_true rfl) ?_
  intro p e s m below meth c ls X hK hH hl hS
  have hx := X.1
  have hb := X.2.1
  have hown : s.vm.findClass RX3 = some m.cls := X.2.2.2.2.1
  have hts := X.2.2.2.2.2.1
  have hl : lv_has ls 5 [(0, .ref M), (1, .int a1), (2, .long a2), (4, .int a4)] := hl
  unfold f_X3_read at hf
  refine lv_aload_n hx hb dX3_read_0 rfl (lv_at hl 0 rfl) ?_
  refine lv_iload_n hx hb dX3_read_1 rfl (lv_at hl 1 rfl) ?_
  obtain ⟨v1, hv, hf⟩ := bd hf
  refine r_Vi (As := [.int a1]) (rest := []) X (met_X3_lacks l G _ _ _ N st a1 v1 hv) cv_X3_lacks q1236 (m_recv hK hH) rfl rfl hl.1 (Nat.le_of_ble_eq_true rfl) ⟨Nat.le_of_ble_eq_true rfl, Nat.le_of_ble_eq_true rfl⟩ ⟨Nat.le_refl _, Nat.le_refl _⟩ dX3_read_2 hK hH hS (fun H locs hH hS => ?_)
  refine lv_if_eq (tgt := 15) hx hb dX3_read_5 (by decide) (fun c_ => ?_) (fun c_ => ?_)
  · have hf := (if_pos c_).symm.trans hf
    refine lv_aload_n hx hb dX3_read_15 rfl (lv_at hl 0 rfl) ?_
    refine lv_iload_n hx hb dX3_read_16 rfl (lv_at hl 1 rfl) ?_
    refine lv_lload_n hx hb dX3_read_17 rfl (lv_at hl 2 rfl) ?_
    obtain ⟨v2, hv, hf⟩ := bd hf
    refine r_Vi (As := [.int a1, .long a2]) (rest := []) X (met_X3_hasWord l G _ _ _ N st a1 a2 v2 hv) cv_X3_hasWord q1152 (m_recv hK hH) rfl rfl hl.1 (Nat.le_of_ble_eq_true rfl) ⟨Nat.le_of_ble_eq_true rfl, Nat.le_of_ble_eq_true rfl⟩ ⟨Nat.le_refl _, Nat.le_refl _⟩ dX3_read_18 hK hH hS (fun H locs hH hS => ?_)
    refine lv_if_eq (tgt := 45) hx hb dX3_read_21 (by decide) (fun c_ => ?_) (fun c_ => ?_)
    · have hf := (if_pos c_).symm.trans hf
      refine lv_ldc2 (v := (-1 : Int64)) hx hb hown (hts _ q1025) dX3_read_45 ?_
      cases hf
      exact r_lret X dX3_read_48 (Nat.le_refl _) (Nat.le_refl _) rfl hH hS
    · have hf := (if_neg c_).symm.trans hf
      refine lv_iload hx hb dX3_read_24 (lv_at hl 3 rfl) ?_
      refine lv_i2l (v := (a4).toInt64) hx hb dX3_read_26 rfl ?_
      refine lv_lconst (v := (0 : Int64)) hx hb dX3_read_27 (by decide) ?_
      refine lv_iconst (v := (1 : Int32)) hx hb dX3_read_28 (by decide) ?_
      refine lv_aload_n hx hb dX3_read_29 rfl (lv_at hl 0 rfl) ?_
      refine m_get X hK hH 3 (by decide) rfl (mg_3 _ _) q1062 dX3_read_30 ?_
      refine lv_iload_n hx hb dX3_read_33 rfl (lv_at hl 1 rfl) ?_
      obtain ⟨v3, hv, hf⟩ := bd hf
      refine m_iald X hK hH 3 (mc_3 _ _) hv dX3_read_34 ?_
      refine lv_ishl hx hb dX3_read_35 ?_
      refine lv_iconst (v := (1 : Int32)) hx hb dX3_read_36 (by decide) ?_
      refine lv_isub hx hb dX3_read_37 ?_
      refine lv_i2l (v := ((((1 : Int32) <<< (v3 &&& 31)) - (1 : Int32))).toInt64) hx hb dX3_read_38 rfl ?_
      obtain ⟨v4, hv, hf⟩ := bd hf
      refine r_Si (As := [.long ((a4).toInt64), .long (0 : Int64), .long (((((1 : Int32) <<< (v3 &&& 31)) - (1 : Int32))).toInt64)]) (rest := []) X (met_X3_isIn l G _ N ((a4).toInt64) (0 : Int64) (((((1 : Int32) <<< (v3 &&& 31)) - (1 : Int32))).toInt64) v4 hv) cs_X3_isIn q1015 rfl rfl hl.1 (Nat.le_of_ble_eq_true rfl) ⟨Nat.le_of_ble_eq_true rfl, Nat.le_of_ble_eq_true rfl⟩ ⟨Nat.le_refl _, Nat.le_refl _⟩ dX3_read_39 hK hH hS (fun H locs hH hS => ?_)
      refine lv_if_ne (tgt := 49) hx hb dX3_read_42 (by decide) (fun c_ => ?_) (fun c_ => ?_)
      · have hf := (if_neg c_).symm.trans hf
        refine lv_aload_n hx hb dX3_read_49 rfl (lv_at hl 0 rfl) ?_
        refine lv_iload_n hx hb dX3_read_50 rfl (lv_at hl 1 rfl) ?_
        obtain ⟨v5, hv, hf⟩ := bd hf
        refine r_Vi (As := [.int a1]) (rest := []) X (met_X3_lays l G _ _ _ N st a1 v5.1 v5.2 hv) cv_X3_lays q1240 (m_recv hK hH) rfl rfl hl.1 (Nat.le_of_ble_eq_true rfl) ⟨Nat.le_of_ble_eq_true rfl, Nat.le_of_ble_eq_true rfl⟩ ⟨Nat.le_refl _, Nat.le_refl _⟩ dX3_read_51 hK hH hS (fun H locs hH hS => ?_)
        refine lv_if_ne (tgt := 61) hx hb dX3_read_54 (by decide) (fun c_ => ?_) (fun c_ => ?_)
        · have hf := (if_neg c_).symm.trans hf
          refine lv_aload_n hx hb dX3_read_61 rfl (lv_at hl 0 rfl) ?_
          refine m_get X hK hH 11 (by decide) rfl (mg_11 _ _) q1070 dX3_read_62 ?_
          refine lv_if_ne (tgt := 74) hx hb dX3_read_65 (by decide) (fun c_ => ?_) (fun c_ => ?_)
          · have hf := (if_neg c_).symm.trans hf
            refine lv_aload_n hx hb dX3_read_74 rfl (lv_at hl 0 rfl) ?_
            refine m_get X hK hH 10 (by decide) rfl (mg_10 _ _) q1069 dX3_read_75 ?_
            refine lv_aload_n hx hb dX3_read_78 rfl (lv_at hl 0 rfl) ?_
            refine lv_iload_n hx hb dX3_read_79 rfl (lv_at hl 1 rfl) ?_
            refine lv_lload_n hx hb dX3_read_80 rfl (lv_at hl 2 rfl) ?_
            refine lv_iload hx hb dX3_read_81 (lv_at hl 3 rfl) ?_
            obtain ⟨v6, hv, hf⟩ := bd hf
            refine r_Vi (As := [.int a1, .long a2, .int a4]) (rest := [.ref (M + 9)]) X (met_X3_nearest l G _ _ _ N v5.1 a1 a2 a4 v6.1 v6.2 hv) cv_X3_nearest q1289 (m_recv hK hH) rfl rfl hl.1 (Nat.le_of_ble_eq_true rfl) ⟨Nat.le_of_ble_eq_true rfl, Nat.le_of_ble_eq_true rfl⟩ ⟨Nat.le_refl _, Nat.le_refl _⟩ dX3_read_83 hK hH hS (fun H locs hH hS => ?_)
            obtain ⟨v7, hv, hf⟩ := bd hf
            refine m_lald X hK hH 9 (mc_10 _ _) hv dX3_read_86 ?_
            cases hf
            exact r_lret X dX3_read_87 (Nat.le_refl _) (Nat.le_refl _) rfl hH hS
          · have hf := (if_pos c_).symm.trans hf
            refine lv_ldc2 (v := (-2 : Int64)) hx hb hown (hts _ q1288) dX3_read_68 ?_
            refine lv_goto (tgt := 87) hx hb dX3_read_71 (by decide) ?_
            cases hf
            exact r_lret X dX3_read_87 (Nat.le_refl _) (Nat.le_refl _) rfl hH hS
        · have hf := (if_pos c_).symm.trans hf
          refine lv_ldc2 (v := (-5 : Int64)) hx hb hown (hts _ q1261) dX3_read_57 ?_
          cases hf
          exact r_lret X dX3_read_60 (Nat.le_refl _) (Nat.le_refl _) rfl hH hS
      · have hf := (if_pos c_).symm.trans hf
        refine lv_ldc2 (v := (-1 : Int64)) hx hb hown (hts _ q1025) dX3_read_45 ?_
        cases hf
        exact r_lret X dX3_read_48 (Nat.le_refl _) (Nat.le_refl _) rfl hH hS
  · have hf := (if_neg c_).symm.trans hf
    refine lv_aload_n hx hb dX3_read_8 rfl (lv_at hl 0 rfl) ?_
    refine lv_iload_n hx hb dX3_read_9 rfl (lv_at hl 1 rfl) ?_
    obtain ⟨v8, hv, hf⟩ := bd hf
    refine r_Vi (As := [.int a1]) (rest := []) X (met_X3_lacks l G _ _ _ N st a1 v8 hv) cv_X3_lacks q1236 (m_recv hK hH) rfl rfl hl.1 (Nat.le_of_ble_eq_true rfl) ⟨Nat.le_of_ble_eq_true rfl, Nat.le_of_ble_eq_true rfl⟩ ⟨Nat.le_refl _, Nat.le_refl _⟩ dX3_read_10 hK hH hS (fun H locs hH hS => ?_)
    refine lv_i2l (v := (v8).toInt64) hx hb dX3_read_13 rfl ?_
    cases hf
    exact r_lret X dX3_read_14 (Nat.le_refl _) (Nat.le_refl _) rfl hH hS
theorem cv_X3_ring : CalV "WordBenchModel" yX3_ring cX3_ring 11 (some .int) 4 := ⟨q1165, q1166, q57, q1167, by decide +kernel⟩
set_option maxHeartbeats 4000000 in
theorem met_X3_ring (l : Launch) (G : GG) (sz M : Nat) (rst : Nat → Option AE) (N : Nat) (st : MS) (a1 : Int32) (a2 : Int32) (a3 : Int32) (a4 : Int64) (stf : MS) (rf : Int32) (hf : f_X3_ring N st a1 a2 a3 a4 = some (stf, rf)) : Con l yX3_ring cX3_ring 11 (some .int) 2 0 0 G (sz, MH M st rst) [.ref M, .int a1, .int a2, .int a3, .long a4] (sz, MH M stf rst) (some (.int rf)) := by
  refine con_of (by decide) (Nat.le_of_ble_eq_true rfl) ?_
  intro p e s m below meth c ls X hK hH hl hS
  have hx := X.1
  have hb := X.2.1
  have hown : s.vm.findClass RX3 = some m.cls := X.2.2.2.2.1
  have hts := X.2.2.2.2.2.1
  have hl : lv_has ls 11 [(0, .ref M), (1, .int a1), (2, .int a2), (3, .int a3), (4, .long a4)] := hl
  unfold f_X3_ring at hf
  have L38 : ∀ (c1 : Int32) (c2 : Int32) (c3 : Int32) (c4 : Int64) (t38 : MS) (n : Nat) (s38 : Int32) (r38 : Int32), lp (f_X3_ring_b38 N c1 c2 c3 c4 t38) n s38 = some r38 → (∀ (ls : Array Slot) (H : Heap) (locs : List Loc), lv_has ls 11 [(0, .ref M), (1, .int c1), (2, .int c2), (3, .int c3), (4, .long c4), (6, .int r38)] → HH G (sz, MH M t38 rst) H → va_S (AG G) s.heap H locs → W p l e (rm_ 2 0 0) s m ([.ref M, .int a1, .int a2, .int a3, .long a4] : List Value).toArray below meth c H locs 0 0 (MQ below (PostC G (sz, MH M stf rst) (some (.int rf))) ([.ref M, .int a1, .int a2, .int a3, .long a4] : List Value).toArray s 0 0 (AG G)) (F0 m 58 ls [])) → ∀ (ls : Array Slot) (H : Heap) (locs : List Loc), lv_has ls 11 [(0, .ref M), (1, .int c1), (2, .int c2), (3, .int c3), (4, .long c4), (6, .int s38)] → HH G (sz, MH M t38 rst) H → va_S (AG G) s.heap H locs → W p l e (rm_ 2 0 0) s m ([.ref M, .int a1, .int a2, .int a3, .long a4] : List Value).toArray below meth c H locs 0 0 (MQ below (PostC G (sz, MH M stf rst) (some (.int rf))) ([.ref M, .int a1, .int a2, .int a3, .long a4] : List Value).toArray s 0 0 (AG G)) (F0 m 38 ls []) := by
    intro c1 c2 c3 c4 t38 n s38 r38 hr hq
    refine lp_ind (P := fun s38 => ∀ (ls : Array Slot) (H : Heap) (locs : List Loc), lv_has ls 11 [(0, .ref M), (1, .int c1), (2, .int c2), (3, .int c3), (4, .long c4), (6, .int s38)] → HH G (sz, MH M t38 rst) H → va_S (AG G) s.heap H locs → W p l e (rm_ 2 0 0) s m ([.ref M, .int a1, .int a2, .int a3, .long a4] : List Value).toArray below meth c H locs 0 0 (MQ below (PostC G (sz, MH M stf rst) (some (.int rf))) ([.ref M, .int a1, .int a2, .int a3, .long a4] : List Value).toArray s 0 0 (AG G)) (F0 m 38 ls [])) (Q := fun r38 => ∀ (ls : Array Slot) (H : Heap) (locs : List Loc), lv_has ls 11 [(0, .ref M), (1, .int c1), (2, .int c2), (3, .int c3), (4, .long c4), (6, .int r38)] → HH G (sz, MH M t38 rst) H → va_S (AG G) s.heap H locs → W p l e (rm_ 2 0 0) s m ([.ref M, .int a1, .int a2, .int a3, .long a4] : List Value).toArray below meth c H locs 0 0 (MQ below (PostC G (sz, MH M stf rst) (some (.int rf))) ([.ref M, .int a1, .int a2, .int a3, .long a4] : List Value).toArray s 0 0 (AG G)) (F0 m 58 ls [])) ?_ n s38 r38 hr hq
    intro s38 x38 hf hx38 ls H locs hl hH hS
    unfold f_X3_ring_b38 at hf
    refine lv_lload hx hb dX3_ring_38 (lv_at hl 4 rfl) ?_
    refine lv_iload_n hx hb dX3_ring_40 rfl (lv_at hl 2 rfl) ?_
    refine lv_iload hx hb dX3_ring_41 (lv_at hl 5 rfl) ?_
    refine lv_iconst (v := (1 : Int32)) hx hb dX3_ring_43 (by decide) ?_
    refine lv_iadd hx hb dX3_ring_44 ?_
    obtain ⟨v4, hv, hf⟩ := bd hf
    refine r_Sl (As := [.int c2, .int (s38 + (1 : Int32))]) (rest := [.long c4]) X (met_X3_power l G _ N c2 (s38 + (1 : Int32)) v4 hv) cs_X3_power q1022 rfl rfl hl.1 (Nat.le_of_ble_eq_true rfl) ⟨Nat.le_of_ble_eq_true rfl, Nat.le_of_ble_eq_true rfl⟩ ⟨Nat.le_refl _, Nat.le_refl _⟩ dX3_ring_45 hK hH hS (fun H locs hH hS => ?_)
    refine W.lcmp hx hb dX3_ring_48 ?_
    refine lv_if_lt (tgt := 58) hx hb dX3_ring_49 (by decide) (fun c_ => ?_) (fun c_ => ?_)
    · have hf := (if_pos ((lg_cmp_lt c4 v4).mp c_)).symm.trans hf
      cases hf
      exact hx38 _ _ _ (lv_sub hl [0, 1, 2, 3, 4, 5] rfl) hH hS
    · have hf := (if_neg (fun z => c_ ((lg_cmp_lt c4 v4).mpr z))).symm.trans hf
      refine lv_iinc (v := (s38 + 1)) (lv' := [(6, .int (s38 + 1)), (0, .ref M), (1, .int c1), (2, .int c2), (3, .int c3), (4, .long c4)]) hx hb dX3_ring_52 hl (k := 5) rfl rfl (by decide) rfl (fun ls hl => ?_)
      refine lv_goto (tgt := 38) hx hb dX3_ring_55 (by decide) ?_
      cases hf
      exact hx38 _ _ _ (lv_sub hl [1, 2, 3, 4, 5, 0] rfl) hH hS
  have L69 : ∀ (c1 : Int32) (c2 : Int32) (c3 : Int32) (c4 : Int64) (c6 : Int32) (n : Nat) (s69 : (Int32 × MS)) (r69 : MS), lp (f_X3_ring_b69 N c1 c2 c3 c4 c6) n s69 = some r69 → (∀ (ls : Array Slot) (H : Heap) (locs : List Loc), lv_has ls 11 [(0, .ref M), (1, .int c1)] → HH G (sz, MH M r69 rst) H → va_S (AG G) s.heap H locs → W p l e (rm_ 2 0 0) s m ([.ref M, .int a1, .int a2, .int a3, .long a4] : List Value).toArray below meth c H locs 0 0 (MQ below (PostC G (sz, MH M stf rst) (some (.int rf))) ([.ref M, .int a1, .int a2, .int a3, .long a4] : List Value).toArray s 0 0 (AG G)) (F0 m 143 ls [])) → ∀ (ls : Array Slot) (H : Heap) (locs : List Loc), lv_has ls 11 [(0, .ref M), (1, .int c1), (2, .int c2), (3, .int c3), (4, .long c4), (6, .int c6), (7, .int s69.1)] → HH G (sz, MH M s69.2 rst) H → va_S (AG G) s.heap H locs → W p l e (rm_ 2 0 0) s m ([.ref M, .int a1, .int a2, .int a3, .long a4] : List Value).toArray below meth c H locs 0 0 (MQ below (PostC G (sz, MH M stf rst) (some (.int rf))) ([.ref M, .int a1, .int a2, .int a3, .long a4] : List Value).toArray s 0 0 (AG G)) (F0 m 69 ls []) := by
    intro c1 c2 c3 c4 c6 n s69 r69 hr hq
    refine lp_ind (P := fun s69 => ∀ (ls : Array Slot) (H : Heap) (locs : List Loc), lv_has ls 11 [(0, .ref M), (1, .int c1), (2, .int c2), (3, .int c3), (4, .long c4), (6, .int c6), (7, .int s69.1)] → HH G (sz, MH M s69.2 rst) H → va_S (AG G) s.heap H locs → W p l e (rm_ 2 0 0) s m ([.ref M, .int a1, .int a2, .int a3, .long a4] : List Value).toArray below meth c H locs 0 0 (MQ below (PostC G (sz, MH M stf rst) (some (.int rf))) ([.ref M, .int a1, .int a2, .int a3, .long a4] : List Value).toArray s 0 0 (AG G)) (F0 m 69 ls [])) (Q := fun r69 => ∀ (ls : Array Slot) (H : Heap) (locs : List Loc), lv_has ls 11 [(0, .ref M), (1, .int c1)] → HH G (sz, MH M r69 rst) H → va_S (AG G) s.heap H locs → W p l e (rm_ 2 0 0) s m ([.ref M, .int a1, .int a2, .int a3, .long a4] : List Value).toArray below meth c H locs 0 0 (MQ below (PostC G (sz, MH M stf rst) (some (.int rf))) ([.ref M, .int a1, .int a2, .int a3, .long a4] : List Value).toArray s 0 0 (AG G)) (F0 m 143 ls [])) ?_ n s69 r69 hr hq
    intro s69 x69 hf hx69 ls H locs hl hH hS
    unfold f_X3_ring_b69 at hf
    have L84 : ∀ (c1 : Int32) (c2 : Int32) (c3 : Int32) (c4 : Int64) (c6 : Int32) (c7 : Int32) (t84 : MS) (n : Nat) (s84 : (Int64 × Int32)) (r84 : Int64), lp (f_X3_ring_b84 N c1 c2 c3 c4 c6 c7 t84) n s84 = some r84 → (∀ (ls : Array Slot) (H : Heap) (locs : List Loc), lv_has ls 11 [(0, .ref M), (1, .int c1), (2, .int c2), (3, .int c3), (4, .long c4), (6, .int c6), (7, .int c7), (8, .long r84)] → HH G (sz, MH M t84 rst) H → va_S (AG G) s.heap H locs → W p l e (rm_ 2 0 0) s m ([.ref M, .int a1, .int a2, .int a3, .long a4] : List Value).toArray below meth c H locs 0 0 (MQ below (PostC G (sz, MH M stf rst) (some (.int rf))) ([.ref M, .int a1, .int a2, .int a3, .long a4] : List Value).toArray s 0 0 (AG G)) (F0 m 128 ls [])) → ∀ (ls : Array Slot) (H : Heap) (locs : List Loc), lv_has ls 11 [(0, .ref M), (1, .int c1), (2, .int c2), (3, .int c3), (4, .long c4), (6, .int c6), (7, .int c7), (8, .long s84.1), (10, .int s84.2)] → HH G (sz, MH M t84 rst) H → va_S (AG G) s.heap H locs → W p l e (rm_ 2 0 0) s m ([.ref M, .int a1, .int a2, .int a3, .long a4] : List Value).toArray below meth c H locs 0 0 (MQ below (PostC G (sz, MH M stf rst) (some (.int rf))) ([.ref M, .int a1, .int a2, .int a3, .long a4] : List Value).toArray s 0 0 (AG G)) (F0 m 84 ls []) := by
      intro c1 c2 c3 c4 c6 c7 t84 n s84 r84 hr hq
      refine lp_ind (P := fun s84 => ∀ (ls : Array Slot) (H : Heap) (locs : List Loc), lv_has ls 11 [(0, .ref M), (1, .int c1), (2, .int c2), (3, .int c3), (4, .long c4), (6, .int c6), (7, .int c7), (8, .long s84.1), (10, .int s84.2)] → HH G (sz, MH M t84 rst) H → va_S (AG G) s.heap H locs → W p l e (rm_ 2 0 0) s m ([.ref M, .int a1, .int a2, .int a3, .long a4] : List Value).toArray below meth c H locs 0 0 (MQ below (PostC G (sz, MH M stf rst) (some (.int rf))) ([.ref M, .int a1, .int a2, .int a3, .long a4] : List Value).toArray s 0 0 (AG G)) (F0 m 84 ls [])) (Q := fun r84 => ∀ (ls : Array Slot) (H : Heap) (locs : List Loc), lv_has ls 11 [(0, .ref M), (1, .int c1), (2, .int c2), (3, .int c3), (4, .long c4), (6, .int c6), (7, .int c7), (8, .long r84)] → HH G (sz, MH M t84 rst) H → va_S (AG G) s.heap H locs → W p l e (rm_ 2 0 0) s m ([.ref M, .int a1, .int a2, .int a3, .long a4] : List Value).toArray below meth c H locs 0 0 (MQ below (PostC G (sz, MH M stf rst) (some (.int rf))) ([.ref M, .int a1, .int a2, .int a3, .long a4] : List Value).toArray s 0 0 (AG G)) (F0 m 128 ls [])) ?_ n s84 r84 hr hq
      intro s84 x84 hf hx84 ls H locs hl hH hS
      unfold f_X3_ring_b84 at hf
      refine lv_iload hx hb dX3_ring_84 (lv_at hl 8 rfl) ?_
      refine lv_iload hx hb dX3_ring_86 (lv_at hl 5 rfl) ?_
      refine lv_icmp_gt (tgt := 128) hx hb dX3_ring_88 (by decide) (fun c_ => ?_) (fun c_ => ?_)
      · have hf := (if_pos c_).symm.trans hf
        cases hf
        exact hx84 _ _ _ (lv_sub hl [0, 1, 2, 3, 4, 5, 6, 7] rfl) hH hS
      · have hf := (if_neg c_).symm.trans hf
        refine lv_lload hx hb dX3_ring_91 (lv_at hl 7 rfl) ?_
        refine lv_lload hx hb dX3_ring_93 (lv_at hl 4 rfl) ?_
        refine lv_iload_n hx hb dX3_ring_95 rfl (lv_at hl 2 rfl) ?_
        refine lv_iload hx hb dX3_ring_96 (lv_at hl 8 rfl) ?_
        obtain ⟨v7, hv, hf⟩ := bd hf
        refine r_Sl (As := [.int c2, .int s84.2]) (rest := [.long c4, .long s84.1]) X (met_X3_power l G _ N c2 s84.2 v7 hv) cs_X3_power q1022 rfl rfl hl.1 (Nat.le_of_ble_eq_true rfl) ⟨Nat.le_of_ble_eq_true rfl, Nat.le_of_ble_eq_true rfl⟩ ⟨Nat.le_refl _, Nat.le_refl _⟩ dX3_ring_98 hK hH hS (fun H locs hH hS => ?_)
        obtain ⟨v8, hv, hf⟩ := bd hf
        refine r_ldiv hx hb hv dX3_ring_101 ?_
        refine lv_iload_n hx hb dX3_ring_102 rfl (lv_at hl 2 rfl) ?_
        refine lv_i2l (v := (c2).toInt64) hx hb dX3_ring_103 rfl ?_
        obtain ⟨v9, hv, hf⟩ := bd hf
        refine r_lrem hx hb hv dX3_ring_104 ?_
        refine lv_iload_n hx hb dX3_ring_105 rfl (lv_at hl 2 rfl) ?_
        refine lv_iload_n hx hb dX3_ring_106 rfl (lv_at hl 3 rfl) ?_
        refine lv_iconst (v := (1 : Int32)) hx hb dX3_ring_107 (by decide) ?_
        refine lv_isub hx hb dX3_ring_108 ?_
        refine lv_iload hx hb dX3_ring_109 (lv_at hl 6 rfl) ?_
        refine lv_isub hx hb dX3_ring_111 ?_
        refine lv_iload hx hb dX3_ring_112 (lv_at hl 8 rfl) ?_
        refine lv_isub hx hb dX3_ring_114 ?_
        obtain ⟨v10, hv, hf⟩ := bd hf
        refine r_Sl (As := [.int c2, .int (((c3 - (1 : Int32)) - c7) - s84.2)]) (rest := [.long v9, .long s84.1]) X (met_X3_power l G _ N c2 (((c3 - (1 : Int32)) - c7) - s84.2) v10 hv) cs_X3_power q1022 rfl rfl hl.1 (Nat.le_of_ble_eq_true rfl) ⟨Nat.le_of_ble_eq_true rfl, Nat.le_of_ble_eq_true rfl⟩ ⟨Nat.le_refl _, Nat.le_refl _⟩ dX3_ring_115 hK hH hS (fun H locs hH hS => ?_)
        refine lv_lmul hx hb dX3_ring_118 ?_
        refine lv_ladd hx hb dX3_ring_119 ?_
        refine lv_lstore (lv' := [(8, .long (s84.1 + (v9 * v10))), (0, .ref M), (1, .int c1), (2, .int c2), (3, .int c3), (4, .long c4), (6, .int c6), (7, .int c7), (10, .int s84.2)]) hx hb dX3_ring_120 hl (by decide) rfl (fun ls hl => ?_)
        refine lv_iinc (v := (s84.2 + 1)) (lv' := [(10, .int (s84.2 + 1)), (8, .long (s84.1 + (v9 * v10))), (0, .ref M), (1, .int c1), (2, .int c2), (3, .int c3), (4, .long c4), (6, .int c6), (7, .int c7)]) hx hb dX3_ring_122 hl (k := 8) rfl rfl (by decide) rfl (fun ls hl => ?_)
        refine lv_goto (tgt := 84) hx hb dX3_ring_125 (by decide) ?_
        cases hf
        exact hx84 _ _ _ (lv_sub hl [2, 3, 4, 5, 6, 7, 8, 1, 0] rfl) hH hS
    refine lv_iload hx hb dX3_ring_69 (lv_at hl 6 rfl) ?_
    refine lv_iload_n hx hb dX3_ring_71 rfl (lv_at hl 3 rfl) ?_
    refine lv_iload hx hb dX3_ring_72 (lv_at hl 5 rfl) ?_
    refine lv_isub hx hb dX3_ring_74 ?_
    refine lv_icmp_ge (tgt := 143) hx hb dX3_ring_75 (by decide) (fun c_ => ?_) (fun c_ => ?_)
    · have hf := (if_pos c_).symm.trans hf
      cases hf
      exact hx69 _ _ _ (lv_sub hl [0, 1] rfl) hH hS
    · have hf := (if_neg c_).symm.trans hf
      refine lv_lconst (v := (0 : Int64)) hx hb dX3_ring_78 (by decide) ?_
      refine lv_lstore (lv' := [(8, .long (0 : Int64)), (0, .ref M), (1, .int c1), (2, .int c2), (3, .int c3), (4, .long c4), (6, .int c6), (7, .int s69.1)]) hx hb dX3_ring_79 hl (by decide) rfl (fun ls hl => ?_)
      refine lv_iconst (v := (0 : Int32)) hx hb dX3_ring_81 (by decide) ?_
      refine lv_istore (lv' := [(10, .int (0 : Int32)), (8, .long (0 : Int64)), (0, .ref M), (1, .int c1), (2, .int c2), (3, .int c3), (4, .long c4), (6, .int c6), (7, .int s69.1)]) hx hb dX3_ring_82 hl (by decide) rfl (fun ls hl => ?_)
      obtain ⟨r84_11, hr, hf⟩ := bd hf
      refine L84 c1 c2 c3 c4 c6 s69.1 s69.2 N _ r84_11 hr ?_ _ _ _ (lv_sub hl [2, 3, 4, 5, 6, 7, 8, 1, 0] rfl) hH hS
      intro ls H locs hl hH hS
      refine lv_aload_n hx hb dX3_ring_128 rfl (lv_at hl 0 rfl) ?_
      refine lv_iload_n hx hb dX3_ring_129 rfl (lv_at hl 1 rfl) ?_
      refine lv_lload hx hb dX3_ring_130 (lv_at hl 7 rfl) ?_
      obtain ⟨v12, hv, hf⟩ := bd hf
      refine r_Vi (As := [.int c1, .long r84_11]) (rest := []) X (met_X3_push l G _ _ _ N s69.2 c1 r84_11 v12.1 v12.2 hv) cv_X3_push q1160 (m_recv hK hH) rfl rfl hl.1 (Nat.le_of_ble_eq_true rfl) ⟨Nat.le_of_ble_eq_true rfl, Nat.le_of_ble_eq_true rfl⟩ ⟨Nat.le_refl _, Nat.le_refl _⟩ dX3_ring_132 hK hH hS (fun H locs hH hS => ?_)
      refine lv_istore (lv' := [(10, .int v12.2), (0, .ref M), (1, .int c1), (2, .int c2), (3, .int c3), (4, .long c4), (6, .int c6), (7, .int s69.1), (8, .long r84_11)]) hx hb dX3_ring_135 hl (by decide) rfl (fun ls hl => ?_)
      refine lv_iinc (v := (s69.1 + 1)) (lv' := [(7, .int (s69.1 + 1)), (10, .int v12.2), (0, .ref M), (1, .int c1), (2, .int c2), (3, .int c3), (4, .long c4), (6, .int c6), (8, .long r84_11)]) hx hb dX3_ring_137 hl (k := 7) rfl rfl (by decide) rfl (fun ls hl => ?_)
      refine lv_goto (tgt := 69) hx hb dX3_ring_140 (by decide) ?_
      cases hf
      exact hx69 _ _ _ (lv_sub hl [2, 3, 4, 5, 6, 7, 0] rfl) hH hS
  refine lv_iload_n hx hb dX3_ring_0 rfl (lv_at hl 1 rfl) ?_
  obtain ⟨v1, hv, hf⟩ := bd hf
  refine r_Si (As := [.int a1]) (rest := []) X (met_X3_isPlace l G _ N a1 v1 hv) cs_X3_isPlace q1136 rfl rfl hl.1 (Nat.le_of_ble_eq_true rfl) ⟨Nat.le_of_ble_eq_true rfl, Nat.le_of_ble_eq_true rfl⟩ ⟨Nat.le_refl _, Nat.le_refl _⟩ dX3_ring_1 hK hH hS (fun H locs hH hS => ?_)
  refine lv_if_eq (tgt := 33) hx hb dX3_ring_4 (by decide) (fun c_ => ?_) (fun c_ => ?_)
  · have hf := (if_pos c_).symm.trans hf
    refine lv_iconst (v := (-1 : Int32)) hx hb dX3_ring_33 (by decide) ?_
    cases hf
    exact r_iret X dX3_ring_34 (Nat.le_refl _) (Nat.le_refl _) rfl hH hS
  · have hf := (if_neg c_).symm.trans hf
    refine lv_iload_n hx hb dX3_ring_7 rfl (lv_at hl 2 rfl) ?_
    refine lv_iload_n hx hb dX3_ring_8 rfl (lv_at hl 3 rfl) ?_
    obtain ⟨v2, hv, hf⟩ := bd hf
    refine r_Si (As := [.int a2, .int a3]) (rest := []) X (met_X3_isField l G _ N a2 a3 v2 hv) cs_X3_isField q1010 rfl rfl hl.1 (Nat.le_of_ble_eq_true rfl) ⟨Nat.le_of_ble_eq_true rfl, Nat.le_of_ble_eq_true rfl⟩ ⟨Nat.le_refl _, Nat.le_refl _⟩ dX3_ring_9 hK hH hS (fun H locs hH hS => ?_)
    refine lv_if_eq (tgt := 33) hx hb dX3_ring_12 (by decide) (fun c_ => ?_) (fun c_ => ?_)
    · have hf := (if_pos c_).symm.trans hf
      refine lv_iconst (v := (-1 : Int32)) hx hb dX3_ring_33 (by decide) ?_
      cases hf
      exact r_iret X dX3_ring_34 (Nat.le_refl _) (Nat.le_refl _) rfl hH hS
    · have hf := (if_neg c_).symm.trans hf
      refine lv_lload hx hb dX3_ring_15 (lv_at hl 4 rfl) ?_
      refine lv_lconst (v := (0 : Int64)) hx hb dX3_ring_17 (by decide) ?_
      refine W.lcmp hx hb dX3_ring_18 ?_
      refine lv_if_le (tgt := 33) hx hb dX3_ring_19 (by decide) (fun c_ => ?_) (fun c_ => ?_)
      · have hf := (if_pos ((lg_cmp_le a4 (0 : Int64)).mp c_)).symm.trans hf
        refine lv_iconst (v := (-1 : Int32)) hx hb dX3_ring_33 (by decide) ?_
        cases hf
        exact r_iret X dX3_ring_34 (Nat.le_refl _) (Nat.le_refl _) rfl hH hS
      · have hf := (if_neg (fun z => c_ ((lg_cmp_le a4 (0 : Int64)).mpr z))).symm.trans hf
        refine lv_lload hx hb dX3_ring_22 (lv_at hl 4 rfl) ?_
        refine lv_iload_n hx hb dX3_ring_24 rfl (lv_at hl 2 rfl) ?_
        refine lv_iload_n hx hb dX3_ring_25 rfl (lv_at hl 3 rfl) ?_
        obtain ⟨v3, hv, hf⟩ := bd hf
        refine r_Sl (As := [.int a2, .int a3]) (rest := [.long a4]) X (met_X3_power l G _ N a2 a3 v3 hv) cs_X3_power q1022 rfl rfl hl.1 (Nat.le_of_ble_eq_true rfl) ⟨Nat.le_of_ble_eq_true rfl, Nat.le_of_ble_eq_true rfl⟩ ⟨Nat.le_refl _, Nat.le_refl _⟩ dX3_ring_26 hK hH hS (fun H locs hH hS => ?_)
        refine W.lcmp hx hb dX3_ring_29 ?_
        refine lv_if_lt (tgt := 35) hx hb dX3_ring_30 (by decide) (fun c_ => ?_) (fun c_ => ?_)
        · have hf := (if_pos ((lg_cmp_lt a4 v3).mp c_)).symm.trans hf
          refine lv_iconst (v := (0 : Int32)) hx hb dX3_ring_35 (by decide) ?_
          refine lv_istore (lv' := [(6, .int (0 : Int32)), (0, .ref M), (1, .int a1), (2, .int a2), (3, .int a3), (4, .long a4)]) hx hb dX3_ring_36 hl (by decide) rfl (fun ls hl => ?_)
          obtain ⟨r38_5, hr, hf⟩ := bd hf
          refine L38 a1 a2 a3 a4 st N _ r38_5 hr ?_ _ _ _ (lv_sub hl [1, 2, 3, 4, 5, 0] rfl) hH hS
          intro ls H locs hl hH hS
          refine lv_aload_n hx hb dX3_ring_58 rfl (lv_at hl 0 rfl) ?_
          refine lv_iload_n hx hb dX3_ring_59 rfl (lv_at hl 1 rfl) ?_
          refine lv_iconst (v := (2 : Int32)) hx hb dX3_ring_60 (by decide) ?_
          refine lv_iload_n hx hb dX3_ring_61 rfl (lv_at hl 2 rfl) ?_
          refine lv_iload_n hx hb dX3_ring_62 rfl (lv_at hl 3 rfl) ?_
          obtain ⟨v6, hv, hf⟩ := bd hf
          refine r_Vv (As := [.int a1, .int (2 : Int32), .int a2, .int a3]) (rest := []) X (met_X3_begin l G _ _ _ N st a1 (2 : Int32) a2 a3 v6 hv) cv_X3_begin q1140 (m_recv hK hH) rfl rfl hl.1 (Nat.le_of_ble_eq_true rfl) ⟨Nat.le_of_ble_eq_true rfl, Nat.le_of_ble_eq_true rfl⟩ ⟨Nat.le_refl _, Nat.le_refl _⟩ dX3_ring_63 hK hH hS (fun H locs hH hS => ?_)
          refine lv_iconst (v := (0 : Int32)) hx hb dX3_ring_66 (by decide) ?_
          refine lv_istore (lv' := [(7, .int (0 : Int32)), (0, .ref M), (1, .int a1), (2, .int a2), (3, .int a3), (4, .long a4), (6, .int r38_5)]) hx hb dX3_ring_67 hl (by decide) rfl (fun ls hl => ?_)
          obtain ⟨r69_13, hr, hf⟩ := bd hf
          refine L69 a1 a2 a3 a4 r38_5 N _ r69_13 hr ?_ _ _ _ (lv_sub hl [1, 2, 3, 4, 5, 6, 0] rfl) hH hS
          intro ls H locs hl hH hS
          refine lv_aload_n hx hb dX3_ring_143 rfl (lv_at hl 0 rfl) ?_
          refine m_get X hK hH 4 (by decide) rfl (mg_4 _ _) q1063 dX3_ring_144 ?_
          refine lv_iload_n hx hb dX3_ring_147 rfl (lv_at hl 1 rfl) ?_
          obtain ⟨v14, hv, hf⟩ := bd hf
          refine m_iald X hK hH 4 (mc_4 _ _) hv dX3_ring_148 ?_
          cases hf
          exact r_iret X dX3_ring_149 (Nat.le_refl _) (Nat.le_refl _) rfl hH hS
        · have hf := (if_neg (fun z => c_ ((lg_cmp_lt a4 v3).mpr z))).symm.trans hf
          refine lv_iconst (v := (-1 : Int32)) hx hb dX3_ring_33 (by decide) ?_
          cases hf
          exact r_iret X dX3_ring_34 (Nat.le_refl _) (Nat.le_refl _) rfl hH hS
theorem cv_X3_row : CalV "WordBenchModel" yX3_row cX3_row 5 (some .int) 3 := ⟨q1394, q1395, q57, q1396, by decide +kernel⟩
set_option maxHeartbeats 4000000 in
theorem met_X3_row (l : Launch) (G : GG) (sz M : Nat) (rst : Nat → Option AE) (N : Nat) (st : MS) (a1 : Int32) (a2 : Int32) (a3 : Int32) (stf : MS) (rf : Int32) (hf : f_X3_row N st a1 a2 a3 = some (stf, rf)) : Con l yX3_row cX3_row 5 (some .int) 2 0 0 G (sz, MH M st rst) [.ref M, .int a1, .int a2, .int a3] (sz, MH M stf rst) (some (.int rf)) := by
  refine con_of (by decide) (Nat.le_of_ble_eq_true rfl) ?_
  intro p e s m below meth c ls X hK hH hl hS
  have hx := X.1
  have hb := X.2.1
  have hown : s.vm.findClass RX3 = some m.cls := X.2.2.2.2.1
  have hts := X.2.2.2.2.2.1
  have hl : lv_has ls 5 [(0, .ref M), (1, .int a1), (2, .int a2), (3, .int a3)] := hl
  unfold f_X3_row at hf
  have L49 : ∀ (c1 : Int32) (c3 : Int32) (n : Nat) (s49 : (Int32 × MS)) (r49 : MS), lp (f_X3_row_b49 N c1 c3) n s49 = some r49 → (∀ (ls : Array Slot) (H : Heap) (locs : List Loc), lv_has ls 5 [] → HH G (sz, MH M r49 rst) H → va_S (AG G) s.heap H locs → W p l e (rm_ 2 0 0) s m ([.ref M, .int a1, .int a2, .int a3] : List Value).toArray below meth c H locs 0 0 (MQ below (PostC G (sz, MH M stf rst) (some (.int rf))) ([.ref M, .int a1, .int a2, .int a3] : List Value).toArray s 0 0 (AG G)) (F0 m 75 ls [])) → ∀ (ls : Array Slot) (H : Heap) (locs : List Loc), lv_has ls 5 [(0, .ref M), (1, .int c1), (3, .int c3), (4, .int s49.1)] → HH G (sz, MH M s49.2 rst) H → va_S (AG G) s.heap H locs → W p l e (rm_ 2 0 0) s m ([.ref M, .int a1, .int a2, .int a3] : List Value).toArray below meth c H locs 0 0 (MQ below (PostC G (sz, MH M stf rst) (some (.int rf))) ([.ref M, .int a1, .int a2, .int a3] : List Value).toArray s 0 0 (AG G)) (F0 m 49 ls []) := by
    intro c1 c3 n s49 r49 hr hq
    refine lp_ind (P := fun s49 => ∀ (ls : Array Slot) (H : Heap) (locs : List Loc), lv_has ls 5 [(0, .ref M), (1, .int c1), (3, .int c3), (4, .int s49.1)] → HH G (sz, MH M s49.2 rst) H → va_S (AG G) s.heap H locs → W p l e (rm_ 2 0 0) s m ([.ref M, .int a1, .int a2, .int a3] : List Value).toArray below meth c H locs 0 0 (MQ below (PostC G (sz, MH M stf rst) (some (.int rf))) ([.ref M, .int a1, .int a2, .int a3] : List Value).toArray s 0 0 (AG G)) (F0 m 49 ls [])) (Q := fun r49 => ∀ (ls : Array Slot) (H : Heap) (locs : List Loc), lv_has ls 5 [] → HH G (sz, MH M r49 rst) H → va_S (AG G) s.heap H locs → W p l e (rm_ 2 0 0) s m ([.ref M, .int a1, .int a2, .int a3] : List Value).toArray below meth c H locs 0 0 (MQ below (PostC G (sz, MH M stf rst) (some (.int rf))) ([.ref M, .int a1, .int a2, .int a3] : List Value).toArray s 0 0 (AG G)) (F0 m 75 ls [])) ?_ n s49 r49 hr hq
    intro s49 x49 hf hx49 ls H locs hl hH hS
    unfold f_X3_row_b49 at hf
    refine lv_iload hx hb dX3_row_49 (lv_at hl 3 rfl) ?_
    refine lv_iload_n hx hb dX3_row_51 rfl (lv_at hl 2 rfl) ?_
    refine lv_icmp_ge (tgt := 75) hx hb dX3_row_52 (by decide) (fun c_ => ?_) (fun c_ => ?_)
    · have hf := (if_pos c_).symm.trans hf
      cases hf
      exact hx49 _ _ _ (lv_sub hl [] rfl) hH hS
    · have hf := (if_neg c_).symm.trans hf
      refine lv_aload_n hx hb dX3_row_55 rfl (lv_at hl 0 rfl) ?_
      refine m_get X hK hH 23 (by decide) rfl (mg_23 _ _) q1082 dX3_row_56 ?_
      refine lv_sipush (v := (200 : Int32)) hx hb dX3_row_59 (by decide) ?_
      refine lv_iload_n hx hb dX3_row_62 rfl (lv_at hl 1 rfl) ?_
      refine lv_imul hx hb dX3_row_63 ?_
      refine lv_iload hx hb dX3_row_64 (lv_at hl 3 rfl) ?_
      refine lv_iadd hx hb dX3_row_66 ?_
      refine lv_lconst (v := (0 : Int64)) hx hb dX3_row_67 (by decide) ?_
      obtain ⟨w4, hv, hf⟩ := bd hf
      refine m_last X hK hH hS 18 (mc_23 _ _) hv (mt_23 _ _ _) dX3_row_68 (fun H locs hH hS => ?_)
      refine lv_iinc (v := (s49.1 + 1)) (lv' := [(4, .int (s49.1 + 1)), (0, .ref M), (1, .int c1), (3, .int c3)]) hx hb dX3_row_69 hl (k := 3) rfl rfl (by decide) rfl (fun ls hl => ?_)
      refine lv_goto (tgt := 49) hx hb dX3_row_72 (by decide) ?_
      cases hf
      exact hx49 _ _ _ (lv_sub hl [1, 2, 3, 0] rfl) hH hS
  have J17 : ∀ (d1 : Int32) (d2 : Int32) (d3 : Int32) (u17 : MS), f_X3_row_j17 N d1 d2 d3 u17 = some (stf, rf) → ∀ (ls : Array Slot) (H : Heap) (locs : List Loc), lv_has ls 5 [(0, .ref M), (1, .int d1), (2, .int d2), (3, .int d3)] → HH G (sz, MH M u17 rst) H → va_S (AG G) s.heap H locs → W p l e (rm_ 2 0 0) s m ([.ref M, .int a1, .int a2, .int a3] : List Value).toArray below meth c H locs 0 0 (MQ below (PostC G (sz, MH M stf rst) (some (.int rf))) ([.ref M, .int a1, .int a2, .int a3] : List Value).toArray s 0 0 (AG G)) (F0 m 17 ls []) := by
    intro d1 d2 d3 u17 hf ls H locs hl hH hS
    unfold f_X3_row_j17 at hf
    refine lv_iload_n hx hb dX3_row_17 rfl (lv_at hl 3 rfl) ?_
    refine lv_bipush (v := (60 : Int32)) hx hb dX3_row_18 (by decide) ?_
    refine lv_icmp_le (tgt := 25) hx hb dX3_row_20 (by decide) (fun c_ => ?_) (fun c_ => ?_)
    · have hf := (if_pos c_).symm.trans hf
      refine lv_iload_n hx hb dX3_row_25 rfl (lv_at hl 3 rfl) ?_
      refine lv_if_ge (tgt := 32) hx hb dX3_row_26 (by decide) (fun c_ => ?_) (fun c_ => ?_)
      · have hf := (if_pos c_).symm.trans hf
        refine lv_aload_n hx hb dX3_row_32 rfl (lv_at hl 0 rfl) ?_
        refine m_get X hK hH 19 (by decide) rfl (mg_19 _ _) q1078 dX3_row_33 ?_
        refine lv_iload_n hx hb dX3_row_36 rfl (lv_at hl 1 rfl) ?_
        refine lv_iload_n hx hb dX3_row_37 rfl (lv_at hl 2 rfl) ?_
        obtain ⟨w2, hv, hf⟩ := bd hf
        refine m_iast X hK hH hS 14 (mc_19 _ _) hv (mt_19 _ _ _) dX3_row_38 (fun H locs hH hS => ?_)
        refine lv_aload_n hx hb dX3_row_39 rfl (lv_at hl 0 rfl) ?_
        refine m_get X hK hH 22 (by decide) rfl (mg_22 _ _) q1081 dX3_row_40 ?_
        refine lv_iload_n hx hb dX3_row_43 rfl (lv_at hl 1 rfl) ?_
        refine lv_iload_n hx hb dX3_row_44 rfl (lv_at hl 3 rfl) ?_
        obtain ⟨w3, hv, hf⟩ := bd hf
        refine m_iast X hK hH hS 17 (mc_22 _ _) hv (mt_22 _ _ _) dX3_row_45 (fun H locs hH hS => ?_)
        refine lv_iconst (v := (0 : Int32)) hx hb dX3_row_46 (by decide) ?_
        refine lv_istore (lv' := [(4, .int (0 : Int32)), (0, .ref M), (1, .int d1), (2, .int d2), (3, .int d3)]) hx hb dX3_row_47 hl (by decide) rfl (fun ls hl => ?_)
        obtain ⟨r49_5, hr, hf⟩ := bd hf
        refine L49 d1 d3 N _ r49_5 hr ?_ _ _ _ (lv_sub hl [1, 2, 4, 0] rfl) hH hS
        intro ls H locs hl hH hS
        refine lv_iconst (v := (0 : Int32)) hx hb dX3_row_75 (by decide) ?_
        cases hf
        exact r_iret X dX3_row_76 (Nat.le_refl _) (Nat.le_refl _) rfl hH hS
      · have hf := (if_neg c_).symm.trans hf
        refine lv_bipush (v := (-14 : Int32)) hx hb dX3_row_29 (by decide) ?_
        cases hf
        exact r_iret X dX3_row_31 (Nat.le_refl _) (Nat.le_refl _) rfl hH hS
    · have hf := (if_neg c_).symm.trans hf
      refine lv_iconst (v := (-1 : Int32)) hx hb dX3_row_23 (by decide) ?_
      cases hf
      exact r_iret X dX3_row_24 (Nat.le_refl _) (Nat.le_refl _) rfl hH hS
  refine lv_iload_n hx hb dX3_row_0 rfl (lv_at hl 1 rfl) ?_
  obtain ⟨v1, hv, hf⟩ := bd hf
  refine r_Si (As := [.int a1]) (rest := []) X (met_X3_isShelf l G _ N a1 v1 hv) cs_X3_isShelf q1390 rfl rfl hl.1 (Nat.le_of_ble_eq_true rfl) ⟨Nat.le_of_ble_eq_true rfl, Nat.le_of_ble_eq_true rfl⟩ ⟨Nat.le_refl _, Nat.le_refl _⟩ dX3_row_1 hK hH hS (fun H locs hH hS => ?_)
  refine lv_if_eq (tgt := 23) hx hb dX3_row_4 (by decide) (fun c_ => ?_) (fun c_ => ?_)
  · have hf := (if_pos c_).symm.trans hf
    refine lv_iconst (v := (-1 : Int32)) hx hb dX3_row_23 (by decide) ?_
    cases hf
    exact r_iret X dX3_row_24 (Nat.le_refl _) (Nat.le_refl _) rfl hH hS
  · have hf := (if_neg c_).symm.trans hf
    refine lv_iload_n hx hb dX3_row_7 rfl (lv_at hl 2 rfl) ?_
    refine lv_iconst (v := (3 : Int32)) hx hb dX3_row_8 (by decide) ?_
    refine lv_icmp_eq (tgt := 17) hx hb dX3_row_9 (by decide) (fun c_ => ?_) (fun c_ => ?_)
    · have hf := (if_pos c_).symm.trans hf
      exact J17 a1 a2 a3 st hf _ _ _ (lv_sub hl [0, 1, 2, 3] rfl) hH hS
    · have hf := (if_neg c_).symm.trans hf
      refine lv_iload_n hx hb dX3_row_12 rfl (lv_at hl 2 rfl) ?_
      refine lv_iconst (v := (4 : Int32)) hx hb dX3_row_13 (by decide) ?_
      refine lv_icmp_ne (tgt := 23) hx hb dX3_row_14 (by decide) (fun c_ => ?_) (fun c_ => ?_)
      · have hf := (if_neg c_).symm.trans hf
        refine lv_iconst (v := (-1 : Int32)) hx hb dX3_row_23 (by decide) ?_
        cases hf
        exact r_iret X dX3_row_24 (Nat.le_refl _) (Nat.le_refl _) rfl hH hS
      · have hf := (if_pos c_).symm.trans hf
        exact J17 a1 a2 a3 st hf _ _ _ (lv_sub hl [0, 1, 2, 3] rfl) hH hS
theorem cv_X3_same : CalV "WordBenchModel" yX3_same cX3_same 6 (some .int) 2 := ⟨q1375, q1376, q57, q1377, by decide +kernel⟩
set_option maxHeartbeats 4000000 in
theorem met_X3_same (l : Launch) (G : GG) (sz M : Nat) (rst : Nat → Option AE) (N : Nat) (st : MS) (a1 : Int32) (a2 : Int32) (stf : MS) (rf : Int32) (hf : f_X3_same N st a1 a2 = some (stf, rf)) : Con l yX3_same cX3_same 6 (some .int) 6 0 0 G (sz, MH M st rst) [.ref M, .int a1, .int a2] (sz, MH M stf rst) (some (.int rf)) := by
  refine con_of (by decide) (Nat.le_of_ble_eq_true rfl) ?_
  intro p e s m below meth c ls X hK hH hl hS
  have hx := X.1
  have hb := X.2.1
  have hown : s.vm.findClass RX3 = some m.cls := X.2.2.2.2.1
  have hts := X.2.2.2.2.2.1
  have hl : lv_has ls 6 [(0, .ref M), (1, .int a1), (2, .int a2)] := hl
  unfold f_X3_same at hf
  have J201 : ∀ (d1 : Int32) (d2 : Int32) (u201 : MS), f_X3_same_j201 N d1 d2 u201 = some (stf, rf) → ∀ (ls : Array Slot) (H : Heap) (locs : List Loc), lv_has ls 6 [(0, .ref M), (1, .int d1), (2, .int d2)] → HH G (sz, MH M u201 rst) H → va_S (AG G) s.heap H locs → W p l e (rm_ 6 0 0) s m ([.ref M, .int a1, .int a2] : List Value).toArray below meth c H locs 0 0 (MQ below (PostC G (sz, MH M stf rst) (some (.int rf))) ([.ref M, .int a1, .int a2] : List Value).toArray s 0 0 (AG G)) (F0 m 201 ls []) := by
    intro d1 d2 u201 hf ls H locs hl hH hS
    unfold f_X3_same_j201 at hf
    refine lv_aload_n hx hb dX3_same_201 rfl (lv_at hl 0 rfl) ?_
    refine lv_iload_n hx hb dX3_same_202 rfl (lv_at hl 1 rfl) ?_
    obtain ⟨v10, hv, hf⟩ := bd hf
    refine r_Vl (As := [.int d1]) (rest := []) X (met_X3_sizeOf l G _ _ _ N u201 d1 v10.1 v10.2 hv) cv_X3_sizeOf q1199 (m_recv hK hH) rfl rfl hl.1 (Nat.le_of_ble_eq_true rfl) ⟨Nat.le_of_ble_eq_true rfl, Nat.le_of_ble_eq_true rfl⟩ ⟨Nat.le_refl _, Nat.le_refl _⟩ dX3_same_203 hK hH hS (fun H locs hH hS => ?_)
    refine lv_ldc2 (v := (4096 : Int64)) hx hb hown (hts _ q1244) dX3_same_206 ?_
    refine W.lcmp hx hb dX3_same_209 ?_
    refine lv_if_gt (tgt := 225) hx hb dX3_same_210 (by decide) (fun c_ => ?_) (fun c_ => ?_)
    · have hf := (if_pos ((lg_cmp_gt v10.2 (4096 : Int64)).mp c_)).symm.trans hf
      refine lv_bipush (v := (-5 : Int32)) hx hb dX3_same_225 (by decide) ?_
      cases hf
      exact r_iret X dX3_same_227 (Nat.le_refl _) (Nat.le_refl _) rfl hH hS
    · have hf := (if_neg (fun z => c_ ((lg_cmp_gt v10.2 (4096 : Int64)).mpr z))).symm.trans hf
      refine lv_aload_n hx hb dX3_same_213 rfl (lv_at hl 0 rfl) ?_
      refine lv_iload_n hx hb dX3_same_214 rfl (lv_at hl 2 rfl) ?_
      obtain ⟨v11, hv, hf⟩ := bd hf
      refine r_Vl (As := [.int d2]) (rest := []) X (met_X3_sizeOf l G _ _ _ N v10.1 d2 v11.1 v11.2 hv) cv_X3_sizeOf q1199 (m_recv hK hH) rfl rfl hl.1 (Nat.le_of_ble_eq_true rfl) ⟨Nat.le_of_ble_eq_true rfl, Nat.le_of_ble_eq_true rfl⟩ ⟨Nat.le_refl _, Nat.le_refl _⟩ dX3_same_215 hK hH hS (fun H locs hH hS => ?_)
      refine lv_ldc2 (v := (4096 : Int64)) hx hb hown (hts _ q1244) dX3_same_218 ?_
      refine W.lcmp hx hb dX3_same_221 ?_
      refine lv_if_le (tgt := 228) hx hb dX3_same_222 (by decide) (fun c_ => ?_) (fun c_ => ?_)
      · have hf := (if_pos ((lg_cmp_le v11.2 (4096 : Int64)).mp c_)).symm.trans hf
        refine lv_aload_n hx hb dX3_same_228 rfl (lv_at hl 0 rfl) ?_
        refine lv_iload_n hx hb dX3_same_229 rfl (lv_at hl 1 rfl) ?_
        obtain ⟨v12, hv, hf⟩ := bd hf
        refine r_Vi (As := [.int d1]) (rest := []) X (met_X3_lays l G _ _ _ N v11.1 d1 v12.1 v12.2 hv) cv_X3_lays q1240 (m_recv hK hH) rfl rfl hl.1 (Nat.le_of_ble_eq_true rfl) ⟨Nat.le_of_ble_eq_true rfl, Nat.le_of_ble_eq_true rfl⟩ ⟨Nat.le_refl _, Nat.le_refl _⟩ dX3_same_230 hK hH hS (fun H locs hH hS => ?_)
        refine lv_istore_n (lv' := [(3, .int v12.2), (0, .ref M), (1, .int d1), (2, .int d2)]) hx hb dX3_same_233 rfl hl (by decide) rfl (fun ls hl => ?_)
        refine lv_aload_n hx hb dX3_same_234 rfl (lv_at hl 1 rfl) ?_
        refine lv_iload_n hx hb dX3_same_235 rfl (lv_at hl 3 rfl) ?_
        obtain ⟨v13, hv, hf⟩ := bd hf
        refine r_Vi (As := [.int d2]) (rest := []) X (met_X3_hasAll l G _ _ _ N v12.1 d2 v13.1 v13.2 hv) cv_X3_hasAll q1378 (m_recv hK hH) rfl rfl hl.1 (Nat.le_of_ble_eq_true rfl) ⟨Nat.le_of_ble_eq_true rfl, Nat.le_of_ble_eq_true rfl⟩ ⟨Nat.le_refl _, Nat.le_refl _⟩ dX3_same_236 hK hH hS (fun H locs hH hS => ?_)
        refine lv_if_eq (tgt := 246) hx hb dX3_same_239 (by decide) (fun c_ => ?_) (fun c_ => ?_)
        · have hf := (if_pos c_).symm.trans hf
          refine lv_iconst (v := (0 : Int32)) hx hb dX3_same_246 (by decide) ?_
          cases hf
          exact r_iret X dX3_same_247 (Nat.le_refl _) (Nat.le_refl _) rfl hH hS
        · have hf := (if_neg c_).symm.trans hf
          refine lv_iconst (v := (1 : Int32)) hx hb dX3_same_242 (by decide) ?_
          refine lv_goto (tgt := 247) hx hb dX3_same_243 (by decide) ?_
          cases hf
          exact r_iret X dX3_same_247 (Nat.le_refl _) (Nat.le_refl _) rfl hH hS
      · have hf := (if_neg (fun z => c_ ((lg_cmp_le v11.2 (4096 : Int64)).mpr z))).symm.trans hf
        refine lv_bipush (v := (-5 : Int32)) hx hb dX3_same_225 (by decide) ?_
        cases hf
        exact r_iret X dX3_same_227 (Nat.le_refl _) (Nat.le_refl _) rfl hH hS
  have L99 : ∀ (c2 : Int32) (c3 : Int32) (n : Nat) (s99 : (Int32 × MS)) (r99 : MS), lp (f_X3_same_b99 N c2 c3) n s99 = some r99 → (∀ (ls : Array Slot) (H : Heap) (locs : List Loc), lv_has ls 6 [(0, .ref M), (2, .int c2), (3, .int c3)] → HH G (sz, MH M r99 rst) H → va_S (AG G) s.heap H locs → W p l e (rm_ 6 0 0) s m ([.ref M, .int a1, .int a2] : List Value).toArray below meth c H locs 0 0 (MQ below (PostC G (sz, MH M stf rst) (some (.int rf))) ([.ref M, .int a1, .int a2] : List Value).toArray s 0 0 (AG G)) (F0 m 125 ls [])) → ∀ (ls : Array Slot) (H : Heap) (locs : List Loc), lv_has ls 6 [(0, .ref M), (2, .int c2), (3, .int c3), (4, .int s99.1)] → HH G (sz, MH M s99.2 rst) H → va_S (AG G) s.heap H locs → W p l e (rm_ 6 0 0) s m ([.ref M, .int a1, .int a2] : List Value).toArray below meth c H locs 0 0 (MQ below (PostC G (sz, MH M stf rst) (some (.int rf))) ([.ref M, .int a1, .int a2] : List Value).toArray s 0 0 (AG G)) (F0 m 99 ls []) := by
    intro c2 c3 n s99 r99 hr hq
    refine lp_ind (P := fun s99 => ∀ (ls : Array Slot) (H : Heap) (locs : List Loc), lv_has ls 6 [(0, .ref M), (2, .int c2), (3, .int c3), (4, .int s99.1)] → HH G (sz, MH M s99.2 rst) H → va_S (AG G) s.heap H locs → W p l e (rm_ 6 0 0) s m ([.ref M, .int a1, .int a2] : List Value).toArray below meth c H locs 0 0 (MQ below (PostC G (sz, MH M stf rst) (some (.int rf))) ([.ref M, .int a1, .int a2] : List Value).toArray s 0 0 (AG G)) (F0 m 99 ls [])) (Q := fun r99 => ∀ (ls : Array Slot) (H : Heap) (locs : List Loc), lv_has ls 6 [(0, .ref M), (2, .int c2), (3, .int c3)] → HH G (sz, MH M r99 rst) H → va_S (AG G) s.heap H locs → W p l e (rm_ 6 0 0) s m ([.ref M, .int a1, .int a2] : List Value).toArray below meth c H locs 0 0 (MQ below (PostC G (sz, MH M stf rst) (some (.int rf))) ([.ref M, .int a1, .int a2] : List Value).toArray s 0 0 (AG G)) (F0 m 125 ls [])) ?_ n s99 r99 hr hq
    intro s99 x99 hf hx99 ls H locs hl hH hS
    unfold f_X3_same_b99 at hf
    refine lv_iload hx hb dX3_same_99 (lv_at hl 3 rfl) ?_
    refine lv_iload_n hx hb dX3_same_101 rfl (lv_at hl 2 rfl) ?_
    refine lv_icmp_ge (tgt := 125) hx hb dX3_same_102 (by decide) (fun c_ => ?_) (fun c_ => ?_)
    · have hf := (if_pos c_).symm.trans hf
      cases hf
      exact hx99 _ _ _ (lv_sub hl [0, 1, 2] rfl) hH hS
    · have hf := (if_neg c_).symm.trans hf
      refine lv_aload_n hx hb dX3_same_105 rfl (lv_at hl 0 rfl) ?_
      refine m_get X hK hH 9 (by decide) rfl (mg_9 _ _) q1068 dX3_same_106 ?_
      refine lv_iload hx hb dX3_same_109 (lv_at hl 3 rfl) ?_
      refine lv_aload_n hx hb dX3_same_111 rfl (lv_at hl 0 rfl) ?_
      refine m_get X hK hH 6 (by decide) rfl (mg_6 _ _) q1065 dX3_same_112 ?_
      refine lv_iload hx hb dX3_same_115 (lv_at hl 3 rfl) ?_
      obtain ⟨v16, hv, hf⟩ := bd hf
      refine m_lald X hK hH 6 (mc_6 _ _) hv dX3_same_117 ?_
      obtain ⟨w17, hv, hf⟩ := bd hf
      refine m_last X hK hH hS 8 (mc_9 _ _) hv (mt_9 _ _ _) dX3_same_118 (fun H locs hH hS => ?_)
      refine lv_iinc (v := (s99.1 + 1)) (lv' := [(4, .int (s99.1 + 1)), (0, .ref M), (2, .int c2), (3, .int c3)]) hx hb dX3_same_119 hl (k := 3) rfl rfl (by decide) rfl (fun ls hl => ?_)
      refine lv_goto (tgt := 99) hx hb dX3_same_122 (by decide) ?_
      cases hf
      exact hx99 _ _ _ (lv_sub hl [1, 2, 3, 0] rfl) hH hS
  have L148 : ∀ (c3 : Int32) (t148 : MS) (n : Nat) (s148 : (Int32 × Int32)) (r148 : Int32), lp (f_X3_same_b148 N c3 t148) n s148 = some r148 → (∀ (ls : Array Slot) (H : Heap) (locs : List Loc), lv_has ls 6 [(4, .int r148)] → HH G (sz, MH M t148 rst) H → va_S (AG G) s.heap H locs → W p l e (rm_ 6 0 0) s m ([.ref M, .int a1, .int a2] : List Value).toArray below meth c H locs 0 0 (MQ below (PostC G (sz, MH M stf rst) (some (.int rf))) ([.ref M, .int a1, .int a2] : List Value).toArray s 0 0 (AG G)) (F0 m 190 ls [])) → ∀ (ls : Array Slot) (H : Heap) (locs : List Loc), lv_has ls 6 [(0, .ref M), (3, .int c3), (4, .int s148.1), (5, .int s148.2)] → HH G (sz, MH M t148 rst) H → va_S (AG G) s.heap H locs → W p l e (rm_ 6 0 0) s m ([.ref M, .int a1, .int a2] : List Value).toArray below meth c H locs 0 0 (MQ below (PostC G (sz, MH M stf rst) (some (.int rf))) ([.ref M, .int a1, .int a2] : List Value).toArray s 0 0 (AG G)) (F0 m 148 ls []) := by
    intro c3 t148 n s148 r148 hr hq
    refine lp_ind (P := fun s148 => ∀ (ls : Array Slot) (H : Heap) (locs : List Loc), lv_has ls 6 [(0, .ref M), (3, .int c3), (4, .int s148.1), (5, .int s148.2)] → HH G (sz, MH M t148 rst) H → va_S (AG G) s.heap H locs → W p l e (rm_ 6 0 0) s m ([.ref M, .int a1, .int a2] : List Value).toArray below meth c H locs 0 0 (MQ below (PostC G (sz, MH M stf rst) (some (.int rf))) ([.ref M, .int a1, .int a2] : List Value).toArray s 0 0 (AG G)) (F0 m 148 ls [])) (Q := fun r148 => ∀ (ls : Array Slot) (H : Heap) (locs : List Loc), lv_has ls 6 [(4, .int r148)] → HH G (sz, MH M t148 rst) H → va_S (AG G) s.heap H locs → W p l e (rm_ 6 0 0) s m ([.ref M, .int a1, .int a2] : List Value).toArray below meth c H locs 0 0 (MQ below (PostC G (sz, MH M stf rst) (some (.int rf))) ([.ref M, .int a1, .int a2] : List Value).toArray s 0 0 (AG G)) (F0 m 190 ls [])) ?_ n s148 r148 hr hq
    intro s148 x148 hf hx148 ls H locs hl hH hS
    unfold f_X3_same_b148 at hf
    refine lv_iload hx hb dX3_same_148 (lv_at hl 3 rfl) ?_
    refine lv_iload_n hx hb dX3_same_150 rfl (lv_at hl 1 rfl) ?_
    refine lv_icmp_ge (tgt := 190) hx hb dX3_same_151 (by decide) (fun c_ => ?_) (fun c_ => ?_)
    · have hf := (if_pos c_).symm.trans hf
      cases hf
      exact hx148 _ _ _ (lv_sub hl [2] rfl) hH hS
    · have hf := (if_neg c_).symm.trans hf
      refine lv_iload hx hb dX3_same_154 (lv_at hl 2 rfl) ?_
      refine lv_if_eq (tgt := 190) hx hb dX3_same_156 (by decide) (fun c_ => ?_) (fun c_ => ?_)
      · have hf := (if_pos c_).symm.trans hf
        cases hf
        exact hx148 _ _ _ (lv_sub hl [2] rfl) hH hS
      · have hf := (if_neg c_).symm.trans hf
        refine lv_aload_n hx hb dX3_same_159 rfl (lv_at hl 0 rfl) ?_
        refine m_get X hK hH 9 (by decide) rfl (mg_9 _ _) q1068 dX3_same_160 ?_
        refine lv_iload hx hb dX3_same_163 (lv_at hl 3 rfl) ?_
        obtain ⟨v20, hv, hf⟩ := bd hf
        refine m_lald X hK hH 8 (mc_9 _ _) hv dX3_same_165 ?_
        refine lv_aload_n hx hb dX3_same_166 rfl (lv_at hl 0 rfl) ?_
        refine m_get X hK hH 6 (by decide) rfl (mg_6 _ _) q1065 dX3_same_167 ?_
        refine lv_iload hx hb dX3_same_170 (lv_at hl 3 rfl) ?_
        obtain ⟨v21, hv, hf⟩ := bd hf
        refine m_lald X hK hH 6 (mc_6 _ _) hv dX3_same_172 ?_
        refine W.lcmp hx hb dX3_same_173 ?_
        refine lv_if_ne (tgt := 181) hx hb dX3_same_174 (by decide) (fun c_ => ?_) (fun c_ => ?_)
        · have hf := (if_neg (fun z => c_ ((lg_cmp_eq v20 v21).mpr z))).symm.trans hf
          refine lv_iconst (v := (0 : Int32)) hx hb dX3_same_181 (by decide) ?_
          refine lv_istore (lv' := [(4, .int (0 : Int32)), (0, .ref M), (3, .int c3), (5, .int s148.2)]) hx hb dX3_same_182 hl (by decide) rfl (fun ls hl => ?_)
          refine lv_iinc (v := (s148.2 + 1)) (lv' := [(5, .int (s148.2 + 1)), (4, .int (0 : Int32)), (0, .ref M), (3, .int c3)]) hx hb dX3_same_184 hl (k := 3) rfl rfl (by decide) rfl (fun ls hl => ?_)
          refine lv_goto (tgt := 148) hx hb dX3_same_187 (by decide) ?_
          cases hf
          exact hx148 _ _ _ (lv_sub hl [2, 3, 1, 0] rfl) hH hS
        · have hf := (if_pos ((lg_cmp_eq v20 v21).mp c_)).symm.trans hf
          refine lv_iconst (v := (1 : Int32)) hx hb dX3_same_177 (by decide) ?_
          refine lv_goto (tgt := 182) hx hb dX3_same_178 (by decide) ?_
          refine lv_istore (lv' := [(4, .int (1 : Int32)), (0, .ref M), (3, .int c3), (5, .int s148.2)]) hx hb dX3_same_182 hl (by decide) rfl (fun ls hl => ?_)
          refine lv_iinc (v := (s148.2 + 1)) (lv' := [(5, .int (s148.2 + 1)), (4, .int (1 : Int32)), (0, .ref M), (3, .int c3)]) hx hb dX3_same_184 hl (k := 3) rfl rfl (by decide) rfl (fun ls hl => ?_)
          refine lv_goto (tgt := 148) hx hb dX3_same_187 (by decide) ?_
          cases hf
          exact hx148 _ _ _ (lv_sub hl [2, 3, 1, 0] rfl) hH hS
  have J190 : ∀ (d4 : Int32) (u190 : MS), f_X3_same_j190 N d4 u190 = some (stf, rf) → ∀ (ls : Array Slot) (H : Heap) (locs : List Loc), lv_has ls 6 [(4, .int d4)] → HH G (sz, MH M u190 rst) H → va_S (AG G) s.heap H locs → W p l e (rm_ 6 0 0) s m ([.ref M, .int a1, .int a2] : List Value).toArray below meth c H locs 0 0 (MQ below (PostC G (sz, MH M stf rst) (some (.int rf))) ([.ref M, .int a1, .int a2] : List Value).toArray s 0 0 (AG G)) (F0 m 190 ls []) := by
    intro d4 u190 hf ls H locs hl hH hS
    unfold f_X3_same_j190 at hf
    refine lv_iload hx hb dX3_same_190 (lv_at hl 0 rfl) ?_
    refine lv_if_eq (tgt := 199) hx hb dX3_same_192 (by decide) (fun c_ => ?_) (fun c_ => ?_)
    · have hf := (if_pos c_).symm.trans hf
      refine lv_iconst (v := (0 : Int32)) hx hb dX3_same_199 (by decide) ?_
      cases hf
      exact r_iret X dX3_same_200 (Nat.le_refl _) (Nat.le_refl _) rfl hH hS
    · have hf := (if_neg c_).symm.trans hf
      refine lv_iconst (v := (1 : Int32)) hx hb dX3_same_195 (by decide) ?_
      refine lv_goto (tgt := 200) hx hb dX3_same_196 (by decide) ?_
      cases hf
      exact r_iret X dX3_same_200 (Nat.le_refl _) (Nat.le_refl _) rfl hH hS
  have J143 : ∀ (d3 : Int32) (k0 : Int32) (u143 : MS), f_X3_same_j143 N d3 k0 u143 = some (stf, rf) → ∀ (ls : Array Slot) (H : Heap) (locs : List Loc), lv_has ls 6 [(0, .ref M), (3, .int d3)] → HH G (sz, MH M u143 rst) H → va_S (AG G) s.heap H locs → W p l e (rm_ 6 0 0) s m ([.ref M, .int a1, .int a2] : List Value).toArray below meth c H locs 0 0 (MQ below (PostC G (sz, MH M stf rst) (some (.int rf))) ([.ref M, .int a1, .int a2] : List Value).toArray s 0 0 (AG G)) (F0 m 143 ls [.int k0]) := by
    intro d3 k0 u143 hf ls H locs hl hH hS
    unfold f_X3_same_j143 at hf
    refine lv_istore (lv' := [(4, .int k0), (0, .ref M), (3, .int d3)]) hx hb dX3_same_143 hl (by decide) rfl (fun ls hl => ?_)
    refine lv_iconst (v := (0 : Int32)) hx hb dX3_same_145 (by decide) ?_
    refine lv_istore (lv' := [(5, .int (0 : Int32)), (4, .int k0), (0, .ref M), (3, .int d3)]) hx hb dX3_same_146 hl (by decide) rfl (fun ls hl => ?_)
    obtain ⟨r148_22, hr, hf⟩ := bd hf
    refine L148 d3 u143 N _ r148_22 hr ?_ _ _ _ (lv_sub hl [2, 3, 1, 0] rfl) hH hS
    intro ls H locs hl hH hS
    exact J190 r148_22 u143 hf _ _ _ (lv_sub hl [0] rfl) hH hS
  refine lv_iload_n hx hb dX3_same_0 rfl (lv_at hl 1 rfl) ?_
  obtain ⟨v1, hv, hf⟩ := bd hf
  refine r_Si (As := [.int a1]) (rest := []) X (met_X3_isPlace l G _ N a1 v1 hv) cs_X3_isPlace q1136 rfl rfl hl.1 (Nat.le_of_ble_eq_true rfl) ⟨Nat.le_of_ble_eq_true rfl, Nat.le_of_ble_eq_true rfl⟩ ⟨Nat.le_refl _, Nat.le_refl _⟩ dX3_same_1 hK hH hS (fun H locs hH hS => ?_)
  refine lv_if_eq (tgt := 14) hx hb dX3_same_4 (by decide) (fun c_ => ?_) (fun c_ => ?_)
  · have hf := (if_pos c_).symm.trans hf
    refine lv_iconst (v := (-1 : Int32)) hx hb dX3_same_14 (by decide) ?_
    cases hf
    exact r_iret X dX3_same_15 (Nat.le_refl _) (Nat.le_refl _) rfl hH hS
  · have hf := (if_neg c_).symm.trans hf
    refine lv_iload_n hx hb dX3_same_7 rfl (lv_at hl 2 rfl) ?_
    obtain ⟨v2, hv, hf⟩ := bd hf
    refine r_Si (As := [.int a2]) (rest := []) X (met_X3_isPlace l G _ N a2 v2 hv) cs_X3_isPlace q1136 rfl rfl hl.1 (Nat.le_of_ble_eq_true rfl) ⟨Nat.le_of_ble_eq_true rfl, Nat.le_of_ble_eq_true rfl⟩ ⟨Nat.le_refl _, Nat.le_refl _⟩ dX3_same_8 hK hH hS (fun H locs hH hS => ?_)
    refine lv_if_ne (tgt := 16) hx hb dX3_same_11 (by decide) (fun c_ => ?_) (fun c_ => ?_)
    · have hf := (if_neg c_).symm.trans hf
      refine lv_aload_n hx hb dX3_same_16 rfl (lv_at hl 0 rfl) ?_
      refine lv_iload_n hx hb dX3_same_17 rfl (lv_at hl 1 rfl) ?_
      obtain ⟨v3, hv, hf⟩ := bd hf
      refine r_Vi (As := [.int a1]) (rest := []) X (met_X3_isEmpty l G _ _ _ N st a1 v3 hv) cv_X3_isEmpty q1148 (m_recv hK hH) rfl rfl hl.1 (Nat.le_of_ble_eq_true rfl) ⟨Nat.le_of_ble_eq_true rfl, Nat.le_of_ble_eq_true rfl⟩ ⟨Nat.le_refl _, Nat.le_refl _⟩ dX3_same_18 hK hH hS (fun H locs hH hS => ?_)
      refine lv_if_ne (tgt := 32) hx hb dX3_same_21 (by decide) (fun c_ => ?_) (fun c_ => ?_)
      · have hf := (if_neg c_).symm.trans hf
        refine lv_bipush (v := (-11 : Int32)) hx hb dX3_same_32 (by decide) ?_
        cases hf
        exact r_iret X dX3_same_34 (Nat.le_refl _) (Nat.le_refl _) rfl hH hS
      · have hf := (if_pos c_).symm.trans hf
        refine lv_aload_n hx hb dX3_same_24 rfl (lv_at hl 0 rfl) ?_
        refine lv_iload_n hx hb dX3_same_25 rfl (lv_at hl 2 rfl) ?_
        obtain ⟨v4, hv, hf⟩ := bd hf
        refine r_Vi (As := [.int a2]) (rest := []) X (met_X3_isEmpty l G _ _ _ N st a2 v4 hv) cv_X3_isEmpty q1148 (m_recv hK hH) rfl rfl hl.1 (Nat.le_of_ble_eq_true rfl) ⟨Nat.le_of_ble_eq_true rfl, Nat.le_of_ble_eq_true rfl⟩ ⟨Nat.le_refl _, Nat.le_refl _⟩ dX3_same_26 hK hH hS (fun H locs hH hS => ?_)
        refine lv_if_eq (tgt := 35) hx hb dX3_same_29 (by decide) (fun c_ => ?_) (fun c_ => ?_)
        · have hf := (if_pos c_).symm.trans hf
          refine lv_aload_n hx hb dX3_same_35 rfl (lv_at hl 0 rfl) ?_
          refine m_get X hK hH 2 (by decide) rfl (mg_2 _ _) q1061 dX3_same_36 ?_
          refine lv_iload_n hx hb dX3_same_39 rfl (lv_at hl 1 rfl) ?_
          obtain ⟨v5, hv, hf⟩ := bd hf
          refine m_iald X hK hH 2 (mc_2 _ _) hv dX3_same_40 ?_
          refine lv_aload_n hx hb dX3_same_41 rfl (lv_at hl 0 rfl) ?_
          refine m_get X hK hH 2 (by decide) rfl (mg_2 _ _) q1061 dX3_same_42 ?_
          refine lv_iload_n hx hb dX3_same_45 rfl (lv_at hl 2 rfl) ?_
          obtain ⟨v6, hv, hf⟩ := bd hf
          refine m_iald X hK hH 2 (mc_2 _ _) hv dX3_same_46 ?_
          refine lv_icmp_ne (tgt := 65) hx hb dX3_same_47 (by decide) (fun c_ => ?_) (fun c_ => ?_)
          · have hf := (if_neg c_).symm.trans hf
            refine lv_bipush (v := (-4 : Int32)) hx hb dX3_same_65 (by decide) ?_
            cases hf
            exact r_iret X dX3_same_67 (Nat.le_refl _) (Nat.le_refl _) rfl hH hS
          · have hf := (if_pos c_).symm.trans hf
            refine lv_aload_n hx hb dX3_same_50 rfl (lv_at hl 0 rfl) ?_
            refine m_get X hK hH 3 (by decide) rfl (mg_3 _ _) q1062 dX3_same_51 ?_
            refine lv_iload_n hx hb dX3_same_54 rfl (lv_at hl 1 rfl) ?_
            obtain ⟨v7, hv, hf⟩ := bd hf
            refine m_iald X hK hH 3 (mc_3 _ _) hv dX3_same_55 ?_
            refine lv_aload_n hx hb dX3_same_56 rfl (lv_at hl 0 rfl) ?_
            refine m_get X hK hH 3 (by decide) rfl (mg_3 _ _) q1062 dX3_same_57 ?_
            refine lv_iload_n hx hb dX3_same_60 rfl (lv_at hl 2 rfl) ?_
            obtain ⟨v8, hv, hf⟩ := bd hf
            refine m_iald X hK hH 3 (mc_3 _ _) hv dX3_same_61 ?_
            refine lv_icmp_eq (tgt := 68) hx hb dX3_same_62 (by decide) (fun c_ => ?_) (fun c_ => ?_)
            · have hf := (if_pos c_).symm.trans hf
              refine lv_aload_n hx hb dX3_same_68 rfl (lv_at hl 0 rfl) ?_
              refine m_get X hK hH 1 (by decide) rfl (mg_1 _ _) q1060 dX3_same_69 ?_
              refine lv_iload_n hx hb dX3_same_72 rfl (lv_at hl 1 rfl) ?_
              obtain ⟨v9, hv, hf⟩ := bd hf
              refine m_iald X hK hH 1 (mc_1 _ _) hv dX3_same_73 ?_
              refine lv_if_eq (tgt := 201) hx hb dX3_same_74 (by decide) (fun c_ => ?_) (fun c_ => ?_)
              · have hf := (if_pos c_).symm.trans hf
                exact J201 a1 a2 st hf _ _ _ (lv_sub hl [0, 1, 2] rfl) hH hS
              · have hf := (if_neg c_).symm.trans hf
                refine lv_aload_n hx hb dX3_same_77 rfl (lv_at hl 0 rfl) ?_
                refine m_get X hK hH 1 (by decide) rfl (mg_1 _ _) q1060 dX3_same_78 ?_
                refine lv_iload_n hx hb dX3_same_81 rfl (lv_at hl 2 rfl) ?_
                obtain ⟨v14, hv, hf⟩ := bd hf
                refine m_iald X hK hH 1 (mc_1 _ _) hv dX3_same_82 ?_
                refine lv_if_eq (tgt := 201) hx hb dX3_same_83 (by decide) (fun c_ => ?_) (fun c_ => ?_)
                · have hf := (if_pos c_).symm.trans hf
                  exact J201 a1 a2 st hf _ _ _ (lv_sub hl [0, 1, 2] rfl) hH hS
                · have hf := (if_neg c_).symm.trans hf
                  refine lv_aload_n hx hb dX3_same_86 rfl (lv_at hl 0 rfl) ?_
                  refine lv_iload_n hx hb dX3_same_87 rfl (lv_at hl 1 rfl) ?_
                  obtain ⟨v15, hv, hf⟩ := bd hf
                  refine r_Vv (As := [.int a1]) (rest := []) X (met_X3_clear l G _ _ _ N st a1 v15 hv) cv_X3_clear q1180 (m_recv hK hH) rfl rfl hl.1 (Nat.le_of_ble_eq_true rfl) ⟨Nat.le_of_ble_eq_true rfl, Nat.le_of_ble_eq_true rfl⟩ ⟨Nat.le_refl _, Nat.le_refl _⟩ dX3_same_88 hK hH hS (fun H locs hH hS => ?_)
                  refine lv_aload_n hx hb dX3_same_91 rfl (lv_at hl 0 rfl) ?_
                  refine m_get X hK hH 8 (by decide) rfl (mg_8 _ _) q1067 dX3_same_92 ?_
                  refine lv_istore_n (lv' := [(3, .int ((v15).2.2.1 8)), (0, .ref M), (1, .int a1), (2, .int a2)]) hx hb dX3_same_95 rfl hl (by decide) rfl (fun ls hl => ?_)
                  refine lv_iconst (v := (0 : Int32)) hx hb dX3_same_96 (by decide) ?_
                  refine lv_istore (lv' := [(4, .int (0 : Int32)), (3, .int ((v15).2.2.1 8)), (0, .ref M), (1, .int a1), (2, .int a2)]) hx hb dX3_same_97 hl (by decide) rfl (fun ls hl => ?_)
                  obtain ⟨r99_18, hr, hf⟩ := bd hf
                  refine L99 a2 ((v15).2.2.1 8) N _ r99_18 hr ?_ _ _ _ (lv_sub hl [2, 4, 1, 0] rfl) hH hS
                  intro ls H locs hl hH hS
                  refine lv_aload_n hx hb dX3_same_125 rfl (lv_at hl 0 rfl) ?_
                  refine lv_iload_n hx hb dX3_same_126 rfl (lv_at hl 1 rfl) ?_
                  obtain ⟨v19, hv, hf⟩ := bd hf
                  refine r_Vv (As := [.int a2]) (rest := []) X (met_X3_clear l G _ _ _ N r99_18 a2 v19 hv) cv_X3_clear q1180 (m_recv hK hH) rfl rfl hl.1 (Nat.le_of_ble_eq_true rfl) ⟨Nat.le_of_ble_eq_true rfl, Nat.le_of_ble_eq_true rfl⟩ ⟨Nat.le_refl _, Nat.le_refl _⟩ dX3_same_127 hK hH hS (fun H locs hH hS => ?_)
                  refine lv_iload_n hx hb dX3_same_130 rfl (lv_at hl 2 rfl) ?_
                  refine lv_aload_n hx hb dX3_same_131 rfl (lv_at hl 0 rfl) ?_
                  refine m_get X hK hH 8 (by decide) rfl (mg_8 _ _) q1067 dX3_same_132 ?_
                  refine lv_icmp_ne (tgt := 142) hx hb dX3_same_135 (by decide) (fun c_ => ?_) (fun c_ => ?_)
                  · have hf := (if_neg c_).symm.trans hf
                    refine lv_iconst (v := (0 : Int32)) hx hb dX3_same_142 (by decide) ?_
                    exact J143 ((v15).2.2.1 8) (0 : Int32) v19 hf _ _ _ (lv_sub hl [0, 2] rfl) hH hS
                  · have hf := (if_pos c_).symm.trans hf
                    refine lv_iconst (v := (1 : Int32)) hx hb dX3_same_138 (by decide) ?_
                    refine lv_goto (tgt := 143) hx hb dX3_same_139 (by decide) ?_
                    exact J143 ((v15).2.2.1 8) (1 : Int32) v19 hf _ _ _ (lv_sub hl [0, 2] rfl) hH hS
            · have hf := (if_neg c_).symm.trans hf
              refine lv_bipush (v := (-4 : Int32)) hx hb dX3_same_65 (by decide) ?_
              cases hf
              exact r_iret X dX3_same_67 (Nat.le_refl _) (Nat.le_refl _) rfl hH hS
        · have hf := (if_neg c_).symm.trans hf
          refine lv_bipush (v := (-11 : Int32)) hx hb dX3_same_32 (by decide) ?_
          cases hf
          exact r_iret X dX3_same_34 (Nat.le_refl _) (Nat.le_refl _) rfl hH hS
    · have hf := (if_pos c_).symm.trans hf
      refine lv_iconst (v := (-1 : Int32)) hx hb dX3_same_14 (by decide) ?_
      cases hf
      exact r_iret X dX3_same_15 (Nat.le_refl _) (Nat.le_refl _) rfl hH hS
theorem cv_X3_shorter : CalV "WordBenchModel" yX3_shorter cX3_shorter 14 (some .int) 3 := ⟨q1354, q1355, q57, q1356, by decide +kernel⟩
set_option maxHeartbeats 4000000 in
theorem met_X3_shorter (l : Launch) (G : GG) (sz M : Nat) (rst : Nat → Option AE) (N : Nat) (st : MS) (a1 : Int32) (a2 : Int32) (a3 : Int32) (stf : MS) (rf : Int32) (hf : f_X3_shorter N st a1 a2 a3 = some (stf, rf)) : Con l yX3_shorter cX3_shorter 14 (some .int) 3 0 0 G (sz, MH M st rst) [.ref M, .int a1, .int a2, .int a3] (sz, MH M stf rst) (some (.int rf)) := by
  refine con_of (by decide) (Nat.le_of_ble_eq_true rfl) ?_
  intro p e s m below meth c ls X hK hH hl hS
  have hx := X.1
  have hb := X.2.1
  have hown : s.vm.findClass RX3 = some m.cls := X.2.2.2.2.1
  have hts := X.2.2.2.2.2.1
  have hl : lv_has ls 14 [(0, .ref M), (1, .int a1), (2, .int a2), (3, .int a3)] := hl
  unfold f_X3_shorter at hf
  have L37 : ∀ (c1 : Int32) (c2 : Int32) (c3 : Int32) (c4 : Int32) (c5 : Int32) (t37 : MS) (n : Nat) (s37 : Int32) (r37 : Int32), lp (f_X3_shorter_b37 N c1 c2 c3 c4 c5 t37) n s37 = some r37 → (∀ (ls : Array Slot) (H : Heap) (locs : List Loc), lv_has ls 14 [(0, .ref M), (1, .int c1), (2, .int c2), (3, .int c3), (4, .int c4), (5, .int c5), (6, .int r37)] → HH G (sz, MH M t37 rst) H → va_S (AG G) s.heap H locs → W p l e (rm_ 3 0 0) s m ([.ref M, .int a1, .int a2, .int a3] : List Value).toArray below meth c H locs 0 0 (MQ below (PostC G (sz, MH M stf rst) (some (.int rf))) ([.ref M, .int a1, .int a2, .int a3] : List Value).toArray s 0 0 (AG G)) (F0 m 78 ls [])) → ∀ (ls : Array Slot) (H : Heap) (locs : List Loc), lv_has ls 14 [(0, .ref M), (1, .int c1), (2, .int c2), (3, .int c3), (4, .int c4), (5, .int c5), (6, .int s37)] → HH G (sz, MH M t37 rst) H → va_S (AG G) s.heap H locs → W p l e (rm_ 3 0 0) s m ([.ref M, .int a1, .int a2, .int a3] : List Value).toArray below meth c H locs 0 0 (MQ below (PostC G (sz, MH M stf rst) (some (.int rf))) ([.ref M, .int a1, .int a2, .int a3] : List Value).toArray s 0 0 (AG G)) (F0 m 37 ls []) := by
    intro c1 c2 c3 c4 c5 t37 n s37 r37 hr hq
    refine lp_ind (P := fun s37 => ∀ (ls : Array Slot) (H : Heap) (locs : List Loc), lv_has ls 14 [(0, .ref M), (1, .int c1), (2, .int c2), (3, .int c3), (4, .int c4), (5, .int c5), (6, .int s37)] → HH G (sz, MH M t37 rst) H → va_S (AG G) s.heap H locs → W p l e (rm_ 3 0 0) s m ([.ref M, .int a1, .int a2, .int a3] : List Value).toArray below meth c H locs 0 0 (MQ below (PostC G (sz, MH M stf rst) (some (.int rf))) ([.ref M, .int a1, .int a2, .int a3] : List Value).toArray s 0 0 (AG G)) (F0 m 37 ls [])) (Q := fun r37 => ∀ (ls : Array Slot) (H : Heap) (locs : List Loc), lv_has ls 14 [(0, .ref M), (1, .int c1), (2, .int c2), (3, .int c3), (4, .int c4), (5, .int c5), (6, .int r37)] → HH G (sz, MH M t37 rst) H → va_S (AG G) s.heap H locs → W p l e (rm_ 3 0 0) s m ([.ref M, .int a1, .int a2, .int a3] : List Value).toArray below meth c H locs 0 0 (MQ below (PostC G (sz, MH M stf rst) (some (.int rf))) ([.ref M, .int a1, .int a2, .int a3] : List Value).toArray s 0 0 (AG G)) (F0 m 78 ls [])) ?_ n s37 r37 hr hq
    intro s37 x37 hf hx37 ls H locs hl hH hS
    unfold f_X3_shorter_b37 at hf
    refine lv_iload hx hb dX3_shorter_37 (lv_at hl 6 rfl) ?_
    refine lv_aload_n hx hb dX3_shorter_39 rfl (lv_at hl 0 rfl) ?_
    refine m_get X hK hH 4 (by decide) rfl (mg_4 _ _) q1063 dX3_shorter_40 ?_
    refine lv_iload_n hx hb dX3_shorter_43 rfl (lv_at hl 1 rfl) ?_
    obtain ⟨v4, hv, hf⟩ := bd hf
    refine m_iald X hK hH 4 (mc_4 _ _) hv dX3_shorter_44 ?_
    refine lv_icmp_ge (tgt := 78) hx hb dX3_shorter_45 (by decide) (fun c_ => ?_) (fun c_ => ?_)
    · have hf := (if_pos c_).symm.trans hf
      cases hf
      exact hx37 _ _ _ (lv_sub hl [0, 1, 2, 3, 4, 5, 6] rfl) hH hS
    · have hf := (if_neg c_).symm.trans hf
      refine lv_iload hx hb dX3_shorter_48 (lv_at hl 4 rfl) ?_
      refine lv_iload hx hb dX3_shorter_50 (lv_at hl 5 rfl) ?_
      refine lv_aload_n hx hb dX3_shorter_52 rfl (lv_at hl 0 rfl) ?_
      refine m_get X hK hH 5 (by decide) rfl (mg_5 _ _) q1064 dX3_shorter_53 ?_
      refine lv_sipush (v := (200 : Int32)) hx hb dX3_shorter_56 (by decide) ?_
      refine lv_iload_n hx hb dX3_shorter_59 rfl (lv_at hl 1 rfl) ?_
      refine lv_imul hx hb dX3_shorter_60 ?_
      refine lv_iload hx hb dX3_shorter_61 (lv_at hl 6 rfl) ?_
      refine lv_iadd hx hb dX3_shorter_63 ?_
      obtain ⟨v5, hv, hf⟩ := bd hf
      refine m_lald X hK hH 5 (mc_5 _ _) hv dX3_shorter_64 ?_
      refine lv_iload_n hx hb dX3_shorter_65 rfl (lv_at hl 2 rfl) ?_
      obtain ⟨v6, hv, hf⟩ := bd hf
      refine r_Si (As := [.int c4, .int c5, .long v5, .int c2]) (rest := []) X (met_X3_letter l G _ N c4 c5 v5 c2 v6 hv) cs_X3_letter q1029 rfl rfl hl.1 (Nat.le_of_ble_eq_true rfl) ⟨Nat.le_of_ble_eq_true rfl, Nat.le_of_ble_eq_true rfl⟩ ⟨Nat.le_refl _, Nat.le_refl _⟩ dX3_shorter_66 hK hH hS (fun H locs hH hS => ?_)
      refine lv_if_ne (tgt := 78) hx hb dX3_shorter_69 (by decide) (fun c_ => ?_) (fun c_ => ?_)
      · have hf := (if_neg c_).symm.trans hf
        cases hf
        exact hx37 _ _ _ (lv_sub hl [0, 1, 2, 3, 4, 5, 6] rfl) hH hS
      · have hf := (if_pos c_).symm.trans hf
        refine lv_iinc (v := (s37 + 1)) (lv' := [(6, .int (s37 + 1)), (0, .ref M), (1, .int c1), (2, .int c2), (3, .int c3), (4, .int c4), (5, .int c5)]) hx hb dX3_shorter_72 hl (k := 6) rfl rfl (by decide) rfl (fun ls hl => ?_)
        refine lv_goto (tgt := 37) hx hb dX3_shorter_75 (by decide) ?_
        cases hf
        exact hx37 _ _ _ (lv_sub hl [1, 2, 3, 4, 5, 6, 0] rfl) hH hS
  have L86 : ∀ (c1 : Int32) (c2 : Int32) (c3 : Int32) (c4 : Int32) (c5 : Int32) (c6 : Int32) (n : Nat) (s86 : (Int32 × MS)) (r86 : MS), lp (f_X3_shorter_b86 N c1 c2 c3 c4 c5 c6) n s86 = some r86 → (∀ (ls : Array Slot) (H : Heap) (locs : List Loc), lv_has ls 14 [(0, .ref M), (1, .int c1), (3, .int c3), (4, .int c4), (5, .int c5)] → HH G (sz, MH M r86 rst) H → va_S (AG G) s.heap H locs → W p l e (rm_ 3 0 0) s m ([.ref M, .int a1, .int a2, .int a3] : List Value).toArray below meth c H locs 0 0 (MQ below (PostC G (sz, MH M stf rst) (some (.int rf))) ([.ref M, .int a1, .int a2, .int a3] : List Value).toArray s 0 0 (AG G)) (F0 m 263 ls [])) → ∀ (ls : Array Slot) (H : Heap) (locs : List Loc), lv_has ls 14 [(0, .ref M), (1, .int c1), (2, .int c2), (3, .int c3), (4, .int c4), (5, .int c5), (6, .int c6), (7, .int s86.1)] → HH G (sz, MH M s86.2 rst) H → va_S (AG G) s.heap H locs → W p l e (rm_ 3 0 0) s m ([.ref M, .int a1, .int a2, .int a3] : List Value).toArray below meth c H locs 0 0 (MQ below (PostC G (sz, MH M stf rst) (some (.int rf))) ([.ref M, .int a1, .int a2, .int a3] : List Value).toArray s 0 0 (AG G)) (F0 m 86 ls []) := by
    intro c1 c2 c3 c4 c5 c6 n s86 r86 hr hq
    refine lp_ind (P := fun s86 => ∀ (ls : Array Slot) (H : Heap) (locs : List Loc), lv_has ls 14 [(0, .ref M), (1, .int c1), (2, .int c2), (3, .int c3), (4, .int c4), (5, .int c5), (6, .int c6), (7, .int s86.1)] → HH G (sz, MH M s86.2 rst) H → va_S (AG G) s.heap H locs → W p l e (rm_ 3 0 0) s m ([.ref M, .int a1, .int a2, .int a3] : List Value).toArray below meth c H locs 0 0 (MQ below (PostC G (sz, MH M stf rst) (some (.int rf))) ([.ref M, .int a1, .int a2, .int a3] : List Value).toArray s 0 0 (AG G)) (F0 m 86 ls [])) (Q := fun r86 => ∀ (ls : Array Slot) (H : Heap) (locs : List Loc), lv_has ls 14 [(0, .ref M), (1, .int c1), (3, .int c3), (4, .int c4), (5, .int c5)] → HH G (sz, MH M r86 rst) H → va_S (AG G) s.heap H locs → W p l e (rm_ 3 0 0) s m ([.ref M, .int a1, .int a2, .int a3] : List Value).toArray below meth c H locs 0 0 (MQ below (PostC G (sz, MH M stf rst) (some (.int rf))) ([.ref M, .int a1, .int a2, .int a3] : List Value).toArray s 0 0 (AG G)) (F0 m 263 ls [])) ?_ n s86 r86 hr hq
    intro s86 x86 hf hx86 ls H locs hl hH hS
    unfold f_X3_shorter_b86 at hf
    have J229 : ∀ (d7 : Int32) (d8 : Int64) (d11 : Int64) (k0 : Int32) (u229 : MS), f_X3_shorter_j229 N c1 c2 c3 c4 c5 c6 d7 d8 d11 k0 u229 = some x86 → ∀ (ls : Array Slot) (H : Heap) (locs : List Loc), lv_has ls 14 [(0, .ref M), (1, .int c1), (2, .int c2), (3, .int c3), (4, .int c4), (5, .int c5), (6, .int c6), (7, .int d7), (8, .long d8), (11, .long d11)] → HH G (sz, MH M u229 rst) H → va_S (AG G) s.heap H locs → W p l e (rm_ 3 0 0) s m ([.ref M, .int a1, .int a2, .int a3] : List Value).toArray below meth c H locs 0 0 (MQ below (PostC G (sz, MH M stf rst) (some (.int rf))) ([.ref M, .int a1, .int a2, .int a3] : List Value).toArray s 0 0 (AG G)) (F0 m 229 ls [.int k0]) := by
      intro d7 d8 d11 k0 u229 hf ls H locs hl hH hS
      unfold f_X3_shorter_j229 at hf
      refine lv_istore (lv' := [(13, .int k0), (0, .ref M), (1, .int c1), (2, .int c2), (3, .int c3), (4, .int c4), (5, .int c5), (6, .int c6), (7, .int d7), (8, .long d8), (11, .long d11)]) hx hb dX3_shorter_229 hl (by decide) rfl (fun ls hl => ?_)
      refine lv_aload_n hx hb dX3_shorter_231 rfl (lv_at hl 1 rfl) ?_
      refine lv_iload hx hb dX3_shorter_232 (lv_at hl 5 rfl) ?_
      refine lv_iload hx hb dX3_shorter_234 (lv_at hl 6 rfl) ?_
      refine lv_iload hx hb dX3_shorter_236 (lv_at hl 5 rfl) ?_
      refine lv_iload hx hb dX3_shorter_238 (lv_at hl 6 rfl) ?_
      refine lv_lload hx hb dX3_shorter_240 (lv_at hl 9 rfl) ?_
      refine lv_lload hx hb dX3_shorter_242 (lv_at hl 10 rfl) ?_
      refine lv_iload hx hb dX3_shorter_244 (lv_at hl 0 rfl) ?_
      obtain ⟨v17, hv, hf⟩ := bd hf
      refine r_Sl (As := [.int c4, .int c5, .long d8, .long d11, .int k0]) (rest := [.int c5, .int c4, .ref M]) X (met_X3_sumOf l G _ N c4 c5 d8 d11 k0 v17 hv) cs_X3_sumOf q1026 rfl rfl hl.1 (Nat.le_of_ble_eq_true rfl) ⟨Nat.le_of_ble_eq_true rfl, Nat.le_of_ble_eq_true rfl⟩ ⟨Nat.le_refl _, Nat.le_refl _⟩ dX3_shorter_246 hK hH hS (fun H locs hH hS => ?_)
      refine lv_iload_n hx hb dX3_shorter_249 rfl (lv_at hl 3 rfl) ?_
      obtain ⟨v18, hv, hf⟩ := bd hf
      refine r_Sl (As := [.int c4, .int c5, .long v17, .int c2]) (rest := [.ref M]) X (met_X3_without l G _ N c4 c5 v17 c2 v18 hv) cs_X3_without q1346 rfl rfl hl.1 (Nat.le_of_ble_eq_true rfl) ⟨Nat.le_of_ble_eq_true rfl, Nat.le_of_ble_eq_true rfl⟩ ⟨Nat.le_refl _, Nat.le_refl _⟩ dX3_shorter_250 hK hH hS (fun H locs hH hS => ?_)
      refine lv_iconst (v := (0 : Int32)) hx hb dX3_shorter_253 (by decide) ?_
      obtain ⟨v19, hv, hf⟩ := bd hf
      refine r_Vv (As := [.long v18, .int (0 : Int32)]) (rest := []) X (met_X3_asideOnce l G _ _ _ N u229 v18 (0 : Int32) v19 hv) cv_X3_asideOnce q1349 (m_recv hK hH) rfl rfl hl.1 (Nat.le_of_ble_eq_true rfl) ⟨Nat.le_of_ble_eq_true rfl, Nat.le_of_ble_eq_true rfl⟩ ⟨Nat.le_refl _, Nat.le_refl _⟩ dX3_shorter_254 hK hH hS (fun H locs hH hS => ?_)
      refine lv_iinc (v := (d7 + 1)) (lv' := [(7, .int (d7 + 1)), (13, .int k0), (0, .ref M), (1, .int c1), (2, .int c2), (3, .int c3), (4, .int c4), (5, .int c5), (6, .int c6), (8, .long d8), (11, .long d11)]) hx hb dX3_shorter_257 hl (k := 8) rfl rfl (by decide) rfl (fun ls hl => ?_)
      refine lv_goto (tgt := 86) hx hb dX3_shorter_260 (by decide) ?_
      cases hf
      exact hx86 _ _ _ (lv_sub hl [2, 3, 4, 5, 6, 7, 8, 0] rfl) hH hS
    have J191 : ∀ (d7 : Int32) (d8 : Int64) (d10 : Int32) (k0 : Int64) (u191 : MS), f_X3_shorter_j191 N c1 c2 c3 c4 c5 c6 d7 d8 d10 k0 u191 = some x86 → ∀ (ls : Array Slot) (H : Heap) (locs : List Loc), lv_has ls 14 [(0, .ref M), (1, .int c1), (2, .int c2), (3, .int c3), (4, .int c4), (5, .int c5), (6, .int c6), (7, .int d7), (8, .long d8), (10, .int d10)] → HH G (sz, MH M u191 rst) H → va_S (AG G) s.heap H locs → W p l e (rm_ 3 0 0) s m ([.ref M, .int a1, .int a2, .int a3] : List Value).toArray below meth c H locs 0 0 (MQ below (PostC G (sz, MH M stf rst) (some (.int rf))) ([.ref M, .int a1, .int a2, .int a3] : List Value).toArray s 0 0 (AG G)) (F0 m 191 ls [.long k0]) := by
      intro d7 d8 d10 k0 u191 hf ls H locs hl hH hS
      unfold f_X3_shorter_j191 at hf
      refine lv_lstore (lv' := [(11, .long k0), (0, .ref M), (1, .int c1), (2, .int c2), (3, .int c3), (4, .int c4), (5, .int c5), (6, .int c6), (7, .int d7), (8, .long d8), (10, .int d10)]) hx hb dX3_shorter_191 hl (by decide) rfl (fun ls hl => ?_)
      refine lv_iload hx hb dX3_shorter_193 (lv_at hl 10 rfl) ?_
      refine lv_if_ne (tgt := 202) hx hb dX3_shorter_195 (by decide) (fun c_ => ?_) (fun c_ => ?_)
      · have hf := (if_neg c_).symm.trans hf
        refine lv_iload hx hb dX3_shorter_202 (lv_at hl 5 rfl) ?_
        refine lv_iload hx hb dX3_shorter_204 (lv_at hl 5 rfl) ?_
        refine lv_iload hx hb dX3_shorter_206 (lv_at hl 10 rfl) ?_
        refine lv_iload hx hb dX3_shorter_208 (lv_at hl 5 rfl) ?_
        refine lv_iload hx hb dX3_shorter_210 (lv_at hl 5 rfl) ?_
        refine lv_iload hx hb dX3_shorter_212 (lv_at hl 6 rfl) ?_
        refine lv_lload hx hb dX3_shorter_214 (lv_at hl 0 rfl) ?_
        refine lv_iload_n hx hb dX3_shorter_216 rfl (lv_at hl 3 rfl) ?_
        obtain ⟨v13, hv, hf⟩ := bd hf
        refine r_Si (As := [.int c4, .int c5, .long k0, .int c2]) (rest := [.int c4, .int d10, .int c4, .int c4]) X (met_X3_letter l G _ N c4 c5 k0 c2 v13 hv) cs_X3_letter q1029 rfl rfl hl.1 (Nat.le_of_ble_eq_true rfl) ⟨Nat.le_of_ble_eq_true rfl, Nat.le_of_ble_eq_true rfl⟩ ⟨Nat.le_refl _, Nat.le_refl _⟩ dX3_shorter_217 hK hH hS (fun H locs hH hS => ?_)
        obtain ⟨v14, hv, hf⟩ := bd hf
        refine r_Si (As := [.int c4, .int v13]) (rest := [.int d10, .int c4, .int c4]) X (met_X3_inverse l G _ N c4 v13 v14 hv) cs_X3_inverse q1184 rfl rfl hl.1 (Nat.le_of_ble_eq_true rfl) ⟨Nat.le_of_ble_eq_true rfl, Nat.le_of_ble_eq_true rfl⟩ ⟨Nat.le_refl _, Nat.le_refl _⟩ dX3_shorter_220 hK hH hS (fun H locs hH hS => ?_)
        obtain ⟨v15, hv, hf⟩ := bd hf
        refine r_Si (As := [.int c4, .int d10, .int v14]) (rest := [.int c4]) X (met_X3_times l G _ N c4 d10 v14 v15 hv) cs_X3_times q1032 rfl rfl hl.1 (Nat.le_of_ble_eq_true rfl) ⟨Nat.le_of_ble_eq_true rfl, Nat.le_of_ble_eq_true rfl⟩ ⟨Nat.le_refl _, Nat.le_refl _⟩ dX3_shorter_223 hK hH hS (fun H locs hH hS => ?_)
        obtain ⟨v16, hv, hf⟩ := bd hf
        refine r_Si (As := [.int c4, .int v15]) (rest := []) X (met_X3_minus l G _ N c4 v15 v16 hv) cs_X3_minus q1187 rfl rfl hl.1 (Nat.le_of_ble_eq_true rfl) ⟨Nat.le_of_ble_eq_true rfl, Nat.le_of_ble_eq_true rfl⟩ ⟨Nat.le_refl _, Nat.le_refl _⟩ dX3_shorter_226 hK hH hS (fun H locs hH hS => ?_)
        exact J229 d7 d8 k0 v16 u191 hf _ _ _ (lv_sub hl [1, 2, 3, 4, 5, 6, 7, 8, 9, 0] rfl) hH hS
      · have hf := (if_pos c_).symm.trans hf
        refine lv_iconst (v := (0 : Int32)) hx hb dX3_shorter_198 (by decide) ?_
        refine lv_goto (tgt := 229) hx hb dX3_shorter_199 (by decide) ?_
        exact J229 d7 d8 k0 (0 : Int32) u191 hf _ _ _ (lv_sub hl [1, 2, 3, 4, 5, 6, 7, 8, 9, 0] rfl) hH hS
    refine lv_iload hx hb dX3_shorter_86 (lv_at hl 7 rfl) ?_
    refine lv_aload_n hx hb dX3_shorter_88 rfl (lv_at hl 0 rfl) ?_
    refine m_get X hK hH 4 (by decide) rfl (mg_4 _ _) q1063 dX3_shorter_89 ?_
    refine lv_iload_n hx hb dX3_shorter_92 rfl (lv_at hl 1 rfl) ?_
    obtain ⟨v8, hv, hf⟩ := bd hf
    refine m_iald X hK hH 4 (mc_4 _ _) hv dX3_shorter_93 ?_
    refine lv_icmp_ge (tgt := 263) hx hb dX3_shorter_94 (by decide) (fun c_ => ?_) (fun c_ => ?_)
    · have hf := (if_pos c_).symm.trans hf
      cases hf
      exact hx86 _ _ _ (lv_sub hl [0, 1, 3, 4, 5] rfl) hH hS
    · have hf := (if_neg c_).symm.trans hf
      refine lv_aload_n hx hb dX3_shorter_97 rfl (lv_at hl 0 rfl) ?_
      refine m_get X hK hH 5 (by decide) rfl (mg_5 _ _) q1064 dX3_shorter_98 ?_
      refine lv_sipush (v := (200 : Int32)) hx hb dX3_shorter_101 (by decide) ?_
      refine lv_iload_n hx hb dX3_shorter_104 rfl (lv_at hl 1 rfl) ?_
      refine lv_imul hx hb dX3_shorter_105 ?_
      refine lv_iload hx hb dX3_shorter_106 (lv_at hl 7 rfl) ?_
      refine lv_iadd hx hb dX3_shorter_108 ?_
      obtain ⟨v9, hv, hf⟩ := bd hf
      refine m_lald X hK hH 5 (mc_5 _ _) hv dX3_shorter_109 ?_
      refine lv_lstore (lv' := [(8, .long v9), (0, .ref M), (1, .int c1), (2, .int c2), (3, .int c3), (4, .int c4), (5, .int c5), (6, .int c6), (7, .int s86.1)]) hx hb dX3_shorter_110 hl (by decide) rfl (fun ls hl => ?_)
      refine lv_iload hx hb dX3_shorter_112 (lv_at hl 5 rfl) ?_
      refine lv_iload hx hb dX3_shorter_114 (lv_at hl 6 rfl) ?_
      refine lv_lload hx hb dX3_shorter_116 (lv_at hl 0 rfl) ?_
      refine lv_iload_n hx hb dX3_shorter_118 rfl (lv_at hl 3 rfl) ?_
      obtain ⟨v10, hv, hf⟩ := bd hf
      refine r_Si (As := [.int c4, .int c5, .long v9, .int c2]) (rest := []) X (met_X3_letter l G _ N c4 c5 v9 c2 v10 hv) cs_X3_letter q1029 rfl rfl hl.1 (Nat.le_of_ble_eq_true rfl) ⟨Nat.le_of_ble_eq_true rfl, Nat.le_of_ble_eq_true rfl⟩ ⟨Nat.le_refl _, Nat.le_refl _⟩ dX3_shorter_119 hK hH hS (fun H locs hH hS => ?_)
      refine lv_istore (lv' := [(10, .int v10), (8, .long v9), (0, .ref M), (1, .int c1), (2, .int c2), (3, .int c3), (4, .int c4), (5, .int c5), (6, .int c6), (7, .int s86.1)]) hx hb dX3_shorter_122 hl (by decide) rfl (fun ls hl => ?_)
      refine lv_aload_n hx hb dX3_shorter_124 rfl (lv_at hl 2 rfl) ?_
      refine m_get X hK hH 1 (by decide) rfl (mg_1 _ _) q1060 dX3_shorter_125 ?_
      refine lv_iload_n hx hb dX3_shorter_128 rfl (lv_at hl 3 rfl) ?_
      obtain ⟨v11, hv, hf⟩ := bd hf
      refine m_iald X hK hH 1 (mc_1 _ _) hv dX3_shorter_129 ?_
      refine lv_if_ne (tgt := 156) hx hb dX3_shorter_130 (by decide) (fun c_ => ?_) (fun c_ => ?_)
      · have hf := (if_neg c_).symm.trans hf
        refine lv_iload hx hb dX3_shorter_156 (lv_at hl 9 rfl) ?_
        refine lv_iload hx hb dX3_shorter_158 (lv_at hl 8 rfl) ?_
        refine lv_icmp_eq (tgt := 257) hx hb dX3_shorter_160 (by decide) (fun c_ => ?_) (fun c_ => ?_)
        · have hf := (if_pos c_).symm.trans hf
          refine lv_iinc (v := (s86.1 + 1)) (lv' := [(7, .int (s86.1 + 1)), (10, .int v10), (8, .long v9), (0, .ref M), (1, .int c1), (2, .int c2), (3, .int c3), (4, .int c4), (5, .int c5), (6, .int c6)]) hx hb dX3_shorter_257 hl (k := 9) rfl rfl (by decide) rfl (fun ls hl => ?_)
          refine lv_goto (tgt := 86) hx hb dX3_shorter_260 (by decide) ?_
          cases hf
          exact hx86 _ _ _ (lv_sub hl [3, 4, 5, 6, 7, 8, 9, 0] rfl) hH hS
        · have hf := (if_neg c_).symm.trans hf
          refine lv_iload hx hb dX3_shorter_163 (lv_at hl 8 rfl) ?_
          refine lv_aload_n hx hb dX3_shorter_165 rfl (lv_at hl 2 rfl) ?_
          refine m_get X hK hH 4 (by decide) rfl (mg_4 _ _) q1063 dX3_shorter_166 ?_
          refine lv_iload_n hx hb dX3_shorter_169 rfl (lv_at hl 3 rfl) ?_
          obtain ⟨v12, hv, hf⟩ := bd hf
          refine m_iald X hK hH 4 (mc_4 _ _) hv dX3_shorter_170 ?_
          refine lv_icmp_ge (tgt := 190) hx hb dX3_shorter_171 (by decide) (fun c_ => ?_) (fun c_ => ?_)
          · have hf := (if_pos c_).symm.trans hf
            refine lv_lconst (v := (0 : Int64)) hx hb dX3_shorter_190 (by decide) ?_
            exact J191 s86.1 v9 v10 (0 : Int64) s86.2 hf _ _ _ (lv_sub hl [2, 3, 4, 5, 6, 7, 8, 9, 1, 0] rfl) hH hS
          · have hf := (if_neg c_).symm.trans hf
            refine lv_aload_n hx hb dX3_shorter_174 rfl (lv_at hl 2 rfl) ?_
            refine m_get X hK hH 5 (by decide) rfl (mg_5 _ _) q1064 dX3_shorter_175 ?_
            refine lv_sipush (v := (200 : Int32)) hx hb dX3_shorter_178 (by decide) ?_
            refine lv_iload_n hx hb dX3_shorter_181 rfl (lv_at hl 3 rfl) ?_
            refine lv_imul hx hb dX3_shorter_182 ?_
            refine lv_iload hx hb dX3_shorter_183 (lv_at hl 8 rfl) ?_
            refine lv_iadd hx hb dX3_shorter_185 ?_
            obtain ⟨v20, hv, hf⟩ := bd hf
            refine m_lald X hK hH 5 (mc_5 _ _) hv dX3_shorter_186 ?_
            refine lv_goto (tgt := 191) hx hb dX3_shorter_187 (by decide) ?_
            exact J191 s86.1 v9 v10 v20 s86.2 hf _ _ _ (lv_sub hl [2, 3, 4, 5, 6, 7, 8, 9, 1, 0] rfl) hH hS
      · have hf := (if_pos c_).symm.trans hf
        refine lv_iload hx hb dX3_shorter_133 (lv_at hl 0 rfl) ?_
        refine lv_if_ne (tgt := 257) hx hb dX3_shorter_135 (by decide) (fun c_ => ?_) (fun c_ => ?_)
        · have hf := (if_neg c_).symm.trans hf
          refine lv_iinc (v := (s86.1 + 1)) (lv' := [(7, .int (s86.1 + 1)), (10, .int v10), (8, .long v9), (0, .ref M), (1, .int c1), (2, .int c2), (3, .int c3), (4, .int c4), (5, .int c5), (6, .int c6)]) hx hb dX3_shorter_257 hl (k := 9) rfl rfl (by decide) rfl (fun ls hl => ?_)
          refine lv_goto (tgt := 86) hx hb dX3_shorter_260 (by decide) ?_
          cases hf
          exact hx86 _ _ _ (lv_sub hl [3, 4, 5, 6, 7, 8, 9, 0] rfl) hH hS
        · have hf := (if_pos c_).symm.trans hf
          refine lv_aload_n hx hb dX3_shorter_138 rfl (lv_at hl 2 rfl) ?_
          refine lv_iload hx hb dX3_shorter_139 (lv_at hl 6 rfl) ?_
          refine lv_iload hx hb dX3_shorter_141 (lv_at hl 7 rfl) ?_
          refine lv_lload hx hb dX3_shorter_143 (lv_at hl 1 rfl) ?_
          refine lv_iload_n hx hb dX3_shorter_145 rfl (lv_at hl 4 rfl) ?_
          obtain ⟨v21, hv, hf⟩ := bd hf
          refine r_Sl (As := [.int c4, .int c5, .long v9, .int c2]) (rest := [.ref M]) X (met_X3_without l G _ N c4 c5 v9 c2 v21 hv) cs_X3_without q1346 rfl rfl hl.1 (Nat.le_of_ble_eq_true rfl) ⟨Nat.le_of_ble_eq_true rfl, Nat.le_of_ble_eq_true rfl⟩ ⟨Nat.le_refl _, Nat.le_refl _⟩ dX3_shorter_146 hK hH hS (fun H locs hH hS => ?_)
          refine lv_iconst (v := (0 : Int32)) hx hb dX3_shorter_149 (by decide) ?_
          obtain ⟨v22, hv, hf⟩ := bd hf
          refine r_Vv (As := [.long v21, .int (0 : Int32)]) (rest := []) X (met_X3_asideOnce l G _ _ _ N s86.2 v21 (0 : Int32) v22 hv) cv_X3_asideOnce q1349 (m_recv hK hH) rfl rfl hl.1 (Nat.le_of_ble_eq_true rfl) ⟨Nat.le_of_ble_eq_true rfl, Nat.le_of_ble_eq_true rfl⟩ ⟨Nat.le_refl _, Nat.le_refl _⟩ dX3_shorter_150 hK hH hS (fun H locs hH hS => ?_)
          refine lv_goto (tgt := 257) hx hb dX3_shorter_153 (by decide) ?_
          refine lv_iinc (v := (s86.1 + 1)) (lv' := [(7, .int (s86.1 + 1)), (10, .int v10), (8, .long v9), (0, .ref M), (1, .int c1), (2, .int c2), (3, .int c3), (4, .int c4), (5, .int c5), (6, .int c6)]) hx hb dX3_shorter_257 hl (k := 9) rfl rfl (by decide) rfl (fun ls hl => ?_)
          refine lv_goto (tgt := 86) hx hb dX3_shorter_260 (by decide) ?_
          cases hf
          exact hx86 _ _ _ (lv_sub hl [3, 4, 5, 6, 7, 8, 9, 0] rfl) hH hS
  have J78 : ∀ (d1 : Int32) (d2 : Int32) (d3 : Int32) (d4 : Int32) (d5 : Int32) (d6 : Int32) (u78 : MS), f_X3_shorter_j78 N d1 d2 d3 d4 d5 d6 u78 = some (stf, rf) → ∀ (ls : Array Slot) (H : Heap) (locs : List Loc), lv_has ls 14 [(0, .ref M), (1, .int d1), (2, .int d2), (3, .int d3), (4, .int d4), (5, .int d5), (6, .int d6)] → HH G (sz, MH M u78 rst) H → va_S (AG G) s.heap H locs → W p l e (rm_ 3 0 0) s m ([.ref M, .int a1, .int a2, .int a3] : List Value).toArray below meth c H locs 0 0 (MQ below (PostC G (sz, MH M stf rst) (some (.int rf))) ([.ref M, .int a1, .int a2, .int a3] : List Value).toArray s 0 0 (AG G)) (F0 m 78 ls []) := by
    intro d1 d2 d3 d4 d5 d6 u78 hf ls H locs hl hH hS
    unfold f_X3_shorter_j78 at hf
    refine lv_aload_n hx hb dX3_shorter_78 rfl (lv_at hl 0 rfl) ?_
    refine lv_iconst (v := (0 : Int32)) hx hb dX3_shorter_79 (by decide) ?_
    refine m_put (ty := .int) X hK hH hS 18 (by decide) rfl (mp_18 _ _ _) q1077 rfl (by decide +kernel) rfl rfl dX3_shorter_80 (fun H locs hH hS => ?_)
    refine lv_iconst (v := (0 : Int32)) hx hb dX3_shorter_83 (by decide) ?_
    refine lv_istore (lv' := [(7, .int (0 : Int32)), (0, .ref M), (1, .int d1), (2, .int d2), (3, .int d3), (4, .int d4), (5, .int d5), (6, .int d6)]) hx hb dX3_shorter_84 hl (by decide) rfl (fun ls hl => ?_)
    obtain ⟨r86_23, hr, hf⟩ := bd hf
    refine L86 d1 d2 d3 d4 d5 d6 N _ r86_23 hr ?_ _ _ _ (lv_sub hl [1, 2, 3, 4, 5, 6, 7, 0] rfl) hH hS
    intro ls H locs hl hH hS
    refine lv_aload_n hx hb dX3_shorter_263 rfl (lv_at hl 0 rfl) ?_
    refine lv_iload_n hx hb dX3_shorter_264 rfl (lv_at hl 2 rfl) ?_
    refine lv_aload_n hx hb dX3_shorter_265 rfl (lv_at hl 0 rfl) ?_
    refine lv_iload_n hx hb dX3_shorter_266 rfl (lv_at hl 1 rfl) ?_
    obtain ⟨v24, hv, hf⟩ := bd hf
    refine r_Vi (As := [.int d1]) (rest := [.int d3, .ref M]) X (met_X3_lineOr l G _ _ _ N r86_23 d1 v24 hv) cv_X3_lineOr q1330 (m_recv hK hH) rfl rfl hl.1 (Nat.le_of_ble_eq_true rfl) ⟨Nat.le_of_ble_eq_true rfl, Nat.le_of_ble_eq_true rfl⟩ ⟨Nat.le_refl _, Nat.le_refl _⟩ dX3_shorter_267 hK hH hS (fun H locs hH hS => ?_)
    refine lv_iload hx hb dX3_shorter_270 (lv_at hl 3 rfl) ?_
    refine lv_iload hx hb dX3_shorter_272 (lv_at hl 4 rfl) ?_
    refine lv_iconst (v := (1 : Int32)) hx hb dX3_shorter_274 (by decide) ?_
    refine lv_isub hx hb dX3_shorter_275 ?_
    obtain ⟨v25, hv, hf⟩ := bd hf
    refine r_Vi (As := [.int d3, .int v24, .int d4, .int (d5 - (1 : Int32))]) (rest := []) X (met_X3_comes l G _ _ _ N r86_23 d3 v24 d4 (d5 - (1 : Int32)) v25.1 v25.2 hv) cv_X3_comes q1334 (m_recv hK hH) rfl rfl hl.1 (Nat.le_of_ble_eq_true rfl) ⟨Nat.le_of_ble_eq_true rfl, Nat.le_of_ble_eq_true rfl⟩ ⟨Nat.le_refl _, Nat.le_refl _⟩ dX3_shorter_276 hK hH hS (fun H locs hH hS => ?_)
    cases hf
    exact r_iret X dX3_shorter_279 (Nat.le_refl _) (Nat.le_refl _) rfl hH hS
  refine lv_aload_n hx hb dX3_shorter_0 rfl (lv_at hl 0 rfl) ?_
  refine lv_iload_n hx hb dX3_shorter_1 rfl (lv_at hl 1 rfl) ?_
  refine lv_iload_n hx hb dX3_shorter_2 rfl (lv_at hl 2 rfl) ?_
  refine lv_iload_n hx hb dX3_shorter_3 rfl (lv_at hl 3 rfl) ?_
  obtain ⟨v1, hv, hf⟩ := bd hf
  refine r_Vi (As := [.int a1, .int a2, .int a3]) (rest := []) X (met_X3_lacksPlace l G _ _ _ N st a1 a2 a3 v1 hv) cv_X3_lacksPlace q1342 (m_recv hK hH) rfl rfl hl.1 (Nat.le_of_ble_eq_true rfl) ⟨Nat.le_of_ble_eq_true rfl, Nat.le_of_ble_eq_true rfl⟩ ⟨Nat.le_refl _, Nat.le_refl _⟩ dX3_shorter_4 hK hH hS (fun H locs hH hS => ?_)
  refine lv_if_eq (tgt := 18) hx hb dX3_shorter_7 (by decide) (fun c_ => ?_) (fun c_ => ?_)
  · have hf := (if_pos c_).symm.trans hf
    refine lv_aload_n hx hb dX3_shorter_18 rfl (lv_at hl 0 rfl) ?_
    refine m_get X hK hH 2 (by decide) rfl (mg_2 _ _) q1061 dX3_shorter_19 ?_
    refine lv_iload_n hx hb dX3_shorter_22 rfl (lv_at hl 1 rfl) ?_
    obtain ⟨v2, hv, hf⟩ := bd hf
    refine m_iald X hK hH 2 (mc_2 _ _) hv dX3_shorter_23 ?_
    refine lv_istore (lv' := [(4, .int v2), (0, .ref M), (1, .int a1), (2, .int a2), (3, .int a3)]) hx hb dX3_shorter_24 hl (by decide) rfl (fun ls hl => ?_)
    refine lv_aload_n hx hb dX3_shorter_26 rfl (lv_at hl 1 rfl) ?_
    refine m_get X hK hH 3 (by decide) rfl (mg_3 _ _) q1062 dX3_shorter_27 ?_
    refine lv_iload_n hx hb dX3_shorter_30 rfl (lv_at hl 2 rfl) ?_
    obtain ⟨v3, hv, hf⟩ := bd hf
    refine m_iald X hK hH 3 (mc_3 _ _) hv dX3_shorter_31 ?_
    refine lv_istore (lv' := [(5, .int v3), (4, .int v2), (0, .ref M), (1, .int a1), (2, .int a2), (3, .int a3)]) hx hb dX3_shorter_32 hl (by decide) rfl (fun ls hl => ?_)
    refine lv_iconst (v := (0 : Int32)) hx hb dX3_shorter_34 (by decide) ?_
    refine lv_istore (lv' := [(6, .int (0 : Int32)), (5, .int v3), (4, .int v2), (0, .ref M), (1, .int a1), (2, .int a2), (3, .int a3)]) hx hb dX3_shorter_35 hl (by decide) rfl (fun ls hl => ?_)
    obtain ⟨r37_7, hr, hf⟩ := bd hf
    refine L37 a1 a2 a3 v2 v3 st N _ r37_7 hr ?_ _ _ _ (lv_sub hl [3, 4, 5, 6, 2, 1, 0] rfl) hH hS
    intro ls H locs hl hH hS
    exact J78 a1 a2 a3 v2 v3 r37_7 st hf _ _ _ (lv_sub hl [0, 1, 2, 3, 4, 5, 6] rfl) hH hS
  · have hf := (if_neg c_).symm.trans hf
    refine lv_aload_n hx hb dX3_shorter_10 rfl (lv_at hl 0 rfl) ?_
    refine lv_iload_n hx hb dX3_shorter_11 rfl (lv_at hl 1 rfl) ?_
    refine lv_iload_n hx hb dX3_shorter_12 rfl (lv_at hl 2 rfl) ?_
    refine lv_iload_n hx hb dX3_shorter_13 rfl (lv_at hl 3 rfl) ?_
    obtain ⟨v26, hv, hf⟩ := bd hf
    refine r_Vi (As := [.int a1, .int a2, .int a3]) (rest := []) X (met_X3_lacksPlace l G _ _ _ N st a1 a2 a3 v26 hv) cv_X3_lacksPlace q1342 (m_recv hK hH) rfl rfl hl.1 (Nat.le_of_ble_eq_true rfl) ⟨Nat.le_of_ble_eq_true rfl, Nat.le_of_ble_eq_true rfl⟩ ⟨Nat.le_refl _, Nat.le_refl _⟩ dX3_shorter_14 hK hH hS (fun H locs hH hS => ?_)
    cases hf
    exact r_iret X dX3_shorter_17 (Nat.le_refl _) (Nat.le_refl _) rfl hH hS
theorem cv_X3_size : CalV "WordBenchModel" yX3_size cX3_size 2 (some .long) 1 := ⟨q1195, q1196, q57, q1197, by decide +kernel⟩
set_option maxHeartbeats 4000000 in
theorem met_X3_size (l : Launch) (G : GG) (sz M : Nat) (rst : Nat → Option AE) (N : Nat) (st : MS) (a1 : Int32) (stf : MS) (rf : Int64) (hf : f_X3_size N st a1 = some (stf, rf)) : Con l yX3_size cX3_size 2 (some .long) 5 0 0 G (sz, MH M st rst) [.ref M, .int a1] (sz, MH M stf rst) (some (.long rf)) := by
  refine con_of (by decide) (Nat.le_of_ble_eq_true rfl) ?_
  intro p e s m below meth c ls X hK hH hl hS
  have hx := X.1
  have hb := X.2.1
  have hown : s.vm.findClass RX3 = some m.cls := X.2.2.2.2.1
  have hts := X.2.2.2.2.2.1
  have hl : lv_has ls 2 [(0, .ref M), (1, .int a1)] := hl
  unfold f_X3_size at hf
  refine lv_iload_n hx hb dX3_size_0 rfl (lv_at hl 1 rfl) ?_
  obtain ⟨v1, hv, hf⟩ := bd hf
  refine r_Si (As := [.int a1]) (rest := []) X (met_X3_isPlace l G _ N a1 v1 hv) cs_X3_isPlace q1136 rfl rfl hl.1 (Nat.le_of_ble_eq_true rfl) ⟨Nat.le_of_ble_eq_true rfl, Nat.le_of_ble_eq_true rfl⟩ ⟨Nat.le_refl _, Nat.le_refl _⟩ dX3_size_1 hK hH hS (fun H locs hH hS => ?_)
  refine lv_if_ne (tgt := 13) hx hb dX3_size_4 (by decide) (fun c_ => ?_) (fun c_ => ?_)
  · have hf := (if_neg c_).symm.trans hf
    refine lv_aload_n hx hb dX3_size_13 rfl (lv_at hl 0 rfl) ?_
    refine lv_iload_n hx hb dX3_size_14 rfl (lv_at hl 1 rfl) ?_
    obtain ⟨v2, hv, hf⟩ := bd hf
    refine r_Vi (As := [.int a1]) (rest := []) X (met_X3_isEmpty l G _ _ _ N st a1 v2 hv) cv_X3_isEmpty q1148 (m_recv hK hH) rfl rfl hl.1 (Nat.le_of_ble_eq_true rfl) ⟨Nat.le_of_ble_eq_true rfl, Nat.le_of_ble_eq_true rfl⟩ ⟨Nat.le_refl _, Nat.le_refl _⟩ dX3_size_15 hK hH hS (fun H locs hH hS => ?_)
    refine lv_if_eq (tgt := 27) hx hb dX3_size_18 (by decide) (fun c_ => ?_) (fun c_ => ?_)
    · have hf := (if_pos c_).symm.trans hf
      refine lv_aload_n hx hb dX3_size_27 rfl (lv_at hl 0 rfl) ?_
      refine lv_iload_n hx hb dX3_size_28 rfl (lv_at hl 1 rfl) ?_
      obtain ⟨v3, hv, hf⟩ := bd hf
      refine r_Vl (As := [.int a1]) (rest := []) X (met_X3_sizeOf l G _ _ _ N st a1 v3.1 v3.2 hv) cv_X3_sizeOf q1199 (m_recv hK hH) rfl rfl hl.1 (Nat.le_of_ble_eq_true rfl) ⟨Nat.le_of_ble_eq_true rfl, Nat.le_of_ble_eq_true rfl⟩ ⟨Nat.le_refl _, Nat.le_refl _⟩ dX3_size_29 hK hH hS (fun H locs hH hS => ?_)
      cases hf
      exact r_lret X dX3_size_32 (Nat.le_refl _) (Nat.le_refl _) rfl hH hS
    · have hf := (if_neg c_).symm.trans hf
      refine lv_ldc2 (v := (-11 : Int64)) hx hb hown (hts _ q1198) dX3_size_21 ?_
      refine lv_goto (tgt := 32) hx hb dX3_size_24 (by decide) ?_
      cases hf
      exact r_lret X dX3_size_32 (Nat.le_refl _) (Nat.le_refl _) rfl hH hS
  · have hf := (if_pos c_).symm.trans hf
    refine lv_ldc2 (v := (-1 : Int64)) hx hb hown (hts _ q1025) dX3_size_7 ?_
    refine lv_goto (tgt := 32) hx hb dX3_size_10 (by decide) ?_
    cases hf
    exact r_lret X dX3_size_32 (Nat.le_refl _) (Nat.le_refl _) rfl hH hS
theorem cv_X3_sum : CalV "WordBenchModel" yX3_sum cX3_sum 8 (some .long) 5 := ⟨q1007, q1008, q57, q1009, by decide +kernel⟩
set_option maxHeartbeats 4000000 in
theorem met_X3_sum (l : Launch) (G : GG) (sz M : Nat) (rst : Nat → Option AE) (N : Nat) (st : MS) (a1 : Int32) (a2 : Int32) (a3 : Int64) (a5 : Int64) (a7 : Int32) (rf : Int64) (hf : f_X3_sum N st a1 a2 a3 a5 a7 = some rf) : Con l yX3_sum cX3_sum 8 (some .long) 3 0 0 G (sz, MH M st rst) [.ref M, .int a1, .int a2, .long a3, .long a5, .int a7] (sz, MH M st rst) (some (.long rf)) := by
  refine con_of (by decide) (Nat.le_of_ble_eq_true rfl) ?_
  intro p e s m below meth c ls X hK hH hl hS
  have hx := X.1
  have hb := X.2.1
  have hown : s.vm.findClass RX3 = some m.cls := X.2.2.2.2.1
  have hts := X.2.2.2.2.2.1
  have hl : lv_has ls 8 [(0, .ref M), (1, .int a1), (2, .int a2), (3, .long a3), (5, .long a5), (7, .int a7)] := hl
  unfold f_X3_sum at hf
  refine lv_iload_n hx hb dX3_sum_0 rfl (lv_at hl 1 rfl) ?_
  refine lv_iload_n hx hb dX3_sum_1 rfl (lv_at hl 2 rfl) ?_
  obtain ⟨v1, hv, hf⟩ := bd hf
  refine r_Si (As := [.int a1, .int a2]) (rest := []) X (met_X3_isField l G _ N a1 a2 v1 hv) cs_X3_isField q1010 rfl rfl hl.1 (Nat.le_of_ble_eq_true rfl) ⟨Nat.le_of_ble_eq_true rfl, Nat.le_of_ble_eq_true rfl⟩ ⟨Nat.le_refl _, Nat.le_refl _⟩ dX3_sum_2 hK hH hS (fun H locs hH hS => ?_)
  refine lv_if_eq (tgt := 41) hx hb dX3_sum_5 (by decide) (fun c_ => ?_) (fun c_ => ?_)
  · have hf := (if_pos c_).symm.trans hf
    refine lv_ldc2 (v := (-1 : Int64)) hx hb hown (hts _ q1025) dX3_sum_41 ?_
    cases hf
    exact r_lret X dX3_sum_44 (Nat.le_refl _) (Nat.le_refl _) rfl hH hS
  · have hf := (if_neg c_).symm.trans hf
    refine lv_iload hx hb dX3_sum_8 (lv_at hl 5 rfl) ?_
    refine lv_i2l (v := (a7).toInt64) hx hb dX3_sum_10 rfl ?_
    refine lv_lconst (v := (0 : Int64)) hx hb dX3_sum_11 (by decide) ?_
    refine lv_iload_n hx hb dX3_sum_12 rfl (lv_at hl 1 rfl) ?_
    refine lv_iconst (v := (1 : Int32)) hx hb dX3_sum_13 (by decide) ?_
    refine lv_isub hx hb dX3_sum_14 ?_
    refine lv_i2l (v := ((a1 - (1 : Int32))).toInt64) hx hb dX3_sum_15 rfl ?_
    obtain ⟨v2, hv, hf⟩ := bd hf
    refine r_Si (As := [.long ((a7).toInt64), .long (0 : Int64), .long (((a1 - (1 : Int32))).toInt64)]) (rest := []) X (met_X3_isIn l G _ N ((a7).toInt64) (0 : Int64) (((a1 - (1 : Int32))).toInt64) v2 hv) cs_X3_isIn q1015 rfl rfl hl.1 (Nat.le_of_ble_eq_true rfl) ⟨Nat.le_of_ble_eq_true rfl, Nat.le_of_ble_eq_true rfl⟩ ⟨Nat.le_refl _, Nat.le_refl _⟩ dX3_sum_16 hK hH hS (fun H locs hH hS => ?_)
    refine lv_if_eq (tgt := 41) hx hb dX3_sum_19 (by decide) (fun c_ => ?_) (fun c_ => ?_)
    · have hf := (if_pos c_).symm.trans hf
      refine lv_ldc2 (v := (-1 : Int64)) hx hb hown (hts _ q1025) dX3_sum_41 ?_
      cases hf
      exact r_lret X dX3_sum_44 (Nat.le_refl _) (Nat.le_refl _) rfl hH hS
    · have hf := (if_neg c_).symm.trans hf
      refine lv_iload_n hx hb dX3_sum_22 rfl (lv_at hl 1 rfl) ?_
      refine lv_iload_n hx hb dX3_sum_23 rfl (lv_at hl 2 rfl) ?_
      refine lv_lload_n hx hb dX3_sum_24 rfl (lv_at hl 3 rfl) ?_
      obtain ⟨v3, hv, hf⟩ := bd hf
      refine r_Si (As := [.int a1, .int a2, .long a3]) (rest := []) X (met_X3_isWord l G _ N a1 a2 a3 v3 hv) cs_X3_isWord q1019 rfl rfl hl.1 (Nat.le_of_ble_eq_true rfl) ⟨Nat.le_of_ble_eq_true rfl, Nat.le_of_ble_eq_true rfl⟩ ⟨Nat.le_refl _, Nat.le_refl _⟩ dX3_sum_25 hK hH hS (fun H locs hH hS => ?_)
      refine lv_if_eq (tgt := 41) hx hb dX3_sum_28 (by decide) (fun c_ => ?_) (fun c_ => ?_)
      · have hf := (if_pos c_).symm.trans hf
        refine lv_ldc2 (v := (-1 : Int64)) hx hb hown (hts _ q1025) dX3_sum_41 ?_
        cases hf
        exact r_lret X dX3_sum_44 (Nat.le_refl _) (Nat.le_refl _) rfl hH hS
      · have hf := (if_neg c_).symm.trans hf
        refine lv_iload_n hx hb dX3_sum_31 rfl (lv_at hl 1 rfl) ?_
        refine lv_iload_n hx hb dX3_sum_32 rfl (lv_at hl 2 rfl) ?_
        refine lv_lload hx hb dX3_sum_33 (lv_at hl 4 rfl) ?_
        obtain ⟨v4, hv, hf⟩ := bd hf
        refine r_Si (As := [.int a1, .int a2, .long a5]) (rest := []) X (met_X3_isWord l G _ N a1 a2 a5 v4 hv) cs_X3_isWord q1019 rfl rfl hl.1 (Nat.le_of_ble_eq_true rfl) ⟨Nat.le_of_ble_eq_true rfl, Nat.le_of_ble_eq_true rfl⟩ ⟨Nat.le_refl _, Nat.le_refl _⟩ dX3_sum_35 hK hH hS (fun H locs hH hS => ?_)
        refine lv_if_ne (tgt := 45) hx hb dX3_sum_38 (by decide) (fun c_ => ?_) (fun c_ => ?_)
        · have hf := (if_neg c_).symm.trans hf
          refine lv_iload_n hx hb dX3_sum_45 rfl (lv_at hl 1 rfl) ?_
          refine lv_iload_n hx hb dX3_sum_46 rfl (lv_at hl 2 rfl) ?_
          refine lv_lload_n hx hb dX3_sum_47 rfl (lv_at hl 3 rfl) ?_
          refine lv_lload hx hb dX3_sum_48 (lv_at hl 4 rfl) ?_
          refine lv_iload hx hb dX3_sum_50 (lv_at hl 5 rfl) ?_
          obtain ⟨v5, hv, hf⟩ := bd hf
          refine r_Sl (As := [.int a1, .int a2, .long a3, .long a5, .int a7]) (rest := []) X (met_X3_sumOf l G _ N a1 a2 a3 a5 a7 v5 hv) cs_X3_sumOf q1026 rfl rfl hl.1 (Nat.le_of_ble_eq_true rfl) ⟨Nat.le_of_ble_eq_true rfl, Nat.le_of_ble_eq_true rfl⟩ ⟨Nat.le_refl _, Nat.le_refl _⟩ dX3_sum_52 hK hH hS (fun H locs hH hS => ?_)
          cases hf
          exact r_lret X dX3_sum_55 (Nat.le_refl _) (Nat.le_refl _) rfl hH hS
        · have hf := (if_pos c_).symm.trans hf
          refine lv_ldc2 (v := (-1 : Int64)) hx hb hown (hts _ q1025) dX3_sum_41 ?_
          cases hf
          exact r_lret X dX3_sum_44 (Nat.le_refl _) (Nat.le_refl _) rfl hH hS
theorem cv_X3_thrown : CalV "WordBenchModel" yX3_thrown cX3_thrown 1 (some .int) 0 := ⟨q1003, q1004, q57, q1005, by decide +kernel⟩
set_option maxHeartbeats 4000000 in
theorem met_X3_thrown (l : Launch) (G : GG) (sz M : Nat) (rst : Nat → Option AE) (N : Nat) (st : MS) (rf : Int32) (hf : f_X3_thrown N st = some rf) : Con l yX3_thrown cX3_thrown 1 (some .int) 0 0 0 G (sz, MH M st rst) [.ref M] (sz, MH M st rst) (some (.int rf)) := by
  refine con_of (by decide) (Nat.le_of_ble_eq_true rfl) ?_
  intro p e s m below meth c ls X hK hH hl hS
  have hx := X.1
  have hb := X.2.1
  have hown : s.vm.findClass RX3 = some m.cls := X.2.2.2.2.1
  have hts := X.2.2.2.2.2.1
  have hl : lv_has ls 1 [(0, .ref M)] := hl
  unfold f_X3_thrown at hf
  refine lv_aload_n hx hb dX3_thrown_0 rfl (lv_at hl 0 rfl) ?_
  refine m_get X hK hH 0 (by decide) rfl (mg_0 _ _) q1059 dX3_thrown_1 ?_
  cases hf
  exact r_iret X dX3_thrown_4 (Nat.le_refl _) (Nat.le_refl _) rfl hH hS
theorem cv_X3_toss : CalV "WordBenchModel" yX3_toss cX3_toss 2 (some .int) 1 := ⟨q1414, q1415, q57, q1416, by decide +kernel⟩
set_option maxHeartbeats 4000000 in
theorem met_X3_toss (l : Launch) (G : GG) (sz M : Nat) (rst : Nat → Option AE) (N : Nat) (st : MS) (a1 : Int32) (rf : Int32) (hf : f_X3_toss N st a1 = some rf) : Con l yX3_toss cX3_toss 2 (some .int) 3 0 0 G (sz, MH M st rst) [.ref M, .int a1] (sz, MH M st rst) (some (.int rf)) := by
  refine con_of (by decide) (Nat.le_of_ble_eq_true rfl) ?_
  intro p e s m below meth c ls X hK hH hl hS
  have hx := X.1
  have hb := X.2.1
  have hown : s.vm.findClass RX3 = some m.cls := X.2.2.2.2.1
  have hts := X.2.2.2.2.2.1
  have hl : lv_has ls 2 [(0, .ref M), (1, .int a1)] := hl
  unfold f_X3_toss at hf
  refine lv_aload_n hx hb dX3_toss_0 rfl (lv_at hl 0 rfl) ?_
  refine lv_iload_n hx hb dX3_toss_1 rfl (lv_at hl 1 rfl) ?_
  obtain ⟨v1, hv, hf⟩ := bd hf
  refine r_Vi (As := [.int a1]) (rest := []) X (met_X3_lacksCode l G _ _ _ N st a1 v1 hv) cv_X3_lacksCode q1409 (m_recv hK hH) rfl rfl hl.1 (Nat.le_of_ble_eq_true rfl) ⟨Nat.le_of_ble_eq_true rfl, Nat.le_of_ble_eq_true rfl⟩ ⟨Nat.le_refl _, Nat.le_refl _⟩ dX3_toss_2 hK hH hS (fun H locs hH hS => ?_)
  refine lv_if_eq (tgt := 14) hx hb dX3_toss_5 (by decide) (fun c_ => ?_) (fun c_ => ?_)
  · have hf := (if_pos c_).symm.trans hf
    refine lv_aload_n hx hb dX3_toss_14 rfl (lv_at hl 0 rfl) ?_
    refine m_get X hK hH 20 (by decide) rfl (mg_20 _ _) q1079 dX3_toss_15 ?_
    refine lv_iload_n hx hb dX3_toss_18 rfl (lv_at hl 1 rfl) ?_
    obtain ⟨v2, hv, hf⟩ := bd hf
    refine m_iald X hK hH 15 (mc_20 _ _) hv dX3_toss_19 ?_
    refine lv_if_ne (tgt := 28) hx hb dX3_toss_20 (by decide) (fun c_ => ?_) (fun c_ => ?_)
    · have hf := (if_neg c_).symm.trans hf
      refine lv_aload_n hx hb dX3_toss_28 rfl (lv_at hl 0 rfl) ?_
      refine m_get X hK hH 21 (by decide) rfl (mg_21 _ _) q1080 dX3_toss_29 ?_
      refine lv_iload_n hx hb dX3_toss_32 rfl (lv_at hl 1 rfl) ?_
      obtain ⟨v3, hv, hf⟩ := bd hf
      refine m_iald X hK hH 16 (mc_21 _ _) hv dX3_toss_33 ?_
      cases hf
      exact r_iret X dX3_toss_34 (Nat.le_refl _) (Nat.le_refl _) rfl hH hS
    · have hf := (if_pos c_).symm.trans hf
      refine lv_bipush (v := (-15 : Int32)) hx hb dX3_toss_23 (by decide) ?_
      refine lv_goto (tgt := 34) hx hb dX3_toss_25 (by decide) ?_
      cases hf
      exact r_iret X dX3_toss_34 (Nat.le_refl _) (Nat.le_refl _) rfl hH hS
  · have hf := (if_neg c_).symm.trans hf
    refine lv_aload_n hx hb dX3_toss_8 rfl (lv_at hl 0 rfl) ?_
    refine lv_iload_n hx hb dX3_toss_9 rfl (lv_at hl 1 rfl) ?_
    obtain ⟨v4, hv, hf⟩ := bd hf
    refine r_Vi (As := [.int a1]) (rest := []) X (met_X3_lacksCode l G _ _ _ N st a1 v4 hv) cv_X3_lacksCode q1409 (m_recv hK hH) rfl rfl hl.1 (Nat.le_of_ble_eq_true rfl) ⟨Nat.le_of_ble_eq_true rfl, Nat.le_of_ble_eq_true rfl⟩ ⟨Nat.le_refl _, Nat.le_refl _⟩ dX3_toss_10 hK hH hS (fun H locs hH hS => ?_)
    cases hf
    exact r_iret X dX3_toss_13 (Nat.le_refl _) (Nat.le_refl _) rfl hH hS
theorem cv_X3_turn : CalV "WordBenchModel" yX3_turn cX3_turn 13 (some .int) 4 := ⟨q1370, q1371, q57, q1372, by decide +kernel⟩
set_option maxHeartbeats 4000000 in
theorem met_X3_turn (l : Launch) (G : GG) (sz M : Nat) (rst : Nat → Option AE) (N : Nat) (st : MS) (a1 : Int32) (a2 : Int64) (a4 : Int32) (a5 : Int32) (stf : MS) (rf : Int32) (hf : f_X3_turn N st a1 a2 a4 a5 = some (stf, rf)) : Con l yX3_turn cX3_turn 13 (some .int) 2 0 0 G (sz, MH M st rst) [.ref M, .int a1, .long a2, .int a4, .int a5] (sz, MH M stf rst) (some (.int rf)) := by
  refine con_of (by decide) (Nat.le_of_ble_eq_true rfl) ?_
  intro p e s m below meth c ls X hK hH hl hS
  have hx := X.1
  have hb := X.2.1
  have hown : s.vm.findClass RX3 = some m.cls := X.2.2.2.2.1
  have hts := X.2.2.2.2.2.1
  have hl : lv_has ls 13 [(0, .ref M), (1, .int a1), (2, .long a2), (4, .int a4), (5, .int a5)] := hl
  unfold f_X3_turn at hf
  have L50 : ∀ (c1 : Int32) (c2 : Int64) (c4 : Int32) (c5 : Int32) (c6 : Int32) (c7 : Int32) (t50 : MS) (n : Nat) (s50 : (Int32 × Int32)) (r50 : Int32), lp (f_X3_turn_b50 N c1 c2 c4 c5 c6 c7 t50) n s50 = some r50 → (∀ (ls : Array Slot) (H : Heap) (locs : List Loc), lv_has ls 13 [(0, .ref M), (1, .int c1), (2, .long c2), (4, .int c4), (5, .int c5), (6, .int c6), (7, .int c7), (8, .int r50)] → HH G (sz, MH M t50 rst) H → va_S (AG G) s.heap H locs → W p l e (rm_ 2 0 0) s m ([.ref M, .int a1, .long a2, .int a4, .int a5] : List Value).toArray below meth c H locs 0 0 (MQ below (PostC G (sz, MH M stf rst) (some (.int rf))) ([.ref M, .int a1, .long a2, .int a4, .int a5] : List Value).toArray s 0 0 (AG G)) (F0 m 81 ls [])) → ∀ (ls : Array Slot) (H : Heap) (locs : List Loc), lv_has ls 13 [(0, .ref M), (1, .int c1), (2, .long c2), (4, .int c4), (5, .int c5), (6, .int c6), (7, .int c7), (8, .int s50.1), (9, .int s50.2)] → HH G (sz, MH M t50 rst) H → va_S (AG G) s.heap H locs → W p l e (rm_ 2 0 0) s m ([.ref M, .int a1, .long a2, .int a4, .int a5] : List Value).toArray below meth c H locs 0 0 (MQ below (PostC G (sz, MH M stf rst) (some (.int rf))) ([.ref M, .int a1, .long a2, .int a4, .int a5] : List Value).toArray s 0 0 (AG G)) (F0 m 50 ls []) := by
    intro c1 c2 c4 c5 c6 c7 t50 n s50 r50 hr hq
    refine lp_ind (P := fun s50 => ∀ (ls : Array Slot) (H : Heap) (locs : List Loc), lv_has ls 13 [(0, .ref M), (1, .int c1), (2, .long c2), (4, .int c4), (5, .int c5), (6, .int c6), (7, .int c7), (8, .int s50.1), (9, .int s50.2)] → HH G (sz, MH M t50 rst) H → va_S (AG G) s.heap H locs → W p l e (rm_ 2 0 0) s m ([.ref M, .int a1, .long a2, .int a4, .int a5] : List Value).toArray below meth c H locs 0 0 (MQ below (PostC G (sz, MH M stf rst) (some (.int rf))) ([.ref M, .int a1, .long a2, .int a4, .int a5] : List Value).toArray s 0 0 (AG G)) (F0 m 50 ls [])) (Q := fun r50 => ∀ (ls : Array Slot) (H : Heap) (locs : List Loc), lv_has ls 13 [(0, .ref M), (1, .int c1), (2, .long c2), (4, .int c4), (5, .int c5), (6, .int c6), (7, .int c7), (8, .int r50)] → HH G (sz, MH M t50 rst) H → va_S (AG G) s.heap H locs → W p l e (rm_ 2 0 0) s m ([.ref M, .int a1, .long a2, .int a4, .int a5] : List Value).toArray below meth c H locs 0 0 (MQ below (PostC G (sz, MH M stf rst) (some (.int rf))) ([.ref M, .int a1, .long a2, .int a4, .int a5] : List Value).toArray s 0 0 (AG G)) (F0 m 81 ls [])) ?_ n s50 r50 hr hq
    intro s50 x50 hf hx50 ls H locs hl hH hS
    unfold f_X3_turn_b50 at hf
    refine lv_iload hx hb dX3_turn_50 (lv_at hl 8 rfl) ?_
    refine lv_iload hx hb dX3_turn_52 (lv_at hl 6 rfl) ?_
    refine lv_icmp_ge (tgt := 81) hx hb dX3_turn_54 (by decide) (fun c_ => ?_) (fun c_ => ?_)
    · have hf := (if_pos c_).symm.trans hf
      cases hf
      exact hx50 _ _ _ (lv_sub hl [0, 1, 2, 3, 4, 5, 6, 7] rfl) hH hS
    · have hf := (if_neg c_).symm.trans hf
      refine lv_iload hx hb dX3_turn_57 (lv_at hl 7 rfl) ?_
      refine lv_iconst (v := (1 : Int32)) hx hb dX3_turn_59 (by decide) ?_
      refine lv_lload_n hx hb dX3_turn_60 rfl (lv_at hl 2 rfl) ?_
      refine lv_iconst (v := (4 : Int32)) hx hb dX3_turn_61 (by decide) ?_
      refine lv_iload hx hb dX3_turn_62 (lv_at hl 8 rfl) ?_
      refine lv_imul hx hb dX3_turn_64 ?_
      refine lv_lshr (v := (c2 >>> ((((4 : Int32) * s50.2)).toInt64 &&& 63))) hx hb dX3_turn_65 rfl ?_
      refine lv_ldc2 (v := (15 : Int64)) hx hb hown (hts _ q1373) dX3_turn_66 ?_
      refine lv_land hx hb dX3_turn_69 ?_
      refine lv_l2i (v := (((c2 >>> ((((4 : Int32) * s50.2)).toInt64 &&& 63)) &&& (15 : Int64))).toInt32) hx hb dX3_turn_70 rfl ?_
      refine lv_ishl hx hb dX3_turn_71 ?_
      refine lv_ior hx hb dX3_turn_72 ?_
      refine lv_istore (lv' := [(8, .int (s50.1 ||| ((1 : Int32) <<< (((((c2 >>> ((((4 : Int32) * s50.2)).toInt64 &&& 63)) &&& (15 : Int64))).toInt32) &&& 31)))), (0, .ref M), (1, .int c1), (2, .long c2), (4, .int c4), (5, .int c5), (6, .int c6), (7, .int c7), (9, .int s50.2)]) hx hb dX3_turn_73 hl (by decide) rfl (fun ls hl => ?_)
      refine lv_iinc (v := (s50.2 + 1)) (lv' := [(9, .int (s50.2 + 1)), (8, .int (s50.1 ||| ((1 : Int32) <<< (((((c2 >>> ((((4 : Int32) * s50.2)).toInt64 &&& 63)) &&& (15 : Int64))).toInt32) &&& 31)))), (0, .ref M), (1, .int c1), (2, .long c2), (4, .int c4), (5, .int c5), (6, .int c6), (7, .int c7)]) hx hb dX3_turn_75 hl (k := 8) rfl rfl (by decide) rfl (fun ls hl => ?_)
      refine lv_goto (tgt := 50) hx hb dX3_turn_78 (by decide) ?_
      cases hf
      exact hx50 _ _ _ (lv_sub hl [2, 3, 4, 5, 6, 7, 8, 1, 0] rfl) hH hS
  have L128 : ∀ (c1 : Int32) (c2 : Int64) (c4 : Int32) (c5 : Int32) (c6 : Int32) (c7 : Int32) (n : Nat) (s128 : (Int32 × MS)) (r128 : MS), lp (f_X3_turn_b128 N c1 c2 c4 c5 c6 c7) n s128 = some r128 → (∀ (ls : Array Slot) (H : Heap) (locs : List Loc), lv_has ls 13 [(0, .ref M), (1, .int c1), (5, .int c5), (6, .int c6), (7, .int c7)] → HH G (sz, MH M r128 rst) H → va_S (AG G) s.heap H locs → W p l e (rm_ 2 0 0) s m ([.ref M, .int a1, .long a2, .int a4, .int a5] : List Value).toArray below meth c H locs 0 0 (MQ below (PostC G (sz, MH M stf rst) (some (.int rf))) ([.ref M, .int a1, .long a2, .int a4, .int a5] : List Value).toArray s 0 0 (AG G)) (F0 m 228 ls [])) → ∀ (ls : Array Slot) (H : Heap) (locs : List Loc), lv_has ls 13 [(0, .ref M), (1, .int c1), (2, .long c2), (4, .int c4), (5, .int c5), (6, .int c6), (7, .int c7), (9, .int s128.1)] → HH G (sz, MH M s128.2 rst) H → va_S (AG G) s.heap H locs → W p l e (rm_ 2 0 0) s m ([.ref M, .int a1, .long a2, .int a4, .int a5] : List Value).toArray below meth c H locs 0 0 (MQ below (PostC G (sz, MH M stf rst) (some (.int rf))) ([.ref M, .int a1, .long a2, .int a4, .int a5] : List Value).toArray s 0 0 (AG G)) (F0 m 128 ls []) := by
    intro c1 c2 c4 c5 c6 c7 n s128 r128 hr hq
    refine lp_ind (P := fun s128 => ∀ (ls : Array Slot) (H : Heap) (locs : List Loc), lv_has ls 13 [(0, .ref M), (1, .int c1), (2, .long c2), (4, .int c4), (5, .int c5), (6, .int c6), (7, .int c7), (9, .int s128.1)] → HH G (sz, MH M s128.2 rst) H → va_S (AG G) s.heap H locs → W p l e (rm_ 2 0 0) s m ([.ref M, .int a1, .long a2, .int a4, .int a5] : List Value).toArray below meth c H locs 0 0 (MQ below (PostC G (sz, MH M stf rst) (some (.int rf))) ([.ref M, .int a1, .long a2, .int a4, .int a5] : List Value).toArray s 0 0 (AG G)) (F0 m 128 ls [])) (Q := fun r128 => ∀ (ls : Array Slot) (H : Heap) (locs : List Loc), lv_has ls 13 [(0, .ref M), (1, .int c1), (5, .int c5), (6, .int c6), (7, .int c7)] → HH G (sz, MH M r128 rst) H → va_S (AG G) s.heap H locs → W p l e (rm_ 2 0 0) s m ([.ref M, .int a1, .long a2, .int a4, .int a5] : List Value).toArray below meth c H locs 0 0 (MQ below (PostC G (sz, MH M stf rst) (some (.int rf))) ([.ref M, .int a1, .long a2, .int a4, .int a5] : List Value).toArray s 0 0 (AG G)) (F0 m 228 ls [])) ?_ n s128 r128 hr hq
    intro s128 x128 hf hx128 ls H locs hl hH hS
    unfold f_X3_turn_b128 at hf
    have L145 : ∀ (c1 : Int32) (c2 : Int64) (c4 : Int32) (c5 : Int32) (c6 : Int32) (c7 : Int32) (c9 : Int32) (t145 : MS) (n : Nat) (s145 : (Int64 × Int32)) (r145 : Int64), lp (f_X3_turn_b145 N c1 c2 c4 c5 c6 c7 c9 t145) n s145 = some r145 → (∀ (ls : Array Slot) (H : Heap) (locs : List Loc), lv_has ls 13 [(0, .ref M), (1, .int c1), (2, .long c2), (4, .int c4), (5, .int c5), (6, .int c6), (7, .int c7), (9, .int c9), (10, .long r145)] → HH G (sz, MH M t145 rst) H → va_S (AG G) s.heap H locs → W p l e (rm_ 2 0 0) s m ([.ref M, .int a1, .long a2, .int a4, .int a5] : List Value).toArray below meth c H locs 0 0 (MQ below (PostC G (sz, MH M stf rst) (some (.int rf))) ([.ref M, .int a1, .long a2, .int a4, .int a5] : List Value).toArray s 0 0 (AG G)) (F0 m 215 ls [])) → ∀ (ls : Array Slot) (H : Heap) (locs : List Loc), lv_has ls 13 [(0, .ref M), (1, .int c1), (2, .long c2), (4, .int c4), (5, .int c5), (6, .int c6), (7, .int c7), (9, .int c9), (10, .long s145.1), (12, .int s145.2)] → HH G (sz, MH M t145 rst) H → va_S (AG G) s.heap H locs → W p l e (rm_ 2 0 0) s m ([.ref M, .int a1, .long a2, .int a4, .int a5] : List Value).toArray below meth c H locs 0 0 (MQ below (PostC G (sz, MH M stf rst) (some (.int rf))) ([.ref M, .int a1, .long a2, .int a4, .int a5] : List Value).toArray s 0 0 (AG G)) (F0 m 145 ls []) := by
      intro c1 c2 c4 c5 c6 c7 c9 t145 n s145 r145 hr hq
      refine lp_ind (P := fun s145 => ∀ (ls : Array Slot) (H : Heap) (locs : List Loc), lv_has ls 13 [(0, .ref M), (1, .int c1), (2, .long c2), (4, .int c4), (5, .int c5), (6, .int c6), (7, .int c7), (9, .int c9), (10, .long s145.1), (12, .int s145.2)] → HH G (sz, MH M t145 rst) H → va_S (AG G) s.heap H locs → W p l e (rm_ 2 0 0) s m ([.ref M, .int a1, .long a2, .int a4, .int a5] : List Value).toArray below meth c H locs 0 0 (MQ below (PostC G (sz, MH M stf rst) (some (.int rf))) ([.ref M, .int a1, .long a2, .int a4, .int a5] : List Value).toArray s 0 0 (AG G)) (F0 m 145 ls [])) (Q := fun r145 => ∀ (ls : Array Slot) (H : Heap) (locs : List Loc), lv_has ls 13 [(0, .ref M), (1, .int c1), (2, .long c2), (4, .int c4), (5, .int c5), (6, .int c6), (7, .int c7), (9, .int c9), (10, .long r145)] → HH G (sz, MH M t145 rst) H → va_S (AG G) s.heap H locs → W p l e (rm_ 2 0 0) s m ([.ref M, .int a1, .long a2, .int a4, .int a5] : List Value).toArray below meth c H locs 0 0 (MQ below (PostC G (sz, MH M stf rst) (some (.int rf))) ([.ref M, .int a1, .long a2, .int a4, .int a5] : List Value).toArray s 0 0 (AG G)) (F0 m 215 ls [])) ?_ n s145 r145 hr hq
      intro s145 x145 hf hx145 ls H locs hl hH hS
      unfold f_X3_turn_b145 at hf
      refine lv_iload hx hb dX3_turn_145 (lv_at hl 9 rfl) ?_
      refine lv_iload hx hb dX3_turn_147 (lv_at hl 6 rfl) ?_
      refine lv_icmp_ge (tgt := 215) hx hb dX3_turn_149 (by decide) (fun c_ => ?_) (fun c_ => ?_)
      · have hf := (if_pos c_).symm.trans hf
        cases hf
        exact hx145 _ _ _ (lv_sub hl [0, 1, 2, 3, 4, 5, 6, 7, 8] rfl) hH hS
      · have hf := (if_neg c_).symm.trans hf
        refine lv_lload hx hb dX3_turn_152 (lv_at hl 8 rfl) ?_
        refine lv_iload hx hb dX3_turn_154 (lv_at hl 5 rfl) ?_
        refine lv_iload hx hb dX3_turn_156 (lv_at hl 3 rfl) ?_
        refine lv_iload hx hb dX3_turn_158 (lv_at hl 5 rfl) ?_
        refine lv_iload hx hb dX3_turn_160 (lv_at hl 6 rfl) ?_
        refine lv_aload_n hx hb dX3_turn_162 rfl (lv_at hl 0 rfl) ?_
        refine m_get X hK hH 5 (by decide) rfl (mg_5 _ _) q1064 dX3_turn_163 ?_
        refine lv_sipush (v := (200 : Int32)) hx hb dX3_turn_166 (by decide) ?_
        refine lv_iload_n hx hb dX3_turn_169 rfl (lv_at hl 1 rfl) ?_
        refine lv_imul hx hb dX3_turn_170 ?_
        refine lv_iload hx hb dX3_turn_171 (lv_at hl 7 rfl) ?_
        refine lv_iadd hx hb dX3_turn_173 ?_
        obtain ⟨v9, hv, hf⟩ := bd hf
        refine m_lald X hK hH 5 (mc_5 _ _) hv dX3_turn_174 ?_
        refine lv_iload hx hb dX3_turn_175 (lv_at hl 9 rfl) ?_
        obtain ⟨v10, hv, hf⟩ := bd hf
        refine r_Si (As := [.int c6, .int c7, .long v9, .int s145.2]) (rest := [.int c4, .int c6, .long s145.1]) X (met_X3_letter l G _ N c6 c7 v9 s145.2 v10 hv) cs_X3_letter q1029 rfl rfl hl.1 (Nat.le_of_ble_eq_true rfl) ⟨Nat.le_of_ble_eq_true rfl, Nat.le_of_ble_eq_true rfl⟩ ⟨Nat.le_refl _, Nat.le_refl _⟩ dX3_turn_177 hK hH hS (fun H locs hH hS => ?_)
        obtain ⟨v11, hv, hf⟩ := bd hf
        refine r_Si (As := [.int c6, .int c4, .int v10]) (rest := [.long s145.1]) X (met_X3_times l G _ N c6 c4 v10 v11 hv) cs_X3_times q1032 rfl rfl hl.1 (Nat.le_of_ble_eq_true rfl) ⟨Nat.le_of_ble_eq_true rfl, Nat.le_of_ble_eq_true rfl⟩ ⟨Nat.le_refl _, Nat.le_refl _⟩ dX3_turn_180 hK hH hS (fun H locs hH hS => ?_)
        refine lv_i2l (v := (v11).toInt64) hx hb dX3_turn_183 rfl ?_
        refine lv_iload hx hb dX3_turn_184 (lv_at hl 5 rfl) ?_
        refine lv_iload hx hb dX3_turn_186 (lv_at hl 6 rfl) ?_
        refine lv_iconst (v := (1 : Int32)) hx hb dX3_turn_188 (by decide) ?_
        refine lv_isub hx hb dX3_turn_189 ?_
        refine lv_lload_n hx hb dX3_turn_190 rfl (lv_at hl 2 rfl) ?_
        refine lv_iconst (v := (4 : Int32)) hx hb dX3_turn_191 (by decide) ?_
        refine lv_iload hx hb dX3_turn_192 (lv_at hl 9 rfl) ?_
        refine lv_imul hx hb dX3_turn_194 ?_
        refine lv_lshr (v := (c2 >>> ((((4 : Int32) * s145.2)).toInt64 &&& 63))) hx hb dX3_turn_195 rfl ?_
        refine lv_ldc2 (v := (15 : Int64)) hx hb hown (hts _ q1373) dX3_turn_196 ?_
        refine lv_land hx hb dX3_turn_199 ?_
        refine lv_l2i (v := (((c2 >>> ((((4 : Int32) * s145.2)).toInt64 &&& 63)) &&& (15 : Int64))).toInt32) hx hb dX3_turn_200 rfl ?_
        refine lv_isub hx hb dX3_turn_201 ?_
        obtain ⟨v12, hv, hf⟩ := bd hf
        refine r_Sl (As := [.int c6, .int ((c7 - (1 : Int32)) - ((((c2 >>> ((((4 : Int32) * s145.2)).toInt64 &&& 63)) &&& (15 : Int64))).toInt32))]) (rest := [.long ((v11).toInt64), .long s145.1]) X (met_X3_power l G _ N c6 ((c7 - (1 : Int32)) - ((((c2 >>> ((((4 : Int32) * s145.2)).toInt64 &&& 63)) &&& (15 : Int64))).toInt32)) v12 hv) cs_X3_power q1022 rfl rfl hl.1 (Nat.le_of_ble_eq_true rfl) ⟨Nat.le_of_ble_eq_true rfl, Nat.le_of_ble_eq_true rfl⟩ ⟨Nat.le_refl _, Nat.le_refl _⟩ dX3_turn_202 hK hH hS (fun H locs hH hS => ?_)
        refine lv_lmul hx hb dX3_turn_205 ?_
        refine lv_ladd hx hb dX3_turn_206 ?_
        refine lv_lstore (lv' := [(10, .long (s145.1 + (((v11).toInt64) * v12))), (0, .ref M), (1, .int c1), (2, .long c2), (4, .int c4), (5, .int c5), (6, .int c6), (7, .int c7), (9, .int c9), (12, .int s145.2)]) hx hb dX3_turn_207 hl (by decide) rfl (fun ls hl => ?_)
        refine lv_iinc (v := (s145.2 + 1)) (lv' := [(12, .int (s145.2 + 1)), (10, .long (s145.1 + (((v11).toInt64) * v12))), (0, .ref M), (1, .int c1), (2, .long c2), (4, .int c4), (5, .int c5), (6, .int c6), (7, .int c7), (9, .int c9)]) hx hb dX3_turn_209 hl (k := 9) rfl rfl (by decide) rfl (fun ls hl => ?_)
        refine lv_goto (tgt := 145) hx hb dX3_turn_212 (by decide) ?_
        cases hf
        exact hx145 _ _ _ (lv_sub hl [2, 3, 4, 5, 6, 7, 8, 9, 1, 0] rfl) hH hS
    refine lv_iload hx hb dX3_turn_128 (lv_at hl 7 rfl) ?_
    refine lv_aload_n hx hb dX3_turn_130 rfl (lv_at hl 0 rfl) ?_
    refine m_get X hK hH 4 (by decide) rfl (mg_4 _ _) q1063 dX3_turn_131 ?_
    refine lv_iload_n hx hb dX3_turn_134 rfl (lv_at hl 1 rfl) ?_
    obtain ⟨v8, hv, hf⟩ := bd hf
    refine m_iald X hK hH 4 (mc_4 _ _) hv dX3_turn_135 ?_
    refine lv_icmp_ge (tgt := 228) hx hb dX3_turn_136 (by decide) (fun c_ => ?_) (fun c_ => ?_)
    · have hf := (if_pos c_).symm.trans hf
      cases hf
      exact hx128 _ _ _ (lv_sub hl [0, 1, 4, 5, 6] rfl) hH hS
    · have hf := (if_neg c_).symm.trans hf
      refine lv_lconst (v := (0 : Int64)) hx hb dX3_turn_139 (by decide) ?_
      refine lv_lstore (lv' := [(10, .long (0 : Int64)), (0, .ref M), (1, .int c1), (2, .long c2), (4, .int c4), (5, .int c5), (6, .int c6), (7, .int c7), (9, .int s128.1)]) hx hb dX3_turn_140 hl (by decide) rfl (fun ls hl => ?_)
      refine lv_iconst (v := (0 : Int32)) hx hb dX3_turn_142 (by decide) ?_
      refine lv_istore (lv' := [(12, .int (0 : Int32)), (10, .long (0 : Int64)), (0, .ref M), (1, .int c1), (2, .long c2), (4, .int c4), (5, .int c5), (6, .int c6), (7, .int c7), (9, .int s128.1)]) hx hb dX3_turn_143 hl (by decide) rfl (fun ls hl => ?_)
      obtain ⟨r145_13, hr, hf⟩ := bd hf
      refine L145 c1 c2 c4 c5 c6 c7 s128.1 s128.2 N _ r145_13 hr ?_ _ _ _ (lv_sub hl [2, 3, 4, 5, 6, 7, 8, 9, 1, 0] rfl) hH hS
      intro ls H locs hl hH hS
      refine lv_aload_n hx hb dX3_turn_215 rfl (lv_at hl 0 rfl) ?_
      refine lv_lload hx hb dX3_turn_216 (lv_at hl 8 rfl) ?_
      refine lv_iconst (v := (0 : Int32)) hx hb dX3_turn_218 (by decide) ?_
      obtain ⟨v14, hv, hf⟩ := bd hf
      refine r_Vv (As := [.long r145_13, .int (0 : Int32)]) (rest := []) X (met_X3_asideOnce l G _ _ _ N s128.2 r145_13 (0 : Int32) v14 hv) cv_X3_asideOnce q1349 (m_recv hK hH) rfl rfl hl.1 (Nat.le_of_ble_eq_true rfl) ⟨Nat.le_of_ble_eq_true rfl, Nat.le_of_ble_eq_true rfl⟩ ⟨Nat.le_refl _, Nat.le_refl _⟩ dX3_turn_219 hK hH hS (fun H locs hH hS => ?_)
      refine lv_iinc (v := (s128.1 + 1)) (lv' := [(9, .int (s128.1 + 1)), (0, .ref M), (1, .int c1), (2, .long c2), (4, .int c4), (5, .int c5), (6, .int c6), (7, .int c7), (10, .long r145_13)]) hx hb dX3_turn_222 hl (k := 7) rfl rfl (by decide) rfl (fun ls hl => ?_)
      refine lv_goto (tgt := 128) hx hb dX3_turn_225 (by decide) ?_
      cases hf
      exact hx128 _ _ _ (lv_sub hl [1, 2, 3, 4, 5, 6, 7, 0] rfl) hH hS
  have J251 : ∀ (d6 : Int32) (d7 : Int32) (k0 : Int32) (k1 : Int32) (u251 : MS), f_X3_turn_j251 N d6 d7 k0 k1 u251 = some (stf, rf) → ∀ (ls : Array Slot) (H : Heap) (locs : List Loc), lv_has ls 13 [(6, .int d6), (7, .int d7)] → HH G (sz, MH M u251 rst) H → va_S (AG G) s.heap H locs → W p l e (rm_ 2 0 0) s m ([.ref M, .int a1, .long a2, .int a4, .int a5] : List Value).toArray below meth c H locs 0 0 (MQ below (PostC G (sz, MH M stf rst) (some (.int rf))) ([.ref M, .int a1, .long a2, .int a4, .int a5] : List Value).toArray s 0 0 (AG G)) (F0 m 251 ls [.int k0, .int k1, .ref M]) := by
    intro d6 d7 k0 k1 u251 hf ls H locs hl hH hS
    unfold f_X3_turn_j251 at hf
    refine lv_iload hx hb dX3_turn_251 (lv_at hl 0 rfl) ?_
    refine lv_iload hx hb dX3_turn_253 (lv_at hl 1 rfl) ?_
    obtain ⟨v18, hv, hf⟩ := bd hf
    refine r_Vi (As := [.int k1, .int k0, .int d6, .int d7]) (rest := []) X (met_X3_comes l G _ _ _ N u251 k1 k0 d6 d7 v18.1 v18.2 hv) cv_X3_comes q1334 (m_recv hK hH) rfl rfl hl.1 (Nat.le_of_ble_eq_true rfl) ⟨Nat.le_of_ble_eq_true rfl, Nat.le_of_ble_eq_true rfl⟩ ⟨Nat.le_refl _, Nat.le_refl _⟩ dX3_turn_255 hK hH hS (fun H locs hH hS => ?_)
    cases hf
    exact r_iret X dX3_turn_258 (Nat.le_refl _) (Nat.le_refl _) rfl hH hS
  refine lv_iload_n hx hb dX3_turn_0 rfl (lv_at hl 1 rfl) ?_
  obtain ⟨v1, hv, hf⟩ := bd hf
  refine r_Si (As := [.int a1]) (rest := []) X (met_X3_isPlace l G _ N a1 v1 hv) cs_X3_isPlace q1136 rfl rfl hl.1 (Nat.le_of_ble_eq_true rfl) ⟨Nat.le_of_ble_eq_true rfl, Nat.le_of_ble_eq_true rfl⟩ ⟨Nat.le_refl _, Nat.le_refl _⟩ dX3_turn_1 hK hH hS (fun H locs hH hS => ?_)
  refine lv_if_eq (tgt := 15) hx hb dX3_turn_4 (by decide) (fun c_ => ?_) (fun c_ => ?_)
  · have hf := (if_pos c_).symm.trans hf
    refine lv_iconst (v := (-1 : Int32)) hx hb dX3_turn_15 (by decide) ?_
    cases hf
    exact r_iret X dX3_turn_16 (Nat.le_refl _) (Nat.le_refl _) rfl hH hS
  · have hf := (if_neg c_).symm.trans hf
    refine lv_iload hx hb dX3_turn_7 (lv_at hl 4 rfl) ?_
    obtain ⟨v2, hv, hf⟩ := bd hf
    refine r_Si (As := [.int a5]) (rest := []) X (met_X3_isPlace l G _ N a5 v2 hv) cs_X3_isPlace q1136 rfl rfl hl.1 (Nat.le_of_ble_eq_true rfl) ⟨Nat.le_of_ble_eq_true rfl, Nat.le_of_ble_eq_true rfl⟩ ⟨Nat.le_refl _, Nat.le_refl _⟩ dX3_turn_9 hK hH hS (fun H locs hH hS => ?_)
    refine lv_if_ne (tgt := 17) hx hb dX3_turn_12 (by decide) (fun c_ => ?_) (fun c_ => ?_)
    · have hf := (if_neg c_).symm.trans hf
      refine lv_aload_n hx hb dX3_turn_17 rfl (lv_at hl 0 rfl) ?_
      refine lv_iload_n hx hb dX3_turn_18 rfl (lv_at hl 1 rfl) ?_
      obtain ⟨v3, hv, hf⟩ := bd hf
      refine r_Vi (As := [.int a1]) (rest := []) X (met_X3_isEmpty l G _ _ _ N st a1 v3 hv) cv_X3_isEmpty q1148 (m_recv hK hH) rfl rfl hl.1 (Nat.le_of_ble_eq_true rfl) ⟨Nat.le_of_ble_eq_true rfl, Nat.le_of_ble_eq_true rfl⟩ ⟨Nat.le_refl _, Nat.le_refl _⟩ dX3_turn_19 hK hH hS (fun H locs hH hS => ?_)
      refine lv_if_eq (tgt := 28) hx hb dX3_turn_22 (by decide) (fun c_ => ?_) (fun c_ => ?_)
      · have hf := (if_pos c_).symm.trans hf
        refine lv_aload_n hx hb dX3_turn_28 rfl (lv_at hl 0 rfl) ?_
        refine m_get X hK hH 2 (by decide) rfl (mg_2 _ _) q1061 dX3_turn_29 ?_
        refine lv_iload_n hx hb dX3_turn_32 rfl (lv_at hl 1 rfl) ?_
        obtain ⟨v4, hv, hf⟩ := bd hf
        refine m_iald X hK hH 2 (mc_2 _ _) hv dX3_turn_33 ?_
        refine lv_istore (lv' := [(6, .int v4), (0, .ref M), (1, .int a1), (2, .long a2), (4, .int a4), (5, .int a5)]) hx hb dX3_turn_34 hl (by decide) rfl (fun ls hl => ?_)
        refine lv_aload_n hx hb dX3_turn_36 rfl (lv_at hl 1 rfl) ?_
        refine m_get X hK hH 3 (by decide) rfl (mg_3 _ _) q1062 dX3_turn_37 ?_
        refine lv_iload_n hx hb dX3_turn_40 rfl (lv_at hl 2 rfl) ?_
        obtain ⟨v5, hv, hf⟩ := bd hf
        refine m_iald X hK hH 3 (mc_3 _ _) hv dX3_turn_41 ?_
        refine lv_istore (lv' := [(7, .int v5), (6, .int v4), (0, .ref M), (1, .int a1), (2, .long a2), (4, .int a4), (5, .int a5)]) hx hb dX3_turn_42 hl (by decide) rfl (fun ls hl => ?_)
        refine lv_iconst (v := (0 : Int32)) hx hb dX3_turn_44 (by decide) ?_
        refine lv_istore (lv' := [(8, .int (0 : Int32)), (7, .int v5), (6, .int v4), (0, .ref M), (1, .int a1), (2, .long a2), (4, .int a4), (5, .int a5)]) hx hb dX3_turn_45 hl (by decide) rfl (fun ls hl => ?_)
        refine lv_iconst (v := (0 : Int32)) hx hb dX3_turn_47 (by decide) ?_
        refine lv_istore (lv' := [(9, .int (0 : Int32)), (8, .int (0 : Int32)), (7, .int v5), (6, .int v4), (0, .ref M), (1, .int a1), (2, .long a2), (4, .int a4), (5, .int a5)]) hx hb dX3_turn_48 hl (by decide) rfl (fun ls hl => ?_)
        obtain ⟨r50_6, hr, hf⟩ := bd hf
        refine L50 a1 a2 a4 a5 v4 v5 st N _ r50_6 hr ?_ _ _ _ (lv_sub hl [4, 5, 6, 7, 8, 3, 2, 1, 0] rfl) hH hS
        intro ls H locs hl hH hS
        refine lv_iload hx hb dX3_turn_81 (lv_at hl 7 rfl) ?_
        refine lv_iconst (v := (1 : Int32)) hx hb dX3_turn_83 (by decide) ?_
        refine lv_iload hx hb dX3_turn_84 (lv_at hl 6 rfl) ?_
        refine lv_ishl hx hb dX3_turn_86 ?_
        refine lv_iconst (v := (1 : Int32)) hx hb dX3_turn_87 (by decide) ?_
        refine lv_isub hx hb dX3_turn_88 ?_
        refine lv_icmp_ne (tgt := 118) hx hb dX3_turn_89 (by decide) (fun c_ => ?_) (fun c_ => ?_)
        · have hf := (if_neg c_).symm.trans hf
          refine lv_iconst (v := (-1 : Int32)) hx hb dX3_turn_118 (by decide) ?_
          cases hf
          exact r_iret X dX3_turn_119 (Nat.le_refl _) (Nat.le_refl _) rfl hH hS
        · have hf := (if_pos c_).symm.trans hf
          refine lv_lload_n hx hb dX3_turn_92 rfl (lv_at hl 2 rfl) ?_
          refine lv_iconst (v := (4 : Int32)) hx hb dX3_turn_93 (by decide) ?_
          refine lv_iload hx hb dX3_turn_94 (lv_at hl 6 rfl) ?_
          refine lv_imul hx hb dX3_turn_96 ?_
          refine lv_lshr (v := (a2 >>> ((((4 : Int32) * v5)).toInt64 &&& 63))) hx hb dX3_turn_97 rfl ?_
          refine lv_lconst (v := (0 : Int64)) hx hb dX3_turn_98 (by decide) ?_
          refine W.lcmp hx hb dX3_turn_99 ?_
          refine lv_if_ne (tgt := 118) hx hb dX3_turn_100 (by decide) (fun c_ => ?_) (fun c_ => ?_)
          · have hf := (if_neg (fun z => c_ ((lg_cmp_eq (a2 >>> ((((4 : Int32) * v5)).toInt64 &&& 63)) (0 : Int64)).mpr z))).symm.trans hf
            refine lv_iconst (v := (-1 : Int32)) hx hb dX3_turn_118 (by decide) ?_
            cases hf
            exact r_iret X dX3_turn_119 (Nat.le_refl _) (Nat.le_refl _) rfl hH hS
          · have hf := (if_pos ((lg_cmp_eq (a2 >>> ((((4 : Int32) * v5)).toInt64 &&& 63)) (0 : Int64)).mp c_)).symm.trans hf
            refine lv_iload hx hb dX3_turn_103 (lv_at hl 3 rfl) ?_
            refine lv_i2l (v := (a4).toInt64) hx hb dX3_turn_105 rfl ?_
            refine lv_lconst (v := (1 : Int64)) hx hb dX3_turn_106 (by decide) ?_
            refine lv_iload hx hb dX3_turn_107 (lv_at hl 5 rfl) ?_
            refine lv_iconst (v := (1 : Int32)) hx hb dX3_turn_109 (by decide) ?_
            refine lv_isub hx hb dX3_turn_110 ?_
            refine lv_i2l (v := ((v4 - (1 : Int32))).toInt64) hx hb dX3_turn_111 rfl ?_
            obtain ⟨v7, hv, hf⟩ := bd hf
            refine r_Si (As := [.long ((a4).toInt64), .long (1 : Int64), .long (((v4 - (1 : Int32))).toInt64)]) (rest := []) X (met_X3_isIn l G _ N ((a4).toInt64) (1 : Int64) (((v4 - (1 : Int32))).toInt64) v7 hv) cs_X3_isIn q1015 rfl rfl hl.1 (Nat.le_of_ble_eq_true rfl) ⟨Nat.le_of_ble_eq_true rfl, Nat.le_of_ble_eq_true rfl⟩ ⟨Nat.le_refl _, Nat.le_refl _⟩ dX3_turn_112 hK hH hS (fun H locs hH hS => ?_)
            refine lv_if_ne (tgt := 120) hx hb dX3_turn_115 (by decide) (fun c_ => ?_) (fun c_ => ?_)
            · have hf := (if_neg c_).symm.trans hf
              refine lv_aload_n hx hb dX3_turn_120 rfl (lv_at hl 0 rfl) ?_
              refine lv_iconst (v := (0 : Int32)) hx hb dX3_turn_121 (by decide) ?_
              refine m_put (ty := .int) X hK hH hS 18 (by decide) rfl (mp_18 _ _ _) q1077 rfl (by decide +kernel) rfl rfl dX3_turn_122 (fun H locs hH hS => ?_)
              refine lv_iconst (v := (0 : Int32)) hx hb dX3_turn_125 (by decide) ?_
              refine lv_istore (lv' := [(9, .int (0 : Int32)), (0, .ref M), (1, .int a1), (2, .long a2), (4, .int a4), (5, .int a5), (6, .int v4), (7, .int v5), (8, .int r50_6)]) hx hb dX3_turn_126 hl (by decide) rfl (fun ls hl => ?_)
              obtain ⟨r128_15, hr, hf⟩ := bd hf
              refine L128 a1 a2 a4 a5 v4 v5 N _ r128_15 hr ?_ _ _ _ (lv_sub hl [1, 2, 3, 4, 5, 6, 7, 0] rfl) hH hS
              intro ls H locs hl hH hS
              refine lv_aload_n hx hb dX3_turn_228 rfl (lv_at hl 0 rfl) ?_
              refine lv_iload hx hb dX3_turn_229 (lv_at hl 2 rfl) ?_
              refine lv_aload_n hx hb dX3_turn_231 rfl (lv_at hl 0 rfl) ?_
              refine m_get X hK hH 1 (by decide) rfl (mg_1 _ _) q1060 dX3_turn_232 ?_
              refine lv_iload_n hx hb dX3_turn_235 rfl (lv_at hl 1 rfl) ?_
              obtain ⟨v16, hv, hf⟩ := bd hf
              refine m_iald X hK hH 1 (mc_1 _ _) hv dX3_turn_236 ?_
              refine lv_iconst (v := (2 : Int32)) hx hb dX3_turn_237 (by decide) ?_
              refine lv_icmp_ne (tgt := 245) hx hb dX3_turn_238 (by decide) (fun c_ => ?_) (fun c_ => ?_)
              · have hf := (if_neg c_).symm.trans hf
                refine lv_aload_n hx hb dX3_turn_245 rfl (lv_at hl 0 rfl) ?_
                refine m_get X hK hH 1 (by decide) rfl (mg_1 _ _) q1060 dX3_turn_246 ?_
                refine lv_iload_n hx hb dX3_turn_249 rfl (lv_at hl 1 rfl) ?_
                obtain ⟨v17, hv, hf⟩ := bd hf
                refine m_iald X hK hH 1 (mc_1 _ _) hv dX3_turn_250 ?_
                exact J251 v4 v5 v17 a5 r128_15 hf _ _ _ (lv_sub hl [3, 4] rfl) hH hS
              · have hf := (if_pos c_).symm.trans hf
                refine lv_iconst (v := (1 : Int32)) hx hb dX3_turn_241 (by decide) ?_
                refine lv_goto (tgt := 251) hx hb dX3_turn_242 (by decide) ?_
                exact J251 v4 v5 (1 : Int32) a5 r128_15 hf _ _ _ (lv_sub hl [3, 4] rfl) hH hS
            · have hf := (if_pos c_).symm.trans hf
              refine lv_iconst (v := (-1 : Int32)) hx hb dX3_turn_118 (by decide) ?_
              cases hf
              exact r_iret X dX3_turn_119 (Nat.le_refl _) (Nat.le_refl _) rfl hH hS
      · have hf := (if_neg c_).symm.trans hf
        refine lv_bipush (v := (-11 : Int32)) hx hb dX3_turn_25 (by decide) ?_
        cases hf
        exact r_iret X dX3_turn_27 (Nat.le_refl _) (Nat.le_refl _) rfl hH hS
    · have hf := (if_pos c_).symm.trans hf
      refine lv_iconst (v := (-1 : Int32)) hx hb dX3_turn_15 (by decide) ?_
      cases hf
      exact r_iret X dX3_turn_16 (Nat.le_refl _) (Nat.le_refl _) rfl hH hS
theorem cs_X3_wayOf : CalS yX3_wayOf cX3_wayOf 9 (some .int) 5 := ⟨q1043, q57, q1044, by decide +kernel, by decide +kernel, by decide +kernel⟩
set_option maxHeartbeats 4000000 in
theorem met_X3_wayOf (l : Launch) (G : GG) (σ : SG) (N : Nat) (a0 : Int32) (a1 : Int32) (a2 : Int64) (a4 : Int64) (a6 : Int32) (rf : Int32) (hf : f_X3_wayOf N a0 a1 a2 a4 a6 = some rf) : Con l yX3_wayOf cX3_wayOf 9 (some .int) 2 0 0 G σ [.int a0, .int a1, .long a2, .long a4, .int a6] σ (some (.int rf)) := by
  refine con_of (by decide) (Nat.le_of_ble_eq_true rfl) ?_
  intro p e s m below meth c ls X hK hH hl hS
  have hx := X.1
  have hb := X.2.1
  have hown : s.vm.findClass RX3 = some m.cls := X.2.2.2.2.1
  have hts := X.2.2.2.2.2.1
  have hl : lv_has ls 9 [(0, .int a0), (1, .int a1), (2, .long a2), (4, .long a4), (6, .int a6)] := hl
  unfold f_X3_wayOf at hf
  have L6 : ∀ (c0 : Int32) (c1 : Int32) (c2 : Int64) (c4 : Int64) (c6 : Int32) (n : Nat) (s6 : (Int32 × Int32)) (r6 : Int32), lp (f_X3_wayOf_b6 N c0 c1 c2 c4 c6) n s6 = some r6 → (∀ (ls : Array Slot) (H : Heap) (locs : List Loc), lv_has ls 9 [(7, .int r6)] → HH G σ H → va_S (AG G) s.heap H locs → W p l e (rm_ 2 0 0) s m ([.int a0, .int a1, .long a2, .long a4, .int a6] : List Value).toArray below meth c H locs 0 0 (MQ below (PostC G σ (some (.int rf))) ([.int a0, .int a1, .long a2, .long a4, .int a6] : List Value).toArray s 0 0 (AG G)) (F0 m 58 ls [])) → ∀ (ls : Array Slot) (H : Heap) (locs : List Loc), lv_has ls 9 [(0, .int c0), (1, .int c1), (2, .long c2), (4, .long c4), (6, .int c6), (7, .int s6.1), (8, .int s6.2)] → HH G σ H → va_S (AG G) s.heap H locs → W p l e (rm_ 2 0 0) s m ([.int a0, .int a1, .long a2, .long a4, .int a6] : List Value).toArray below meth c H locs 0 0 (MQ below (PostC G σ (some (.int rf))) ([.int a0, .int a1, .long a2, .long a4, .int a6] : List Value).toArray s 0 0 (AG G)) (F0 m 6 ls []) := by
    intro c0 c1 c2 c4 c6 n s6 r6 hr hq
    refine lp_ind (P := fun s6 => ∀ (ls : Array Slot) (H : Heap) (locs : List Loc), lv_has ls 9 [(0, .int c0), (1, .int c1), (2, .long c2), (4, .long c4), (6, .int c6), (7, .int s6.1), (8, .int s6.2)] → HH G σ H → va_S (AG G) s.heap H locs → W p l e (rm_ 2 0 0) s m ([.int a0, .int a1, .long a2, .long a4, .int a6] : List Value).toArray below meth c H locs 0 0 (MQ below (PostC G σ (some (.int rf))) ([.int a0, .int a1, .long a2, .long a4, .int a6] : List Value).toArray s 0 0 (AG G)) (F0 m 6 ls [])) (Q := fun r6 => ∀ (ls : Array Slot) (H : Heap) (locs : List Loc), lv_has ls 9 [(7, .int r6)] → HH G σ H → va_S (AG G) s.heap H locs → W p l e (rm_ 2 0 0) s m ([.int a0, .int a1, .long a2, .long a4, .int a6] : List Value).toArray below meth c H locs 0 0 (MQ below (PostC G σ (some (.int rf))) ([.int a0, .int a1, .long a2, .long a4, .int a6] : List Value).toArray s 0 0 (AG G)) (F0 m 58 ls [])) ?_ n s6 r6 hr hq
    intro s6 x6 hf hx6 ls H locs hl hH hS
    unfold f_X3_wayOf_b6 at hf
    refine lv_iload hx hb dX3_wayOf_6 (lv_at hl 6 rfl) ?_
    refine lv_iload_n hx hb dX3_wayOf_8 rfl (lv_at hl 1 rfl) ?_
    refine lv_icmp_ge (tgt := 58) hx hb dX3_wayOf_9 (by decide) (fun c_ => ?_) (fun c_ => ?_)
    · have hf := (if_pos c_).symm.trans hf
      cases hf
      exact hx6 _ _ _ (lv_sub hl [5] rfl) hH hS
    · have hf := (if_neg c_).symm.trans hf
      refine lv_iload hx hb dX3_wayOf_12 (lv_at hl 5 rfl) ?_
      refine lv_iload hx hb dX3_wayOf_14 (lv_at hl 4 rfl) ?_
      refine lv_iload hx hb dX3_wayOf_16 (lv_at hl 6 rfl) ?_
      refine lv_ishr hx hb dX3_wayOf_18 ?_
      refine lv_iconst (v := (1 : Int32)) hx hb dX3_wayOf_19 (by decide) ?_
      refine lv_iand hx hb dX3_wayOf_20 ?_
      refine lv_if_ne (tgt := 48) hx hb dX3_wayOf_21 (by decide) (fun c_ => ?_) (fun c_ => ?_)
      · have hf := (if_neg c_).symm.trans hf
        refine lv_iconst (v := (0 : Int32)) hx hb dX3_wayOf_48 (by decide) ?_
        refine lv_iadd hx hb dX3_wayOf_49 ?_
        refine lv_istore (lv' := [(7, .int (s6.1 + (0 : Int32))), (0, .int c0), (1, .int c1), (2, .long c2), (4, .long c4), (6, .int c6), (8, .int s6.2)]) hx hb dX3_wayOf_50 hl (by decide) rfl (fun ls hl => ?_)
        refine lv_iinc (v := (s6.2 + 1)) (lv' := [(8, .int (s6.2 + 1)), (7, .int (s6.1 + (0 : Int32))), (0, .int c0), (1, .int c1), (2, .long c2), (4, .long c4), (6, .int c6)]) hx hb dX3_wayOf_52 hl (k := 6) rfl rfl (by decide) rfl (fun ls hl => ?_)
        refine lv_goto (tgt := 6) hx hb dX3_wayOf_55 (by decide) ?_
        cases hf
        exact hx6 _ _ _ (lv_sub hl [2, 3, 4, 5, 6, 1, 0] rfl) hH hS
      · have hf := (if_pos c_).symm.trans hf
        refine lv_iload_n hx hb dX3_wayOf_24 rfl (lv_at hl 0 rfl) ?_
        refine lv_iload_n hx hb dX3_wayOf_25 rfl (lv_at hl 1 rfl) ?_
        refine lv_lload_n hx hb dX3_wayOf_26 rfl (lv_at hl 2 rfl) ?_
        refine lv_iload hx hb dX3_wayOf_27 (lv_at hl 6 rfl) ?_
        obtain ⟨v1, hv, hf⟩ := bd hf
        refine r_Si (As := [.int c0, .int c1, .long c2, .int s6.2]) (rest := [.int s6.1]) X (met_X3_letter l G _ N c0 c1 c2 s6.2 v1 hv) cs_X3_letter q1029 rfl rfl hl.1 (Nat.le_of_ble_eq_true rfl) ⟨Nat.le_of_ble_eq_true rfl, Nat.le_of_ble_eq_true rfl⟩ ⟨Nat.le_refl _, Nat.le_refl _⟩ dX3_wayOf_29 hK hH hS (fun H locs hH hS => ?_)
        refine lv_iload_n hx hb dX3_wayOf_32 rfl (lv_at hl 0 rfl) ?_
        refine lv_iload_n hx hb dX3_wayOf_33 rfl (lv_at hl 1 rfl) ?_
        refine lv_lload hx hb dX3_wayOf_34 (lv_at hl 3 rfl) ?_
        refine lv_iload hx hb dX3_wayOf_36 (lv_at hl 6 rfl) ?_
        obtain ⟨v2, hv, hf⟩ := bd hf
        refine r_Si (As := [.int c0, .int c1, .long c4, .int s6.2]) (rest := [.int v1, .int s6.1]) X (met_X3_letter l G _ N c0 c1 c4 s6.2 v2 hv) cs_X3_letter q1029 rfl rfl hl.1 (Nat.le_of_ble_eq_true rfl) ⟨Nat.le_of_ble_eq_true rfl, Nat.le_of_ble_eq_true rfl⟩ ⟨Nat.le_refl _, Nat.le_refl _⟩ dX3_wayOf_38 hK hH hS (fun H locs hH hS => ?_)
        refine lv_icmp_eq (tgt := 48) hx hb dX3_wayOf_41 (by decide) (fun c_ => ?_) (fun c_ => ?_)
        · have hf := (if_pos c_).symm.trans hf
          refine lv_iconst (v := (0 : Int32)) hx hb dX3_wayOf_48 (by decide) ?_
          refine lv_iadd hx hb dX3_wayOf_49 ?_
          refine lv_istore (lv' := [(7, .int (s6.1 + (0 : Int32))), (0, .int c0), (1, .int c1), (2, .long c2), (4, .long c4), (6, .int c6), (8, .int s6.2)]) hx hb dX3_wayOf_50 hl (by decide) rfl (fun ls hl => ?_)
          refine lv_iinc (v := (s6.2 + 1)) (lv' := [(8, .int (s6.2 + 1)), (7, .int (s6.1 + (0 : Int32))), (0, .int c0), (1, .int c1), (2, .long c2), (4, .long c4), (6, .int c6)]) hx hb dX3_wayOf_52 hl (k := 6) rfl rfl (by decide) rfl (fun ls hl => ?_)
          refine lv_goto (tgt := 6) hx hb dX3_wayOf_55 (by decide) ?_
          cases hf
          exact hx6 _ _ _ (lv_sub hl [2, 3, 4, 5, 6, 1, 0] rfl) hH hS
        · have hf := (if_neg c_).symm.trans hf
          refine lv_iconst (v := (1 : Int32)) hx hb dX3_wayOf_44 (by decide) ?_
          refine lv_goto (tgt := 49) hx hb dX3_wayOf_45 (by decide) ?_
          refine lv_iadd hx hb dX3_wayOf_49 ?_
          refine lv_istore (lv' := [(7, .int (s6.1 + (1 : Int32))), (0, .int c0), (1, .int c1), (2, .long c2), (4, .long c4), (6, .int c6), (8, .int s6.2)]) hx hb dX3_wayOf_50 hl (by decide) rfl (fun ls hl => ?_)
          refine lv_iinc (v := (s6.2 + 1)) (lv' := [(8, .int (s6.2 + 1)), (7, .int (s6.1 + (1 : Int32))), (0, .int c0), (1, .int c1), (2, .long c2), (4, .long c4), (6, .int c6)]) hx hb dX3_wayOf_52 hl (k := 6) rfl rfl (by decide) rfl (fun ls hl => ?_)
          refine lv_goto (tgt := 6) hx hb dX3_wayOf_55 (by decide) ?_
          cases hf
          exact hx6 _ _ _ (lv_sub hl [2, 3, 4, 5, 6, 1, 0] rfl) hH hS
  refine lv_iconst (v := (0 : Int32)) hx hb dX3_wayOf_0 (by decide) ?_
  refine lv_istore (lv' := [(7, .int (0 : Int32)), (0, .int a0), (1, .int a1), (2, .long a2), (4, .long a4), (6, .int a6)]) hx hb dX3_wayOf_1 hl (by decide) rfl (fun ls hl => ?_)
  refine lv_iconst (v := (0 : Int32)) hx hb dX3_wayOf_3 (by decide) ?_
  refine lv_istore (lv' := [(8, .int (0 : Int32)), (7, .int (0 : Int32)), (0, .int a0), (1, .int a1), (2, .long a2), (4, .long a4), (6, .int a6)]) hx hb dX3_wayOf_4 hl (by decide) rfl (fun ls hl => ?_)
  obtain ⟨r6_3, hr, hf⟩ := bd hf
  refine L6 a0 a1 a2 a4 a6 N _ r6_3 hr ?_ _ _ _ (lv_sub hl [2, 3, 4, 5, 6, 1, 0] rfl) hH hS
  intro ls H locs hl hH hS
  refine lv_iload hx hb dX3_wayOf_58 (lv_at hl 0 rfl) ?_
  cases hf
  exact r_iret X dX3_wayOf_60 (Nat.le_refl _) (Nat.le_refl _) rfl hH hS
theorem cv_X3_way : CalV "WordBenchModel" yX3_way cX3_way 7 (some .int) 4 := ⟨q1039, q1040, q57, q1041, by decide +kernel⟩
set_option maxHeartbeats 4000000 in
theorem met_X3_way (l : Launch) (G : GG) (sz M : Nat) (rst : Nat → Option AE) (N : Nat) (st : MS) (a1 : Int32) (a2 : Int32) (a3 : Int64) (a5 : Int64) (rf : Int32) (hf : f_X3_way N st a1 a2 a3 a5 = some rf) : Con l yX3_way cX3_way 7 (some .int) 3 0 0 G (sz, MH M st rst) [.ref M, .int a1, .int a2, .long a3, .long a5] (sz, MH M st rst) (some (.int rf)) := by
  refine con_of (by decide) (Nat.le_of_ble_eq_true rfl) ?_
  intro p e s m below meth c ls X hK hH hl hS
  have hx := X.1
  have hb := X.2.1
  have hown : s.vm.findClass RX3 = some m.cls := X.2.2.2.2.1
  have hts := X.2.2.2.2.2.1
  have hl : lv_has ls 7 [(0, .ref M), (1, .int a1), (2, .int a2), (3, .long a3), (5, .long a5)] := hl
  unfold f_X3_way at hf
  refine lv_iload_n hx hb dX3_way_0 rfl (lv_at hl 1 rfl) ?_
  refine lv_iload_n hx hb dX3_way_1 rfl (lv_at hl 2 rfl) ?_
  obtain ⟨v1, hv, hf⟩ := bd hf
  refine r_Si (As := [.int a1, .int a2]) (rest := []) X (met_X3_isField l G _ N a1 a2 v1 hv) cs_X3_isField q1010 rfl rfl hl.1 (Nat.le_of_ble_eq_true rfl) ⟨Nat.le_of_ble_eq_true rfl, Nat.le_of_ble_eq_true rfl⟩ ⟨Nat.le_refl _, Nat.le_refl _⟩ dX3_way_2 hK hH hS (fun H locs hH hS => ?_)
  refine lv_if_eq (tgt := 39) hx hb dX3_way_5 (by decide) (fun c_ => ?_) (fun c_ => ?_)
  · have hf := (if_pos c_).symm.trans hf
    refine lv_iconst (v := (-1 : Int32)) hx hb dX3_way_39 (by decide) ?_
    cases hf
    exact r_iret X dX3_way_40 (Nat.le_refl _) (Nat.le_refl _) rfl hH hS
  · have hf := (if_neg c_).symm.trans hf
    refine lv_iload_n hx hb dX3_way_8 rfl (lv_at hl 1 rfl) ?_
    refine lv_iload_n hx hb dX3_way_9 rfl (lv_at hl 2 rfl) ?_
    refine lv_lload_n hx hb dX3_way_10 rfl (lv_at hl 3 rfl) ?_
    obtain ⟨v2, hv, hf⟩ := bd hf
    refine r_Si (As := [.int a1, .int a2, .long a3]) (rest := []) X (met_X3_isWord l G _ N a1 a2 a3 v2 hv) cs_X3_isWord q1019 rfl rfl hl.1 (Nat.le_of_ble_eq_true rfl) ⟨Nat.le_of_ble_eq_true rfl, Nat.le_of_ble_eq_true rfl⟩ ⟨Nat.le_refl _, Nat.le_refl _⟩ dX3_way_11 hK hH hS (fun H locs hH hS => ?_)
    refine lv_if_eq (tgt := 39) hx hb dX3_way_14 (by decide) (fun c_ => ?_) (fun c_ => ?_)
    · have hf := (if_pos c_).symm.trans hf
      refine lv_iconst (v := (-1 : Int32)) hx hb dX3_way_39 (by decide) ?_
      cases hf
      exact r_iret X dX3_way_40 (Nat.le_refl _) (Nat.le_refl _) rfl hH hS
    · have hf := (if_neg c_).symm.trans hf
      refine lv_iload_n hx hb dX3_way_17 rfl (lv_at hl 1 rfl) ?_
      refine lv_iload_n hx hb dX3_way_18 rfl (lv_at hl 2 rfl) ?_
      refine lv_lload hx hb dX3_way_19 (lv_at hl 4 rfl) ?_
      obtain ⟨v3, hv, hf⟩ := bd hf
      refine r_Si (As := [.int a1, .int a2, .long a5]) (rest := []) X (met_X3_isWord l G _ N a1 a2 a5 v3 hv) cs_X3_isWord q1019 rfl rfl hl.1 (Nat.le_of_ble_eq_true rfl) ⟨Nat.le_of_ble_eq_true rfl, Nat.le_of_ble_eq_true rfl⟩ ⟨Nat.le_refl _, Nat.le_refl _⟩ dX3_way_21 hK hH hS (fun H locs hH hS => ?_)
      refine lv_if_eq (tgt := 39) hx hb dX3_way_24 (by decide) (fun c_ => ?_) (fun c_ => ?_)
      · have hf := (if_pos c_).symm.trans hf
        refine lv_iconst (v := (-1 : Int32)) hx hb dX3_way_39 (by decide) ?_
        cases hf
        exact r_iret X dX3_way_40 (Nat.le_refl _) (Nat.le_refl _) rfl hH hS
      · have hf := (if_neg c_).symm.trans hf
        refine lv_iload_n hx hb dX3_way_27 rfl (lv_at hl 1 rfl) ?_
        refine lv_iload_n hx hb dX3_way_28 rfl (lv_at hl 2 rfl) ?_
        refine lv_lload_n hx hb dX3_way_29 rfl (lv_at hl 3 rfl) ?_
        refine lv_lload hx hb dX3_way_30 (lv_at hl 4 rfl) ?_
        refine lv_iconst (v := (0 : Int32)) hx hb dX3_way_32 (by decide) ?_
        obtain ⟨v4, hv, hf⟩ := bd hf
        refine r_Si (As := [.int a1, .int a2, .long a3, .long a5, .int (0 : Int32)]) (rest := []) X (met_X3_wayOf l G _ N a1 a2 a3 a5 (0 : Int32) v4 hv) cs_X3_wayOf q1042 rfl rfl hl.1 (Nat.le_of_ble_eq_true rfl) ⟨Nat.le_of_ble_eq_true rfl, Nat.le_of_ble_eq_true rfl⟩ ⟨Nat.le_refl _, Nat.le_refl _⟩ dX3_way_33 hK hH hS (fun H locs hH hS => ?_)
        refine lv_goto (tgt := 40) hx hb dX3_way_36 (by decide) ?_
        cases hf
        exact r_iret X dX3_way_40 (Nat.le_refl _) (Nat.le_refl _) rfl hH hS
theorem cv_X3_weights : CalV "WordBenchModel" yX3_weights cX3_weights 3 (some .long) 2 := ⟨q1258, q1259, q57, q1260, by decide +kernel⟩
set_option maxHeartbeats 4000000 in
theorem met_X3_weights (l : Launch) (G : GG) (sz M : Nat) (rst : Nat → Option AE) (N : Nat) (st : MS) (a1 : Int32) (a2 : Int32) (stf : MS) (rf : Int64) (hf : f_X3_weights N st a1 a2 = some (stf, rf)) : Con l yX3_weights cX3_weights 3 (some .long) 6 0 0 G (sz, MH M st rst) [.ref M, .int a1, .int a2] (sz, MH M stf rst) (some (.long rf)) := by
  refine con_of (by decide) (Nat.le_of_ble_eq_true rfl) ?_
  intro p e s m below meth c ls X hK hH hl hS
  have hx := X.1
  have hb := X.2.1
  have hown : s.vm.findClass RX3 = some m.cls := X.2.2.2.2.1
  have hts := X.2.2.2.2.2.1
  have hl : lv_has ls 3 [(0, .ref M), (1, .int a1), (2, .int a2)] := hl
  unfold f_X3_weights at hf
  refine lv_aload_n hx hb dX3_weights_0 rfl (lv_at hl 0 rfl) ?_
  refine lv_iload_n hx hb dX3_weights_1 rfl (lv_at hl 1 rfl) ?_
  obtain ⟨v1, hv, hf⟩ := bd hf
  refine r_Vi (As := [.int a1]) (rest := []) X (met_X3_lacks l G _ _ _ N st a1 v1 hv) cv_X3_lacks q1236 (m_recv hK hH) rfl rfl hl.1 (Nat.le_of_ble_eq_true rfl) ⟨Nat.le_of_ble_eq_true rfl, Nat.le_of_ble_eq_true rfl⟩ ⟨Nat.le_refl _, Nat.le_refl _⟩ dX3_weights_2 hK hH hS (fun H locs hH hS => ?_)
  refine lv_if_eq (tgt := 15) hx hb dX3_weights_5 (by decide) (fun c_ => ?_) (fun c_ => ?_)
  · have hf := (if_pos c_).symm.trans hf
    refine lv_iload_n hx hb dX3_weights_15 rfl (lv_at hl 2 rfl) ?_
    refine lv_i2l (v := (a2).toInt64) hx hb dX3_weights_16 rfl ?_
    refine lv_lconst (v := (0 : Int64)) hx hb dX3_weights_17 (by decide) ?_
    refine lv_aload_n hx hb dX3_weights_18 rfl (lv_at hl 0 rfl) ?_
    refine m_get X hK hH 3 (by decide) rfl (mg_3 _ _) q1062 dX3_weights_19 ?_
    refine lv_iload_n hx hb dX3_weights_22 rfl (lv_at hl 1 rfl) ?_
    obtain ⟨v2, hv, hf⟩ := bd hf
    refine m_iald X hK hH 3 (mc_3 _ _) hv dX3_weights_23 ?_
    refine lv_i2l (v := (v2).toInt64) hx hb dX3_weights_24 rfl ?_
    obtain ⟨v3, hv, hf⟩ := bd hf
    refine r_Si (As := [.long ((a2).toInt64), .long (0 : Int64), .long ((v2).toInt64)]) (rest := []) X (met_X3_isIn l G _ N ((a2).toInt64) (0 : Int64) ((v2).toInt64) v3 hv) cs_X3_isIn q1015 rfl rfl hl.1 (Nat.le_of_ble_eq_true rfl) ⟨Nat.le_of_ble_eq_true rfl, Nat.le_of_ble_eq_true rfl⟩ ⟨Nat.le_refl _, Nat.le_refl _⟩ dX3_weights_25 hK hH hS (fun H locs hH hS => ?_)
    refine lv_if_ne (tgt := 35) hx hb dX3_weights_28 (by decide) (fun c_ => ?_) (fun c_ => ?_)
    · have hf := (if_neg c_).symm.trans hf
      refine lv_aload_n hx hb dX3_weights_35 rfl (lv_at hl 0 rfl) ?_
      refine lv_iload_n hx hb dX3_weights_36 rfl (lv_at hl 1 rfl) ?_
      obtain ⟨v4, hv, hf⟩ := bd hf
      refine r_Vi (As := [.int a1]) (rest := []) X (met_X3_lays l G _ _ _ N st a1 v4.1 v4.2 hv) cv_X3_lays q1240 (m_recv hK hH) rfl rfl hl.1 (Nat.le_of_ble_eq_true rfl) ⟨Nat.le_of_ble_eq_true rfl, Nat.le_of_ble_eq_true rfl⟩ ⟨Nat.le_refl _, Nat.le_refl _⟩ dX3_weights_37 hK hH hS (fun H locs hH hS => ?_)
      refine lv_if_ne (tgt := 47) hx hb dX3_weights_40 (by decide) (fun c_ => ?_) (fun c_ => ?_)
      · have hf := (if_neg c_).symm.trans hf
        refine lv_aload_n hx hb dX3_weights_47 rfl (lv_at hl 0 rfl) ?_
        refine lv_iload_n hx hb dX3_weights_48 rfl (lv_at hl 1 rfl) ?_
        obtain ⟨v5, hv, hf⟩ := bd hf
        refine r_Vv (As := [.int a1]) (rest := []) X (met_X3_weigh l G _ _ _ N v4.1 a1 v5 hv) cv_X3_weigh q1262 (m_recv hK hH) rfl rfl hl.1 (Nat.le_of_ble_eq_true rfl) ⟨Nat.le_of_ble_eq_true rfl, Nat.le_of_ble_eq_true rfl⟩ ⟨Nat.le_refl _, Nat.le_refl _⟩ dX3_weights_49 hK hH hS (fun H locs hH hS => ?_)
        refine lv_aload_n hx hb dX3_weights_52 rfl (lv_at hl 0 rfl) ?_
        refine m_get X hK hH 14 (by decide) rfl (mg_14 _ _) q1073 dX3_weights_53 ?_
        refine lv_iload_n hx hb dX3_weights_56 rfl (lv_at hl 2 rfl) ?_
        obtain ⟨v6, hv, hf⟩ := bd hf
        refine m_lald X hK hH 12 (mc_14 _ _) hv dX3_weights_57 ?_
        cases hf
        exact r_lret X dX3_weights_58 (Nat.le_refl _) (Nat.le_refl _) rfl hH hS
      · have hf := (if_pos c_).symm.trans hf
        refine lv_ldc2 (v := (-5 : Int64)) hx hb hown (hts _ q1261) dX3_weights_43 ?_
        cases hf
        exact r_lret X dX3_weights_46 (Nat.le_refl _) (Nat.le_refl _) rfl hH hS
    · have hf := (if_pos c_).symm.trans hf
      refine lv_ldc2 (v := (-1 : Int64)) hx hb hown (hts _ q1025) dX3_weights_31 ?_
      cases hf
      exact r_lret X dX3_weights_34 (Nat.le_refl _) (Nat.le_refl _) rfl hH hS
  · have hf := (if_neg c_).symm.trans hf
    refine lv_aload_n hx hb dX3_weights_8 rfl (lv_at hl 0 rfl) ?_
    refine lv_iload_n hx hb dX3_weights_9 rfl (lv_at hl 1 rfl) ?_
    obtain ⟨v7, hv, hf⟩ := bd hf
    refine r_Vi (As := [.int a1]) (rest := []) X (met_X3_lacks l G _ _ _ N st a1 v7 hv) cv_X3_lacks q1236 (m_recv hK hH) rfl rfl hl.1 (Nat.le_of_ble_eq_true rfl) ⟨Nat.le_of_ble_eq_true rfl, Nat.le_of_ble_eq_true rfl⟩ ⟨Nat.le_refl _, Nat.le_refl _⟩ dX3_weights_10 hK hH hS (fun H locs hH hS => ?_)
    refine lv_i2l (v := (v7).toInt64) hx hb dX3_weights_13 rfl ?_
    cases hf
    exact r_lret X dX3_weights_14 (Nat.le_refl _) (Nat.le_refl _) rfl hH hS
theorem cv_X3_whole : CalV "WordBenchModel" yX3_whole cX3_whole 5 (some .int) 1 := ⟨q1323, q1324, q57, q1325, by decide +kernel⟩
set_option maxHeartbeats 4000000 in
theorem met_X3_whole (l : Launch) (G : GG) (sz M : Nat) (rst : Nat → Option AE) (N : Nat) (st : MS) (a1 : Int32) (stf : MS) (rf : Int32) (hf : f_X3_whole N st a1 = some (stf, rf)) : Con l yX3_whole cX3_whole 5 (some .int) 6 0 0 G (sz, MH M st rst) [.ref M, .int a1] (sz, MH M stf rst) (some (.int rf)) := by
  refine con_of (by decide) (Nat.le_of_ble_eq_true rfl) ?_
  intro p e s m below meth c ls X hK hH hl hS
  have hx := X.1
  have hb := X.2.1
  have hown : s.vm.findClass RX3 = some m.cls := X.2.2.2.2.1
  have hts := X.2.2.2.2.2.1
  have hl : lv_has ls 5 [(0, .ref M), (1, .int a1)] := hl
  unfold f_X3_whole at hf
  have L55 : ∀ (c1 : Int32) (c2 : Int32) (n : Nat) (s55 : (Int64 × MS)) (r55 : (MS ⊕ MS)), lp (f_X3_whole_b55 N c1 c2) n s55 = some r55 → (match r55 with | .inl e55 => (∀ (ls : Array Slot) (H : Heap) (locs : List Loc), lv_has ls 5 [] → HH G (sz, MH M e55 rst) H → va_S (AG G) s.heap H locs → W p l e (rm_ 6 0 0) s m ([.ref M, .int a1] : List Value).toArray below meth c H locs 0 0 (MQ below (PostC G (sz, MH M stf rst) (some (.int rf))) ([.ref M, .int a1] : List Value).toArray s 0 0 (AG G)) (F0 m 94 ls [])) | .inr e55 => (∀ (ls : Array Slot) (H : Heap) (locs : List Loc), lv_has ls 5 [(2, .int c2)] → HH G (sz, MH M e55 rst) H → va_S (AG G) s.heap H locs → W p l e (rm_ 6 0 0) s m ([.ref M, .int a1] : List Value).toArray below meth c H locs 0 0 (MQ below (PostC G (sz, MH M stf rst) (some (.int rf))) ([.ref M, .int a1] : List Value).toArray s 0 0 (AG G)) (F0 m 103 ls []))) → ∀ (ls : Array Slot) (H : Heap) (locs : List Loc), lv_has ls 5 [(0, .ref M), (1, .int c1), (2, .int c2), (3, .long s55.1)] → HH G (sz, MH M s55.2 rst) H → va_S (AG G) s.heap H locs → W p l e (rm_ 6 0 0) s m ([.ref M, .int a1] : List Value).toArray below meth c H locs 0 0 (MQ below (PostC G (sz, MH M stf rst) (some (.int rf))) ([.ref M, .int a1] : List Value).toArray s 0 0 (AG G)) (F0 m 55 ls []) := by
    intro c1 c2 n s55 r55 hr hq
    refine lp_ind (P := fun s55 => ∀ (ls : Array Slot) (H : Heap) (locs : List Loc), lv_has ls 5 [(0, .ref M), (1, .int c1), (2, .int c2), (3, .long s55.1)] → HH G (sz, MH M s55.2 rst) H → va_S (AG G) s.heap H locs → W p l e (rm_ 6 0 0) s m ([.ref M, .int a1] : List Value).toArray below meth c H locs 0 0 (MQ below (PostC G (sz, MH M stf rst) (some (.int rf))) ([.ref M, .int a1] : List Value).toArray s 0 0 (AG G)) (F0 m 55 ls [])) (Q := fun r55 => match r55 with | .inl e55 => (∀ (ls : Array Slot) (H : Heap) (locs : List Loc), lv_has ls 5 [] → HH G (sz, MH M e55 rst) H → va_S (AG G) s.heap H locs → W p l e (rm_ 6 0 0) s m ([.ref M, .int a1] : List Value).toArray below meth c H locs 0 0 (MQ below (PostC G (sz, MH M stf rst) (some (.int rf))) ([.ref M, .int a1] : List Value).toArray s 0 0 (AG G)) (F0 m 94 ls [])) | .inr e55 => (∀ (ls : Array Slot) (H : Heap) (locs : List Loc), lv_has ls 5 [(2, .int c2)] → HH G (sz, MH M e55 rst) H → va_S (AG G) s.heap H locs → W p l e (rm_ 6 0 0) s m ([.ref M, .int a1] : List Value).toArray below meth c H locs 0 0 (MQ below (PostC G (sz, MH M stf rst) (some (.int rf))) ([.ref M, .int a1] : List Value).toArray s 0 0 (AG G)) (F0 m 103 ls []))) ?_ n s55 r55 hr hq
    intro s55 x55 hf hx55 ls H locs hl hH hS
    unfold f_X3_whole_b55 at hf
    refine lv_lload_n hx hb dX3_whole_55 rfl (lv_at hl 3 rfl) ?_
    refine lv_aload_n hx hb dX3_whole_56 rfl (lv_at hl 0 rfl) ?_
    refine m_get X hK hH 2 (by decide) rfl (mg_2 _ _) q1061 dX3_whole_57 ?_
    refine lv_iload_n hx hb dX3_whole_60 rfl (lv_at hl 1 rfl) ?_
    obtain ⟨v7, hv, hf⟩ := bd hf
    refine m_iald X hK hH 2 (mc_2 _ _) hv dX3_whole_61 ?_
    refine lv_aload_n hx hb dX3_whole_62 rfl (lv_at hl 0 rfl) ?_
    refine m_get X hK hH 3 (by decide) rfl (mg_3 _ _) q1062 dX3_whole_63 ?_
    refine lv_iload_n hx hb dX3_whole_66 rfl (lv_at hl 1 rfl) ?_
    obtain ⟨v8, hv, hf⟩ := bd hf
    refine m_iald X hK hH 3 (mc_3 _ _) hv dX3_whole_67 ?_
    obtain ⟨v9, hv, hf⟩ := bd hf
    refine r_Sl (As := [.int v7, .int v8]) (rest := [.long s55.1]) X (met_X3_power l G _ N v7 v8 v9 hv) cs_X3_power q1022 rfl rfl hl.1 (Nat.le_of_ble_eq_true rfl) ⟨Nat.le_of_ble_eq_true rfl, Nat.le_of_ble_eq_true rfl⟩ ⟨Nat.le_refl _, Nat.le_refl _⟩ dX3_whole_68 hK hH hS (fun H locs hH hS => ?_)
    refine W.lcmp hx hb dX3_whole_71 ?_
    refine lv_if_ge (tgt := 103) hx hb dX3_whole_72 (by decide) (fun c_ => ?_) (fun c_ => ?_)
    · have hf := (if_pos ((lg_cmp_ge s55.1 v9).mp c_)).symm.trans hf
      cases hf
      exact hx55 _ _ _ (lv_sub hl [2] rfl) hH hS
    · have hf := (if_neg (fun z => c_ ((lg_cmp_ge s55.1 v9).mpr z))).symm.trans hf
      refine lv_iload_n hx hb dX3_whole_75 rfl (lv_at hl 2 rfl) ?_
      refine lv_if_le (tgt := 103) hx hb dX3_whole_76 (by decide) (fun c_ => ?_) (fun c_ => ?_)
      · have hf := (if_pos c_).symm.trans hf
        cases hf
        exact hx55 _ _ _ (lv_sub hl [2] rfl) hH hS
      · have hf := (if_neg c_).symm.trans hf
        refine lv_aload_n hx hb dX3_whole_79 rfl (lv_at hl 0 rfl) ?_
        refine lv_iload_n hx hb dX3_whole_80 rfl (lv_at hl 1 rfl) ?_
        refine lv_lload_n hx hb dX3_whole_81 rfl (lv_at hl 3 rfl) ?_
        refine lv_iload_n hx hb dX3_whole_82 rfl (lv_at hl 2 rfl) ?_
        refine lv_iconst (v := (1 : Int32)) hx hb dX3_whole_83 (by decide) ?_
        refine lv_isub hx hb dX3_whole_84 ?_
        refine lv_iconst (v := (2 : Int32)) hx hb dX3_whole_85 (by decide) ?_
        obtain ⟨v10, hv, hf⟩ := bd hf
        refine r_idiv hx hb hv dX3_whole_86 ?_
        obtain ⟨v11, hv, hf⟩ := bd hf
        refine r_Vi (As := [.int c1, .long s55.1, .int v10]) (rest := []) X (met_X3_nearOf l G _ _ _ N s55.2 c1 s55.1 v10 v11.1 v11.2 hv) cv_X3_nearOf q1305 (m_recv hK hH) rfl rfl hl.1 (Nat.le_of_ble_eq_true rfl) ⟨Nat.le_of_ble_eq_true rfl, Nat.le_of_ble_eq_true rfl⟩ ⟨Nat.le_refl _, Nat.le_refl _⟩ dX3_whole_87 hK hH hS (fun H locs hH hS => ?_)
        refine lv_iconst (v := (1 : Int32)) hx hb dX3_whole_90 (by decide) ?_
        refine lv_icmp_eq (tgt := 96) hx hb dX3_whole_91 (by decide) (fun c_ => ?_) (fun c_ => ?_)
        · have hf := (if_pos c_).symm.trans hf
          refine lv_lload_n hx hb dX3_whole_96 rfl (lv_at hl 3 rfl) ?_
          refine lv_lconst (v := (1 : Int64)) hx hb dX3_whole_97 (by decide) ?_
          refine lv_ladd hx hb dX3_whole_98 ?_
          refine lv_lstore_n (lv' := [(3, .long (s55.1 + (1 : Int64))), (0, .ref M), (1, .int c1), (2, .int c2)]) hx hb dX3_whole_99 rfl hl (by decide) rfl (fun ls hl => ?_)
          refine lv_goto (tgt := 55) hx hb dX3_whole_100 (by decide) ?_
          cases hf
          exact hx55 _ _ _ (lv_sub hl [1, 2, 3, 0] rfl) hH hS
        · have hf := (if_neg c_).symm.trans hf
          cases hf
          exact hx55 _ _ _ (lv_sub hl [] rfl) hH hS
  have J103 : ∀ (d2 : Int32) (u103 : MS), f_X3_whole_j103 N d2 u103 = some (stf, rf) → ∀ (ls : Array Slot) (H : Heap) (locs : List Loc), lv_has ls 5 [(2, .int d2)] → HH G (sz, MH M u103 rst) H → va_S (AG G) s.heap H locs → W p l e (rm_ 6 0 0) s m ([.ref M, .int a1] : List Value).toArray below meth c H locs 0 0 (MQ below (PostC G (sz, MH M stf rst) (some (.int rf))) ([.ref M, .int a1] : List Value).toArray s 0 0 (AG G)) (F0 m 103 ls []) := by
    intro d2 u103 hf ls H locs hl hH hS
    unfold f_X3_whole_j103 at hf
    refine lv_iload_n hx hb dX3_whole_103 rfl (lv_at hl 0 rfl) ?_
    refine lv_if_le (tgt := 111) hx hb dX3_whole_104 (by decide) (fun c_ => ?_) (fun c_ => ?_)
    · have hf := (if_pos c_).symm.trans hf
      refine lv_iconst (v := (0 : Int32)) hx hb dX3_whole_111 (by decide) ?_
      cases hf
      exact r_iret X dX3_whole_112 (Nat.le_refl _) (Nat.le_refl _) rfl hH hS
    · have hf := (if_neg c_).symm.trans hf
      refine lv_iconst (v := (1 : Int32)) hx hb dX3_whole_107 (by decide) ?_
      refine lv_goto (tgt := 112) hx hb dX3_whole_108 (by decide) ?_
      cases hf
      exact r_iret X dX3_whole_112 (Nat.le_refl _) (Nat.le_refl _) rfl hH hS
  refine lv_aload_n hx hb dX3_whole_0 rfl (lv_at hl 0 rfl) ?_
  refine lv_iload_n hx hb dX3_whole_1 rfl (lv_at hl 1 rfl) ?_
  obtain ⟨v1, hv, hf⟩ := bd hf
  refine r_Vi (As := [.int a1]) (rest := []) X (met_X3_lacks l G _ _ _ N st a1 v1 hv) cv_X3_lacks q1236 (m_recv hK hH) rfl rfl hl.1 (Nat.le_of_ble_eq_true rfl) ⟨Nat.le_of_ble_eq_true rfl, Nat.le_of_ble_eq_true rfl⟩ ⟨Nat.le_refl _, Nat.le_refl _⟩ dX3_whole_2 hK hH hS (fun H locs hH hS => ?_)
  refine lv_if_eq (tgt := 14) hx hb dX3_whole_5 (by decide) (fun c_ => ?_) (fun c_ => ?_)
  · have hf := (if_pos c_).symm.trans hf
    refine lv_aload_n hx hb dX3_whole_14 rfl (lv_at hl 0 rfl) ?_
    refine m_get X hK hH 2 (by decide) rfl (mg_2 _ _) q1061 dX3_whole_15 ?_
    refine lv_iload_n hx hb dX3_whole_18 rfl (lv_at hl 1 rfl) ?_
    obtain ⟨v2, hv, hf⟩ := bd hf
    refine m_iald X hK hH 2 (mc_2 _ _) hv dX3_whole_19 ?_
    refine lv_aload_n hx hb dX3_whole_20 rfl (lv_at hl 0 rfl) ?_
    refine m_get X hK hH 3 (by decide) rfl (mg_3 _ _) q1062 dX3_whole_21 ?_
    refine lv_iload_n hx hb dX3_whole_24 rfl (lv_at hl 1 rfl) ?_
    obtain ⟨v3, hv, hf⟩ := bd hf
    refine m_iald X hK hH 3 (mc_3 _ _) hv dX3_whole_25 ?_
    obtain ⟨v4, hv, hf⟩ := bd hf
    refine r_Sl (As := [.int v2, .int v3]) (rest := []) X (met_X3_power l G _ N v2 v3 v4 hv) cs_X3_power q1022 rfl rfl hl.1 (Nat.le_of_ble_eq_true rfl) ⟨Nat.le_of_ble_eq_true rfl, Nat.le_of_ble_eq_true rfl⟩ ⟨Nat.le_refl _, Nat.le_refl _⟩ dX3_whole_26 hK hH hS (fun H locs hH hS => ?_)
    refine lv_ldc2 (v := (1024 : Int64)) hx hb hown (hts _ q1317) dX3_whole_29 ?_
    refine W.lcmp hx hb dX3_whole_32 ?_
    refine lv_if_gt (tgt := 44) hx hb dX3_whole_33 (by decide) (fun c_ => ?_) (fun c_ => ?_)
    · have hf := (if_pos ((lg_cmp_gt v4 (1024 : Int64)).mp c_)).symm.trans hf
      refine lv_bipush (v := (-5 : Int32)) hx hb dX3_whole_44 (by decide) ?_
      cases hf
      exact r_iret X dX3_whole_46 (Nat.le_refl _) (Nat.le_refl _) rfl hH hS
    · have hf := (if_neg (fun z => c_ ((lg_cmp_gt v4 (1024 : Int64)).mpr z))).symm.trans hf
      refine lv_aload_n hx hb dX3_whole_36 rfl (lv_at hl 0 rfl) ?_
      refine lv_iload_n hx hb dX3_whole_37 rfl (lv_at hl 1 rfl) ?_
      obtain ⟨v5, hv, hf⟩ := bd hf
      refine r_Vi (As := [.int a1]) (rest := []) X (met_X3_lays l G _ _ _ N st a1 v5.1 v5.2 hv) cv_X3_lays q1240 (m_recv hK hH) rfl rfl hl.1 (Nat.le_of_ble_eq_true rfl) ⟨Nat.le_of_ble_eq_true rfl, Nat.le_of_ble_eq_true rfl⟩ ⟨Nat.le_refl _, Nat.le_refl _⟩ dX3_whole_38 hK hH hS (fun H locs hH hS => ?_)
      refine lv_if_ne (tgt := 47) hx hb dX3_whole_41 (by decide) (fun c_ => ?_) (fun c_ => ?_)
      · have hf := (if_neg c_).symm.trans hf
        refine lv_aload_n hx hb dX3_whole_47 rfl (lv_at hl 0 rfl) ?_
        refine lv_iload_n hx hb dX3_whole_48 rfl (lv_at hl 1 rfl) ?_
        obtain ⟨v6, hv, hf⟩ := bd hf
        refine r_Vi (As := [.int a1]) (rest := []) X (met_X3_leastOf l G _ _ _ N v5.1 a1 v6 hv) cv_X3_leastOf q1249 (m_recv hK hH) rfl rfl hl.1 (Nat.le_of_ble_eq_true rfl) ⟨Nat.le_of_ble_eq_true rfl, Nat.le_of_ble_eq_true rfl⟩ ⟨Nat.le_refl _, Nat.le_refl _⟩ dX3_whole_49 hK hH hS (fun H locs hH hS => ?_)
        refine lv_istore_n (lv' := [(2, .int v6), (0, .ref M), (1, .int a1)]) hx hb dX3_whole_52 rfl hl (by decide) rfl (fun ls hl => ?_)
        refine lv_lconst (v := (0 : Int64)) hx hb dX3_whole_53 (by decide) ?_
        refine lv_lstore_n (lv' := [(3, .long (0 : Int64)), (2, .int v6), (0, .ref M), (1, .int a1)]) hx hb dX3_whole_54 rfl hl (by decide) rfl (fun ls hl => ?_)
        obtain ⟨r55_12, hr, hf⟩ := bd hf
        refine L55 a1 v6 N _ r55_12 hr ?_ _ _ _ (lv_sub hl [2, 3, 1, 0] rfl) hH hS
        rcases r55_12 with r55_12 | r55_12
        · intro ls H locs hl hH hS
          dsimp only at hf
          refine lv_iconst (v := (0 : Int32)) hx hb dX3_whole_94 (by decide) ?_
          cases hf
          exact r_iret X dX3_whole_95 (Nat.le_refl _) (Nat.le_refl _) rfl hH hS
        · intro ls H locs hl hH hS
          dsimp only at hf
          exact J103 v6 r55_12 hf _ _ _ (lv_sub hl [0] rfl) hH hS
      · have hf := (if_pos c_).symm.trans hf
        refine lv_bipush (v := (-5 : Int32)) hx hb dX3_whole_44 (by decide) ?_
        cases hf
        exact r_iret X dX3_whole_46 (Nat.le_refl _) (Nat.le_refl _) rfl hH hS
  · have hf := (if_neg c_).symm.trans hf
    refine lv_aload_n hx hb dX3_whole_8 rfl (lv_at hl 0 rfl) ?_
    refine lv_iload_n hx hb dX3_whole_9 rfl (lv_at hl 1 rfl) ?_
    obtain ⟨v13, hv, hf⟩ := bd hf
    refine r_Vi (As := [.int a1]) (rest := []) X (met_X3_lacks l G _ _ _ N st a1 v13 hv) cv_X3_lacks q1236 (m_recv hK hH) rfl rfl hl.1 (Nat.le_of_ble_eq_true rfl) ⟨Nat.le_of_ble_eq_true rfl, Nat.le_of_ble_eq_true rfl⟩ ⟨Nat.le_refl _, Nat.le_refl _⟩ dX3_whole_10 hK hH hS (fun H locs hH hS => ?_)
    cases hf
    exact r_iret X dX3_whole_13 (Nat.le_refl _) (Nat.le_refl _) rfl hH hS
theorem cv_X3_word : CalV "WordBenchModel" yX3_word cX3_word 3 (some .long) 2 := ⟨q1191, q1192, q57, q1193, by decide +kernel⟩
set_option maxHeartbeats 4000000 in
theorem met_X3_word (l : Launch) (G : GG) (sz M : Nat) (rst : Nat → Option AE) (N : Nat) (st : MS) (a1 : Int32) (a2 : Int32) (stf : MS) (rf : Int64) (hf : f_X3_word N st a1 a2 = some (stf, rf)) : Con l yX3_word cX3_word 3 (some .long) 2 0 0 G (sz, MH M st rst) [.ref M, .int a1, .int a2] (sz, MH M stf rst) (some (.long rf)) := by
  refine con_of (by decide) (Nat.le_of_ble_eq_true rfl) ?_
  intro p e s m below meth c ls X hK hH hl hS
  have hx := X.1
  have hb := X.2.1
  have hown : s.vm.findClass RX3 = some m.cls := X.2.2.2.2.1
  have hts := X.2.2.2.2.2.1
  have hl : lv_has ls 3 [(0, .ref M), (1, .int a1), (2, .int a2)] := hl
  unfold f_X3_word at hf
  have J43 : ∀ (d1 : Int32) (d2 : Int32) (k0 : Int32) (u43 : MS), f_X3_word_j43 N d1 d2 k0 u43 = some (stf, rf) → ∀ (ls : Array Slot) (H : Heap) (locs : List Loc), lv_has ls 3 [(0, .ref M), (1, .int d1), (2, .int d2)] → HH G (sz, MH M u43 rst) H → va_S (AG G) s.heap H locs → W p l e (rm_ 2 0 0) s m ([.ref M, .int a1, .int a2] : List Value).toArray below meth c H locs 0 0 (MQ below (PostC G (sz, MH M stf rst) (some (.long rf))) ([.ref M, .int a1, .int a2] : List Value).toArray s 0 0 (AG G)) (F0 m 43 ls [.int k0, .ref M]) := by
    intro d1 d2 k0 u43 hf ls H locs hl hH hS
    unfold f_X3_word_j43 at hf
    refine m_put (ty := .int) X hK hH hS 0 (by decide) rfl (mp_0 _ _ _) q1059 rfl (by decide +kernel) rfl rfl dX3_word_43 (fun H locs hH hS => ?_)
    refine lv_aload_n hx hb dX3_word_46 rfl (lv_at hl 0 rfl) ?_
    refine m_get X hK hH 0 (by decide) rfl (mg_0 _ _) q1059 dX3_word_47 ?_
    refine lv_if_le (tgt := 57) hx hb dX3_word_50 (by decide) (fun c_ => ?_) (fun c_ => ?_)
    · have hf := (if_pos c_).symm.trans hf
      refine lv_aload_n hx hb dX3_word_57 rfl (lv_at hl 0 rfl) ?_
      refine m_get X hK hH 5 (by decide) rfl (mg_5 _ _) q1064 dX3_word_58 ?_
      refine lv_sipush (v := (200 : Int32)) hx hb dX3_word_61 (by decide) ?_
      refine lv_iload_n hx hb dX3_word_64 rfl (lv_at hl 1 rfl) ?_
      refine lv_imul hx hb dX3_word_65 ?_
      refine lv_iload_n hx hb dX3_word_66 rfl (lv_at hl 2 rfl) ?_
      refine lv_iadd hx hb dX3_word_67 ?_
      obtain ⟨v3, hv, hf⟩ := bd hf
      refine m_lald X hK hH 5 (mc_5 _ _) hv dX3_word_68 ?_
      cases hf
      exact r_lret X dX3_word_69 (Nat.le_refl _) (Nat.le_refl _) rfl hH hS
    · have hf := (if_neg c_).symm.trans hf
      refine lv_lconst (v := (0 : Int64)) hx hb dX3_word_53 (by decide) ?_
      refine lv_goto (tgt := 69) hx hb dX3_word_54 (by decide) ?_
      cases hf
      exact r_lret X dX3_word_69 (Nat.le_refl _) (Nat.le_refl _) rfl hH hS
  refine lv_aload_n hx hb dX3_word_0 rfl (lv_at hl 0 rfl) ?_
  refine lv_iload_n hx hb dX3_word_1 rfl (lv_at hl 1 rfl) ?_
  obtain ⟨v1, hv, hf⟩ := bd hf
  refine r_Si (As := [.int a1]) (rest := [.ref M]) X (met_X3_isPlace l G _ N a1 v1 hv) cs_X3_isPlace q1136 rfl rfl hl.1 (Nat.le_of_ble_eq_true rfl) ⟨Nat.le_of_ble_eq_true rfl, Nat.le_of_ble_eq_true rfl⟩ ⟨Nat.le_refl _, Nat.le_refl _⟩ dX3_word_2 hK hH hS (fun H locs hH hS => ?_)
  refine lv_if_ne (tgt := 12) hx hb dX3_word_5 (by decide) (fun c_ => ?_) (fun c_ => ?_)
  · have hf := (if_neg c_).symm.trans hf
    refine lv_aload_n hx hb dX3_word_12 rfl (lv_at hl 0 rfl) ?_
    refine lv_iload_n hx hb dX3_word_13 rfl (lv_at hl 1 rfl) ?_
    obtain ⟨v2, hv, hf⟩ := bd hf
    refine r_Vi (As := [.int a1]) (rest := [.ref M]) X (met_X3_isEmpty l G _ _ _ N st a1 v2 hv) cv_X3_isEmpty q1148 (m_recv hK hH) rfl rfl hl.1 (Nat.le_of_ble_eq_true rfl) ⟨Nat.le_of_ble_eq_true rfl, Nat.le_of_ble_eq_true rfl⟩ ⟨Nat.le_refl _, Nat.le_refl _⟩ dX3_word_14 hK hH hS (fun H locs hH hS => ?_)
    refine lv_if_ne (tgt := 38) hx hb dX3_word_17 (by decide) (fun c_ => ?_) (fun c_ => ?_)
    · have hf := (if_neg c_).symm.trans hf
      refine lv_iconst (v := (2 : Int32)) hx hb dX3_word_38 (by decide) ?_
      refine lv_goto (tgt := 43) hx hb dX3_word_39 (by decide) ?_
      exact J43 a1 a2 (2 : Int32) st hf _ _ _ (lv_sub hl [0, 1, 2] rfl) hH hS
    · have hf := (if_pos c_).symm.trans hf
      refine lv_iload_n hx hb dX3_word_20 rfl (lv_at hl 2 rfl) ?_
      refine lv_i2l (v := (a2).toInt64) hx hb dX3_word_21 rfl ?_
      refine lv_lconst (v := (0 : Int64)) hx hb dX3_word_22 (by decide) ?_
      refine lv_aload_n hx hb dX3_word_23 rfl (lv_at hl 0 rfl) ?_
      refine m_get X hK hH 4 (by decide) rfl (mg_4 _ _) q1063 dX3_word_24 ?_
      refine lv_iload_n hx hb dX3_word_27 rfl (lv_at hl 1 rfl) ?_
      obtain ⟨v4, hv, hf⟩ := bd hf
      refine m_iald X hK hH 4 (mc_4 _ _) hv dX3_word_28 ?_
      refine lv_iconst (v := (1 : Int32)) hx hb dX3_word_29 (by decide) ?_
      refine lv_isub hx hb dX3_word_30 ?_
      refine lv_i2l (v := ((v4 - (1 : Int32))).toInt64) hx hb dX3_word_31 rfl ?_
      obtain ⟨v5, hv, hf⟩ := bd hf
      refine r_Si (As := [.long ((a2).toInt64), .long (0 : Int64), .long (((v4 - (1 : Int32))).toInt64)]) (rest := [.ref M]) X (met_X3_isIn l G _ N ((a2).toInt64) (0 : Int64) (((v4 - (1 : Int32))).toInt64) v5 hv) cs_X3_isIn q1015 rfl rfl hl.1 (Nat.le_of_ble_eq_true rfl) ⟨Nat.le_of_ble_eq_true rfl, Nat.le_of_ble_eq_true rfl⟩ ⟨Nat.le_refl _, Nat.le_refl _⟩ dX3_word_32 hK hH hS (fun H locs hH hS => ?_)
      refine lv_if_ne (tgt := 42) hx hb dX3_word_35 (by decide) (fun c_ => ?_) (fun c_ => ?_)
      · have hf := (if_neg c_).symm.trans hf
        refine lv_iconst (v := (0 : Int32)) hx hb dX3_word_42 (by decide) ?_
        exact J43 a1 a2 (0 : Int32) st hf _ _ _ (lv_sub hl [0, 1, 2] rfl) hH hS
      · have hf := (if_pos c_).symm.trans hf
        refine lv_iconst (v := (2 : Int32)) hx hb dX3_word_38 (by decide) ?_
        refine lv_goto (tgt := 43) hx hb dX3_word_39 (by decide) ?_
        exact J43 a1 a2 (2 : Int32) st hf _ _ _ (lv_sub hl [0, 1, 2] rfl) hH hS
  · have hf := (if_pos c_).symm.trans hf
    refine lv_iconst (v := (1 : Int32)) hx hb dX3_word_8 (by decide) ?_
    refine lv_goto (tgt := 43) hx hb dX3_word_9 (by decide) ?_
    exact J43 a1 a2 (1 : Int32) st hf _ _ _ (lv_sub hl [0, 1, 2] rfl) hH hS
