/-! ===== T7: rows for values of unknown kind: codes, long[], byte[] ===== -/
set_option maxRecDepth 100000
/-- 0: a code; 1: long[]; 2: byte[] -/
def kd (σ : SG) (b : Nat) : Option Nat := match σ.2 b with
  | some (.inr (ci, _)) => if ci ∈ [3, 4, 5, 6] then some 0 else none
  | some (.inl (1, _, .inr (.inl _))) => some 1
  | some (.inl (2, _, .inl _)) => some 2
  | _ => none
theorem kd_0 {σ : SG} {b : Nat} (h : kd σ b = some 0) : ∃ ci fs, σ.2 b = some (.inr (ci, fs)) ∧ ci ∈ [3, 4, 5, 6] := by
  unfold kd at h
  split at h
  · rename_i ci fs he
    split at h
    · rename_i hc; exact ⟨ci, fs, he, hc⟩
    · cases h
  · cases h
  · cases h
  · cases h
theorem kd_1 {σ : SG} {b : Nat} (h : kd σ b = some 1) : ∃ n f, σ.2 b = some (.inl (1, n, .inr (.inl f))) := by
  unfold kd at h
  split at h
  · split at h <;> cases h
  · rename_i n f he; exact ⟨n, f, he⟩
  · cases h
  · cases h
theorem kd_2 {σ : SG} {b : Nat} (h : kd σ b = some 2) : ∃ n f, σ.2 b = some (.inl (2, n, .inl f)) := by
  unfold kd at h
  split at h
  · split at h <;> cases h
  · cases h
  · rename_i n f he; exact ⟨n, f, he⟩
  · cases h
/-- instanceof [J (1), [B (2) -/
def iA (t : Nat) (σ : SG) (v : Option Nat) : Option Int32 := match v with
  | none => some 0
  | some b => match kd σ b with
    | some k => some (if k = t then 1 else 0)
    | none => none
/-- out of bounds, of a long[] -/
def oL (σ : SG) (b : Nat) (i : Int32) : Bool := match σ.2 b with
  | some (.inl (1, n, .inr (.inl _))) => decide (n < 2 ^ 31 ∧ (i < 0 ∨ n ≤ i.toNatClampNeg))
  | _ => false
def oB (σ : SG) (b : Nat) (i : Int32) : Bool := match σ.2 b with
  | some (.inl (2, n, .inl _)) => decide (n < 2 ^ 31 ∧ (i < 0 ∨ n ≤ i.toNatClampNeg))
  | _ => false
theorem oL_s {σ : SG} {b : Nat} {i : Int32} (h : oL σ b i = true) : ∃ n f, σ.2 b = some (.inl (1, n, .inr (.inl f))) ∧ n < 2 ^ 31 ∧ (i < 0 ∨ n ≤ i.toNatClampNeg) := by
  unfold oL at h
  split at h
  · rename_i n f he; exact ⟨n, f, he, of_decide_eq_true h⟩
  · cases h
theorem oB_s {σ : SG} {b : Nat} {i : Int32} (h : oB σ b i = true) : ∃ n f, σ.2 b = some (.inl (2, n, .inl f)) ∧ n < 2 ^ 31 ∧ (i < 0 ∨ n ≤ i.toNatClampNeg) := by
  unfold oB at h
  split at h
  · rename_i n f he; exact ⟨n, f, he, of_decide_eq_true h⟩
  · cases h
def aB (σ : SG) (b : Nat) (i : Int32) : Option Int32 := match σ.2 b with
  | some (.inl (2, n, .inl f)) => ald f n i
  | _ => none
theorem ca_Code : CastOf [3, 4, 5, 6] "WordBench$Code" := by
  intro c h
  rcases (show c = 3 ∨ c = 4 ∨ c = 5 ∨ c = 6 by simpa using h) with rfl | rfl | rfl | rfl
  · exact ⟨_, rfl, Or.inr q1425⟩
  · exact ⟨_, rfl, Or.inr q1424⟩
  · exact ⟨_, rfl, Or.inr q1426⟩
  · exact ⟨_, rfl, Or.inr q1427⟩
section XT7
variable {p : Program} {l : Launch} {e : Env} {R : Room} {s : State} {m : MethodId} {args : Array Value} {below : List Frame} {meth : Method} {c : Code} {H : Heap} {locs : List Loc} {cells slots : Nat} {Q : State → Prop}
variable {cc : ByteArray} {pc hpc : Nat} {ls : Array Slot} {st st' rest : List Value} {H0 : Heap} {G : GG} {σ σs : SG} {yo : MethodName} {nL : Nat} {rto : Option FieldType} {hh : List (Nat × Nat × Nat × Nat)} {n i : Int32} {atype : ArrayType} {b index : Nat}
theorem rc_1 {k : Nat} {f : Nat → Int64} (hK : KK G s) (hH : HH G σ H) (he : σ.2 b = some (.inl (1, k, .inr (.inl f)))) : ∃ cell : Cell, H[b]? = some cell ∧ cell.vm.isStatics = false ∧ s.vm.findClass "[J" = some cell.cls := ⟨_, (hH.2 b _ he).1, rfl, (hK.1.2 1 _ rfl).2⟩
theorem rc_2 {k : Nat} {f : Nat → Int32} (hK : KK G s) (hH : HH G σ H) (he : σ.2 b = some (.inl (2, k, .inl f))) : ∃ cell : Cell, H[b]? = some cell ∧ cell.vm.isStatics = false ∧ s.vm.findClass "[B" = some cell.cls := ⟨_, (hH.2 b _ he).1, rfl, (hK.1.2 2 _ rfl).2⟩
theorem rc_0 {ci : Nat} {fs : List Value} (hK : KK G s) (hH : HH G σ H) (he : σ.2 b = some (.inr (ci, fs))) (hci : ci ∈ [3, 4, 5, 6]) : ∃ C, C ∈ ["WordBench$List", "WordBench$Line", "WordBench$Own", "WordBench$Ring"] ∧ ∃ cell : Cell, H[b]? = some cell ∧ cell.vm.isStatics = false ∧ s.vm.findClass C = some cell.cls := by
  rcases (show ci = 3 ∨ ci = 4 ∨ ci = 5 ∨ ci = 6 by simpa using hci) with rfl | rfl | rfl | rfl
  · exact ⟨"WordBench$List", by simp, recv_of_HH (w := (RX5, TX5, 4)) hK hH he rfl⟩
  · exact ⟨"WordBench$Line", by simp, recv_of_HH (w := (RX6, TX6, 4)) hK hH he rfl⟩
  · exact ⟨"WordBench$Own", by simp, recv_of_HH (w := (RX7, TX7, 4)) hK hH he rfl⟩
  · exact ⟨"WordBench$Ring", by simp, recv_of_HH (w := (RX8, TX8, 4)) hK hH he rfl⟩
theorem as_self (vm : Vm) (c : ClassId) : vm.assignable c c = true := by
  show vm.assignableAux (255 + 1) c c = true
  rw [Vm.assignableAux]
  simp only [beq_self_eq_true, Bool.true_or]
theorem x_castS {nm : String} (X : Cx p s m args meth c cc rto nL yo) (hr : ∃ cell : Cell, H[b]? = some cell ∧ cell.vm.isStatics = false ∧ s.vm.findClass nm = some cell.cls) (hcl : Cond.classLink yo.cls index nm ∈ lw_all) (hdg : decode cc pc = .ok (.checkcast index, 3)) (kk : W p l e R s m args below meth c H locs cells slots Q (F0 m (pc + 3) ls (.ref b :: rest))) : W p l e R s m args below meth c H locs cells slots Q (F0 m pc ls (.ref b :: rest)) := by
  obtain ⟨cell, h1, h2, h3⟩ := hr
  intro T hT XS
  obtain ⟨vm', X', st⟩ := XS.checkcastYes X.1 X.2.2.2.2.1 (X.2.2.2.2.2.1 _ hcl) (by rw [hT]; exact h1) h2 h3 (as_self _ _) (g := F0 m pc ls (.ref b :: rest)) rfl rfl (by rw [X.2.1]; exact hdg)
  obtain ⟨t, a1, b1⟩ := kk (T.setVm vm') hT X'
  exact ⟨t, st t a1, b1⟩
theorem x_instS {nm : String} (X : Cx p s m args meth c cc rto nL yo) (hr : ∃ cell : Cell, H[b]? = some cell ∧ cell.vm.isStatics = false ∧ s.vm.findClass nm = some cell.cls) (hcl : Cond.classLink yo.cls index nm ∈ lw_all) (hdg : decode cc pc = .ok (.instanceof index, 3)) (kk : W p l e R s m args below meth c H locs cells slots Q (F0 m (pc + 3) ls (.int 1 :: rest))) : W p l e R s m args below meth c H locs cells slots Q (F0 m pc ls (.ref b :: rest)) := by
  obtain ⟨cell, h1, h2, h3⟩ := hr
  intro T hT XS
  obtain ⟨vm', X', st⟩ := XS.instanceofYes X.1 X.2.2.2.2.1 (X.2.2.2.2.2.1 _ hcl) (by rw [hT]; exact h1) h2 h3 (as_self _ _) (g := F0 m pc ls (.ref b :: rest)) rfl rfl (by rw [X.2.1]; exact hdg)
  obtain ⟨t, a1, b1⟩ := kk (T.setVm vm') hT X'
  exact ⟨t, st t a1, b1⟩
/-- a cast of an array to its own class -/
theorem x_castJ (X : Cx p s m args meth c cc rto nL yo) (hK : KK G s) (hH : HH G σ H) (hk : kd σ b = some 1) (hcl : Cond.classLink yo.cls index "[J" ∈ lw_all) (hdg : decode cc pc = .ok (.checkcast index, 3)) (kk : W p l e R s m args below meth c H locs cells slots Q (F0 m (pc + 3) ls (.ref b :: rest))) : W p l e R s m args below meth c H locs cells slots Q (F0 m pc ls (.ref b :: rest)) := by
  obtain ⟨k, f, he⟩ := kd_1 hk
  exact x_castS X (rc_1 hK hH he) hcl hdg kk
theorem x_castB (X : Cx p s m args meth c cc rto nL yo) (hK : KK G s) (hH : HH G σ H) (hk : kd σ b = some 2) (hcl : Cond.classLink yo.cls index "[B" ∈ lw_all) (hdg : decode cc pc = .ok (.checkcast index, 3)) (kk : W p l e R s m args below meth c H locs cells slots Q (F0 m (pc + 3) ls (.ref b :: rest))) : W p l e R s m args below meth c H locs cells slots Q (F0 m pc ls (.ref b :: rest)) := by
  obtain ⟨k, f, he⟩ := kd_2 hk
  exact x_castS X (rc_2 hK hH he) hcl hdg kk
theorem x_castC (X : Cx p s m args meth c cc rto nL yo) (hK : KK G s) (hH : HH G σ H) (hk : kd σ b = some 0) (hcl : Cond.classLink yo.cls index "WordBench$Code" ∈ lw_all) (hdg : decode cc pc = .ok (.checkcast index, 3)) (kk : W p l e R s m args below meth c H locs cells slots Q (F0 m (pc + 3) ls (.ref b :: rest))) : W p l e R s m args below meth c H locs cells slots Q (F0 m pc ls (.ref b :: rest)) := by
  obtain ⟨ci, fs, he, hci⟩ := kd_0 hk
  exact h_cast (u := ()) X hK hH ca_Code (show cC [3, 4, 5, 6] σ b = some () by unfold cC; rw [he]; exact if_pos hci) hcl hdg kk
end XT7
section XT7b
variable {p : Program} {l : Launch} {e : Env} {R : Room} {s : State} {m : MethodId} {args : Array Value} {below : List Frame} {meth : Method} {c : Code} {H : Heap} {locs : List Loc} {cells slots : Nat} {Q : State → Prop}
variable {cc : ByteArray} {pc hpc : Nat} {ls : Array Slot} {st st' rest : List Value} {H0 : Heap} {G : GG} {σ σs : SG} {yo : MethodName} {nL : Nat} {rto : Option FieldType} {hh : List (Nat × Nat × Nat × Nat)} {n i : Int32} {b index : Nat}
/-- the texts of the casts that can fail here -/
theorem dotted_len (a : String) : (dotted a).toList.length = a.toList.length := by
  unfold dotted turned
  rw [String.toList_ofList, List.length_map]
theorem tx_of {t : String} {r : List Char} (h : t.toList = 'c' :: r) (hl : r.length ≤ 249) : Tx t 1000 := by
  refine ⟨?_, ?_⟩
  · rw [beq_eq_false_iff_ne]
    intro h1
    have h2 := congrArg String.toList h1
    rw [h] at h2
    have h4 : notModelled.toList = '\u0000' :: " a message that is not modelled".toList := by decide
    rw [h4] at h2
    simp at h2
  · have b1 := stringBytes_size_le (stringToUtf16 t)
    have b2 := utf16_size_le t
    have b3 : t.toList.length ≤ 250 := by rw [h, List.length_cons]; omega
    omega
theorem tx_1 {a b h : String} (ha : a.toList.length ≤ 20) (hb : b.toList.length ≤ 20) (hh : h.toList.length ≤ 40) : Tx (ccT1 a b h) 1000 := by
  have e : (ccT1 a b h).toList = 'c' :: ("lass ".toList ++ (a.toList ++ (" cannot be cast to class ".toList ++ (b.toList ++ (" (".toList ++ ((a.toList ++ (" and ".toList ++ (b.toList ++ (" are in ".toList ++ h.toList)))) ++ ")".toList)))))) := by
    unfold ccT1
    simp only [String.toList_append, List.append_assoc]
    rfl
  refine tx_of e ?_
  simp only [List.length_append]
  have a1 : "lass ".toList.length = 5 := by decide
  have a2 : " cannot be cast to class ".toList.length = 25 := by decide
  have a3 : " (".toList.length = 2 := by decide
  have a4 : " and ".toList.length = 5 := by decide
  have a5 : " are in ".toList.length = 8 := by decide
  have a6 : ")".toList.length = 1 := by decide
  omega
theorem tx_2 {a b h k : String} (ha : a.toList.length ≤ 20) (hb : b.toList.length ≤ 20) (hh : h.toList.length ≤ 40) (hk : k.toList.length ≤ 40) : Tx (ccT2 a b h k) 1000 := by
  have e : (ccT2 a b h k).toList = 'c' :: ("lass ".toList ++ (a.toList ++ (" cannot be cast to class ".toList ++ (b.toList ++ (" (".toList ++ ((a.toList ++ (" is in ".toList ++ (h.toList ++ ("; ".toList ++ (b.toList ++ (" is in ".toList ++ k.toList)))))) ++ ")".toList)))))) := by
    unfold ccT2
    simp only [String.toList_append, List.append_assoc]
    rfl
  refine tx_of e ?_
  simp only [List.length_append]
  have a1 : "lass ".toList.length = 5 := by decide
  have a2 : " cannot be cast to class ".toList.length = 25 := by decide
  have a3 : " (".toList.length = 2 := by decide
  have a4 : " is in ".toList.length = 7 := by decide
  have a5 : "; ".toList.length = 2 := by decide
  have a6 : ")".toList.length = 1 := by decide
  omega
theorem tx_h : ∀ h ∈ ["module java.base of loader 'bootstrap'", "unnamed module of loader 'bootstrap'"], h.toList.length ≤ 40 := by
  intro h hh
  rcases (show h = "module java.base of loader 'bootstrap'" ∨ h = "unnamed module of loader 'bootstrap'" by simpa using hh) with rfl | rfl <;> decide
theorem x_castF {C nm : String} (htl : ∀ e, l.admits e → e.platform.stackTraces = false) (X : Cx p s m args meth c cc rto nL yo) (hT : Xt c hh) (hd : Hd yo.cls "java/lang/ClassCastException" pc hpc hh) (hls : ls.size = nL) (hK : KK G s) (hHs : HH G σs s.heap) (hH : HH G σ H) (hS : va_S (AG G) H0 H locs) (hrest : ((Value.ref b :: rest).map fun v => v.category).sum ≤ 20)
    (hr : ∃ cell : Cell, H[b]? = some cell ∧ cell.vm.isStatics = false ∧ s.vm.findClass C = some cell.cls) (hq : (C, nm) ∈ [("[J", "WordBench$Code"), ("[B", "WordBench$Code"), ("WordBench$List", "[J"), ("WordBench$Line", "[J"), ("WordBench$Own", "[J"), ("WordBench$Ring", "[J")]) (hcl : Cond.classLink yo.cls index nm ∈ lw_all)
    (hR : 7 < R.frames ∧ 10260 ≤ R.locals) (hf : cells + 3 ≤ R.cells ∧ slots + 1010 ≤ R.slots) (hdg : decode cc pc = .ok (.checkcast index, 3))
    (kk : ∀ H1 : Heap, HH G (σ.1 + 3, σ.2) H1 → va_S (AG G) H0 H1 locs → W p l e R s m args below meth c H1 locs (cells + 3) (slots + 1010) Q (F0 m hpc ls [.ref (σ.1 + 2)])) : W p l e R s m args below meth c H locs cells slots Q (F0 m pc ls (.ref b :: rest)) := by
  have hp : castPackages_1.contains (packageOf C) = true ∧ castPackages_1.contains (packageOf nm) = true ∧ Cond.not (.castable C nm) ∈ flatC (Jvm.Cond.and given_1 narrow_1) ∧ C.toList.length ≤ 20 ∧ nm.toList.length ≤ 20 := by
    simp only [List.mem_cons, Prod.mk.injEq, List.not_mem_nil, or_false] at hq
    rcases hq with ⟨rfl, rfl⟩ | ⟨rfl, rfl⟩ | ⟨rfl, rfl⟩ | ⟨rfl, rfl⟩ | ⟨rfl, rfl⟩ | ⟨rfl, rfl⟩ <;> exact ⟨by decide +kernel, by decide +kernel, by decide +kernel, by decide, by decide⟩
  exact x_castNo (B := 1000) htl X hT hd hls hK hHs hH hS hrest hr hp.2.2.1 hcl hp.1 hp.2.1 (by decide) (fun h1 m1 h2 m2 => ⟨tx_1 (by rw [dotted_len]; exact hp.2.2.2.1) (by rw [dotted_len]; exact hp.2.2.2.2) (tx_h h1 m1), tx_2 (by rw [dotted_len]; exact hp.2.2.2.1) (by rw [dotted_len]; exact hp.2.2.2.2) (tx_h h1 m1) (tx_h h2 m2)⟩) hR hf hdg kk
/-- a code is no long[]; an array no code -/
theorem x_castCJ (htl : ∀ e, l.admits e → e.platform.stackTraces = false) (X : Cx p s m args meth c cc rto nL yo) (hT : Xt c hh) (hd : Hd yo.cls "java/lang/ClassCastException" pc hpc hh) (hls : ls.size = nL) (hK : KK G s) (hHs : HH G σs s.heap) (hH : HH G σ H) (hS : va_S (AG G) H0 H locs) (hrest : ((Value.ref b :: rest).map fun v => v.category).sum ≤ 20) (hk : kd σ b = some 0) (hcl : Cond.classLink yo.cls index "[J" ∈ lw_all)
    (hR : 7 < R.frames ∧ 10260 ≤ R.locals) (hf : cells + 3 ≤ R.cells ∧ slots + 1010 ≤ R.slots) (hdg : decode cc pc = .ok (.checkcast index, 3))
    (kk : ∀ H1 : Heap, HH G (σ.1 + 3, σ.2) H1 → va_S (AG G) H0 H1 locs → W p l e R s m args below meth c H1 locs (cells + 3) (slots + 1010) Q (F0 m hpc ls [.ref (σ.1 + 2)])) : W p l e R s m args below meth c H locs cells slots Q (F0 m pc ls (.ref b :: rest)) := by
  obtain ⟨ci, fs, he, hci⟩ := kd_0 hk
  obtain ⟨C, hC, hr⟩ := rc_0 hK hH he hci
  refine x_castF (C := C) (nm := "[J") htl X hT hd hls hK hHs hH hS hrest hr ?_ hcl hR hf hdg kk
  rcases (show C = "WordBench$List" ∨ C = "WordBench$Line" ∨ C = "WordBench$Own" ∨ C = "WordBench$Ring" by simpa using hC) with rfl | rfl | rfl | rfl <;> simp
theorem x_castAC (htl : ∀ e, l.admits e → e.platform.stackTraces = false) (X : Cx p s m args meth c cc rto nL yo) (hT : Xt c hh) (hd : Hd yo.cls "java/lang/ClassCastException" pc hpc hh) (hls : ls.size = nL) (hK : KK G s) (hHs : HH G σs s.heap) (hH : HH G σ H) (hS : va_S (AG G) H0 H locs) (hrest : ((Value.ref b :: rest).map fun v => v.category).sum ≤ 20) (hk : kd σ b = some 1 ∨ kd σ b = some 2) (hcl : Cond.classLink yo.cls index "WordBench$Code" ∈ lw_all)
    (hR : 7 < R.frames ∧ 10260 ≤ R.locals) (hf : cells + 3 ≤ R.cells ∧ slots + 1010 ≤ R.slots) (hdg : decode cc pc = .ok (.checkcast index, 3))
    (kk : ∀ H1 : Heap, HH G (σ.1 + 3, σ.2) H1 → va_S (AG G) H0 H1 locs → W p l e R s m args below meth c H1 locs (cells + 3) (slots + 1010) Q (F0 m hpc ls [.ref (σ.1 + 2)])) : W p l e R s m args below meth c H locs cells slots Q (F0 m pc ls (.ref b :: rest)) := by
  rcases hk with hk | hk
  · obtain ⟨k, f, he⟩ := kd_1 hk
    exact x_castF (C := "[J") (nm := "WordBench$Code") htl X hT hd hls hK hHs hH hS hrest (rc_1 hK hH he) (by simp) hcl hR hf hdg kk
  · obtain ⟨k, f, he⟩ := kd_2 hk
    exact x_castF (C := "[B") (nm := "WordBench$Code") htl X hT hd hls hK hHs hH hS hrest (rc_2 hK hH he) (by simp) hcl hR hf hdg kk
theorem nc_arr : ∀ C ∈ ["WordBench$List", "WordBench$Line", "WordBench$Own", "WordBench$Ring"], Cond.not (.castable C "[B") ∈ flatC (Jvm.Cond.and given_1 narrow_1) ∧ Cond.not (.castable C "[J") ∈ flatC (Jvm.Cond.and given_1 narrow_1) := by decide +kernel
theorem x_instB {v : Option Nat} {r : Int32} (X : Cx p s m args meth c cc rto nL yo) (hK : KK G s) (hH : HH G σ H) (h : iA 2 σ v = some r) (hcl : Cond.classLink yo.cls index "[B" ∈ lw_all) (hdg : decode cc pc = .ok (.instanceof index, 3)) (kk : W p l e R s m args below meth c H locs cells slots Q (F0 m (pc + 3) ls (.int r :: rest))) : W p l e R s m args below meth c H locs cells slots Q (F0 m pc ls (va_rf v :: rest)) := by
  obtain ⟨hx, hb, -, -, hown, hts, -, -⟩ := id X
  cases v with
  | none => cases h; exact lv_instN hx hb hdg kk
  | some b =>
    unfold iA at h
    dsimp only at h
    split at h
    · rename_i k hk
      cases h
      have hk3 : k = 0 ∨ k = 1 ∨ k = 2 := by
        unfold kd at hk
        split at hk
        · split at hk <;> simp_all
        · simp_all
        · simp_all
        · cases hk
      rcases hk3 with rfl | rfl | rfl
      · obtain ⟨ci, fs, he, hci⟩ := kd_0 hk
        obtain ⟨C, hC, hr⟩ := rc_0 hK hH he hci
        exact va_instNo hx hb hown (hts _ hcl) (hK.2.2.2.2.2.1 _ _ (nc_arr C hC).1) hr hdg kk
      · obtain ⟨k, f, he⟩ := kd_1 hk
        exact va_instNo hx hb hown (hts _ hcl) (hK.2.2.2.2.2.1 "[J" "[B" (by decide +kernel)) (rc_1 hK hH he) hdg kk
      · obtain ⟨k, f, he⟩ := kd_2 hk
        exact x_instS X (rc_2 hK hH he) hcl hdg kk
    · cases h
theorem x_instJ {v : Option Nat} {r : Int32} (X : Cx p s m args meth c cc rto nL yo) (hK : KK G s) (hH : HH G σ H) (h : iA 1 σ v = some r) (hcl : Cond.classLink yo.cls index "[J" ∈ lw_all) (hdg : decode cc pc = .ok (.instanceof index, 3)) (kk : W p l e R s m args below meth c H locs cells slots Q (F0 m (pc + 3) ls (.int r :: rest))) : W p l e R s m args below meth c H locs cells slots Q (F0 m pc ls (va_rf v :: rest)) := by
  obtain ⟨hx, hb, -, -, hown, hts, -, -⟩ := id X
  cases v with
  | none => cases h; exact lv_instN hx hb hdg kk
  | some b =>
    unfold iA at h
    dsimp only at h
    split at h
    · rename_i k hk
      cases h
      have hk3 : k = 0 ∨ k = 1 ∨ k = 2 := by
        unfold kd at hk
        split at hk
        · split at hk <;> simp_all
        · simp_all
        · simp_all
        · cases hk
      rcases hk3 with rfl | rfl | rfl
      · obtain ⟨ci, fs, he, hci⟩ := kd_0 hk
        obtain ⟨C, hC, hr⟩ := rc_0 hK hH he hci
        exact va_instNo hx hb hown (hts _ hcl) (hK.2.2.2.2.2.1 _ _ (nc_arr C hC).2) hr hdg kk
      · obtain ⟨k, f, he⟩ := kd_1 hk
        exact x_instS X (rc_1 hK hH he) hcl hdg kk
      · obtain ⟨k, f, he⟩ := kd_2 hk
        exact va_instNo hx hb hown (hts _ hcl) (hK.2.2.2.2.2.1 "[B" "[J" (by decide +kernel)) (rc_2 hK hH he) hdg kk
    · cases h
theorem h_aB {r : Int32} (X : Cx p s m args meth c cc rto nL yo) (hK : KK G s) (hH : HH G σ H) (h : aB σ b i = some r) (hdg : decode cc pc = .ok (.baload, 1)) (kk : W p l e R s m args below meth c H locs cells slots Q (F0 m (pc + 1) ls (.int r :: rest))) : W p l e R s m args below meth c H locs cells slots Q (F0 m pc ls (.int i :: .ref b :: rest)) := by
  unfold aB at h
  split at h
  · rename_i n f he
    exact hh_bald X.1 X.2.1 hK hH he h hdg kk
  · cases h
/-- a call through nothing -/
theorem x_virtN {x : MethodName} {As : List Value} {k : Nat} (htl : ∀ e, l.admits e → e.platform.stackTraces = false) (X : Cx p s m args meth c cc rto nL yo) (hT : Xt c hh) (hd : Hd yo.cls "java/lang/NullPointerException" pc hpc hh) (hls : ls.size = nL) (hK : KK G s) (hHs : HH G σs s.heap) (hH : HH G σ H) (hS : va_S (AG G) H0 H locs) (hrest : (rest.map fun v => v.category).sum ≤ 20)
    (hdc : va_Decl s x) (hsame : Cond.sameMethod x.cls x.cls x.name x.desc ∈ lw_all) (q1 : Cond.methodLink yo.cls index x ∈ lw_all) (hx : x.cls ≠ "java/lang/invoke/MethodHandle" ∧ x.cls ≠ "java/lang/invoke/VarHandle") (hn : (parseMethodDescriptor x.desc).map (fun d => d.parameters.length) = some k) (hAs : As.length = k) (hst : st = As.reverse ++ .null :: rest)
    (hR : 7 < R.frames ∧ 10260 ≤ R.locals) (hf : cells + 1 ≤ R.cells ∧ slots + 8 ≤ R.slots) (hdg : decode cc pc = .ok (.invokevirtual index, 3))
    (kk : ∀ H1 : Heap, HH G (σ.1 + 1, σ.2) H1 → va_S (AG G) H0 H1 locs → W p l e R s m args below meth c H1 locs (cells + 1) (slots + 8) Q (F0 m hpc ls [.ref σ.1])) : W p l e R s m args below meth c H locs cells slots Q (F0 m pc ls st) := by
  refine x_npe htl X hT hd hls hK hHs hH hS hR hf ?_ (fun H1 a1 a2 _ => kk H1 a1 a2)
  intro T hTh XS
  obtain ⟨r0, r, h1, h2, h3, h4⟩ := hdc
  obtain ⟨cn, ck, r1, g1, g2, g3, g4, g5⟩ := Cond.sameMethod_found (X.2.2.2.2.2.1 _ hsame)
  cases h1.symm.trans g5
  have e1 : r0.cls = cn := Option.some.inj ((findClass_of_methodNamed h1).symm.trans g1)
  obtain ⟨vm', X', st'⟩ := XS.invokevirtualNull X.1 X.2.2.2.2.1 (X.2.2.2.2.2.1 _ q1) h1 h2 h3 (kr := ck) (by rw [e1]; exact g2) g3 hx (g := F0 m pc ls st) rfl (argsL := As) (rest := rest) (hAs.trans (plen hn _ h4)) hst (by rw [X.2.1]; exact hdg)
  exact ⟨vm', rest, X', hrest, st'⟩
end XT7b
