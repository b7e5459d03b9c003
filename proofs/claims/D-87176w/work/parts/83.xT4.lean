/-! ===== T4: the instructions that throw ===== -/
set_option maxRecDepth 100000
theorem fc_all {vm : Vm} {name : String} {c : ClassId} (h : vm.findClass name = some c) : ∃ k, vm.classes[c]? = some k ∧ k.name = name ∧ k.hidden = none ∧ k.loader = none := by
  obtain ⟨hlt, hp, _⟩ := Array.findIdx?_eq_some_iff_getElem.mp h
  refine ⟨vm.classes[c], by simp [hlt], ?_⟩
  simp only [Bool.and_eq_true, beq_iff_eq, Option.isNone_iff_eq_none] at hp
  exact ⟨hp.1.1.1, hp.1.1.2, hp.2⟩
theorem home_of {s : State} {vm : Vm} {k : Class} {a : String} (hm : modulesRight_1 s = true) (hv : vm.modules = s.vm.modules) (h1 : k.name = a) (h3 : k.loader = none) (hp : castPackages_1.contains (packageOf a) = true) :
    vm.home k = "module java.base of loader 'bootstrap'" ∨ vm.home k = "unnamed module of loader 'bootstrap'" := by
  unfold Vm.home
  have hl : vm.loaderName k.loader = "'bootstrap'" := by rw [h3]; rfl
  rw [hl]
  cases hq : vm.moduleOf k with
  | none => exact Or.inr rfl
  | some mo =>
    refine Or.inl ?_
    have : mo.name = "java.base" := by
      unfold Vm.moduleOf at hq
      split at hq
      · have := List.find?_some hq
        simpa using this
      · have h4 := List.find?_some hq
        have h5 := List.mem_of_find?_eq_some hq
        simp only [Bool.and_eq_true, beq_iff_eq] at h4
        unfold modulesRight_1 at hm
        rw [← hv] at hm
        have h6 := List.all_eq_true.mp hm mo h5
        rw [h4.1, h3] at h6
        simp only [Option.isSome_none, Bool.false_or, Bool.or_eq_true, beq_iff_eq] at h6
        rcases h6 with h6 | h6
        · exact h6
        · exfalso
          have h7 : (castPackages_1.any fun p => mo.packages.contains p) = true := List.any_eq_true.mpr ⟨packageOf a, by simpa using hp, by rw [← h1]; exact h4.2⟩
          rw [h7] at h6
          cases h6
    show ("module " ++ mo.name) ++ " of loader " ++ "'bootstrap'" = _
    rw [this]
    decide
def ccT1 (a b h : String) : String := "class " ++ a ++ " cannot be cast to class " ++ b ++ " (" ++ (a ++ " and " ++ b ++ " are in " ++ h) ++ ")"
def ccT2 (a b h k : String) : String := "class " ++ a ++ " cannot be cast to class " ++ b ++ " (" ++ (a ++ " is in " ++ h ++ "; " ++ b ++ " is in " ++ k) ++ ")"
/-- the message when a cast fails -/
theorem cc_text {s : State} {vm : Vm} {ka kb : Class} {a b : String} {B : Nat} (hm : modulesRight_1 s = true) (hv : vm.modules = s.vm.modules) (ha : ka.name = a ∧ ka.hidden = none ∧ ka.loader = none) (hb : kb.name = b ∧ kb.hidden = none ∧ kb.loader = none) (pa : castPackages_1.contains (packageOf a) = true) (pb : castPackages_1.contains (packageOf b) = true)
    (hT : ∀ h1 ∈ ["module java.base of loader 'bootstrap'", "unnamed module of loader 'bootstrap'"], ∀ h2 ∈ ["module java.base of loader 'bootstrap'", "unnamed module of loader 'bootstrap'"], Tx (ccT1 (dotted a) (dotted b) h1) B ∧ Tx (ccT2 (dotted a) (dotted b) h1 h2) B) : Tx (checkcast.message vm ka kb) B := by
  have e1 : ka.shown = dotted a := by unfold Class.shown; rw [ha.2.1, ha.1]
  have e2 : kb.shown = dotted b := by unfold Class.shown; rw [hb.2.1, hb.1]
  have m1 : vm.home ka ∈ ["module java.base of loader 'bootstrap'", "unnamed module of loader 'bootstrap'"] := by
    rcases home_of hm hv ha.1 ha.2.2 pa with h | h <;> rw [h] <;> simp
  have m2 : vm.home kb ∈ ["module java.base of loader 'bootstrap'", "unnamed module of loader 'bootstrap'"] := by
    rcases home_of hm hv hb.1 hb.2.2 pb with h | h <;> rw [h] <;> simp
  have h := hT _ m1 _ m2
  unfold checkcast.message Vm.homes
  rw [e1, e2]
  split
  · exact h.1
  · exact h.2
section XT4
variable {p : Program} {l : Launch} {e : Env} {R : Room} {s : State} {m : MethodId} {args : Array Value} {below : List Frame} {meth : Method} {c : Code} {H : Heap} {locs : List Loc} {cells slots : Nat} {Q : State → Prop}
variable {cc : ByteArray} {pc hpc : Nat} {ls : Array Slot} {st st' rest : List Value} {H0 : Heap} {G : GG} {σ σs : SG} {yo : MethodName} {nL : Nat} {rto : Option FieldType} {hh : List (Nat × Nat × Nat × Nat)} {n i : Int32} {atype : ArrayType} {b index : Nat}
/-- newarray of a negative size -/
theorem x_newNeg (htl : ∀ e, l.admits e → e.platform.stackTraces = false) (X : Cx p s m args meth c cc rto nL yo) (hT : Xt c hh) (hd : Hd yo.cls "java/lang/NegativeArraySizeException" pc hpc hh) (hls : ls.size = nL) (hK : KK G s) (hHs : HH G σs s.heap) (hH : HH G σ H) (hS : va_S (AG G) H0 H locs) (hn : n < 0) (hrest : (rest.map fun v => v.category).sum ≤ 20)
    (hR : 7 < R.frames ∧ 10260 ≤ R.locals) (hf : cells + 3 ≤ R.cells ∧ slots + 54 ≤ R.slots) (hdg : decode cc pc = .ok (.newarray atype, 2))
    (kk : ∀ H1 : Heap, HH G (σ.1 + 3, σ.2) H1 → va_S (AG G) H0 H1 locs → W p l e R s m args below meth c H1 locs (cells + 3) (slots + 54) Q (F0 m hpc ls [.ref (σ.1 + 2)])) : W p l e R s m args below meth c H locs cells slots Q (F0 m pc ls (.int n :: rest)) := by
  refine x_msg (B := 44) (names := ["java/lang/RuntimeException", "java/lang/Exception"]) htl X hT hd hls hK hH hS (by decide +kernel) (by decide +kernel) (by decide) (by decide) (xa_nas hK hHs X.2.2.2.2.2.1) (by decide) (by decide) hR hf ?_ (fun H1 a1 a2 _ => kk H1 a1 a2)
  intro T hTh XS
  refine ⟨T.vm, _, rest, by rw [State.setVm_self]; exact XS, ⟨negative_text_modelled hn, negative_text_bytes n⟩, hrest, ?_⟩
  rw [State.setVm_self]
  exact XS.newarrayNegative X.1 (g := F0 m pc ls (.int n :: rest)) rfl hn rfl (by rw [X.2.1]; exact hdg)
/-- a cast that fails -/
theorem x_castNo {C nm : String} {B : Nat} (htl : ∀ e, l.admits e → e.platform.stackTraces = false) (X : Cx p s m args meth c cc rto nL yo) (hT : Xt c hh) (hd : Hd yo.cls "java/lang/ClassCastException" pc hpc hh) (hls : ls.size = nL) (hK : KK G s) (hHs : HH G σs s.heap) (hH : HH G σ H) (hS : va_S (AG G) H0 H locs) (hrest : ((Value.ref b :: rest).map fun v => v.category).sum ≤ 20)
    (hr : ∃ cell : Cell, H[b]? = some cell ∧ cell.vm.isStatics = false ∧ s.vm.findClass C = some cell.cls) (hno : Cond.not (.castable C nm) ∈ flatC (Jvm.Cond.and given_1 narrow_1)) (hcl : Cond.classLink yo.cls index nm ∈ lw_all)
    (pa : castPackages_1.contains (packageOf C) = true) (pb : castPackages_1.contains (packageOf nm) = true) (hB : B ≤ 100000)
    (hTx : ∀ h1 ∈ ["module java.base of loader 'bootstrap'", "unnamed module of loader 'bootstrap'"], ∀ h2 ∈ ["module java.base of loader 'bootstrap'", "unnamed module of loader 'bootstrap'"], Tx (ccT1 (dotted C) (dotted nm) h1) B ∧ Tx (ccT2 (dotted C) (dotted nm) h1 h2) B)
    (hR : 7 < R.frames ∧ 10260 ≤ R.locals) (hf : cells + 3 ≤ R.cells ∧ slots + (B + 10) ≤ R.slots) (hdg : decode cc pc = .ok (.checkcast index, 3))
    (kk : ∀ H1 : Heap, HH G (σ.1 + 3, σ.2) H1 → va_S (AG G) H0 H1 locs → W p l e R s m args below meth c H1 locs (cells + 3) (slots + (B + 10)) Q (F0 m hpc ls [.ref (σ.1 + 2)])) : W p l e R s m args below meth c H locs cells slots Q (F0 m pc ls (.ref b :: rest)) := by
  refine x_msg (B := B) (names := ["java/lang/RuntimeException", "java/lang/Exception"]) htl X hT hd hls hK hH hS (by decide +kernel) (by decide +kernel) (by decide) (by decide) (xa_cce hK hHs X.2.2.2.2.2.1) hB (by decide) hR hf ?_ (fun H1 a1 a2 _ => kk H1 a1 a2)
  intro T hTh XS
  obtain ⟨hx, hb, -, -, hown, hts, -, -⟩ := X
  obtain ⟨cell, r1, r2, r3⟩ := hr
  obtain ⟨c0, t0, f1, f2, f3⟩ := hK.2.2.2.2.2.1 _ _ hno
  cases r3.symm.trans f1
  have hpl : e.platform.magicAccessors = ({} : Platform).magicAccessors := by rw [XS.admits.platform]
  obtain ⟨c', hc', hcl1⟩ := Cond.classLink_spec hown (hts _ hcl) e.platform hpl
  cases f2.symm.trans hc'
  obtain ⟨dk, _, _, kt, hd', _, _, _, _, hkt, _, hopen⟩ := hcl1.here
  have hcl₀ := XS.warmed.classLinks hcl1
  have hW' : s.WarmedH (T.vm.noted m.cls index (.cls t0)) := XS.warmed.noted hd' hopen (State.rightAt_cls hcl1)
  have al := hW'.alike
  obtain ⟨ks, hks, k1, k2, k3⟩ := fc_all (vm := T.vm.noted m.cls index (.cls t0)) (name := C) (c := cell.cls) (by rw [al.findClass]; exact r3)
  obtain ⟨kt', hkt', k4, k5, k6⟩ := fc_all (vm := T.vm.noted m.cls index (.cls t0)) (name := nm) (c := t0) (by rw [al.findClass]; exact f2)
  refine ⟨_, checkcast.message (T.vm.noted m.cls index (.cls t0)) ks kt', .ref b :: rest, XS.noted hW', cc_text (s := s) hK.2.2.2.2.2.2.2.2.2.2.2.2 (by rw [al.1]) ⟨k1, k2, k3⟩ ⟨k4, k5, k6⟩ pa pb hTx, hrest, fun target hrest => ?_⟩
  jvm_step XS.here [hx, show decode c.code (F0 m pc ls (.ref b :: rest)).pc = .ok (.checkcast index, 3) from by rw [hb]; exact hdg, checkcast.wp_cold (e := e) (s := T) (f := F0 m pc ls (.ref b :: rest)) XS.here.top rfl (resolveClass_links e.toSetting hcl₀) hcl₀.ready,
    checkcast.wp_ready (e := e) (s := T.setVm (T.vm.noted m.cls index (.cls t0))) (f := F0 m pc ls (.ref b :: rest)) XS.here.top hcl₀.ready rfl]
  refine ⟨cell, by rw [hTh]; exact r1, VmData.noStatics_of r2, ks, hks, kt', hkt', ?_⟩
  rw [if_neg (by rw [al.assignable, f3]; decide)]
  exact hrest
/-- a load of longs out of nothing -/
theorem x_laldN (htl : ∀ e, l.admits e → e.platform.stackTraces = false) (X : Cx p s m args meth c cc rto nL yo) (hT : Xt c hh) (hd : Hd yo.cls "java/lang/NullPointerException" pc hpc hh) (hls : ls.size = nL) (hK : KK G s) (hHs : HH G σs s.heap) (hH : HH G σ H) (hS : va_S (AG G) H0 H locs) (hrest : (rest.map fun v => v.category).sum ≤ 20)
    (hR : 7 < R.frames ∧ 10260 ≤ R.locals) (hf : cells + 1 ≤ R.cells ∧ slots + 8 ≤ R.slots) (hdg : decode cc pc = .ok (.laload, 1))
    (kk : ∀ H1 : Heap, HH G (σ.1 + 1, σ.2) H1 → va_S (AG G) H0 H1 locs → W p l e R s m args below meth c H1 locs (cells + 1) (slots + 8) Q (F0 m hpc ls [.ref σ.1])) : W p l e R s m args below meth c H locs cells slots Q (F0 m pc ls (.int i :: .null :: rest)) := by
  refine x_npe htl X hT hd hls hK hHs hH hS hR hf ?_ (fun H1 a1 a2 _ => kk H1 a1 a2)
  intro T hTh XS
  refine ⟨T.vm, rest, by rw [State.setVm_self]; exact XS, hrest, ?_⟩
  rw [State.setVm_self]
  exact XS.laloadNull X.1 (g := F0 m pc ls (.int i :: .null :: rest)) rfl rfl (by rw [X.2.1]; exact hdg)
/-- nothing is thrown -/
theorem x_athrowN (htl : ∀ e, l.admits e → e.platform.stackTraces = false) (X : Cx p s m args meth c cc rto nL yo) (hT : Xt c hh) (hd : Hd yo.cls "java/lang/NullPointerException" pc hpc hh) (hls : ls.size = nL) (hK : KK G s) (hHs : HH G σs s.heap) (hH : HH G σ H) (hS : va_S (AG G) H0 H locs) (hrest : (rest.map fun v => v.category).sum ≤ 20)
    (hR : 7 < R.frames ∧ 10260 ≤ R.locals) (hf : cells + 1 ≤ R.cells ∧ slots + 8 ≤ R.slots) (hdg : decode cc pc = .ok (.athrow, 1))
    (kk : ∀ H1 : Heap, HH G (σ.1 + 1, σ.2) H1 → va_S (AG G) H0 H1 locs → W p l e R s m args below meth c H1 locs (cells + 1) (slots + 8) Q (F0 m hpc ls [.ref σ.1])) : W p l e R s m args below meth c H locs cells slots Q (F0 m pc ls (.null :: rest)) := by
  refine x_npe htl X hT hd hls hK hHs hH hS hR hf ?_ (fun H1 a1 a2 _ => kk H1 a1 a2)
  intro T hTh XS
  refine ⟨T.vm, rest, by rw [State.setVm_self]; exact XS, hrest, ?_⟩
  rw [State.setVm_self]
  exact XS.athrowNull X.1 (g := F0 m pc ls (.null :: rest)) rfl rfl (by rw [X.2.1]; exact hdg)
/-- a load beyond the array -/
theorem x_laldO {f : Nat → Int64} {k : Nat} (htl : ∀ e, l.admits e → e.platform.stackTraces = false) (X : Cx p s m args meth c cc rto nL yo) (hT : Xt c hh) (hd : Hd yo.cls "java/lang/ArrayIndexOutOfBoundsException" pc hpc hh) (hls : ls.size = nL) (hK : KK G s) (hHs : HH G σs s.heap) (hH : HH G σ H) (hS : va_S (AG G) H0 H locs) (hrest : (rest.map fun v => v.category).sum ≤ 20)
    (he : σ.2 b = some (.inl (1, k, .inr (.inl f)))) (hk : k < 2 ^ 31) (ho : i < 0 ∨ k ≤ i.toNatClampNeg)
    (hR : 7 < R.frames ∧ 10260 ≤ R.locals) (hf : cells + 3 ≤ R.cells ∧ slots + 222 ≤ R.slots) (hdg : decode cc pc = .ok (.laload, 1))
    (kk : ∀ H1 : Heap, HH G (σ.1 + 3, σ.2) H1 → va_S (AG G) H0 H1 locs → W p l e R s m args below meth c H1 locs (cells + 3) (slots + 222) Q (F0 m hpc ls [.ref (σ.1 + 2)])) : W p l e R s m args below meth c H locs cells slots Q (F0 m pc ls (.int i :: .ref b :: rest)) := by
  have h1 := (hH.2 b _ he).1
  have hsz : (arrV (G.2.2.1 1) k (fun j => Value.long (f j))).slots.size = k := arrV_size _ _ _
  refine x_msg (B := 212) (names := ["java/lang/IndexOutOfBoundsException", "java/lang/RuntimeException", "java/lang/Exception"]) htl X hT hd hls hK hH hS (by decide +kernel) (by decide +kernel) (by decide) (by decide) (xa_aio hK hHs X.2.2.2.2.2.1) (by decide) (by decide) hR hf ?_ (fun H1 a1 a2 _ => kk H1 a1 a2)
  intro T hTh XS
  refine ⟨T.vm, _, rest, by rw [State.setVm_self]; exact XS, ⟨index_text_modelled i k, index_text_bytes i hk⟩, hrest, ?_⟩
  rw [State.setVm_self]
  have := XS.laloadOut (cell := arrV (G.2.2.1 1) k (fun j => Value.long (f j))) X.1 (by rw [hTh]; exact h1) ((hK.1.2 1 _ rfl).1 k (fun j => .long (f j))) (j := i) (by rw [hsz]; exact ho) (g := F0 m pc ls (.int i :: .ref b :: rest)) rfl rfl (by rw [X.2.1]; exact hdg)
  rw [hsz] at this
  exact this
theorem x_baldO {f : Nat → Int32} {k : Nat} (htl : ∀ e, l.admits e → e.platform.stackTraces = false) (X : Cx p s m args meth c cc rto nL yo) (hT : Xt c hh) (hd : Hd yo.cls "java/lang/ArrayIndexOutOfBoundsException" pc hpc hh) (hls : ls.size = nL) (hK : KK G s) (hHs : HH G σs s.heap) (hH : HH G σ H) (hS : va_S (AG G) H0 H locs) (hrest : (rest.map fun v => v.category).sum ≤ 20)
    (he : σ.2 b = some (.inl (2, k, .inl f))) (hk : k < 2 ^ 31) (ho : i < 0 ∨ k ≤ i.toNatClampNeg)
    (hR : 7 < R.frames ∧ 10260 ≤ R.locals) (hf : cells + 3 ≤ R.cells ∧ slots + 222 ≤ R.slots) (hdg : decode cc pc = .ok (.baload, 1))
    (kk : ∀ H1 : Heap, HH G (σ.1 + 3, σ.2) H1 → va_S (AG G) H0 H1 locs → W p l e R s m args below meth c H1 locs (cells + 3) (slots + 222) Q (F0 m hpc ls [.ref (σ.1 + 2)])) : W p l e R s m args below meth c H locs cells slots Q (F0 m pc ls (.int i :: .ref b :: rest)) := by
  have h1 := (hH.2 b _ he).1
  have hsz : (arrV (G.2.2.1 2) k (fun j => Value.int (f j))).slots.size = k := arrV_size _ _ _
  refine x_msg (B := 212) (names := ["java/lang/IndexOutOfBoundsException", "java/lang/RuntimeException", "java/lang/Exception"]) htl X hT hd hls hK hH hS (by decide +kernel) (by decide +kernel) (by decide) (by decide) (xa_aio hK hHs X.2.2.2.2.2.1) (by decide) (by decide) hR hf ?_ (fun H1 a1 a2 _ => kk H1 a1 a2)
  intro T hTh XS
  refine ⟨T.vm, _, rest, by rw [State.setVm_self]; exact XS, ⟨index_text_modelled i k, index_text_bytes i hk⟩, hrest, ?_⟩
  rw [State.setVm_self]
  have := XS.baloadOut (cell := arrV (G.2.2.1 2) k (fun j => Value.int (f j))) X.1 (by rw [hTh]; exact h1) ((hK.1.2 2 _ rfl).1 k (fun j => .int (f j))) (j := i) (by rw [hsz]; exact ho) (g := F0 m pc ls (.int i :: .ref b :: rest)) rfl rfl (by rw [X.2.1]; exact hdg)
  rw [hsz] at this
  exact this
end XT4
