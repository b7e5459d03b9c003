/-! ===== T8: Tossed: its constructor, failure ===== -/
set_option maxRecDepth 100000
section SUP
variable {p : Program} {l : Launch} {e : Env} {R : Room} {s : State} {m₀ : MethodId} {args : Array Value} {below : List Frame} {meth : Method} {c : Code} {W : State} {locs : List Loc} {cells slots : Nat} {G : GG} {σ : SG}
set_option maxHeartbeats 1000000 in
/-- super() of Tossed -/
theorem t_sup (X : Stand p l e R s m₀ args below meth c W locs cells slots) (hexec : p.tables.exec = Jvm.exec) (htr : e.platform.stackTraces = false) (hK : KK G s) (hHs : HH G σ s.heap) (hts : ∀ w ∈ lw_all, w.before args s = true)
    (hown : s.vm.findClass "WordBench$Tossed" = some m₀.cls) (hlocs : ∀ x ∈ locs, ∀ (cf : ClassId) (kf : Class) (fi : Nat) (f : Field) (aS : Nat), s.fieldFound? Bundle.tN "UNASSIGNED_STACK" Bundle.steD = some (cf, kf, fi, f) → kf.statics = some aS → x.base ≠ aS)
    {a : Addr} {cX : ClassId} {kX : Class} (hfoundX : s.vm.findClass "WordBench$Tossed" = some cX) (hkX : s.vm.classes[cX]? = some kX) (hcell : W.heap[a]? = some (freshCell cX kX)) (hna : ∀ (cf : ClassId) (kf : Class) (fi : Nat) (f : Field) (aS : Nat), s.fieldFound? Bundle.tN "UNASSIGNED_STACK" Bundle.steD = some (cf, kf, fi, f) → kf.statics = some aS → a ≠ aS)
    {g : JFrame} (hg : g.method = m₀) (hsize : g.locals.size = c.maxLocals) {rest : List Value} (hstack : g.stack = .ref a :: rest)
    (hd6 : decode c.code g.pc = .ok (.invokespecial 1, 3)) (hRframes : 4 < R.frames) (hRlocals : 2 * g.monitorRoom + (rest.map fun v => v.category).sum + 80 ≤ R.locals) :
    ∃ (U : State) (L : List Loc), Stand p l e R s m₀ args below meth c U (locs ++ L) cells slots ∧ (∀ q ∈ L, q.base = a) ∧ U.heap.size = W.heap.size ∧ (∀ q : Nat, q ≠ a → U.heap[q]? = W.heap[q]?) ∧ (∃ ce : Cell, U.heap[a]? = some ce ∧ ce.cls = cX ∧ ce.vm = .none ∧ ce.slots.size = 7) ∧
      ∀ tg, Steps p.tables e below (U.setTop { g with pc := g.pc + 3, stack := rest }) tg → Steps p.tables e below (W.setTop g) tg := by
  have howns : e.platform.frameOwnsMonitors = true := by rw [X.admits.platform]
  have hfin : e.platform.finalization = false := by rw [X.admits.platform]
  have hpl : e.platform.magicAccessors = ({} : Platform).magicAccessors := by rw [X.admits.platform]
  have a' := xa_to hK hHs hts
  obtain ⟨T, Z, L, LZ, Y⟩ := ThrowableC.of_atoms (args := args) howns hfin hpl (xa_thr hK hHs hts)
  obtain ⟨P1, Ps, hlen, L1, hL, hP1m, hlink1, hlink⟩ := Bundle.chain0 (args := args) hpl Y.init0 ["java/lang/Exception"] "java/lang/RuntimeException" (by decide +kernel) (by decide +kernel) (xa_re hK hHs hts)
  obtain ⟨c1, kX', hc1, hk, hord, -, -, hn6⟩ := Cond.instantiable_spec (a' (.instantiable "WordBench$Tossed" 7) (by simp))
  cases Option.some.inj (hc1.symm.trans hfoundX)
  cases Option.some.inj (hkX.symm.trans hk)
  have hsel0 : selectMethod e.platform s.vm cX T.fill0 = .method T.fill0 := by
    obtain ⟨c2, r2, m2, q1, q2, q3, q4, -⟩ := Cond.selects_spec (a' (.selects "WordBench$Tossed" Bundle.tFill0 Bundle.tFill0) (by simp))
    cases Option.some.inj (q1.symm.trans hfoundX)
    cases Option.some.inj (q2.symm.trans (State.methodFound?_of_named Y.fill0 (by decide)))
    cases Option.some.inj (q3.symm.trans Y.fill0)
    rw [Launch.admits_selectMethod X.admits]; exact q4
  have hselF : selectMethod e.platform s.vm cX T.fill = .method T.fill := by
    obtain ⟨c2, r2, m2, q1, q2, q3, q4, -⟩ := Cond.selects_spec (a' (.selects "WordBench$Tossed" Bundle.tFill Bundle.tFill) (by simp))
    cases Option.some.inj (q1.symm.trans hfoundX)
    cases Option.some.inj (q2.symm.trans (State.methodFound?_of_named Y.fill (by decide)))
    cases Option.some.inj (q3.symm.trans Y.fill)
    rw [Launch.admits_selectMethod X.admits]; exact q4
  obtain ⟨cellS0, hcS0, hiss⟩ := Y.statics
  obtain ⟨u0, hu0⟩ := Cond.staticRefV Y.unassigned L.unassignedStatic L.statics hcS0 hiss (a' (.isRef (.static Bundle.tN "UNASSIGNED_STACK" Bundle.steD)) (by simp))
  obtain ⟨sen, hsen⟩ := Cond.staticRefV Y.sentinel L.sentinelStatic L.statics hcS0 hiss (a' (.isRef (.static Bundle.tN "SUPPRESSED_SENTINEL" Bundle.listD)) (by simp))
  obtain ⟨ci198, i198, fB, hk198, hg198, ha198, hsB, -, hnB, htB, hffB⟩ := Cond.ownField (t := .object "java/lang/Object") Y.found L.cls (by decide +kernel) (a' (.fieldLink Bundle.tN 198 Bundle.tN "backtrace" "Ljava/lang/Object;") (by simp)) (a' (.lays Bundle.tN Bundle.tN "backtrace" "Ljava/lang/Object;") (by simp)) e.platform hpl
  obtain ⟨cellS, hcS', heS, -, hkeep⟩ := X.same.2.2.2.2.2 T.aS cellS0 hcS0
  have hcellS : W.heap[T.aS]? = some cellS := hcS'
  have hout' : ∀ i, (⟨T.aS, i⟩ : Loc) ∉ locs := fun i hmem => hlocs _ hmem _ _ _ _ _ Y.unassigned L.statics rfl
  have hknownS : cellS.vm ≠ .unknown := by
    rw [heS]; intro hu
    rw [show cellS0.vm = .unknown from hu] at hiss
    cases hiss
  have hneS : T.aS ≠ a := fun q => hna _ _ _ _ _ Y.unassigned L.statics q.symm
  obtain ⟨iM, hffM⟩ := Y.msg
  obtain ⟨tyC, dC, hdC, hdnC⟩ := Cond.laysAt hfoundX hk Y.cause (a' (.lays "WordBench$Tossed" Bundle.tN "cause" "Ljava/lang/Throwable;") (by simp))
  obtain ⟨tyS, dS, hdS, hdnS⟩ := Cond.laysAt hfoundX hk Y.stack (a' (.lays "WordBench$Tossed" Bundle.tN "stackTrace" Bundle.steD) (by simp))
  obtain ⟨tyP, dP, hdP, hdnP⟩ := Cond.laysAt hfoundX hk Y.supp (a' (.lays "WordBench$Tossed" Bundle.tN "suppressedExceptions" Bundle.listD) (by simp))
  obtain ⟨tyB, dB, hdB, hdnB⟩ := Cond.laysAt hfoundX hk hffB (a' (.lays "WordBench$Tossed" Bundle.tN "backtrace" "Ljava/lang/Object;") (by simp))
  have bC := Cond.laysApart hdB hdC hdnB hdnC (by rw [hnB, Y.causeName]; decide)
  have bS := Cond.laysApart hdB hdS hdnB hdnS (by rw [hnB, Y.stackName]; decide)
  have bP := Cond.laysApart hdB hdP hdnB hdnP (by rw [hnB, Y.suppName]; decide)
  have hskip : SkipFacts T e.platform s (fun u => u) u0 ((preparedCellV T.toThrowableT (freshCell cX kX) a u0 sen).withEntry W.cur) :=
    ⟨{ ci198 := ci198, i198 := i198, fBack := fB }, ⟨hk198, hg198, ha198, hsB⟩, by
      have := fresh_default (c := cX) tyB
      rw [htB] at this
      simpa [preparedCellV, Cell.setSlot, Cell.withEntry, Array.getElem?_setIfInBounds, bC, bS, bP, bC.symm, bS.symm, bP.symm, defaultValue] using this, fun _ _ => rfl⟩
  have he0 : (Cond.instanceMethod (Bundle.init0 "java/lang/RuntimeException")).before args s = true := xa_re hK hHs hts _ (by simp [Bundle.chain0Atoms, Bundle.passAtoms])
  have he1 : (Cond.code (Bundle.init0 "java/lang/RuntimeException") Bundle.five 1 none).before args s = true := xa_re hK hHs hts _ (by simp [Bundle.chain0Atoms, Bundle.passAtoms])
  obtain ⟨tm, methC, cdC, kC, vm₁, hnC, -, -, -, -, -, -, -, hW₁, st1⟩ := Steps.initCold (tb := p.tables) (e := e) (below := below) (s := s) (U := W) X.here hexec X.warmed hpl hown (t := Bundle.init0 "java/lang/RuntimeException") rfl rfl (by decide)
    (a' (.methodLink "WordBench$Tossed" 1 (Bundle.init0 "java/lang/RuntimeException")) (by simp)) he0 (bytes := Bundle.five) (maxL := 1) he1 (f := g) hg (a := a) (rest := rest) hstack hd6
  cases Option.some.inj (hnC.symm.trans hP1m)
  have X₁ := X.noted hW₁
  have hlen' : Ps.length = 1 := hlen
  obtain ⟨vm₂, X₂, st2⟩ := X₁.ctorPlainOffV hexec (g := { g with stack := rest }) hg hsize T L Z LZ (P1 :: Ps)
    (fun P hP => by rcases List.mem_cons.mp hP with rfl | hP; exact L1; exact hL P hP) ⟨hlink1, hlink⟩ (u0 := u0) (sen := sen) (self := a) (cell := freshCell cX kX) (cellS := cellS)
    hcell (fun _ => by simp) (by simp) rfl rfl hsel0 hselF hcellS hneS hknownS (by rw [hkeep _ (hout' _)]; exact hu0) (by rw [hkeep _ (hout' _)]; exact hsen)
    (Takes.of_laid hk hord tyC (by rw [Y.causeType]; rfl)) (Takes.of_laid hk hord tyS (by rw [Y.stackType]; exact fits_refV_array _ u0)) (Takes.of_laid hk hord tyP (by rw [Y.suppType]; exact fits_refV_object _ sen)) Y.objLocals hskip htr [] hd6
    (by simp only [List.length_cons, hlen']; omega) (by simp only [List.length_cons, hlen']; show 2 * g.monitorRoom + (rest.map fun v => v.category).sum + (13 * (1 + 1) + 41) ≤ R.locals; omega)
  have hlt : a < ((W.setVm vm₁).setVm vm₂).heap.size := (Array.getElem?_eq_some_iff.mp hcell).1
  have hU := heapAt_setCell_self (s := (W.setVm vm₁).setVm vm₂) ((preparedCellV T.toThrowableT (freshCell cX kX) a u0 sen).setSlot T.fStack.slot u0.v) hlt
  refine ⟨_, _, X₂, fun q hq => ?_, size_setCell ((W.setVm vm₁).setVm vm₂) _ _, fun q hq => heapAt_setCell_ne (s := (W.setVm vm₁).setVm vm₂) _ (Ne.symm hq), ⟨_, hU, rfl, rfl, by simp [preparedCellV, Cell.setSlot, hn6]⟩, fun tg ht => st1 _ (fun acts => ?_)⟩
  · simp only [List.mem_cons, List.not_mem_nil, or_false] at hq
    rcases hq with rfl | rfl | rfl | rfl <;> rfl
  · rw [doInvoke_state]
    exact st2 _ ht
end SUP
