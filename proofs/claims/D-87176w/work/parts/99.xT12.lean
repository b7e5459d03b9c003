/-! ===== T12: a native method throws with a message, caught by its caller ===== -/
set_option maxRecDepth 100000
section NATM
variable {p : Program} {l : Launch} {e : Env} {R : Room} {s : State} {m₀ : MethodId} {args : Array Value} {below : List Frame} {meth : Method} {c : Code} {T' : State} {locs : List Loc} {cells slots : Nat}
set_option maxHeartbeats 1000000 in
theorem n_msg (X : Stand p l e R s m₀ args below meth c T' locs cells slots) (hexec : p.tables.exec = Jvm.exec) (htr : e.platform.stackTraces = false) {cls : String} {names : List String} {text : String}
    (hcls : Bundle.fit cls = true) (hnames : ∀ n ∈ names, Bundle.fit n = true) (hsoe : (cls == "java/lang/StackOverflowError") = false) (hoom : (cls == "java/lang/OutOfMemoryError") = false)
    (h : ∀ a ∈ Bundle.messageArmAtoms cls names, a.before args s = true) (hlocs : ∀ x ∈ locs, ∀ (cf : ClassId) (kf : Class) (fi : Nat) (f : Field) (aS : Nat), s.fieldFound? Bundle.tN "UNASSIGNED_STACK" Bundle.steD = some (cf, kf, fi, f) → kf.statics = some aS → x.base ≠ aS)
    (htext : (text == notModelled) = false) (hlimit : ¬ (stringBytes (stringToUtf16 text)).size > e.platform.arrayLengthLimit) (hheap : ¬ (stringBytes (stringToUtf16 text)).size * componentBytes .byte > e.platform.maxHeapBytes)
    {g : JFrame} (hg : g.method = m₀) (hsize : g.locals.size = c.maxLocals) {nf : NFrame} (hnf : nf.words = 0) (haw : nf.awaiting = false) (hlk : nf.locked = none)
    (hRframes : names.length + 5 < R.frames) (hRlocals : 2 * g.monitorRoom + (g.stack.map fun v => v.category).sum + 10240 ≤ R.locals) (hshort : 13 * names.length + 55 ≤ 10240)
    (hRcells : cells + 3 ≤ R.cells) (hRslots : slots + ((stringBytes (stringToUtf16 text)).size + 4 + 6) ≤ R.slots) :
    ∃ T2 : State, T2.heap.size = T'.heap.size + 3 ∧ (∀ q : Nat, q < T'.heap.size → T2.heap[q]? = T'.heap[q]?) ∧ Stand p l e R s m₀ args below meth c T2 locs (cells + 3) (slots + ((stringBytes (stringToUtf16 text)).size + 4 + 6)) ∧
      (∃ ce, T2.heap[T'.heap.size + 2]? = some ce ∧ s.vm.findClass cls = some ce.cls ∧ ce.vm = .none) ∧
      ∀ target, Steps p.tables e below ((T2.setTop g).pushFrame (.throwing (T'.heap.size + 2))) target → Steps p.tables e below (T'.setFrames (.throwNew cls (some text) none :: .native nf :: .java g :: below)) target := by
  have howns : e.platform.frameOwnsMonitors = true := by rw [X.admits.platform]
  have hfin : e.platform.finalization = false := by rw [X.admits.platform]
  have hpl : e.platform.magicAccessors = ({} : Platform).magicAccessors := by rw [X.admits.platform]
  have a : ∀ x, x ∈ Bundle.messageArmAtoms cls names → x.holds args s none s [] = true := fun x hx => h x hx
  obtain ⟨T, Z0, L, -, Y⟩ := ThrowableC.of_atoms (args := args) howns hfin hpl (fun x hx => h x (by simp [Bundle.messageArmAtoms, hx]))
  obtain ⟨Z, M, LZ, LM, hnZ⟩ := Init0T.ofS_atoms (args := args) hpl L Y (fun x hx => h x (by simp [Bundle.messageArmAtoms, hx]))
  obtain ⟨P1, Ps, hlen, L1, hL, hP1m, hlink1, hlink⟩ := Bundle.chainS (args := args) hpl hnZ names cls hcls hnames (fun x hx => h x (by simp [Bundle.messageArmAtoms, hx]))
  obtain ⟨Zs, LZs, hn4, hfitv, hfitc⟩ := StringT.of_atoms (args := args) (fun x hx => h x (by simp [Bundle.messageArmAtoms, hx]))
  have hfound : s.vm.findClass cls = some P1.m.cls := findClass_of_methodNamed hP1m
  obtain ⟨c1, kX, hc1, hk, hord, -, -, hn6⟩ := Cond.instantiable_spec (a (.instantiable cls 6) (by simp [Bundle.messageArmAtoms]))
  cases Option.some.inj (hc1.symm.trans hfound)
  have hinit := Cond.initialized_spec hfound hk (a (.initialized cls) (by simp [Bundle.messageArmAtoms]))
  have hctor : kX.findMethod "<init>" "(Ljava/lang/String;)V" = some P1.m.idx := findMethod_of_methodNamed hP1m hk
  have hsel0 : selectMethod e.platform s.vm P1.m.cls T.fill0 = .method T.fill0 := by
    obtain ⟨c2, r2, m2, q1, q2, q3, q4, -⟩ := Cond.selects_spec (a (.selects cls Bundle.tFill0 Bundle.tFill0) (by simp [Bundle.messageArmAtoms]))
    cases Option.some.inj (q1.symm.trans hfound)
    cases Option.some.inj (q2.symm.trans (State.methodFound?_of_named Y.fill0 (by decide)))
    cases Option.some.inj (q3.symm.trans Y.fill0)
    rw [Launch.admits_selectMethod X.admits]; exact q4
  have hselF : selectMethod e.platform s.vm P1.m.cls T.fill = .method T.fill := by
    obtain ⟨c2, r2, m2, q1, q2, q3, q4, -⟩ := Cond.selects_spec (a (.selects cls Bundle.tFill Bundle.tFill) (by simp [Bundle.messageArmAtoms]))
    cases Option.some.inj (q1.symm.trans hfound)
    cases Option.some.inj (q2.symm.trans (State.methodFound?_of_named Y.fill (by decide)))
    cases Option.some.inj (q3.symm.trans Y.fill)
    rw [Launch.admits_selectMethod X.admits]; exact q4
  obtain ⟨cellS0, hcS0, hiss⟩ := Y.statics
  obtain ⟨u0, hu0⟩ := Cond.staticRefV Y.unassigned L.unassignedStatic L.statics hcS0 hiss (a (.isRef (.static Bundle.tN "UNASSIGNED_STACK" Bundle.steD)) (by simp [Bundle.messageArmAtoms]))
  obtain ⟨sen, hsen⟩ := Cond.staticRefV Y.sentinel L.sentinelStatic L.statics hcS0 hiss (a (.isRef (.static Bundle.tN "SUPPRESSED_SENTINEL" Bundle.listD)) (by simp [Bundle.messageArmAtoms]))
  obtain ⟨ci198, i198, fB, hk198, hg198, ha198, hsB, -, hnB, htB, hffB⟩ := Cond.ownField (t := .object "java/lang/Object") Y.found L.cls (by decide +kernel) (a (.fieldLink Bundle.tN 198 Bundle.tN "backtrace" "Ljava/lang/Object;") (by simp [Bundle.messageArmAtoms])) (a (.lays Bundle.tN Bundle.tN "backtrace" "Ljava/lang/Object;") (by simp [Bundle.messageArmAtoms])) e.platform hpl
  obtain ⟨cellS, hcS', heS, -, hkeep⟩ := X.same.2.2.2.2.2 T.aS cellS0 hcS0
  have hcellS : T'.heap[T.aS]? = some cellS := hcS'
  have hout' : ∀ i, (⟨T.aS, i⟩ : Loc) ∉ locs := fun i hmem => hlocs _ hmem _ _ _ _ _ Y.unassigned L.statics rfl
  have hknownS : cellS.vm ≠ .unknown := by
    rw [heS]; intro hu
    rw [show cellS0.vm = .unknown from hu] at hiss
    cases hiss
  obtain ⟨iM, hffM⟩ := Y.msg
  obtain ⟨tyC, dC, hdC, hdnC⟩ := Cond.laysAt hfound hk Y.cause (a (.lays cls Bundle.tN "cause" "Ljava/lang/Throwable;") (by simp [Bundle.messageArmAtoms]))
  obtain ⟨tyS, dS, hdS, hdnS⟩ := Cond.laysAt hfound hk Y.stack (a (.lays cls Bundle.tN "stackTrace" Bundle.steD) (by simp [Bundle.messageArmAtoms]))
  obtain ⟨tyP, dP, hdP, hdnP⟩ := Cond.laysAt hfound hk Y.supp (a (.lays cls Bundle.tN "suppressedExceptions" Bundle.listD) (by simp [Bundle.messageArmAtoms]))
  obtain ⟨tyM, dM, hdM, hdnM⟩ := Cond.laysAt hfound hk hffM (a (.lays cls Bundle.tN "detailMessage" "Ljava/lang/String;") (by simp [Bundle.messageArmAtoms]))
  obtain ⟨tyB, dB, hdB, hdnB⟩ := Cond.laysAt hfound hk hffB (a (.lays cls Bundle.tN "backtrace" "Ljava/lang/Object;") (by simp [Bundle.messageArmAtoms]))
  have bC := Cond.laysApart hdB hdC hdnB hdnC (by rw [hnB, Y.causeName]; decide)
  have bS := Cond.laysApart hdB hdS hdnB hdnS (by rw [hnB, Y.stackName]; decide)
  have bP := Cond.laysApart hdB hdP hdnB hdnP (by rw [hnB, Y.suppName]; decide)
  have hskip : SkipFacts T e.platform s (fun u => u) u0 ((preparedCellV T.toThrowableT (freshCell P1.m.cls kX) (T'.heap.size + 2) u0 sen).withEntry T'.cur) :=
    ⟨{ ci198 := ci198, i198 := i198, fBack := fB }, ⟨hk198, hg198, ha198, hsB⟩, by
      have := fresh_default (c := P1.m.cls) tyB
      rw [htB] at this
      simpa [preparedCellV, Cell.setSlot, Cell.withEntry, Array.getElem?_setIfInBounds, bC, bS, bP, bC.symm, bS.symm, bP.symm, defaultValue] using this, fun _ _ => rfl⟩
  obtain ⟨g₀, hfr⟩ := X.frames_eq
  have hcur : T'.cur < T'.threads.size := State.cur_lt_of_frames hfr
  have hA := X.stackAbove (K := 10240) hsize hRlocals
  rw [X.tail] at hA
  have hsu : stackUse (.native nf :: .java g :: below) = ((stackUse (.java g :: below)).1 + 1, (stackUse (.java g :: below)).2) := stackUse_light _ _ (fun f hf => by cases hf) hnf
  have hsu2 : stackUse (.throwNew cls (some text) none :: .native nf :: .java g :: below) = ((stackUse (.native nf :: .java g :: below)).1 + 1, (stackUse (.native nf :: .java g :: below)).2) := stackUse_light _ _ (fun f hf => by cases hf) rfl
  have hbyt : ((((T'.setFrames (.throwNew cls (some text) none :: .native nf :: .java g :: below)).threads[(T'.setFrames (.throwNew cls (some text) none :: .native nf :: .java g :: below)).cur]?).map (·.stackBytes)).getD 0) = T'.me.stackBytes := by
    rw [← State.stackBytes_setFrames T' (.throwNew cls (some text) none :: .native nf :: .java g :: below)]
    exact State.stackBytes_me _
  have hlm : (e.platform.stackLimits T'.me).2 = (e.platform.limitsFor T'.me.stackBytes).2 := rfl
  have hbeyond : e.platform.stackBeyond ((((T'.setFrames (.throwNew cls (some text) none :: .native nf :: .java g :: below)).threads[(T'.setFrames (.throwNew cls (some text) none :: .native nf :: .java g :: below)).cur]?).map (·.stackBytes)).getD 0) (T'.setFrames (.throwNew cls (some text) none :: .native nf :: .java g :: below)).frames = false := by
    rw [hbyt, State.frames_setFrames _ hcur]
    unfold Platform.stackBeyond
    rw [hsu2, hsu]
    exact decide_eq_false (by dsimp only; omega)
  have hfreeW : e.platform.vmThrowRoom ≤ e.platform.stackFree ((((T'.setFrames (.throwNew cls (some text) none :: .native nf :: .java g :: below)).threads[(T'.setFrames (.throwNew cls (some text) none :: .native nf :: .java g :: below)).cur]?).map (·.stackBytes)).getD 0) (T'.setFrames (.throwNew cls (some text) none :: .native nf :: .java g :: below)).frames := by
    rw [hbyt, State.frames_setFrames _ hcur, Launch.admits_vmThrowRoom X.admits]
    unfold Platform.stackFree
    rw [hsu2, hsu]
    dsimp only
    omega
  have hfra := X.framesAbove hRframes
  rw [hfr] at hfra
  have hfra' : (Frame.native nf :: .java g :: below).length + names.length + 4 < (e.platform.stackLimits T'.me).1 := by
    simp only [List.length_cons] at hfra ⊢
    omega
  have hslots : T'.slotsUsed + (stringBytes (stringToUtf16 text)).size + Zs.kS.instanceTypes.size + kX.instanceTypes.size ≤ e.platform.maxSlots := by have := X.slotsAbove hRslots; omega
  have hW := X.warmed
  obtain ⟨kX', hk', he'⟩ := hW.alike.2.2 _ _ hk
  have hty : kX'.instanceTypes = kX.instanceTypes := by rw [he']
  obtain ⟨kS', kB', LZ', htyS⟩ := LZs.warmer hW.alike
  have hfresh : freshCell P1.m.cls kX' = freshCell P1.m.cls kX := by
    show ({ cls := P1.m.cls, slots := kX'.instanceTypes.map defaultValue, vm := .none } : Cell) = _
    rw [hty]
  have hsame : withThrown T' { Zs with kS := kS', kB := kB' } text P1.m.cls kX' = withThrown T' Zs text P1.m.cls kX := by
    rw [← withThrown_warmer T' Zs (kB' := kB') htyS text P1.m.cls kX]
    show (withString T' _ _ _ _ _ _).pushCell (freshCell P1.m.cls kX') = (withString T' _ _ _ _ _ _).pushCell (freshCell P1.m.cls kX)
    rw [hfresh]
  have hfs : T'.fitsSlot = s.fitsSlot := (show T'.fitsSlot = (s.setVm T'.vm).fitsSlot from rfl).trans (State.fitsSlot_setVm hW.alike)
  obtain ⟨w1, w2, w3, w4, w5, -, w7⟩ := withThrown_facts e.platform T' Zs text P1.m.cls kX
  have hltS : T.aS < T'.heap.size := (Array.getElem?_eq_some_iff.mp hcellS).1
  have hWc : (withThrown T' Zs text P1.m.cls kX).cur = T'.cur := by simp [withThrown, withString]
  have hWfr : (withThrown T' Zs text P1.m.cls kX).frames = .java g₀ :: below := w2.trans hfr
  have hWcur : (withThrown T' Zs text P1.m.cls kX).cur < (withThrown T' Zs text P1.m.cls kX).threads.size := State.cur_lt_of_frames hWfr
  have hWrun : (withThrown T' Zs text P1.m.cls kX).status = .running := by simpa [withThrown, withString] using X.here.running
  have hWrbl : (withThrown T' Zs text P1.m.cls kX).curStatus? = some .runnable := by simpa [withThrown, withString] using X.here.runnable
  have hWal : (withThrown T' Zs text P1.m.cls kX).alone = true := by simpa [withThrown, withString] using X.here.alone
  have hBm : ∃ mid, (Frame.native nf :: .java g :: below) = mid ++ below := ⟨[.native nf, .java g], rfl⟩
  have hf3 : ((withThrown T' Zs text P1.m.cls kX).setFrames (.thenThrow (T'.heap.size + 2) :: .native nf :: .java g :: below)).frames = .thenThrow (T'.heap.size + 2) :: .native nf :: .java g :: below := State.frames_setFrames _ hWcur
  have hroom := roomAbove (pl := e.platform) (u := (withThrown T' Zs text P1.m.cls kX).setFrames (.thenThrow (T'.heap.size + 2) :: .native nf :: .java g :: below)) (vars := 2) (pushed := [.thenThrow (T'.heap.size + 2)]) (base := .native nf :: .java g :: below) (free := 13 * names.length + 55) (lim := e.platform.stackLimits T'.me) hf3 (by rw [State.stackLimits_setFrames]; exact w7)
    (by simp only [List.length_cons, List.length_nil] at hfra' ⊢; omega) (by rw [hsu]; dsimp only; omega) (by rw [stackUse_light _ _ (fun f hf => by cases hf) rfl, stackUse_nil]; show 0 + 2 + 11 ≤ _; omega)
  obtain ⟨vm', hW', st⟩ := n_core (p := p) (e := e) (below := below) (s := s) (S := withThrown T' Zs text P1.m.cls kX) (B := .native nf :: .java g :: below) (P1 := P1) (a := T'.heap.size + 2) (str := T'.heap.size + 1)
    (cF := ((((preparedCellV T.toThrowableT (freshCell P1.m.cls kX) (T'.heap.size + 2) u0 sen).withEntry T'.cur).setSlot T.fStack.slot u0.v).left.setSlot T.fMsg.slot (.ref (T'.heap.size + 1)))) hexec hWrun hWrbl hWal hWcur hBm L1 (by rw [w1]; exact hW) hroom (fun V hV hVf hVh hVc hVW hVl => by
      rw [hlink1]
      exact Steps.initThrowableSColdByV p (V := V) (g := passJ P1.m (T'.heap.size + 2) (.ref (T'.heap.size + 1)) 2 []) (c := P1.code) (self := T'.heap.size + 2) hV hexec T L Z LZ M LM hVW (t := T'.cur) (hVc.trans hWc)
        (Nn := fun u => u) heapOnly_id (fun _ _ => rfl) (fun _ => rfl) (fun u x y => setCell_twice _ _ _ _) (fun _ => Nat.le_refl _) (msg := .ref (T'.heap.size + 1)) rfl (cell := freshCell P1.m.cls kX) (cellS := cellS) (cN := (preparedCellV T.toThrowableT (freshCell P1.m.cls kX) (T'.heap.size + 2) u0 sen).withEntry T'.cur)
        (by rw [hVh]; exact w4) (by intro k hk'; cases hk') (by intro hk'; cases hk') rfl hsel0 (by rw [hVh]; exact (w5 _ hltS).trans hcellS) (Nat.ne_of_lt (Nat.lt_of_lt_of_le hltS (Nat.le_add_right _ 2))) hknownS (by rw [hkeep _ (hout' _)]; exact hu0)
        (Takes.of_laid hk hord tyS (by rw [Y.stackType]; exact fits_refV_array _ u0)) (fun _ hu => hu) (fun _ hu => hu) rfl rfl rfl (by simp [preparedCellV, Cell.setSlot, Cell.withEntry]) hskip (fun _ _ hA hW _ hroom _ hrest => L.nativeOff p htr hA hW hroom hrest) hselF (by rw [hkeep _ (hout' _)]; exact hsen)
        (Takes.of_laid hk hord tyC (by rw [Y.causeType]; rfl)) (Takes.of_laid hk hord tyP (by rw [Y.suppType]; exact fits_refV_object _ sen)) (Takes.of_laid hk hord tyM (by rw [Y.msgType]; rfl)) Y.objLocals Ps hL hlink (ig := .invokespecial P1.index) (len := 3) [] (lim := e.platform.stackLimits T'.me) (hVl.trans w7)
        (by rw [hVf]; simp only [List.length_cons] at hfra' ⊢; omega)
        (by
          rw [hVf, List.tail_cons, stackUse_java, stackUse_light _ _ (fun f hf => by cases hf) rfl, hsu]
          show (stackUse (.java g :: below)).2 + (2 + 11 + 2 * 0 + operandWords []) + 13 * Ps.length + 42 ≤ _
          simp only [operandWords, List.foldl_nil]
          omega)
        L1.at2)
  rw [plainBareV_eq T.toThrowableT (T'.heap.size + 2) u0 sen (.ref (T'.heap.size + 1)) T'.cur rfl rfl] at st
  have X3 := ((X.pushed (bytesOf Zs.cB (stringToUtf16 text))).pushed (stringAt Zs.cS Zs.kS Zs.fv Zs.fc (stringToUtf16 text) T'.heap.size)).pushed (freshCell P1.m.cls kX)
  rw [← withString_eq] at X3
  have X4 := X3.noted hW'
  have ha : (T'.heap.size + 2) < ((withThrown T' Zs text P1.m.cls kX).setVm vm').heap.size := by show _ < (withThrown T' Zs text P1.m.cls kX).heap.size; rw [w3]; omega
  have hcell : ((withThrown T' Zs text P1.m.cls kX).setVm vm').heap[(T'.heap.size + 2)]? = some (freshCell P1.m.cls kX) := w4
  have X5 := ((((X4.stored hcell T.fCause.slot (.ref (T'.heap.size + 2))).storedAgain ha T.fStack.slot u0.v).storedAgain ha T.fSupp.slot sen.v).storedAgain ha T.fStack.slot u0.v).storedAgain ha T.fMsg.slot (.ref (T'.heap.size + 1))
  simp only [List.append_assoc, List.cons_append, List.nil_append] at X5
  have hge : s.heap.size ≤ T'.heap.size := X.same.2.1
  have X6 := t_drop X5 (fun y hy => by
    have hb : y.base = (T'.heap.size + 2) := by
      simp only [List.mem_cons, List.not_mem_nil, or_false] at hy
      rcases hy with rfl | rfl | rfl | rfl | rfl <;> rfl
    rw [hb]
    exact Nat.le_trans hge (Nat.le_add_right _ 2))
  have b1 : (bytesOf Zs.cB (stringToUtf16 text)).slots.size = (stringBytes (stringToUtf16 text)).size := by
    rw [(Cell.writeAll_facts _ _).2.2]; simp [bytes0]
  have b2 : (stringAt Zs.cS Zs.kS Zs.fv Zs.fc (stringToUtf16 text) T'.heap.size).slots.size = 4 := by simp [string0, Cell.setSlot, hn4]
  have b3 : (freshCell P1.m.cls kX).slots.size = 6 := by simp [hn6]
  rw [b1, b2, b3] at X6
  have hsz : (((withThrown T' Zs text P1.m.cls kX).setVm vm').setCell (T'.heap.size + 2) (plainBareV T.toThrowableT (freshCell P1.m.cls kX) (T'.heap.size + 2) u0 sen (.ref (T'.heap.size + 1)))).heap.size = T'.heap.size + 3 := by
    rw [size_setCell]; exact w3
  refine ⟨_, hsz, fun q hq => ?_, ?_, ⟨_, heapAt_setCell_self (s := (withThrown T' Zs text P1.m.cls kX).setVm vm') _ ha, hfound, rfl⟩, fun target ht => ?_⟩
  · rw [heapAt_setCell_ne _ (Nat.ne_of_gt (Nat.lt_of_lt_of_le hq (Nat.le_add_right _ 2)))]
    exact w5 q hq
  · rw [show slots + ((stringBytes (stringToUtf16 text)).size + 4 + 6) = slots + (stringBytes (stringToUtf16 text)).size + 4 + 6 by omega]
    exact X6
  · obtain ⟨g₁, hfrM⟩ := X6.frames_eq
    have hcM := State.cur_lt_of_frames hfrM
    rw [State.pushFrame, State.frames_setTop _ hfrM, State.setTop_of_frames _ hfrM, State.setFrames_setFrames] at ht
    have hf0 : (T'.setFrames (.throwNew cls (some text) none :: .native nf :: .java g :: below)).frames = .throwNew cls (some text) none :: .native nf :: .java g :: below := State.frames_setFrames _ hcur
    refine Steps.head ⟨X.here.running, by simpa using X.here.runnable, by simpa using X.here.alone⟩ ⟨[.throwNew cls (some text) none, .native nf, .java g], by rw [hf0]; rfl, by simp, by simp⟩ ?_
    rw [stepThread_throwNew hf0, stepThrowNew_message (s := T'.setFrames (.throwNew cls (some text) none :: .native nf :: .java g :: below)) (c := P1.m.cls) (k := kX') (i := P1.m.idx) { Zs with kS := kS', kB := kB' } LZ' hsoe hoom (by show T'.vm.findClass cls = _; rw [hW.alike.findClass]; exact hfound) hk' (by rw [he']; exact hinit) (by rw [he']; exact hord)
      (Launch.admits_hotImplicitExceptions X.admits) hbeyond hfreeW htext (by rw [he']; exact hctor) hlimit hheap (X.cellsAbove hRcells) (by show T'.slotsUsed + _ + kS'.instanceTypes.size + kX'.instanceTypes.size ≤ _; rw [htyS, hty]; exact hslots) (by show T'.fitsSlot _ _ _ _ = _; rw [hfs]; exact hfitv _) (by show T'.fitsSlot _ _ _ _ = _; rw [hfs]; exact hfitc _),
      withThrown_setFrames, State.setFrames_setFrames, hsame]
    exact st target (n_left X6.here.running X6.here.runnable X6.here.alone hcM haw hlk ⟨[.java g], rfl⟩ ht)
end NATM
section XNAT
variable {p : Program} {l : Launch} {e : Env} {R : Room} {s : State} {m : MethodId} {args : Array Value} {below : List Frame} {meth : Method} {c : Code} {H : Heap} {locs : List Loc} {cells slots : Nat} {Q : State → Prop}
variable {cc : ByteArray} {pc hpc : Nat} {ls : Array Slot} {st st' rest : List Value} {H0 : Heap} {G : GG} {σ : SG} {yo : MethodName} {nL : Nat} {rto : Option FieldType}
/-- a native throws with a message; caught -/
theorem x_nat {cls : String} {names : List String} {hh : List (Nat × Nat × Nat × Nat)} {B : Nat} (htl : ∀ e, l.admits e → e.platform.stackTraces = false) (X : Cx p s m args meth c cc rto nL yo) (hT : Xt c hh) (hd : Hd yo.cls cls pc hpc hh) (hls : ls.size = nL) (hK : KK G s) (hH : HH G σ H) (hS : va_S (AG G) H0 H locs)
    (hcls : Bundle.fit cls = true) (hnames : ∀ n ∈ names, Bundle.fit n = true) (hsoe : (cls == "java/lang/StackOverflowError") = false) (hoom : (cls == "java/lang/OutOfMemoryError") = false) (hat : ∀ a ∈ Bundle.messageArmAtoms cls names, a.before args s = true) (hB : B ≤ 100000) (hlen : names.length ≤ 3)
    (hR : 8 < R.frames ∧ 10260 ≤ R.locals) (hf : cells + 3 ≤ R.cells ∧ slots + (B + 10) ≤ R.slots)
    (h : ∀ T, T.heap = H → Stand p l e R s m args below meth c T locs cells slots → ∃ (vm' : Vm) (st' : List Value) (nf : NFrame), Stand p l e R s m args below meth c (T.setVm vm') locs cells slots ∧ nf.words = 0 ∧ nf.awaiting = false ∧ nf.locked = none ∧ (st'.map fun v => v.category).sum ≤ 20 ∧ ∃ text, Tx text B ∧ ∀ tg, Steps p.tables e below ((T.setVm vm').setFrames (.throwNew cls (some text) none :: .native nf :: .java (F0 m pc ls st') :: below)) tg → Steps p.tables e below (T.setTop (F0 m pc ls st)) tg)
    (kk : ∀ H1 : Heap, HH G (σ.1 + 3, σ.2) H1 → va_S (AG G) H0 H1 locs → Ex s H1 cls (σ.1 + 2) → W p l e R s m args below meth c H1 locs (cells + 3) (slots + (B + 10)) Q (F0 m hpc ls [.ref (σ.1 + 2)])) : W p l e R s m args below meth c H locs cells slots Q (F0 m pc ls st) := by
  refine x_go (dc := 3) (ds := B + 10) (k := 3) (A := σ.1 + 2) X hT hd hK hH hS ?_ kk
  intro T hTh XS
  obtain ⟨vm', st', nf, XV, hn1, hn2, hn3, hst', text, ⟨ht1, ht2⟩, hsteps⟩ := h T hTh XS
  obtain ⟨hx, hb, -, hml, hown, hts, -, -⟩ := X
  obtain ⟨T2, h1, h2, h3, h4, h5⟩ := n_msg XV hx (htl e XS.admits) hcls hnames hsoe hoom hat (x_locs hK hS.2.2) ht1 (by rw [XS.admits.platform]; show ¬ _ > 2147483645; omega) (by rw [XS.admits.platform]; simp only [componentBytes]; show ¬ _ > 536870912; omega) (g := F0 m pc ls st') rfl (hls.trans hml.symm) hn1 hn2 hn3 (by omega) (by show 2 * 0 + (st'.map fun v => v.category).sum + 10240 ≤ R.locals; omega) (by omega) hf.1 (by omega)
  have hsz : (T.setVm vm').heap.size = σ.1 := by show T.heap.size = σ.1; rw [hTh]; exact hH.1.1
  rw [hsz] at h4 h5
  refine ⟨T2, st', stand_widen h3 (Nat.le_refl _) (by omega), ?_, ?_, h4, fun tg ht => hsteps tg (h5 tg ht)⟩
  · rw [h1]; show T.heap.size + 3 = _; rw [hTh]
  · intro q hq
    have := h2 q (by show q < T.heap.size; rw [hTh]; exact hq)
    rw [this]; show T.heap[q]? = _; rw [hTh]
end XNAT
