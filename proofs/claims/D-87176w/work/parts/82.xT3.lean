/-! ===== T3: what is thrown is caught: the walk goes on at the handler ===== -/
set_option maxRecDepth 100000
/-- the method's table of handlers -/
def Xt (c : Code) (hh : List (Nat × Nat × Nat × Nat)) : Prop := c.exceptionTable.toList.map (fun h => (h.startPc, h.endPc, h.handlerPc, h.catchType)) = hh
/-- what is of the class C, thrown at pc, comes to hpc -/
def Hd (own C : String) (pc hpc : Nat) : List (Nat × Nat × Nat × Nat) → Prop
  | [] => False
  | (a, b, h, t) :: r => (¬ (a ≤ pc ∧ pc < b) ∧ Hd own C pc hpc r) ∨ ((a ≤ pc ∧ pc < b) ∧ t ≠ 0 ∧ ∃ nm, Cond.classLink own t nm ∈ lw_all ∧ ((Cond.castable C nm ∈ lw_tbl ∧ h = hpc) ∨ (Cond.not (.castable C nm) ∈ flatC (Jvm.Cond.and given_1 narrow_1) ∧ Hd own C pc hpc r)))
section XT3
variable {p : Program} {l : Launch} {e : Env} {R : Room} {s : State} {m : MethodId} {args : Array Value} {below : List Frame} {meth : Method} {c : Code} {H : Heap} {locs : List Loc} {cells slots : Nat} {Q : State → Prop}
variable {cc : ByteArray} {pc hpc : Nat} {ls : Array Slot} {st st' rest : List Value} {H0 : Heap} {G : GG} {σ : SG} {yo : MethodName} {nL : Nat} {rto : Option FieldType}
/-- the search through the table, the classes of its rows cold or warm -/
theorem x_walk {own C : String} {f : JFrame} {A : Addr} {cell : Cell} (hpl : e.platform.magicAccessors = ({} : Platform).magicAccessors) (hown : s.vm.findClass own = some f.method.cls) (hts : ∀ w ∈ lw_all, w.before args s = true) (hK : KK G s) (ht : s.vm.findClass C = some cell.cls) (hobj : ∀ k, cell.vm ≠ .statics k) :
    ∀ (L : List ExceptionTableEntry) (S : State), s.WarmedH S.vm → S.heap[A]? = some cell → Hd own C f.pc hpc (L.map (fun h => (h.startPc, h.endPc, h.handlerPc, h.catchType))) →
      ∃ vm', s.WarmedH vm' ∧ ∀ (Q : Handler → Pre) (E : CtlPost) (d : Bool) (acts : List Action), wp (findHandler.go f A L) Q E e d acts S ↔ Q (.found hpc) d acts (S.setVm vm') := by
  obtain ⟨k0, hk0, -⟩ := Vm.findClass_spec ht
  intro L
  induction L with
  | nil => intro S _ _ h; exact absurd h id
  | cons x L ih =>
    intro S hW hcell h
    rcases h with ⟨h1, h2⟩ | ⟨h1, h2, nm, h3, h4⟩
    · obtain ⟨vm', hW', hq⟩ := ih S hW hcell h2
      have hno : (decide (x.startPc ≤ f.pc) && decide (f.pc < x.endPc)) = false := by
        rcases Nat.lt_or_ge f.pc x.startPc with q1 | q1
        · simp [Nat.not_le.mpr q1]
        · have q2 : ¬ f.pc < x.endPc := fun q => h1 ⟨q1, q⟩
          simp [q2]
      exact ⟨vm', hW', fun Q E d acts => by
        rw [show findHandler.go f A (x :: L) = (do mark "vm.exception.dispatch/outside-range"; findHandler.go f A L) by rw [findHandler.go, hno]; rfl]
        simp only [wp_bind', W.mark]
        exact hq Q E d acts⟩
    · have hyes : (decide (x.startPc ≤ f.pc) && decide (f.pc < x.endPc)) = true := by
        have q1 : x.startPc ≤ f.pc := h1.1
        have q2 : f.pc < x.endPc := h1.2
        simp [q1, q2]
      have h2 : x.catchType ≠ 0 := h2
      obtain ⟨ct, hct, hcl⟩ := Cond.classLink_spec hown (hts _ h3) e.platform hpl
      obtain ⟨dk, _, _, kt, hd, _, _, _, _, hkt, _, hopen⟩ := hcl.here
      have hcl₀ := hW.classLinks hcl
      have hW1 : s.WarmedH (S.vm.noted f.method.cls x.catchType (.cls ct)) := hW.noted hd hopen (State.rightAt_cls hcl)
      obtain ⟨ha, htb⟩ := (resolveClass_links e.toSetting hcl₀).op (op := VmOp.resolveClass f.method.cls x.catchType) rfl
      obtain ⟨k1, hk1, -⟩ := hW1.alike.2.2 _ _ hk0
      obtain ⟨k2, hk2, -⟩ := hW1.alike.2.2 _ _ hkt
      rcases h4 with ⟨h4, h5⟩ | ⟨h4, h5⟩
      · obtain ⟨c0, t0, f1, f2, f3⟩ := Cond.castable_spec (va_Nw.use (A := args) rfl (hK.2.1 _ h4 rfl))
        cases ht.symm.trans f1
        cases hct.symm.trans f2
        have hfit : (S.vm.noted f.method.cls x.catchType (.cls ct)).assignable cell.cls ct = true := by rw [hW1.alike.assignable]; exact f3
        have h5 : x.handlerPc = hpc := h5
        refine ⟨_, hW1, fun Q E d acts => ?_⟩
        rw [← h5]
        simp [findHandler.go, hyes, h2, ha, htb, hcell, hobj, hk1, hk2, hfit, VmOp.dirties, VmOp.acts]
      · obtain ⟨c0, t0, f1, f2, f3⟩ := hK.2.2.2.2.2.1 _ _ h4
        cases ht.symm.trans f1
        cases hct.symm.trans f2
        have hfit : (S.vm.noted f.method.cls x.catchType (.cls ct)).assignable cell.cls ct = false := by rw [hW1.alike.assignable]; exact f3
        obtain ⟨vm', hW', hq⟩ := ih (S.setVm (S.vm.noted f.method.cls x.catchType (.cls ct))) hW1 hcell h5
        refine ⟨vm', hW', fun Q E d acts => ?_⟩
        refine Iff.trans ?_ (hq Q E d acts)
        simp [findHandler.go, hyes, h2, ha, htb, hcell, hobj, hk1, hk2, hfit, VmOp.dirties, VmOp.acts]
/-- the note is found by the handler -/
theorem x_found {T : State} {g : JFrame} {A : Addr} {vm' : Vm} (h : At T g.method c below) (hm : T.vm.method? g.method = some meth) (hc : meth.code = some c)
    (hfind : ∀ (Q : Handler → Pre) (E : CtlPost) (d : Bool) (acts : List Action), wp (findHandler.go g A c.exceptionTable.toList) Q E e d acts ((T.setTop g).pushFrame (.throwing A)) ↔ Q (.found hpc) d acts (((T.setTop g).pushFrame (.throwing A)).setVm vm')) {tg : State}
    (hrest : Steps p.tables e below ((T.setVm vm').setTop { g with pc := hpc, stack := [.ref A] }) tg) : Steps p.tables e below ((T.setTop g).pushFrame (.throwing A)) tg := by
  obtain ⟨hgo, hw⟩ := h.throwing A
  refine Steps.head hgo hw ?_
  have hm' : ((T.setTop g).pushFrame (.throwing A)).vm.method? g.method = some meth := by
    rw [show ((T.setTop g).pushFrame (.throwing A)).vm = T.vm by simp [State.pushFrame, State.setFrames, State.setTop, State.modifyTopJava]]
    exact hm
  have key : ∀ r, (stepThrowing e ((T.setTop g).pushFrame (.throwing A)) A (.java g :: r)).Is ((((T.setTop g).pushFrame (.throwing A)).setVm vm').setFrames (.java { g with pc := hpc, stack := [.ref A] } :: r)) [] := by
    intro r
    simp only [stepThrowing, searchFrame, vmDo]
    generalize hr : Sem.go _ e false [] ((T.setTop g).pushFrame (.throwing A)) = res
    obtain ⟨as, rfl, ha⟩ := Sem.eq_ok_of hr (a := Handler.found hpc) (s' := ((T.setTop g).pushFrame (.throwing A)).setVm vm') (acts' := []) (by
      have hq : ∀ (Q : Handler → Pre) (E : CtlPost) (d : Bool) (acts : List Action), wp (findHandler g A) Q E e d acts ((T.setTop g).pushFrame (.throwing A)) ↔ Q (.found hpc) d acts (((T.setTop g).pushFrame (.throwing A)).setVm vm') := fun Q E d acts => by
        rw [W.findHandler_eq hm' hc]
        exact hfind Q E d acts
      simp [hq])
    exact ⟨rfl, ha⟩
  rw [stepThread_throwing (frames_entered h.top _), (key _).1]
  obtain ⟨g₀, hg⟩ := Option.isSome_iff_exists.mp h.top
  obtain ⟨r, hr⟩ := State.topJava?_eq_some.mp hg
  have hr' : (T.setVm vm').frames = .java g₀ :: r := hr
  rw [State.setTop_of_frames _ hr'] at hrest
  have e1 : ∀ (u : State) (F F' : List Frame), ((u.setFrames F).setVm vm').setFrames F' = (u.setVm vm').setFrames F' := fun u F F' => by
    rw [show (u.setFrames F).setVm vm' = (u.setVm vm').setFrames F from rfl, State.setFrames_setFrames]
  rw [hr, List.tail_cons, State.pushFrame, e1, State.setTop_of_frames _ hr, e1]
  exact hrest
/-- a heap that has only grown -/
theorem HH.grow {H1 : Heap} {k : Nat} (h : HH G σ H) (hz : H1.size = H.size + k) (hq : ∀ q : Nat, q < H.size → H1[q]? = H[q]?) : HH G (σ.1 + k, σ.2) H1 := by
  refine ⟨⟨by rw [hz, h.1.1], Nat.le_trans h.1.2.1 (Nat.le_add_right _ _), fun q hq' => ?_⟩, fun a e he => ?_⟩
  · rw [hq q (by rw [h.1.1]; exact Nat.lt_of_lt_of_le hq' h.1.2.1)]
    exact h.1.2.2 q hq'
  · obtain ⟨h1, h2⟩ := h.2 a e he
    exact ⟨h1.kept (hq a (by rw [h.1.1]; exact h.lt he)), h2⟩
theorem va_S.grow {A : Nat → Prop} {H1 : Heap} {k : Nat} (h : va_S A H0 H locs) (hz : H1.size = H.size + k) (hq : ∀ q : Nat, q < H.size → H1[q]? = H[q]?) : va_S A H0 H1 locs :=
  ⟨Nat.le_trans h.1 (by rw [hz]; exact Nat.le_add_right _ _), fun q h1 h2 => (hq q (Nat.lt_of_lt_of_le h1 h.1)).trans (h.2.1 q h1 h2), h.2.2⟩
/-- an exception object lies at a -/
def Ex (s : State) (H : Heap) (C : String) (a : Nat) : Prop := ∃ ce : Cell, H[a]? = some ce ∧ s.vm.findClass C = some ce.cls ∧ ce.vm = .none
/-- caught -/
theorem x_go {C : String} {hh : List (Nat × Nat × Nat × Nat)} {dc ds k A : Nat} (X : Cx p s m args meth c cc rto nL yo) (hT : Xt c hh) (hd : Hd yo.cls C pc hpc hh) (hK : KK G s) (hH : HH G σ H) (hS : va_S (AG G) H0 H locs)
    (h : ∀ T, T.heap = H → Stand p l e R s m args below meth c T locs cells slots → ∃ (T2 : State) (st' : List Value), Stand p l e R s m args below meth c T2 locs (cells + dc) (slots + ds) ∧ T2.heap.size = H.size + k ∧ (∀ q : Nat, q < H.size → T2.heap[q]? = H[q]?) ∧ Ex s T2.heap C A ∧ ∀ tg, Steps p.tables e below ((T2.setTop (F0 m pc ls st')).pushFrame (.throwing A)) tg → Steps p.tables e below (T.setTop (F0 m pc ls st)) tg)
    (kk : ∀ H1 : Heap, HH G (σ.1 + k, σ.2) H1 → va_S (AG G) H0 H1 locs → Ex s H1 C A → W p l e R s m args below meth c H1 locs (cells + dc) (slots + ds) Q (F0 m hpc ls [.ref A])) : W p l e R s m args below meth c H locs cells slots Q (F0 m pc ls st) := by
  obtain ⟨hx, hb, -, -, hown, hts, -, -⟩ := X
  intro T hTh XS
  obtain ⟨T2, st', X2, hz, hq, ⟨ce, e1, e2, e3⟩, hst⟩ := h T hTh XS
  have hpl : e.platform.magicAccessors = ({} : Platform).magicAccessors := by rw [XS.admits.platform]
  have hne : ∀ k, ce.vm ≠ .statics k := fun k => by rw [e3]; exact fun q => by cases q
  have hTv : ((T2.setTop (F0 m pc ls st')).pushFrame (.throwing A)).vm = T2.vm := by simp [State.pushFrame, State.setFrames, State.setTop, State.modifyTopJava]
  have hTh2 : ((T2.setTop (F0 m pc ls st')).pushFrame (.throwing A)).heap = T2.heap := by simp [State.pushFrame, State.setFrames, State.setTop, State.modifyTopJava]
  obtain ⟨vm', hW', hfind⟩ := x_walk (f := F0 m pc ls st') (A := A) hpl hown hts hK e2 hne c.exceptionTable.toList ((T2.setTop (F0 m pc ls st')).pushFrame (.throwing A)) (by rw [hTv]; exact X2.warmed) (by rw [hTh2]; exact e1) (by unfold Xt at hT; rw [hT]; exact hd)
  obtain ⟨t, a1, b1⟩ := kk T2.heap (hH.grow hz hq) (hS.grow hz hq) ⟨ce, e1, e2, e3⟩ (T2.setVm vm') rfl (X2.noted hW')
  exact ⟨t, hst t (x_found X2.here X2.method' X2.code hfind a1), b1⟩
theorem x_locs (hK : KK G s) (hl : ∀ x ∈ locs, AG G x.base) : ∀ x ∈ locs, ∀ (cf : ClassId) (kf : Class) (fi : Nat) (f : Field) (aS : Nat), s.fieldFound? Bundle.tN "UNASSIGNED_STACK" Bundle.steD = some (cf, kf, fi, f) → kf.statics = some aS → x.base ≠ aS := by
  intro x hx cf kf fi f aS h1 h2 h3
  obtain ⟨cf', kf', fi', f', a, cell, -, g1, -, g2, g3, -⟩ := hK.2.2.2.2.2.2.2.2.2.2.1
  have : some (cf, kf, fi, f) = some (cf', kf', fi', f') := h1.symm.trans g1
  cases this
  cases h2.symm.trans g2
  have h4 : G.2.2.2.1.size ≤ x.base := hl x hx
  rw [h3] at h4
  exact absurd (Array.getElem?_eq_some_iff.mp g3).1 (Nat.not_lt.mpr h4)
/-- a message's text is known and short -/
def Tx (text : String) (B : Nat) : Prop := (text == notModelled) = false ∧ (stringBytes (stringToUtf16 text)).size ≤ B
/-- the machine throws with a message; caught -/
theorem x_msg {cls : String} {names : List String} {hh : List (Nat × Nat × Nat × Nat)} {B : Nat} (htl : ∀ e, l.admits e → e.platform.stackTraces = false) (X : Cx p s m args meth c cc rto nL yo) (hT : Xt c hh) (hd : Hd yo.cls cls pc hpc hh) (hls : ls.size = nL) (hK : KK G s) (hH : HH G σ H) (hS : va_S (AG G) H0 H locs)
    (hcls : Bundle.fit cls = true) (hnames : ∀ n ∈ names, Bundle.fit n = true) (hsoe : (cls == "java/lang/StackOverflowError") = false) (hoom : (cls == "java/lang/OutOfMemoryError") = false) (hat : ∀ a ∈ Bundle.messageArmAtoms cls names, a.before args s = true) (hB : B ≤ 100000) (hlen : names.length ≤ 3)
    (hR : 7 < R.frames ∧ 10260 ≤ R.locals) (hf : cells + 3 ≤ R.cells ∧ slots + (B + 10) ≤ R.slots)
    (h : ∀ T, T.heap = H → Stand p l e R s m args below meth c T locs cells slots → ∃ (vm' : Vm) (text : String) (st' : List Value), Stand p l e R s m args below meth c (T.setVm vm') locs cells slots ∧ Tx text B ∧ (st'.map fun v => v.category).sum ≤ 20 ∧ ∀ tg, Steps p.tables e below (((T.setVm vm').setTop (F0 m pc ls st')).pushFrame (.throwNew cls (some text) none)) tg → Steps p.tables e below (T.setTop (F0 m pc ls st)) tg)
    (kk : ∀ H1 : Heap, HH G (σ.1 + 3, σ.2) H1 → va_S (AG G) H0 H1 locs → Ex s H1 cls (σ.1 + 2) → W p l e R s m args below meth c H1 locs (cells + 3) (slots + (B + 10)) Q (F0 m hpc ls [.ref (σ.1 + 2)])) : W p l e R s m args below meth c H locs cells slots Q (F0 m pc ls st) := by
  refine x_go (dc := 3) (ds := B + 10) (k := 3) (A := σ.1 + 2) X hT hd hK hH hS ?_ kk
  intro T hTh XS
  obtain ⟨vm', text, st', XV, ⟨ht1, ht2⟩, hst', hsteps⟩ := h T hTh XS
  obtain ⟨hx, hb, -, hml, hown, hts, -, -⟩ := X
  obtain ⟨T2, h1, h2, h3, h4, h5⟩ := t_msg XV hx (htl e XS.admits) hcls hnames hsoe hoom hat (x_locs hK hS.2.2) ht1 (by rw [XS.admits.platform]; show ¬ _ > 2147483645; omega) (by rw [XS.admits.platform]; simp only [componentBytes]; show ¬ _ > 536870912; omega) (g := F0 m pc ls st') rfl (hls.trans hml.symm) (by omega) (by show 2 * 0 + (st'.map fun v => v.category).sum + 10240 ≤ R.locals; omega) (by omega) hf.1 (by omega)
  have hsz : (T.setVm vm').heap.size = σ.1 := by show T.heap.size = σ.1; rw [hTh]; exact hH.1.1
  rw [hsz] at h4 h5
  refine ⟨T2, st', stand_widen h3 (Nat.le_refl _) (by omega), ?_, ?_, h4, fun tg ht => hsteps tg (h5 tg ht)⟩
  · rw [h1]; show T.heap.size + 3 = _; rw [hTh]
  · intro q hq
    have := h2 q (by show q < T.heap.size; rw [hTh]; exact hq)
    rw [this]; show T.heap[q]? = _; rw [hTh]
/-- a null pointer; caught -/
theorem x_npe {hh : List (Nat × Nat × Nat × Nat)} (htl : ∀ e, l.admits e → e.platform.stackTraces = false) (X : Cx p s m args meth c cc rto nL yo) (hT : Xt c hh) (hd : Hd yo.cls "java/lang/NullPointerException" pc hpc hh) (hls : ls.size = nL) (hK : KK G s) (hHs : HH G σ s.heap) {σ1 : SG} (hH : HH G σ1 H) (hS : va_S (AG G) H0 H locs)
    (hR : 7 < R.frames ∧ 10260 ≤ R.locals) (hf : cells + 1 ≤ R.cells ∧ slots + 8 ≤ R.slots)
    (h : ∀ T, T.heap = H → Stand p l e R s m args below meth c T locs cells slots → ∃ (vm' : Vm) (st' : List Value), Stand p l e R s m args below meth c (T.setVm vm') locs cells slots ∧ (st'.map fun v => v.category).sum ≤ 20 ∧ ∀ tg, Steps p.tables e below (((T.setVm vm').setTop (F0 m pc ls st')).pushFrame (.throwNew "java/lang/NullPointerException" none none)) tg → Steps p.tables e below (T.setTop (F0 m pc ls st)) tg)
    (kk : ∀ H1 : Heap, HH G (σ1.1 + 1, σ1.2) H1 → va_S (AG G) H0 H1 locs → Ex s H1 "java/lang/NullPointerException" σ1.1 → W p l e R s m args below meth c H1 locs (cells + 1) (slots + 8) Q (F0 m hpc ls [.ref σ1.1])) : W p l e R s m args below meth c H locs cells slots Q (F0 m pc ls st) := by
  have hat := xa_npe hK hHs X.2.2.2.2.2.1
  refine x_go (dc := 1) (ds := 8) (k := 1) (A := σ1.1) X hT hd hK hH hS ?_ kk
  intro T hTh XS
  obtain ⟨vm', st', XV, hst', hsteps⟩ := h T hTh XS
  obtain ⟨hx, hb, -, hml, hown, hts, -, -⟩ := X
  obtain ⟨T2, h1, h2, h3, h4, h5⟩ := t_npe XV hx (htl e XS.admits) hat (x_locs hK hS.2.2) (g := F0 m pc ls st') rfl (hls.trans hml.symm) (by omega) (by show 2 * 0 + (st'.map fun v => v.category).sum + 10240 ≤ R.locals; omega) hf.1 hf.2
  have hsz : (T.setVm vm').heap.size = σ1.1 := by show T.heap.size = σ1.1; rw [hTh]; exact hH.1.1
  rw [hsz] at h4 h5
  refine ⟨T2, st', h3, ?_, ?_, h4, fun tg ht => hsteps tg (h5 tg ht)⟩
  · rw [h1]; show T.heap.size + 1 = _; rw [hTh]
  · intro q hq
    have := h2 q (by show q < T.heap.size; rw [hTh]; exact hq)
    rw [this]; show T.heap[q]? = _; rw [hTh]
end XT3
