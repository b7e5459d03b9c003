/-! ===== T6: a call that throws, caught; throw new X() out of the method ===== -/
set_option maxRecDepth 100000
section XT6
variable {p : Program} {l : Launch} {e : Env} {R : Room} {s : State} {m : MethodId} {args : Array Value} {below : List Frame} {meth : Method} {c : Code} {H : Heap} {locs : List Loc} {cells slots : Nat} {Q : State → Prop}
variable {cc : ByteArray} {pc hpc : Nat} {ls : Array Slot} {st0 st1 rest : List Value} {H0 : Heap} {mc ms : Nat} {G : GG} {σ σs σ' : SG} {v : Option Value} {y yo : MethodName} {bytes : ByteArray} {maxL nL n idx k lo : Nat} {rt rto : Option FieldType} {As : List Value} {hh hy : List (Nat × Nat × Nat × Nat)} {ws : List Cond}
/-- caught; the heap has changed -/
theorem x_go2 {C : String} {dc ds A : Nat} (X : Cx p s m args meth c cc rto nL yo) (hT : Xt c hh) (hd : Hd yo.cls C pc hpc hh) (hK : KK G s)
    (h : ∀ T, T.heap = H → Stand p l e R s m args below meth c T locs cells slots → ∃ (T2 : State) (st' : List Value) (locs2 : List Loc), Stand p l e R s m args below meth c T2 locs2 (cells + dc) (slots + ds) ∧ HH G σ' T2.heap ∧ va_S (AG G) H0 T2.heap locs2 ∧ Ex s T2.heap C A ∧ ∀ tg, Steps p.tables e below ((T2.setTop (F0 m pc ls st')).pushFrame (.throwing A)) tg → Steps p.tables e below (T.setTop (F0 m pc ls st0)) tg)
    (kk : ∀ (H1 : Heap) (locs1 : List Loc), HH G σ' H1 → va_S (AG G) H0 H1 locs1 → Ex s H1 C A → W p l e R s m args below meth c H1 locs1 (cells + dc) (slots + ds) Q (F0 m hpc ls [.ref A])) : W p l e R s m args below meth c H locs cells slots Q (F0 m pc ls st0) := by
  obtain ⟨hx, hb, -, -, hown, hts, -, -⟩ := X
  intro T hTh XS
  obtain ⟨T2, st', locs2, X2, hz, hq, ⟨ce, e1, e2, e3⟩, hst⟩ := h T hTh XS
  have hpl : e.platform.magicAccessors = ({} : Platform).magicAccessors := by rw [XS.admits.platform]
  have hne : ∀ k, ce.vm ≠ .statics k := fun k => by rw [e3]; exact fun q => by cases q
  have hTv : ((T2.setTop (F0 m pc ls st')).pushFrame (.throwing A)).vm = T2.vm := by simp [State.pushFrame, State.setFrames, State.setTop, State.modifyTopJava]
  have hTh2 : ((T2.setTop (F0 m pc ls st')).pushFrame (.throwing A)).heap = T2.heap := by simp [State.pushFrame, State.setFrames, State.setTop, State.modifyTopJava]
  obtain ⟨vm', hW', hfind⟩ := x_walk (f := F0 m pc ls st') (A := A) hpl hown hts hK e2 hne c.exceptionTable.toList ((T2.setTop (F0 m pc ls st')).pushFrame (.throwing A)) (by rw [hTv]; exact X2.warmed) (by rw [hTh2]; exact e1) (by unfold Xt at hT; rw [hT]; exact hd)
  obtain ⟨t, a1, b1⟩ := kk T2.heap locs2 hz hq ⟨ce, e1, e2, e3⟩ (T2.setVm vm') rfl (X2.noted hW')
  exact ⟨t, hst t (x_found X2.here X2.method' X2.code hfind a1), b1⟩
/-- a call that throws, as far as the note -/
theorem t_call {U : State} {a : Array Value} {C : String} {A : Nat} {g : JFrame} {ig : Instr} {len : Nat} {mk : MethodId} {methY : Method} {cY : Code} (hM : ConT l y ws k lo mc ms G σ As σ' C A) (X : Stand p l e R s m args below meth c U locs cells slots)
    (hws : ∀ w ∈ ws, w.before a U = true) (hR : k + 1 ≤ R.frames ∧ 20 + (maxL + 11) + lo ≤ R.locals) (hf : cells + mc ≤ R.cells ∧ slots + ms ≤ R.slots) (hn : U.methodNamed? y = some mk) (hmY : U.vm.method? mk = some methY) (hcY : methY.code = some cY) (hlY : cY.maxLocals = maxL) (hini : (Cond.initialized y.cls).before a U = true)
    (hg : g.method = m) (hsize : g.locals.size = c.maxLocals) (hdg : decode c.code g.pc = .ok (ig, len)) (hW : 2 * g.monitorRoom + (g.stack.map fun v => v.category).sum ≤ 20) (hP : PreC G σ As a U) :
    ∃ (T2 : State) (L : List Loc), Stand p l e R s m args below meth c T2 (locs ++ L) (cells + mc) (slots + ms) ∧ (∀ q ∈ L, AG G q.base) ∧ HH G σ' T2.heap ∧ va_F (AG G) U T2 ∧ Ex U T2.heap C A ∧ Steps p.tables e below (doInvoke e (U.setTop g) [] mk a).1 ((T2.setTop g).pushFrame (.throwing A)) := by
  obtain ⟨kY, hkY, -⟩ := className_of_methodNamed hn
  have hinitY : kY.init = .initialized := Cond.initialized_spec (findClass_of_methodNamed hn) hkY hini
  have h : At U g.method c below := by rw [hg]; exact X.here
  have happ : (headSpec ws (rx_ k lo mc ms)).appliesLoose y e.platform (U.calling g mk a) = true :=
    Spec.appliesLoose_calling (g := g) h hdg hn hkY hinitY (X.room_calling (g := g) (R' := rx_ k lo mc ms) hsize hmY hcY hR.1 (by rw [hlY]; show _ + _ + lo ≤ _; omega) hf.1 hf.2) (atoms_intro hws)
  obtain ⟨mid, hmid⟩ := h.above
  have hfr : (U.setTop g).frames = (.java g :: mid) ++ below := by rw [State.frames_setTop' g h.top, hmid]; rfl
  obtain ⟨o, s₂, hsteps, -, hend, hq⟩ := Steps.callFree hM p X.admits X.cas X.clock (acts := []) hfr happ (PreC_blind _ _ _ _ hP) trivial
  have hq : TQ0 G σ' C A mc ms (U.calling g mk a) o s₂ := hq
  obtain ⟨ho, hH2, hF, hE, hW₂, L, ⟨e2, q2, q3, q4, q5, q6⟩, hL⟩ := id hq
  subst ho
  rw [State.frames_setTop' g h.top] at hend
  have e3 : s₂ = ({ (U.calling g mk a).setFrames s₂.frames with heap := s₂.heap, slotsUsed := s₂.slotsUsed } : State).setVm s₂.vm := by
    have : s₂ = ({ s₂ with vm := (U.calling g mk a).vm } : State).setVm s₂.vm := rfl
    rw [e2] at this
    exact this
  have hf₂ : s₂.frames = .throwing A :: .java g :: U.frames.tail := hend
  have hW' : U.WarmedH s₂.vm := hW₂
  obtain ⟨g₀, hg0⟩ := Option.isSome_iff_exists.mp h.top
  obtain ⟨r, hr⟩ := State.topJava?_eq_some.mp hg0
  have hs₂ : s₂ = ((({ U with heap := s₂.heap, slotsUsed := s₂.slotsUsed } : State).setVm s₂.vm).setTop g).pushFrame (.throwing A) := by
    have hr' : (({ U with heap := s₂.heap, slotsUsed := s₂.slotsUsed } : State).setVm s₂.vm).frames = .java g₀ :: r := hr
    refine e3.trans ?_
    rw [hf₂, State.calling_eq h.top, State.setFrames_setFrames, State.pushFrame, State.frames_setTop _ hr', State.setTop_of_frames _ hr', State.setFrames_setFrames, hr]
    rfl
  have hsame : U.sameButNew ({ U with heap := s₂.heap, slotsUsed := s₂.slotsUsed } : State) L mc ms := by
    refine ⟨?_, q2, q3, q4, q5, q6⟩
    obtain ⟨t, ht, -⟩ := State.frames_cons hr
    show ({ U with heap := s₂.heap, slotsUsed := s₂.slotsUsed } : State) = { U.setFrames U.frames with heap := s₂.heap, slotsUsed := s₂.slotsUsed }
    rw [State.setFrames_self ht]
  subst hg
  refine ⟨(({ U with heap := s₂.heap, slotsUsed := s₂.slotsUsed } : State).setVm s₂.vm), L,
    ⟨X.admits, X.cas, X.clock, X.frames, X.room, X.hears, X.method, X.code, (X.here.setHeapUsed s₂.heap s₂.slotsUsed).setVm hW'.alike, X.tail, State.WarmedH.trans X.warmed hW', X.limits, X.bytes, X.same.trans (hsame.setVm s.vm)⟩, hL, hH2, hF, hE, ?_⟩
  rw [← hs₂]
  exact hsteps
/-- a call of a method of the receiver's own class, that throws; caught -/
theorem x_callT {C CE : String} {b A : Nat} (X : Cx p s m args meth c cc rto nL yo) (hT : Xt c hh) (hd : Hd yo.cls CE pc hpc hh) (hM : ConT l y ws k lo mc ms G σ (.ref b :: As) σ' CE A) (hws : GoodIn lw_all ws)
    (hcode : ∃ mk methY cY, s.methodNamed? y = some mk ∧ s.vm.method? mk = some methY ∧ methY.code = some cY ∧ cY.maxLocals = maxL ∧ parseMethodDescriptor y.desc = some methY.sig)
    (c1 : Cond.instanceMethod y ∈ lw_all) (c2 : Cond.selects C y y ∈ lw_all) (c3 : Cond.initialized y.cls ∈ lw_all) (c5 : y.cls ≠ "java/lang/invoke/MethodHandle" ∧ y.cls ≠ "java/lang/invoke/VarHandle") (c6 : (parseMethodDescriptor y.desc).map (fun d => d.parameters.length) = some n)
    (q1 : Cond.methodLink yo.cls idx y ∈ lw_all) (hrv : ∃ cell : Cell, H[b]? = some cell ∧ cell.vm.isStatics = false ∧ s.vm.findClass C = some cell.cls) (hn : As.length = n) (hst : st0 = As.reverse ++ .ref b :: rest) (hls : ls.size = nL) (hrm : (rest.map fun v => v.category).sum ≤ 20) (hR : k + 1 ≤ R.frames ∧ 20 + (maxL + 11) + lo ≤ R.locals) (hf : cells + mc ≤ R.cells ∧ slots + ms ≤ R.slots) (hdg : decode cc pc = .ok (.invokevirtual idx, 3)) (hK : KK G s) (hH : HH G σ H) (hS : va_S (AG G) H0 H locs)
    (kk : ∀ (H1 : Heap) (locs1 : List Loc), HH G σ' H1 → va_S (AG G) H0 H1 locs1 → Ex s H1 CE A → W p l e R s m args below meth c H1 locs1 (cells + mc) (slots + ms) Q (F0 m hpc ls [.ref A])) : W p l e R s m args below meth c H locs cells slots Q (F0 m pc ls st0) := by
  refine x_go2 (dc := mc) (ds := ms) X hT hd hK ?_ kk
  obtain ⟨hx, hb, hr, hml, hown, hts, -⟩ := X
  obtain ⟨cellB, hcB, hoB, hclB⟩ := hrv
  intro T hTh Y
  obtain ⟨mk, methM, hnamed, hmethM, hstM, habM⟩ := Cond.instanceMethod_spec (hts _ c1)
  obtain ⟨m9, methM', cM, hn9, hmethM', hcM, hlM, hsigM⟩ := hcode
  cases hnamed.symm.trans hn9
  cases hmethM.symm.trans hmethM'
  obtain ⟨c2', r2, m2, q1', q2, q3, q4, kP, hkP, hkPi⟩ := Cond.selects_spec (hts _ c2)
  cases hclB.symm.trans q1'
  cases (State.methodFound?_of_named hnamed c5).symm.trans q2
  cases hnamed.symm.trans q3
  have hselP : selectMethod e.platform s.vm cellB.cls mk = .method mk := by rw [Launch.admits_selectMethod Y.admits]; exact q4
  obtain ⟨vm₁, X₁, hstep₁⟩ := Y.invokevirtual hx hown (hts _ q1) hnamed hmethM hstM hkP hkPi c5 (a := b) (cell := cellB) (by rw [hTh]; exact hcB)
    (fun z h => by rw [h] at hoB; cases hoB) hselP hmethM habM hkP hkPi (g := F0 m pc ls st0) rfl (argsL := As) (rest := rest) (hn.trans (plen c6 _ hsigM)) hst (by rw [hb]; exact hdg)
  obtain ⟨T2, L, XT, hL, hH2, hF, hE, hsteps⟩ := t_call (a := (Value.ref b :: As).toArray) (g := { F0 m pc ls st0 with stack := rest }) (maxL := maxL) hM X₁ (fun w hw => pay_in hts hws w hw _ _ X₁.warmed) hR hf (X₁.named hnamed) (by rw [X₁.warmed.alike.method?]; exact hmethM) hcM hlM (word_at X₁.warmed (Or.inl (by first | rfl | simp [Cond.onTables, Cond.keeps, Cond.steady])) (hts _ c3)) rfl (hls.trans hml.symm) (by rw [hb]; exact hdg) (room20 (rest := rest) hrm) ((PreS_of (As := .ref b :: As) hH hK).2 (T.setVm vm₁) hTh X₁.warmed)
  have hz : T.heap.size ≤ T2.heap.size := hF.1
  refine ⟨T2, rest, locs ++ L, XT, hH2, ⟨Nat.le_trans hS.1 (by rw [← hTh]; exact hz), fun q h1 h2 => ?_, fun q hq => ?_⟩, ?_, fun tg ht => hstep₁ _ fun acts => by rw [doInvoke_state]; exact hsteps.trans ht⟩
  · have := hF.2 q (by show q < T.heap.size; rw [hTh]; exact Nat.lt_of_lt_of_le h1 hS.1) h2
    rw [this]
    show T.heap[q]? = _
    rw [hTh]
    exact hS.2.1 q h1 h2
  · rcases List.mem_append.mp hq with h | h
    · exact hS.2.2 q h
    · exact hL q h
  · obtain ⟨ce, g1, g2, g3⟩ := hE
    exact ⟨ce, g1, by rw [← X₁.warmed.alike.findClass]; exact g2, g3⟩
/-- throw new X(), out of the method -/
theorem x_throw {C : String} {ic : Nat} (htl : ∀ e, l.admits e → e.platform.stackTraces = false) (X : Cx p s m args meth c cc rto nL yo) (hT : Xt c hh) (hout : ∀ q ∈ hh, ¬ (q.1 ≤ pc + 7 ∧ pc + 7 < q.2.1)) (hls : ls.size = nL) (hK : KK G s) (hHs : HH G σs s.heap) (hH : HH G σ H) (hS : va_S (AG G) s.heap H locs)
    (hat : ∀ a ∈ Bundle.ownAtoms0 yo.cls ic C ["java/lang/RuntimeException", "java/lang/Exception"], a.before args s = true) (hfit : Bundle.fit C = true) (hcl : Cond.classLink yo.cls idx C ∈ lw_all) (hinst : Cond.instantiable C 6 ∈ lw_all) (hini : Cond.initialized C ∈ lw_all)
    (hR : 5 < R.frames ∧ 200 ≤ R.locals) (hf : cells + 1 ≤ R.cells ∧ slots + 6 ≤ R.slots) (hm1 : cells + 1 ≤ mc) (hm2 : slots + 6 ≤ ms)
    (hd0 : decode cc pc = .ok (.new idx, 3)) (hd1 : decode cc (pc + 3) = .ok (.dup, 1)) (hd2 : decode cc (pc + 4) = .ok (.invokespecial ic, 3)) (hd3 : decode cc (pc + 7) = .ok (.athrow, 1)) : W p l e R s m args below meth c H locs cells slots (TQ below G (σ.1 + 1, σ.2) C σ.1 mc ms s) (F0 m pc ls []) := by
  obtain ⟨hx, hb, hr, hml, hown, hts, hlk, -⟩ := X
  obtain ⟨cX, kX', hcX, -⟩ := Cond.instantiable_spec (hts _ hinst)
  refine W.newcK hx hb hown (hts _ hcl) (hts _ hinst) (hts _ hini) rfl hd0 hf.1 hf.2 hcX rfl fun H1 kC hkC e1 z1 o1 => ?_
  rw [hH.1.1] at e1 z1 o1 ⊢
  refine W.eq (g2 := F0 m (pc + 3) ls [.ref σ.1]) rfl ?_
  refine lv_dup hx hb hd1 rfl ?_
  intro T hTh XS
  have hge : s.heap.size ≤ σ.1 := by rw [← hH.1.1]; exact hS.1
  have hS1 : va_S (AG G) s.heap H1 locs := hS.grow (k := 1) (by rw [z1, hH.1.1]) (fun q hq => o1 q (by rw [← hH.1.1]; exact hq))
  have hout' : ∀ x ∈ c.exceptionTable.toList, covers x (pc + 4 + 3) = false := by
    intro x hxm
    have hq := hout (x.startPc, x.endPc, x.handlerPc, x.catchType) (by unfold Xt at hT; rw [← hT]; exact List.mem_map.mpr ⟨x, hxm, rfl⟩)
    unfold covers
    rcases Nat.lt_or_ge (pc + 4 + 3) x.startPc with q1 | q1
    · simp [Nat.not_le.mpr q1]
    · have q2 : ¬ pc + 4 + 3 < x.endPc := fun q => hq ⟨q1, q⟩
      simp [q2]
  obtain ⟨U, st, hrun, hend, hWU, hsame, hz, hq, ce, g1, g2, g3⟩ := t_own XS hx (htl e XS.admits) hown hfit (by decide +kernel) hat (x_locs hK hS.2.2) hcX hkC (by rw [hTh]; exact e1) hge (g := F0 m (pc + 4) ls [.ref σ.1, .ref σ.1]) rfl (hls.trans hml.symm) rfl rfl rfl (by rw [hb]; exact hd2) (by rw [hb]; exact hd3) hout' (by show 2 + 3 < _; omega) (by show 2 * 0 + (1 + 0) + (13 * (2 + 1) + 41) ≤ _; omega) hlk
  have hk : ∀ q : Nat, q < H.size → U.heap[q]? = H[q]? := fun q hq' => by
    rw [hH.1.1] at hq'
    rw [hq q (Nat.ne_of_lt hq'), hTh]
    exact o1 q hq'
  have hz' : U.heap.size = H.size + 1 := by rw [hz, hTh, z1, hH.1.1]
  have hS2 : va_S (AG G) s.heap U.heap locs := hS.grow hz' hk
  exact ⟨U, st, hrun, hend, rfl, hH.grow hz' hk, ⟨hS2.1, hS2.2.1⟩, ⟨ce, g1, g2, g3⟩, hWU, locs, hsame.mono hm1 hm2, hS.2.2⟩
end XT6
