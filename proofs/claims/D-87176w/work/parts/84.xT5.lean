/-! ===== T5: contracts of methods with handlers, and of methods that throw ===== -/
set_option maxRecDepth 100000
abbrev rx_ (k lo mc ms : Nat) : Room := { frames := k, cells := mc, slots := ms, locals := lo }
def ConX (l : Launch) (y : MethodName) (bytes : ByteArray) (maxL : Nat) (rt : Option FieldType) (hh : List (Nat × Nat × Nat × Nat)) (k lo mc ms : Nat) (G : GG) (σ : SG) (av : List Value) (σ' : SG) (v : Option Value) : Prop := Met l y (wsW_ y bytes maxL rt hh) (rx_ k lo mc ms) (PreC G σ av) (PostC G σ' v) mc ms (AG G)
/-- it threw: an object of the class C, at A -/
def TQ0 (G : GG) (σ' : SG) (C : String) (A mc ms : Nat) (st : State) (o : Outcome) (t : State) : Prop := o = .threw A ∧ HH G σ' t.heap ∧ va_F (AG G) st t ∧ Ex st t.heap C A ∧ st.WarmedH t.vm ∧ ∃ L, st.sameButNew ({ t with vm := st.vm } : State) L mc ms ∧ ∀ q ∈ L, AG G q.base
def TQ (below : List Frame) (G : GG) (σ' : SG) (C : String) (A mc ms : Nat) (s : State) : State → Prop := fun t => t.status = .running ∧ Ended t below (.threw A) ∧ TQ0 G σ' C A mc ms s (.threw A) t
def ConT (l : Launch) (y : MethodName) (ws : List Cond) (k lo mc ms : Nat) (G : GG) (σ : SG) (av : List Value) (σ' : SG) (C : String) (A : Nat) : Prop := MetFree l y (headSpec ws (rx_ k lo mc ms)) (PreC G σ av) (fun _ _ _ _ _ => True) (fun _ st o t => TQ0 G σ' C A mc ms st o t)
theorem xt_of {p : Program} {l : Launch} {e : Env} {s s₁ : State} {m : MethodId} {args : Array Value} {below : List Frame} {meth : Method} {c : Code} {y : MethodName} {S : Spec} {cc : ByteArray} {maxL : Nat} {ret : Option FieldType} {hh : List (Nat × Nat × Nat × Nat)} (B : BodyLoose p l y S cc maxL ret e s m args below meth c s₁) (h : (Cond.codeWith y cc maxL ret hh).before args s = true) : Xt c hh := by
  obtain ⟨m9, meth9, c9, hn9, h1, h2, -, -, h5, -⟩ := Cond.codeWith_spec h
  cases B.named.symm.trans hn9
  cases B.method.symm.trans h1
  have h3 := B.here.code
  rw [State.code?_eq] at h3
  have h4 : s₁.vm.method? m = some meth := by rw [B.state]; exact B.method
  rw [h4] at h3
  have h6 : meth.code = some c := h3
  cases h6.symm.trans h2
  exact h5
theorem xt_none {p : Program} {l : Launch} {e : Env} {s s₁ : State} {m : MethodId} {args : Array Value} {below : List Frame} {meth : Method} {c : Code} {y : MethodName} {S : Spec} {cc : ByteArray} {maxL : Nat} {ret : Option FieldType} (B : BodyLoose p l y S cc maxL ret e s m args below meth c s₁) (h : (Cond.code y cc maxL ret).before args s = true) : Xt c [] := by
  obtain ⟨meth9, c9, h1, h2, -, -, -, -, h5, -⟩ := Cond.code_spec B.named h
  cases B.method.symm.trans h1
  have h3 := B.here.code
  rw [State.code?_eq] at h3
  have h4 : s₁.vm.method? m = some meth := by rw [B.state]; exact B.method
  rw [h4] at h3
  have h6 : meth.code = some c := h3
  cases h6.symm.trans h2
  unfold Xt
  have : c.exceptionTable = #[] := by simpa using h5
  rw [this]
  rfl
theorem con_ofX {l : Launch} {y : MethodName} {bytes : ByteArray} {maxL : Nat} {rt : Option FieldType} {hh : List (Nat × Nat × Nat × Nat)} {k lo mc ms : Nat} {G : GG} {σ σ' : SG} {av : List Value} {v : Option Value} (hy : plainName y.cls = true) (hav : (lg_sl av).length ≤ maxL)
    (body : ∀ (p : Program) (e : Env) (s : State) (m : MethodId) (below : List Frame) (meth : Method) (c : Code) (ls : Array Slot), Cx p s m av.toArray meth c bytes rt maxL y → Xt c hh → KK G s → HH G σ s.heap → lv_has ls maxL (lv_args 0 av) → va_S (AG G) s.heap s.heap [] →
      W p l e (rx_ k lo mc ms) s m av.toArray below meth c s.heap [] 0 0 (MQ below (PostC G σ' v) av.toArray s mc ms (AG G)) (F0 m 0 ls [])) : ConX l y bytes maxL rt hh k lo mc ms G σ av σ' v := by
  refine va_MetW (cc := bytes) (maxL := maxL) (ret := rt) (hh := hh) hy rfl ?_
  intro p e s m args below meth c s₁ B hml hv
  obtain ⟨rfl, hH, hK⟩ := hv
  have hts := atoms_spec (ws := wsW_ y bytes maxL rt hh) B.pre
  have hXt := xt_of B (hts _ List.mem_cons_self)
  have hts : ∀ w ∈ lw_all, w.before _ s = true := fun w h => hts w (List.mem_cons_of_mem _ h)
  rw [lg_entry_eq]
  exact body p e s m below meth c _ ⟨B.exec, B.bytes, B.returns, hml, findClass_of_methodNamed B.named, hts, B.notSynchronized, (name_of_methodNamed B.named B.method).1⟩ hXt hK hH (lv_entry av hav) va_S.rf
theorem con_ofTX {l : Launch} {y : MethodName} {bytes : ByteArray} {maxL : Nat} {rt : Option FieldType} {hh : List (Nat × Nat × Nat × Nat)} {k lo mc ms : Nat} {G : GG} {σ σ' : SG} {av : List Value} {C : String} {A : Nat} (hy : plainName y.cls = true) (hav : (lg_sl av).length ≤ maxL)
    (body : ∀ (p : Program) (e : Env) (s : State) (m : MethodId) (below : List Frame) (meth : Method) (c : Code) (ls : Array Slot), Cx p s m av.toArray meth c bytes rt maxL y → Xt c hh → KK G s → HH G σ s.heap → lv_has ls maxL (lv_args 0 av) → va_S (AG G) s.heap s.heap [] →
      W p l e (rx_ k lo mc ms) s m av.toArray below meth c s.heap [] 0 0 (TQ below G σ' C A mc ms s) (F0 m 0 ls [])) : ConT l y (wsW_ y bytes maxL rt hh) k lo mc ms G σ av σ' C A := by
  refine MetFree.of_bodyS (code := bytes) (maxLocals := maxL) (ret := rt) hy ?_ ?_
  · intro args s m h hn
    obtain ⟨m9, meth, c, hn9, h1, h2, h3, h4, -, h5, h6, -⟩ := Cond.codeWith_spec (atoms_spec (ws := wsW_ y bytes maxL rt hh) h _ List.mem_cons_self)
    cases hn.symm.trans hn9
    exact ⟨meth, c, h1, h2, h3, h4, h5, h6⟩
  · intro p e s m args below meth c s₁ B hml hv _
    obtain ⟨rfl, hH, hK⟩ := hv
    have hh0 : s₁.heap = s.heap := by rw [B.state]; rfl
    have hts := atoms_spec (ws := wsW_ y bytes maxL rt hh) B.pre
    have hXt := xt_of B (hts _ List.mem_cons_self)
    have hts : ∀ w ∈ lw_all, w.before _ s = true := fun w h => hts w (List.mem_cons_of_mem _ h)
    rw [lg_entry_eq]
    obtain ⟨t, a1, b1, b2, b3⟩ := body p e s m below meth c _ ⟨B.exec, B.bytes, B.returns, hml, findClass_of_methodNamed B.named, hts, B.notSynchronized, (name_of_methodNamed B.named B.method).1⟩ hXt hK hH (lv_entry av hav) va_S.rf s₁ hh0 (Stand.of_body B)
    exact ⟨t, .threw A, a1, b1, b2, b3⟩
theorem con_ofT {l : Launch} {y : MethodName} {bytes : ByteArray} {maxL : Nat} {rt : Option FieldType} {k lo mc ms : Nat} {G : GG} {σ σ' : SG} {av : List Value} {C : String} {A : Nat} (hy : plainName y.cls = true) (hav : (lg_sl av).length ≤ maxL)
    (body : ∀ (p : Program) (e : Env) (s : State) (m : MethodId) (below : List Frame) (meth : Method) (c : Code) (ls : Array Slot), Cx p s m av.toArray meth c bytes rt maxL y → Xt c [] → KK G s → HH G σ s.heap → lv_has ls maxL (lv_args 0 av) → va_S (AG G) s.heap s.heap [] →
      W p l e (rx_ k lo mc ms) s m av.toArray below meth c s.heap [] 0 0 (TQ below G σ' C A mc ms s) (F0 m 0 ls [])) : ConT l y (ws_ y bytes maxL rt) k lo mc ms G σ av σ' C A := by
  refine MetFree.of_bodyS (code := bytes) (maxLocals := maxL) (ret := rt) hy ?_ ?_
  · intro args s m h hn
    obtain ⟨meth, c, h1, h2, h3, h4, h5, h6, -, -⟩ := Cond.code_spec hn (atoms_spec (ws := ws_ y bytes maxL rt) h _ List.mem_cons_self)
    exact ⟨meth, c, h1, h2, h3, h4, h5, h6⟩
  · intro p e s m args below meth c s₁ B hml hv _
    obtain ⟨rfl, hH, hK⟩ := hv
    have hh0 : s₁.heap = s.heap := by rw [B.state]; rfl
    have hts := atoms_spec (ws := ws_ y bytes maxL rt) B.pre
    have hXt := xt_none B (hts _ List.mem_cons_self)
    have hts : ∀ w ∈ lw_all, w.before _ s = true := fun w h => hts w (List.mem_cons_of_mem _ h)
    rw [lg_entry_eq]
    obtain ⟨t, a1, b1, b2, b3⟩ := body p e s m below meth c _ ⟨B.exec, B.bytes, B.returns, hml, findClass_of_methodNamed B.named, hts, B.notSynchronized, (name_of_methodNamed B.named B.method).1⟩ hXt hK hH (lv_entry av hav) va_S.rf s₁ hh0 (Stand.of_body B)
    exact ⟨t, .threw A, a1, b1, b2, b3⟩
section XT5
variable {p : Program} {l : Launch} {e : Env} {R : Room} {s : State} {m : MethodId} {args : Array Value} {below : List Frame} {meth : Method} {c : Code} {H : Heap} {locs : List Loc} {cells slots : Nat} {Q : State → Prop}
variable {cc : ByteArray} {pc hpc : Nat} {ls : Array Slot} {st0 st1 rest : List Value} {H0 : Heap} {mc ms : Nat} {G : GG} {σ σs σ' : SG} {v : Option Value} {y yo : MethodName} {bytes : ByteArray} {maxL nL n idx k lo : Nat} {rt rto : Option FieldType} {As : List Value} {hh hy : List (Nat × Nat × Nat × Nat)}
/-- a call of a method with handlers, of an object -/
def CalVX (C : String) (y : MethodName) (bytes : ByteArray) (maxL : Nat) (rt : Option FieldType) (hh : List (Nat × Nat × Nat × Nat)) (n : Nat) : Prop := Cond.instanceMethod y ∈ lw_all ∧ Cond.selects C y y ∈ lw_all ∧ Cond.initialized C ∈ lw_all ∧ Cond.codeWith y bytes maxL rt hh ∈ lw_all ∧ (y.cls = C ∧ y.cls ≠ "java/lang/invoke/MethodHandle" ∧ y.cls ≠ "java/lang/invoke/VarHandle" ∧ (parseMethodDescriptor y.desc).map (fun d => d.parameters.length) = some n)
def CalSX (y : MethodName) (bytes : ByteArray) (maxL : Nat) (rt : Option FieldType) (hh : List (Nat × Nat × Nat × Nat)) (n : Nat) : Prop := Cond.static y ∈ lw_all ∧ Cond.initialized y.cls ∈ lw_all ∧ Cond.codeWith y bytes maxL rt hh ∈ lw_all ∧ y.cls ≠ "java/lang/invoke/MethodHandle" ∧ y.cls ≠ "java/lang/invoke/VarHandle" ∧ (parseMethodDescriptor y.desc).map (fun d => d.parameters.length) = some n
theorem back20X (hM : ConX l y bytes maxL rt hy k lo mc ms G σ As σ' v) (hts : ∀ w ∈ lw_all, w.before args s = true) (hcode : Cond.codeWith y bytes maxL rt hy ∈ lw_all) (hini : Cond.initialized y.cls ∈ lw_all) (hR : k + 1 ≤ R.frames ∧ 20 + (maxL + 11) + lo ≤ R.locals) : Back l R p e below s args y 3 20 (PreOf R mc ms (PreC G σ As)) (PostOf (PostC G σ' v) mc ms (AG G)) :=
  va_backW (bytes := bytes) (maxL := maxL) (ret := rt) (hh := hy) hM PreC_blind rfl rfl hR.1 hR.2 (pay_in hts (lw_methW hcode)) List.mem_cons_self (fun a' U hW => word_at hW (Or.inl (by first | rfl | simp [Cond.onTables, Cond.keeps, Cond.steady])) (hts _ hini))
theorem c_VX {b : Nat} {C : String} (X : Cx p s m args meth c cc rto nL yo) (hM : ConX l y bytes maxL rt hy k lo mc ms G σ (.ref b :: As) σ' v) (hc : CalVX C y bytes maxL rt hy n) (q1 : Cond.methodLink yo.cls idx y ∈ lw_all) (hrv : ∃ cell : Cell, H[b]? = some cell ∧ cell.vm.isStatics = false ∧ s.vm.findClass C = some cell.cls) (hn : As.length = n) (hst : st0 = As.reverse ++ .ref b :: rest) (hs1 : v.toList ++ rest = st1) (hls : ls.size = nL) (hrm : (rest.map fun v => v.category).sum ≤ 20) (hR : k + 1 ≤ R.frames ∧ 20 + (maxL + 11) + lo ≤ R.locals) (hf : cells + mc ≤ R.cells ∧ slots + ms ≤ R.slots) (hdg : decode cc pc = .ok (.invokevirtual idx, 3)) (hK : KK G s) (hH : HH G σ H) (hS : va_S (AG G) H0 H locs)
    (kk : ∀ (H1 : Heap) (locs1 : List Loc), HH G σ' H1 → va_S (AG G) H0 H1 locs1 → W p l e R s m args below meth c H1 locs1 (cells + mc) (slots + ms) Q (F0 m (pc + 3) ls st1)) : W p l e R s m args below meth c H locs cells slots Q (F0 m pc ls st0) := by
  subst hs1
  obtain ⟨hx, hb, hr, hml, hown, hts, -⟩ := X
  obtain ⟨c1, c2, c3, c4, c5⟩ := hc
  obtain ⟨cellB, hcB, hoB, hclB⟩ := hrv
  refine call_go (a := (Value.ref b :: As).toArray) (fun T hT Y => ?_) hS kk
  obtain ⟨mk, methM, hnamed, hmethM, hstM, habM⟩ := Cond.instanceMethod_spec (hts _ c1)
  obtain ⟨m9, methM', cM, hn9, hmethM', -, -, -, -, -, -, hsigM⟩ := Cond.codeWith_spec (hts _ c4)
  cases hnamed.symm.trans hn9
  cases hmethM.symm.trans hmethM'
  obtain ⟨c2', r2, m2, q1', q2, q3, q4, kP, hkP, hkPi⟩ := Cond.selects_spec (hts _ c2)
  cases hclB.symm.trans q1'
  cases (State.methodFound?_of_named hnamed ⟨c5.2.1, c5.2.2.1⟩).symm.trans q2
  cases hnamed.symm.trans q3
  have hselP : selectMethod e.platform s.vm cellB.cls mk = .method mk := by rw [Launch.admits_selectMethod Y.admits]; exact q4
  obtain ⟨vm₁, X₁, hstep₁⟩ := Y.invokevirtual hx hown (hts _ q1) hnamed hmethM hstM hkP hkPi ⟨c5.2.1, c5.2.2.1⟩ (a := b) (cell := cellB) (by rw [hT]; exact hcB)
    (fun z h => by rw [h] at hoB; cases hoB) hselP hmethM habM hkP hkPi (g := F0 m pc ls st0) rfl (argsL := As) (rest := rest) (hn.trans (plen c5.2.2.2 _ hsigM)) hst (by rw [hb]; exact hdg)
  obtain ⟨v, ⟨U', l2, k2, s2⟩, X', ⟨g', mk', t, L, e1, e2, hq, h1, hL, h2, h3⟩, hsteps⟩ := back20X hM hts c4 (by rw [c5.1]; exact c3) hR m meth c ⟨T.setVm vm₁, locs, cells, slots⟩ { F0 m pc ls st0 with stack := rest } (.invokevirtual idx) mk (Value.ref b :: As).toArray X₁ rfl (hls.trans hml.symm) (by rw [hb]; exact hdg) (room20 (rest := rest) hrm) (X₁.named hnamed) ⟨hf.1, hf.2, (PreS_of (As := .ref b :: As) hH hK).2 (T.setVm vm₁) hT X₁.warmed⟩
  dsimp only [Pt.U, Pt.locs, Pt.cells, Pt.slots] at X' e1 e2 h1 h2 h3 hsteps
  subst h1; subst h2; subst h3
  exact ⟨v, (T.setVm vm₁).calling g' mk' (Value.ref b :: As).toArray, t, U', L, hT, X', hL, e1, e2, hq, fun target h => hstep₁ _ fun acts => by rw [doInvoke_state]; exact hsteps.trans h⟩
theorem c_SX (X : Cx p s m args meth c cc rto nL yo) (hM : ConX l y bytes maxL rt hy k lo mc ms G σ As σ' v) (hc : CalSX y bytes maxL rt hy n) (q1 : Cond.methodLink yo.cls idx y ∈ lw_all) (hn : As.length = n) (hst : st0 = As.reverse ++ rest) (hs1 : v.toList ++ rest = st1) (hls : ls.size = nL) (hrm : (rest.map fun v => v.category).sum ≤ 20) (hR : k + 1 ≤ R.frames ∧ 20 + (maxL + 11) + lo ≤ R.locals) (hf : cells + mc ≤ R.cells ∧ slots + ms ≤ R.slots) (hdg : decode cc pc = .ok (.invokestatic idx, 3)) (hK : KK G s) (hH : HH G σ H) (hS : va_S (AG G) H0 H locs)
    (kk : ∀ (H1 : Heap) (locs1 : List Loc), HH G σ' H1 → va_S (AG G) H0 H1 locs1 → W p l e R s m args below meth c H1 locs1 (cells + mc) (slots + ms) Q (F0 m (pc + 3) ls st1)) : W p l e R s m args below meth c H locs cells slots Q (F0 m pc ls st0) := by
  subst hs1
  obtain ⟨hx, hb, hr, hml, hown, hts, -⟩ := X
  obtain ⟨c1, c2, c3, c4⟩ := hc
  refine call_go (a := As.toArray) (fun T hT Y => ?_) hS kk
  obtain ⟨mk, methM, cM, hnamed, hmethM, -, -, -, -, -, -, hsigM⟩ := Cond.codeWith_spec (hts _ c3)
  have hstatic : methM.isStatic = true := Cond.static_spec hnamed hmethM (hts _ c1)
  obtain ⟨kP, hkP, -⟩ := className_of_methodNamed hnamed
  have hinitP : kP.init = .initialized := Cond.initialized_spec (findClass_of_methodNamed hnamed) hkP (hts _ c2)
  obtain ⟨vm₁, X₁, hstep₁⟩ := Y.invokestatic hx hown (hts _ q1) hnamed hmethM hstatic hkP hinitP ⟨c4.1, c4.2.1⟩ (g := F0 m pc ls st0) rfl (argsL := As) (rest := rest) (hn.trans (plen c4.2.2 _ hsigM)) hst (by rw [hb]; exact hdg)
  obtain ⟨v, ⟨U', l2, k2, s2⟩, X', ⟨g', mk', t, L, e1, e2, hq, h1, hL, h2, h3⟩, hsteps⟩ := back20X hM hts c3 c2 hR m meth c ⟨T.setVm vm₁, locs, cells, slots⟩ { F0 m pc ls st0 with stack := rest } (.invokestatic idx) mk As.toArray X₁ rfl (hls.trans hml.symm) (by rw [hb]; exact hdg) (room20 (rest := rest) hrm) (X₁.named hnamed) ⟨hf.1, hf.2, (PreS_of (As := As) hH hK).2 (T.setVm vm₁) hT X₁.warmed⟩
  dsimp only [Pt.U, Pt.locs, Pt.cells, Pt.slots] at X' e1 e2 h1 h2 h3 hsteps
  subst h1; subst h2; subst h3
  exact ⟨v, (T.setVm vm₁).calling g' mk' As.toArray, t, U', L, hT, X', hL, e1, e2, hq, fun target h => hstep₁ _ fun acts => by rw [doInvoke_state]; exact hsteps.trans h⟩
end XT5
