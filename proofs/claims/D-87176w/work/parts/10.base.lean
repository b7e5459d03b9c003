/-! ===== BASE: loops as a combinator; abstract heaps; contracts by values; rows over abstract heaps ===== -/
set_option maxRecDepth 100000
/-- a loop: the body gives the next state or the way out; n: how many turns at most -/
def lp {σ ρ : Type} (body : σ → Option (σ ⊕ ρ)) : Nat → σ → Option ρ
  | 0, _ => none
  | n + 1, s => match body s with
    | none => none
    | some (.inl s') => lp body n s'
    | some (.inr r) => some r
theorem lp_ind {σ ρ : Type} {body : σ → Option (σ ⊕ ρ)} (P : σ → Prop) (Q : ρ → Prop) (h : ∀ s x, body s = some x → (match x with | .inl s' => P s' | .inr r => Q r) → P s) : ∀ (n : Nat) (s : σ) (r : ρ), lp body n s = some r → Q r → P s
  | 0, s, r, e, _ => by simp [lp] at e
  | n + 1, s, r, e, hq => by
    simp only [lp] at e
    cases hb : body s with
    | none => rw [hb] at e; simp at e
    | some x =>
      rw [hb] at e
      cases x with
      | inl s' => exact h s _ hb (lp_ind P Q h n s' r e hq)
      | inr r' =>
        have : r' = r := Option.some.inj e
        subst this
        exact h s _ hb hq
/-! partial operations -/
def irem (x y : Int32) : Option Int32 := if y = 0 then none else some (x - x / y * y)
def idiv (x y : Int32) : Option Int32 := if y = 0 then none else some (x / y)
def lrem (x y : Int64) : Option Int64 := if y = 0 then none else some (x - x / y * y)
def ldiv (x y : Int64) : Option Int64 := if y = 0 then none else some (x / y)
def ald {α : Type} (f : Nat → α) (n : Nat) (i : Int32) : Option α := if i < 0 ∨ n ≤ i.toNatClampNeg then none else some (f i.toNatClampNeg)
def iast (f : Nat → Int32) (n : Nat) (i : Int32) (x : Int32) : Option (Nat → Int32) := if i < 0 ∨ n ≤ i.toNatClampNeg then none else some (upd f i.toNatClampNeg x)
def last (f : Nat → Int64) (n : Nat) (i : Int32) (x : Int64) : Option (Nat → Int64) := if i < 0 ∨ n ≤ i.toNatClampNeg then none else some (vp_updL f i.toNatClampNeg x)
def rz (x : Int32) : Option Int32 := if x = 0 ∨ x = 1 then some x else none
theorem irem_s {x y v : Int32} (h : irem x y = some v) : ¬ y = 0 ∧ x - x / y * y = v := by
  unfold irem at h
  split at h
  · cases h
  · exact ⟨by assumption, Option.some.inj h⟩
theorem idiv_s {x y v : Int32} (h : idiv x y = some v) : ¬ y = 0 ∧ x / y = v := by
  unfold idiv at h
  split at h
  · cases h
  · exact ⟨by assumption, Option.some.inj h⟩
theorem lrem_s {x y v : Int64} (h : lrem x y = some v) : ¬ y = 0 ∧ x - x / y * y = v := by
  unfold lrem at h
  split at h
  · cases h
  · exact ⟨by assumption, Option.some.inj h⟩
theorem ldiv_s {x y v : Int64} (h : ldiv x y = some v) : ¬ y = 0 ∧ x / y = v := by
  unfold ldiv at h
  split at h
  · cases h
  · exact ⟨by assumption, Option.some.inj h⟩
theorem ald_s {α : Type} {f : Nat → α} {n : Nat} {i : Int32} {v : α} (h : ald f n i = some v) : vp_in i n ∧ f i.toNatClampNeg = v := by
  unfold ald at h
  split at h
  · cases h
  · exact ⟨by assumption, Option.some.inj h⟩
theorem iast_s {f f' : Nat → Int32} {n : Nat} {i x : Int32} (h : iast f n i x = some f') : vp_in i n ∧ upd f i.toNatClampNeg x = f' := by
  unfold iast at h
  split at h
  · cases h
  · exact ⟨by assumption, Option.some.inj h⟩
theorem last_s {f f' : Nat → Int64} {n : Nat} {i : Int32} {x : Int64} (h : last f n i x = some f') : vp_in i n ∧ vp_updL f i.toNatClampNeg x = f' := by
  unfold last at h
  split at h
  · cases h
  · exact ⟨by assumption, Option.some.inj h⟩
theorem rz_s {x v : Int32} (h : rz x = some v) : narrow .boolean (.int x) = .int x ∧ x = v := by
  unfold rz at h
  split at h
  · rename_i hx
    refine ⟨?_, Option.some.inj h⟩
    rcases hx with rfl | rfl <;> rfl
  · cases h
theorem bd {α β : Type} {o : Option α} {f : α → Option β} {b : β} (h : Option.bind o f = some b) : ∃ a, o = some a ∧ f a = some b := Option.bind_eq_some_iff.mp h
/-! the classes of the whole claim -/
abbrev vwCl : List vw_C := [(RX1, TX1, 6), (RX2, TX2, 1), (RX3, TX3, 24), (RX5, TX5, 4), (RX6, TX6, 4), (RX7, TX7, 4), (RX8, TX8, 4), (RX9, TX9, 5), (RJ2, TJ2, 3), (RX10, TX10, 7), (RJ9, TJ9, 6), (RJ10, TJ10, 6), (RJ13, TJ13, 6), (RJ15, TJ15, 8), (RJ16, TJ16, 6), (RJ18, TJ18, 6)]
/-- class numbers, field slots, array classes by tag, the heap at the law's start (nothing of it changes), ArrayList's empty array -/
abbrev GG : Type := (Nat → ClassId) × (Nat → Nat → Nat) × (Nat → ClassId) × Heap × Nat
/-- a cell: an array by its tag, or an object by its class's place in vwCl -/
abbrev AE : Type := (Nat × vp_A) ⊕ (Nat × List Value)
/-- an abstract heap: its size, its known cells -/
abbrev SG : Type := Nat × (Nat → Option AE)
def toE (ar : Nat → ClassId) (e : AE) : va_E := match e with
  | .inl a => .inl (ar a.1, a.2)
  | .inr o => .inr o
def HH (G : GG) (σ : SG) (H : Heap) : Prop := (H.size = σ.1 ∧ G.2.2.2.1.size ≤ σ.1 ∧ ∀ q : Nat, q < G.2.2.2.1.size → H[q]? = G.2.2.2.1[q]?) ∧ ∀ (a : Nat) (e : AE), σ.2 a = some e → va_at (G.1, G.2.1) vwCl (a, toE G.2.2.1 e) H ∧ G.2.2.2.1.size ≤ a
def gtys (G : GG) : List (ClassId × FieldType) := [(G.2.2.1 0, .int), (G.2.2.1 1, .long), (G.2.2.1 2, .byte), (G.2.2.1 3, .object "WordBench$Code"), (G.2.2.1 4, .array .int), (G.2.2.1 5, .object "java/lang/Object")]
/-- words that don't ride in the lists, and stay true all the same -/
def kw (w : Cond) : Bool := match w with
  | .methodLinkNest .. => true
  | .castable .. => true
  | .declares .. => true
  | _ => false
/-- arrays of int arrays: their class -/
def AI (G : GG) (U : State) : Prop := ∃ kA : Class, U.vm.classes[G.2.2.1 4]? = some kA ∧ kA.kind = .array (G.2.2.1 0) (.array .int) ∧ (U.vm.classes.findIdx? fun x => match x.kind with | .array component _ => component == G.2.2.1 0 | _ => false) = some (G.2.2.1 4)
theorem AI.moved {G : GG} {u U : State} (hvm : u.vm.Alike U.vm) (h : AI G u) : AI G U := by
  obtain ⟨kA, h1, h2, h3⟩ := h
  obtain ⟨k', hk', he⟩ := hvm.2.2 _ _ h1
  exact ⟨k', hk', by rw [he]; exact h2, by rw [hvm.findIdx?_eqK _ (fun _ => rfl)]; exact h3⟩
/-- what the start says isn't castable -/
def NcA (U : State) : Prop := ∀ C T : String, Cond.not (.castable C T) ∈ flatC (Jvm.Cond.and given_1 narrow_1) → va_Nc C T U
/-- a class lays a static field, its cell in the heap at the law's start -/
def yLS (C n d : String) (U : State) (H : Heap) : Prop := ∃ (cf : ClassId) (kf : Class) (fi : Nat) (f : Field) (a : Nat) (cell : Cell), U.vm.findClass C = some cf ∧ U.fieldFound? C n d = some (cf, kf, fi, f) ∧ f.isStatic = true ∧ kf.statics = some a ∧ H[a]? = some cell ∧ cell.vm.isStatics = true ∧ cell.cls = cf ∧ f.slot < cell.slots.size ∧ kf.staticTypes[f.slot]? = some f.type
theorem yLS.moved {C n d : String} {u U : State} {H : Heap} (hvm : u.vm.Alike U.vm) (h : yLS C n d u H) : yLS C n d U H := by
  obtain ⟨cf, kf, fi, f, a, cell, h0, h1, h2, h3, h4, h5, h6, h7, h8⟩ := h
  obtain ⟨k', hi', he⟩ := State.fieldFound?_setVm hvm h1
  exact ⟨cf, k', fi, f, a, cell, by rw [hvm.findClass]; exact h0, hi', h2, by rw [he]; exact h3, h4, h5, h6, h7, by rw [he]; exact h8⟩
theorem yLS.of {args : Array Value} {s : State} {C n d : String} (h : (Cond.laysStatic C n d).before args s = true) : yLS C n d s s.heap := Cond.laysStatic_spec h
theorem yLS.use {args : Array Value} {s : State} {C n d : String} {H : Heap} (h : yLS C n d s H) (hH : ∀ q : Nat, q < H.size → s.heap[q]? = H[q]?) : (Cond.laysStatic C n d).before args s = true := by
  obtain ⟨cf, kf, fi, f, a, cell, h0, h1, h2, h3, h4, h5, h6, h7, h8⟩ := h
  exact Cond.laysStatic_of h0 h1 h2 h3 (by rw [hH a (Array.getElem?_eq_some_iff.mp h4).1]; exact h4) h5 h6 h7 h8
theorem mR_moved {u U : State} (hvm : u.vm.Alike U.vm) (h : modulesRight_1 u = true) : modulesRight_1 U = true := by
  unfold modulesRight_1 at h ⊢
  rw [show U.vm.modules = u.vm.modules by rw [hvm.1]]
  exact h
/-- statics of the JDK that are read -/
def ZZ (G : GG) (U : State) : Prop := va_Z "java/util/ArrayList" "DEFAULTCAPACITY_EMPTY_ELEMENTDATA" "[Ljava/lang/Object;" (.ref G.2.2.2.2) (fun q => G.2.2.2.1.size ≤ q) U G.2.2.2.1 ∧ (∃ cell : Cell, G.2.2.2.1[G.2.2.2.2]? = some cell ∧ U.isArrayOf cell (.object "java/lang/Object") ∧ cell.slots.size = 0) ∧ va_Zq "java/lang/Throwable" "UNASSIGNED_STACK" "[Ljava/lang/StackTraceElement;" (fun q => G.2.2.2.1.size ≤ q) U G.2.2.2.1 ∧ va_Zq "java/lang/Throwable" "SUPPRESSED_SENTINEL" "Ljava/util/List;" (fun q => G.2.2.2.1.size ≤ q) U G.2.2.2.1 ∧ yLS "java/lang/Throwable" "UNASSIGNED_STACK" "[Ljava/lang/StackTraceElement;" U G.2.2.2.1 ∧ yLS "java/lang/Throwable" "SUPPRESSED_SENTINEL" "Ljava/util/List;" U G.2.2.2.1 ∧ modulesRight_1 U = true
theorem ZZ.moved {G : GG} {u U : State} (hvm : u.vm.Alike U.vm) (h : ZZ G u) : ZZ G U := by
  obtain ⟨h1, ⟨cell, h2, h3, h4⟩, h5, h6, h7, h8, h9⟩ := h
  exact ⟨h1.moved hvm, ⟨cell, h2, State.isArrayOf_alike hvm h3, h4⟩, h5.moved hvm, h6.moved hvm, h7.moved hvm, h8.moved hvm, mR_moved hvm h9⟩
def KK (G : GG) (U : State) : Prop := va_K (G.1, G.2.1) vwCl (gtys G) U ∧ (∀ w ∈ lw_tbl, kw w = true → va_Nw w U) ∧ va_AO "WordBench$Code" U ∧ va_AO "java/lang/Object" U ∧ AI G U ∧ NcA U ∧ ZZ G U
def AG (G : GG) : Nat → Prop := fun q => G.2.2.2.1.size ≤ q
theorem kw_on {w : Cond} (h : kw w = true) : w.onTables = true := by
  unfold kw at h
  split at h <;> first | rfl | cases h
theorem kw_warm {w : Cond} (h : kw w = true) {s U : State} (hW : s.WarmedH U.vm) (hZ : va_Nw w s) : va_Nw w U := by
  unfold kw at h
  split at h
  · exact va_Nw.warmM hW hZ
  · exact va_Nw.warmC hW hZ
  · exact va_Nw.warmD hW hZ
  · cases h
theorem KK.moved {G : GG} {s U : State} (hW : s.WarmedH U.vm) (h : KK G s) : KK G U := ⟨va_K.moved hW.alike h.1, fun w hw hk => kw_warm hk hW (h.2.1 w hw hk), va_AO.moved hW.alike h.2.2.1, va_AO.moved hW.alike h.2.2.2.1, h.2.2.2.2.1.moved hW.alike, fun C T q => (h.2.2.2.2.2.1 C T q).moved hW.alike, h.2.2.2.2.2.2.moved hW.alike⟩
theorem KK.same {G : GG} {s U : State} (e : s.vm = U.vm) (h : KK G s) : KK G U := ⟨va_K.moved (by rw [e]; exact Vm.Alike.refl _) h.1, fun w hw hk => (h.2.1 w hw hk).same (kw_on hk) e, va_AO.moved (by rw [e]; exact Vm.Alike.refl _) h.2.2.1, va_AO.moved (by rw [e]; exact Vm.Alike.refl _) h.2.2.2.1, h.2.2.2.2.1.moved (by rw [e]; exact Vm.Alike.refl _), fun C T q => (h.2.2.2.2.2.1 C T q).moved (by rw [e]; exact Vm.Alike.refl _), h.2.2.2.2.2.2.moved (by rw [e]; exact Vm.Alike.refl _)⟩
/-! abstract heaps -/
theorem HH.put {G : GG} {σ : SG} {H H1 : Heap} {a : Nat} {e' : AE} (h : HH G σ H) (hz : H1.size = H.size) (he : va_at (G.1, G.2.1) vwCl (a, toE G.2.2.1 e') H1) (ha : G.2.2.2.1.size ≤ a) (oq : ∀ q : Nat, q ≠ a → H1[q]? = H[q]?) : HH G (σ.1, va_up σ.2 a (some e')) H1 := by
  refine ⟨⟨hz.trans h.1.1, h.1.2.1, fun q hq => (oq q (by omega)).trans (h.1.2.2 q hq)⟩, fun b e hb => ?_⟩
  by_cases hba : b = a
  · subst hba
    rw [show (σ.1, va_up σ.2 b (some e')).2 = va_up σ.2 b (some e') from rfl, va_up_self] at hb
    cases hb
    exact ⟨he, ha⟩
  · rw [show (σ.1, va_up σ.2 a (some e')).2 = va_up σ.2 a (some e') from rfl, va_up_ne _ _ hba] at hb
    exact ⟨(h.2 b e hb).1.kept (oq b hba), (h.2 b e hb).2⟩
theorem HH.lt {G : GG} {σ : SG} {H : Heap} (h : HH G σ H) {a : Nat} {e : AE} (he : σ.2 a = some e) : a < σ.1 := by
  have := (h.2 a e he).1.lt
  rw [h.1.1] at this
  exact this
/-- fewer known cells -/
theorem HH.less {G : GG} {σ σ' : SG} {H : Heap} (h : HH G σ H) (hz : σ'.1 = σ.1) (hs : ∀ a e, σ'.2 a = some e → σ.2 a = some e) : HH G σ' H := ⟨⟨h.1.1.trans hz.symm, by rw [hz]; exact h.1.2.1, h.1.2.2⟩, fun a e he => h.2 a e (hs a e he)⟩
/-! contracts -/
abbrev rm_ (k mc ms : Nat) : Room := { frames := k, cells := mc, slots := ms, locals := 80 * k }
def PreC (G : GG) (σ : SG) (av : List Value) : Array Value → State → Prop := va_Pc av (fun U => HH G σ U.heap ∧ KK G U)
def PostC (G : GG) (σ' : SG) (v : Option Value) : Array Value → State → Outcome → State → Prop := fun _ st o t => o = .returned v ∧ HH G σ' t.heap ∧ va_F (AG G) st t
theorem PreC_blind {G : GG} {σ : SG} {av : List Value} : FrameBlind (PreC G σ av) := fun a U g mk q => ⟨q.1, q.2.1, KK.same (U := U.calling g mk a) (show U.vm = (U.calling g mk a).vm from rfl) q.2.2⟩
def Con (l : Launch) (y : MethodName) (bytes : ByteArray) (maxL : Nat) (rt : Option FieldType) (k mc ms : Nat) (G : GG) (σ : SG) (av : List Value) (σ' : SG) (v : Option Value) : Prop := Met l y (ws_ y bytes maxL rt) (rm_ k mc ms) (PreC G σ av) (PostC G σ' v) mc ms (AG G)
/-- what a method has at its start -/
def Cx (p : Program) (s : State) (m : MethodId) (args : Array Value) (meth : Method) (c : Code) (bytes : ByteArray) (rt : Option FieldType) (nL : Nat) (y : MethodName) : Prop :=
  p.tables.exec = Jvm.exec ∧ c.code = bytes ∧ meth.sig.returnType = rt ∧ c.maxLocals = nL ∧ s.vm.findClass y.cls = some m.cls ∧ (∀ w ∈ lw_all, w.before args s = true) ∧ meth.locks = false ∧ meth.name = y.name
theorem con_of {l : Launch} {y : MethodName} {bytes : ByteArray} {maxL : Nat} {rt : Option FieldType} {k mc ms : Nat} {G : GG} {σ σ' : SG} {av : List Value} {v : Option Value} (hy : plainName y.cls = true) (hav : (lg_sl av).length ≤ maxL)
    (body : ∀ (p : Program) (e : Env) (s : State) (m : MethodId) (below : List Frame) (meth : Method) (c : Code) (ls : Array Slot), Cx p s m av.toArray meth c bytes rt maxL y → KK G s → HH G σ s.heap → lv_has ls maxL (lv_args 0 av) → va_S (AG G) s.heap s.heap [] →
      W p l e (rm_ k mc ms) s m av.toArray below meth c s.heap [] 0 0 (MQ below (PostC G σ' v) av.toArray s mc ms (AG G)) (F0 m 0 ls [])) : Con l y bytes maxL rt k mc ms G σ av σ' v := by
  refine Met.ofW (cc := bytes) (maxL := maxL) (ret := rt) hy rfl ?_
  intro p e s m args below meth c s₁ B hml hv
  obtain ⟨rfl, hH, hK⟩ := hv
  have hts := atoms_spec (ws := ws_ y bytes maxL rt) B.pre
  have hts : ∀ w ∈ lw_all, w.before _ s = true := fun w h => hts w (List.mem_cons_of_mem _ h)
  rw [lg_entry_eq]
  exact body p e s m below meth c _ ⟨B.exec, B.bytes, B.returns, hml, findClass_of_methodNamed B.named, hts, B.notSynchronized, (name_of_methodNamed B.named B.method).1⟩ hK hH (lv_entry av hav) va_S.rf
/-- a method that can be called, static -/
def CalS (y : MethodName) (bytes : ByteArray) (maxL : Nat) (rt : Option FieldType) (n : Nat) : Prop := Cond.static y ∈ lw_all ∧ Cond.initialized y.cls ∈ lw_all ∧ Cond.code y bytes maxL rt ∈ lw_all ∧ y.cls ≠ "java/lang/invoke/MethodHandle" ∧ y.cls ≠ "java/lang/invoke/VarHandle" ∧ (parseMethodDescriptor y.desc).map (fun d => d.parameters.length) = some n
/-- .. of an object, selected for objects of the class C -/
def CalV (C : String) (y : MethodName) (bytes : ByteArray) (maxL : Nat) (rt : Option FieldType) (n : Nat) : Prop := Cond.instanceMethod y ∈ lw_all ∧ Cond.selects C y y ∈ lw_all ∧ Cond.initialized C ∈ lw_all ∧ Cond.code y bytes maxL rt ∈ lw_all ∧ (y.cls = C ∧ y.cls ≠ "java/lang/invoke/MethodHandle" ∧ y.cls ≠ "java/lang/invoke/VarHandle" ∧ (parseMethodDescriptor y.desc).map (fun d => d.parameters.length) = some n)
def CalI (y : MethodName) (bytes : ByteArray) (maxL : Nat) (n : Nat) : Prop := Cond.instanceMethod y ∈ lw_all ∧ Cond.initialized y.cls ∈ lw_all ∧ Cond.code y bytes maxL none ∈ lw_all ∧ y.name = "<init>" ∧ (y.cls ≠ "java/lang/invoke/MethodHandle" ∧ y.cls ≠ "java/lang/invoke/VarHandle" ∧ (parseMethodDescriptor y.desc).map (fun d => d.parameters.length) = some n)
section BCALL
variable {p : Program} {l : Launch} {e : Env} {R : Room} {s : State} {m : MethodId} {args : Array Value} {below : List Frame} {meth : Method} {c : Code} {H : Heap} {locs : List Loc} {cells slots : Nat} {Q : State → Prop}
variable {cc : ByteArray} {pc : Nat} {ls : Array Slot} {rest st0 : List Value} {H0 : Heap} {mc ms : Nat} {G : GG} {σ σ' : SG} {v : Option Value} {y yo : MethodName} {bytes : ByteArray} {maxL nL n idx k : Nat} {rt rto : Option FieldType} {As : List Value} {a : Array Value}
theorem call_go (hr : va_Run p l e R s m args below meth c H locs cells slots mc ms (F0 m pc ls st0) rest (PostC G σ' v a) (AG G)) (hS : va_S (AG G) H0 H locs)
    (kk : ∀ (H1 : Heap) (locs1 : List Loc), HH G σ' H1 → va_S (AG G) H0 H1 locs1 → W p l e R s m args below meth c H1 locs1 (cells + mc) (slots + ms) Q (F0 m (pc + 3) ls (v.toList ++ rest))) : W p l e R s m args below meth c H locs cells slots Q (F0 m pc ls st0) := by
  intro T hT X
  obtain ⟨v', st₀, t, T', L, h0, X', hL, e1, e2, ⟨hv, hh, hz, hk⟩, st⟩ := hr T hT X
  have hv := Outcome.returned.inj hv
  subst hv
  rw [h0] at hz hk
  obtain ⟨t2, a1, b1⟩ := kk T'.heap (locs ++ L) (by rw [e1]; exact hh)
    ⟨Nat.le_trans hS.1 (by rw [e1]; exact hz), fun q h1 h2 => by rw [e1, hk q (Nat.lt_of_lt_of_le h1 hS.1) h2]; exact hS.2.1 q h1 h2, fun q hq => by
      rcases List.mem_append.mp hq with h | h
      · exact hS.2.2 q h
      · exact hL q h⟩ T' rfl X'
  exact ⟨t2, st t2 a1, b1⟩
theorem PreS_of (hH : HH G σ H) (hK : KK G s) : PreS s H (PreC G σ As) As := ⟨PreC_blind, fun U hU hW => ⟨rfl, by rw [hU]; exact hH, hK.moved hW⟩⟩
theorem room20 {st : List Value} (h : (st.map fun v => v.category).sum ≤ 20) : 2 * (F0 m pc ls rest).monitorRoom + (st.map fun v => v.category).sum ≤ 20 := by
  show 2 * 0 + _ ≤ 20
  omega
theorem back20 (hM : Con l y bytes maxL rt k mc ms G σ As σ' v) (hts : ∀ w ∈ lw_all, w.before args s = true) (hcode : Cond.code y bytes maxL rt ∈ lw_all) (hini : Cond.initialized y.cls ∈ lw_all) (hR : k + 1 ≤ R.frames ∧ 20 + (maxL + 11) + 80 * k ≤ R.locals) : Back l R p e below s args y 3 20 (PreOf R mc ms (PreC G σ As)) (PostOf (PostC G σ' v) mc ms (AG G)) :=
  back_of (bytes := bytes) (maxL := maxL) (ret := rt) hM PreC_blind rfl rfl hR.1 hR.2 (pay_in hts (lw_meth hcode)) List.mem_cons_self (fun a' U hW => word_at hW (Or.inl (by first | rfl | simp [Cond.onTables, Cond.keeps, Cond.steady])) (hts _ hini))
theorem plen {n : Nat} (h : (parseMethodDescriptor y.desc).map (fun d => d.parameters.length) = some n) : ∀ sig, parseMethodDescriptor y.desc = some sig → n = sig.parameters.length := fun sig hs => by
  rw [hs] at h
  exact (Option.some.inj h).symm
/-- a static call -/
theorem r_S (X : Cx p s m args meth c cc rto nL yo) (hM : Con l y bytes maxL rt k mc ms G σ As σ' v) (hc : CalS y bytes maxL rt n) (q1 : Cond.methodLink yo.cls idx y ∈ lw_all) (hn : As.length = n) (hst : st0 = As.reverse ++ rest) (hls : ls.size = nL) (hrm : (rest.map fun v => v.category).sum ≤ 20) (hR : k + 1 ≤ R.frames ∧ 20 + (maxL + 11) + 80 * k ≤ R.locals) (hf : cells + mc ≤ R.cells ∧ slots + ms ≤ R.slots) (hdg : decode cc pc = .ok (.invokestatic idx, 3)) (hK : KK G s) (hH : HH G σ H) (hS : va_S (AG G) H0 H locs)
    (kk : ∀ (H1 : Heap) (locs1 : List Loc), HH G σ' H1 → va_S (AG G) H0 H1 locs1 → W p l e R s m args below meth c H1 locs1 (cells + mc) (slots + ms) Q (F0 m (pc + 3) ls (v.toList ++ rest))) : W p l e R s m args below meth c H locs cells slots Q (F0 m pc ls st0) := by
  obtain ⟨hx, hb, hr, hml, hown, hts, -⟩ := X
  obtain ⟨c1, c2, c3, c4⟩ := hc
  refine call_go (a := As.toArray) (fun T hT Y => ?_) hS kk
  obtain ⟨v, vm₁, ⟨U', l2, k2, s2⟩, hW₁, X', ⟨g', mk, t, L, e1, e2, hq, h1, hL, h2, h3⟩, st⟩ := callS Y hx (bytes := bytes) (maxL := maxL) (ret := rt) hown (hts _ q1) (hts _ c1) (hts _ c2) (hts _ c3) ⟨c4.1, c4.2.1⟩ (back20 hM hts c3 c2 hR) (g := F0 m pc ls st0) rfl (hls.trans hml.symm) (argsL := As) (rest := rest) (fun sig h => hn.trans (plen c4.2.2 sig h)) hst (room20 hrm) (by rw [hb]; exact hdg) (fun vm₁ hW₁ => ⟨hf.1, hf.2, (PreS_of (As := As) hH hK).2 (T.setVm vm₁) hT hW₁⟩)
  dsimp only [Pt.U, Pt.locs, Pt.cells, Pt.slots] at X' e1 e2 h1 h2 h3 st
  subst h1; subst h2; subst h3
  exact ⟨v, (T.setVm vm₁).calling g' mk As.toArray, t, U', L, hT, X', hL, e1, e2, hq, st⟩
/-- a call of a constructor -/
theorem r_I {b : Nat} (X : Cx p s m args meth c cc rto nL yo) (hM : Con l y bytes maxL none k mc ms G σ (.ref b :: As) σ' none) (hc : CalI y bytes maxL n) (q1 : Cond.methodLink yo.cls idx y ∈ lw_all) (hn : As.length = n) (hst : st0 = As.reverse ++ .ref b :: rest) (hls : ls.size = nL) (hrm : (rest.map fun v => v.category).sum ≤ 20) (hR : k + 1 ≤ R.frames ∧ 20 + (maxL + 11) + 80 * k ≤ R.locals) (hf : cells + mc ≤ R.cells ∧ slots + ms ≤ R.slots) (hdg : decode cc pc = .ok (.invokespecial idx, 3)) (hK : KK G s) (hH : HH G σ H) (hS : va_S (AG G) H0 H locs)
    (kk : ∀ (H1 : Heap) (locs1 : List Loc), HH G σ' H1 → va_S (AG G) H0 H1 locs1 → W p l e R s m args below meth c H1 locs1 (cells + mc) (slots + ms) Q (F0 m (pc + 3) ls rest)) : W p l e R s m args below meth c H locs cells slots Q (F0 m pc ls st0) := by
  obtain ⟨hx, hb, hr, hml, hown, hts, -⟩ := X
  obtain ⟨c1, c2, c3, c4, c5⟩ := hc
  refine call_go (v := none) (a := (Value.ref b :: As).toArray) (fun T hT Y => ?_) hS kk
  obtain ⟨v, vm₁, ⟨U', l2, k2, s2⟩, hW₁, X', ⟨g', mk, t, L, e1, e2, hq, h1, hL, h2, h3⟩, st⟩ := callI Y hx (bytes := bytes) (maxL := maxL) hown c4 (hts _ q1) (hts _ c1) (hts _ c3) ⟨c5.1, c5.2.1⟩ (back20 hM hts c3 c2 hR) (g := F0 m pc ls st0) rfl (hls.trans hml.symm) (a := b) (argsL := As) (rest := rest) (fun sig h => hn.trans (plen c5.2.2 sig h)) hst (room20 hrm) (by rw [hb]; exact hdg) (fun vm₁ hW₁ => ⟨hf.1, hf.2, (PreS_of (As := .ref b :: As) hH hK).2 (T.setVm vm₁) hT hW₁⟩)
  dsimp only [Pt.U, Pt.locs, Pt.cells, Pt.slots] at X' e1 e2 h1 h2 h3 st
  subst h1; subst h2; subst h3
  exact ⟨v, (T.setVm vm₁).calling g' mk (Value.ref b :: As).toArray, t, U', L, hT, X', hL, e1, e2, hq, st⟩
theorem recv_of_HH {b ci : Nat} {fs : List Value} {w : vw_C} (hK : KK G s) (hH : HH G σ H) (hb : σ.2 b = some (.inr (ci, fs))) (hc : vwCl[ci]? = some w) : ∃ cell : Cell, H[b]? = some cell ∧ cell.vm.isStatics = false ∧ s.vm.findClass w.1 = some cell.cls := by
  obtain ⟨⟨q', h1, cell, g1, g2, g3, -⟩, -⟩ := hH.2 b _ hb
  exact ⟨cell, g1, by rw [g3]; rfl, by rw [g2]; exact (hK.1.1 ci w hc).2.1⟩
/-- a call of a method of the receiver's own class -/
theorem r_V {b : Nat} {C : String} (X : Cx p s m args meth c cc rto nL yo) (hM : Con l y bytes maxL rt k mc ms G σ (.ref b :: As) σ' v) (hc : CalV C y bytes maxL rt n) (q1 : Cond.methodLink yo.cls idx y ∈ lw_all) (hrv : ∃ cell : Cell, H[b]? = some cell ∧ cell.vm.isStatics = false ∧ s.vm.findClass C = some cell.cls) (hn : As.length = n) (hst : st0 = As.reverse ++ .ref b :: rest) (hls : ls.size = nL) (hrm : (rest.map fun v => v.category).sum ≤ 20) (hR : k + 1 ≤ R.frames ∧ 20 + (maxL + 11) + 80 * k ≤ R.locals) (hf : cells + mc ≤ R.cells ∧ slots + ms ≤ R.slots) (hdg : decode cc pc = .ok (.invokevirtual idx, 3)) (hK : KK G s) (hH : HH G σ H) (hS : va_S (AG G) H0 H locs)
    (kk : ∀ (H1 : Heap) (locs1 : List Loc), HH G σ' H1 → va_S (AG G) H0 H1 locs1 → W p l e R s m args below meth c H1 locs1 (cells + mc) (slots + ms) Q (F0 m (pc + 3) ls (v.toList ++ rest))) : W p l e R s m args below meth c H locs cells slots Q (F0 m pc ls st0) := by
  obtain ⟨hx, hb, hr, hml, hown, hts, -⟩ := X
  obtain ⟨c1, c2, c3, c4, c5⟩ := hc
  obtain ⟨cellB, hcB, hoB, hclB⟩ := hrv
  refine call_go (a := (Value.ref b :: As).toArray) (fun T hT Y => ?_) hS kk
  obtain ⟨v, vm₁, ⟨U', l2, k2, s2⟩, hW₁, X', ⟨g', mk, t, L, e1, e2, hq, h1, hL, h2, h3⟩, st⟩ := callV Y hx (C := C) (bytes := bytes) (maxL := maxL) (ret := rt) hown (hts _ q1) (hts _ c1) (hts _ c2) (hts _ c4) ⟨c5.2.1, c5.2.2.1⟩ (back20 hM hts c4 (by rw [c5.1]; exact c3) hR) (by rw [hT]; exact hcB) hoB hclB (g := F0 m pc ls st0) rfl (hls.trans hml.symm) (argsL := As) (rest := rest) (fun sig h => hn.trans (plen c5.2.2.2 sig h)) hst (room20 hrm) (by rw [hb]; exact hdg) (fun vm₁ hW₁ => ⟨hf.1, hf.2, (PreS_of (As := .ref b :: As) hH hK).2 (T.setVm vm₁) hT hW₁⟩)
  dsimp only [Pt.U, Pt.locs, Pt.cells, Pt.slots] at X' e1 e2 h1 h2 h3 st
  subst h1; subst h2; subst h3
  exact ⟨v, (T.setVm vm₁).calling g' mk (Value.ref b :: As).toArray, t, U', L, hT, X', hL, e1, e2, hq, st⟩
theorem r_Si {r : Int32} (X : Cx p s m args meth c cc rto nL yo) (hM : Con l y bytes maxL rt k mc ms G σ As σ' (some (.int r))) (hc : CalS y bytes maxL rt n) (q1 : Cond.methodLink yo.cls idx y ∈ lw_all) (hn : As.length = n) (hst : st0 = As.reverse ++ rest) (hls : ls.size = nL) (hrm : (rest.map fun v => v.category).sum ≤ 20) (hR : k + 1 ≤ R.frames ∧ 20 + (maxL + 11) + 80 * k ≤ R.locals) (hf : cells + mc ≤ R.cells ∧ slots + ms ≤ R.slots) (hdg : decode cc pc = .ok (.invokestatic idx, 3)) (hK : KK G s) (hH : HH G σ H) (hS : va_S (AG G) H0 H locs)
    (kk : ∀ (H1 : Heap) (locs1 : List Loc), HH G σ' H1 → va_S (AG G) H0 H1 locs1 → W p l e R s m args below meth c H1 locs1 (cells + mc) (slots + ms) Q (F0 m (pc + 3) ls (.int r :: rest))) : W p l e R s m args below meth c H locs cells slots Q (F0 m pc ls st0) := r_S X hM hc q1 hn hst hls hrm hR hf hdg hK hH hS kk
theorem r_Sl {r : Int64} (X : Cx p s m args meth c cc rto nL yo) (hM : Con l y bytes maxL rt k mc ms G σ As σ' (some (.long r))) (hc : CalS y bytes maxL rt n) (q1 : Cond.methodLink yo.cls idx y ∈ lw_all) (hn : As.length = n) (hst : st0 = As.reverse ++ rest) (hls : ls.size = nL) (hrm : (rest.map fun v => v.category).sum ≤ 20) (hR : k + 1 ≤ R.frames ∧ 20 + (maxL + 11) + 80 * k ≤ R.locals) (hf : cells + mc ≤ R.cells ∧ slots + ms ≤ R.slots) (hdg : decode cc pc = .ok (.invokestatic idx, 3)) (hK : KK G s) (hH : HH G σ H) (hS : va_S (AG G) H0 H locs)
    (kk : ∀ (H1 : Heap) (locs1 : List Loc), HH G σ' H1 → va_S (AG G) H0 H1 locs1 → W p l e R s m args below meth c H1 locs1 (cells + mc) (slots + ms) Q (F0 m (pc + 3) ls (.long r :: rest))) : W p l e R s m args below meth c H locs cells slots Q (F0 m pc ls st0) := r_S X hM hc q1 hn hst hls hrm hR hf hdg hK hH hS kk
theorem r_Sv (X : Cx p s m args meth c cc rto nL yo) (hM : Con l y bytes maxL rt k mc ms G σ As σ' none) (hc : CalS y bytes maxL rt n) (q1 : Cond.methodLink yo.cls idx y ∈ lw_all) (hn : As.length = n) (hst : st0 = As.reverse ++ rest) (hls : ls.size = nL) (hrm : (rest.map fun v => v.category).sum ≤ 20) (hR : k + 1 ≤ R.frames ∧ 20 + (maxL + 11) + 80 * k ≤ R.locals) (hf : cells + mc ≤ R.cells ∧ slots + ms ≤ R.slots) (hdg : decode cc pc = .ok (.invokestatic idx, 3)) (hK : KK G s) (hH : HH G σ H) (hS : va_S (AG G) H0 H locs)
    (kk : ∀ (H1 : Heap) (locs1 : List Loc), HH G σ' H1 → va_S (AG G) H0 H1 locs1 → W p l e R s m args below meth c H1 locs1 (cells + mc) (slots + ms) Q (F0 m (pc + 3) ls rest)) : W p l e R s m args below meth c H locs cells slots Q (F0 m pc ls st0) := r_S X hM hc q1 hn hst hls hrm hR hf hdg hK hH hS kk
theorem r_Vi {r : Int32} {b : Nat} {C : String} (X : Cx p s m args meth c cc rto nL yo) (hM : Con l y bytes maxL rt k mc ms G σ (.ref b :: As) σ' (some (.int r))) (hc : CalV C y bytes maxL rt n) (q1 : Cond.methodLink yo.cls idx y ∈ lw_all) (hrv : ∃ cell : Cell, H[b]? = some cell ∧ cell.vm.isStatics = false ∧ s.vm.findClass C = some cell.cls) (hn : As.length = n) (hst : st0 = As.reverse ++ .ref b :: rest) (hls : ls.size = nL) (hrm : (rest.map fun v => v.category).sum ≤ 20) (hR : k + 1 ≤ R.frames ∧ 20 + (maxL + 11) + 80 * k ≤ R.locals) (hf : cells + mc ≤ R.cells ∧ slots + ms ≤ R.slots) (hdg : decode cc pc = .ok (.invokevirtual idx, 3)) (hK : KK G s) (hH : HH G σ H) (hS : va_S (AG G) H0 H locs)
    (kk : ∀ (H1 : Heap) (locs1 : List Loc), HH G σ' H1 → va_S (AG G) H0 H1 locs1 → W p l e R s m args below meth c H1 locs1 (cells + mc) (slots + ms) Q (F0 m (pc + 3) ls (.int r :: rest))) : W p l e R s m args below meth c H locs cells slots Q (F0 m pc ls st0) := r_V X hM hc q1 hrv hn hst hls hrm hR hf hdg hK hH hS kk
theorem r_Vl {r : Int64} {b : Nat} {C : String} (X : Cx p s m args meth c cc rto nL yo) (hM : Con l y bytes maxL rt k mc ms G σ (.ref b :: As) σ' (some (.long r))) (hc : CalV C y bytes maxL rt n) (q1 : Cond.methodLink yo.cls idx y ∈ lw_all) (hrv : ∃ cell : Cell, H[b]? = some cell ∧ cell.vm.isStatics = false ∧ s.vm.findClass C = some cell.cls) (hn : As.length = n) (hst : st0 = As.reverse ++ .ref b :: rest) (hls : ls.size = nL) (hrm : (rest.map fun v => v.category).sum ≤ 20) (hR : k + 1 ≤ R.frames ∧ 20 + (maxL + 11) + 80 * k ≤ R.locals) (hf : cells + mc ≤ R.cells ∧ slots + ms ≤ R.slots) (hdg : decode cc pc = .ok (.invokevirtual idx, 3)) (hK : KK G s) (hH : HH G σ H) (hS : va_S (AG G) H0 H locs)
    (kk : ∀ (H1 : Heap) (locs1 : List Loc), HH G σ' H1 → va_S (AG G) H0 H1 locs1 → W p l e R s m args below meth c H1 locs1 (cells + mc) (slots + ms) Q (F0 m (pc + 3) ls (.long r :: rest))) : W p l e R s m args below meth c H locs cells slots Q (F0 m pc ls st0) := r_V X hM hc q1 hrv hn hst hls hrm hR hf hdg hK hH hS kk
theorem r_Vv {b : Nat} {C : String} (X : Cx p s m args meth c cc rto nL yo) (hM : Con l y bytes maxL rt k mc ms G σ (.ref b :: As) σ' none) (hc : CalV C y bytes maxL rt n) (q1 : Cond.methodLink yo.cls idx y ∈ lw_all) (hrv : ∃ cell : Cell, H[b]? = some cell ∧ cell.vm.isStatics = false ∧ s.vm.findClass C = some cell.cls) (hn : As.length = n) (hst : st0 = As.reverse ++ .ref b :: rest) (hls : ls.size = nL) (hrm : (rest.map fun v => v.category).sum ≤ 20) (hR : k + 1 ≤ R.frames ∧ 20 + (maxL + 11) + 80 * k ≤ R.locals) (hf : cells + mc ≤ R.cells ∧ slots + ms ≤ R.slots) (hdg : decode cc pc = .ok (.invokevirtual idx, 3)) (hK : KK G s) (hH : HH G σ H) (hS : va_S (AG G) H0 H locs)
    (kk : ∀ (H1 : Heap) (locs1 : List Loc), HH G σ' H1 → va_S (AG G) H0 H1 locs1 → W p l e R s m args below meth c H1 locs1 (cells + mc) (slots + ms) Q (F0 m (pc + 3) ls rest)) : W p l e R s m args below meth c H locs cells slots Q (F0 m pc ls st0) := r_V X hM hc q1 hrv hn hst hls hrm hR hf hdg hK hH hS kk
/-! ends -/
theorem r_iret {r : Int32} (X : Cx p s m args meth c cc (some .int) nL yo) (hdg : decode cc pc = .ok (.ireturn, 1)) (h1 : cells ≤ mc) (h2 : slots ≤ ms) (hv : v = some (.int r)) (hH : HH G σ' H) (hS : va_S (AG G) s.heap H locs) : W p l e R s m args below meth c H locs cells slots (MQ below (PostC G σ' v) args s mc ms (AG G)) (F0 m pc ls [.int r]) := by
  subst hv
  exact W.widen h1 h2 (W.iret X.1 X.2.1 X.2.2.1 (fun t ht hW => ⟨rfl, by rw [ht]; exact hH, hS.F ht⟩) hS.2.2 hdg X.2.2.2.2.2.2.1)
theorem r_zret {r : Int32} (X : Cx p s m args meth c cc (some .boolean) nL yo) (hdg : decode cc pc = .ok (.ireturn, 1)) (h1 : cells ≤ mc) (h2 : slots ≤ ms) (hz : narrow .boolean (.int r) = .int r) (hv : v = some (.int r)) (hH : HH G σ' H) (hS : va_S (AG G) s.heap H locs) : W p l e R s m args below meth c H locs cells slots (MQ below (PostC G σ' v) args s mc ms (AG G)) (F0 m pc ls [.int r]) := by
  subst hv
  exact W.widen h1 h2 (W.zret X.1 X.2.1 X.2.2.1 hz (fun t ht hW => ⟨rfl, by rw [ht]; exact hH, hS.F ht⟩) hS.2.2 hdg X.2.2.2.2.2.2.1)
theorem r_lret {r : Int64} (X : Cx p s m args meth c cc (some .long) nL yo) (hdg : decode cc pc = .ok (.lreturn, 1)) (h1 : cells ≤ mc) (h2 : slots ≤ ms) (hv : v = some (.long r)) (hH : HH G σ' H) (hS : va_S (AG G) s.heap H locs) : W p l e R s m args below meth c H locs cells slots (MQ below (PostC G σ' v) args s mc ms (AG G)) (F0 m pc ls [.long r]) := by
  subst hv
  exact W.widen h1 h2 (W.lret X.1 X.2.1 X.2.2.1 (fun t ht hW => ⟨rfl, by rw [ht]; exact hH, hS.F ht⟩) hS.2.2 hdg X.2.2.2.2.2.2.1)
theorem r_vret (X : Cx p s m args meth c cc none nL yo) (hdg : decode cc pc = .ok (.return_, 1)) (h1 : cells ≤ mc) (h2 : slots ≤ ms) (hv : v = none) (hH : HH G σ' H) (hS : va_S (AG G) s.heap H locs) : W p l e R s m args below meth c H locs cells slots (MQ below (PostC G σ' v) args s mc ms (AG G)) (F0 m pc ls []) := by
  subst hv
  exact W.widen h1 h2 (W.vret X.1 X.2.1 X.2.2.1 (fun t ht hW => ⟨rfl, by rw [ht]; exact hH, hS.F ht⟩) hS.2.2 hdg X.2.2.2.2.2.2.1)
theorem r_aret {w : Value} {ty : FieldType} (X : Cx p s m args meth c cc (some ty) nL yo) (hty : (∃ n, ty = .object n) ∨ ∃ t, ty = .array t) (hw : w = .null ∨ ∃ a, w = .ref a) (hdg : decode cc pc = .ok (.areturn, 1)) (h1 : cells ≤ mc) (h2 : slots ≤ ms) (hv : v = some w) (hH : HH G σ' H) (hS : va_S (AG G) s.heap H locs) : W p l e R s m args below meth c H locs cells slots (MQ below (PostC G σ' v) args s mc ms (AG G)) (F0 m pc ls [w]) := by
  subst hv
  exact W.widen h1 h2 (W.aret X.1 X.2.1 X.2.2.1 hty hw (fun t ht hW => ⟨rfl, by rw [ht]; exact hH, hS.F ht⟩) hS.2.2 hdg X.2.2.2.2.2.2.1)
/-! partial operations as rows -/
theorem r_irem {x y' r : Int32} (hx : p.tables.exec = Jvm.exec) (hb : c.code = cc) (h : irem x y' = some r) (hdg : decode cc pc = .ok (.irem, 1)) (k : W p l e R s m args below meth c H locs cells slots Q (F0 m (pc + 1) ls (.int r :: rest))) : W p l e R s m args below meth c H locs cells slots Q (F0 m pc ls (.int y' :: .int x :: rest)) := by
  obtain ⟨h1, h2⟩ := irem_s h
  exact lv_irem hx hb hdg h1 (by rw [h2]; exact k)
theorem r_idiv {x y' r : Int32} (hx : p.tables.exec = Jvm.exec) (hb : c.code = cc) (h : idiv x y' = some r) (hdg : decode cc pc = .ok (.idiv, 1)) (k : W p l e R s m args below meth c H locs cells slots Q (F0 m (pc + 1) ls (.int r :: rest))) : W p l e R s m args below meth c H locs cells slots Q (F0 m pc ls (.int y' :: .int x :: rest)) := by
  obtain ⟨h1, h2⟩ := idiv_s h
  exact lv_idiv hx hb hdg h1 (by rw [h2]; exact k)
theorem r_lrem {x y' r : Int64} (hx : p.tables.exec = Jvm.exec) (hb : c.code = cc) (h : lrem x y' = some r) (hdg : decode cc pc = .ok (.lrem, 1)) (k : W p l e R s m args below meth c H locs cells slots Q (F0 m (pc + 1) ls (.long r :: rest))) : W p l e R s m args below meth c H locs cells slots Q (F0 m pc ls (.long y' :: .long x :: rest)) := by
  obtain ⟨h1, h2⟩ := lrem_s h
  exact lv_lrem hx hb hdg h1 (by rw [h2]; exact k)
theorem r_ldiv {x y' r : Int64} (hx : p.tables.exec = Jvm.exec) (hb : c.code = cc) (h : ldiv x y' = some r) (hdg : decode cc pc = .ok (.ldiv, 1)) (k : W p l e R s m args below meth c H locs cells slots Q (F0 m (pc + 1) ls (.long r :: rest))) : W p l e R s m args below meth c H locs cells slots Q (F0 m pc ls (.long y' :: .long x :: rest)) := by
  obtain ⟨h1, h2⟩ := ldiv_s h
  exact lv_ldiv hx hb hdg h1 (by rw [h2]; exact k)
/-! fields and arrays over an abstract heap -/
theorem hh_get {C own ref : String} {T : u_T} {N ci index b : Nat} {fs : List Value} {w : Value} (hx : p.tables.exec = Jvm.exec) (hb : c.code = cc) (hown : s.vm.findClass own = some m.cls) (hts : ∀ w ∈ lw_all, w.before args s = true) (hin : ∀ w ∈ u_ws C T N, w ∈ lw_all) (hK : KK G s) (hH : HH G σ H) (he : σ.2 b = some (.inr (ci, fs))) (hc : vwCl[ci]? = some (C, T, N)) (k : Nat) (hk : k < N) (hlink : Cond.fieldLink own index ref (T k).2.1 (T k).2.2.1 ∈ lw_all) (href : (T k).1 = ref) (hv : fs[k]? = some w) (hdg : decode cc pc = .ok (.getfield index, 3))
    (kk : W p l e R s m args below meth c H locs cells slots Q (F0 m (pc + 3) ls (w :: rest))) : W p l e R s m args below meth c H locs cells slots Q (F0 m pc ls (.ref b :: rest)) := by
  subst href
  exact va_get (D := (G.1, G.2.1)) (cl := vwCl) (ws := [(b, .inr (ci, fs))]) hx hb hts hin hown hK.1 (fun k q hq => by
    cases k with
    | zero => cases hq; exact (hH.2 b _ he).1
    | succ k => simp at hq) 0 rfl hc k hk (hts _ hlink) (fun _ h => h) hv hdg kk
theorem hh_put {C own ref : String} {T : u_T} {N ci index b : Nat} {fs : List Value} {w : Value} (hx : p.tables.exec = Jvm.exec) (hb : c.code = cc) (hown : s.vm.findClass own = some m.cls) (hts : ∀ w ∈ lw_all, w.before args s = true) (hin : ∀ w ∈ u_ws C T N, w ∈ lw_all) (ty0 : Nat → FieldType) (hty : ∀ k, k < N → parseFieldDescriptor (T k).2.2.1 = some (ty0 k)) (hnm : ∀ a, a < N → ∀ b, b < N → a ≠ b → (T a).2.1 ≠ (T b).2.1) (hK : KK G s) (hH : HH G σ H) (hS : va_S (AG G) H0 H locs) (he : σ.2 b = some (.inr (ci, fs))) (hc : vwCl[ci]? = some (C, T, N)) (k : Nat) (hk : k < N) (hlink : Cond.fieldLink own index ref (T k).2.1 (T k).2.2.1 ∈ lw_all) (href : (T k).1 = ref) (hfin : (T k).2.2.2 = false) {ty : FieldType} (hd : parseFieldDescriptor (T k).2.2.1 = some ty) (hn : narrow ty w = w) (hfit : fits ty w = true) (hl : k < fs.length) (hdg : decode cc pc = .ok (.putfield index, 3))
    (kk : ∀ (H1 : Heap) (locs1 : List Loc), HH G (σ.1, va_up σ.2 b (some (.inr (ci, fs.set k w)))) H1 → va_S (AG G) H0 H1 locs1 → W p l e R s m args below meth c H1 locs1 cells slots Q (F0 m (pc + 3) ls rest)) : W p l e R s m args below meth c H locs cells slots Q (F0 m pc ls (w :: .ref b :: rest)) := by
  subst href
  have hap := va_apart (own := own) hts hin ty0 hty hnm hK.1 hc
  obtain ⟨⟨r, h1, cell, q1, q2, q3, q4⟩, hge⟩ := hH.2 b _ he
  have hr : r = (C, T, N) := Option.some.inj (h1.symm.trans hc)
  subst hr
  obtain ⟨hSl, hfc, kC, hkC, hkind⟩ := hK.1.1 ci _ hc
  obtain ⟨cf, kf, fi, f, hi, hsl⟩ := hSl k hk
  have hlay := hts _ (hin _ (u_in_lay hk))
  unfold u_lay at hlay
  rw [if_neg (by rw [hfin]; decide)] at hlay
  have hst := (u_facts hfc hkC (u_lays hts hin hk) hi).1
  have h6 := u_store hfc hkC hkind hlay hi hd hn hfit
  refine W.putK hx hb (f := f) ⟨hown, hts _ hlink, ⟨_, _, _, hi⟩, hst⟩ (by rw [q2]; exact h6) q1 q3 (by rw [hsl]; exact k2_hasslot (q4 k hk)) rfl rfl hdg fun H' e1 e2 e3 => ?_
  rw [hsl] at e1 ⊢
  exact kk H' _ (hH.put e2 ⟨_, hc, t_OB.to (V := updV (vp_V fs) k w) ⟨_, e1, q2, q3, t_set q4 hap hk w⟩ (fun j _ => vp_updV_set hl w j)⟩ hge e3) (hS.put e2 e3 hge)
theorem hh_iald {b n : Nat} {f : Nat → Int32} {i r : Int32} (hx : p.tables.exec = Jvm.exec) (hb : c.code = cc) (hK : KK G s) (hH : HH G σ H) (he : σ.2 b = some (.inl (0, n, .inl f))) (h : ald f n i = some r) (hdg : decode cc pc = .ok (.iaload, 1))
    (kk : W p l e R s m args below meth c H locs cells slots Q (F0 m (pc + 1) ls (.int r :: rest))) : W p l e R s m args below meth c H locs cells slots Q (F0 m pc ls (.int i :: .ref b :: rest)) := by
  obtain ⟨hin, hv⟩ := ald_s h
  subst hv
  exact va_iald (D := (G.1, G.2.1)) (cl := vwCl) (ws := [(b, .inl (G.2.2.1 0, n, .inl f))]) hx hb hK.1 (fun k q hq => by
    cases k with
    | zero => cases hq; exact (hH.2 b _ he).1
    | succ k => simp at hq) 0 0 rfl rfl hin hdg kk
theorem hh_bald {b n : Nat} {f : Nat → Int32} {i r : Int32} (hx : p.tables.exec = Jvm.exec) (hb : c.code = cc) (hK : KK G s) (hH : HH G σ H) (he : σ.2 b = some (.inl (2, n, .inl f))) (h : ald f n i = some r) (hdg : decode cc pc = .ok (.baload, 1))
    (kk : W p l e R s m args below meth c H locs cells slots Q (F0 m (pc + 1) ls (.int r :: rest))) : W p l e R s m args below meth c H locs cells slots Q (F0 m pc ls (.int i :: .ref b :: rest)) := by
  obtain ⟨hin, hv⟩ := ald_s h
  subst hv
  exact va_bald (D := (G.1, G.2.1)) (cl := vwCl) (ws := [(b, .inl (G.2.2.1 2, n, .inl f))]) hx hb hK.1 (fun k q hq => by
    cases k with
    | zero => cases hq; exact (hH.2 b _ he).1
    | succ k => simp at hq) 0 2 rfl rfl hin hdg kk
theorem hh_lald {b n : Nat} {f : Nat → Int64} {i : Int32} {r : Int64} (hx : p.tables.exec = Jvm.exec) (hb : c.code = cc) (hK : KK G s) (hH : HH G σ H) (he : σ.2 b = some (.inl (1, n, .inr (.inl f)))) (h : ald f n i = some r) (hdg : decode cc pc = .ok (.laload, 1))
    (kk : W p l e R s m args below meth c H locs cells slots Q (F0 m (pc + 1) ls (.long r :: rest))) : W p l e R s m args below meth c H locs cells slots Q (F0 m pc ls (.int i :: .ref b :: rest)) := by
  obtain ⟨hin, hv⟩ := ald_s h
  subst hv
  exact va_lald (D := (G.1, G.2.1)) (cl := vwCl) (ws := [(b, .inl (G.2.2.1 1, n, .inr (.inl f)))]) hx hb hK.1 (fun k q hq => by
    cases k with
    | zero => cases hq; exact (hH.2 b _ he).1
    | succ k => simp at hq) 0 1 rfl rfl hin hdg kk
theorem hh_iast {b n : Nat} {f f' : Nat → Int32} {i x : Int32} (hx : p.tables.exec = Jvm.exec) (hb : c.code = cc) (hK : KK G s) (hH : HH G σ H) (hS : va_S (AG G) H0 H locs) (he : σ.2 b = some (.inl (0, n, .inl f))) (h : iast f n i x = some f') (hdg : decode cc pc = .ok (.iastore, 1))
    (kk : ∀ (H1 : Heap) (locs1 : List Loc), HH G (σ.1, va_up σ.2 b (some (.inl (0, n, .inl f')))) H1 → va_S (AG G) H0 H1 locs1 → W p l e R s m args below meth c H1 locs1 cells slots Q (F0 m (pc + 1) ls rest)) : W p l e R s m args below meth c H locs cells slots Q (F0 m pc ls (.int x :: .int i :: .ref b :: rest)) := by
  obtain ⟨hin, hv⟩ := iast_s h
  subst hv
  obtain ⟨h1, hge⟩ := hH.2 b _ he
  refine W.iast hx hb h1 ((hK.1.2 0 _ rfl).1 n (fun j => .int (f j))) (fun q => by cases q) (by show ¬ (i < 0 ∨ (arrV _ _ _).slots.size ≤ _); rw [arrV_size]; exact hin) rfl rfl hdg fun H1 e z oq => ?_
  refine kk H1 _ (hH.put z ?_ hge oq) (hS.put z oq hge)
  have e : H1[b]? = some ((vp_cell (G.2.2.1 0) (n, Sum.inl f)).setSlot i.toNatClampNeg (.int x)) := e
  show H1[b]? = some (vp_cell (G.2.2.1 0) (n, Sum.inl (upd f i.toNatClampNeg x)))
  rw [e, vp_cell_i, vp_cell_i, arrV_store]
  congr 2
  funext q
  by_cases hq : q = i.toNatClampNeg
  · subst hq
    simp [updV, upd]
  · simp [updV, upd, hq]
theorem hh_last {b n : Nat} {f f' : Nat → Int64} {i : Int32} {x : Int64} (hx : p.tables.exec = Jvm.exec) (hb : c.code = cc) (hK : KK G s) (hH : HH G σ H) (hS : va_S (AG G) H0 H locs) (he : σ.2 b = some (.inl (1, n, .inr (.inl f)))) (h : last f n i x = some f') (hdg : decode cc pc = .ok (.lastore, 1))
    (kk : ∀ (H1 : Heap) (locs1 : List Loc), HH G (σ.1, va_up σ.2 b (some (.inl (1, n, .inr (.inl f'))))) H1 → va_S (AG G) H0 H1 locs1 → W p l e R s m args below meth c H1 locs1 cells slots Q (F0 m (pc + 1) ls rest)) : W p l e R s m args below meth c H locs cells slots Q (F0 m pc ls (.long x :: .int i :: .ref b :: rest)) := by
  obtain ⟨hin, hv⟩ := last_s h
  subst hv
  obtain ⟨h1, hge⟩ := hH.2 b _ he
  refine W.last hx hb h1 ((hK.1.2 1 _ rfl).1 n (fun j => .long (f j))) (fun q => by cases q) (by show ¬ (i < 0 ∨ (arrV _ _ _).slots.size ≤ _); rw [arrV_size]; exact hin) rfl rfl hdg fun H1 e z oq => ?_
  refine kk H1 _ (hH.put z ?_ hge oq) (hS.put z oq hge)
  have e : H1[b]? = some ((vp_cell (G.2.2.1 1) (n, Sum.inr (Sum.inl f))).setSlot i.toNatClampNeg (.long x)) := e
  show H1[b]? = some (vp_cell (G.2.2.1 1) (n, Sum.inr (Sum.inl (vp_updL f i.toNatClampNeg x))))
  rw [e, vp_cell_l, vp_cell_l, arrV_store]
  congr 2
  funext q
  by_cases hq : q = i.toNatClampNeg
  · subst hq
    simp [updV, vp_updL]
  · simp [updV, vp_updL, hq]
end BCALL
