/-! ===== T13: System.arraycopy of bytes; beyond the arrays ===== -/
set_option maxRecDepth 100000
/-- the copy is out of bounds, both arrays long[] or both byte[] -/
def cpO (σ : SG) (a : Nat) (sp : Int32) (b : Nat) (dp n : Int32) : Bool := match σ.2 a, σ.2 b with
  | some (.inl (1, n0, .inr (.inl _))), some (.inl (1, n1, .inr (.inl _))) => decide (n0 < 2 ^ 31 ∧ n1 < 2 ^ 31 ∧ (sp < 0 ∨ dp < 0 ∨ n < 0 ∨ n0 < sp.toNatClampNeg + n.toNatClampNeg ∨ n1 < dp.toNatClampNeg + n.toNatClampNeg))
  | some (.inl (2, n0, .inl _)), some (.inl (2, n1, .inl _)) => decide (n0 < 2 ^ 31 ∧ n1 < 2 ^ 31 ∧ (sp < 0 ∨ dp < 0 ∨ n < 0 ∨ n0 < sp.toNatClampNeg + n.toNatClampNeg ∨ n1 < dp.toNatClampNeg + n.toNatClampNeg))
  | _, _ => false
def fitB (f : Nat → Int32) (sp n : Nat) : Bool := (List.range n).all (fun i => fits .byte (.int (f (sp + i))))
def cpB (σ : SG) (a : Nat) (sp : Int32) (b : Nat) (dp n : Int32) : Option SG := match σ.2 a, σ.2 b with
  | some (.inl (2, n0, .inl f)), some (.inl (2, n1, .inl g)) => if sp < 0 ∨ dp < 0 ∨ n < 0 ∨ n0 < sp.toNatClampNeg + n.toNatClampNeg ∨ n1 < dp.toNatClampNeg + n.toNatClampNeg ∨ fitB f sp.toNatClampNeg n.toNatClampNeg = false then none else some (σ.1, va_up σ.2 b (some (.inl (2, n1, .inl (va_cpy f g sp.toNatClampNeg dp.toNatClampNeg n.toNatClampNeg)))))
  | _, _ => none
def cpA (σ : SG) (a : Nat) (sp : Int32) (b : Nat) (dp n : Int32) : Option SG := if kd σ a = some 1 then cpL σ a sp b dp n else if kd σ a = some 2 then cpB σ a sp b dp n else none
theorem nn32 (z : Int32) (hz : ¬ z < 0) : z.toInt = (z.toNatClampNeg : Int) := by
  have hz0 : (0 : Int) ≤ z.toInt := by simpa using Int32.le_iff_toInt_le.mp (Int32.not_lt.mp hz)
  show z.toInt = ((z.toInt.toNat : Nat) : Int)
  omega
/-! the texts -/
theorem tw_a {w : String} (h : w.toList.length ≤ 200) : Tx ("arraycopy: " ++ w) 1000 := by
  have e : ("arraycopy: " ++ w).toList = 'a' :: ("rraycopy: ".toList ++ w.toList) := by
    rw [String.toList_append]
    rfl
  refine ⟨?_, ?_⟩
  · rw [beq_eq_false_iff_ne]
    intro h1
    have h2 := congrArg String.toList h1
    rw [e] at h2
    have h4 : notModelled.toList = '\u0000' :: " a message that is not modelled".toList := by decide
    rw [h4] at h2
    simp at h2
  · have b1 := stringBytes_size_le (stringToUtf16 ("arraycopy: " ++ w))
    have b2 := utf16_size_le ("arraycopy: " ++ w)
    have b3 : ("arraycopy: " ++ w).toList.length ≤ 211 := by
      rw [e, List.length_cons, List.length_append]
      have : "rraycopy: ".toList.length = 10 := by decide
      omega
    omega
theorem pr_int {i : Int} (h1 : -(2 : Int) ^ 33 ≤ i) (h2 : i < 2 ^ 33) : (toString i).toList.length ≤ 11 := by
  show (Int.repr i).toList.length ≤ 11
  cases i with
  | ofNat m =>
    have h2' : (m : Int) < 2 ^ 33 := h2
    have := nat_print (n := m) (by omega)
    show (toString m).toList.length ≤ 11
    omega
  | negSucc m =>
    have h1' : -(2 : Int) ^ 33 ≤ -((m : Int) + 1) := by simpa [Int.negSucc_eq] using h1
    have := nat_print (n := m.succ) (by omega)
    show ("-" ++ toString m.succ).toList.length ≤ 11
    rw [String.toList_append, List.length_append]
    have h0 : "-".toList.length = 1 := by decide
    omega
theorem wl_1 {h x k : String} {n : Nat} (hh : h.toList.length ≤ 30) (hx : x.toList.length ≤ 11) (hk : k.toList.length ≤ 10) (hn : n < 2 ^ 31) : (h ++ x ++ " out of bounds for " ++ (k ++ "[" ++ toString n ++ "]")).toList.length ≤ 200 := by
  simp only [String.toList_append, List.length_append]
  have a1 : " out of bounds for ".toList.length = 19 := by decide
  have a2 : "[".toList.length = 1 := by decide
  have a3 : "]".toList.length = 1 := by decide
  have a4 := nat_print (n := n) (by omega)
  omega
theorem wl_2 {h x k : String} (hh : h.toList.length ≤ 30) (hx : x.toList.length ≤ 11) (hk : k.toList.length ≤ 30) : (h ++ x ++ k).toList.length ≤ 200 := by
  simp only [String.toList_append, List.length_append]
  omega
theorem kn_le {ty : FieldType} (hty : ty = .long ∨ ty = .byte) : (Native.java_lang_System.arraycopy.kindName ty).toList.length ≤ 10 := by
  rcases hty with rfl | rfl <;> decide
/-- what arraycopy does with bounds that are wrong -/
theorem n_sem {E : CtlPost} {Q : Option Value → Pre} {e : Env} {d : Bool} {acts : List Action} {s : State} {src dst : Addr} {sp dp len : Int32} {cs cd : Cell} {ks kd' : Class} {sC dC : ClassId} {ty : FieldType} (hty : ty = .long ∨ ty = .byte)
    (hs : s.heap[src]? = some cs) (hd : s.heap[dst]? = some cd) (hsobj : ∀ k, cs.vm ≠ .statics k) (hdobj : ∀ k, cd.vm ≠ .statics k)
    (hks : s.vm.classes[cs.cls]? = some ks) (hkd : s.vm.classes[cd.cls]? = some kd') (hsk : ks.kind = .array sC ty) (hdk : kd'.kind = .array dC ty) (hn0 : cs.slots.size < 2 ^ 31) (hn1 : cd.slots.size < 2 ^ 31)
    (ho : sp < 0 ∨ dp < 0 ∨ len < 0 ∨ cs.slots.size < sp.toNatClampNeg + len.toNatClampNeg ∨ cd.slots.size < dp.toNatClampNeg + len.toNatClampNeg)
    (hE : ∀ text, Tx text 1000 → E (.throwNew "java/lang/ArrayIndexOutOfBoundsException" (some text)) acts s) : wp (Native.java_lang_System.arraycopy.sem #[.ref src, .int sp, .ref dst, .int dp, .int len]) Q E e d acts s := by
  have hk := kn_le hty
  have hty2 : ((refKind ty != refKind ty) || (!refKind ty && ty != ty)) = false := by
    rcases hty with rfl | rfl <;> decide
  rw [Native.java_lang_System.arraycopy.sem_refs]
  unfold Native.java_lang_System.arraycopy.behind
  simp only [wp_bind', W.classOf, W.theClass, hs, hd, hks, hkd, Option.some.injEq, exists_eq_left', hsk, hdk]
  refine ⟨hsobj, hdobj, ?_⟩
  unfold refKind at hty2
  simp only [hty2, Bool.false_eq_true, if_false]
  simp only [wp_bind', W.sizeOf, hs, hd, Option.some.injEq, exists_eq_left']
  have t1 := Int32.toInt_lt sp
  have t2 := Int32.toInt_lt dp
  have t3 := Int32.toInt_lt len
  by_cases h1 : sp < 0
  · simp only [h1, if_true, wp_bind', W.mark, W.throwNew]
    exact hE _ (tw_a (wl_1 (h := "source index ") (by decide) (int32_print sp) hk hn0))
  · by_cases h2 : dp < 0
    · simp only [h1, h2, if_true, if_false, wp_bind', W.mark, W.throwNew]
      exact hE _ (tw_a (wl_1 (h := "destination index ") (by decide) (int32_print dp) hk hn1))
    · by_cases h3 : len < 0
      · simp only [h1, h2, h3, if_true, if_false, wp_bind', W.mark, W.throwNew]
        exact hE _ (tw_a (wl_2 (h := "length ") (k := " is negative") (by decide) (int32_print len) (by decide)))
      · have e1 := nn32 sp h1
        have e2 := nn32 dp h2
        have e3 := nn32 len h3
        by_cases h4 : sp.toInt + len.toInt > cs.slots.size
        · simp only [h1, h2, h3, h4, if_true, if_false, wp_bind', W.mark, W.throwNew]
          exact hE _ (tw_a (wl_1 (h := "last source index ") (by decide) (pr_int (by omega) (by omega)) hk hn0))
        · have h5 : dp.toInt + len.toInt > cd.slots.size := by
            rcases ho with h | h | h | h | h
            · exact absurd h h1
            · exact absurd h h2
            · exact absurd h h3
            · omega
            · omega
          simp only [h1, h2, h3, h4, h5, if_true, if_false, wp_bind', W.mark, W.throwNew]
          exact hE _ (tw_a (wl_1 (h := "last destination index ") (by decide) (pr_int (by omega) (by omega)) hk hn1))
section XT13
variable {p : Program} {l : Launch} {e : Env} {R : Room} {s : State} {m : MethodId} {args : Array Value} {below : List Frame} {meth : Method} {c : Code} {H : Heap} {locs : List Loc} {cells slots : Nat} {Q : State → Prop}
variable {cc : ByteArray} {pc hpc : Nat} {ls : Array Slot} {st st' rest : List Value} {H0 : Heap} {G : GG} {σ σ' σs : SG} {yo : MethodName} {nL idx : Nat} {rto : Option FieldType} {hh : List (Nat × Nat × Nat × Nat)} {a b : Nat} {sp dp n : Int32}
/-- the call of arraycopy up to the note of the exception -/
theorem n_call {T : State} {cs cd : Cell} {ks kd' : Class} {sC dC : ClassId} {ty : FieldType} (X : Cx p s m args meth c cc rto nL yo) (XS : Stand p l e R s m args below meth c T locs cells slots) (hty : ty = .long ∨ ty = .byte) (hs : T.heap[a]? = some cs) (hd : T.heap[b]? = some cd) (hsobj : ∀ k, cs.vm ≠ .statics k) (hdobj : ∀ k, cd.vm ≠ .statics k)
    (hks : s.vm.classes[cs.cls]? = some ks) (hkd : s.vm.classes[cd.cls]? = some kd') (hsk : ks.kind = .array sC ty) (hdk : kd'.kind = .array dC ty) (hn0 : cs.slots.size < 2 ^ 31) (hn1 : cd.slots.size < 2 ^ 31)
    (ho : sp < 0 ∨ dp < 0 ∨ n < 0 ∨ cs.slots.size < sp.toNatClampNeg + n.toNatClampNeg ∨ cd.slots.size < dp.toNatClampNeg + n.toNatClampNeg)
    (q1 : Cond.methodLink yo.cls idx arraycopyName ∈ lw_all) (hls : ls.size = nL) (hrm : (rest.map fun v => v.category).sum ≤ 20) (hR : 1 ≤ R.frames ∧ 80 ≤ R.locals) (hdg : decode cc pc = .ok (.invokestatic idx, 3)) :
    ∃ (vm' : Vm) (nf : NFrame), Stand p l e R s m args below meth c (T.setVm vm') locs cells slots ∧ nf.words = 0 ∧ nf.awaiting = false ∧ nf.locked = none ∧ ∃ text, Tx text 1000 ∧ ∀ tg, Steps p.tables e below ((T.setVm vm').setFrames (.throwNew "java/lang/ArrayIndexOutOfBoundsException" (some text) none :: .native nf :: .java (F0 m pc ls rest) :: below)) tg → Steps p.tables e below (T.setTop (F0 m pc ls (.int n :: .int dp :: .ref b :: .int sp :: .ref a :: rest))) tg := by
  obtain ⟨hx, hb, -, hml, hown, hts, -, -⟩ := X
  obtain ⟨r, kS, methS, hnS, hmS, hkS, N⟩ := NativeOf.of_static (hts _ q248) (hts _ q247) (ps := [.object "java/lang/Object", .int, .object "java/lang/Object", .int, .int]) (ret := none) (by decide +kernel)
  have hinitS : kS.init = .initialized := Cond.initialized_spec (findClass_of_methodNamed hnS) hkS (hts _ q56)
  obtain ⟨vm', X', step⟩ := XS.invokestatic hx hown (hts _ q1) hnS hmS N.static hkS hinitS (by decide) (g := F0 m pc ls (.int n :: .int dp :: .ref b :: .int sp :: .ref a :: rest)) rfl (argsL := [.ref a, .int sp, .ref b, .int dp, .int n]) (rest := rest) (by rw [N.sig]; rfl) rfl (by rw [hb]; exact hdg)
  have hA' : s.vm.Alike vm' := X'.warmed.alike
  obtain ⟨kS', N'⟩ := N.alike hA'
  obtain ⟨ks', hks', hes⟩ := hA'.2.2 _ _ hks
  obtain ⟨kd2, hkd2, hed⟩ := hA'.2.2 _ _ hkd
  have hseen : seenByNative methS #[.ref a, .int sp, .ref b, .int dp, .int n] = #[.ref a, .int sp, .ref b, .int dp, .int n] := by
    simp [seenByNative, N.static, N.sig, narrow]
  obtain ⟨g₀, hfr⟩ := X'.frames_eq
  have hroom := X'.notFull (g := F0 m pc ls rest) (hls.trans hml.symm) (vars := nativeFrameWords "java/lang/System" "arraycopy" 5) hR.1 (by
    have : nativeFrameWords "java/lang/System" "arraycopy" 5 ≤ 40 := by decide +kernel
    show 2 * 0 + _ + _ ≤ _
    omega)
  have hfe : (((T.setVm vm').setTop (F0 m pc ls rest)).pushFrame (.native { method := r, args := #[.ref a, .int sp, .ref b, .int dp, .int n], locked := none })).frames = .native { method := r, args := #[.ref a, .int sp, .ref b, .int dp, .int n], locked := none } :: .java (F0 m pc ls rest) :: below := by
    rw [frames_entered X'.here.top, X'.tail]
  have hcur : (T.setVm vm').cur < (T.setVm vm').threads.size := State.cur_lt_of_frames hfr
  have hU : ((T.setVm vm').setTop (F0 m pc ls rest)).pushFrame (.native { method := r, args := #[.ref a, .int sp, .ref b, .int dp, .int n], locked := none }) = (T.setVm vm').setFrames (.native { method := r, args := #[.ref a, .int sp, .ref b, .int dp, .int n], locked := none } :: .java (F0 m pc ls rest) :: below) := by
    rw [State.pushFrame, State.frames_setTop _ hfr, State.setTop_of_frames _ hfr, State.setFrames_setFrames]
  have hw : wpRun (Native.java_lang_System.arraycopy.sem #[.ref a, .int sp, .ref b, .int dp, .int n]) (fun _ _ _ => False) (fun x s₁ _ => ∃ text, Tx text 1000 ∧ x = .throwNew "java/lang/ArrayIndexOutOfBoundsException" (some text) ∧ s₁ = ((T.setVm vm').setTop (F0 m pc ls rest)).pushFrame (.native { method := r, args := #[.ref a, .int sp, .ref b, .int dp, .int n], locked := none })) e (((T.setVm vm').setTop (F0 m pc ls rest)).pushFrame (.native { method := r, args := #[.ref a, .int sp, .ref b, .int dp, .int n], locked := none })) := by
    rw [hU]
    exact n_sem (s := (T.setVm vm').setFrames (.native { method := r, args := #[.ref a, .int sp, .ref b, .int dp, .int n], locked := none } :: .java (F0 m pc ls rest) :: below)) hty hs hd hsobj hdobj hks' hkd2 (by rw [hes]; exact hsk) (by rw [hed]; exact hdk) hn0 hn1 ho (fun text ht => ⟨text, ht, rfl, rfl⟩)
  have hw := (wpRun_iff_run _ _ _ _ _).mp hw
  cases hr : (Native.java_lang_System.arraycopy.sem #[.ref a, .int sp, .ref b, .int dp, .int n]).run e (((T.setVm vm').setTop (F0 m pc ls rest)).pushFrame (.native { method := r, args := #[.ref a, .int sp, .ref b, .int dp, .int n], locked := none })) with
  | ok v s₁ acts₁ => rw [hr] at hw; exact hw.elim
  | ctl x s₁ acts₁ =>
    rw [hr] at hw
    obtain ⟨text, ht, hx1, hs1⟩ := hw
    refine ⟨vm', { method := r, args := #[.ref a, .int sp, .ref b, .int dp, .int n], locked := none }, X', rfl, rfl, rfl, text, ht, fun tg hrest => step tg fun acts => ?_⟩
    have hmN : ((T.setVm vm').setTop (F0 m pc ls rest)).vm.method? r = some methS := by
      show vm'.method? r = some methS
      rw [hA'.method?]; exact hmS
    have hroom' : e.platform.stackFull ((((T.setVm vm').setTop (F0 m pc ls rest)).threads[((T.setVm vm').setTop (F0 m pc ls rest)).cur]?).getD { frames := [] }) ((T.setVm vm').setTop (F0 m pc ls rest)).frames (nativeFrameWords (((((T.setVm vm').setTop (F0 m pc ls rest)).vm.classes[r.cls]?).map (·.name)).getD "") methS.name (operandWords (#[Value.ref a, .int sp, .ref b, .int dp, .int n] : Array Value).toList)) = false := by
      have hc : ((((T.setVm vm').setTop (F0 m pc ls rest)).vm.classes[r.cls]?).map (·.name)).getD "" = "java/lang/System" := by
        show ((vm'.classes[r.cls]?).map (·.name)).getD "" = _
        rw [N'.cls]
        exact N'.className
      rw [hc, N.name]
      exact hroom
    rw [(Fast.doInvoke_native (s := (T.setVm vm').setTop (F0 m pc ls rest)) (e := e) (acts := acts) (args := #[.ref a, .int sp, .ref b, .int dp, .int n]) hmN N.native N.noCode N.noLock hroom').1, hseen]
    refine Steps.head ⟨X'.here.running, by simpa using X'.here.runnable, by simpa using X'.here.alone⟩ ⟨[.native { method := r, args := #[.ref a, .int sp, .ref b, .int dp, .int n], locked := none }, .java (F0 m pc ls rest)], by rw [hfe]; rfl, by simp, by simp⟩ ?_
    rw [stepThread_native (f := { method := r, args := #[.ref a, .int sp, .ref b, .int dp, .int n], locked := none }) (k := kS') (x := methS) (row := arraycopyRow) hfe N'.cls N'.meth N'.boot (by rw [N'.className, N'.name, N'.desc]; exact arraycopy_row p) rfl, arraycopyRow_sem, hr, hx1, hs1, hU]
    show Steps p.tables e below (((T.setVm vm').setFrames (.native { method := r, args := #[.ref a, .int sp, .ref b, .int dp, .int n], locked := none } :: .java (F0 m pc ls rest) :: below)).pushFrame (.throwNew "java/lang/ArrayIndexOutOfBoundsException" (some text) none)) tg
    rw [State.pushFrame, State.frames_setFrames _ hcur, State.setFrames_setFrames]
    exact hrest
/-- arraycopy beyond the arrays; caught -/
theorem x_cpO (htl : ∀ e, l.admits e → e.platform.stackTraces = false) (X : Cx p s m args meth c cc rto nL yo) (hT : Xt c hh) (hd : Hd yo.cls "java/lang/ArrayIndexOutOfBoundsException" pc hpc hh) (hls : ls.size = nL) (hK : KK G s) (hHs : HH G σs s.heap) (hH : HH G σ H) (hS : va_S (AG G) H0 H locs) (hrest : (rest.map fun v => v.category).sum ≤ 20)
    (ho : cpO σ a sp b dp n = true) (q1 : Cond.methodLink yo.cls idx arraycopyName ∈ lw_all)
    (hR : 8 < R.frames ∧ 10260 ≤ R.locals) (hf : cells + 3 ≤ R.cells ∧ slots + 1010 ≤ R.slots) (hdg : decode cc pc = .ok (.invokestatic idx, 3))
    (kk : ∀ H1 : Heap, HH G (σ.1 + 3, σ.2) H1 → va_S (AG G) H0 H1 locs → W p l e R s m args below meth c H1 locs (cells + 3) (slots + 1010) Q (F0 m hpc ls [.ref (σ.1 + 2)])) : W p l e R s m args below meth c H locs cells slots Q (F0 m pc ls (.int n :: .int dp :: .ref b :: .int sp :: .ref a :: rest)) := by
  refine x_nat (B := 1000) (names := ["java/lang/IndexOutOfBoundsException", "java/lang/RuntimeException", "java/lang/Exception"]) htl X hT hd hls hK hH hS (by decide +kernel) (by decide +kernel) (by decide) (by decide) (xa_aio hK hHs X.2.2.2.2.2.1) (by decide) (by decide) hR hf ?_ (fun H1 a1 a2 _ => kk H1 a1 a2)
  intro T hTh XS
  unfold cpO at ho
  split at ho
  · rename_i n0 f n1 g he0 he1
    obtain ⟨z0, z1, ho⟩ := of_decide_eq_true ho
    have hc0 : H[a]? = some (vp_cell (G.2.2.1 1) (n0, .inr (.inl f))) := (hH.2 a _ he0).1
    have hc1 : H[b]? = some (vp_cell (G.2.2.1 1) (n1, .inr (.inl g))) := (hH.2 b _ he1).1
    obtain ⟨-, k0, hk0, cm0, hkk0⟩ := (hK.1.2 1 _ rfl).1 n0 (fun j => .long (f j))
    obtain ⟨-, k1, hk1, cm1, hkk1⟩ := (hK.1.2 1 _ rfl).1 n1 (fun j => .long (g j))
    have s0 : (vp_cell (G.2.2.1 1) (n0, .inr (.inl f))).slots.size = n0 := by rw [vp_cell_l, arrV_size]
    have s1 : (vp_cell (G.2.2.1 1) (n1, .inr (.inl g))).slots.size = n1 := by rw [vp_cell_l, arrV_size]
    obtain ⟨vm', nf, g1, g2, g3, g4, text, g5, g6⟩ := n_call (a := a) (b := b) (sp := sp) (dp := dp) (n := n) (rest := rest) (ty := .long) X XS (Or.inl rfl) (by rw [hTh]; exact hc0) (by rw [hTh]; exact hc1) (fun _ h => by cases h) (fun _ h => by cases h) hk0 hk1 hkk0 hkk1 (by rw [s0]; exact z0) (by rw [s1]; exact z1) (by rw [s0, s1]; exact ho) q1 hls hrest ⟨by omega, by omega⟩ hdg
    exact ⟨vm', rest, nf, g1, g2, g3, g4, hrest, text, g5, g6⟩
  · rename_i n0 f n1 g he0 he1
    obtain ⟨z0, z1, ho⟩ := of_decide_eq_true ho
    have hc0 : H[a]? = some (vp_cell (G.2.2.1 2) (n0, .inl f)) := (hH.2 a _ he0).1
    have hc1 : H[b]? = some (vp_cell (G.2.2.1 2) (n1, .inl g)) := (hH.2 b _ he1).1
    obtain ⟨-, k0, hk0, cm0, hkk0⟩ := (hK.1.2 2 _ rfl).1 n0 (fun j => .int (f j))
    obtain ⟨-, k1, hk1, cm1, hkk1⟩ := (hK.1.2 2 _ rfl).1 n1 (fun j => .int (g j))
    have s0 : (vp_cell (G.2.2.1 2) (n0, .inl f)).slots.size = n0 := by rw [vp_cell_i, arrV_size]
    have s1 : (vp_cell (G.2.2.1 2) (n1, .inl g)).slots.size = n1 := by rw [vp_cell_i, arrV_size]
    obtain ⟨vm', nf, g1, g2, g3, g4, text, g5, g6⟩ := n_call (a := a) (b := b) (sp := sp) (dp := dp) (n := n) (rest := rest) (ty := .byte) X XS (Or.inr rfl) (by rw [hTh]; exact hc0) (by rw [hTh]; exact hc1) (fun _ h => by cases h) (fun _ h => by cases h) hk0 hk1 hkk0 hkk1 (by rw [s0]; exact z0) (by rw [s1]; exact z1) (by rw [s0, s1]; exact ho) q1 hls hrest ⟨by omega, by omega⟩ hdg
    exact ⟨vm', rest, nf, g1, g2, g3, g4, hrest, text, g5, g6⟩
  · cases ho
theorem h_cpB (X : Cx p s m args meth c cc rto nL yo) (hK : KK G s) (hH : HH G σ H) (hS : va_S (AG G) H0 H locs) (h : cpB σ a sp b dp n = some σ') (q1 : Cond.methodLink yo.cls idx arraycopyName ∈ lw_all) (hls : ls.size = nL) (hrm : (rest.map fun v => v.category).sum ≤ 20) (hR : 1 ≤ R.frames ∧ 80 ≤ R.locals) (hdg : decode cc pc = .ok (.invokestatic idx, 3))
    (kk : ∀ (H1 : Heap) (locs1 : List Loc), HH G σ' H1 → va_S (AG G) H0 H1 locs1 → W p l e R s m args below meth c H1 locs1 cells slots Q (F0 m (pc + 3) ls rest)) : W p l e R s m args below meth c H locs cells slots Q (F0 m pc ls (.int n :: .int dp :: .ref b :: .int sp :: .ref a :: rest)) := by
  obtain ⟨hx, hb, -, hml, hown, hts, -, -⟩ := X
  unfold cpB at h
  split at h
  · rename_i n0 f n1 g he0 he1
    split at h
    · cases h
    · rename_i hc
      cases h
      have h1 : ¬ sp < 0 := fun q => hc (Or.inl q)
      have h2 : ¬ dp < 0 := fun q => hc (Or.inr (Or.inl q))
      have h3 : ¬ n < 0 := fun q => hc (Or.inr (Or.inr (Or.inl q)))
      have h4 : sp.toNatClampNeg + n.toNatClampNeg ≤ n0 := Nat.not_lt.mp fun q => hc (Or.inr (Or.inr (Or.inr (Or.inl q))))
      have h5 : dp.toNatClampNeg + n.toNatClampNeg ≤ n1 := Nat.not_lt.mp fun q => hc (Or.inr (Or.inr (Or.inr (Or.inr (Or.inl q)))))
      have h6 : fitB f sp.toNatClampNeg n.toNatClampNeg = true := by
        cases h7 : fitB f sp.toNatClampNeg n.toNatClampNeg with
        | true => rfl
        | false => exact absurd (Or.inr (Or.inr (Or.inr (Or.inr (Or.inr h7))))) hc
      have hc0 : H[a]? = some (vp_cell (G.2.2.1 2) (n0, .inl f)) := (hH.2 a _ he0).1
      have hc1 : H[b]? = some (vp_cell (G.2.2.1 2) (n1, .inl g)) := (hH.2 b _ he1).1
      have hge := (hH.2 b _ he1).2
      obtain ⟨-, k0, hk0, cm0, hkk0⟩ := (hK.1.2 2 _ rfl).1 n0 (fun j => .int (f j))
      obtain ⟨-, k1, hk1, cm1, hkk1⟩ := (hK.1.2 2 _ rfl).1 n1 (fun j => .int (g j))
      have hl : b < H.size := (Array.getElem?_eq_some_iff.mp hc1).1
      have e1 : copied (vp_cell (G.2.2.1 2) (n0, .inl f)) (vp_cell (G.2.2.1 2) (n1, .inl g)) sp dp n = vp_cell (G.2.2.1 2) (n1, .inl (va_cpy f g sp.toNatClampNeg dp.toNatClampNeg n.toNatClampNeg)) := va_copied (fun z => .int z) (G.2.2.1 2) (G.2.2.1 2) f g h4
      intro T hT Y
      obtain ⟨vm', X', step⟩ := Y.arraycopy hx hown (hts _ q1) (hts _ q248) (hts _ q247) (hts _ q56) (src := a) (dst := b) (cs := vp_cell (G.2.2.1 2) (n0, .inl f)) (cd := vp_cell (G.2.2.1 2) (n1, .inl g)) (srcPos := sp) (destPos := dp) (n := n) (by rw [hT]; exact hc0) (by rw [hT]; exact hc1)
        (fun _ h => by cases h) (fun _ h => by cases h) (fun h => by cases h) (fun h => by cases h) hk0 hk1 hkk0 hkk1 (by simp [refKind]) h1 h2 h3
        (by rw [nn32 sp h1, nn32 n h3, vp_cell_i, arrV_size]; omega)
        (by rw [nn32 dp h2, nn32 n h3, vp_cell_i, arrV_size]; omega)
        (fun vm₁ _ i hi => by
          have e : (vp_cell (G.2.2.1 2) (n0, .inl f)).slots.getD (sp.toNatClampNeg + i) .null = .int (f (sp.toNatClampNeg + i)) := by
            rw [vp_cell_i, Array.getD_eq_getD_getElem?, arrV_read _ _ (by omega)]
            rfl
          rw [e]
          exact ⟨List.all_eq_true.mp h6 i (List.mem_range.mpr hi), trivial⟩)
        (g := F0 m pc ls (.int n :: .int dp :: .ref b :: .int sp :: .ref a :: rest)) rfl (hls.trans hml.symm) (rest := rest) rfl (by rw [hb]; exact hdg) hR.1 (by
          have : nativeFrameWords "java/lang/System" "arraycopy" 5 ≤ 40 := by decide +kernel
          show 2 * 0 + _ + _ ≤ _
          omega)
      rw [e1] at X' step
      have oq : ∀ q : Nat, q ≠ b → (H.setIfInBounds b (vp_cell (G.2.2.1 2) (n1, .inl (va_cpy f g sp.toNatClampNeg dp.toNatClampNeg n.toNatClampNeg))))[q]? = H[q]? := fun q hq => by simp [Array.getElem?_setIfInBounds, Ne.symm hq]
      obtain ⟨t, a1, b1⟩ := kk _ _ (hH.put (H1 := H.setIfInBounds b (vp_cell (G.2.2.1 2) (n1, .inl (va_cpy f g sp.toNatClampNeg dp.toNatClampNeg n.toNatClampNeg)))) (a := b) (e' := .inl (2, n1, .inl (va_cpy f g sp.toNatClampNeg dp.toNatClampNeg n.toNatClampNeg))) (by simp) (show (H.setIfInBounds b _)[b]? = some _ by simp [Array.getElem?_setIfInBounds, hl]) hge oq) ⟨by simp; exact hS.1, fun q g1 g2 => by
          rw [oq q (fun e => g2 (by rw [e]; exact hge))]
          exact hS.2.1 q g1 g2, fun q hq => by
          rcases List.mem_append.mp hq with h | h
          · exact hS.2.2 q h
          · obtain ⟨z, -, hz⟩ := List.mem_map.mp h
            rw [← hz]
            exact hge⟩ _ (by rw [← hT]; rfl) X'
      exact ⟨t, step t a1, b1⟩
  · cases h
theorem h_cpA (X : Cx p s m args meth c cc rto nL yo) (hK : KK G s) (hH : HH G σ H) (hS : va_S (AG G) H0 H locs) (h : cpA σ a sp b dp n = some σ') (q1 : Cond.methodLink yo.cls idx arraycopyName ∈ lw_all) (hls : ls.size = nL) (hrm : (rest.map fun v => v.category).sum ≤ 20) (hR : 1 ≤ R.frames ∧ 80 ≤ R.locals) (hdg : decode cc pc = .ok (.invokestatic idx, 3))
    (kk : ∀ (H1 : Heap) (locs1 : List Loc), HH G σ' H1 → va_S (AG G) H0 H1 locs1 → W p l e R s m args below meth c H1 locs1 cells slots Q (F0 m (pc + 3) ls rest)) : W p l e R s m args below meth c H locs cells slots Q (F0 m pc ls (.int n :: .int dp :: .ref b :: .int sp :: .ref a :: rest)) := by
  unfold cpA at h
  split at h
  · exact h_cpL X hK hH hS h q1 hls hrm hR hdg kk
  · split at h
    · exact h_cpB X hK hH hS h q1 hls hrm hR hdg kk
    · cases h
end XT13
