/-! ===== rows: more calls, copies ===== -/
set_option maxRecDepth 100000
section HROW4
variable {p : Program} {l : Launch} {e : Env} {R : Room} {s : State} {m : MethodId} {args : Array Value} {below : List Frame} {meth : Method} {c : Code} {H : Heap} {locs : List Loc} {cells slots : Nat} {Q : State → Prop}
variable {cc : ByteArray} {pc : Nat} {ls : Array Slot} {rest st0 : List Value} {H0 : Heap} {G : GG} {σ σ' : SG} {y yo x : MethodName} {nL : Nat} {rto rt : Option FieldType} {mc ms k maxL n idx : Nat} {bytes : ByteArray} {As : List Value} {v : Option Value}

/-- a static call of a nest mate's private method -/
theorem r_SN {host : String} (X : Cx p s m args meth c cc rto nL yo) (hM : Con l y bytes maxL rt k mc ms G σ As σ' v) (hc : CalS y bytes maxL rt n) (q1 : Cond.methodLinkNest yo.cls idx y host ∈ lw_tbl) (hn : As.length = n) (hst : st0 = As.reverse ++ rest) (hls : ls.size = nL) (hrm : (rest.map fun v => v.category).sum ≤ 20) (hR : k + 1 ≤ R.frames ∧ 20 + (maxL + 11) + 80 * k ≤ R.locals) (hf : cells + mc ≤ R.cells ∧ slots + ms ≤ R.slots) (hdg : decode cc pc = .ok (.invokestatic idx, 3)) (hK : KK G s) (hH : HH G σ H) (hS : va_S (AG G) H0 H locs)
    (kk : ∀ (H1 : Heap) (locs1 : List Loc), HH G σ' H1 → va_S (AG G) H0 H1 locs1 → W p l e R s m args below meth c H1 locs1 (cells + mc) (slots + ms) Q (F0 m (pc + 3) ls (v.toList ++ rest))) : W p l e R s m args below meth c H locs cells slots Q (F0 m pc ls st0) := by
  obtain ⟨hx, hb, hr, hml, hown, hts, -⟩ := X
  obtain ⟨c1, c2, c3, c4⟩ := hc
  refine call_go (a := As.toArray) (fun T hT Y => ?_) hS kk
  obtain ⟨v, vm₁, ⟨U', l2, k2, s2⟩, hW₁, X', ⟨g', mk, t, L, e1, e2, hq, h1, hL, h2, h3⟩, st⟩ := va_callSN Y hx (host := host) (bytes := bytes) (maxL := maxL) (ret := rt) hown (va_Nw.use rfl (hK.2.1 _ q1 rfl)) (hts _ c1) (hts _ c2) (hts _ c3) ⟨c4.1, c4.2.1⟩ (back20 hM hts c3 c2 hR) (g := F0 m pc ls st0) rfl (hls.trans hml.symm) (argsL := As) (rest := rest) (fun sig h => hn.trans (plen c4.2.2 sig h)) hst (room20 hrm) (by rw [hb]; exact hdg) (fun vm₁ hW₁ => ⟨hf.1, hf.2, (PreS_of (As := As) hH hK).2 (T.setVm vm₁) hT hW₁⟩)
  dsimp only [Pt.U, Pt.locs, Pt.cells, Pt.slots] at X' e1 e2 h1 h2 h3 st
  subst h1; subst h2; subst h3
  exact ⟨v, (T.setVm vm₁).calling g' mk As.toArray, t, U', L, hT, X', hL, e1, e2, hq, st⟩
/-- a private constructor of a nest mate -/
theorem r_IN {b : Nat} {host : String} (X : Cx p s m args meth c cc rto nL yo) (hM : Con l y bytes maxL none k mc ms G σ (.ref b :: As) σ' none) (hc : CalI y bytes maxL n) (q1 : Cond.methodLinkNest yo.cls idx y host ∈ lw_tbl) (hn : As.length = n) (hst : st0 = As.reverse ++ .ref b :: rest) (hls : ls.size = nL) (hrm : (rest.map fun v => v.category).sum ≤ 20) (hR : k + 1 ≤ R.frames ∧ 20 + (maxL + 11) + 80 * k ≤ R.locals) (hf : cells + mc ≤ R.cells ∧ slots + ms ≤ R.slots) (hdg : decode cc pc = .ok (.invokespecial idx, 3)) (hK : KK G s) (hH : HH G σ H) (hS : va_S (AG G) H0 H locs)
    (kk : ∀ (H1 : Heap) (locs1 : List Loc), HH G σ' H1 → va_S (AG G) H0 H1 locs1 → W p l e R s m args below meth c H1 locs1 (cells + mc) (slots + ms) Q (F0 m (pc + 3) ls rest)) : W p l e R s m args below meth c H locs cells slots Q (F0 m pc ls st0) := by
  obtain ⟨hx, hb, hr, hml, hown, hts, -⟩ := X
  obtain ⟨c1, c2, c3, c4, c5⟩ := hc
  refine call_go (v := none) (a := (Value.ref b :: As).toArray) (fun T hT Y => ?_) hS kk
  obtain ⟨v, vm₁, ⟨U', l2, k2, s2⟩, hW₁, X', ⟨g', mk, t, L, e1, e2, hq, h1, hL, h2, h3⟩, st⟩ := va_callIN Y hx (host := host) (bytes := bytes) (maxL := maxL) hown c4 (va_Nw.use rfl (hK.2.1 _ q1 rfl)) (hts _ c1) (hts _ c3) ⟨c5.1, c5.2.1⟩ (back20 hM hts c3 c2 hR) (g := F0 m pc ls st0) rfl (hls.trans hml.symm) (a := b) (argsL := As) (rest := rest) (fun sig h => hn.trans (plen c5.2.2 sig h)) hst (room20 hrm) (by rw [hb]; exact hdg) (fun vm₁ hW₁ => ⟨hf.1, hf.2, (PreS_of (As := .ref b :: As) hH hK).2 (T.setVm vm₁) hT hW₁⟩)
  dsimp only [Pt.U, Pt.locs, Pt.cells, Pt.slots] at X' e1 e2 h1 h2 h3 st
  subst h1; subst h2; subst h3
  exact ⟨v, (T.setVm vm₁).calling g' mk (Value.ref b :: As).toArray, t, U', L, hT, X', hL, e1, e2, hq, st⟩
/-- a method named through a class that may only inherit it, or declare it: the receiver's class C selects y -/
def CalU (owner C : String) (x y : MethodName) (bytes : ByteArray) (maxL : Nat) (rt : Option FieldType) (n : Nat) : Prop := Cond.sameMethod x.cls owner x.name x.desc ∈ lw_all ∧ Cond.selects C x y ∈ lw_all ∧ Cond.instanceMethod y ∈ lw_all ∧ Cond.code y bytes maxL rt ∈ lw_all ∧ Cond.initialized y.cls ∈ lw_all ∧ owner ≠ "java/lang/invoke/MethodHandle" ∧ owner ≠ "java/lang/invoke/VarHandle" ∧ (parseMethodDescriptor x.desc).map (fun d => d.parameters.length) = some n
theorem r_U {b : Nat} {C owner : String} (X : Cx p s m args meth c cc rto nL yo) (hM : Con l y bytes maxL rt k mc ms G σ (.ref b :: As) σ' v) (hc : CalU owner C x y bytes maxL rt n) (hd0 : va_Decl s ⟨owner, x.name, x.desc⟩) (q1 : Cond.methodLink yo.cls idx x ∈ lw_all) (hrv : ∃ cell : Cell, H[b]? = some cell ∧ cell.vm.isStatics = false ∧ s.vm.findClass C = some cell.cls) (hn : As.length = n) (hst : st0 = As.reverse ++ .ref b :: rest) (hls : ls.size = nL) (hrm : (rest.map fun v => v.category).sum ≤ 20) (hR : k + 1 ≤ R.frames ∧ 20 + (maxL + 11) + 80 * k ≤ R.locals) (hf : cells + mc ≤ R.cells ∧ slots + ms ≤ R.slots) (hdg : decode cc pc = .ok (.invokevirtual idx, 3)) (hK : KK G s) (hH : HH G σ H) (hS : va_S (AG G) H0 H locs)
    (kk : ∀ (H1 : Heap) (locs1 : List Loc), HH G σ' H1 → va_S (AG G) H0 H1 locs1 → W p l e R s m args below meth c H1 locs1 (cells + mc) (slots + ms) Q (F0 m (pc + 3) ls (v.toList ++ rest))) : W p l e R s m args below meth c H locs cells slots Q (F0 m pc ls st0) := by
  obtain ⟨hx, hb, hr, hml, hown, hts, -⟩ := X
  obtain ⟨c1, c2, c3, c4, c5, c6, c7, c8⟩ := hc
  obtain ⟨cellB, hcB, hoB, hclB⟩ := hrv
  refine call_go (a := (Value.ref b :: As).toArray) (fun T hT Y => ?_) hS kk
  obtain ⟨v, vm₁, ⟨U', l2, k2, s2⟩, hW₁, X', ⟨g', mk, t, L, e1, e2, hq, h1, hL, h2, h3⟩, st⟩ := va_callVU Y hx (C := C) (owner := owner) (bytes := bytes) (maxL := maxL) (ret := rt) hown (hts _ q1) (hts _ c1) hd0 ⟨c6, c7⟩ (hts _ c2) (hts _ c3) (hts _ c4) (back20 hM hts c4 c5 hR) (by rw [hT]; exact hcB) hoB hclB (g := F0 m pc ls st0) rfl (hls.trans hml.symm) (argsL := As) (rest := rest) (fun sig h => hn.trans (plen c8 sig h)) hst (room20 hrm) (by rw [hb]; exact hdg) (fun vm₁ hW₁ => ⟨hf.1, hf.2, (PreS_of (As := .ref b :: As) hH hK).2 (T.setVm vm₁) hT hW₁⟩)
  dsimp only [Pt.U, Pt.locs, Pt.cells, Pt.slots] at X' e1 e2 h1 h2 h3 st
  subst h1; subst h2; subst h3
  exact ⟨v, (T.setVm vm₁).calling g' mk (Value.ref b :: As).toArray, t, U', L, hT, X', hL, e1, e2, hq, st⟩
/-- a superclass's method -/
def CalSu (own : String) (y : MethodName) (bytes : ByteArray) (maxL : Nat) (rt : Option FieldType) (n : Nat) : Prop := Cond.sameMethod y.cls y.cls y.name y.desc ∈ lw_all ∧ Cond.superclass own y.cls ∈ lw_all ∧ Cond.instanceMethod y ∈ lw_all ∧ Cond.code y bytes maxL rt ∈ lw_all ∧ Cond.initialized y.cls ∈ lw_all ∧ y.name ≠ "<init>" ∧ (parseMethodDescriptor y.desc).map (fun d => d.parameters.length) = some n
theorem r_Su {b : Nat} {ci : Nat} {fs : List Value} (X : Cx p s m args meth c cc rto nL yo) (hM : Con l y bytes maxL rt k mc ms G σ (.ref b :: As) σ' v) (hc : CalSu yo.cls y bytes maxL rt n) (q1 : Cond.methodLink yo.cls idx y ∈ lw_all) (hb0 : σ.2 b = some (.inr (ci, fs))) (hn : As.length = n) (hst : st0 = As.reverse ++ .ref b :: rest) (hls : ls.size = nL) (hrm : (rest.map fun v => v.category).sum ≤ 20) (hR : k + 1 ≤ R.frames ∧ 20 + (maxL + 11) + 80 * k ≤ R.locals) (hf : cells + mc ≤ R.cells ∧ slots + ms ≤ R.slots) (hdg : decode cc pc = .ok (.invokespecial idx, 3)) (hK : KK G s) (hH : HH G σ H) (hS : va_S (AG G) H0 H locs)
    (kk : ∀ (H1 : Heap) (locs1 : List Loc), HH G σ' H1 → va_S (AG G) H0 H1 locs1 → W p l e R s m args below meth c H1 locs1 (cells + mc) (slots + ms) Q (F0 m (pc + 3) ls (v.toList ++ rest))) : W p l e R s m args below meth c H locs cells slots Q (F0 m pc ls st0) := by
  obtain ⟨hx, hb, hr, hml, hown, hts, -⟩ := X
  obtain ⟨c1, c2, c3, c4, c5, c6, c7⟩ := hc
  obtain ⟨⟨w, hw, cellB, hcB, g2, g3, -⟩, -⟩ := hH.2 b _ hb0
  obtain ⟨-, hfc, kB, hkB, -⟩ := hK.1.1 ci w hw
  refine call_go (a := (Value.ref b :: As).toArray) (fun T hT Y => ?_) hS kk
  obtain ⟨v, vm₁, ⟨U', l2, k2, s2⟩, hW₁, X', ⟨g', mk, t, L, e1, e2, hq, h1, hL, h2, h3⟩, st⟩ := va_callSU Y hx (bytes := bytes) (maxL := maxL) (ret := rt) hown (hts _ q1) (hts _ c1) (hts _ c2) (hts _ c3) (hts _ c4) c6 (back20 hM hts c4 c5 hR) (by rw [hT]; exact hcB) (by rw [g3]; rfl) (by rw [g2]; exact hkB) (g := F0 m pc ls st0) rfl (hls.trans hml.symm) (argsL := As) (rest := rest) (fun sig h => hn.trans (plen c7 sig h)) hst (room20 hrm) (by rw [hb]; exact hdg) (fun vm₁ hW₁ => ⟨hf.1, hf.2, (PreS_of (As := .ref b :: As) hH hK).2 (T.setVm vm₁) hT hW₁⟩)
  dsimp only [Pt.U, Pt.locs, Pt.cells, Pt.slots] at X' e1 e2 h1 h2 h3 st
  subst h1; subst h2; subst h3
  exact ⟨v, (T.setVm vm₁).calling g' mk (Value.ref b :: As).toArray, t, U', L, hT, X', hL, e1, e2, hq, st⟩
theorem h_cpL {a b : Nat} {sp dp n : Int32} (X : Cx p s m args meth c cc rto nL yo) (hK : KK G s) (hH : HH G σ H) (hS : va_S (AG G) H0 H locs) (h : cpL σ a sp b dp n = some σ') (q1 : Cond.methodLink yo.cls idx arraycopyName ∈ lw_all) (hls : ls.size = nL) (hrm : (rest.map fun v => v.category).sum ≤ 20) (hR : 1 ≤ R.frames ∧ 80 ≤ R.locals) (hdg : decode cc pc = .ok (.invokestatic idx, 3))
    (kk : ∀ (H1 : Heap) (locs1 : List Loc), HH G σ' H1 → va_S (AG G) H0 H1 locs1 → W p l e R s m args below meth c H1 locs1 cells slots Q (F0 m (pc + 3) ls rest)) : W p l e R s m args below meth c H locs cells slots Q (F0 m pc ls (.int n :: .int dp :: .ref b :: .int sp :: .ref a :: rest)) := by
  obtain ⟨hx, hb, -, hml, hown, hts, -, -⟩ := X
  unfold cpL at h
  split at h
  · rename_i n0 f n1 g he0 he1
    split at h
    · cases h
    · rename_i hc
      cases h
      have h1 : ¬ sp < 0 := fun q => hc (Or.inl q)
      have h2 : ¬ dp < 0 := fun q => hc (Or.inr (Or.inl q))
      have h3 : ¬ n < 0 := fun q => hc (Or.inr (Or.inr (Or.inl q)))
      have h4 : sp.toNatClampNeg + n.toNatClampNeg ≤ n0 := Nat.not_lt.mp fun q => hc (Or.inr (Or.inr (Or.inr (Or.inl q))))
      have h5 : dp.toNatClampNeg + n.toNatClampNeg ≤ n1 := Nat.not_lt.mp fun q => hc (Or.inr (Or.inr (Or.inr (Or.inr q))))
      have nn : ∀ z : Int32, ¬ z < 0 → z.toInt = (z.toNatClampNeg : Int) := fun z hz => by
        have hz0 : (0 : Int) ≤ z.toInt := by simpa using Int32.le_iff_toInt_le.mp (Int32.not_lt.mp hz)
        show z.toInt = ((z.toInt.toNat : Nat) : Int)
        omega
      have hc0 : H[a]? = some (vp_cell (G.2.2.1 1) (n0, .inr (.inl f))) := (hH.2 a _ he0).1
      have hc1 : H[b]? = some (vp_cell (G.2.2.1 1) (n1, .inr (.inl g))) := (hH.2 b _ he1).1
      have hge := (hH.2 b _ he1).2
      obtain ⟨-, k0, hk0, cm0, hkk0⟩ := (hK.1.2 1 _ rfl).1 n0 (fun j => .long (f j))
      obtain ⟨-, k1, hk1, cm1, hkk1⟩ := (hK.1.2 1 _ rfl).1 n1 (fun j => .long (g j))
      have hl : b < H.size := (Array.getElem?_eq_some_iff.mp hc1).1
      have e1 : copied (vp_cell (G.2.2.1 1) (n0, .inr (.inl f))) (vp_cell (G.2.2.1 1) (n1, .inr (.inl g))) sp dp n = vp_cell (G.2.2.1 1) (n1, .inr (.inl (va_cpy f g sp.toNatClampNeg dp.toNatClampNeg n.toNatClampNeg))) := va_copied (fun z => .long z) (G.2.2.1 1) (G.2.2.1 1) f g h4
      intro T hT Y
      obtain ⟨vm', X', step⟩ := Y.arraycopy hx hown (hts _ q1) (hts _ q248) (hts _ q247) (hts _ q56) (src := a) (dst := b) (cs := vp_cell (G.2.2.1 1) (n0, .inr (.inl f))) (cd := vp_cell (G.2.2.1 1) (n1, .inr (.inl g))) (srcPos := sp) (destPos := dp) (n := n) (by rw [hT]; exact hc0) (by rw [hT]; exact hc1)
        (fun _ h => by cases h) (fun _ h => by cases h) (fun h => by cases h) (fun h => by cases h) hk0 hk1 hkk0 hkk1 (by simp [refKind]) h1 h2 h3
        (by rw [nn sp h1, nn n h3, vp_cell_l, arrV_size]; omega)
        (by rw [nn dp h2, nn n h3, vp_cell_l, arrV_size]; omega)
        (fun vm₁ _ i hi => by
          have e : (vp_cell (G.2.2.1 1) (n0, .inr (.inl f))).slots.getD (sp.toNatClampNeg + i) .null = .long (f (sp.toNatClampNeg + i)) := by
            rw [vp_cell_l, Array.getD_eq_getD_getElem?, arrV_read _ _ (by omega)]
            rfl
          rw [e]
          exact ⟨rfl, trivial⟩)
        (g := F0 m pc ls (.int n :: .int dp :: .ref b :: .int sp :: .ref a :: rest)) rfl (hls.trans hml.symm) (rest := rest) rfl (by rw [hb]; exact hdg) hR.1 (by
          have : nativeFrameWords "java/lang/System" "arraycopy" 5 ≤ 40 := by decide +kernel
          show 2 * 0 + _ + _ ≤ _
          omega)
      rw [e1] at X' step
      have oq : ∀ q : Nat, q ≠ b → (H.setIfInBounds b (vp_cell (G.2.2.1 1) (n1, .inr (.inl (va_cpy f g sp.toNatClampNeg dp.toNatClampNeg n.toNatClampNeg)))))[q]? = H[q]? := fun q hq => by simp [Array.getElem?_setIfInBounds, Ne.symm hq]
      obtain ⟨t, a1, b1⟩ := kk _ _ (hH.put (H1 := H.setIfInBounds b (vp_cell (G.2.2.1 1) (n1, .inr (.inl (va_cpy f g sp.toNatClampNeg dp.toNatClampNeg n.toNatClampNeg))))) (a := b) (e' := .inl (1, n1, .inr (.inl (va_cpy f g sp.toNatClampNeg dp.toNatClampNeg n.toNatClampNeg)))) (by simp) (show (H.setIfInBounds b _)[b]? = some _ by simp [Array.getElem?_setIfInBounds, hl]) hge oq) ⟨by simp; exact hS.1, fun q g1 g2 => by
          rw [oq q (fun e => g2 (by rw [e]; exact hge))]
          exact hS.2.1 q g1 g2, fun q hq => by
          rcases List.mem_append.mp hq with h | h
          · exact hS.2.2 q h
          · obtain ⟨z, -, hz⟩ := List.mem_map.mp h
            rw [← hz]
            exact hge⟩ _ (by rw [← hT]; rfl) X'
      exact ⟨t, step t a1, b1⟩
  · cases h
theorem h_cpI {a b : Nat} {sp dp n : Int32} (X : Cx p s m args meth c cc rto nL yo) (hK : KK G s) (hH : HH G σ H) (hS : va_S (AG G) H0 H locs) (h : cpI σ a sp b dp n = some σ') (q1 : Cond.methodLink yo.cls idx arraycopyName ∈ lw_all) (hls : ls.size = nL) (hrm : (rest.map fun v => v.category).sum ≤ 20) (hR : 1 ≤ R.frames ∧ 80 ≤ R.locals) (hdg : decode cc pc = .ok (.invokestatic idx, 3))
    (kk : ∀ (H1 : Heap) (locs1 : List Loc), HH G σ' H1 → va_S (AG G) H0 H1 locs1 → W p l e R s m args below meth c H1 locs1 cells slots Q (F0 m (pc + 3) ls rest)) : W p l e R s m args below meth c H locs cells slots Q (F0 m pc ls (.int n :: .int dp :: .ref b :: .int sp :: .ref a :: rest)) := by
  obtain ⟨hx, hb, -, hml, hown, hts, -, -⟩ := X
  unfold cpI at h
  split at h
  · rename_i n0 f n1 g he0 he1
    split at h
    · cases h
    · rename_i hc
      cases h
      have h1 : ¬ sp < 0 := fun q => hc (Or.inl q)
      have h2 : ¬ dp < 0 := fun q => hc (Or.inr (Or.inl q))
      have h3 : ¬ n < 0 := fun q => hc (Or.inr (Or.inr (Or.inl q)))
      have h4 : sp.toNatClampNeg + n.toNatClampNeg ≤ n0 := Nat.not_lt.mp fun q => hc (Or.inr (Or.inr (Or.inr (Or.inl q))))
      have h5 : dp.toNatClampNeg + n.toNatClampNeg ≤ n1 := Nat.not_lt.mp fun q => hc (Or.inr (Or.inr (Or.inr (Or.inr q))))
      have nn : ∀ z : Int32, ¬ z < 0 → z.toInt = (z.toNatClampNeg : Int) := fun z hz => by
        have hz0 : (0 : Int) ≤ z.toInt := by simpa using Int32.le_iff_toInt_le.mp (Int32.not_lt.mp hz)
        show z.toInt = ((z.toInt.toNat : Nat) : Int)
        omega
      have hc0 : H[a]? = some (vp_cell (G.2.2.1 0) (n0, .inl f)) := (hH.2 a _ he0).1
      have hc1 : H[b]? = some (vp_cell (G.2.2.1 0) (n1, .inl g)) := (hH.2 b _ he1).1
      have hge := (hH.2 b _ he1).2
      obtain ⟨-, k0, hk0, cm0, hkk0⟩ := (hK.1.2 0 _ rfl).1 n0 (fun j => .int (f j))
      obtain ⟨-, k1, hk1, cm1, hkk1⟩ := (hK.1.2 0 _ rfl).1 n1 (fun j => .int (g j))
      have hl : b < H.size := (Array.getElem?_eq_some_iff.mp hc1).1
      have e1 : copied (vp_cell (G.2.2.1 0) (n0, .inl f)) (vp_cell (G.2.2.1 0) (n1, .inl g)) sp dp n = vp_cell (G.2.2.1 0) (n1, .inl (va_cpy f g sp.toNatClampNeg dp.toNatClampNeg n.toNatClampNeg)) := va_copied (fun z => .int z) (G.2.2.1 0) (G.2.2.1 0) f g h4
      intro T hT Y
      obtain ⟨vm', X', step⟩ := Y.arraycopy hx hown (hts _ q1) (hts _ q248) (hts _ q247) (hts _ q56) (src := a) (dst := b) (cs := vp_cell (G.2.2.1 0) (n0, .inl f)) (cd := vp_cell (G.2.2.1 0) (n1, .inl g)) (srcPos := sp) (destPos := dp) (n := n) (by rw [hT]; exact hc0) (by rw [hT]; exact hc1)
        (fun _ h => by cases h) (fun _ h => by cases h) (fun h => by cases h) (fun h => by cases h) hk0 hk1 hkk0 hkk1 (by simp [refKind]) h1 h2 h3
        (by rw [nn sp h1, nn n h3, vp_cell_i, arrV_size]; omega)
        (by rw [nn dp h2, nn n h3, vp_cell_i, arrV_size]; omega)
        (fun vm₁ _ i hi => by
          have e : (vp_cell (G.2.2.1 0) (n0, .inl f)).slots.getD (sp.toNatClampNeg + i) .null = .int (f (sp.toNatClampNeg + i)) := by
            rw [vp_cell_i, Array.getD_eq_getD_getElem?, arrV_read _ _ (by omega)]
            rfl
          rw [e]
          exact ⟨rfl, trivial⟩)
        (g := F0 m pc ls (.int n :: .int dp :: .ref b :: .int sp :: .ref a :: rest)) rfl (hls.trans hml.symm) (rest := rest) rfl (by rw [hb]; exact hdg) hR.1 (by
          have : nativeFrameWords "java/lang/System" "arraycopy" 5 ≤ 40 := by decide +kernel
          show 2 * 0 + _ + _ ≤ _
          omega)
      rw [e1] at X' step
      have oq : ∀ q : Nat, q ≠ b → (H.setIfInBounds b (vp_cell (G.2.2.1 0) (n1, .inl (va_cpy f g sp.toNatClampNeg dp.toNatClampNeg n.toNatClampNeg))))[q]? = H[q]? := fun q hq => by simp [Array.getElem?_setIfInBounds, Ne.symm hq]
      obtain ⟨t, a1, b1⟩ := kk _ _ (hH.put (H1 := H.setIfInBounds b (vp_cell (G.2.2.1 0) (n1, .inl (va_cpy f g sp.toNatClampNeg dp.toNatClampNeg n.toNatClampNeg)))) (a := b) (e' := .inl (0, n1, .inl (va_cpy f g sp.toNatClampNeg dp.toNatClampNeg n.toNatClampNeg))) (by simp) (show (H.setIfInBounds b _)[b]? = some _ by simp [Array.getElem?_setIfInBounds, hl]) hge oq) ⟨by simp; exact hS.1, fun q g1 g2 => by
          rw [oq q (fun e => g2 (by rw [e]; exact hge))]
          exact hS.2.1 q g1 g2, fun q hq => by
          rcases List.mem_append.mp hq with h | h
          · exact hS.2.2 q h
          · obtain ⟨z, -, hz⟩ := List.mem_map.mp h
            rw [← hz]
            exact hge⟩ _ (by rw [← hT]; rfl) X'
      exact ⟨t, step t a1, b1⟩
  · cases h
end HROW4
