/-! ===== rows over abstract heaps, by operation ===== -/
set_option maxRecDepth 100000
section HROW
variable {p : Program} {l : Launch} {e : Env} {R : Room} {s : State} {m : MethodId} {args : Array Value} {below : List Frame} {meth : Method} {c : Code} {H : Heap} {locs : List Loc} {cells slots : Nat} {Q : State → Prop}
variable {cc : ByteArray} {pc : Nat} {ls : Array Slot} {rest : List Value} {H0 : Heap} {G : GG} {σ σ' : SG} {y yo : MethodName} {nL : Nat} {rto : Option FieldType}

theorem h_get {cs : List Nat} {b k index : Nat} {ref nm ds : String} {fin : Bool} {w : Value} (X : Cx p s m args meth c cc rto nL yo) (hK : KK G s) (hH : HH G σ H) (hF : FieldOf cs k ref nm ds fin) (hg : gV cs σ b k = some w) (hlink : Cond.fieldLink yo.cls index ref nm ds ∈ lw_all) (hdg : decode cc pc = .ok (.getfield index, 3))
    (kk : W p l e R s m args below meth c H locs cells slots Q (F0 m (pc + 3) ls (w :: rest))) : W p l e R s m args below meth c H locs cells slots Q (F0 m pc ls (.ref b :: rest)) := by
  obtain ⟨ci, fs, he, hci, hv⟩ := gV_s hg
  obtain ⟨C, T, N, ty0, hc, hin, hk, hT, hty, hnm⟩ := hF ci hci
  exact hh_get (ref := ref) X.1 X.2.1 X.2.2.2.2.1 X.2.2.2.2.2.1 hin hK hH he hc k hk (by rw [hT]; exact hlink) (by rw [hT]) hv hdg kk
theorem h_gI {cs : List Nat} {b k index : Nat} {ref nm ds : String} {fin : Bool} {r : Int32} (X : Cx p s m args meth c cc rto nL yo) (hK : KK G s) (hH : HH G σ H) (hF : FieldOf cs k ref nm ds fin) (hg : gI cs σ b k = some r) (hlink : Cond.fieldLink yo.cls index ref nm ds ∈ lw_all) (hdg : decode cc pc = .ok (.getfield index, 3))
    (kk : W p l e R s m args below meth c H locs cells slots Q (F0 m (pc + 3) ls (.int r :: rest))) : W p l e R s m args below meth c H locs cells slots Q (F0 m pc ls (.ref b :: rest)) := h_get X hK hH hF (gI_s hg) hlink hdg kk
theorem h_gJ {cs : List Nat} {b k index : Nat} {ref nm ds : String} {fin : Bool} {r : Int64} (X : Cx p s m args meth c cc rto nL yo) (hK : KK G s) (hH : HH G σ H) (hF : FieldOf cs k ref nm ds fin) (hg : gJ cs σ b k = some r) (hlink : Cond.fieldLink yo.cls index ref nm ds ∈ lw_all) (hdg : decode cc pc = .ok (.getfield index, 3))
    (kk : W p l e R s m args below meth c H locs cells slots Q (F0 m (pc + 3) ls (.long r :: rest))) : W p l e R s m args below meth c H locs cells slots Q (F0 m pc ls (.ref b :: rest)) := h_get X hK hH hF (gJ_s hg) hlink hdg kk
theorem h_gR {cs : List Nat} {b k index : Nat} {ref nm ds : String} {fin : Bool} {r : Nat} (X : Cx p s m args meth c cc rto nL yo) (hK : KK G s) (hH : HH G σ H) (hF : FieldOf cs k ref nm ds fin) (hg : gR cs σ b k = some r) (hlink : Cond.fieldLink yo.cls index ref nm ds ∈ lw_all) (hdg : decode cc pc = .ok (.getfield index, 3))
    (kk : W p l e R s m args below meth c H locs cells slots Q (F0 m (pc + 3) ls (.ref r :: rest))) : W p l e R s m args below meth c H locs cells slots Q (F0 m pc ls (.ref b :: rest)) := h_get X hK hH hF (gR_s hg) hlink hdg kk
theorem h_gQ {cs : List Nat} {b k index : Nat} {ref nm ds : String} {fin : Bool} {r : Option Nat} (X : Cx p s m args meth c cc rto nL yo) (hK : KK G s) (hH : HH G σ H) (hF : FieldOf cs k ref nm ds fin) (hg : gQ cs σ b k = some r) (hlink : Cond.fieldLink yo.cls index ref nm ds ∈ lw_all) (hdg : decode cc pc = .ok (.getfield index, 3))
    (kk : W p l e R s m args below meth c H locs cells slots Q (F0 m (pc + 3) ls (va_rf r :: rest))) : W p l e R s m args below meth c H locs cells slots Q (F0 m pc ls (.ref b :: rest)) := h_get X hK hH hF (gQ_s hg) hlink hdg kk
theorem h_put {cs : List Nat} {b k index : Nat} {ref nm ds : String} {w : Value} {ty : FieldType} (X : Cx p s m args meth c cc rto nL yo) (hK : KK G s) (hH : HH G σ H) (hS : va_S (AG G) H0 H locs) (hF : FieldOf cs k ref nm ds false) (hg : pV cs σ b k w = some σ') (hlink : Cond.fieldLink yo.cls index ref nm ds ∈ lw_all) (hd : parseFieldDescriptor ds = some ty) (hn : narrow ty w = w) (hfit : fits ty w = true) (hdg : decode cc pc = .ok (.putfield index, 3))
    (kk : ∀ (H1 : Heap) (locs1 : List Loc), HH G σ' H1 → va_S (AG G) H0 H1 locs1 → W p l e R s m args below meth c H1 locs1 cells slots Q (F0 m (pc + 3) ls rest)) : W p l e R s m args below meth c H locs cells slots Q (F0 m pc ls (w :: .ref b :: rest)) := by
  obtain ⟨ci, fs, he, hci, hl, rfl⟩ := pV_s hg
  obtain ⟨C, T, N, ty0, hc, hin, hk, hT, hty, hnm⟩ := hF ci hci
  exact hh_put (ref := ref) X.1 X.2.1 X.2.2.2.2.1 X.2.2.2.2.2.1 hin ty0 hty hnm hK hH hS he hc k hk (by rw [hT]; exact hlink) (by rw [hT]) (by rw [hT]) (by rw [hT]; exact hd) hn hfit hl hdg kk
/-- a final field, in its class's constructor -/
theorem h_putF {cs : List Nat} {b k index : Nat} {ref nm ds : String} {w : Value} {ty : FieldType} (X : Cx p s m args meth c cc rto nL yo) (hK : KK G s) (hH : HH G σ H) (hS : va_S (AG G) H0 H locs) (hF : FieldOf cs k ref nm ds true) (hg : pV cs σ b k w = some σ') (hlink : Cond.fieldLink yo.cls index ref nm ds ∈ lw_all) (hin2 : yo.name = "<init>") (hdecl : ref = yo.cls) (hd : parseFieldDescriptor ds = some ty) (hn : narrow ty w = w) (hfit : fits ty w = true) (hdg : decode cc pc = .ok (.putfield index, 3))
    (kk : ∀ (H1 : Heap) (locs1 : List Loc), HH G σ' H1 → va_S (AG G) H0 H1 locs1 → W p l e R s m args below meth c H1 locs1 cells slots Q (F0 m (pc + 3) ls rest)) : W p l e R s m args below meth c H locs cells slots Q (F0 m pc ls (w :: .ref b :: rest)) := by
  obtain ⟨hx, hb, -, -, hown, hts, -, hnam⟩ := X
  obtain ⟨ci, fs, he, hci, hl, rfl⟩ := pV_s hg
  obtain ⟨C, T, N, ty0, hc, hin, hk, hT, hty, hnm⟩ := hF ci hci
  have hap := va_apart (own := yo.cls) hts hin ty0 hty hnm hK.1 hc
  obtain ⟨⟨r, h1, cell, q1, q2, q3, q4⟩, hge⟩ := hH.2 b _ he
  have hr : r = (C, T, N) := Option.some.inj (h1.symm.trans hc)
  subst hr
  obtain ⟨hSl, hfc, kC, hkC, hkind⟩ := hK.1.1 ci _ hc
  obtain ⟨cf, kf, fi, f, hi, hsl⟩ := hSl k hk
  have hlay := hts _ (hin _ (u_in_lay hk))
  unfold u_lay at hlay
  rw [if_pos (by rw [hT])] at hlay
  have hst := (u_facts hfc hkC (u_lays hts hin hk) hi).1
  have hcf : m.cls = cf := by
    obtain ⟨_, _, c', _, _, _, -, -, hf', -, -, -, hown2, -⟩ := Cond.laysFinal_spec hlay
    have e1 : c' = cf := by have := hi.symm.trans hf'; simp at this; exact this.1.symm
    rw [hT] at hown2
    have hown2 : s.vm.findClass ref = some c' := hown2
    rw [hdecl] at hown2
    rw [← e1]
    exact Option.some.inj (hown.symm.trans hown2)
  have h6 := u_fits hfc hkC hkind (Or.inr hlay) hi (by rw [hT]; exact hd) hn hfit
  have hi0 : s.fieldFound? (T k).1 (T k).2.1 (T k).2.2.1 = some (cf, kf, fi, f) := hi
  have hi' : s.fieldFound? ref nm ds = some (cf, kf, fi, f) := by rw [hT] at hi0; exact hi0
  refine W.putFinK hx hb hown (hts _ hlink) hi' hst hcf (hnam.trans hin2) (by rw [q2]; exact h6) q1 q3 (by rw [hsl]; exact k2_hasslot (q4 k hk)) rfl rfl hdg fun H' e1 e2 e3 => ?_
  rw [hsl] at e1 ⊢
  exact kk H' _ (hH.put e2 ⟨_, hc, t_OB.to (V := updV (vp_V fs) k w) ⟨_, e1, q2, q3, t_set q4 hap hk w⟩ (fun j _ => vp_updV_set hl w j)⟩ hge e3) (hS.put e2 e3 hge)
theorem h_aI {b : Nat} {i r : Int32} (X : Cx p s m args meth c cc rto nL yo) (hK : KK G s) (hH : HH G σ H) (h : aI σ b i = some r) (hdg : decode cc pc = .ok (.iaload, 1)) (kk : W p l e R s m args below meth c H locs cells slots Q (F0 m (pc + 1) ls (.int r :: rest))) : W p l e R s m args below meth c H locs cells slots Q (F0 m pc ls (.int i :: .ref b :: rest)) := by
  unfold aI at h
  split at h
  · rename_i n f he
    exact hh_iald X.1 X.2.1 hK hH he h hdg kk
  · cases h
theorem h_aL {b : Nat} {i : Int32} {r : Int64} (X : Cx p s m args meth c cc rto nL yo) (hK : KK G s) (hH : HH G σ H) (h : aL σ b i = some r) (hdg : decode cc pc = .ok (.laload, 1)) (kk : W p l e R s m args below meth c H locs cells slots Q (F0 m (pc + 1) ls (.long r :: rest))) : W p l e R s m args below meth c H locs cells slots Q (F0 m pc ls (.int i :: .ref b :: rest)) := by
  unfold aL at h
  split at h
  · rename_i n f he
    exact hh_lald X.1 X.2.1 hK hH he h hdg kk
  · cases h
theorem h_aQ {t b : Nat} {i : Int32} {r : Option Nat} (ht : t = 3 ∨ t = 4 ∨ t = 5) (X : Cx p s m args meth c cc rto nL yo) (hK : KK G s) (hH : HH G σ H) (h : aQ t σ b i = some r) (hdg : decode cc pc = .ok (.aaload, 1)) (kk : W p l e R s m args below meth c H locs cells slots Q (F0 m (pc + 1) ls (va_rf r :: rest))) : W p l e R s m args below meth c H locs cells slots Q (F0 m pc ls (.int i :: .ref b :: rest)) := by
  unfold aQ at h
  split at h
  · rename_i t' n f he
    split at h
    · rename_i htt
      subst htt
      obtain ⟨hin, hv⟩ := ald_s h
      subst hv
      have hlt : i.toNatClampNeg < n := Nat.not_le.mp fun q => hin (Or.inr q)
      have hcell : H[b]? = some (vp_cell (G.2.2.1 t') (n, .inr (.inr (.inr (.inr f))))) := (hH.2 b _ he).1
      have hn : ¬ (i < 0 ∨ (vp_cell (G.2.2.1 t') (n, .inr (.inr (.inr (.inr f))))).slots.size ≤ i.toNatClampNeg) := by rw [vp_cell_q, arrV_size]; exact hin
      have hr : (vp_cell (G.2.2.1 t') (n, .inr (.inr (.inr (.inr f))))).slots[i.toNatClampNeg]? = some (va_rf (f i.toNatClampNeg)) := by rw [vp_cell_q, arrV_read _ _ hlt]
      rcases ht with rfl | rfl | rfl
      · exact W.aald (v := va_rf (f i.toNatClampNeg)) (ty := .object "WordBench$Code") X.1 X.2.1 hcell ((hK.1.2 3 _ rfl).1 n (fun j => va_rf (f j))) rfl (fun q => by cases q) hn hr rfl rfl hdg kk
      · exact W.aald (v := va_rf (f i.toNatClampNeg)) (ty := .array .int) X.1 X.2.1 hcell ((hK.1.2 4 _ rfl).1 n (fun j => va_rf (f j))) rfl (fun q => by cases q) hn hr rfl rfl hdg kk
      · exact W.aald (v := va_rf (f i.toNatClampNeg)) (ty := .object "java/lang/Object") X.1 X.2.1 hcell ((hK.1.2 5 _ rfl).1 n (fun j => va_rf (f j))) rfl (fun q => by cases q) hn hr rfl rfl hdg kk
    · cases h
  · cases h
theorem h_wI {b : Nat} {i x : Int32} (X : Cx p s m args meth c cc rto nL yo) (hK : KK G s) (hH : HH G σ H) (hS : va_S (AG G) H0 H locs) (h : wI σ b i x = some σ') (hdg : decode cc pc = .ok (.iastore, 1)) (kk : ∀ (H1 : Heap) (locs1 : List Loc), HH G σ' H1 → va_S (AG G) H0 H1 locs1 → W p l e R s m args below meth c H1 locs1 cells slots Q (F0 m (pc + 1) ls rest)) : W p l e R s m args below meth c H locs cells slots Q (F0 m pc ls (.int x :: .int i :: .ref b :: rest)) := by
  unfold wI at h
  split at h
  · rename_i n f he
    obtain ⟨f', h1, rfl⟩ := Option.map_eq_some_iff.mp h
    exact hh_iast X.1 X.2.1 hK hH hS he h1 hdg kk
  · cases h
theorem h_wL {b : Nat} {i : Int32} {x : Int64} (X : Cx p s m args meth c cc rto nL yo) (hK : KK G s) (hH : HH G σ H) (hS : va_S (AG G) H0 H locs) (h : wL σ b i x = some σ') (hdg : decode cc pc = .ok (.lastore, 1)) (kk : ∀ (H1 : Heap) (locs1 : List Loc), HH G σ' H1 → va_S (AG G) H0 H1 locs1 → W p l e R s m args below meth c H1 locs1 cells slots Q (F0 m (pc + 1) ls rest)) : W p l e R s m args below meth c H locs cells slots Q (F0 m pc ls (.long x :: .int i :: .ref b :: rest)) := by
  unfold wL at h
  split at h
  · rename_i n f he
    obtain ⟨f', h1, rfl⟩ := Option.map_eq_some_iff.mp h
    exact hh_last X.1 X.2.1 hK hH hS he h1 hdg kk
  · cases h
theorem h_wB {b : Nat} {i x : Int32} (X : Cx p s m args meth c cc rto nL yo) (hK : KK G s) (hH : HH G σ H) (hS : va_S (AG G) H0 H locs) (h : wB σ b i x = some σ') (hdg : decode cc pc = .ok (.bastore, 1)) (kk : ∀ (H1 : Heap) (locs1 : List Loc), HH G σ' H1 → va_S (AG G) H0 H1 locs1 → W p l e R s m args below meth c H1 locs1 cells slots Q (F0 m (pc + 1) ls rest)) : W p l e R s m args below meth c H locs cells slots Q (F0 m pc ls (.int x :: .int i :: .ref b :: rest)) := by
  unfold wB at h
  split at h
  · rename_i n f he
    obtain ⟨f', h1, rfl⟩ := Option.map_eq_some_iff.mp h
    obtain ⟨hin, hv⟩ := iast_s h1
    subst hv
    obtain ⟨h1, hge⟩ := hH.2 b _ he
    refine W.bast X.1 X.2.1 h1 ((hK.1.2 2 _ rfl).1 n (fun j => .int (f j))) (fun q => by cases q) (by show ¬ (i < 0 ∨ (arrV _ _ _).slots.size ≤ _); rw [arrV_size]; exact hin) rfl rfl hdg fun H1 e z oq => ?_
    refine kk H1 _ (hH.put z ?_ hge oq) (hS.put z oq hge)
    have e : H1[b]? = some ((vp_cell (G.2.2.1 2) (n, Sum.inl f)).setSlot i.toNatClampNeg (narrow .byte (.int x))) := e
    show H1[b]? = some (vp_cell (G.2.2.1 2) (n, Sum.inl (upd f i.toNatClampNeg (vp_nar .byte x))))
    rw [e, vp_cell_i, vp_cell_i, arrV_store]
    congr 2
    funext q
    by_cases hq : q = i.toNatClampNeg
    · subst hq
      simp [updV, upd, vp_nar]
      try rfl
    · simp [updV, upd, hq]
  · cases h
theorem h_aN {b : Nat} {r : Int32} (X : Cx p s m args meth c cc rto nL yo) (hK : KK G s) (hH : HH G σ H) (h : aN σ b = some r) (hdg : decode cc pc = .ok (.arraylength, 1)) (kk : W p l e R s m args below meth c H locs cells slots Q (F0 m (pc + 1) ls (.int r :: rest))) : W p l e R s m args below meth c H locs cells slots Q (F0 m pc ls (.ref b :: rest)) := by
  unfold aN at h
  split at h
  · rename_i t n g he
    split at h
    · rename_i ht
      cases h
      have key : ∃ ty, (gtys G)[t]? = some (G.2.2.1 t, ty) := by
        rcases (show t = 0 ∨ t = 1 ∨ t = 2 ∨ t = 3 ∨ t = 4 ∨ t = 5 by omega) with rfl | rfl | rfl | rfl | rfl | rfl <;> exact ⟨_, rfl⟩
      obtain ⟨ty, hty⟩ := key
      exact va_alen (D := (G.1, G.2.1)) (cl := vwCl) (ws := [(b, .inl (G.2.2.1 t, n, g))]) (ty := ty) X.1 X.2.1 hK.1 (fun k q hq => by
        cases k with
        | zero => cases hq; exact (hH.2 b _ he).1
        | succ k => simp at hq) 0 t rfl hty rfl hdg kk
    · cases h
  · cases h
/-- a new object of the class at place ci -/
theorem h_new {C : String} {T : u_T} {N ci index : Nat} {fs : List Value} (X : Cx p s m args meth c cc rto nL yo) (hK : KK G s) (hH : HH G σ H) (hS : va_S (AG G) H0 H locs) (ty : Nat → FieldType) (hty : ∀ k, k < N → parseFieldDescriptor (T k).2.2.1 = some (ty k)) (hin : ∀ w ∈ u_ws C T N, w ∈ lw_all) (hc : vwCl[ci]? = some (C, T, N)) (hcl : Cond.classLink yo.cls index C ∈ lw_all) (hinst : Cond.instantiable C N ∈ lw_all) (hini : Cond.initialized C ∈ lw_all) (hfs : ∀ j, j < N → defaultValue (ty j) = vp_V fs j) (hcells : cells + 1 ≤ R.cells) (hslots : slots + N ≤ R.slots) (hdg : decode cc pc = .ok (.new index, 3))
    (kk : ∀ (H1 : Heap), HH G (nO ci fs σ) H1 → va_S (AG G) H0 H1 locs → W p l e R s m args below meth c H1 locs (cells + 1) (slots + N) Q (F0 m (pc + 3) ls (.ref σ.1 :: rest))) : W p l e R s m args below meth c H locs cells slots Q (F0 m pc ls rest) := by
  obtain ⟨hx, hb, -, -, hown, hts, -, -⟩ := X
  have hKn := hK.1.1 ci _ hc
  refine W.newcK hx hb hown (hts _ hcl) (hts _ hinst) (hts _ hini) rfl hdg hcells hslots hKn.2.1 rfl fun H1 kC hkC e1 z1 o1 => ?_
  rw [hH.1.1]
  exact kk H1 (hH.push z1 ⟨_, hc, (u_born ty hts hin hKn hkC e1 hty).to hfs⟩ o1) ⟨Nat.le_trans hS.1 (by omega), fun x h1 h2 => (o1 x (Nat.lt_of_lt_of_le h1 hS.1)).trans (hS.2.1 x h1 h2), hS.2.2⟩
theorem nA_s {t B : Nat} {n : Int32} (h : nA t B σ n = some σ') : ¬ n < 0 ∧ n.toNatClampNeg ≤ B ∧ σ' = (σ.1 + 1, va_up σ.2 σ.1 (some (.inl (t, nD t n.toNatClampNeg)))) := by
  unfold nA at h
  split at h
  · cases h
  · rename_i hc
    exact ⟨fun q => hc (Or.inl q), Nat.not_lt.mp fun q => hc (Or.inr q), (Option.some.inj h).symm⟩
theorem cls_eq {a b : ClassId} {nm : String} (h1 : s.vm.findClass nm = some a) (h2 : s.vm.findClass nm = some b) : a = b := Option.some.inj (h1.symm.trans h2)
/-- a new array of ints, longs or bytes -/
theorem h_newa {t B : Nat} {n : Int32} {atype : ArrayType} (X : Cx p s m args meth c cc rto nL yo) (hK : KK G s) (hH : HH G σ H) (hS : va_S (AG G) H0 H locs) (hta : (t = 0 ∧ atype = .int) ∨ (t = 1 ∧ atype = .long) ∨ (t = 2 ∧ atype = .byte)) (h : nA t B σ n = some σ') (hB : B ≤ 100000) (harr : Cond.arrayClass (newarray.typeOf atype) ∈ lw_all) (hcells : cells + 1 ≤ R.cells) (hslots : slots + B ≤ R.slots) (hdg : decode cc pc = .ok (.newarray atype, 2))
    (kk : ∀ (H1 : Heap), HH G σ' H1 → va_S (AG G) H0 H1 locs → W p l e R s m args below meth c H1 locs (cells + 1) (slots + B) Q (F0 m (pc + 2) ls (.ref σ.1 :: rest))) : W p l e R s m args below meth c H locs cells slots Q (F0 m pc ls (.int n :: rest)) := by
  obtain ⟨hx, hb, -, -, hown, hts, -, -⟩ := X
  obtain ⟨hn, hnB, rfl⟩ := nA_s h
  refine va_newaK hx hb (hts _ harr) rfl hdg rfl hn rfl (by rcases hta with ⟨-, rfl⟩ | ⟨-, rfl⟩ | ⟨-, rfl⟩ <;> (simp only [newarray.typeOf, componentBytes]; omega)) hcells (by omega) rfl fun H1 cA e1 z1 o1 hAr hNm => ?_
  refine W.widen (k := cells + 1) (n := slots + B) (Nat.le_refl _) (by omega) ?_
  rw [hH.1.1]
  refine kk H1 (hH.push z1 ?_ o1) ⟨Nat.le_trans hS.1 (by omega), fun x h1 h2 => (o1 x (Nat.lt_of_lt_of_le h1 hS.1)).trans (hS.2.1 x h1 h2), hS.2.2⟩
  show H1[H.size]? = some (vp_cell (G.2.2.1 t) (nD t n.toNatClampNeg))
  rw [e1]
  rcases hta with ⟨rfl, rfl⟩ | ⟨rfl, rfl⟩ | ⟨rfl, rfl⟩
  · have hc : G.2.2.1 0 = cA := cls_eq (hK.1.2 0 _ rfl).2 hNm
    rw [hc]; rfl
  · have hc : G.2.2.1 1 = cA := cls_eq (hK.1.2 1 _ rfl).2 hNm
    rw [hc]; rfl
  · have hc : G.2.2.1 2 = cA := cls_eq (hK.1.2 2 _ rfl).2 hNm
    rw [hc]; rfl
end HROW
