/-! ===== rows: references, casts, copies, more calls ===== -/
set_option maxRecDepth 100000
section HROW3
variable {p : Program} {l : Launch} {e : Env} {R : Room} {s : State} {m : MethodId} {args : Array Value} {below : List Frame} {meth : Method} {c : Code} {H : Heap} {locs : List Loc} {cells slots : Nat} {Q : State → Prop}
variable {cc : ByteArray} {pc : Nat} {ls : Array Slot} {rest st0 : List Value} {H0 : Heap} {G : GG} {σ σ' : SG} {y yo x : MethodName} {nL : Nat} {rto rt : Option FieldType} {mc ms k maxL n idx : Nat} {bytes : ByteArray} {As : List Value} {v : Option Value}

theorem asg_self (vm : Vm) (c : ClassId) : vm.assignable c c = true := by
  show vm.assignableAux (255 + 1) c c = true
  rw [Vm.assignableAux]
  simp only [beq_self_eq_true, Bool.true_or]
/-- a new array of references to objects -/
theorem h_newq {t B index : Nat} {C : String} {i : Int32} (X : Cx p s m args meth c cc rto nL yo) (hK : KK G s) (hH : HH G σ H) (hS : va_S (AG G) H0 H locs) (htC : (t = 3 ∧ C = "WordBench$Code") ∨ (t = 5 ∧ C = "java/lang/Object")) (h : nA t B σ i = some σ') (hB : B ≤ 100000) (hcl : Cond.classLink yo.cls index C ∈ lw_all) (hcells : cells + 1 ≤ R.cells) (hslots : slots + B ≤ R.slots) (hdg : decode cc pc = .ok (.anewarray index, 3))
    (kk : ∀ (H1 : Heap), HH G σ' H1 → va_S (AG G) H0 H1 locs → W p l e R s m args below meth c H1 locs (cells + 1) (slots + B) Q (F0 m (pc + 3) ls (.ref σ.1 :: rest))) : W p l e R s m args below meth c H locs cells slots Q (F0 m pc ls (.int i :: rest)) := by
  obtain ⟨hx, hb, -, -, hown, hts, -, -⟩ := X
  obtain ⟨hn, hnB, rfl⟩ := nA_s h
  have hover : (Cond.arrayOver (.object C)).before args s = true := by
    rcases htC with ⟨-, rfl⟩ | ⟨-, rfl⟩
    · exact va_AO.use hK.2.2.1
    · exact va_AO.use hK.2.2.2.1
  refine W.anew hx hb hown (hts _ hcl) hover rfl hdg rfl hn (by omega) hcells (by omega) fun cA kA comp f1 f2 f3 f4 => ?_
  refine W.widen (k := cells + 1) (n := slots + B) (Nat.le_refl _) (by omega) ?_
  generalize hH1 : H.push ({ cls := cA, slots := Array.replicate i.toNatClampNeg .null, vm := .none } : Cell) = H1
  have z1 : H1.size = H.size + 1 := by rw [← hH1, Array.size_push]
  have e1 : H1[H.size]? = some (arrV cA i.toNatClampNeg (fun _ => .null)) := by rw [← hH1, Array.getElem?_push_size, ← arrV_new]
  have o1 : ∀ q : Nat, q < H.size → H1[q]? = H[q]? := fun q hq => by rw [← hH1, Array.getElem?_push, if_neg (Nat.ne_of_lt hq)]
  rw [hH.1.1]
  refine kk H1 (hH.push z1 ?_ o1) ⟨Nat.le_trans hS.1 (by omega), fun x h1 h2 => (o1 x (Nat.lt_of_lt_of_le h1 hS.1)).trans (hS.2.1 x h1 h2), hS.2.2⟩
  show H1[H.size]? = some (vp_cell (G.2.2.1 t) (nD t i.toNatClampNeg))
  rw [e1]
  rcases htC with ⟨rfl, rfl⟩ | ⟨rfl, rfl⟩
  · obtain ⟨-, -, -, -, -, h5⟩ := (hK.1.2 3 _ rfl).2
    have hc : G.2.2.1 3 = cA := cls_eq h5 f1
    rw [hc]; rfl
  · obtain ⟨-, -, -, -, -, h5⟩ := (hK.1.2 5 _ rfl).2
    have hc : G.2.2.1 5 = cA := cls_eq h5 f1
    rw [hc]; rfl
/-- a new array of int arrays -/
theorem h_newI2 {B index : Nat} {i : Int32} (X : Cx p s m args meth c cc rto nL yo) (hK : KK G s) (hH : HH G σ H) (hS : va_S (AG G) H0 H locs) (h : nA 4 B σ i = some σ') (hB : B ≤ 100000) (hcl : Cond.classLink yo.cls index "[I" ∈ lw_all) (hcells : cells + 1 ≤ R.cells) (hslots : slots + B ≤ R.slots) (hdg : decode cc pc = .ok (.anewarray index, 3))
    (kk : ∀ (H1 : Heap), HH G σ' H1 → va_S (AG G) H0 H1 locs → W p l e R s m args below meth c H1 locs (cells + 1) (slots + B) Q (F0 m (pc + 3) ls (.ref σ.1 :: rest))) : W p l e R s m args below meth c H locs cells slots Q (F0 m pc ls (.int i :: rest)) := by
  obtain ⟨hx, hb, -, -, hown, hts, -, -⟩ := X
  obtain ⟨hn, hnB, rfl⟩ := nA_s h
  obtain ⟨kA, hkA, hkindA, hidx⟩ := hK.2.2.2.2.1
  have hI : s.vm.findClass "[I" = some (G.2.2.1 0) := (hK.1.2 0 _ rfl).2
  refine W.widen (k := cells) (n := slots) (Nat.le_refl _) (Nat.le_refl _) ?_
  intro T hT Y
  have hpl : e.platform.magicAccessors = ({} : Platform).magicAccessors := by rw [Y.admits.platform]
  obtain ⟨kComp, hkComp, -⟩ := Vm.findClass_spec hI
  obtain ⟨c0, hfcc, hcl0⟩ := Cond.classLink_spec hown (hts _ hcl) e.platform hpl
  cases hI.symm.trans hfcc
  obtain ⟨hg₁, hwarm₁, hready₁⟩ := State.classEntry (e := e) Y.warmed hcl0
  generalize T.vm.noted m.cls index (.cls (G.2.2.1 0)) = vm₁ at hg₁ hwarm₁ hready₁
  have hal : s.vm.Alike vm₁ := hwarm₁.alike
  obtain ⟨kComp₁, hkComp₁, -⟩ := hal.2.2 _ _ hkComp
  obtain ⟨kA₁, hkA₁, heA⟩ := hal.2.2 _ _ hkA
  have hkindA₁ : kA₁.kind = .array (G.2.2.1 0) (.array .int) := by rw [heA]; exact hkindA
  have hidx₁ : (vm₁.classes.findIdx? fun x => match x.kind with | .array component _ => component == G.2.2.1 0 | _ => false) = some (G.2.2.1 4) := by
    rw [hal.findIdx?_eqK _ (fun _ => rfl)]; exact hidx
  have hlimit : ¬ i.toNatClampNeg > e.platform.arrayLengthLimit := by rw [Launch.admits_arrayLengthLimit Y.admits]; omega
  have hheap : ¬ i.toNatClampNeg * componentBytes (.array .int) > e.platform.maxHeapBytes := by
    rw [Launch.admits_maxHeapBytes Y.admits]; show ¬ i.toNatClampNeg * 4 > 536870912; omega
  have Y₂ := (Y.noted hwarm₁).pushed { cls := G.2.2.1 4, slots := Array.replicate i.toNatClampNeg .null, vm := .none }
  obtain ⟨hr1, hr2⟩ := Y.roomAbove hcells (show slots + i.toNatClampNeg ≤ R.slots by omega)
  generalize hH1 : H.push ({ cls := G.2.2.1 4, slots := Array.replicate i.toNatClampNeg .null, vm := .none } : Cell) = H1
  have z1 : H1.size = H.size + 1 := by rw [← hH1, Array.size_push]
  have e1 : H1[H.size]? = some (arrV (G.2.2.1 4) i.toNatClampNeg (fun _ => .null)) := by rw [← hH1, Array.getElem?_push_size, ← arrV_new]
  have o1 : ∀ q : Nat, q < H.size → H1[q]? = H[q]? := fun q hq => by rw [← hH1, Array.getElem?_push, if_neg (Nat.ne_of_lt hq)]
  have K1 := kk H1 (hH.push z1 (show H1[H.size]? = some (vp_cell (G.2.2.1 4) (nD 4 i.toNatClampNeg)) from e1) o1) ⟨Nat.le_trans hS.1 (by omega), fun x h1 h2 => (o1 x (Nat.lt_of_lt_of_le h1 hS.1)).trans (hS.2.1 x h1 h2), hS.2.2⟩
  obtain ⟨t, a1, b1⟩ := W.widen (k := cells + 1) (n := slots + B) (Nat.le_refl _) (show slots + i.toNatClampNeg ≤ slots + B by omega) K1 ((T.setVm vm₁).pushCell { cls := G.2.2.1 4, slots := Array.replicate i.toNatClampNeg .null, vm := .none }) (by rw [← hH1, ← hT]; rfl) (by simpa using Y₂)
  refine ⟨t, ?_, b1⟩
  subst hb
  jvm_step Y.here [hx, hdg, anewarray.wp_cold (e := e) (s := T) (f := F0 m pc ls (.int i :: rest)) Y.here.top hg₁ hready₁,
    anewarray.wp_ready (e := e) (s := T.setVm vm₁) (f := F0 m pc ls (.int i :: rest)) (kc := kComp₁) (k := kA₁) (type := .array .int) Y.here.top hready₁ hkComp₁ hidx₁ hkA₁ hkindA₁ rfl rfl hn hlimit hheap]
  refine ⟨by show T.heap.size < _; omega, by show T.slotsUsed + _ ≤ _; exact hr2, ?_⟩
  rw [← hH.1.1, ← hT] at a1
  exact a1
theorem qset {f : Nat → Option Nat} {t n : Nat} {i : Int32} {w : Option Nat} {H1 : Heap} {b : Nat} (e : H1[b]? = some ((vp_cell (G.2.2.1 t) (n, .inr (.inr (.inr (.inr f))))).setSlot i.toNatClampNeg (va_rf w))) : va_at (G.1, G.2.1) vwCl (b, toE G.2.2.1 (.inl (t, n, .inr (.inr (.inr (.inr (va_up f i.toNatClampNeg w))))))) H1 := by
  show H1[b]? = some (vp_cell (G.2.2.1 t) (n, .inr (.inr (.inr (.inr (va_up f i.toNatClampNeg w))))))
  rw [e, vp_cell_q, vp_cell_q, arrV_store]
  congr 2
  funext q
  by_cases hq : q = i.toNatClampNeg
  · subst hq
    simp [updV, va_up]
  · simp [updV, va_up, hq]
theorem asg_castable {C D : String} (hK : KK G s) (hw : Cond.castable C D ∈ lw_tbl) : ∃ a b : ClassId, s.vm.findClass C = some a ∧ s.vm.findClass D = some b ∧ s.vm.assignable a b = true := Cond.castable_spec (hK.2.1 _ hw rfl)
theorem h_wQ {t b : Nat} {i : Int32} {w : Option Nat} (X : Cx p s m args meth c cc rto nL yo) (hK : KK G s) (hH : HH G σ H) (hS : va_S (AG G) H0 H locs) (ht : t = 3 ∨ t = 4 ∨ t = 5) (h : wQ t σ b i w = some σ') (hdg : decode cc pc = .ok (.aastore, 1)) (kk : ∀ (H1 : Heap) (locs1 : List Loc), HH G σ' H1 → va_S (AG G) H0 H1 locs1 → W p l e R s m args below meth c H1 locs1 cells slots Q (F0 m (pc + 1) ls rest)) : W p l e R s m args below meth c H locs cells slots Q (F0 m pc ls (va_rf w :: .int i :: .ref b :: rest)) := by
  obtain ⟨hx, hb, -, -, hown, hts, -, -⟩ := X
  unfold wQ at h
  split at h
  · rename_i t' n f he
    split at h
    · rename_i htt
      obtain ⟨htt, hok⟩ := htt
      subst htt
      split at h
      · cases h
      · rename_i hin
        cases h
        have hlt : i.toNatClampNeg < n := Nat.not_le.mp fun q => hin (Or.inr q)
        have h0 : ¬ i < 0 := fun q => hin (Or.inl q)
        obtain ⟨hcell, hge⟩ := hH.2 b _ he
        have hcell : H[b]? = some (vp_cell (G.2.2.1 t') (n, .inr (.inr (.inr (.inr f))))) := hcell
        have hn : ¬ (i < 0 ∨ (vp_cell (G.2.2.1 t') (n, .inr (.inr (.inr (.inr f))))).slots.size ≤ i.toNatClampNeg) := by rw [vp_cell_q, arrV_size]; exact hin
        cases w with
        | none =>
          have harr : ∀ C : String, (gtys G)[t']? = some (G.2.2.1 t', .object C) → W p l e R s m args below meth c H locs cells slots Q (F0 m pc ls (.null :: .int i :: .ref b :: rest)) := fun C hC =>
            va_WaastN (C := C) hx hb hcell ((hK.1.2 t' _ hC).1 n (fun j => va_rf (f j))) (fun h => by cases h) hn rfl rfl hdg fun H1 e z oq => kk H1 _ (hH.put z (qset (w := none) e) hge oq) (hS.put z oq hge)
          rcases ht with rfl | rfl | rfl
          · exact harr _ rfl
          · simp [okQ] at hok
          · exact harr _ rfl
        | some o =>
          have hin2 : ¬ i < 0 ∧ i.toNatClampNeg < (vp_cell (G.2.2.1 t') (n, .inr (.inr (.inr (.inr f))))).slots.size := ⟨h0, by rw [vp_cell_q, arrV_size]; exact hlt⟩
          unfold okQ at hok
          simp only at hok
          split at hok
          · rename_i ci fs ho
            have hob : ∀ D : String, (gtys G)[t']? = some (G.2.2.1 t', .object D) → (∀ w, vwCl[ci]? = some w → Cond.castable w.1 D ∈ lw_tbl) → W p l e R s m args below meth c H locs cells slots Q (F0 m pc ls (va_rf (some o) :: .int i :: .ref b :: rest)) := by
              intro D hD hcast
              obtain ⟨⟨r, h1, cell, q1, q2, q3, q4⟩, -⟩ := hH.2 o _ ho
              obtain ⟨-, hfc, kC, hkC, hkind⟩ := hK.1.1 ci r h1
              obtain ⟨kA, comp, k1, k2, k3, -⟩ := (hK.1.2 t' _ hD).2
              obtain ⟨ca, cb, f1, f2, f3⟩ := asg_castable hK (hcast r h1)
              cases hfc.symm.trans f1
              cases k3.symm.trans f2
              obtain ⟨kComp, hkComp, -⟩ := Vm.findClass_spec k3
              exact W.aast hx hb hcell (fun q h => by cases h) (fun h => by cases h) k1 k2 rfl hkComp hin2 q1 (fun q h => by rw [q3] at h; cases h) (by rw [q2]; exact hkC) (by rw [q2]; exact f3) rfl rfl hdg fun H1 e z oq => kk H1 _ (hH.put z (qset (w := some o) e) hge oq) (hS.put z oq hge)
            rcases ht with rfl | rfl | rfl
            · have hci : ci = 3 ∨ ci = 4 ∨ ci = 5 ∨ ci = 6 := by simpa [or_assoc] using hok
              refine hob _ rfl ?_
              rcases hci with rfl | rfl | rfl | rfl <;> (intro w hw; cases hw)
              · exact q1425
              · exact q1424
              · exact q1426
              · exact q1427
            · simp at hok
            · have hci : ci = 1 := by simpa using hok
              refine hob _ rfl ?_
              subst hci
              intro w hw
              cases hw
              exact q1431
          · rename_i n2 f2 ho
            have ht4 : t' = 4 := by simpa using hok
            subst ht4
            obtain ⟨hco, -⟩ := hH.2 o _ ho
            have hco : H[o]? = some (vp_cell (G.2.2.1 0) (n2, .inl f2)) := hco
            obtain ⟨kA, k1, k2, -⟩ := hK.2.2.2.2.1
            have hI : s.vm.findClass "[I" = some (G.2.2.1 0) := (hK.1.2 0 _ rfl).2
            obtain ⟨kComp, hkComp, -⟩ := Vm.findClass_spec hI
            exact W.aast hx hb hcell (fun q h => by cases h) (fun h => by cases h) k1 k2 rfl hkComp hin2 hco (fun q h => by cases h) hkComp (asg_self _ _) rfl rfl hdg fun H1 e z oq => kk H1 _ (hH.put z (qset (w := some o) e) hge oq) (hS.put z oq hge)
          · cases hok
    · cases h
  · cases h
/-- casts -/
def CastOf (cs : List Nat) (nm : String) : Prop := ∀ ci ∈ cs, ∃ w, vwCl[ci]? = some w ∧ (w.1 = nm ∨ Cond.castable w.1 nm ∈ lw_tbl)
def NoCast (cs : List Nat) (nm : String) : Prop := ∀ ci ∈ cs, ∃ w, vwCl[ci]? = some w ∧ Cond.not (.castable w.1 nm) ∈ flatC (Jvm.Cond.and given_1 narrow_1)
theorem h_cast {cs : List Nat} {b index : Nat} {nm : String} {u : Unit} (X : Cx p s m args meth c cc rto nL yo) (hK : KK G s) (hH : HH G σ H) (hC : CastOf cs nm) (h : cC cs σ b = some u) (hcl : Cond.classLink yo.cls index nm ∈ lw_all) (hdg : decode cc pc = .ok (.checkcast index, 3)) (kk : W p l e R s m args below meth c H locs cells slots Q (F0 m (pc + 3) ls (.ref b :: rest))) : W p l e R s m args below meth c H locs cells slots Q (F0 m pc ls (.ref b :: rest)) := by
  obtain ⟨hx, hb, -, -, hown, hts, -, -⟩ := X
  obtain ⟨ci, fs, he, hci⟩ := cC_s h
  obtain ⟨w, hw, hc⟩ := hC ci hci
  have hr := recv_of_HH hK hH he hw
  rcases hc with hc | hc
  · exact va_castS hx hb hown (hts _ hcl) (by rw [← hc]; exact (hK.1.1 ci w hw).2) (by rw [← hc]; exact hr) hdg kk
  · exact va_castY hx hb hown (hts _ hcl) (hK.2.1 _ hc rfl) hr hdg kk
theorem h_inst {ys ns : List Nat} {w : Option Nat} {index : Nat} {nm : String} {r : Int32} (X : Cx p s m args meth c cc rto nL yo) (hK : KK G s) (hH : HH G σ H) (hY : CastOf ys nm) (hN : NoCast ns nm) (h : iO ys ns σ w = some r) (hcl : Cond.classLink yo.cls index nm ∈ lw_all) (hdg : decode cc pc = .ok (.instanceof index, 3)) (kk : W p l e R s m args below meth c H locs cells slots Q (F0 m (pc + 3) ls (.int r :: rest))) : W p l e R s m args below meth c H locs cells slots Q (F0 m pc ls (va_rf w :: rest)) := by
  obtain ⟨hx, hb, -, -, hown, hts, -, -⟩ := X
  cases w with
  | none =>
    cases h
    exact lv_instN hx hb hdg kk
  | some b =>
    unfold iO at h
    simp only at h
    split at h
    · rename_i ci fs he
      split at h
      · rename_i hci
        cases h
        obtain ⟨w, hw, hc⟩ := hY ci hci
        have hr := recv_of_HH hK hH he hw
        rcases hc with hc | hc
        · exact va_instS hx hb hown (hts _ hcl) (by rw [← hc]; exact (hK.1.1 ci w hw).2) (by rw [← hc]; exact hr) hdg kk
        · exact va_instY hx hb hown (hts _ hcl) (hK.2.1 _ hc rfl) hr hdg kk
      · split at h
        · rename_i hci
          cases h
          obtain ⟨w, hw, hc⟩ := hN ci hci
          exact va_instNo hx hb hown (hts _ hcl) (hK.2.2.2.2.2.1 _ _ hc) (recv_of_HH hK hH he hw) hdg kk
        · cases h
    · cases h
/-- nullable references in locals -/
theorem q_aload_n {j : Fin 4} {i : Nat} {w : Option Nat} (hx : p.tables.exec = Jvm.exec) (hb : c.code = cc) (hdg : decode cc pc = .ok (.aload_n j, 1)) (hi : (j : Nat) = i) (hl : ls[i]? = some (.val (va_rf w))) (kk : W p l e R s m args below meth c H locs cells slots Q (F0 m (pc + 1) ls (va_rf w :: rest))) : W p l e R s m args below meth c H locs cells slots Q (F0 m pc ls rest) := by
  cases w with
  | none => exact lv_aload_nN hx hb hdg hi hl kk
  | some a => exact lv_aload_n hx hb hdg hi hl kk
theorem q_aload {i : Nat} {w : Option Nat} (hx : p.tables.exec = Jvm.exec) (hb : c.code = cc) (hdg : decode cc pc = .ok (.aload i, 2)) (hl : ls[i]? = some (.val (va_rf w))) (kk : W p l e R s m args below meth c H locs cells slots Q (F0 m (pc + 2) ls (va_rf w :: rest))) : W p l e R s m args below meth c H locs cells slots Q (F0 m pc ls rest) := by
  cases w with
  | none => exact lv_aloadN hx hb hdg hl kk
  | some a => exact lv_aload hx hb hdg hl kk
theorem q_astore_n {j : Fin 4} {i : Nat} {w : Option Nat} {lv lv' : List (Nat × Value)} (hx : p.tables.exec = Jvm.exec) (hb : c.code = cc) (hdg : decode cc pc = .ok (.astore_n j, 1)) (hi : (j : Nat) = i) (hl : lv_has ls nL lv) (hn : i < nL) (he : (i, va_rf w) :: lv.filter (fun q => !(q.1 == i) && !(q.1 + 1 == i && q.2.category == 2)) = lv')
    (kk : ∀ ls' : Array Slot, lv_has ls' nL lv' → W p l e R s m args below meth c H locs cells slots Q (F0 m (pc + 1) ls' rest)) : W p l e R s m args below meth c H locs cells slots Q (F0 m pc ls (va_rf w :: rest)) := by
  cases w with
  | none => exact lv_astore_nN hx hb hdg hi hl hn he kk
  | some a => exact lv_astore_n hx hb hdg hi hl hn he kk
theorem q_astore {i : Nat} {w : Option Nat} {lv lv' : List (Nat × Value)} (hx : p.tables.exec = Jvm.exec) (hb : c.code = cc) (hdg : decode cc pc = .ok (.astore i, 2)) (hl : lv_has ls nL lv) (hn : i < nL) (he : (i, va_rf w) :: lv.filter (fun q => !(q.1 == i) && !(q.1 + 1 == i && q.2.category == 2)) = lv')
    (kk : ∀ ls' : Array Slot, lv_has ls' nL lv' → W p l e R s m args below meth c H locs cells slots Q (F0 m (pc + 2) ls' rest)) : W p l e R s m args below meth c H locs cells slots Q (F0 m pc ls (va_rf w :: rest)) := by
  cases w with
  | none => exact lv_astoreN hx hb hdg hl hn he kk
  | some a => exact lv_astore hx hb hdg hl hn he kk
end HROW3
