/-! ===== T9: contracts of Tossed(n), Code.failure, Line.failure ===== -/
set_option maxRecDepth 100000
/-- a contract whose heap is known but for one object's fields -/
def PostE (G : GG) (F : List Value → SG) (P : List Value → Prop) (v : Option Value) : Array Value → State → Outcome → State → Prop := fun a st o t => ∃ fs, P fs ∧ PostC G (F fs) v a st o t
def tN7 (n : Int32) : List Value → Prop := fun fs => fs.length = 7 ∧ fs[6]? = some (.int n)
def PreI (G : GG) (σ : SG) (a : Nat) (n : Int32) : Array Value → State → Prop := va_Pc [.ref a, .int n] (fun U => (HH G σ U.heap ∧ KK G U) ∧ ∃ kX, U.vm.classes[G.1 9]? = some kX ∧ U.heap[a]? = some (freshCell (G.1 9) kX))
theorem PreI_blind {G : GG} {σ : SG} {a : Nat} {n : Int32} : FrameBlind (PreI G σ a n) := fun b U g mk q => ⟨q.1, ⟨q.2.1.1, KK.same (U := U.calling g mk b) (show U.vm = (U.calling g mk b).vm from rfl) q.2.1.2⟩, q.2.2⟩
theorem fo_X10_6 : FieldOf [9] 6 "WordBench$Tossed" "n" "I" true := fo_0 (N := 7) (ty0 := tyX10) rfl in_X10 (by decide) rfl tyX10_ok nmX10
section XT9
variable {p : Program} {l : Launch} {e : Env} {R : Room} {s : State} {m : MethodId} {args : Array Value} {below : List Frame} {meth : Method} {c : Code} {H : Heap} {locs : List Loc} {cells slots : Nat} {Q : State → Prop}
variable {cc : ByteArray} {pc : Nat} {ls : Array Slot} {rest st0 : List Value} {H0 : Heap} {mc ms : Nat} {G : GG} {σ σ' : SG} {v : Option Value} {a : Array Value} {F : List Value → SG} {P : List Value → Prop}
theorem call_goE (hr : va_Run p l e R s m args below meth c H locs cells slots mc ms (F0 m pc ls st0) rest (PostE G F P v a) (AG G)) (hS : va_S (AG G) H0 H locs)
    (kk : ∀ (fs : List Value) (H1 : Heap) (locs1 : List Loc), P fs → HH G (F fs) H1 → va_S (AG G) H0 H1 locs1 → W p l e R s m args below meth c H1 locs1 (cells + mc) (slots + ms) Q (F0 m (pc + 3) ls (v.toList ++ rest))) : W p l e R s m args below meth c H locs cells slots Q (F0 m pc ls st0) := by
  intro T hT X
  obtain ⟨v', st₀, t, T', L, h0, X', hL, e1, e2, ⟨fs, hP, hv, hh, hz, hk⟩, st⟩ := hr T hT X
  have hv := Outcome.returned.inj hv
  subst hv
  rw [h0] at hz hk
  obtain ⟨t2, a1, b1⟩ := kk fs T'.heap (locs ++ L) hP (by rw [e1]; exact hh)
    ⟨Nat.le_trans hS.1 (by rw [e1]; exact hz), fun q h1 h2 => by rw [e1, hk q (Nat.lt_of_lt_of_le h1 hS.1) h2]; exact hS.2.1 q h1 h2, fun q hq => by
      rcases List.mem_append.mp hq with h | h
      · exact hS.2.2 q h
      · exact hL q h⟩ T' rfl X'
  exact ⟨t2, st t2 a1, b1⟩
/-- a Tossed whose fields but one nobody knows -/
theorem tos_at {A : Nat} {ce : Cell} {kX : Class} (hK : KK G s) (hts : ∀ w ∈ lw_all, w.before args s = true) (hkX : s.vm.classes[G.1 9]? = some kX) (h1 : H[A]? = some ce) (h2 : ce.cls = G.1 9) (h3 : ce.vm = .none) (h4 : ce.slots.size = 7) : ∃ fs : List Value, fs.length = 7 ∧ va_at (G.1, G.2.1) vwCl (A, toE G.2.2.1 (.inr (9, fs))) H := by
  have hKn := hK.1.1 9 _ (show vwCl[9]? = some (RX10, TX10, 7) from rfl)
  obtain ⟨c1, k1, hc1, hk1, -, -, -, hn7⟩ := Cond.instantiable_spec (hts _ q923)
  cases Option.some.inj (hc1.symm.trans hKn.2.1)
  cases Option.some.inj (hk1.symm.trans hkX)
  have hsl : ∀ k, k < 7 → G.2.1 9 k < 7 := fun k hk => by
    obtain ⟨cf, kf, fi, f, hi, hsl⟩ := hKn.1 k hk
    have := (u_facts hKn.2.1 hkX (u_lays hts in_X10 hk) hi).2.2
    have := (Array.getElem?_eq_some_iff.mp this).1
    rw [hn7, hsl] at this
    exact this
  refine ⟨(List.range 7).map (fun k => (ce.slots[G.2.1 9 k]?).getD .null), by simp, _, rfl, ce, h1, h2, h3, fun k hk => ?_⟩
  have := hsl k hk
  rw [← h4] at this
  show ce.slots[G.2.1 9 k]? = some (vp_V _ k)
  unfold vp_V
  rw [List.getD_eq_getElem?_getD, List.getElem?_map, List.getElem?_range (by exact hk)]
  simp [this]
end XT9
theorem met_X10_init (l : Launch) (htl : ∀ e, l.admits e → e.platform.stackTraces = false) (G : GG) (σ : SG) (a : Nat) (n : Int32) (ha : G.2.2.2.1.size ≤ a) : Met l yX10_init (ws_ yX10_init cX10_init 2 none) (rx_ 6 300 0 0) (PreI G σ a n) (PostE G (fun fs => (σ.1, va_up σ.2 a (some (.inr (9, fs))))) (tN7 n) none) 0 0 (AG G) := by
  refine Met.ofW (cc := cX10_init) (maxL := 2) (ret := none) (by decide) rfl ?_
  intro p e s m args below meth c s₁ B hml hv
  obtain ⟨rfl, ⟨hH, hK⟩, kX, hkX, hcell⟩ := hv
  have hts := atoms_spec (ws := ws_ yX10_init cX10_init 2 none) B.pre
  have hts : ∀ w ∈ lw_all, w.before _ s = true := fun w h => hts w (List.mem_cons_of_mem _ h)
  rw [lg_entry_eq]
  have X : Cx p s m ([.ref a, .int n] : List Value).toArray meth c cX10_init none 2 yX10_init := ⟨B.exec, B.bytes, B.returns, hml, findClass_of_methodNamed B.named, hts, B.notSynchronized, (name_of_methodNamed B.named B.method).1⟩
  have hl := lv_entry [.ref a, .int n] (n := 2) (Nat.le_of_ble_eq_true rfl)
  have hx := X.1
  have hb := X.2.1
  have hown : s.vm.findClass "WordBench$Tossed" = some m.cls := X.2.2.2.2.1
  have hS : va_S (AG G) s.heap s.heap [] := va_S.rf
  have hfc : s.vm.findClass "WordBench$Tossed" = some (G.1 9) := (hK.1.1 9 _ (show vwCl[9]? = some (RX10, TX10, 7) from rfl)).2.1
  revert hl
  generalize (lg_sl [Value.ref a, Value.int n] ++ List.replicate (2 - (lg_sl [Value.ref a, Value.int n]).length) Slot.unset).toArray = ls
  intro hl
  have hl : lv_has ls 2 [(0, .ref a), (1, .int n)] := hl
  refine lv_aload_n hx hb dX10_init_0 rfl (lv_at hl 0 rfl) ?_
  intro T hTh XS
  have hna : ∀ (cf : ClassId) (kf : Class) (fi : Nat) (f : Field) (aS : Nat), s.fieldFound? Bundle.tN "UNASSIGNED_STACK" Bundle.steD = some (cf, kf, fi, f) → kf.statics = some aS → a ≠ aS := fun cf kf fi f aS h1 h2 => x_locs (locs := [⟨a, 0⟩]) hK (fun x hx => by rw [List.mem_singleton.mp hx]; exact ha) ⟨a, 0⟩ List.mem_cons_self cf kf fi f aS h1 h2
  obtain ⟨U, L, XU, hL, hz, hq, ⟨ce, c1, c2, c3, c4⟩, st⟩ := t_sup XS hx (htl e XS.admits) hK hH hts hown (fun x hx => absurd hx List.not_mem_nil) hfc hkX (by rw [hTh]; exact hcell) hna (g := F0 m 1 ls [.ref a]) rfl (hl.1.trans hml.symm) rfl (by rw [hb]; exact dX10_init_1) (by decide) (Nat.le_of_ble_eq_true rfl)
  obtain ⟨fs, hf7, hat⟩ := tos_at (H := U.heap) hK hts hkX c1 c2 c3 c4
  have hH1 : HH G (σ.1, va_up σ.2 a (some (.inr (9, fs)))) U.heap := hH.put (by rw [hz, hTh]) hat ha (fun q h => by rw [hq q h, hTh])
  have hS1 : va_S (AG G) s.heap U.heap ([] ++ L) := ⟨by rw [hz, hTh]; exact Nat.le_refl _, fun q h1 h2 => by rw [hq q (fun e => h2 (by rw [e]; exact ha)), hTh], fun q h => by
    show G.2.2.2.1.size ≤ q.base
    rw [hL q (by simpa using h)]
    exact ha⟩
  have hw : pV [9] (σ.1, va_up σ.2 a (some (.inr (9, fs)))) a 6 (.int n) = some (σ.1, va_up (va_up σ.2 a (some (.inr (9, fs)))) a (some (.inr (9, fs.set 6 (.int n))))) := by
    unfold pV
    rw [show (σ.1, va_up σ.2 a (some (.inr (9, fs)))).2 a = some (.inr (9, fs)) from va_up_self _ _ _]
    exact if_pos ⟨by decide, by rw [hf7]; decide⟩
  have key : W p l e (rx_ 6 300 0 0) s m ([.ref a, .int n] : List Value).toArray below meth c U.heap ([] ++ L) 0 0 (MQ below (PostE G (fun fs => (σ.1, va_up σ.2 a (some (.inr (9, fs))))) (tN7 n) none) ([.ref a, .int n] : List Value).toArray s 0 0 (AG G)) (F0 m 4 ls []) := by
    refine lv_aload_n hx hb dX10_init_4 rfl (lv_at hl 0 rfl) ?_
    refine lv_iload_n hx hb dX10_init_5 rfl (lv_at hl 1 rfl) ?_
    refine h_putF (ty := .int) X hK hH1 hS1 fo_X10_6 hw q935 rfl rfl (by decide +kernel) rfl rfl dX10_init_6 (fun H locs hH hS => ?_)
    refine W.vret hx hb X.2.2.1 (fun t ht hW => ⟨fs.set 6 (.int n), ⟨by rw [List.length_set]; exact hf7, by simp [hf7]⟩, rfl, ?_, hS.F ht⟩) hS.2.2 dX10_init_9 X.2.2.2.2.2.2.1
    rw [ht]
    refine hH.less rfl (fun b e' hb' => ?_)
    by_cases hba : b = a
    · subst hba
      rw [show (σ.1, va_up σ.2 b (some (.inr (9, fs.set 6 (.int n))))).2 b = _ from va_up_self _ _ _] at hb'
      show va_up (va_up σ.2 b _) b _ b = _
      rw [va_up_self]; exact hb'
    · rw [show (σ.1, va_up σ.2 a (some (.inr (9, fs.set 6 (.int n))))).2 b = _ from va_up_ne _ _ hba] at hb'
      show va_up (va_up σ.2 a _) a _ b = _
      rw [va_up_ne _ _ hba, va_up_ne _ _ hba]; exact hb'
  obtain ⟨t, a1, b1⟩ := key U rfl XU
  exact ⟨t, st t a1, b1⟩
theorem met_X6_failure (l : Launch) (htl : ∀ e, l.admits e → e.platform.stackTraces = false) (G : GG) (σ : SG) (b : Nat) (n : Int32) (hn : gI [3, 4, 5, 6] σ b 1 = some n) : Met l yX6_failure (ws_ yX6_failure cX6_failure 1 (some (.object "WordBench$Tossed"))) (rx_ 8 400 1 7) (PreC G σ [.ref b]) (PostE G (fun fs => (σ.1 + 1, va_up σ.2 σ.1 (some (.inr (9, fs))))) (tN7 n) (some (.ref σ.1))) 1 7 (AG G) := by
  refine Met.ofW (cc := cX6_failure) (maxL := 1) (ret := some (.object "WordBench$Tossed")) (by decide) rfl ?_
  intro p e s m args below meth c s₁ B hml hv
  obtain ⟨rfl, hH, hK⟩ := hv
  have hts := atoms_spec (ws := ws_ yX6_failure cX6_failure 1 (some (.object "WordBench$Tossed"))) B.pre
  have hts : ∀ w ∈ lw_all, w.before _ s = true := fun w h => hts w (List.mem_cons_of_mem _ h)
  rw [lg_entry_eq]
  have X : Cx p s m ([.ref b] : List Value).toArray meth c cX6_failure (some (.object "WordBench$Tossed")) 1 yX6_failure := ⟨B.exec, B.bytes, B.returns, hml, findClass_of_methodNamed B.named, hts, B.notSynchronized, (name_of_methodNamed B.named B.method).1⟩
  have hl := lv_entry [.ref b] (n := 1) (Nat.le_of_ble_eq_true rfl)
  have hx := X.1
  have hb := X.2.1
  have hown : s.vm.findClass "WordBench$Line" = some m.cls := X.2.2.2.2.1
  have hS : va_S (AG G) s.heap s.heap [] := va_S.rf
  have hfc : s.vm.findClass "WordBench$Tossed" = some (G.1 9) := (hK.1.1 9 _ (show vwCl[9]? = some (RX10, TX10, 7) from rfl)).2.1
  revert hl
  generalize (lg_sl [Value.ref b] ++ List.replicate (1 - (lg_sl [Value.ref b]).length) Slot.unset).toArray = ls
  intro hl
  have hl : lv_has ls 1 [(0, .ref b)] := hl
  refine W.newcK hx hb hown (hts _ q922) (hts _ q923) (hts _ q77) rfl dX6_failure_0 (Nat.le_of_ble_eq_true rfl) (Nat.le_of_ble_eq_true rfl) hfc rfl fun H1 kC hkC e1 z1 o1 => ?_
  have hH1 : HH G (σ.1 + 1, σ.2) H1 := hH.grow (k := 1) z1 o1
  have hS1 : va_S (AG G) s.heap H1 [] := hS.grow (k := 1) z1 o1
  rw [hH.1.1] at e1 ⊢
  refine W.eq (g2 := F0 m 3 ls [.ref σ.1]) rfl ?_
  refine W.cs (cells' := 1) (slots' := 7) rfl rfl ?_
  refine lv_dup hx hb dX6_failure_3 rfl ?_
  refine lv_aload_n hx hb dX6_failure_4 rfl (lv_at hl 0 rfl) ?_
  refine h_gIS (ref0 := "WordBench$Code") X hK hH1 fo_Code_1 (show gI [3, 4, 5, 6] (σ.1 + 1, σ.2) b 1 = some n from hn) q121 q122 dX6_failure_5 ?_
  have hge : G.2.2.2.1.size ≤ σ.1 := hH.1.2.1
  refine call_goE (mc := 0) (ms := 0) (v := none) (rest := [.ref σ.1]) (a := ([.ref σ.1, .int n] : List Value).toArray) (F := fun fs => (σ.1 + 1, va_up σ.2 σ.1 (some (.inr (9, fs))))) (P := tN7 n) (fun T hT Y => ?_) hS1 (fun fs H2 locs2 hP hH2 hS2 => ?_)
  · have hbk : Back l (rx_ 8 400 1 7) p e below s ([.ref b] : List Value).toArray yX10_init 3 20 (PreOf (rx_ 8 400 1 7) 0 0 (PreI G (σ.1 + 1, σ.2) σ.1 n)) (PostOf (PostE G (fun fs => (σ.1 + 1, va_up σ.2 σ.1 (some (.inr (9, fs))))) (tN7 n) none) 0 0 (AG G)) :=
      back_of (bytes := cX10_init) (maxL := 2) (ret := none) (met_X10_init l htl G (σ.1 + 1, σ.2) σ.1 n hge) PreI_blind rfl rfl (Nat.le_of_ble_eq_true rfl) (Nat.le_of_ble_eq_true rfl) (pay_in hts (lw_meth q933)) List.mem_cons_self (fun a' U hW => word_at hW (Or.inl (by first | rfl | simp [Cond.onTables, Cond.keeps, Cond.steady])) (hts _ q77))
    obtain ⟨v, vm₁, ⟨U', l2, k2, s2⟩, hW₁, X', ⟨g', mk, t, L, e1', e2, hq, h1, hL, h2, h3⟩, st⟩ := callI Y hx (bytes := cX10_init) (maxL := 2) hown rfl (hts _ q931) (hts _ q932) (hts _ q933) (by decide) hbk (g := F0 m 8 ls [.int n, .ref σ.1, .ref σ.1]) rfl (hl.1.trans hml.symm) (a := σ.1) (argsL := [.int n]) (rest := [.ref σ.1]) (fun sig h => plen (y := yX10_init) (n := 1) (by decide +kernel) sig h) rfl (Nat.le_of_ble_eq_true rfl) (by rw [hb]; exact dX6_failure_8) (fun vm₁ hW₁ => ⟨Nat.le_of_ble_eq_true rfl, Nat.le_of_ble_eq_true rfl, rfl, ⟨by show HH G _ T.heap; rw [hT]; exact hH1, hK.moved hW₁⟩, by
      obtain ⟨k', hk', he⟩ := hW₁.alike.2.2 _ _ hkC
      refine ⟨k', hk', ?_⟩
      show T.heap[σ.1]? = _
      rw [hT, e1, he]
      rfl⟩)
    dsimp only [Pt.U, Pt.locs, Pt.cells, Pt.slots] at X' e1' e2 h1 h2 h3 st
    subst h1; subst h2; subst h3
    exact ⟨v, (T.setVm vm₁).calling g' mk ([.ref σ.1, .int n] : List Value).toArray, t, U', l2, hT, X', hL, e1', e2, hq, st⟩
  · refine W.aret hx hb X.2.2.1 (Or.inl ⟨_, rfl⟩) (Or.inr ⟨_, rfl⟩) (fun t ht hW => ⟨fs, hP, rfl, by rw [ht]; exact hH2, hS2.F ht⟩) hS2.2.2 dX6_failure_11 X.2.2.2.2.2.2.1
