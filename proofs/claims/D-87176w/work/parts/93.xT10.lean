/-! ===== T10: WordBench.toss ===== -/
set_option maxRecDepth 100000
section XT10
variable {p : Program} {l : Launch} {e : Env} {R : Room} {s : State} {m : MethodId} {args : Array Value} {below : List Frame} {meth : Method} {c : Code} {H : Heap} {locs : List Loc} {cells slots : Nat} {Q : State → Prop}
variable {cc : ByteArray} {pc hpc : Nat} {ls : Array Slot} {rest st0 : List Value} {H0 : Heap} {G : GG} {σ σs : SG} {yo : MethodName} {nL idx : Nat} {rto : Option FieldType} {hh : List (Nat × Nat × Nat × Nat)}
/-- an object is thrown; caught -/
theorem x_athrowR {C : String} {A : Nat} (X : Cx p s m args meth c cc rto nL yo) (hT : Xt c hh) (hd : Hd yo.cls C pc hpc hh) (hK : KK G s) (hH : HH G σ H) (hS : va_S (AG G) H0 H locs) (hE : Ex s H C A) (hdg : decode cc pc = .ok (.athrow, 1))
    (kk : ∀ (H1 : Heap) (locs1 : List Loc), HH G σ H1 → va_S (AG G) H0 H1 locs1 → W p l e R s m args below meth c H1 locs1 cells slots Q (F0 m hpc ls [.ref A])) : W p l e R s m args below meth c H locs cells slots Q (F0 m pc ls (.ref A :: rest)) := by
  refine x_go2 (dc := 0) (ds := 0) (A := A) (C := C) (σ' := σ) (H0 := H0) X hT hd hK ?_ (fun H1 locs1 h1 h2 _ => kk H1 locs1 h1 h2)
  intro T hTh XS
  refine ⟨T, rest, locs, XS, by rw [hTh]; exact hH, by rw [hTh]; exact hS, by rw [hTh]; exact hE, fun tg ht => ?_⟩
  have hx := X.1
  have hd' : decode c.code (F0 m pc ls (.ref A :: rest)).pc = .ok (.athrow, 1) := by rw [X.2.1]; exact hdg
  jvm_step XS.here [hx, hd', athrow.wp_sem]
  exact ht
/-- Line.failure, of a Line, an Own, a Ring -/
theorem x_fail {b : Nat} {n : Int32} {u : Unit} (htl : ∀ e, l.admits e → e.platform.stackTraces = false) (X : Cx p s m args meth c cc rto nL yo) (hc : cC [4, 5, 6] σ b = some u) (hn : gI [3, 4, 5, 6] σ b 1 = some n) (q1 : Cond.methodLink yo.cls idx ⟨"WordBench$Code", "failure", "()LWordBench$Tossed;"⟩ ∈ lw_all) (hls : ls.size = nL) (hrm : (rest.map fun v => v.category).sum ≤ 20) (hR : 9 ≤ R.frames ∧ 500 ≤ R.locals) (hf : cells + 1 ≤ R.cells ∧ slots + 7 ≤ R.slots) (hdg : decode cc pc = .ok (.invokevirtual idx, 3)) (hK : KK G s) (hH : HH G σ H) (hS : va_S (AG G) H0 H locs)
    (kk : ∀ (fs : List Value) (H1 : Heap) (locs1 : List Loc), tN7 n fs → HH G (σ.1 + 1, va_up σ.2 σ.1 (some (.inr (9, fs)))) H1 → va_S (AG G) H0 H1 locs1 → W p l e R s m args below meth c H1 locs1 (cells + 1) (slots + 7) Q (F0 m (pc + 3) ls (.ref σ.1 :: rest))) : W p l e R s m args below meth c H locs cells slots Q (F0 m pc ls (.ref b :: rest)) := by
  obtain ⟨hx, hb, hr, hml, hown, hts, -⟩ := X
  obtain ⟨ci, fs0, he, hci⟩ := cC_s hc
  have hrv : ∃ C, Cond.selects C ⟨"WordBench$Code", "failure", "()LWordBench$Tossed;"⟩ yX6_failure ∈ lw_all ∧ ∃ cell : Cell, H[b]? = some cell ∧ cell.vm.isStatics = false ∧ s.vm.findClass C = some cell.cls := by
    rcases (show ci = 4 ∨ ci = 5 ∨ ci = 6 by simpa using hci) with rfl | rfl | rfl
    · exact ⟨_, q919, recv_of_HH (w := (RX6, TX6, 4)) hK hH he rfl⟩
    · exact ⟨_, q942, recv_of_HH (w := (RX7, TX7, 4)) hK hH he rfl⟩
    · exact ⟨_, q943, recv_of_HH (w := (RX8, TX8, 4)) hK hH he rfl⟩
  obtain ⟨C, hsel, cellB, hcB, hoB, hclB⟩ := hrv
  have hini : Cond.initialized "WordBench$Line" ∈ lw_all := q60
  refine call_goE (mc := 1) (ms := 7) (v := some (.ref σ.1)) (rest := rest) (a := ([.ref b] : List Value).toArray) (F := fun fs => (σ.1 + 1, va_up σ.2 σ.1 (some (.inr (9, fs))))) (P := tN7 n) (fun T hT Y => ?_) hS kk
  have hbk : Back l R p e below s args yX6_failure 3 20 (PreOf R 1 7 (PreC G σ [.ref b])) (PostOf (PostE G (fun fs => (σ.1 + 1, va_up σ.2 σ.1 (some (.inr (9, fs))))) (tN7 n) (some (.ref σ.1))) 1 7 (AG G)) :=
    back_of (bytes := cX6_failure) (maxL := 1) (ret := some (.object "WordBench$Tossed")) (met_X6_failure l htl G σ b n hn) PreC_blind rfl rfl hR.1 (by show 20 + (1 + 11) + 400 ≤ _; omega) (pay_in hts (lw_meth q921)) List.mem_cons_self (fun a' U hW => word_at hW (Or.inl (by first | rfl | simp [Cond.onTables, Cond.keeps, Cond.steady])) (hts _ hini))
  obtain ⟨v, vm₁, ⟨U', l2, k2, s2⟩, hW₁, X', ⟨g', mk, t, L, e1, e2, hq, h1, hL, h2, h3⟩, st⟩ := va_callVU Y hx (C := C) (owner := "WordBench$Code") (bytes := cX6_failure) (maxL := 1) (ret := some (.object "WordBench$Tossed")) hown (hts _ q1) (hts _ q918) (va_Decl.of (hts _ q917) (hts _ q944)) (by decide) (hts _ hsel) (hts _ q920) (hts _ q921) hbk (by rw [hT]; exact hcB) hoB hclB (g := F0 m pc ls (.ref b :: rest)) rfl (hls.trans hml.symm) (argsL := []) (rest := rest) (fun sig h => plen (y := ⟨"WordBench$Code", "failure", "()LWordBench$Tossed;"⟩) (n := 0) (by decide +kernel) sig h) rfl (room20 (m := m) (pc := pc) (ls := ls) (rest := .ref b :: rest) hrm) (by rw [hb]; exact hdg) (fun vm₁ hW₁ => ⟨hf.1, hf.2, (PreS_of (As := [.ref b]) hH hK).2 (T.setVm vm₁) hT hW₁⟩)
  dsimp only [Pt.U, Pt.locs, Pt.cells, Pt.slots] at X' e1 e2 h1 h2 h3 st
  subst h1; subst h2; subst h3
  exact ⟨v, (T.setVm vm₁).calling g' mk ([.ref b] : List Value).toArray, t, U', L, hT, X', hL, e1, e2, hq, st⟩
end XT10
theorem met_X4_failure (l : Launch) (G : GG) (σ : SG) (b : Nat) : Con l yX4_failure cX4_failure 1 (some (.object "WordBench$Tossed")) 0 0 0 G σ [.ref b] σ (some .null) := by
  refine con_of (by decide) (Nat.le_of_ble_eq_true rfl) ?_
  intro p e s m below meth c ls X hK hH hl hS
  refine lv_null X.1 X.2.1 dX4_failure_0 ?_
  exact r_aret X (Or.inl ⟨_, rfl⟩) (Or.inl rfl) dX4_failure_1 (Nat.le_refl _) (Nat.le_refl _) rfl hH hS
