/-! ===== call rows with the stack behind them named; loops that make cells ===== -/
set_option maxRecDepth 100000
theorem lp_indN {σ ρ : Type} {body : σ → Option (σ ⊕ ρ)} (P : Nat → σ → Prop) (Q : ρ → Prop) (h : ∀ n s x, body s = some x → (match x with | .inl s' => P n s' | .inr r => Q r) → P (n + 1) s) : ∀ (n : Nat) (s : σ) (r : ρ), lp body n s = some r → Q r → P n s
  | 0, s, r, e, _ => by simp [lp] at e
  | n + 1, s, r, e, hq => by
    simp only [lp] at e
    cases hb : body s with
    | none => rw [hb] at e; simp at e
    | some x =>
      rw [hb] at e
      cases x with
      | inl s' => exact h n s _ hb (lp_indN P Q h n s' r e hq)
      | inr r' =>
        have : r' = r := Option.some.inj e
        subst this
        exact h n s _ hb hq
section CROW
variable {p : Program} {l : Launch} {e : Env} {R : Room} {s : State} {m : MethodId} {args : Array Value} {below : List Frame} {meth : Method} {c : Code} {H : Heap} {locs : List Loc} {cells slots : Nat} {Q : State → Prop}
variable {cc : ByteArray} {pc : Nat} {ls : Array Slot} {rest st0 st1 : List Value} {H0 : Heap} {G : GG} {σ σ' : SG} {y yo x : MethodName} {nL : Nat} {rto rt : Option FieldType} {mc ms k maxL n idx : Nat} {bytes : ByteArray} {As : List Value} {v : Option Value}
theorem recv1 {ci b : Nat} {w : vw_C} {u : Unit} (h : cC [ci] σ b = some u) (hK : KK G s) (hH : HH G σ H) (hw : vwCl[ci]? = some w) : ∃ cell : Cell, H[b]? = some cell ∧ cell.vm.isStatics = false ∧ s.vm.findClass w.1 = some cell.cls := by
  obtain ⟨ci', fs, he, hci⟩ := cC_s h
  have : ci' = ci := by simpa using hci
  subst this
  exact recv_of_HH hK hH he hw
theorem c_S (X : Cx p s m args meth c cc rto nL yo) (hM : Con l y bytes maxL rt k mc ms G σ As σ' v) (hc : CalS y bytes maxL rt n) (q1 : Cond.methodLink yo.cls idx y ∈ lw_all) (hn : As.length = n) (hst : st0 = As.reverse ++ rest) (hs1 : v.toList ++ rest = st1) (hls : ls.size = nL) (hrm : (rest.map fun v => v.category).sum ≤ 20) (hR : k + 1 ≤ R.frames ∧ 20 + (maxL + 11) + 80 * k ≤ R.locals) (hf : cells + mc ≤ R.cells ∧ slots + ms ≤ R.slots) (hdg : decode cc pc = .ok (.invokestatic idx, 3)) (hK : KK G s) (hH : HH G σ H) (hS : va_S (AG G) H0 H locs)
    (kk : ∀ (H1 : Heap) (locs1 : List Loc), HH G σ' H1 → va_S (AG G) H0 H1 locs1 → W p l e R s m args below meth c H1 locs1 (cells + mc) (slots + ms) Q (F0 m (pc + 3) ls st1)) : W p l e R s m args below meth c H locs cells slots Q (F0 m pc ls st0) := by
  subst hs1
  exact r_S X hM hc q1 hn hst hls hrm hR hf hdg hK hH hS kk
theorem c_SN {host : String} (X : Cx p s m args meth c cc rto nL yo) (hM : Con l y bytes maxL rt k mc ms G σ As σ' v) (hc : CalS y bytes maxL rt n) (q1 : Cond.methodLinkNest yo.cls idx y host ∈ lw_tbl) (hn : As.length = n) (hst : st0 = As.reverse ++ rest) (hs1 : v.toList ++ rest = st1) (hls : ls.size = nL) (hrm : (rest.map fun v => v.category).sum ≤ 20) (hR : k + 1 ≤ R.frames ∧ 20 + (maxL + 11) + 80 * k ≤ R.locals) (hf : cells + mc ≤ R.cells ∧ slots + ms ≤ R.slots) (hdg : decode cc pc = .ok (.invokestatic idx, 3)) (hK : KK G s) (hH : HH G σ H) (hS : va_S (AG G) H0 H locs)
    (kk : ∀ (H1 : Heap) (locs1 : List Loc), HH G σ' H1 → va_S (AG G) H0 H1 locs1 → W p l e R s m args below meth c H1 locs1 (cells + mc) (slots + ms) Q (F0 m (pc + 3) ls st1)) : W p l e R s m args below meth c H locs cells slots Q (F0 m pc ls st0) := by
  subst hs1
  exact r_SN X hM hc q1 hn hst hls hrm hR hf hdg hK hH hS kk
theorem c_V {b : Nat} {C : String} (X : Cx p s m args meth c cc rto nL yo) (hM : Con l y bytes maxL rt k mc ms G σ (.ref b :: As) σ' v) (hc : CalV C y bytes maxL rt n) (q1 : Cond.methodLink yo.cls idx y ∈ lw_all) (hrv : ∃ cell : Cell, H[b]? = some cell ∧ cell.vm.isStatics = false ∧ s.vm.findClass C = some cell.cls) (hn : As.length = n) (hst : st0 = As.reverse ++ .ref b :: rest) (hs1 : v.toList ++ rest = st1) (hls : ls.size = nL) (hrm : (rest.map fun v => v.category).sum ≤ 20) (hR : k + 1 ≤ R.frames ∧ 20 + (maxL + 11) + 80 * k ≤ R.locals) (hf : cells + mc ≤ R.cells ∧ slots + ms ≤ R.slots) (hdg : decode cc pc = .ok (.invokevirtual idx, 3)) (hK : KK G s) (hH : HH G σ H) (hS : va_S (AG G) H0 H locs)
    (kk : ∀ (H1 : Heap) (locs1 : List Loc), HH G σ' H1 → va_S (AG G) H0 H1 locs1 → W p l e R s m args below meth c H1 locs1 (cells + mc) (slots + ms) Q (F0 m (pc + 3) ls st1)) : W p l e R s m args below meth c H locs cells slots Q (F0 m pc ls st0) := by
  subst hs1
  exact r_V X hM hc q1 hrv hn hst hls hrm hR hf hdg hK hH hS kk
theorem c_Su {b : Nat} {u : Unit} {cs : List Nat} (X : Cx p s m args meth c cc rto nL yo) (hM : Con l y bytes maxL rt k mc ms G σ (.ref b :: As) σ' v) (hc : CalSu yo.cls y bytes maxL rt n) (q1 : Cond.methodLink yo.cls idx y ∈ lw_all) (hcC : cC cs σ b = some u) (hn : As.length = n) (hst : st0 = As.reverse ++ .ref b :: rest) (hs1 : v.toList ++ rest = st1) (hls : ls.size = nL) (hrm : (rest.map fun v => v.category).sum ≤ 20) (hR : k + 1 ≤ R.frames ∧ 20 + (maxL + 11) + 80 * k ≤ R.locals) (hf : cells + mc ≤ R.cells ∧ slots + ms ≤ R.slots) (hdg : decode cc pc = .ok (.invokespecial idx, 3)) (hK : KK G s) (hH : HH G σ H) (hS : va_S (AG G) H0 H locs)
    (kk : ∀ (H1 : Heap) (locs1 : List Loc), HH G σ' H1 → va_S (AG G) H0 H1 locs1 → W p l e R s m args below meth c H1 locs1 (cells + mc) (slots + ms) Q (F0 m (pc + 3) ls st1)) : W p l e R s m args below meth c H locs cells slots Q (F0 m pc ls st0) := by
  subst hs1
  obtain ⟨ci, fs, he, -⟩ := cC_s hcC
  exact r_Su X hM hc q1 he hn hst hls hrm hR hf hdg hK hH hS kk
/-- a field under a subclass's name -/
theorem h_getS {cs : List Nat} {b k index : Nat} {ref ref0 nm ds : String} {fin : Bool} {w : Value} (X : Cx p s m args meth c cc rto nL yo) (hK : KK G s) (hH : HH G σ H) (hF : FieldOf cs k ref0 nm ds fin) (hg : gV cs σ b k = some w) (hlink : Cond.fieldLink yo.cls index ref nm ds ∈ lw_all) (hsm : Cond.sameField ref ref0 nm ds ∈ lw_all) (hdg : decode cc pc = .ok (.getfield index, 3))
    (kk : W p l e R s m args below meth c H locs cells slots Q (F0 m (pc + 3) ls (w :: rest))) : W p l e R s m args below meth c H locs cells slots Q (F0 m pc ls (.ref b :: rest)) := by
  obtain ⟨ci, fs, he, hci, hv⟩ := gV_s hg
  obtain ⟨C, T, N, ty0, hc, hin, hk, hT, hty, hnm⟩ := hF ci hci
  exact va_get (D := (G.1, G.2.1)) (cl := vwCl) (ws := [(b, .inr (ci, fs))]) (ref := ref) X.1 X.2.1 X.2.2.2.2.2.1 hin X.2.2.2.2.1 hK.1 (fun k q hq => by
    cases k with
    | zero => cases hq; exact (hH.2 b _ he).1
    | succ k => simp at hq) 0 rfl hc k hk (X.2.2.2.2.2.1 _ (by rw [hT]; exact hlink)) (fun x h => by rw [hT] at h ⊢; exact u_same (X.2.2.2.2.2.1 _ hsm) x h) hv hdg kk
theorem h_gIS {cs : List Nat} {b k index : Nat} {ref ref0 nm ds : String} {fin : Bool} {r : Int32} (X : Cx p s m args meth c cc rto nL yo) (hK : KK G s) (hH : HH G σ H) (hF : FieldOf cs k ref0 nm ds fin) (hg : gI cs σ b k = some r) (hlink : Cond.fieldLink yo.cls index ref nm ds ∈ lw_all) (hsm : Cond.sameField ref ref0 nm ds ∈ lw_all) (hdg : decode cc pc = .ok (.getfield index, 3))
    (kk : W p l e R s m args below meth c H locs cells slots Q (F0 m (pc + 3) ls (.int r :: rest))) : W p l e R s m args below meth c H locs cells slots Q (F0 m pc ls (.ref b :: rest)) := h_getS X hK hH hF (gI_s hg) hlink hsm hdg kk
theorem h_gRS {cs : List Nat} {b k index : Nat} {ref ref0 nm ds : String} {fin : Bool} {r : Nat} (X : Cx p s m args meth c cc rto nL yo) (hK : KK G s) (hH : HH G σ H) (hF : FieldOf cs k ref0 nm ds fin) (hg : gR cs σ b k = some r) (hlink : Cond.fieldLink yo.cls index ref nm ds ∈ lw_all) (hsm : Cond.sameField ref ref0 nm ds ∈ lw_all) (hdg : decode cc pc = .ok (.getfield index, 3))
    (kk : W p l e R s m args below meth c H locs cells slots Q (F0 m (pc + 3) ls (.ref r :: rest))) : W p l e R s m args below meth c H locs cells slots Q (F0 m pc ls (.ref b :: rest)) := h_getS X hK hH hF (gR_s hg) hlink hsm hdg kk
/-- a field under a subclass's name is written -/
theorem h_putS {cs : List Nat} {b k index : Nat} {ref ref0 nm ds : String} {w : Value} {ty : FieldType} (X : Cx p s m args meth c cc rto nL yo) (hK : KK G s) (hH : HH G σ H) (hS : va_S (AG G) H0 H locs) (hF : FieldOf cs k ref0 nm ds false) (hg : pV cs σ b k w = some σ') (hlink : Cond.fieldLink yo.cls index ref nm ds ∈ lw_all) (hsm : Cond.sameField ref ref0 nm ds ∈ lw_all) (hd : parseFieldDescriptor ds = some ty) (hn : narrow ty w = w) (hfit : fits ty w = true) (hdg : decode cc pc = .ok (.putfield index, 3))
    (kk : ∀ (H1 : Heap) (locs1 : List Loc), HH G σ' H1 → va_S (AG G) H0 H1 locs1 → W p l e R s m args below meth c H1 locs1 cells slots Q (F0 m (pc + 3) ls rest)) : W p l e R s m args below meth c H locs cells slots Q (F0 m pc ls (w :: .ref b :: rest)) := by
  obtain ⟨hx, hb, -, -, hown, hts, -, -⟩ := X
  obtain ⟨ci, fs, he, hci, hl, rfl⟩ := pV_s hg
  obtain ⟨C, T, N, ty0, hc, hin, hk, hT, hty, hnm⟩ := hF ci hci
  have hap := va_apart (own := yo.cls) hts hin ty0 hty hnm hK.1 hc
  obtain ⟨⟨r, h1, cell, q1, q2, q3, q4⟩, hge⟩ := hH.2 b _ he
  have hr : r = (C, T, N) := Option.some.inj (h1.symm.trans hc)
  subst hr
  obtain ⟨hSl, hfc, kC, hkC, hkind⟩ := hK.1.1 ci _ hc
  obtain ⟨cf, kf, fi, f, hi, hsl⟩ := hSl k hk
  have hlay := hts _ (hin _ (u_in_lay hk))
  unfold u_lay at hlay
  rw [if_neg (by rw [hT]; exact Bool.false_ne_true)] at hlay
  have hst := (u_facts hfc hkC (u_lays hts hin hk) hi).1
  have h6 := u_store hfc hkC hkind hlay hi (by rw [hT]; exact hd) hn hfit
  have hi0 : s.fieldFound? (T k).1 (T k).2.1 (T k).2.2.1 = some (cf, kf, fi, f) := hi
  rw [hT] at hi0
  have hi' : s.fieldFound? ref nm ds = some (cf, kf, fi, f) := u_same (hts _ hsm) _ hi0
  refine W.putK hx hb (f := f) ⟨hown, hts _ hlink, ⟨_, _, _, hi'⟩, hst⟩ (by rw [q2]; exact h6) q1 q3 (by rw [hsl]; exact k2_hasslot (q4 k hk)) rfl rfl hdg fun H' e1 e2 e3 => ?_
  rw [hsl] at e1 ⊢
  exact kk H' _ (hH.put e2 ⟨_, hc, t_OB.to (V := updV (vp_V fs) k w) ⟨_, e1, q2, q3, t_set q4 hap hk w⟩ (fun j _ => vp_updV_set hl w j)⟩ hge e3) (hS.put e2 e3 hge)
/-- ArrayList's empty array -/
theorem h_getz {z : Nat} (X : Cx p s m args meth c cc rto nL yo) (hK : KK G s) (hH : HH G σ H) (hz : G.2.2.2.2 = z) (hyo : yo.cls = "java/util/ArrayList") (hdg : decode cc pc = .ok (.getstatic 39, 3)) (kk : W p l e R s m args below meth c H locs cells slots Q (F0 m (pc + 3) ls (.ref z :: rest))) : W p l e R s m args below meth c H locs cells slots Q (F0 m pc ls rest) := by
  obtain ⟨hx, hb, -, -, hown, hts, -, -⟩ := X
  subst hz
  obtain ⟨cf, kf, fi, f, a, cell, h1, h2, h3, h4, h5, h6, h7, h8⟩ := hK.2.2.2.2.2.2.1
  exact W.gets hx hb (by rw [← hyo]; exact hown) (hts _ q564) h1 h2 h3 h4 (by rw [hH.1.2.2 a (Array.getElem?_eq_some_iff.mp h5).1]; exact h5) (fun e => by rw [e] at h6; cases h6) h7 rfl hdg kk
def aNz (z : Nat) (σ : SG) (b : Nat) : Option Int32 := if b = z then some 0 else aN σ b
theorem h_aNz {z b : Nat} {r : Int32} (X : Cx p s m args meth c cc rto nL yo) (hK : KK G s) (hH : HH G σ H) (hz : G.2.2.2.2 = z) (h : aNz z σ b = some r) (hdg : decode cc pc = .ok (.arraylength, 1)) (kk : W p l e R s m args below meth c H locs cells slots Q (F0 m (pc + 1) ls (.int r :: rest))) : W p l e R s m args below meth c H locs cells slots Q (F0 m pc ls (.ref b :: rest)) := by
  unfold aNz at h
  split at h
  · rename_i hb
    subst hb
    subst hz
    cases h
    obtain ⟨cell, h1, h2, h3⟩ := hK.2.2.2.2.2.2.2.1
    exact W.alen (n := 0) X.1 X.2.1 (by rw [hH.1.2.2 _ (Array.getElem?_eq_some_iff.mp h1).1]; exact h1) h2 (by rw [h3]; rfl) rfl rfl hdg kk
  · exact h_aN X hK hH h hdg kk
end CROW
/-! fields -/
theorem fo_0 {k N : Nat} {ci : Nat} {C : String} {T : u_T} {ty0 : Nat → FieldType} {ref nm ds : String} {fin : Bool} (hc : vwCl[ci]? = some (C, T, N)) (hin : ∀ w ∈ u_ws C T N, w ∈ lw_all) (hk : k < N) (hT : T k = (ref, nm, ds, fin)) (hty : ∀ k, k < N → parseFieldDescriptor (T k).2.2.1 = some (ty0 k)) (hnm : ∀ a, a < N → ∀ b, b < N → a ≠ b → (T a).2.1 ≠ (T b).2.1) : FieldOf [ci] k ref nm ds fin := by
  intro c h
  have : c = ci := by simpa using h
  subst this
  exact ⟨C, T, N, ty0, hc, hin, hk, hT, hty, hnm⟩
theorem fo_code {k : Nat} {ref nm ds : String} {fin : Bool} (hk : k < 4) (h5 : TX5 k = (ref, nm, ds, fin)) (h6 : TX6 k = (ref, nm, ds, fin)) (h7 : TX7 k = (ref, nm, ds, fin)) (h8 : TX8 k = (ref, nm, ds, fin)) : FieldOf [3, 4, 5, 6] k ref nm ds fin := by
  intro c h
  rcases (show c = 3 ∨ c = 4 ∨ c = 5 ∨ c = 6 by simpa using h) with rfl | rfl | rfl | rfl
  · exact ⟨RX5, TX5, 4, tyX5, rfl, in_X5, hk, h5, tyX5_ok, nmX5⟩
  · exact ⟨RX6, TX6, 4, tyX6, rfl, in_X6, hk, h6, tyX6_ok, nmX6⟩
  · exact ⟨RX7, TX7, 4, tyX7, rfl, in_X7, hk, h7, tyX7_ok, nmX7⟩
  · exact ⟨RX8, TX8, 4, tyX8, rfl, in_X8, hk, h8, tyX8_ok, nmX8⟩
theorem fo_Code_0 : FieldOf [3, 4, 5, 6] 0 "WordBench$Code" "q" "I" true := fo_code (by decide) rfl rfl rfl rfl
theorem fo_Code_1 : FieldOf [3, 4, 5, 6] 1 "WordBench$Code" "n" "I" true := fo_code (by decide) rfl rfl rfl rfl
theorem fo_Code_2 : FieldOf [3, 4, 5, 6] 2 "WordBench$Code" "rows" "[J" true := fo_code (by decide) rfl rfl rfl rfl
theorem fo_Code_3 : FieldOf [3, 4, 5, 6] 3 "WordBench$Code" "size" "I" false := fo_code (by decide) rfl rfl rfl rfl
theorem fo_X1_0 : FieldOf [0] 0 "WordBench" "codes" "[LWordBench$Code;" true := fo_0 (N := 6) (ty0 := tyX1) rfl in_X1 (by decide) rfl tyX1_ok nmX1
theorem fo_X1_1 : FieldOf [0] 1 "WordBench" "words" "[J" true := fo_0 (N := 6) (ty0 := tyX1) rfl in_X1 (by decide) rfl tyX1_ok nmX1
theorem fo_X1_2 : FieldOf [0] 2 "WordBench" "wordCount" "I" false := fo_0 (N := 6) (ty0 := tyX1) rfl in_X1 (by decide) rfl tyX1_ok nmX1
theorem fo_X1_3 : FieldOf [0] 3 "WordBench" "counts" "[J" true := fo_0 (N := 6) (ty0 := tyX1) rfl in_X1 (by decide) rfl tyX1_ok nmX1
theorem fo_X1_4 : FieldOf [0] 4 "WordBench" "firstHole" "J" false := fo_0 (N := 6) (ty0 := tyX1) rfl in_X1 (by decide) rfl tyX1_ok nmX1
theorem fo_X1_5 : FieldOf [0] 5 "WordBench" "shelves" "Ljava/util/ArrayList;" true := fo_0 (N := 6) (ty0 := tyX1) rfl in_X1 (by decide) rfl tyX1_ok nmX1
theorem fo_X2_0 : FieldOf [1] 0 "WordBench$Shelf" "held" "Ljava/lang/Object;" false := fo_0 (N := 1) (ty0 := tyX2) rfl in_X2 (by decide) rfl tyX2_ok nmX2
theorem fo_X9_0 : FieldOf [7] 0 "WordBench$Form" "q" "I" true := fo_0 (N := 5) (ty0 := tyX9) rfl in_X9 (by decide) rfl tyX9_ok nmX9
theorem fo_X9_1 : FieldOf [7] 1 "WordBench$Form" "n" "I" true := fo_0 (N := 5) (ty0 := tyX9) rfl in_X9 (by decide) rfl tyX9_ok nmX9
theorem fo_X9_2 : FieldOf [7] 2 "WordBench$Form" "rows" "[[I" true := fo_0 (N := 5) (ty0 := tyX9) rfl in_X9 (by decide) rfl tyX9_ok nmX9
theorem fo_X9_3 : FieldOf [7] 3 "WordBench$Form" "heads" "[I" true := fo_0 (N := 5) (ty0 := tyX9) rfl in_X9 (by decide) rfl tyX9_ok nmX9
theorem fo_X9_4 : FieldOf [7] 4 "WordBench$Form" "rank" "I" false := fo_0 (N := 5) (ty0 := tyX9) rfl in_X9 (by decide) rfl tyX9_ok nmX9
theorem fo_J2_0 : FieldOf [8] 0 "java/util/AbstractList" "modCount" "I" false := fo_0 (N := 3) (ty0 := tyJ2) rfl in_J2 (by decide) rfl tyJ2_ok nmJ2
theorem fo_J2_1 : FieldOf [8] 1 "java/util/ArrayList" "elementData" "[Ljava/lang/Object;" false := fo_0 (N := 3) (ty0 := tyJ2) rfl in_J2 (by decide) rfl tyJ2_ok nmJ2
theorem fo_J2_2 : FieldOf [8] 2 "java/util/ArrayList" "size" "I" false := fo_0 (N := 3) (ty0 := tyJ2) rfl in_J2 (by decide) rfl tyJ2_ok nmJ2
/-! casts -/
theorem ca_self {ci : Nat} {w : vw_C} (hw : vwCl[ci]? = some w) : CastOf [ci] w.1 := by
  intro c h
  have : c = ci := by simpa using h
  subst this
  exact ⟨w, hw, Or.inl rfl⟩
theorem ca_List : CastOf [3] "WordBench$List" := ca_self (w := (RX5, TX5, 4)) rfl
theorem ca_Own : CastOf [5] "WordBench$Own" := ca_self (w := (RX7, TX7, 4)) rfl
theorem ca_Shelf : CastOf [1] "WordBench$Shelf" := ca_self (w := (RX2, TX2, 1)) rfl
theorem ca_Line : CastOf [4, 5, 6] "WordBench$Line" := by
  intro c h
  rcases (show c = 4 ∨ c = 5 ∨ c = 6 by simpa using h) with rfl | rfl | rfl
  · exact ⟨_, rfl, Or.inl rfl⟩
  · exact ⟨_, rfl, Or.inr q1422⟩
  · exact ⟨_, rfl, Or.inr q1423⟩
theorem nc_Line : NoCast [3] "WordBench$Line" := by
  intro c h
  have : c = 3 := by simpa using h
  subst this
  exact ⟨_, rfl, by decide +kernel⟩
theorem nc_List : NoCast [4, 5, 6] "WordBench$List" := by
  intro c h
  rcases (show c = 4 ∨ c = 5 ∨ c = 6 by simpa using h) with rfl | rfl | rfl <;> exact ⟨_, rfl, by decide +kernel⟩
theorem nc_Own : NoCast [3, 4, 6] "WordBench$Own" := by
  intro c h
  rcases (show c = 3 ∨ c = 4 ∨ c = 6 by simpa using h) with rfl | rfl | rfl <;> exact ⟨_, rfl, by decide +kernel⟩
