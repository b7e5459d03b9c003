/-! ===== PURE J40: same ===== -/
set_option maxRecDepth 100000
theorem lp_and {body : Int32 × Int32 → Option ((Int32 × Int32) ⊕ Int32)} {N : Nat} (t : Nat → Bool) (L : Nat) (b0 : Bool) (hN : L < N) (step : ∀ k, k < L → body (1, nI k) = some (.inl (bI (t k), nI (k + 1)))) (stop : ∀ k, k < L → body (0, nI k) = some (.inr 0)) (fin : ∀ b, body (bI b, nI L) = some (.inr (bI b))) : lp body N (bI b0, 0) = some (bI (b0 && alls t L)) := by
  rw [lp_all (S := fun k => (bI (b0 && alls t k), nI k)) (t := fun k => b0 && alls t k) (R1 := 0) (R2 := bI (b0 && alls t L)) (N := N) (s0 := (bI b0, 0)) L (by show _ = (bI (b0 && true), nI 0); rw [Bool.and_true]; rfl) hN ?_ (fin _)]
  · cases hb : (b0 && alls t L) with
    | true =>
      rw [if_pos]
      rw [Bool.and_eq_true] at hb
      exact (alls_iff _).mpr fun k hk => by
        rw [hb.1, Bool.true_and]
        exact (alls_iff _).mpr fun i hi => (alls_iff _).mp hb.2 i (by omega)
    | false => split <;> rfl
  · intro k hk
    cases hb : (b0 && alls t k) with
    | true =>
      rw [if_pos rfl, show bI true = (1 : Int32) from rfl, step k hk]
      rw [Bool.and_eq_true] at hb
      rw [alls, hb.1, hb.2, Bool.true_and, Bool.true_and]
    | false => rw [if_neg (by decide), show bI false = (0 : Int32) from rfl, stop k hk]
/-- the words of one that are looked for in the other -/
noncomputable def hsw (kd q n m : Nat) (w : Nat → Nat) (v : Nat) : Bool := if kd = 0 then fnd w v m else inl q n m w v
theorem X3_hasAll {N o kd q n m L : Nat} {st : MS} {w W : Nat → Nat} (hN : 5000 ≤ N) (ho : o < 12) (hok : okc kd q n m w) (hP : mPl st o kd q n m w) (hW : mW st q n L W) (hL : L ≤ 4096) (hWl : ∀ k, k < L → W k < q ^ n) : ∃ st', f_X3_hasAll N st (nI o) = some (st', bI (decide (szv kd q n m w = L) && alls (fun k => hsw kd q n m w (W k)) L)) ∧ Kp [7] [6] [8] st st' := by
  have hkd := hok.2.2.2.1
  have hs := qn_small hok.1 hok.2.2.1
  have hm := hok.m200
  obtain ⟨s1, a1, a2, -⟩ := X3_sizeOf hN ho hok hP
  have hsz : szv kd q n m w < 2 ^ 31 := by
    unfold szv
    split
    · omega
    · rename_i e
      have hc : cap kd = 12 := if_neg e
      have hcap := hok.2.2.2.2.1
      have hr := rk_le12 (n := n) (w := w) hok.1 (show m ≤ 12 by omega)
      have := qn_small hok.1 hr
      omega
  have hW1 := hW.kp a2 (by decide) (by decide) (by decide)
  have hP1 := hP.kp a2.m678
  unfold f_X3_hasAll
  rw [a1, Option.bind_some]
  dsimp only
  rw [hW1.1, ps_l L (by omega)]
  by_cases e : szv kd q n m w = L
  · rw [if_pos (by rw [e]), decide_eq_true e, Bool.true_and]
    obtain ⟨r, b1, b2, b3⟩ : ∃ r, lp (f_X3_hasAll_b18 N (nI o)) N (0, s1) = some r ∧ (alls (fun k => hsw kd q n m w (W k)) L = true → ∃ s, r = .inr (.inr s) ∧ Kp [7] [6] [8] st s) ∧ (alls (fun k => hsw kd q n m w (W k)) L = false → ∃ s, (r = .inl s ∨ r = .inr (.inl s)) ∧ Kp [7] [6] [8] st s) := by
      have bd : ∀ k (s : MS), k < L → Kp [7] [6] [8] st s → ∃ s2, Kp [7] [6] [8] st s2 ∧ ((hsw kd q n m w (W k) = true ∧ f_X3_hasAll_b18 N (nI o) (nI k, s) = some (.inl (nI (k + 1), s2))) ∨ (hsw kd q n m w (W k) = false ∧ (f_X3_hasAll_b18 N (nI o) (nI k, s) = some (.inr (.inl s2)) ∨ f_X3_hasAll_b18 N (nI o) (nI k, s) = some (.inr (.inr (.inl s2)))))) := by
        intro k s hk hks
        have hWs := hW.kp hks (by decide) (by decide) (by decide)
        have hPs := hP.kp hks.m678
        have hwk := hWl k hk
        unfold f_X3_hasAll_b18 hsw
        dsimp only
        rw [hWs.1, if_neg (nI_ge hk (by omega)), ald_N ho (by omega), Option.bind_some, hPs.1, ald_N (show k < 4096 by omega) (by omega), Option.bind_some, Option.bind_some, hWs.2.1 k hk, nI_1]
        by_cases e0 : kd = 0
        · rw [if_pos e0, if_pos (show nI kd = 0 by rw [e0]; rfl)]
          rcases X3_find hN ho hm hPs hok.w62 (show W k < 2 ^ 62 by omega) with ⟨f1, f2⟩ | ⟨f1, i, k1, k2, f2⟩
          · rw [f1, f2, Option.bind_some]
            exact ⟨s, hks, Or.inr ⟨rfl, Or.inl rfl⟩⟩
          · rw [f1, f2, Option.bind_some, if_neg (neg1_ne (by omega))]
            exact ⟨s, hks, Or.inl ⟨rfl, rfl⟩⟩
        · rw [if_neg e0, if_neg (nI_ne0 (by omega) (by omega))]
          obtain ⟨s2, c1, c2⟩ := X3_isInLine hN ho hok e0 hPs hwk
          rw [c1, Option.bind_some]
          dsimp only
          cases inl q n m w (W k) with
          | true => exact ⟨s2, hks.trans c2, Or.inl ⟨rfl, rfl⟩⟩
          | false => exact ⟨s2, hks.trans c2, Or.inr ⟨rfl, Or.inr rfl⟩⟩
      refine lp_allP (P := fun k (s : Int32 × MS) => s.1 = nI k ∧ Kp [7] [6] [8] st s.2) (t := fun k => hsw kd q n m w (W k)) (Q1 := fun (r : MS ⊕ MS ⊕ MS) => ∃ s, (r = .inl s ∨ r = .inr (.inl s)) ∧ Kp [7] [6] [8] st s) (Q2 := fun (r : MS ⊕ MS ⊕ MS) => ∃ s, r = .inr (.inr s) ∧ Kp [7] [6] [8] st s) L (by omega) ⟨rfl, a2⟩ ?_ ?_ ?_
      · rintro k ⟨y, s⟩ hk ht ⟨e1, e2⟩
        dsimp only at e1 e2
        subst e1
        obtain ⟨s2, c1, ⟨-, c2⟩ | ⟨c2, -⟩⟩ := bd k s hk e2
        · exact ⟨_, c2, rfl, c1⟩
        · rw [ht] at c2; cases c2
      · rintro k ⟨y, s⟩ hk ht ⟨e1, e2⟩
        dsimp only at e1 e2
        subst e1
        obtain ⟨s2, c1, ⟨c2, -⟩ | ⟨-, c2⟩⟩ := bd k s hk e2
        · rw [ht] at c2; cases c2
        · rcases c2 with c2 | c2
          · exact ⟨_, c2, s2, Or.inl rfl, c1⟩
          · exact ⟨_, c2, s2, Or.inr rfl, c1⟩
      · rintro ⟨y, s⟩ ⟨e1, e2⟩
        dsimp only at e1 e2
        subst e1
        unfold f_X3_hasAll_b18
        dsimp only
        rw [(hW.kp e2 (by decide) (by decide) (by decide)).1, if_pos (nI_le (Nat.le_refl _) (by omega))]
        exact ⟨_, rfl, s, rfl, e2⟩
    rw [b1, Option.bind_some]
    cases hb : alls (fun k => hsw kd q n m w (W k)) L with
    | true =>
      obtain ⟨s, rfl, c1⟩ := b2 hb
      exact ⟨s, rfl, c1⟩
    | false =>
      obtain ⟨s, rfl | rfl, c1⟩ := b3 hb
      · exact ⟨s, rfl, c1⟩
      · exact ⟨s, rfl, c1⟩
  · rw [if_neg (by rw [pk_lEQ (by omega) (by omega)]; exact e), decide_eq_false e, Bool.false_and]
    exact ⟨s1, rfl, a2⟩
/-- WordBench looks for listed words in the other -/
theorem X1_b233 {N kd q n m A As ma c cs : Nat} {k0 : Option Nat} {u : SG} {w wa : Nat → Nat} (hN : 5000 ≤ N) (hoka : okc 0 q n ma wa) (hok : okc kd q n m w) (Ca : xC u c (cls 0) q n A ma (cap 0) wa) (C : xC u cs (cls kd) q n As m (cap kd) w) (hk : (kd = 0 ∧ k0 = none) ∨ (kd ≠ 0 ∧ ∃ f σ0, k0 = some f ∧ Fdn σ0 u f q n m w)) (b0 : Bool) : lp (f_X1_same_b233 N (some c) (some cs) k0 u) N (bI b0, 0) = some (bI (b0 && alls (fun k => hsw kd q n m w (wa k)) ma)) := by
  have hma : ma ≤ 200 := hoka.2.2.2.2.1
  have hs := qn_small hok.1 hok.2.2.1
  have hcap := hok.2.2.2.2.1
  obtain ⟨C1, g, C2, C3⟩ := Ca
  refine lp_and (fun k => hsw kd q n m w (wa k)) ma b0 (by omega) ?_ ?_ ?_
  · intro k hkk
    have hwk := hoka.2.2.2.2.2.1 k hkk
    unfold f_X1_same_b233 hsw
    dsimp only
    rw [Option.bind_some, gI_of (k := 3) C1 (cls_in 0) rfl, Option.bind_some, if_neg (nI_ge hkk (by omega)), if_neg i10, nI_1]
    rcases hk with ⟨e, rfl⟩ | ⟨e, f, σ0, rfl, F⟩
    · have hcc : cC [3] u cs = some () := cC_of C.1 (by rw [e]; decide)
      dsimp only
      rw [Option.bind_some, hcc, Option.bind_some, gR_of C1 (cls_in 0) rfl, Option.bind_some, aL_of C2 (show k < cap 0 by show k < 200; omega) (by decide), Option.bind_some, Option.bind_some, C3 k hkk, X5_has hN C (cls_in kd) hcap (cap_le kd) hok.w62 (by omega), Option.bind_some, if_pos e]
    · have hc : cap kd = 12 := if_neg e
      dsimp only
      rw [gR_of C1 (cls_in 0) rfl, Option.bind_some, aL_of C2 (show k < cap 0 by show k < 200; omega) (by decide), Option.bind_some, F.2.2.1, Option.bind_some, C3 k hkk, X9_has (by omega) hok.1 hok.2.2.1 (by omega) F hwk, Option.bind_some, if_neg e]
  · intro k hkk
    unfold f_X1_same_b233
    dsimp only
    rw [Option.bind_some, gI_of (k := 3) C1 (cls_in 0) rfl, Option.bind_some, if_neg (nI_ge hkk (by omega)), if_pos rfl]
  · intro b
    unfold f_X1_same_b233
    dsimp only
    rw [Option.bind_some, gI_of (k := 3) C1 (cls_in 0) rfl, Option.bind_some, if_pos (nI_le (Nat.le_refl _) (by omega))]
theorem cls_0 {kd : Nat} (h : cls kd = 3) : kd = 0 := by
  unfold cls at h
  split at h
  · assumption
  · split at h
    · omega
    · split at h <;> omega
theorem j293_b {N : Nat} {u : SG} (b : Bool) : f_X1_same_j293 N (bI b) u = some (u, bI b) := by cases b <;> rfl
theorem X1_j205 {N x M oa o kd q n m ma c cs : Nat} {own : Nat → Nat} {u : SG} {st : MS} {w wa : Nat → Nat} (hN : 5000 ≤ N) (j : J x M own u st) (hoka : okc 0 q n ma wa) (hok : okc kd q n m w) (hXa : xPl u own oa 0 q n ma wa c) (hX : xPl u own o kd q n m w cs) (b0 : Bool) : ∃ τ, f_X1_same_j205 N (bI b0) (some c) (some cs) u = some (τ, bI (b0 && alls (fun k => hsw kd q n m w (wa k)) ma)) ∧ J x M own τ st ∧ KM M u τ := by
  obtain ⟨A, x1, x2, x3, x4, Ca⟩ := id hXa
  obtain ⟨As, y1, y2, y3, y4, C⟩ := id hX
  unfold f_X1_same_j205 f_X1_same_j228
  rw [isLine (N := N) C.1 hok.2.2.2.1, Option.bind_some]
  by_cases e : kd = 0
  · rw [if_pos e, if_pos rfl, X1_b233 hN hoka hok Ca C (Or.inl ⟨e, rfl⟩) b0, Option.bind_some, j293_b]
    exact ⟨u, rfl, j, KM.refl _ _⟩
  · obtain ⟨τ, a1, F, a3, a4, a5, a6⟩ := new_form (N := N) (by omega) j hok e hX
    have Ca' : xC τ c (cls 0) q n A ma (cap 0) wa := by
      obtain ⟨C1, g, C2, C3⟩ := Ca
      exact ⟨by rw [a6 c x1]; exact C1, g, by rw [a6 A x2]; exact C2, C3⟩
    have C' : xC τ cs (cls kd) q n As m (cap kd) w := by
      obtain ⟨C1, g, C2, C3⟩ := C
      exact ⟨by rw [a6 cs y1]; exact C1, g, by rw [a6 As y2]; exact C2, C3⟩
    rw [if_neg e, if_neg i10, Option.bind_some, Option.bind_some, a1, Option.bind_some, X1_b233 hN hoka hok Ca' C' (Or.inr ⟨e, u.1, u, rfl, F⟩) b0, Option.bind_some, j293_b]
    exact ⟨τ, rfl, a3, a4⟩
theorem X1_j158 {N x M oa ob kda kdb q n ma mb ca cb : Nat} {own : Nat → Nat} {u : SG} {st : MS} {wa wb : Nat → Nat} (hN : 5000 ≤ N) (j : J x M own u st) (hoka : okc kda q n ma wa) (hokb : okc kdb q n mb wb) (hXa : xPl u own oa kda q n ma wa ca) (hXb : xPl u own ob kdb q n mb wb cb) (hl : kda = 0 ∨ kdb = 0) : ∃ τ, f_X1_same_j158 N (some ca) (some cb) u = some (τ, bI (decide (szv kda q n ma wa = szv kdb q n mb wb) && (if kda = 0 then alls (fun k => hsw kdb q n mb wb (wa k)) ma else alls (fun k => hsw kda q n ma wa (wb k)) mb))) ∧ J x M own τ st ∧ KM M u τ := by
  obtain ⟨τ1, a1, a2, a3, a4⟩ := X1_sizeOf hN j hoka hXa
  have kp1 : ∀ {o kd m w c}, xPl u own o kd q n m w c → xPl τ1 own o kd q n m w c := fun h => h.keep a3.1 (fun a ha _ => ⟨a4 a ha, rfl⟩)
  obtain ⟨τ2, b1, b2, b3, b4⟩ := X1_sizeOf hN a2 hokb (kp1 hXb)
  have kp2 : ∀ {o kd m w c}, xPl u own o kd q n m w c → xPl τ2 own o kd q n m w c := fun h => (kp1 h).keep b3.1 (fun a ha _ => ⟨b4 a ha, rfl⟩)
  have hsz : ∀ {kd m : Nat} {w : Nat → Nat}, okc kd q n m w → szv kd q n m w < 2 ^ 31 := by
    intro kd m w hok
    have hm := hok.m200
    unfold szv
    split
    · omega
    · rename_i e
      have hc : cap kd = 12 := if_neg e
      have hcap := hok.2.2.2.2.1
      have hr := rk_le12 (n := n) (w := w) hok.1 (show m ≤ 12 by omega)
      have := qn_small hok.1 hr
      omega
  have z1 := hsz hoka
  have z2 := hsz hokb
  obtain ⟨A, x1, x2, x3, x4, Ca⟩ := kp2 hXa
  obtain ⟨As, y1, y2, y3, y4, Cb⟩ := kp2 hXb
  have j176 : ∀ b0, ∃ τ, f_X1_same_j176 N (some ca) (some cb) (bI b0) τ2 = some (τ, bI (b0 && (if kda = 0 then alls (fun k => hsw kdb q n mb wb (wa k)) ma else alls (fun k => hsw kda q n ma wa (wb k)) mb))) ∧ J x M own τ st ∧ KM M τ2 τ := by
    intro b0
    unfold f_X1_same_j176 f_X1_same_j191
    rw [isList Ca.1 hoka.2.2.2.1, Option.bind_some]
    by_cases e : kda = 0
    · subst e
      rw [if_pos rfl, if_neg i10, if_pos rfl, if_pos rfl]
      exact X1_j205 hN b2 hoka hokb (kp2 hXa) (kp2 hXb) b0
    · have e2 : kdb = 0 := hl.resolve_left e
      subst e2
      have hne : ¬ some cb = some ca := by
        intro h
        injection h with h
        subst h
        have h1 := Ca.1
        rw [Cb.1] at h1
        injection h1 with h1
        injection h1 with h1
        injection h1 with h1 _
        exact e (cls_0 h1.symm)
      rw [if_neg e, if_pos rfl, if_neg hne, if_neg e]
      exact X1_j205 hN b2 hokb hoka (kp2 hXb) (kp2 hXa) b0
  unfold f_X1_same_j158
  rw [Option.bind_some, a1, Option.bind_some]
  dsimp only
  rw [Option.bind_some, b1, Option.bind_some]
  dsimp only
  by_cases e : szv kda q n ma wa = szv kdb q n mb wb
  · obtain ⟨τ, c1, c2, c3⟩ := j176 true
    rw [if_pos (by rw [e]), decide_eq_true e]
    exact ⟨τ, c1, c2, (a3.trans b3).trans c3⟩
  · obtain ⟨τ, c1, c2, c3⟩ := j176 false
    rw [if_neg (by rw [pk_lEQ (by omega) (by omega)]; exact e), decide_eq_false e]
    exact ⟨τ, c1, c2, (a3.trans b3).trans c3⟩
