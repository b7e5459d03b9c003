/-! ===== PURE J17: cut (op) ===== -/
set_option maxRecDepth 100000
theorem isList {c kd : Nat} {σ : SG} {fs : List Value} (h : σ.2 c = some (eO (cls kd) fs)) (hk : kd ≤ 3) : iO [3] [4, 5, 6] σ (some c) = some (if kd = 0 then 1 else 0) := by
  unfold iO
  dsimp only
  rw [h]
  dsimp only
  rcases (show kd = 0 ∨ kd = 1 ∨ kd = 2 ∨ kd = 3 by omega) with rfl | rfl | rfl | rfl <;> rfl
theorem kdl_0 (kd : Nat) : kdl kd = 0 ↔ kd = 0 := by
  unfold kdl
  split <;> omega
theorem X1_comes {N f kd q n m v : Nat} {σ τ : SG} {w : Nat → Nat} (hN : 5000 ≤ N) (h : NC σ τ f (kdl kd) q n m w) (hm : m < cap (kdl kd)) (hw : ∀ k, k < m → w k < 2 ^ 62) (hv : v < 2 ^ 62) : ∃ τ', f_X1_comes N τ f (lN v) = some τ' ∧ (if kd = 0 ∧ fnd w v m = true then NC σ τ' f (kdl kd) q n m w else NC σ τ' f (kdl kd) q n (m + 1) (wset w m v)) := by
  obtain ⟨τ2, a1, a2, -, -⟩ := h.add (N := N) (v := v) hm
  unfold f_X1_comes f_X1_comes_j19
  rw [isList h.2.2.1 (kdl_le kd), Option.bind_some]
  by_cases e : kd = 0
  · have e' : kdl kd = 0 := (kdl_0 kd).mpr e
    have hcc : cC [3] τ f = some () := cC_of h.2.2.1 (by rw [e']; decide)
    rw [if_pos e', if_neg i10, hcc, Option.bind_some, Option.bind_some, X5_has hN h.2.2 (cls_in _) (by omega) (cap_le _) hw hv, Option.bind_some]
    cases hb : fnd w v m with
    | true =>
      refine ⟨τ, rfl, ?_⟩
      rw [if_pos ⟨e, rfl⟩]
      exact h
    | false =>
      rw [if_pos (show bI false = 0 from rfl), a1, Option.bind_some]
      refine ⟨τ2, rfl, ?_⟩
      rw [if_neg (fun hh => absurd hh.2 (by decide))]
      exact a2
  · have e' : ¬ kdl kd = 0 := fun hh => e ((kdl_0 kd).mp hh)
    rw [if_neg e', if_pos rfl, a1, Option.bind_some]
    refine ⟨τ2, rfl, ?_⟩
    rw [if_neg (fun hh => e hh.1)]
    exact a2
theorem X1_cut {N x kd q n m c A i : Nat} {t : Int32} {σ τ : SG} {w : Nat → Nat} (hN : 5000 ≤ N) (hok : okc kd q n m w) (hi : i < n) (C : xC σ c (cls kd) q n A m (cap kd) w) (hc : c < σ.1) (hA : A < σ.1) (hτ : NC σ τ σ.1 (kdl kd) q (n - 1) 0 (fun _ => 0)) : ∃ τ', lp (f_X1_cut_b42 N x (nI i) t c σ.1) N (0, τ) = some τ' ∧ NC σ τ' σ.1 (kdl kd) q (n - 1) (cw kd q n i w m).1 (cw kd q n i w m).2 := by
  have hm := hok.m200
  have hw := hok.w62
  obtain ⟨hq, h1, h2, h3, hcap, h5, h6⟩ := hok
  have q5 := hq.2
  have hcl := cap_le kd
  obtain ⟨C1, g, C2, C3⟩ := C
  have hs := qn_small hq (show n - 1 ≤ 12 by omega)
  refine lp_inv0 (P := fun k s => s.1 = nI k ∧ NC σ s.2 σ.1 (kdl kd) q (n - 1) (cw kd q n i w k).1 (cw kd q n i w k).2) (Q := fun s => NC σ s σ.1 (kdl kd) q (n - 1) (cw kd q n i w m).1 (cw kd q n i w m).2) m (by omega) ⟨rfl, hτ⟩ ?_ ?_
  · rintro k ⟨y, s⟩ hk ⟨e1, e2⟩
    dsimp only at e1 e2
    subst e1
    have D1 : s.2 c = some (eO (cls kd) [.int (nI q), .int (nI n), .ref A, .int (nI m)]) := by rw [e2.2.1 c hc]; exact C1
    have D2 : s.2 A = some (eL (cap kd) g) := by rw [e2.2.1 A hA]; exact C2
    obtain ⟨o1, o2, o3⟩ := cw_ok (kd := kd) hq hi h5 k (by omega)
    have hv := wo_lt hq (h5 k hk) hi
    obtain ⟨s2, a1, a2⟩ := X1_comes (N := N) (v := wo q n (w k) i) hN e2 (by rw [cap_kdl]; omega) (fun a ha => by have := o2 a ha; omega) (by omega)
    unfold f_X1_cut_b42
    dsimp only
    rw [gI_of (k := 3) D1 (cls_in kd) rfl, Option.bind_some, if_neg (nI_ge hk (by omega)), gI_of (k := 0) D1 (cls_in kd) rfl, Option.bind_some, gI_of (k := 1) D1 (cls_in kd) rfl, Option.bind_some, gR_of D1 (cls_in kd) rfl, Option.bind_some, aL_of D2 (show k < cap kd by omega) (by omega), Option.bind_some, C3 k hk, X1_without (by omega) hq h2 (hw k hk) hi, Option.bind_some, a1, Option.bind_some, nI_1]
    refine ⟨_, rfl, rfl, ?_⟩
    dsimp only
    rw [cw]
    by_cases e : kd = 0 ∧ fnd (cw kd q n i w k).2 (wo q n (w k) i) (cw kd q n i w k).1 = true
    · rw [if_pos e] at a2 ⊢; exact a2
    · rw [if_neg e] at a2 ⊢; exact a2
  · rintro ⟨y, s⟩ ⟨e1, e2⟩
    dsimp only at e1 e2
    subst e1
    have D1 : s.2 c = some (eO (cls kd) [.int (nI q), .int (nI n), .ref A, .int (nI m)]) := by rw [e2.2.1 c hc]; exact C1
    unfold f_X1_cut_b42
    dsimp only
    rw [gI_of (k := 3) D1 (cls_in kd) rfl, Option.bind_some, if_pos (nI_le (Nat.le_refl _) (by omega))]
    exact ⟨_, rfl, e2⟩
theorem okc_cut {kd q n m i : Nat} {w : Nat → Nat} (hok : okc kd q n m w) (hi : i < n) (hn : 2 ≤ n) : okc (kdl kd) q (n - 1) (cw kd q n i w m).1 (cw kd q n i w m).2 := by
  obtain ⟨hq, h1, h2, h3, h4, h5, h6⟩ := hok
  obtain ⟨o1, o2, o3⟩ := cw_ok (kd := kd) hq hi h5 m (Nat.le_refl _)
  exact ⟨hq, by omega, by omega, kdl_le kd, by rw [cap_kdl]; omega, o2, fun e => o3 ((kdl_0 kd).mp e)⟩
theorem X3_cut {N p kd q n m i : Nat} {st : MS} {w : Nat → Nat} {t2 : Int32} (hN : 5000 ≤ N) (hp : p < 12) (hok : okc kd q n m w) (hi : i < n) (hP : mPl st p kd q n m w) : ∃ st1, lp (f_X3_cut_b26 N (nI p) (nI i) t2) N (0, sV st 18 0) = some st1 ∧ Kp [] [17] [18] st st1 ∧ st1.2.2.1 18 = nI (cw kd q n i w m).1 ∧ ∀ a, a < (cw kd q n i w m).1 → st1.2.1 17 a = lN ((cw kd q n i w m).2 a) := by
  have hm := hok.m200
  have hw := hok.w62
  obtain ⟨hq, h1, h2, h3, hcap, h5, h6⟩ := hok
  obtain ⟨p1, p2, p3, p4, p5⟩ := hP
  have q5 := hq.2
  have hs := qn_small hq (show n - 1 ≤ 12 by omega)
  refine lp_inv0 (P := fun k s => s.1 = nI k ∧ Kp [] [17] [18] st s.2 ∧ s.2.2.2.1 18 = nI (cw kd q n i w k).1 ∧ ∀ a, a < (cw kd q n i w k).1 → s.2.2.1 17 a = lN ((cw kd q n i w k).2 a)) (Q := fun s => Kp [] [17] [18] st s ∧ s.2.2.1 18 = nI (cw kd q n i w m).1 ∧ ∀ a, a < (cw kd q n i w m).1 → s.2.1 17 a = lN ((cw kd q n i w m).2 a)) m (by omega) ⟨rfl, (Kp.refl _ _ _ _).sV (by decide) _, sV_s _ _ _, fun a ha => absurd ha (by simp [cw])⟩ ?_ ?_
  · rintro k ⟨y, s⟩ hk ⟨e1, e2, e3, e4⟩
    dsimp only at e1 e2 e3 e4
    subst e1
    obtain ⟨o1, o2, o3⟩ := cw_ok (kd := kd) hq hi h5 k (by omega)
    have hv := wo_lt hq (h5 k hk) hi
    have s1 : s.1 1 p = nI kd := by rw [e2.1 1 (by decide)]; exact p1
    have s2 : s.1 2 p = nI q := by rw [e2.1 2 (by decide)]; exact p2
    have s3 : s.1 3 p = nI n := by rw [e2.1 3 (by decide)]; exact p3
    have s4 : s.1 4 p = nI m := by rw [e2.1 4 (by decide)]; exact p4
    have s5 : s.2.1 5 (200 * p + k) = lN (w k) := by rw [e2.2.1 5 (by decide)]; exact p5 k hk
    have add : ∀ o : Nat × (Nat → Nat), o = ((cw kd q n i w k).1 + 1, wset (cw kd q n i w k).2 (cw kd q n i w k).1 (wo q n (w k) i)) → cw kd q n i w (k + 1) = o → ∃ s', some (Sum.inl (nI (k + 1), sV (sL s 17 (vp_updL (s.2.1 17) (cw kd q n i w k).1 (lN (wo q n (w k) i)))) 18 (nI ((cw kd q n i w k).1 + 1)))) = (some (Sum.inl s') : Option ((Int32 × MS) ⊕ MS)) ∧ s'.1 = nI (k + 1) ∧ Kp [] [17] [18] st s'.2 ∧ s'.2.2.2.1 18 = nI (cw kd q n i w (k + 1)).1 ∧ ∀ a, a < (cw kd q n i w (k + 1)).1 → s'.2.2.1 17 a = lN ((cw kd q n i w (k + 1)).2 a) := by
      intro o ho hcw
      rw [hcw, ho]
      refine ⟨_, rfl, rfl, (e2.sL (by decide) _).sV (by decide) _, sV_s _ _ _, fun a ha => ?_⟩
      dsimp only at ha
      show (sL s 17 (vp_updL (s.2.1 17) (cw kd q n i w k).1 (lN (wo q n (w k) i)))).2.1 17 a = lN (wset (cw kd q n i w k).2 (cw kd q n i w k).1 (wo q n (w k) i) a)
      rw [sL_s]
      unfold wset
      by_cases e : a = (cw kd q n i w k).1
      · rw [e, pk_uLs, if_pos rfl]
      · rw [pk_uLn e, if_neg e]; exact e4 a (by omega)
    unfold f_X3_cut_b26 f_X3_cut_j81
    dsimp only
    rw [ald_N hp (by omega), Option.bind_some, s4, if_neg (nI_ge hk (by omega)), ald_N hp (by omega), Option.bind_some, ald_N hp (by omega), Option.bind_some, s2, s3, ix200, ald_N (show 200 * p + k < 2400 by omega) (by omega), Option.bind_some, s5, X3_without_eq, X1_without (by omega) hq h2 (hw k hk) hi, Option.bind_some, ald_N hp (by omega), Option.bind_some, s1, nI_1]
    by_cases e : kd = 0
    · rw [if_pos (show nI kd = 0 by rw [e]; rfl)]
      obtain ⟨z1, z2⟩ := X3_aside1 (v := wo q n (w k) i) (u := (cw kd q n i w k).2) hN (by omega) e3 (fun a ha => ⟨e4 a ha, by have := o2 a ha; omega⟩) (by omega)
      cases hb : fnd (cw kd q n i w k).2 (wo q n (w k) i) (cw kd q n i w k).1 with
      | true =>
        rw [z1 hb, Option.bind_some]
        have hcw : cw kd q n i w (k + 1) = cw kd q n i w k := by rw [cw, if_pos ⟨e, hb⟩]
        exact ⟨_, rfl, rfl, e2, by rw [hcw]; exact e3, by rw [hcw]; exact e4⟩
      | false =>
        rw [z2 hb (by omega), Option.bind_some]
        exact add _ rfl (by rw [cw, if_neg (fun hh => by rw [hb] at hh; exact absurd hh.2 (by decide))])
    · rw [if_neg (nI_ne0 (by omega) (by omega))]
      obtain ⟨N', rfl⟩ : ∃ N', N = N' + 1 := ⟨N - 1, by omega⟩
      rw [X3_aside (N := N') (by omega) e3, Option.bind_some]
      exact add _ rfl (by rw [cw, if_neg (fun hh => e hh.1)])
  · rintro ⟨y, s⟩ ⟨e1, e2, e3, e4⟩
    dsimp only at e1 e2 e3 e4
    subst e1
    unfold f_X3_cut_b26
    dsimp only
    rw [ald_N hp (by omega), Option.bind_some, e2.1 4 (by decide), p4, if_pos (nI_le (Nat.le_refl _) (by omega))]
    exact ⟨_, rfl, e2, e3, e4⟩
