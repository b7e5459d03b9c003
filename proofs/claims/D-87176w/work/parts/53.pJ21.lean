/-! ===== PURE J21: shorter, the second loops and the op ===== -/
set_option maxRecDepth 100000
theorem X1_shorter {N x kd q n m c A i f : Nat} {t g : Int32} {σ τ : SG} {w : Nat → Nat} (hN : 5000 ≤ N) (hok : okc kd q n m w) (hi : i < n) (C : xC σ c (cls kd) q n A m (cap kd) w) (hc : c < σ.1) (hA : A < σ.1) (hf : isF q n i m f w) (hg : kd ≠ 0 → g = nI f) (hτ : NC σ τ σ.1 (kdl kd) q (n - 1) 0 (fun _ => 0)) : ∃ τ', lp (f_X1_shorter_b94 N x (nI i) t c σ.1 g) N (0, τ) = some τ' ∧ NC σ τ' σ.1 (kdl kd) q (n - 1) (shw kd q n i f w m).1 (shw kd q n i f w m).2 := by
  have hm := hok.m200
  have hw := hok.w62
  obtain ⟨hq, h1, h2, h3, hcap, h5, h6⟩ := hok
  have q5 := hq.2
  have hcl := cap_le kd
  obtain ⟨C1, ga, C2, C3⟩ := C
  obtain ⟨f1, f2, f3⟩ := hf
  have hs := qn_small hq h2
  refine lp_inv0 (P := fun k s => s.1 = nI k ∧ NC σ s.2 σ.1 (kdl kd) q (n - 1) (shw kd q n i f w k).1 (shw kd q n i f w k).2) (Q := fun s => NC σ s σ.1 (kdl kd) q (n - 1) (shw kd q n i f w m).1 (shw kd q n i f w m).2) m (by omega) ⟨rfl, hτ⟩ ?_ ?_
  · rintro k ⟨y, s⟩ hk ⟨e1, e2⟩
    dsimp only at e1 e2
    subst e1
    have D1 : s.2 c = some (eO (cls kd) [.int (nI q), .int (nI n), .ref A, .int (nI m)]) := by rw [e2.2.1 c hc]; exact C1
    have D2 : s.2 A = some (eL (cap kd) ga) := by rw [e2.2.1 A hA]; exact C2
    obtain ⟨o1, o2, -, -⟩ := shw_ok (f := f) hq hi h5 h6 k (by omega)
    have hd := dg_lt hq n (w k) i
    have hsv := shv_lt (i := i) (u := w f) hq (h5 k hk)
    have hv := wo_lt hq hsv hi
    obtain ⟨s2, a1, a2, -, -⟩ := e2.add (N := N) (v := wo q n (shv q n i (w k) (w f)) i) (by rw [cap_kdl]; omega)
    have J239 : f_X1_shorter_j239 N x (nI i) t c σ.1 g (nI k) (lN (shv q n i (w k) (w f))) s = some (.inl (nI (k + 1), s2)) := by
      unfold f_X1_shorter_j239
      rw [gI_of (k := 0) D1 (cls_in kd) rfl, Option.bind_some, gI_of (k := 1) D1 (cls_in kd) rfl, Option.bind_some, X1_without (by omega) hq h2 (by omega) hi, Option.bind_some, a1, Option.bind_some, nI_1]
    unfold f_X1_shorter_b94
    dsimp only
    rw [gI_of (k := 3) D1 (cls_in kd) rfl, Option.bind_some, if_neg (nI_ge hk (by omega)), gR_of D1 (cls_in kd) rfl, Option.bind_some, aL_of D2 (show k < cap kd by omega) (by omega), Option.bind_some, gI_of (k := 0) D1 (cls_in kd) rfl, Option.bind_some, gI_of (k := 1) D1 (cls_in kd) rfl, Option.bind_some, C3 k hk, X1_letter (by omega) hq h2 (hw k hk) hi, Option.bind_some, isLine (N := N) D1 h3, Option.bind_some, nI_1]
    by_cases e0 : kd = 0
    · rw [if_pos e0, if_pos rfl]
      unfold f_X1_shorter_j147
      rw [isLine (N := N) D1 h3, Option.bind_some, if_pos e0, if_pos rfl]
      by_cases e : dg q n (w k) i = 0
      · rw [if_pos (show nI (dg q n (w k) i) = 0 by rw [e]; rfl)]
        unfold f_X1_shorter_j163
        rw [if_pos (show nI (dg q n (w k) i) = 0 by rw [e]; rfl)]
        rw [show shv q n i (w k) (w f) = w k from if_pos e] at J239
        rw [J239]
        refine ⟨_, rfl, rfl, ?_⟩
        dsimp only
        rw [shw, if_pos (by unfold shs; rw [if_pos e0]; exact decide_eq_true e)]
        exact a2
      · rw [if_neg (nI_ne0 (by omega) (by omega)), nI_1]
        refine ⟨_, rfl, rfl, ?_⟩
        dsimp only
        rw [shw, if_neg (by unfold shs; rw [if_pos e0]; exact fun hh => e (of_decide_eq_true hh))]
        exact e2
    · rw [if_neg e0, if_neg i10, hg e0]
      by_cases ek : k = f
      · rw [if_pos (show nI k = nI f by rw [ek])]
        refine ⟨_, rfl, rfl, ?_⟩
        dsimp only
        rw [shw, if_neg (by unfold shs; rw [if_neg e0]; exact fun hh => of_decide_eq_true hh ek)]
        exact e2
      · rw [if_neg (show ¬ nI k = nI f by rw [nI_eq (by omega) (by omega)]; exact ek)]
        have hend : ∃ s', (some (.inl (nI (k + 1), s2)) : Option ((Int32 × SG) ⊕ SG)) = some (.inl s') ∧ s'.1 = nI (k + 1) ∧ NC σ s'.2 σ.1 (kdl kd) q (n - 1) (shw kd q n i f w (k + 1)).1 (shw kd q n i f w (k + 1)).2 := by
          refine ⟨_, rfl, rfl, ?_⟩
          dsimp only
          rw [shw, if_pos (by unfold shs; rw [if_neg e0]; exact decide_eq_true ek)]
          exact a2
        rw [hg e0] at J239
        unfold f_X1_shorter_j147
        rw [isLine (N := N) D1 h3, Option.bind_some, if_neg e0, if_neg i10]
        unfold f_X1_shorter_j163
        by_cases e : dg q n (w k) i = 0
        · rw [if_pos (show nI (dg q n (w k) i) = 0 by rw [e]; rfl)]
          rw [show shv q n i (w k) (w f) = w k from if_pos e] at J239
          rw [J239]
          exact hend
        · have hfk : f ≤ k := Nat.le_of_not_lt fun hh => e (f3 k hh)
          have hdf := dg_lt hq n (w f) i
          have hi1 := finv_lt hq hdf
          have hi2 := fmul_lt hq hd hi1
          rw [show shv q n i (w k) (w f) = _ from if_neg e] at J239
          rw [if_neg (nI_ne0 (by omega) (by omega)), gR_of D1 (cls_in kd) rfl, Option.bind_some, aL_of D2 (show f < cap kd by omega) (by omega), Option.bind_some, gI_of (k := 0) D1 (cls_in kd) rfl, Option.bind_some, gI_of (k := 1) D1 (cls_in kd) rfl, Option.bind_some, Option.bind_some, Option.bind_some, Option.bind_some, Option.bind_some, Option.bind_some, C3 f (by omega), X1_letter (by omega) hq h2 (hw f (by omega)) hi, Option.bind_some, X1_inverse (by omega) hq hdf (f2 (by omega)), Option.bind_some, X1_times hq hd hi1, Option.bind_some, X1_against hq hi2, Option.bind_some, X1_sumOf (by omega) hq h2 (hw k hk) (hw f (by omega)) (fneg_lt hq hi2), Option.bind_some, J239]
          exact hend
  · rintro ⟨y, s⟩ ⟨e1, e2⟩
    dsimp only at e1 e2
    subst e1
    have D1 : s.2 c = some (eO (cls kd) [.int (nI q), .int (nI n), .ref A, .int (nI m)]) := by rw [e2.2.1 c hc]; exact C1
    unfold f_X1_shorter_b94
    dsimp only
    rw [gI_of (k := 3) D1 (cls_in kd) rfl, Option.bind_some, if_pos (nI_le (Nat.le_refl _) (by omega))]
    exact ⟨_, rfl, e2⟩
theorem X3_shorter {N p kd q n m i f : Nat} {st : MS} {w : Nat → Nat} {t2 : Int32} (hN : 5000 ≤ N) (hp : p < 12) (hok : okc kd q n m w) (hi : i < n) (hP : mPl st p kd q n m w) (hf : isF q n i m f w) : ∃ st1, lp (f_X3_shorter_b86 N (nI p) (nI i) t2 (nI q) (nI n) (nI f)) N (0, sV st 18 0) = some st1 ∧ Kp [] [17] [18] st st1 ∧ st1.2.2.1 18 = nI (shw kd q n i f w m).1 ∧ ∀ a, a < (shw kd q n i f w m).1 → st1.2.1 17 a = lN ((shw kd q n i f w m).2 a) := by
  have hm := hok.m200
  have hw := hok.w62
  obtain ⟨hq, h1, h2, h3, hcap, h5, h6⟩ := hok
  obtain ⟨p1, p2, p3, p4, p5⟩ := hP
  obtain ⟨f1, f2, f3⟩ := hf
  have q5 := hq.2
  have hs := qn_small hq h2
  refine lp_inv0 (P := fun k s => s.1 = nI k ∧ Kp [] [17] [18] st s.2 ∧ s.2.2.2.1 18 = nI (shw kd q n i f w k).1 ∧ ∀ a, a < (shw kd q n i f w k).1 → s.2.2.1 17 a = lN ((shw kd q n i f w k).2 a)) (Q := fun s => Kp [] [17] [18] st s ∧ s.2.2.1 18 = nI (shw kd q n i f w m).1 ∧ ∀ a, a < (shw kd q n i f w m).1 → s.2.1 17 a = lN ((shw kd q n i f w m).2 a)) m (by omega) ⟨rfl, (Kp.refl _ _ _ _).sV (by decide) _, sV_s _ _ _, fun a ha => absurd ha (by simp [shw])⟩ ?_ ?_
  · rintro k ⟨y, s⟩ hk ⟨e1, e2, e3, e4⟩
    dsimp only at e1 e2 e3 e4
    subst e1
    obtain ⟨o1, o2, -, -⟩ := shw_ok (f := f) hq hi h5 h6 k (by omega)
    have hd := dg_lt hq n (w k) i
    have hsv := shv_lt (i := i) (u := w f) hq (h5 k hk)
    have hv := wo_lt hq hsv hi
    have s1 : s.1 1 p = nI kd := by rw [e2.1 1 (by decide)]; exact p1
    have s4 : s.1 4 p = nI m := by rw [e2.1 4 (by decide)]; exact p4
    have s5 : ∀ k, k < m → s.2.1 5 (200 * p + k) = lN (w k) := fun k hk => by rw [e2.2.1 5 (by decide)]; exact p5 k hk
    have add : shw kd q n i f w (k + 1) = ((shw kd q n i f w k).1 + 1, wset (shw kd q n i f w k).2 (shw kd q n i f w k).1 (wo q n (shv q n i (w k) (w f)) i)) → ∃ s', some (Sum.inl (nI (k + 1), sV (sL s 17 (vp_updL (s.2.1 17) (shw kd q n i f w k).1 (lN (wo q n (shv q n i (w k) (w f)) i)))) 18 (nI ((shw kd q n i f w k).1 + 1)))) = (some (Sum.inl s') : Option ((Int32 × MS) ⊕ MS)) ∧ s'.1 = nI (k + 1) ∧ Kp [] [17] [18] st s'.2 ∧ s'.2.2.2.1 18 = nI (shw kd q n i f w (k + 1)).1 ∧ ∀ a, a < (shw kd q n i f w (k + 1)).1 → s'.2.2.1 17 a = lN ((shw kd q n i f w (k + 1)).2 a) := by
      intro hcw
      rw [hcw]
      refine ⟨_, rfl, rfl, (e2.sL (by decide) _).sV (by decide) _, sV_s _ _ _, fun a ha => ?_⟩
      dsimp only at ha
      show (sL s 17 (vp_updL (s.2.1 17) (shw kd q n i f w k).1 (lN (wo q n (shv q n i (w k) (w f)) i)))).2.1 17 a = lN (wset (shw kd q n i f w k).2 (shw kd q n i f w k).1 (wo q n (shv q n i (w k) (w f)) i) a)
      rw [sL_s]
      unfold wset
      by_cases e : a = (shw kd q n i f w k).1
      · rw [e, pk_uLs, if_pos rfl]
      · rw [pk_uLn e, if_neg e]; exact e4 a (by omega)
    obtain ⟨N', rfl⟩ : ∃ N', N = N' + 1 := ⟨N - 1, by omega⟩
    have J229 : ∀ h cc, h < 2 ^ 62 → cc < q → wsum q n (w k) h cc = shv q n i (w k) (w f) → f_X3_shorter_j229 (N' + 1) (nI p) (nI i) t2 (nI q) (nI n) (nI f) (nI k) (lN (w k)) (lN h) (nI cc) s = some (.inl (nI (k + 1), sV (sL s 17 (vp_updL (s.2.1 17) (shw kd q n i f w k).1 (lN (wo q n (shv q n i (w k) (w f)) i)))) 18 (nI ((shw kd q n i f w k).1 + 1)))) := by
      intro h cc hh hcc he
      unfold f_X3_shorter_j229
      rw [X3_sumOf (by omega) hq h2 (hw k hk) hh hcc, Option.bind_some, he, X3_without_eq, X1_without (by omega) hq h2 (by omega) hi, Option.bind_some, X3_aside (N := N') (by omega) e3, Option.bind_some, nI_1]
    unfold f_X3_shorter_b86
    dsimp only
    rw [ald_N hp (by omega), Option.bind_some, s4, if_neg (nI_ge hk (by omega)), ix200, ald_N (show 200 * p + k < 2400 by omega) (by omega), Option.bind_some, s5 k hk, X3_letter (by omega) hq h2 (hw k hk) hi, Option.bind_some, ald_N hp (by omega), Option.bind_some, s1, nI_1]
    by_cases e0 : kd = 0
    · rw [if_pos (show nI kd = 0 by rw [e0]; rfl)]
      by_cases e : dg q n (w k) i = 0
      · rw [if_pos (show nI (dg q n (w k) i) = 0 by rw [e]; rfl), X3_without_eq, X1_without (by omega) hq h2 (hw k hk) hi, Option.bind_some, X3_aside (N := N') (by omega) e3, Option.bind_some]
        have hsv0 : shv q n i (w k) (w f) = w k := if_pos e
        rw [hsv0] at add
        refine add ?_
        rw [shw, if_pos (by unfold shs; rw [if_pos e0]; exact decide_eq_true e), hsv0]
      · rw [if_neg (nI_ne0 (by omega) (by omega))]
        have hcw : shw kd q n i f w (k + 1) = shw kd q n i f w k := by rw [shw, if_neg (by unfold shs; rw [if_pos e0]; exact fun hh => e (of_decide_eq_true hh))]
        exact ⟨_, rfl, rfl, e2, by rw [hcw]; exact e3, by rw [hcw]; exact e4⟩
    · rw [if_neg (nI_ne0 (by omega) (by omega))]
      by_cases ek : k = f
      · rw [if_pos (show nI k = nI f by rw [ek])]
        have hcw : shw kd q n i f w (k + 1) = shw kd q n i f w k := by rw [shw, if_neg (by unfold shs; rw [if_neg e0]; exact fun hh => of_decide_eq_true hh ek)]
        exact ⟨_, rfl, rfl, e2, by rw [hcw]; exact e3, by rw [hcw]; exact e4⟩
      · have add := add (by rw [shw, if_pos (by unfold shs; rw [if_neg e0]; exact decide_eq_true ek)])
        rw [if_neg (show ¬ nI k = nI f by rw [nI_eq (by omega) (by omega)]; exact ek), Option.bind_some]
        by_cases ef : m ≤ f
        · have ed := f3 k (by omega)
          rw [if_pos (nI_le ef (by omega))]
          unfold f_X3_shorter_j191
          have hJ := J229 0 0 (by decide) (by have := hq.1; omega) (by rw [wsum_0 hq (h5 k hk)]; exact (if_pos ed).symm)
          rw [if_pos (show nI (dg q n (w k) i) = 0 by rw [ed]; rfl)]
          exact (show f_X3_shorter_j229 (N' + 1) (nI p) (nI i) t2 (nI q) (nI n) (nI f) (nI k) (lN (w k)) 0 0 s = _ from hJ) ▸ add
        · rw [if_neg (nI_ge (by omega) (by omega)), ix200, ald_N (show 200 * p + f < 2400 by omega) (by omega), Option.bind_some, s5 f (by omega)]
          unfold f_X3_shorter_j191
          by_cases e : dg q n (w k) i = 0
          · have hJ := J229 (w f) 0 (hw f (by omega)) (by have := hq.1; omega) (by rw [wsum_0 hq (h5 k hk)]; exact (if_pos e).symm)
            rw [if_pos (show nI (dg q n (w k) i) = 0 by rw [e]; rfl)]
            exact (show f_X3_shorter_j229 (N' + 1) (nI p) (nI i) t2 (nI q) (nI n) (nI f) (nI k) (lN (w k)) (lN (w f)) 0 s = _ from hJ) ▸ add
          · have hdf := dg_lt hq n (w f) i
            have hi1 := finv_lt hq hdf
            have hi2 := fmul_lt hq hd hi1
            have hJ := J229 (w f) _ (hw f (by omega)) (fneg_lt hq hi2) (if_neg e).symm
            rw [if_neg (nI_ne0 (by omega) (by omega)), X3_letter (by omega) hq h2 (hw f (by omega)) hi, Option.bind_some, X3_inverse (by omega) hq hdf (f2 (by omega)), Option.bind_some, X3_times hq hd hi1, Option.bind_some, X3_minus hq hi2, Option.bind_some, hJ]
            exact add
  · rintro ⟨y, s⟩ ⟨e1, e2, e3, e4⟩
    dsimp only at e1 e2 e3 e4
    subst e1
    unfold f_X3_shorter_b86
    dsimp only
    rw [ald_N hp (by omega), Option.bind_some, e2.1 4 (by decide), p4, if_pos (nI_le (Nat.le_refl _) (by omega))]
    exact ⟨_, rfl, e2, e3, e4⟩
theorem op_shorter {N x M : Nat} {own : Nat → Nat} {σ : SG} {st : MS} (hN : 5000 ≤ N) (j : J x M own σ st) (a b c : Int32) : Ok x M σ (f_X1_shorter N σ x a b c) (f_X3_shorter N st a b c) := by
  unfold f_X1_shorter f_X3_shorter
  simp only [j.cc, Option.bind_some]
  rcases why_place (N := N) j a b c with ⟨r, hr, h1, h2⟩ | ⟨p, i, t, kd, q, n, m, w, d, hp, ht, hi, hn2, rfl, rfl, rfl, hd, hok, hP, hX, h1, h2⟩
  · rw [h1, h2, Option.bind_some, Option.bind_some, if_neg hr, if_neg hr, Option.bind_some]
    exact Ok.nil j rfl rfl
  · obtain ⟨A, x1, x2, x3, x4, C⟩ := id hX
    obtain ⟨f, hf⟩ := isF_ex q n i m w
    obtain ⟨τ, a1, a2, a3⟩ := X1_like (N := N) (n2 := n - 1) C hok.2.2.2.1 x1 (fun _ => 0)
    have Cτ : xC τ d (cls kd) q n A m (cap kd) w := by
      obtain ⟨C1, g, C2, C3⟩ := C
      exact ⟨by rw [a2.2.1 d x1]; exact C1, g, by rw [a2.2.1 A x2]; exact C2, C3⟩
    obtain ⟨τ2, b1, b2⟩ := X1_shorter (N := N) (x := x) (t := nI t) (g := nI (if kd = 0 then 0 else f)) hN hok hi C x1 x2 hf (fun e => by rw [if_neg e]) a2
    obtain ⟨st1, c1, c2, c3, c4⟩ := X3_shorter (t2 := nI t) hN hp hok hi hP hf
    have hk := c2.mk (by decide) (by decide)
    have hP1 := hP.kp hk
    obtain ⟨d0, τ3, st2, own', d1, d2, d3, d4⟩ := made_ends hN j ht (okc_shorter hok hi hn2) b2 hk c3 c4
    rw [h1, h2, Option.bind_some, Option.bind_some, if_pos rfl, if_pos rfl, j.codes, Option.bind_some, hd, Option.bind_some, Option.bind_some, gI_of (k := 1) C.1 (cls_in kd) rfl, Option.bind_some, nI_s1 (by omega), a1, Option.bind_some, ald_N hp (by omega), Option.bind_some, ald_N hp (by omega), Option.bind_some, hP.2.1, hP.2.2.1, X3_first hN hp hok hi hP hf, Option.bind_some]
    unfold f_X3_shorter_j78
    dsimp only
    rw [c1, Option.bind_some, X3_lineOr hp hok.2.2.2.1 hP1, Option.bind_some, nI_s1 (by omega), d2, Option.bind_some, X1_first hN hok hi Cτ hf, Option.bind_some, b1, Option.bind_some, d0, Option.bind_some, d1, Option.bind_some]
    exact ⟨τ3, st2, _, own', rfl, rfl, d3, d4⟩
