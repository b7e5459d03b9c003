/-! ===== PURE J14: longer ===== -/
set_option maxRecDepth 100000
/-- a word and its check letter -/
def lgl (q n v : Nat) : Nat := fneg q (fs q (fun i => dg q n v i) n)
def lgw (q n v : Nat) : Nat := v * q + lgl q n v
theorem lgl_lt {q n v : Nat} (hq : isQ q) : lgl q n v < q := fneg_lt hq (fs_lt hq n (fun _ _ => dg_lt hq _ _ _))
theorem lgw_lt {q n v : Nat} (hq : isQ q) (hv : v < q ^ n) : lgw q n v < q ^ (n + 1) := by
  have h1 := lgl_lt (n := n) (v := v) hq
  unfold lgw
  rw [Nat.pow_succ]
  have h2 : (v + 1) * q ≤ q ^ n * q := Nat.mul_le_mul_right q hv
  rw [Nat.succ_mul] at h2
  omega
theorem lgw_inj {q n a b : Nat} (hq : isQ q) (h : lgw q n a = lgw q n b) : a = b := by
  have h1 := lgl_lt (n := n) (v := a) hq
  have h2 := lgl_lt (n := n) (v := b) hq
  unfold lgw at h
  have e1 : (a * q + lgl q n a) / q = a := by
    rw [Nat.mul_comm, Nat.mul_add_div (by omega), Nat.div_eq_of_lt h1]; rfl
  have e2 : (b * q + lgl q n b) / q = b := by
    rw [Nat.mul_comm, Nat.mul_add_div (by omega), Nat.div_eq_of_lt h2]; rfl
  rw [← e1, ← e2, h]
theorem okc_longer {kd q n m : Nat} {w : Nat → Nat} (hok : okc kd q n m w) (hn : n ≠ 12) : okc (kdl kd) q (n + 1) m (fun k => lgw q n (w k)) := by
  obtain ⟨hq, h1, h2, h3, h4, h5, h6⟩ := hok
  refine ⟨hq, by omega, by omega, kdl_le kd, by rw [cap_kdl]; exact h4, fun k hk => lgw_lt hq (h5 k hk), fun e j k hjk hk he => ?_⟩
  have e0 : kd = 0 := by
    apply Classical.byContradiction
    intro hne
    rw [show kdl kd = 1 from if_neg hne] at e
    omega
  exact h6 e0 j k hjk hk (lgw_inj hq he)
theorem X1_longer {N x kd q n m c A : Nat} {t : Int32} {σ τ : SG} {w : Nat → Nat} (hN : 5000 ≤ N) (hok : okc kd q n m w) (C : xC σ c (cls kd) q n A m (cap kd) w) (hc : c < σ.1) (hA : A < σ.1) (hτ : NC σ τ σ.1 (kdl kd) q (n + 1) 0 (fun k => lgw q n (w k))) : ∃ τ', lp (f_X1_longer_b67 N x t c σ.1) N (0, τ) = some τ' ∧ NC σ τ' σ.1 (kdl kd) q (n + 1) m (fun k => lgw q n (w k)) := by
  have hm := hok.m200
  have hw := hok.w62
  obtain ⟨hq, h1, h2, h3, hcap, h5, h6⟩ := hok
  have q5 := hq.2
  have hs := qn_small hq h2
  have hcl := cap_le kd
  obtain ⟨C1, g, C2, C3⟩ := C
  refine lp_inv0 (P := fun k s => s.1 = nI k ∧ NC σ s.2 σ.1 (kdl kd) q (n + 1) k (fun k => lgw q n (w k))) (Q := fun s => NC σ s σ.1 (kdl kd) q (n + 1) m (fun k => lgw q n (w k))) m (by omega) ⟨rfl, hτ⟩ ?_ ?_
  · rintro k ⟨y, s⟩ hk ⟨e1, e2⟩
    dsimp only at e1 e2
    subst e1
    have D1 : s.2 c = some (eO (cls kd) [.int (nI q), .int (nI n), .ref A, .int (nI m)]) := by rw [e2.2.1 c hc]; exact C1
    have D2 : s.2 A = some (eL (cap kd) g) := by rw [e2.2.1 A hA]; exact C2
    obtain ⟨s2, a1, a2, -, -⟩ := e2.add (N := N) (v := lgw q n (w k)) (by rw [cap_kdl]; omega)
    have hin : lp (f_X1_longer_b83 N x t c σ.1 (nI k) s) N (0, 0) = some (nI (fs q (fun i => dg q n (w k) i) n)) := by
      refine lp_0 (S := fun i => (nI (fs q (fun i => dg q n (w k) i) i), nI i)) n rfl (by omega) ?_ ?_
      · intro i hi
        unfold f_X1_longer_b83
        dsimp only
        rw [gI_of (k := 1) D1 (cls_in kd) rfl, Option.bind_some, if_neg (nI_ge hi (by omega)), gI_of (k := 0) D1 (cls_in kd) rfl, Option.bind_some, Option.bind_some, Option.bind_some, gR_of D1 (cls_in kd) rfl, Option.bind_some, aL_of D2 (show k < cap kd by omega) (by omega), Option.bind_some, C3 k hk, X1_letter (by omega) hq h2 (hw k hk) hi, Option.bind_some, X1_added hq (fs_lt hq i (fun _ _ => dg_lt hq _ _ _)) (dg_lt hq _ _ _), Option.bind_some, nI_1]
        rfl
      · unfold f_X1_longer_b83
        dsimp only
        rw [gI_of (k := 1) D1 (cls_in kd) rfl, Option.bind_some, if_pos (nI_le (Nat.le_refl _) (by omega))]
    unfold f_X1_longer_b67
    dsimp only
    have hl := lgl_lt (n := n) (v := w k) hq
    have hl' : fneg q (fs q (fun i => dg q n (w k) i) n) < q := hl
    rw [gI_of (k := 3) D1 (cls_in kd) rfl, Option.bind_some, if_neg (nI_ge hk (by omega)), hin, Option.bind_some, gR_of D1 (cls_in kd) rfl, Option.bind_some, aL_of D2 (show k < cap kd by omega) (by omega), Option.bind_some, gI_of (k := 0) D1 (cls_in kd) rfl, Option.bind_some, Option.bind_some, C3 k hk, X1_against hq (fs_lt hq n (fun _ _ => dg_lt hq _ _ _)), Option.bind_some, ps_l q (by omega), ps_l _ (by omega), lN_mul, lN_add, show w k * q + fneg q (fs q (fun i => dg q n (w k) i) n) = lgw q n (w k) from rfl, a1, Option.bind_some, nI_1]
    refine ⟨_, rfl, rfl, a2.congr (fun i hi => ?_)⟩
    unfold wset
    split
    · rename_i e; rw [e]
    · rfl
  · rintro ⟨y, s⟩ ⟨e1, e2⟩
    dsimp only at e1 e2
    subst e1
    have D1 : s.2 c = some (eO (cls kd) [.int (nI q), .int (nI n), .ref A, .int (nI m)]) := by rw [e2.2.1 c hc]; exact C1
    unfold f_X1_longer_b67
    dsimp only
    rw [gI_of (k := 3) D1 (cls_in kd) rfl, Option.bind_some, if_pos (nI_le (Nat.le_refl _) (by omega))]
    exact ⟨_, rfl, e2⟩
theorem X3_longer {N p t kd q n m : Nat} {st : MS} {w : Nat → Nat} {t2 : Int32} (hN : 5000 ≤ N) (hp : p < 12) (hok : okc kd q n m w) (hP : mPl st p kd q n m w) : ∃ st1, lp (f_X3_longer_b61 N (nI p) t2 (nI q)) N (0, sV st 18 (nI m)) = some st1 ∧ Kp [] [17] [18] st st1 ∧ st1.2.2.1 18 = nI m ∧ ∀ i, i < m → st1.2.1 17 i = lN (lgw q n (w i)) := by
  have hm := hok.m200
  have hw := hok.w62
  obtain ⟨hq, h1, h2, h3, hcap, h5, h6⟩ := hok
  obtain ⟨p1, p2, p3, p4, p5⟩ := hP
  have q5 := hq.2
  refine lp_inv0 (P := fun k s => s.1 = nI k ∧ Kp [] [17] [18] st s.2 ∧ s.2.2.2.1 18 = nI m ∧ ∀ i, i < k → s.2.2.1 17 i = lN (lgw q n (w i))) (Q := fun s => Kp [] [17] [18] st s ∧ s.2.2.1 18 = nI m ∧ ∀ i, i < m → s.2.1 17 i = lN (lgw q n (w i))) m (by omega) ⟨rfl, (Kp.refl _ _ _ _).sV (by decide) _, sV_s _ _ _, fun i hi => by omega⟩ ?_ ?_
  · rintro k ⟨y, s⟩ hk ⟨e1, e2, e3, e4⟩
    dsimp only at e1 e2 e3 e4
    subst e1
    have s3 : s.1 3 p = nI n := by rw [e2.1 3 (by decide)]; exact p3
    have s5 : s.2.1 5 (200 * p + k) = lN (w k) := by rw [e2.2.1 5 (by decide)]; exact p5 k hk
    have hin : lp (f_X3_longer_b76 N (nI p) t2 (nI q) (nI k) s) N (0, 0) = some (nI (fs q (fun i => dg q n (w k) i) n)) := by
      refine lp_0 (S := fun i => (nI (fs q (fun i => dg q n (w k) i) i), nI i)) n rfl (by omega) ?_ ?_
      · intro i hi
        unfold f_X3_longer_b76
        dsimp only
        rw [ald_N hp (by omega), Option.bind_some, s3, if_neg (nI_ge hi (by omega)), Option.bind_some, ix200, ald_N (show 200 * p + k < 2400 by omega) (by omega), Option.bind_some, s5, X3_letter (by omega) hq h2 (hw k hk) hi, Option.bind_some, X3_plus hq (fs_lt hq i (fun _ _ => dg_lt hq _ _ _)) (dg_lt hq _ _ _), Option.bind_some, nI_1]
        rfl
      · unfold f_X3_longer_b76
        dsimp only
        rw [ald_N hp (by omega), Option.bind_some, s3, if_pos (nI_le (Nat.le_refl _) (by omega))]
    unfold f_X3_longer_b61
    dsimp only
    have hl := lgl_lt (n := n) (v := w k) hq
    have hl' : fneg q (fs q (fun i => dg q n (w k) i) n) < q := hl
    rw [e3, if_neg (nI_ge hk (by omega)), hin, Option.bind_some, ix200, ald_N (show 200 * p + k < 2400 by omega) (by omega), Option.bind_some, s5, X3_minus hq (fs_lt hq n (fun _ _ => dg_lt hq _ _ _)), Option.bind_some, ps_l q (by omega), ps_l _ (by omega), lN_mul, lN_add, Nat.mul_comm q, show w k * q + fneg q (fs q (fun i => dg q n (w k) i) n) = lgw q n (w k) from rfl, last_N (show k < 200 by omega) (by omega), Option.bind_some, nI_1]
    refine ⟨_, rfl, rfl, e2.sL (by decide) _, e3, fun i hi => ?_⟩
    dsimp only
    rw [sL_s]
    by_cases e : i = k
    · rw [e, pk_uLs]
    · rw [pk_uLn e]; exact e4 i (by omega)
  · rintro ⟨y, s⟩ ⟨e1, e2, e3, e4⟩
    dsimp only at e1 e2 e3 e4
    subst e1
    unfold f_X3_longer_b61
    dsimp only
    rw [e3, if_pos (nI_le (Nat.le_refl _) (by omega))]
    exact ⟨_, rfl, e2, e3, e4⟩
theorem op_longer {N x M : Nat} {own : Nat → Nat} {σ : SG} {st : MS} (hN : 5000 ≤ N) (j : J x M own σ st) (a b : Int32) : Ok x M σ (f_X1_longer N σ x a b) (f_X3_longer N st a b) := by
  unfold f_X1_longer f_X3_longer
  simp only [X3_isPlace_eq, j.cc, Option.bind_some]
  rcases pl_cases j N a with h | ⟨p, hp, rfl, h, hcase⟩
  · rw [h]
    exact Ok.nil j rfl rfl
  · rw [h, Option.bind_some, if_neg i10, Option.bind_some, if_neg i10]
    rcases pl_cases j N b with hb | ⟨t, ht, rfl, hb, -⟩
    · rw [hb]
      exact Ok.nil j rfl rfl
    · rw [hb, Option.bind_some, if_neg i10, Option.bind_some, if_neg i10]
      rcases hcase with ⟨h2, -, h3⟩ | ⟨kd, q, n, m, w, c, h2, h3, hok, hP, hX⟩
      · rw [asks_none j h h2, h3]
        exact Ok.nil j rfl rfl
      · obtain ⟨A, x1, x2, x3, x4, C⟩ := id hX
        have hn := hok.2.2.1
        rw [asks_0 j h h2, h3, Option.bind_some, Option.bind_some, if_pos rfl, if_pos rfl, j.codes, Option.bind_some, h2, Option.bind_some, Option.bind_some, gI_of (k := 1) C.1 (cls_in kd) rfl, Option.bind_some, ald_N hp (by omega), Option.bind_some, hP.2.2.1]
        by_cases e : n = 12
        · rw [e]
          exact Ok.nil j rfl rfl
        · have e12 : ¬ nI n = 12 := by rw [show (12 : Int32) = nI 12 from rfl, nI_eq (by omega) (by omega)]; exact e
          obtain ⟨τ, a1, a2, a3⟩ := X1_like (N := N) (n2 := n + 1) C hok.2.2.2.1 x1 (fun k => lgw q n (w k))
          obtain ⟨τ2, b1, b2⟩ := X1_longer (N := N) (x := x) (t := nI t) hN hok C x1 x2 a2
          obtain ⟨st1, c1, c2, c3, c4⟩ := X3_longer (t := t) (t2 := nI t) hN hp hok hP
          obtain ⟨d0, τ3, st2, own', d1, d2, d3, d4⟩ := made_ends hN j ht (okc_longer hok e) b2 (c2.mk (by decide) (by decide)) c3 c4
          have hP1 : mPl st1 p kd q n m w := ⟨by rw [c2.1 1 (by decide)]; exact hP.1, by rw [c2.1 2 (by decide)]; exact hP.2.1, by rw [c2.1 3 (by decide)]; exact hP.2.2.1, by rw [c2.1 4 (by decide)]; exact hP.2.2.2.1, fun k hk => by rw [c2.2.1 5 (by decide)]; exact hP.2.2.2.2 k hk⟩
          rw [if_neg e12, Option.bind_some, if_neg e12, nI_1, a1, Option.bind_some, ald_N hp (by omega), Option.bind_some, ald_N hp (by omega), Option.bind_some, hP.2.1, hP.2.2.2.1, c1, Option.bind_some, X3_lineOr hp hok.2.2.2.1 hP1, Option.bind_some, ald_N hp (by omega), Option.bind_some, hP1.2.2.1, nI_1, d2, Option.bind_some]
          dsimp only
          rw [b1, Option.bind_some, d0, Option.bind_some, d1, Option.bind_some]
          exact ⟨τ3, st2, _, own', rfl, rfl, d3, d4⟩
