/-! ===== PURE J27: cover, hole ===== -/
set_option maxRecDepth 100000
theorem rk_le_n {q n m : Nat} {W : Nat → Nat → Nat} (hq : isQ q) (hW : okR q n m W) : rk q n m W ≤ n := by
  have h1 : ∀ k, k < rk q n m W → k ≤ hd q n m W k := by
    intro k
    induction k with
    | zero => exact fun _ => Nat.zero_le _
    | succ k ih =>
      intro hk
      have := ih (by omega)
      have := hd_mono hq hW (show k < k + 1 by omega) hk
      omega
  by_cases e : rk q n m W = 0
  · omega
  · have a1 := h1 (rk q n m W - 1) (by omega)
    have a2 := hd_lt hq hW (show rk q n m W - 1 < rk q n m W by omega)
    omega
theorem szv_small {kd q n m : Nat} {w : Nat → Nat} (hok : okc kd q n m w) (h : q ^ n ≤ 1024) : szv kd q n m w ≤ 4096 := by
  have hm := hok.m200
  unfold szv
  split
  · omega
  · have := Nat.pow_le_pow_right (show q > 0 by have := hok.1.1; omega) (rk_le_n hok.1 (wR_ok (n := n) (m := m) (w := w) hok.1))
    omega
theorem holes2 {N x M p kd q n m c : Nat} {own : Nat → Nat} {σ : SG} {st : MS} {w : Nat → Nat} (hN : 5000 ≤ N) (j : J x M own σ st) (hp : p < 12) (h : f_X1_isPlace N (nI p) = some 1) (h2 : aQ 3 σ (x + 1) (nI p) = some (some c)) (hok : okc kd q n m w) (hP : mPl st p kd q n m w) (hX : xPl σ own (1 + p) kd q n m w c) : (1024 < q ^ n ∧ f_X1_whyHoles N σ x (nI p) = some (σ, -5)) ∨ (q ^ n ≤ 1024 ∧ ∃ τ st', f_X1_whyHoles N σ x (nI p) = some (τ, if szv kd q n m w = 0 then -2 else 0) ∧ f_X3_lays N st (nI p) = some (st', 1) ∧ KM M σ τ ∧ Ld x M own τ st' p kd q n m w c) := by
  obtain ⟨A, x1, x2, x3, x4, C⟩ := id hX
  have hn := hok.2.2.1
  have hs := qn_small hok.1 hn
  unfold f_X1_whyHoles
  simp only [j.cc, asks_0 j h h2, j.codes, h2, gI_of (k := 0) C.1 (cls_in kd) rfl, gI_of (k := 1) C.1 (cls_in kd) rfl, Option.bind_some, if_true, X1_power (show 20 ≤ N by omega) hok.1.lt (show n < 13 by omega)]
  by_cases e : q ^ n ≤ 1024
  · refine Or.inr ⟨e, ?_⟩
    rw [if_pos (show lN (q ^ n) ≤ 1024 by rw [show (1024 : Int64) = lN 1024 from rfl, pk_lLE (by omega) (by omega)]; exact e)]
    rcases lays2 hN j hp h h2 hok hP hX with ⟨hb, -⟩ | ⟨τ, st', t1, t2, t3, t4, hl⟩
    · have := szv_small hok e; omega
    · have hL := hl.2.2.2.2.2.2.2.1
      rw [t2, Option.bind_some]
      dsimp only
      rw [hl.wc, Option.bind_some]
      refine ⟨τ, st', ?_, t3, t4, hl⟩
      by_cases e0 : szv kd q n m w = 0
      · rw [if_pos e0, if_pos (by rw [e0]; rfl)]
      · rw [if_neg e0, if_neg (nI_ne0 (by omega) (by omega))]
  · refine Or.inl ⟨by omega, ?_⟩
    rw [if_neg (show ¬ lN (q ^ n) ≤ 1024 by rw [show (1024 : Int64) = lN 1024 from rfl, pk_lLE (by omega) (by omega)]; exact e)]
/-- the greatest way so far and its first word -/
def cvs (q n : Nat) (W : Nat → Nat) (L : Nat) : Nat → Int32 × Int64
  | 0 => (-1, 0)
  | v + 1 => if (cvs q n W L v).1 < nI (wway q n (W (nst q n W v 0 L).1) v 0) then (nI (wway q n (W (nst q n W v 0 L).1) v 0), lN v) else cvs q n W L v
theorem neg1_lt {k : Nat} (h : k < 2 ^ 31) : (-1 : Int32) < nI k := by
  rw [Int32.lt_iff_toInt_lt, nI_toInt h, show (-1 : Int32).toInt = -1 from by decide]
  omega
/-- another first hole -/
theorem Ld.fh {x M p kd q n m c wc : Nat} {own : Nat → Nat} {τ : SG} {st : MS} {w : Nat → Nat} {f0 f1 : Int64} (h : Ld x M own τ st p kd q n m w c) (hx : τ.2 x = some (eO 0 [.ref (x + 1), .ref (x + 2), .int (nI wc), .ref (x + 3), .long f0, .ref (x + 4)])) : Ld x M own (uC τ x (eO 0 [.ref (x + 1), .ref (x + 2), .int (nI wc), .ref (x + 3), .long f1, .ref (x + 4)])) st p kd q n m w c ∧ KM M τ (uC τ x (eO 0 [.ref (x + 1), .ref (x + 2), .int (nI wc), .ref (x + 3), .long f1, .ref (x + 4)])) := by
  obtain ⟨a1, ⟨⟨f2, a2⟩, g, a3, a3'⟩, a4, a5, a6, a7⟩ := h
  obtain ⟨⟨j1, j2, j3, j4⟩, ⟨-, b2, b3, -⟩, -⟩ := id a1
  have hwc : nI wc = nI (szv kd q n m w) := by
    rw [hx] at a2
    injection a2 with a2
    injection a2 with a2
    injection a2 with _ a2
    injection a2 with _ a2
    injection a2 with _ a2
    injection a2 with a2 _
    injection a2
  refine ⟨⟨a1.scr (Nat.le_refl _) (fun a ha e1 _ _ => uC_n e1) ⟨_, _, uC_s _ _ _⟩ (by rw [uC_n (by omega)]; exact b2) (by rw [uC_n (by omega)]; exact b3) (Mk.refl st), ⟨⟨f1, by rw [← hwc]; exact uC_s _ _ _⟩, g, by rw [uC_n (by omega)]; exact a3, a3'⟩, a4, by rw [aQ_at (uC_n (by omega))]; exact a5, a6.keep (Nat.le_refl _) (fun a ha ho => ⟨uC_n (fun e => by have := j3 a (by omega) (by omega); omega), rfl⟩), a7⟩, Nat.le_refl _, fun a h1 h2 => uC_n (by omega)⟩
theorem X1_covers {N x M p kd q n m c : Nat} {own : Nat → Nat} {τ : SG} {st : MS} {w : Nat → Nat} (hN : 5000 ≤ N) (h : Ld x M own τ st p kd q n m w c) (hq1 : q ^ n ≤ 1024) (h0 : szv kd q n m w ≠ 0) : ∃ τ', f_X1_covers N τ x c = some (τ', (cvs q n (lw kd q n m w) (szv kd q n m w) (q ^ n)).1) ∧ Ld x M own τ' st p kd q n m w c ∧ KM M τ τ' ∧ gJ [0] τ' x 4 = some (cvs q n (lw kd q n m w) (szv kd q n m w) (q ^ n)).2 := by
  have hL := h.2.2.2.2.2.2.2.1
  have hok := h.2.2.2.2.2.2.1
  have hn := hok.2.2.1
  have hpos := pow_pos (n := n) hok.1
  obtain ⟨r, a1, a2, a3, a4, a5⟩ : ∃ r, lp (f_X1_covers_b4 N x c) N (-1, 0, τ) = some r ∧ r.1 = (cvs q n (lw kd q n m w) (szv kd q n m w) (q ^ n)).1 ∧ Ld x M own r.2 st p kd q n m w c ∧ KM M τ r.2 ∧ gJ [0] r.2 x 4 = some (cvs q n (lw kd q n m w) (szv kd q n m w) (q ^ n)).2 := by
    refine lp_inv0 (P := fun v (s : Int32 × Int64 × SG) => s.1 = (cvs q n (lw kd q n m w) (szv kd q n m w) v).1 ∧ s.2.1 = lN v ∧ Ld x M own s.2.2 st p kd q n m w c ∧ KM M τ s.2.2 ∧ (v ≠ 0 → gJ [0] s.2.2 x 4 = some (cvs q n (lw kd q n m w) (szv kd q n m w) v).2)) (Q := fun (r : Int32 × SG) => r.1 = (cvs q n (lw kd q n m w) (szv kd q n m w) (q ^ n)).1 ∧ Ld x M own r.2 st p kd q n m w c ∧ KM M τ r.2 ∧ gJ [0] r.2 x 4 = some (cvs q n (lw kd q n m w) (szv kd q n m w) (q ^ n)).2) (q ^ n) (by omega) ⟨rfl, rfl, h, KM.refl _ _, fun h => absurd rfl h⟩ ?_ ?_
    · rintro v ⟨y, z, s⟩ hv ⟨e1, e2, e3, e4, e5⟩
      dsimp only at e1 e2 e3 e4 e5
      subst e1 e2
      obtain ⟨⟨f0, hx⟩, -⟩ := id e3.2.1
      have hb := (nst_ok q n (lw kd q n m w) v 0 hn (szv kd q n m w)).2 (by omega)
      have hw := wway_le q n (lw kd q n m w (nst q n (lw kd q n m w) v 0 (szv kd q n m w)).1) v 0
      unfold f_X1_covers_b4
      dsimp only
      rw [e3.cq, Option.bind_some, e3.cn, Option.bind_some, X1_power (by omega) hok.1.lt (by omega), Option.bind_some, if_neg (by rw [pk_lLE (by omega) (by omega)]; omega), Option.bind_some, Option.bind_some, e3.ws, Option.bind_some, e3.1.cc, Option.bind_some, X1_readBy hN e3 (by omega), Option.bind_some, if_neg h0, e3.wd hb, Option.bind_some, e3.way hN hb (by omega), Option.bind_some]
      unfold f_X1_covers_j64
      rw [show (1 : Int64) = lN 1 from rfl, lN_add]
      by_cases e : (cvs q n (lw kd q n m w) (szv kd q n m w) v).1 < nI (wway q n (lw kd q n m w (nst q n (lw kd q n m w) v 0 (szv kd q n m w)).1) v 0)
      · obtain ⟨k1, k2⟩ := e3.fh (f1 := lN v) hx
        rw [if_pos e, show pV [0] s x 4 (.long (lN v)) = some (uC s x (eO 0 [.ref (x + 1), .ref (x + 2), .int (nI (szv kd q n m w)), .ref (x + 3), .long (lN v), .ref (x + 4)])) from pV_of hx (by decide) (show 4 < 6 by decide), Option.bind_some]
        refine ⟨_, rfl, ?_, rfl, k1, e4.trans k2, fun _ => ?_⟩
        · dsimp only
          rw [cvs, if_pos e]
        · dsimp only
          rw [cvs, if_pos e]
          exact gJ_of (uC_s _ _ _) (by decide) rfl
      · rw [if_neg e]
        have hv0 : v ≠ 0 := by
          intro hv0
          subst hv0
          exact e (neg1_lt (by omega))
        refine ⟨_, rfl, ?_, rfl, e3, e4, fun _ => ?_⟩
        · dsimp only
          rw [cvs, if_neg e]
        · dsimp only
          rw [cvs, if_neg e]
          exact e5 hv0
    · rintro ⟨y, z, s⟩ ⟨e1, e2, e3, e4, e5⟩
      dsimp only at e1 e2 e3 e4 e5
      subst e1 e2
      unfold f_X1_covers_b4
      dsimp only
      rw [e3.cq, Option.bind_some, e3.cn, Option.bind_some, X1_power (by omega) hok.1.lt (by omega), Option.bind_some, if_pos (by rw [pk_lLE (by omega) (by omega)]; omega)]
      exact ⟨_, rfl, rfl, e3, e4, e5 (by omega)⟩
  unfold f_X1_covers
  rw [a1, Option.bind_some, a2]
  exact ⟨r.2, rfl, a3, a4, a5⟩
theorem Kp.sH {I L V : List Nat} {a b : MS} (h : Kp I L V a b) (hk : 15 ∈ V) (v : Int64) : Kp I L V a (sH b v) := ⟨h.1, h.2.1, h.2.2.1, fun hn => absurd hk hn⟩
theorem X3_covers {N x M p kd q n m c : Nat} {own : Nat → Nat} {τ : SG} {st : MS} {w : Nat → Nat} (hN : 5000 ≤ N) (h : Ld x M own τ st p kd q n m w c) (hq1 : q ^ n ≤ 1024) (h0 : szv kd q n m w ≠ 0) : ∃ st', lp (f_X3_covers_b64 N (nI p)) N (0, sV st 16 (-1)) = some st' ∧ Kp [13] [] [15, 16] st st' ∧ st'.2.2.1 16 = (cvs q n (lw kd q n m w) (szv kd q n m w) (q ^ n)).1 ∧ st'.2.2.2 = (cvs q n (lw kd q n m w) (szv kd q n m w) (q ^ n)).2 := by
  have hL := h.2.2.2.2.2.2.2.1
  have hok := h.2.2.2.2.2.2.1
  have hn := hok.2.2.1
  have hp := h.2.2.2.2.2.2.2.2
  have hpos := pow_pos (n := n) hok.1
  refine lp_inv0 (P := fun v (s : Int64 × MS) => s.1 = lN v ∧ Kp [13] [] [15, 16] st s.2 ∧ s.2.2.2.1 16 = (cvs q n (lw kd q n m w) (szv kd q n m w) v).1 ∧ (v ≠ 0 → s.2.2.2.2 = (cvs q n (lw kd q n m w) (szv kd q n m w) v).2)) (Q := fun (s : MS) => Kp [13] [] [15, 16] st s ∧ s.2.2.1 16 = (cvs q n (lw kd q n m w) (szv kd q n m w) (q ^ n)).1 ∧ s.2.2.2 = (cvs q n (lw kd q n m w) (szv kd q n m w) (q ^ n)).2) (q ^ n) (by omega) ⟨rfl, (Kp.refl _ _ _ _).sV (by decide) _, sV_s _ _ _, fun h => absurd rfl h⟩ ?_ ?_
  · rintro v ⟨y, s⟩ hv ⟨e1, e2, e3, e4⟩
    dsimp only at e1 e2 e3 e4
    subst e1
    have hl := h.sc e2 (e2.mk (by decide) (by decide)) (by decide) (by decide) (by decide)
    have hP := hl.2.2.2.2.2.1
    have hb := (nst_ok q n (lw kd q n m w) v 0 hn (szv kd q n m w)).2 (by omega)
    have hw := wway_le q n (lw kd q n m w (nst q n (lw kd q n m w) v 0 (szv kd q n m w)).1) v 0
    obtain ⟨s2, y1, y2, y3, y4⟩ := X3_nearest (lost := 0) hN hl (v := v) (by omega)
    unfold f_X3_covers_b64
    dsimp only
    rw [ald_N hp (by omega), Option.bind_some, hP.2.1, ald_N hp (by omega), Option.bind_some, hP.2.2.1, X3_power (by omega) hok.1.lt (by omega), Option.bind_some, if_neg (by rw [pk_lLE (by omega) (by omega)]; omega), y1, Option.bind_some]
    dsimp only
    rw [X3_wayTo hN hp hok.1 hn y2.2.2.2.2.2.1.2.2.1 y2.2.2.1 hL hb y3, Option.bind_some, y4.2.2.1 16 (by decide), e3]
    unfold f_X3_covers_j122
    rw [show (1 : Int64) = lN 1 from rfl, lN_add]
    have k2 : Kp [13] [] [15, 16] st s2 := e2.trans (y4.mono (by decide) (by decide) (by decide))
    by_cases e : (cvs q n (lw kd q n m w) (szv kd q n m w) v).1 < nI (wway q n (lw kd q n m w (nst q n (lw kd q n m w) v 0 (szv kd q n m w)).1) v 0)
    · rw [if_pos e]
      refine ⟨_, rfl, rfl, (k2.sV (by decide) _).sH (by decide) _, ?_, fun _ => ?_⟩
      · rw [cvs, if_pos e]
        exact sV_s s2 16 (nI (wway q n (lw kd q n m w (nst q n (lw kd q n m w) v 0 (szv kd q n m w)).1) v 0))
      · rw [cvs, if_pos e]
        rfl
    · rw [if_neg e]
      have hv0 : v ≠ 0 := by
        intro hv0
        subst hv0
        exact e (neg1_lt (by omega))
      refine ⟨_, rfl, rfl, k2, ?_, fun _ => ?_⟩
      · dsimp only
        rw [cvs, if_neg e, y4.2.2.1 16 (by decide)]
        exact e3
      · dsimp only
        rw [cvs, if_neg e, y4.2.2.2 (by decide)]
        exact e4 hv0
  · rintro ⟨y, s⟩ ⟨e1, e2, e3, e4⟩
    dsimp only at e1 e2 e3 e4
    subst e1
    have hP := h.2.2.2.2.2.1.kp (e2.mk (by decide) (by decide))
    unfold f_X3_covers_b64
    dsimp only
    rw [ald_N hp (by omega), Option.bind_some, hP.2.1, ald_N hp (by omega), Option.bind_some, hP.2.2.1, X3_power (by omega) hok.1.lt (by omega), Option.bind_some, if_pos (by rw [pk_lLE (by omega) (by omega)]; omega)]
    exact ⟨_, rfl, e2, e3, e4 (by omega)⟩
/-- covers of the model, and what WordBench does -/
theorem covers2 {N x M : Nat} {own : Nat → Nat} {σ : SG} {st : MS} (hN : 5000 ≤ N) (j : J x M own σ st) (a : Int32) : (∃ r τ st', ¬ r = 0 ∧ f_X1_whyHoles N σ x a = some (τ, r) ∧ f_X3_covers N st a = some (st', r) ∧ J x M own τ st' ∧ KM M σ τ) ∨ ∃ τ c τ' st' far hole, f_X1_whyHoles N σ x a = some (τ, 0) ∧ gR [0] τ x 0 = some (x + 1) ∧ aQ 3 τ (x + 1) a = some (some c) ∧ cC [0] τ x = some () ∧ f_X1_covers N τ x c = some (τ', far) ∧ gJ [0] τ' x 4 = some hole ∧ f_X3_covers N st a = some (st', 0) ∧ st'.2.2.1 16 = far ∧ st'.2.2.2 = hole ∧ J x M own τ' st' ∧ KM M σ τ' := by
  rcases pl_cases j N a with h | ⟨p, hp, rfl, h, ⟨h2, -, h3⟩ | ⟨kd, q, n, m, w, c, h2, h3, hok, hP, hX⟩⟩
  · refine Or.inl ⟨-1, σ, st, by decide, ?_, ?_, j, KM.refl _ _⟩
    · unfold f_X1_whyHoles
      rw [j.cc, Option.bind_some, asks_no h]
      rfl
    · unfold f_X3_covers
      rw [lacks_no h]
      rfl
  · refine Or.inl ⟨-11, σ, st, by decide, ?_, ?_, j, KM.refl _ _⟩
    · unfold f_X1_whyHoles
      rw [j.cc, Option.bind_some, asks_none j h h2]
      rfl
    · unfold f_X3_covers
      rw [lacks_none h h3]
      rfl
  · have hn := hok.2.2.1
    have hs := qn_small hok.1 hn
    unfold f_X3_covers
    rw [lacks_0 h h3, Option.bind_some, if_pos rfl, ald_N hp (by omega), Option.bind_some, hP.2.1, ald_N hp (by omega), Option.bind_some, hP.2.2.1, X3_power (by omega) hok.1.lt (by omega), Option.bind_some]
    rcases holes2 hN j hp h h2 hok hP hX with ⟨e, t1⟩ | ⟨e, τ, st', t1, t2, t3, hl⟩
    · rw [if_pos (show (1024 : Int64) < lN (q ^ n) by rw [show (1024 : Int64) = lN 1024 from rfl, pk_lLT (by omega) (by omega)]; exact e)]
      exact Or.inl ⟨-5, σ, st, by decide, t1, rfl, j, KM.refl _ _⟩
    · have hL := hl.2.2.2.2.2.2.2.1
      rw [if_neg (show ¬ (1024 : Int64) < lN (q ^ n) by rw [show (1024 : Int64) = lN 1024 from rfl, pk_lLT (by omega) (by omega)]; omega), t2, Option.bind_some]
      dsimp only
      rw [if_neg i10, hl.2.2.1.1]
      by_cases e0 : szv kd q n m w = 0
      · rw [if_pos e0] at t1
        rw [if_pos (show nI (szv kd q n m w) = 0 by rw [e0]; rfl)]
        exact Or.inl ⟨-2, τ, st', by decide, t1, rfl, hl.1, t3⟩
      · rw [if_neg e0] at t1
        obtain ⟨τ', b1, b2, b3, b4⟩ := X1_covers hN hl e e0
        obtain ⟨st2, c1, c2, c3, c4⟩ := X3_covers hN hl e e0
        rw [if_neg (nI_ne0 (by omega) (by omega)), c1, Option.bind_some]
        exact Or.inr ⟨τ, c, τ', st2, _, _, t1, hl.1.codes, hl.2.2.2.1, hl.1.cc, b1, b4, rfl, c3, c4, b2.1.scrM (c2.mk (by decide) (by decide)), t3.trans b3⟩
theorem op_cover {N x M : Nat} {own : Nat → Nat} {σ : SG} {st : MS} (hN : 5000 ≤ N) (j : J x M own σ st) (a : Int32) : Ok x M σ (f_X1_cover N σ x a) (f_X3_cover N st a) := by
  unfold f_X1_cover f_X3_cover
  rw [j.cc, Option.bind_some]
  rcases covers2 hN j a with ⟨r, τ, st', hr, t1, t2, t3, t4⟩ | ⟨τ, c, τ', st', far, hole, t1, t2, t3, t4, t5, t6, t7, t8, t9, t10, t11⟩
  · rw [t1, t2, Option.bind_some, Option.bind_some, if_neg hr, if_neg hr]
    exact ⟨τ, st', _, own, rfl, rfl, t3, t4⟩
  · rw [t1, t7, Option.bind_some, Option.bind_some, if_pos rfl, if_pos rfl]
    dsimp only
    rw [t2, Option.bind_some, t3, Option.bind_some, Option.bind_some, t4, Option.bind_some, t5, Option.bind_some, t8]
    exact ⟨τ', st', _, own, rfl, rfl, t10, t11⟩
theorem op_hole {N x M : Nat} {own : Nat → Nat} {σ : SG} {st : MS} (hN : 5000 ≤ N) (j : J x M own σ st) (a : Int32) : Ok x M σ (f_X1_hole N σ x a) (f_X3_hole N st a) := by
  unfold f_X1_hole f_X3_hole
  rw [j.cc, Option.bind_some]
  rcases covers2 hN j a with ⟨r, τ, st', hr, t1, t2, t3, t4⟩ | ⟨τ, c, τ', st', far, hole, t1, t2, t3, t4, t5, t6, t7, t8, t9, t10, t11⟩
  · rw [t1, t2, Option.bind_some, Option.bind_some, if_neg hr, if_neg hr]
    exact ⟨τ, st', _, own, rfl, rfl, t3, t4⟩
  · rw [t1, t7, Option.bind_some, Option.bind_some, if_pos rfl, if_pos rfl]
    dsimp only
    rw [t2, Option.bind_some, t3, Option.bind_some, Option.bind_some, t4, Option.bind_some, t5, Option.bind_some]
    dsimp only
    rw [t6, Option.bind_some, t9]
    exact ⟨τ', st', _, own, rfl, rfl, t10, t11⟩
