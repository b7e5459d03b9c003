/-! ===== PURE J29: weigh of the model; weights, beat ===== -/
set_option maxRecDepth 100000
theorem X3_weigh {N x M p kd q n m c : Nat} {own : Nat → Nat} {τ : SG} {st : MS} {w : Nat → Nat} (hN : 5000 ≤ N) (h : Ld x M own τ st p kd q n m w c) : ∃ st', f_X3_weigh N st (nI p) = some st' ∧ Kp [] [14] [] st st' ∧ mN st' (ctf kd q n (lw kd q n m w) (szv kd q n m w)) := by
  have hL := h.2.2.2.2.2.2.2.1
  have hok := h.2.2.2.2.2.2.1
  have hn := hok.2.2.1
  have hp := h.2.2.2.2.2.2.2.2
  have hkd := hok.2.2.2.1
  have hsm := cts_small (W := lw kd q n m w) hok hL
  obtain ⟨s1, a1, a2, a3⟩ : ∃ st', lp (f_X3_weigh_b2 N (nI p)) N (0, st) = some st' ∧ Kp [] [14] [] st st' ∧ mN st' (fun _ => 0) := by
    refine lp_inv0 (P := fun k (s : Int32 × MS) => s.1 = nI k ∧ Kp [] [14] [] st s.2 ∧ ∀ w, w < k → s.2.2.1 14 w = lN 0) (Q := fun (s : MS) => Kp [] [14] [] st s ∧ mN s (fun _ => 0)) 13 (by omega) ⟨rfl, Kp.refl _ _ _ _, fun w hw => by omega⟩ ?_ ?_
    · rintro k ⟨y, s⟩ hk ⟨e1, e2, e3⟩
      dsimp only at e1 e2 e3
      subst e1
      unfold f_X3_weigh_b2
      dsimp only
      rw [if_neg (by rw [show (13 : Int32) = nI 13 from rfl, nI_leI (by omega) (by omega)]; omega), last_N hk (by omega), Option.bind_some, nI_1]
      refine ⟨_, rfl, rfl, e2.sL (by decide) _, fun w2 hw => ?_⟩
      dsimp only
      rw [sL_s]
      by_cases e : w2 = k
      · rw [e, pk_uLs]; rfl
      · rw [pk_uLn e]; exact e3 w2 (by omega)
    · rintro ⟨y, s⟩ ⟨e1, e2, e3⟩
      dsimp only at e1 e2 e3
      subst e1
      unfold f_X3_weigh_b2
      dsimp only
      rw [if_pos (by rw [show (13 : Int32) = nI 13 from rfl, nI_leI (by omega) (by omega)]; omega)]
      exact ⟨_, rfl, e2, e3⟩
  obtain ⟨s2, b1, b2, b3⟩ : ∃ st', lp (f_X3_weigh_b23 N (nI p)) N (0, s1) = some st' ∧ Kp [] [14] [] st st' ∧ mN st' (cts q n (lw kd q n m w) (if kd = 0 then szv kd q n m w else 1) (szv kd q n m w)) := by
    refine lp_inv0 (P := fun a (s : Int32 × MS) => s.1 = nI a ∧ Kp [] [14] [] st s.2 ∧ mN s.2 (cts q n (lw kd q n m w) (if kd = 0 then szv kd q n m w else 1) a)) (Q := fun (s : MS) => Kp [] [14] [] st s ∧ mN s (cts q n (lw kd q n m w) (if kd = 0 then szv kd q n m w else 1) (szv kd q n m w))) (szv kd q n m w) (by omega) ⟨rfl, a2, a3⟩ ?_ ?_
    · rintro a ⟨y, s⟩ ha ⟨e1, e2, e3⟩
      dsimp only at e1 e2 e3
      subst e1
      have hB : (if kd = 0 then szv kd q n m w else 1) ≤ szv kd q n m w := by split <;> omega
      obtain ⟨s', z1, z2, z3⟩ : ∃ s', lp (f_X3_weigh_b33 N (nI p) (nI a)) N (0, s) = some s' ∧ Kp [] [14] [] st s' ∧ mN s' (ct1 q n (lw kd q n m w) (lw kd q n m w a) (cts q n (lw kd q n m w) (if kd = 0 then szv kd q n m w else 1) a) (if kd = 0 then szv kd q n m w else 1)) := by
        refine lp_inv0 (P := fun b (s : Int32 × MS) => s.1 = nI b ∧ Kp [] [14] [] st s.2 ∧ mN s.2 (ct1 q n (lw kd q n m w) (lw kd q n m w a) (cts q n (lw kd q n m w) (if kd = 0 then szv kd q n m w else 1) a) b)) (Q := fun (s : MS) => Kp [] [14] [] st s ∧ mN s (ct1 q n (lw kd q n m w) (lw kd q n m w a) (cts q n (lw kd q n m w) (if kd = 0 then szv kd q n m w else 1) a) (if kd = 0 then szv kd q n m w else 1))) (if kd = 0 then szv kd q n m w else 1) (by omega) ⟨rfl, e2, e3⟩ ?_ ?_
        · rintro b ⟨y, s⟩ hb ⟨e1, e2, e3⟩
          dsimp only at e1 e2 e3
          subst e1
          have hl := h.sc e2 (e2.mk (by decide) (by decide)) (by decide) (by decide) (by decide)
          have hw := wway_le q n (lw kd q n m w a) (lw kd q n m w b) 0
          obtain ⟨f, c1, c2, c3, c4⟩ := mN.inc (d := wway q n (lw kd q n m w a) (lw kd q n m w b) 0) e2 e3 (by omega)
          have j51 : f_X3_weigh_j51 N (nI p) (nI a) (nI b) (nI (if kd = 0 then szv kd q n m w else 1)) (nI b) s = some (.inl (nI (b + 1), sL s 14 f)) := by
            unfold f_X3_weigh_j51
            rw [if_neg (nI_ge hb (by omega)), X3_wayOfTwo hN hp hok.1 hn hl.2.2.2.2.2.1.2.2.1 hl.2.2.1 hL ha (by omega), Option.bind_some, c1, Option.bind_some, c2, Option.bind_some, nI_1]
          unfold f_X3_weigh_b33
          dsimp only
          rw [ald_N hp (by omega), Option.bind_some, hl.2.2.2.2.2.1.1, hl.2.2.1.1]
          by_cases e : kd = 0
          · rw [if_pos (show nI kd = 0 by rw [e]; rfl)]
            rw [if_pos e] at j51
            rw [j51]
            exact ⟨_, rfl, rfl, c3, c4⟩
          · rw [if_neg (nI_ne0 (by omega) (by omega))]
            rw [if_neg e] at j51
            rw [show (1 : Int32) = nI 1 from rfl, j51]
            exact ⟨_, rfl, rfl, c3, c4⟩
        · rintro ⟨y, s⟩ ⟨e1, e2, e3⟩
          dsimp only at e1 e2 e3
          subst e1
          have hl := h.sc e2 (e2.mk (by decide) (by decide)) (by decide) (by decide) (by decide)
          have j51 : f_X3_weigh_j51 N (nI p) (nI a) (nI (if kd = 0 then szv kd q n m w else 1)) (nI (if kd = 0 then szv kd q n m w else 1)) (nI (if kd = 0 then szv kd q n m w else 1)) s = some (.inr s) := by
            unfold f_X3_weigh_j51
            rw [if_pos (nI_le (Nat.le_refl _) (by omega))]
          unfold f_X3_weigh_b33
          dsimp only
          rw [ald_N hp (by omega), Option.bind_some, hl.2.2.2.2.2.1.1, hl.2.2.1.1]
          by_cases e : kd = 0
          · rw [if_pos (show nI kd = 0 by rw [e]; rfl)]
            rw [if_pos e] at j51 e3 ⊢
            rw [j51]
            exact ⟨_, rfl, e2, e3⟩
          · rw [if_neg (nI_ne0 (by omega) (by omega))]
            rw [if_neg e] at j51 e3 ⊢
            rw [show (1 : Int32) = nI 1 from rfl, j51]
            exact ⟨_, rfl, e2, e3⟩
      unfold f_X3_weigh_b23
      dsimp only
      rw [e2.2.2.1 11 (by decide), h.2.2.1.1, if_neg (nI_ge ha (by omega)), z1, Option.bind_some, nI_1]
      exact ⟨_, rfl, rfl, z2, z3⟩
    · rintro ⟨y, s⟩ ⟨e1, e2, e3⟩
      dsimp only at e1 e2 e3
      subst e1
      unfold f_X3_weigh_b23
      dsimp only
      rw [e2.2.2.1 11 (by decide), h.2.2.1.1, if_pos (nI_le (Nat.le_refl _) (by omega))]
      exact ⟨_, rfl, e2, e3⟩
  have hl := h.sc b2 (b2.mk (by decide) (by decide)) (by decide) (by decide) (by decide)
  unfold f_X3_weigh ctf
  rw [a1, Option.bind_some, b1, Option.bind_some, ald_N hp (by omega), Option.bind_some, hl.2.2.2.2.2.1.1, hl.2.2.1.1]
  by_cases e : kd = 0
  · rw [if_pos (show nI kd = 0 by rw [e]; rfl)]
    rw [if_pos e] at hsm b3
    simp only [e, if_true, true_and] at hsm b3 hl hL ⊢
    generalize hct : cts q n (lw 0 q n m w) (szv 0 q n m w) (szv 0 q n m w) = ct at hsm b3 ⊢
    by_cases e0 : szv 0 q n m w = 0
    · rw [if_pos (by rw [e0]; rfl), if_neg (fun hh => by omega)]
      exact ⟨s2, rfl, b2, b3⟩
    · rw [if_neg (nI_ne0 (by omega) (by omega))]
      have h1 : lp (f_X3_weigh_b103 N s2) N (1, 0) = some (bI (alls (fun w2 => decide (ct w2 % szv 0 q n m w = 0)) 13)) := by
        refine lp_0 (S := fun k => (bI (alls (fun w2 => decide (ct w2 % szv 0 q n m w = 0)) k), nI k)) 13 rfl (by omega) ?_ ?_
        · intro k hk
          unfold f_X3_weigh_b103
          dsimp only
          rw [if_neg (by rw [show (13 : Int32) = nI 13 from rfl, nI_leI (by omega) (by omega)]; omega), nI_1]
          cases hb2 : alls (fun w2 => decide (ct w2 % szv 0 q n m w = 0)) k with
          | false => rw [if_pos (show bI false = 0 from rfl), alls, hb2, Bool.false_and]; rfl
          | true =>
            rw [if_neg (show ¬ bI true = 0 by decide), ald_N hk (by omega), Option.bind_some, b3 k hk, hl.2.2.1.1, ps_l _ (by omega), lrem_N (by have := hsm k; omega) (by omega) (by omega), Option.bind_some]
            have hm := Nat.mod_lt (ct k) (show 0 < szv 0 q n m w by omega)
            by_cases e2 : ct k % szv 0 q n m w = 0
            · rw [if_pos (by rw [e2]; rfl), alls, hb2, decide_eq_true e2]; rfl
            · rw [if_neg (lN_ne0 (by omega) (by omega)), alls, hb2, decide_eq_false e2]; rfl
        · unfold f_X3_weigh_b103
          dsimp only
          rw [if_pos (by rw [show (13 : Int32) = nI 13 from rfl, nI_leI (by omega) (by omega)]; omega)]
      rw [h1, Option.bind_some]
      cases hb2 : alls (fun w2 => decide (ct w2 % szv 0 q n m w = 0)) 13 with
      | false =>
        rw [if_neg (fun hh => absurd hh.2 (by decide)), lp_0 (S := fun _ => ((0 : Int32), s2)) (R := s2) (N := N) (s0 := (0, s2)) 0 rfl (by omega) (fun k hk => by omega) ?_, Option.bind_some]
        · exact ⟨s2, rfl, b2, b3⟩
        · unfold f_X3_weigh_b144
          dsimp only
          rw [if_neg (by decide), if_pos (show bI false = 0 from rfl)]
      | true =>
        rw [if_pos ⟨by omega, rfl⟩]
        obtain ⟨s3, z1, z2, z3⟩ : ∃ s', lp (f_X3_weigh_b144 N (bI true)) N (0, s2) = some s' ∧ Kp [] [14] [] st s' ∧ mN s' (fun w2 => ct w2 / szv 0 q n m w) := by
          refine lp_inv0 (P := fun k (s : Int32 × MS) => s.1 = nI k ∧ Kp [] [14] [] st s.2 ∧ mN s.2 (fun w2 => if w2 < k then ct w2 / szv 0 q n m w else ct w2)) (Q := fun (s : MS) => Kp [] [14] [] st s ∧ mN s (fun w2 => ct w2 / szv 0 q n m w)) 13 (by omega) ⟨rfl, b2, fun w2 hw => by dsimp only; rw [if_neg (by omega)]; exact b3 w2 hw⟩ ?_ ?_
          · rintro k ⟨y, s⟩ hk ⟨e1, e2, e3⟩
            dsimp only at e1 e2 e3
            subst e1
            unfold f_X3_weigh_b144
            dsimp only
            have e5k := e3 k hk
            dsimp only at e5k
            rw [if_neg (by omega)] at e5k
            rw [if_neg (by rw [show (13 : Int32) = nI 13 from rfl, nI_leI (by omega) (by omega)]; omega), if_neg (show ¬ bI true = 0 by decide), ald_N hk (by omega), Option.bind_some, e5k, e2.2.2.1 11 (by decide), ← b2.2.2.1 11 (by decide), hl.2.2.1.1, ps_l _ (by omega), ldiv_N (by have := hsm k; omega) (by omega) (by omega), Option.bind_some, last_N hk (by omega), Option.bind_some, nI_1]
            refine ⟨_, rfl, rfl, e2.sL (by decide) _, fun w2 hw => ?_⟩
            dsimp only
            rw [sL_s]
            by_cases ew : w2 = k
            · rw [ew, pk_uLs, if_pos (by omega)]
            · rw [pk_uLn ew, e3 w2 hw]
              dsimp only
              by_cases el : w2 < k
              · rw [if_pos el, if_pos (by omega)]
              · rw [if_neg el, if_neg (by omega)]
          · rintro ⟨y, s⟩ ⟨e1, e2, e3⟩
            dsimp only at e1 e2 e3
            subst e1
            unfold f_X3_weigh_b144
            dsimp only
            rw [if_pos (by rw [show (13 : Int32) = nI 13 from rfl, nI_leI (by omega) (by omega)]; omega)]
            refine ⟨_, rfl, e2, fun w2 hw => ?_⟩
            rw [e3 w2 hw]
            dsimp only
            rw [if_pos hw]
        rw [z1, Option.bind_some]
        exact ⟨s3, rfl, z2, z3⟩
  · rw [if_neg (nI_ne0 (by omega) (by omega)), if_neg (fun hh => e hh.1)]
    exact ⟨s2, rfl, b2, b3⟩
/-- both sides count -/
theorem counts2 {N x M p kd q n m c : Nat} {own : Nat → Nat} {τ : SG} {st : MS} {w : Nat → Nat} (hN : 5000 ≤ N) (h : Ld x M own τ st p kd q n m w c) : ∃ τ' st', f_X1_counts N τ x c = some τ' ∧ f_X3_weigh N st (nI p) = some st' ∧ Ld x M own τ' st' p kd q n m w c ∧ KM M τ τ' ∧ Kp [] [14] [] st st' ∧ xN x τ' (ctf kd q n (lw kd q n m w) (szv kd q n m w)) ∧ mN st' (ctf kd q n (lw kd q n m w) (szv kd q n m w)) := by
  obtain ⟨τ', a1, a2, a3, a4⟩ := X1_counts hN h
  obtain ⟨st', b1, b2, b3⟩ := X3_weigh hN h
  exact ⟨τ', st', a1, b1, a2.sc b2 (b2.mk (by decide) (by decide)) (by decide) (by decide) (by decide), a3, b2, a4, b3⟩
theorem xN.at {x k : Nat} {σ : SG} {ct : Nat → Nat} (h : xN x σ ct) (hk : k < 13) : aL σ (x + 3) (nI k) = some (lN (ct k)) := by
  obtain ⟨g, g1, g2⟩ := h
  rw [aL_of g1 hk (by omega), g2 k hk]
theorem op_weights {N x M : Nat} {own : Nat → Nat} {σ : SG} {st : MS} (hN : 5000 ≤ N) (j : J x M own σ st) (a b : Int32) : Ok x M σ (f_X1_weights N σ x a b) (f_X3_weights N st a b) := by
  unfold f_X1_weights f_X3_weights
  simp only [j.cc, Option.bind_some]
  rcases pl_cases j N a with h | ⟨p, hp, rfl, h, ⟨h2, -, h3⟩ | ⟨kd, q, n, m, w, cc, h2, h3, hok, hP, hX⟩⟩
  · rw [asks_no h, lacks_no h]
    exact Ok.nil j rfl rfl
  · rw [asks_none j h h2, lacks_none h h3]
    exact Ok.nil j rfl rfl
  · obtain ⟨A, x1, x2, x3, x4, C⟩ := id hX
    have hn := hok.2.2.1
    rw [asks_0 j h h2, lacks_0 h h3, Option.bind_some, if_pos rfl, Option.bind_some, if_pos rfl, j.codes, Option.bind_some, h2, Option.bind_some, Option.bind_some, gI_of (k := 1) C.1 (cls_in kd) rfl, Option.bind_some, ald_N hp (by omega), Option.bind_some, hP.2.2.1, X3_isIn_eq, ps_l n (by omega), show (0 : Int64) = lN 0 from rfl]
    rcases int_cases b 0 n (by omega) with ⟨d, d1, d2, rfl⟩ | hc
    · rw [isIn_yes (by omega) d1 d2, Option.bind_some, if_neg i10, Option.bind_some, if_neg i10]
      rcases lays2 hN j hp h h2 hok hP hX with ⟨-, τ, st', t1, t2, t3, t4, t5⟩ | ⟨τ, st', t1, t2, t3, t4, hl⟩
      · rw [t1, t3]
        exact ⟨τ, st', _, own, rfl, rfl, t5, t4⟩
      · obtain ⟨τ', s2, y1, y2, y3, y4, y5, y6, y7⟩ := counts2 hN hl
        rw [t1, t3, Option.bind_some, Option.bind_some]
        dsimp only
        rw [if_neg i10, y2, Option.bind_some, ald_N (show d < 13 by omega) (by omega), Option.bind_some, y7 d (by omega)]
        unfold f_X1_weights_j40
        rw [if_pos rfl, hl.1.codes, Option.bind_some, hl.2.2.2.1, Option.bind_some, Option.bind_some, hl.1.cc, Option.bind_some, y1, Option.bind_some, y3.cs, Option.bind_some, y6.at (by omega), Option.bind_some]
        exact ⟨τ', s2, _, own, rfl, rfl, y3.1, t4.trans y4⟩
    · rw [isIn_no (by omega) (by omega) hc]
      exact Ok.nil j rfl rfl
theorem gcd_tab : ∀ d, d < 13 → ∀ x, x < 13 → lp (f_X1_beat_b61 0 0 0 0 (0, fun _ => none)) 20 (nI d, nI x) = some (nI (Nat.gcd d x)) ∧ Nat.gcd d x < 13 := by decide +kernel
theorem X1_gcd {N c d x : Nat} {a b : Int32} {t : SG} (hN : 5000 ≤ N) (hd : d < 13) (hx : x < 13) : lp (f_X1_beat_b61 N c a b t) N (nI d, nI x) = some (nI (Nat.gcd d x)) := lp_mono 20 N _ _ (show lp (f_X1_beat_b61 N c a b t) 20 (nI d, nI x) = _ from (gcd_tab d hd x hx).1) (by omega)
theorem X3_gcd {N d x : Nat} {a b : Int32} {t : MS} (hN : 5000 ≤ N) (hd : d < 13) (hx : x < 13) : lp (f_X3_beat_b62 N a b t) N (nI d, nI x) = some (nI (Nat.gcd d x)) := lp_mono 20 N _ _ (show lp (f_X3_beat_b62 N a b t) 20 (nI d, nI x) = _ from (gcd_tab d hd x hx).1) (by omega)
/-- what divides all weights so far -/
def bts (ct : Nat → Nat) : Nat → Nat
  | 0 => 0
  | k + 1 => Nat.gcd (bts ct k) (if ct (k + 1) = 0 then 0 else k + 1)
theorem bts_lt (ct : Nat → Nat) : ∀ k, k < 13 → bts ct k < 13
  | 0, _ => by show 0 < 13; omega
  | k + 1, hk => (gcd_tab _ (bts_lt ct k (by omega)) _ (by split <;> omega)).2
theorem op_beat {N x M : Nat} {own : Nat → Nat} {σ : SG} {st : MS} (hN : 5000 ≤ N) (j : J x M own σ st) (a : Int32) : Ok x M σ (f_X1_beat N σ x a) (f_X3_beat N st a) := by
  unfold f_X1_beat f_X3_beat
  simp only [j.cc, Option.bind_some]
  rcases pl_cases j N a with h | ⟨p, hp, rfl, h, ⟨h2, -, h3⟩ | ⟨kd, q, n, m, w, cc, h2, h3, hok, hP, hX⟩⟩
  · unfold f_X1_whyWords
    rw [j.cc, Option.bind_some, asks_no h, lacks_no h]
    exact Ok.nil j rfl rfl
  · unfold f_X1_whyWords
    rw [j.cc, Option.bind_some, asks_none j h h2, lacks_none h h3]
    exact Ok.nil j rfl rfl
  · have hn := hok.2.2.1
    rw [lacks_0 h h3, Option.bind_some, if_pos rfl]
    rcases lays2 hN j hp h h2 hok hP hX with ⟨-, τ, st', t1, t2, t3, t4, t5⟩ | ⟨τ, st', t1, t2, t3, t4, hl⟩
    · rw [t1, t3]
      exact ⟨τ, st', _, own, rfl, rfl, t5, t4⟩
    · obtain ⟨τ', s2, y1, y2, y3, y4, y5, y6, y7⟩ := counts2 hN hl
      have hL := hl.2.2.2.2.2.2.2.1
      have hsm : ∀ w2, ctf kd q n (lw kd q n m w) (szv kd q n m w) w2 < 2 ^ 62 := by
        intro w2
        have hh := cts_small (W := lw kd q n m w) hok hL w2
        unfold ctf
        generalize cts q n (lw kd q n m w) (if kd = 0 then szv kd q n m w else 1) (szv kd q n m w) = ct at hh ⊢
        split
        · exact Nat.lt_of_le_of_lt (Nat.div_le_self _ _) hh
        · exact hh
      generalize ctf kd q n (lw kd q n m w) (szv kd q n m w) = ct at hsm y6 y7
      have X1l : lp (f_X1_beat_b27 N x (nI p) τ') N (0, 1) = some (nI (bts ct n)) := by
        refine lp_0 (S := fun k => (nI (bts ct k), nI (k + 1))) n rfl (by omega) ?_ ?_
        · intro k hk
          have hb := bts_lt ct k (by omega)
          unfold f_X1_beat_b27
          dsimp only
          rw [y3.1.codes, Option.bind_some, y3.2.2.2.1, Option.bind_some, Option.bind_some, y3.cn, Option.bind_some, if_neg (by rw [nI_ltI (by omega) (by omega)]; omega), y3.cs, Option.bind_some, y6.at (show k + 1 < 13 by omega), Option.bind_some, nI_1, bts]
          by_cases e : ct (k + 1) = 0
          · rw [if_pos (by rw [e]; rfl), show (0 : Int32) = nI 0 from rfl, X1_gcd hN hb (by omega), Option.bind_some, if_pos e]
          · rw [if_neg (lN_ne0 (by omega) (by have := hsm (k + 1); omega)), X1_gcd hN hb (by omega), Option.bind_some, if_neg e]
        · unfold f_X1_beat_b27
          dsimp only
          rw [y3.1.codes, Option.bind_some, y3.2.2.2.1, Option.bind_some, Option.bind_some, y3.cn, Option.bind_some, if_pos (by rw [nI_ltI (by omega) (by omega)]; omega)]
      have X3l : lp (f_X3_beat_b34 N (nI p) s2) N (0, 1) = some (nI (bts ct n)) := by
        have p3 := y3.2.2.2.2.2.1.2.2.1
        refine lp_0 (S := fun k => (nI (bts ct k), nI (k + 1))) n rfl (by omega) ?_ ?_
        · intro k hk
          have hb := bts_lt ct k (by omega)
          unfold f_X3_beat_b34
          dsimp only
          rw [ald_N hp (by omega), Option.bind_some, p3, if_neg (by rw [nI_ltI (by omega) (by omega)]; omega), ald_N (show k + 1 < 13 by omega) (by omega), Option.bind_some, y7 (k + 1) (by omega), nI_1, bts]
          by_cases e : ct (k + 1) = 0
          · rw [if_pos (by rw [e]; rfl), show (0 : Int32) = nI 0 from rfl, X3_gcd hN hb (by omega), Option.bind_some, if_pos e]
          · rw [if_neg (lN_ne0 (by omega) (by have := hsm (k + 1); omega)), X3_gcd hN hb (by omega), Option.bind_some, if_neg e]
        · unfold f_X3_beat_b34
          dsimp only
          rw [ald_N hp (by omega), Option.bind_some, p3, if_pos (by rw [nI_ltI (by omega) (by omega)]; omega)]
      rw [t1, t3, Option.bind_some, Option.bind_some]
      dsimp only
      rw [if_neg i10, y2, Option.bind_some, X3l, Option.bind_some, if_pos rfl, hl.1.codes, Option.bind_some, hl.2.2.2.1, Option.bind_some, Option.bind_some, hl.1.cc, Option.bind_some, y1, Option.bind_some, X1l, Option.bind_some]
      exact ⟨τ', s2, _, own, rfl, rfl, y3.1, t4.trans y4⟩
