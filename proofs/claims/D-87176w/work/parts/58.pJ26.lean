/-! ===== PURE J26: near, read ===== -/
set_option maxRecDepth 100000
def nrc (q n : Nat) (W : Nat → Nat) (v d L : Nat) : Nat := cn (fun k => decide (wway q n (W k) v 0 ≤ d)) L
theorem nrc_s {q n v d k : Nat} {W : Nat → Nat} (hn : n ≤ 12) (hd : d < 2 ^ 30) : (if nI d < nI (wway q n (W k) v 0) then (some (Sum.inl (nI (nrc q n W v d k) + 0, nI (k + 1))) : Option ((Int32 × Int32) ⊕ Int32)) else some (.inl (nI (nrc q n W v d k) + 1, nI (k + 1)))) = some (.inl (nI (nrc q n W v d (k + 1)), nI (k + 1))) := by
  have hw := wway_le q n (W k) v 0
  unfold nrc
  rw [cn, nI_p0, nI_1]
  by_cases e : wway q n (W k) v 0 ≤ d
  · rw [if_neg (by rw [nI_ltI (by omega) (by omega)]; omega), if_pos (decide_eq_true e)]
  · rw [if_pos (by rw [nI_ltI (by omega) (by omega)]; omega), if_neg (by simp [e])]
    exact rfl
theorem X1_near {N x M p kd q n m c v d : Nat} {own : Nat → Nat} {τ : SG} {st : MS} {w : Nat → Nat} (hN : 5000 ≤ N) (h : Ld x M own τ st p kd q n m w c) (hv : v < 2 ^ 62) (hd : d < 2 ^ 30) : lp (f_X1_near_b62 N x (nI p) (lN v) (nI d) τ) N (0, 0) = some (nI (nrc q n (lw kd q n m w) v d (szv kd q n m w))) := by
  have hL := h.2.2.2.2.2.2.2.1
  have hn := h.2.2.2.2.2.2.1.2.2.1
  refine lp_0 (S := fun k => (nI (nrc q n (lw kd q n m w) v d k), nI k)) (szv kd q n m w) rfl (by omega) ?_ ?_
  · intro k hk
    unfold f_X1_near_b62
    dsimp only
    rw [h.wc, Option.bind_some, if_neg (nI_ge hk (by omega)), h.1.codes, Option.bind_some, h.2.2.2.1, Option.bind_some, Option.bind_some, h.cq, Option.bind_some, Option.bind_some, h.2.2.2.1, Option.bind_some, Option.bind_some, h.cn, Option.bind_some, h.ws, Option.bind_some, h.wd hk, Option.bind_some, h.way hN hk hv, Option.bind_some, nI_1]
    exact nrc_s hn hd
  · unfold f_X1_near_b62
    dsimp only
    rw [h.wc, Option.bind_some, if_pos (nI_le (Nat.le_refl _) (by omega))]
theorem X3_nearOf {N x M p kd q n m c v d : Nat} {own : Nat → Nat} {τ : SG} {st : MS} {w : Nat → Nat} (hN : 5000 ≤ N) (h : Ld x M own τ st p kd q n m w c) (hv : v < 2 ^ 62) (hd : d < 2 ^ 30) : ∃ st', f_X3_nearOf N st (nI p) (lN v) (nI d) = some (st', nI (nrc q n (lw kd q n m w) v d (szv kd q n m w))) ∧ Ld x M own τ st' p kd q n m w c := by
  have hL := h.2.2.2.2.2.2.2.1
  have hok := h.2.2.2.2.2.2.1
  have hn := hok.2.2.1
  have hp := h.2.2.2.2.2.2.2.2
  obtain ⟨s1, a1, a2, a3⟩ := X3_looksAt (N := N) (v := v) hN hp hok.1 hn h.2.2.2.2.2.1 hv
  have h1 := h.sc a2 (a2.mk (by decide) (by decide)) (by decide) (by decide) (by decide)
  unfold f_X3_nearOf
  rw [a1, Option.bind_some, lp_0 (S := fun k => (nI (nrc q n (lw kd q n m w) v d k), nI k)) (R := nI (nrc q n (lw kd q n m w) v d (szv kd q n m w))) (N := N) (s0 := (0, 0)) (szv kd q n m w) rfl (by omega) ?_ ?_, Option.bind_some]
  · exact ⟨s1, rfl, h1⟩
  · intro k hk
    unfold f_X3_nearOf_b12
    dsimp only
    rw [h1.2.2.1.1, if_neg (nI_ge hk (by omega)), X3_wayTo hN hp hok.1 hn h1.2.2.2.2.2.1.2.2.1 h1.2.2.1 hL hk a3, Option.bind_some, nI_1]
    exact nrc_s hn hd
  · unfold f_X3_nearOf_b12
    dsimp only
    rw [h1.2.2.1.1, if_pos (nI_le (Nat.le_refl _) (by omega))]
theorem op_near {N x M : Nat} {own : Nat → Nat} {σ : SG} {st : MS} (hN : 5000 ≤ N) (j : J x M own σ st) (a : Int32) (b : Int64) (c : Int32) : Ok x M σ (f_X1_near N σ x a b c) (f_X3_near N st a b c) := by
  unfold f_X1_near f_X3_near
  simp only [j.cc, Option.bind_some]
  rcases pl_cases j N a with h | ⟨p, hp, rfl, h, ⟨h2, -, h3⟩ | ⟨kd, q, n, m, w, cc, h2, h3, hok, hP, hX⟩⟩
  · rw [whyW_no h, lacks_no h]
    exact Ok.nil j rfl rfl
  · rw [whyW_none j h h2, lacks_none h h3]
    exact Ok.nil j rfl rfl
  · obtain ⟨A, x1, x2, x3, x4, C⟩ := id hX
    have hn := hok.2.2.1
    have hs := qn_small hok.1 hn
    rw [whyW_some j h h2 C, lacks_0 h h3, Option.bind_some, if_pos rfl, X3_hasWord hp hP]
    rcases isWord_cases (N := N) (by omega) hok.1 hn b with ⟨v, hv, rfl, hi⟩ | hi
    · rw [hi, Option.bind_some, if_neg i10, Option.bind_some, if_pos rfl, Option.bind_some, rz_1, Option.bind_some, if_neg i10, j.codes, Option.bind_some, h2, Option.bind_some, Option.bind_some, gI_of (k := 1) C.1 (cls_in kd) rfl, Option.bind_some, ald_N hp (by omega), Option.bind_some, hP.2.2.1, X3_isIn_eq, ps_l n (by omega), show (0 : Int64) = lN 0 from rfl]
      rcases int_cases c 0 n (by omega) with ⟨d, d1, d2, rfl⟩ | hc
      · rw [isIn_yes (by omega) d1 d2, Option.bind_some, if_neg i10, Option.bind_some, if_neg i10]
        unfold f_X1_near_j36
        rw [if_pos rfl, j.cc, Option.bind_some]
        rcases lays2 hN j hp h h2 hok hP hX with ⟨-, τ, st', t1, t2, t3, t4, t5⟩ | ⟨τ, st', t1, t2, t3, t4, hl⟩
        · rw [t1, t3]
          exact ⟨τ, st', _, own, rfl, rfl, t5, t4⟩
        · obtain ⟨s2, y1, y2⟩ := X3_nearOf hN hl (v := v) (d := d) (by omega) (by omega)
          rw [t1, t3, Option.bind_some, Option.bind_some]
          dsimp only
          rw [if_neg i10, y1, Option.bind_some]
          unfold f_X1_near_j48
          rw [if_pos rfl, X1_near hN hl (by omega) (by omega), Option.bind_some]
          exact ⟨τ, s2, _, own, rfl, rfl, y2.1, t4⟩
      · rw [isIn_no (by omega) (by omega) hc]
        exact Ok.nil j rfl rfl
    · rw [hi, Option.bind_some, if_pos rfl]
      exact Ok.nil j rfl rfl
/-- the nearest word so far: its number and its way -/
def nst (q n : Nat) (W : Nat → Nat) (v : Nat) (lost : Int32) : Nat → Nat × Nat
  | 0 => (0, 13)
  | k + 1 => if wway q n (W k) v lost < (nst q n W v lost k).2 then (k, wway q n (W k) v lost) else nst q n W v lost k
theorem nst_ok (q n : Nat) (W : Nat → Nat) (v : Nat) (lost : Int32) (hn : n ≤ 12) : ∀ k, (nst q n W v lost k).2 ≤ 13 ∧ (0 < k → (nst q n W v lost k).1 < k)
  | 0 => ⟨Nat.le_refl _, fun h => by omega⟩
  | k + 1 => by
    obtain ⟨h1, h2⟩ := nst_ok q n W v lost hn k
    have hw := wway_le q n (W k) v lost
    rw [nst]
    by_cases e : wway q n (W k) v lost < (nst q n W v lost k).2
    · rw [if_pos e]
      exact ⟨by dsimp only; omega, fun _ => by dsimp only; omega⟩
    · rw [if_neg e]
      refine ⟨h1, fun _ => ?_⟩
      by_cases e0 : k = 0
      · subst e0
        exact absurd (show wway q n (W 0) v lost < 13 by omega) e
      · have := h2 (by omega); omega
theorem X1_readBy {N x M p kd q n m c v : Nat} {own : Nat → Nat} {τ : SG} {st : MS} {w : Nat → Nat} {lost : Int32} (hN : 5000 ≤ N) (h : Ld x M own τ st p kd q n m w c) (hv : v < 2 ^ 62) : f_X1_readBy N τ x c (lN v) lost = some (if szv kd q n m w = 0 then -2 else nI (nst q n (lw kd q n m w) v lost (szv kd q n m w)).1) := by
  have hL := h.2.2.2.2.2.2.2.1
  have hn := h.2.2.2.2.2.2.1.2.2.1
  unfold f_X1_readBy
  rw [lp_0 (S := fun k => (if k = 0 then -2 else nI (nst q n (lw kd q n m w) v lost k).1, nI (nst q n (lw kd q n m w) v lost k).2, nI k)) (R := if szv kd q n m w = 0 then -2 else nI (nst q n (lw kd q n m w) v lost (szv kd q n m w)).1) (N := N) (s0 := (-2, 13, 0)) (szv kd q n m w) rfl (by omega) ?_ ?_]
  · rfl
  · intro k hk
    obtain ⟨z1, z2⟩ := nst_ok q n (lw kd q n m w) v lost hn k
    have hw := wway_le q n (lw kd q n m w k) v lost
    unfold f_X1_readBy_b11
    dsimp only
    rw [h.wc, Option.bind_some, if_neg (nI_ge hk (by omega)), h.cq, Option.bind_some, h.cn, Option.bind_some, h.ws, Option.bind_some, h.wd hk, Option.bind_some, h.way hN hk hv, Option.bind_some, nI_1, if_neg (show ¬ k + 1 = 0 by omega), nst]
    by_cases e : wway q n (lw kd q n m w k) v lost < (nst q n (lw kd q n m w) v lost k).2
    · rw [if_pos (by rw [nI_ltI (by omega) (by omega)]; exact e), if_pos e]
    · rw [if_neg (by rw [nI_ltI (by omega) (by omega)]; exact e), if_neg e]
      have e0 : ¬ k = 0 := by
        intro e0
        subst e0
        exact e (show wway q n (lw kd q n m w 0) v lost < 13 by omega)
      rw [if_neg e0]
  · unfold f_X1_readBy_b11
    dsimp only
    rw [h.wc, Option.bind_some, if_pos (nI_le (Nat.le_refl _) (by omega))]
theorem X3_nearest {N x M p kd q n m c v : Nat} {own : Nat → Nat} {τ : SG} {st : MS} {w : Nat → Nat} {lost : Int32} (hN : 5000 ≤ N) (h : Ld x M own τ st p kd q n m w c) (hv : v < 2 ^ 62) : ∃ st', f_X3_nearest N st (nI p) (lN v) lost = some (st', nI (nst q n (lw kd q n m w) v lost (szv kd q n m w)).1) ∧ Ld x M own τ st' p kd q n m w c ∧ (∀ i, i < n → st'.1 13 i = nI (dg q n v i)) ∧ Kp [13] [] [] st st' := by
  have hL := h.2.2.2.2.2.2.2.1
  have hok := h.2.2.2.2.2.2.1
  have hn := hok.2.2.1
  have hp := h.2.2.2.2.2.2.2.2
  obtain ⟨s1, a1, a2, a3⟩ := X3_looksAt (N := N) (v := v) hN hp hok.1 hn h.2.2.2.2.2.1 hv
  have h1 := h.sc a2 (a2.mk (by decide) (by decide)) (by decide) (by decide) (by decide)
  unfold f_X3_nearest
  rw [a1, Option.bind_some, lp_0 (S := fun k => (nI (nst q n (lw kd q n m w) v lost k).1, nI (nst q n (lw kd q n m w) v lost k).2, nI k)) (R := nI (nst q n (lw kd q n m w) v lost (szv kd q n m w)).1) (N := N) (s0 := (0, 13, 0)) (szv kd q n m w) rfl (by omega) ?_ ?_, Option.bind_some]
  · exact ⟨s1, rfl, h1, a3, a2⟩
  · intro k hk
    obtain ⟨z1, z2⟩ := nst_ok q n (lw kd q n m w) v lost hn k
    have hw := wway_le q n (lw kd q n m w k) v lost
    unfold f_X3_nearest_b16
    dsimp only
    rw [h1.2.2.1.1, if_neg (nI_ge hk (by omega)), X3_wayTo hN hp hok.1 hn h1.2.2.2.2.2.1.2.2.1 h1.2.2.1 hL hk a3, Option.bind_some, nI_1, nst]
    by_cases e : wway q n (lw kd q n m w k) v lost < (nst q n (lw kd q n m w) v lost k).2
    · rw [if_pos (by rw [nI_ltI (by omega) (by omega)]; exact e), if_pos e]
    · rw [if_neg (by rw [nI_ltI (by omega) (by omega)]; exact e), if_neg e]
  · unfold f_X3_nearest_b16
    dsimp only
    rw [h1.2.2.1.1, if_pos (nI_le (Nat.le_refl _) (by omega))]
theorem neg2_ne {k : Nat} (h : k < 2 ^ 31) : ¬ nI k = -2 := by
  intro e
  have h1 := nI_pos (n := k) h
  rw [e] at h1
  exact h1 (by decide)
theorem pow2_n : ∀ n, n < 13 → ((((1 : Int32) <<< (nI n &&& 31)) - (1 : Int32))).toInt64 = lN (2 ^ n - 1) := by decide +kernel
theorem two_le : ∀ n, n < 13 → 1 ≤ 2 ^ n ∧ 2 ^ n ≤ 4096 := by decide
theorem op_read {N x M : Nat} {own : Nat → Nat} {σ : SG} {st : MS} (hN : 5000 ≤ N) (j : J x M own σ st) (a : Int32) (b : Int64) (c : Int32) : Ok x M σ (f_X1_read N σ x a b c) (f_X3_read N st a b c) := by
  unfold f_X1_read f_X3_read
  simp only [j.cc, Option.bind_some]
  rcases pl_cases j N a with h | ⟨p, hp, rfl, h, ⟨h2, -, h3⟩ | ⟨kd, q, n, m, w, cc, h2, h3, hok, hP, hX⟩⟩
  · rw [whyW_no h, lacks_no h]
    exact Ok.nil j rfl rfl
  · rw [whyW_none j h h2, lacks_none h h3]
    exact Ok.nil j rfl rfl
  · obtain ⟨A, x1, x2, x3, x4, C⟩ := id hX
    have hn := hok.2.2.1
    have hs := qn_small hok.1 hn
    rw [whyW_some j h h2 C, lacks_0 h h3, Option.bind_some, if_pos rfl, X3_hasWord hp hP]
    rcases isWord_cases (N := N) (by omega) hok.1 hn b with ⟨v, hv, rfl, hi⟩ | hi
    · obtain ⟨w1, w2⟩ := two_le n (by omega)
      rw [hi, Option.bind_some, if_neg i10, Option.bind_some, if_pos rfl, Option.bind_some, rz_1, Option.bind_some, if_neg i10, j.codes, Option.bind_some, h2, Option.bind_some, Option.bind_some, gI_of (k := 1) C.1 (cls_in kd) rfl, Option.bind_some, ald_N hp (by omega), Option.bind_some, hP.2.2.1, X3_isIn_eq, pow2_n n (by omega), show (0 : Int64) = lN 0 from rfl]
      rcases int_cases c 0 (2 ^ n - 1) (by omega) with ⟨d, d1, d2, rfl⟩ | hc
      · rw [isIn_yes (by omega) d1 d2, Option.bind_some, if_neg i10, Option.bind_some, if_neg i10]
        unfold f_X1_read_j40
        rw [if_pos rfl, j.cc, Option.bind_some]
        rcases lays2 hN j hp h h2 hok hP hX with ⟨-, τ, st', t1, t2, t3, t4, t5⟩ | ⟨τ, st', t1, t2, t3, t4, hl⟩
        · rw [t1, t3]
          exact ⟨τ, st', _, own, rfl, rfl, t5, t4⟩
        · have hL := hl.2.2.2.2.2.2.2.1
          rw [t1, t3, Option.bind_some, Option.bind_some]
          dsimp only
          rw [if_neg i10, hl.2.2.1.1]
          unfold f_X1_read_j52
          rw [if_pos rfl, hl.1.codes, Option.bind_some, hl.2.2.2.1, Option.bind_some, Option.bind_some, hl.1.cc, Option.bind_some, X1_readBy hN hl (by omega), Option.bind_some]
          by_cases e : szv kd q n m w = 0
          · rw [if_pos e, if_pos rfl, if_pos (show nI (szv kd q n m w) = 0 by rw [e]; rfl)]
            exact ⟨τ, st', _, own, rfl, rfl, hl.1, t4⟩
          · obtain ⟨s2, y1, y2, y3, y4⟩ := X3_nearest (lost := nI d) hN hl (v := v) (by omega)
            have hb := (nst_ok q n (lw kd q n m w) v (nI d) hn (szv kd q n m w)).2 (by omega)
            rw [if_neg e, if_neg (neg2_ne (by omega)), if_neg (nI_ne0 (by omega) (by omega)), y1, Option.bind_some, hl.ws, Option.bind_some, hl.wd hb, Option.bind_some, ald_N (show (nst q n (lw kd q n m w) v (nI d) (szv kd q n m w)).1 < 4096 by omega) (by omega), Option.bind_some, y2.2.2.1.2.1 _ hb]
            exact ⟨τ, s2, _, own, rfl, rfl, y2.1, t4⟩
      · rw [isIn_no (by omega) (by omega) hc]
        exact Ok.nil j rfl rfl
    · rw [hi, Option.bind_some, if_pos rfl]
      exact Ok.nil j rfl rfl
