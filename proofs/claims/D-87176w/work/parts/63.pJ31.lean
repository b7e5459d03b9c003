/-! ===== PURE J31: whole, design ===== -/
set_option maxRecDepth 100000
theorem lp_allP {σ ρ : Type} {body : σ → Option (σ ⊕ ρ)} (P : Nat → σ → Prop) (t : Nat → Bool) (Q1 Q2 : ρ → Prop) (m : Nat) {N : Nat} {s : σ} (hN : m < N) (h0 : P 0 s) (step : ∀ k s, k < m → t k = true → P k s → ∃ s', body s = some (.inl s') ∧ P (k + 1) s') (stop : ∀ k s, k < m → t k = false → P k s → ∃ r, body s = some (.inr r) ∧ Q1 r) (fin : ∀ s, P m s → ∃ r, body s = some (.inr r) ∧ Q2 r) : ∃ r, lp body N s = some r ∧ (alls t m = true → Q2 r) ∧ (alls t m = false → Q1 r) := by
  cases hb : alls t m with
  | true =>
    obtain ⟨r, h1, h2⟩ := lp_inv0 (P := P) (Q := Q2) m hN h0 (fun k s hk hP => step k s hk ((alls_iff _).mp hb k hk) hP) fin
    exact ⟨r, h1, fun _ => h2, fun h => by cases h⟩
  | false =>
    have hex : ∃ k, k < m ∧ t k = false := by
      apply Classical.byContradiction
      intro hne
      have h9 : alls t m = true := (alls_iff _).mpr (fun k hk => by
        cases hh : t k with
        | true => rfl
        | false => exact absurd ⟨k, hk, hh⟩ hne)
      rw [h9] at hb
      cases hb
    obtain ⟨k, ⟨k1, k2⟩, hl⟩ := pk_least (fun k => k < m ∧ t k = false) hex
    obtain ⟨r, h1, h2⟩ := lp_inv0 (P := P) (Q := Q1) (N := N) k (by omega) h0 (fun i s hi hP => step i s (by omega) (by
      cases hh : t i with
      | true => rfl
      | false => exact absurd ⟨by omega, hh⟩ (hl i hi)) hP) (fun s hP => stop k s k1 k2 hP)
    exact ⟨r, h1, fun h => (by cases h), fun _ => h2⟩
theorem X1_near2 {N x M p kd q n m c v d : Nat} {own : Nat → Nat} {τ : SG} {st : MS} {w : Nat → Nat} (hN : 5000 ≤ N) (h : Ld x M own τ st p kd q n m w c) (hv : v < 2 ^ 62) (hd : d < 2 ^ 30) : lp (f_X1_whole_b73 N x c (nI d) (lN v) τ) N (0, 0) = some (nI (nrc q n (lw kd q n m w) v d (szv kd q n m w))) := by
  have hL := h.2.2.2.2.2.2.2.1
  have hn := h.2.2.2.2.2.2.1.2.2.1
  refine lp_0 (S := fun k => (nI (nrc q n (lw kd q n m w) v d k), nI k)) (szv kd q n m w) rfl (by omega) ?_ ?_
  · intro k hk
    unfold f_X1_whole_b73
    dsimp only
    rw [h.wc, Option.bind_some, if_neg (nI_ge hk (by omega)), h.cq, Option.bind_some, h.cn, Option.bind_some, h.ws, Option.bind_some, h.wd hk, Option.bind_some, h.way hN hk hv, Option.bind_some, nI_1]
    exact nrc_s hn hd
  · unfold f_X1_whole_b73
    dsimp only
    rw [h.wc, Option.bind_some, if_pos (nI_le (Nat.le_refl _) (by omega))]
theorem nrc_le (q n : Nat) (W : Nat → Nat) (v d L : Nat) : nrc q n W v d L ≤ L := cn_le _ _
theorem op_whole {N x M : Nat} {own : Nat → Nat} {σ : SG} {st : MS} (hN : 5000 ≤ N) (j : J x M own σ st) (a : Int32) : Ok x M σ (f_X1_whole N σ x a) (f_X3_whole N st a) := by
  unfold f_X1_whole f_X3_whole
  rw [j.cc, Option.bind_some]
  rcases pl_cases j N a with h | ⟨p, hp, rfl, h, ⟨h2, -, h3⟩ | ⟨kd, q, n, m, w, c, h2, h3, hok, hP, hX⟩⟩
  · unfold f_X1_whyHoles
    rw [j.cc, Option.bind_some, asks_no h, lacks_no h]
    exact Ok.nil j rfl rfl
  · unfold f_X1_whyHoles
    rw [j.cc, Option.bind_some, asks_none j h h2, lacks_none h h3]
    exact Ok.nil j rfl rfl
  · have hn := hok.2.2.1
    have hs := qn_small hok.1 hn
    have hpos := pow_pos (n := n) hok.1
    rw [lacks_0 h h3, Option.bind_some, if_pos rfl, ald_N hp (by omega), Option.bind_some, hP.2.1, ald_N hp (by omega), Option.bind_some, hP.2.2.1, X3_power (by omega) hok.1.lt (by omega), Option.bind_some]
    rcases holes2 hN j hp h h2 hok hP hX with ⟨e, t1⟩ | ⟨e, τ, st', t1, t2, t3, hl⟩
    · rw [if_pos (show (1024 : Int64) < lN (q ^ n) by rw [show (1024 : Int64) = lN 1024 from rfl, pk_lLT (by omega) (by omega)]; exact e), t1]
      exact Ok.nil j rfl rfl
    · have hL := hl.2.2.2.2.2.2.2.1
      obtain ⟨τ', r, y1, y2, y3, y4, y5⟩ := least2 hN hl
      rw [if_neg (show ¬ (1024 : Int64) < lN (q ^ n) by rw [show (1024 : Int64) = lN 1024 from rfl, pk_lLT (by omega) (by omega)]; omega), t2, Option.bind_some]
      dsimp only
      rw [if_neg i10, y2, Option.bind_some]
      have hj : (Option.bind (f_X1_whyHoles N σ x (nI p)) fun v1 => if v1.2 = 0 then f_X1_whole_j18 N x (nI p) v1.1 else if v1.2 = (-2 : Int32) then f_X1_whole_j18 N x (nI p) v1.1 else some (v1.1, v1.2)) = f_X1_whole_j18 N x (nI p) τ := by
        rw [t1, Option.bind_some]
        dsimp only
        by_cases e0 : szv kd q n m w = 0
        · rw [if_pos e0, if_neg (by decide), if_pos rfl]
        · rw [if_neg e0, if_pos rfl]
      rw [hj]
      unfold f_X1_whole_j18
      rw [hl.1.codes, Option.bind_some, hl.2.2.2.1, Option.bind_some, Option.bind_some, hl.1.cc, Option.bind_some, y1, Option.bind_some]
      dsimp only
      by_cases e0 : r = 0
      · subst e0
        rw [if_pos (show nI 0 = 0 from rfl), lp_0 (S := fun _ => ((0 : Int64), st')) (R := .inr st') (N := N) (s0 := ((0 : Int64), st')) 0 rfl (by omega) (fun k hk => by omega) ?_, Option.bind_some]
        · exact ⟨τ', st', _, own, rfl, rfl, y4.1, t3.trans y5⟩
        · have hP' := hl.2.2.2.2.2.1
          unfold f_X3_whole_b55
          dsimp only
          rw [ald_N hp (by omega), Option.bind_some, hP'.2.1, ald_N hp (by omega), Option.bind_some, hP'.2.2.1, X3_power (by omega) hok.1.lt (by omega), Option.bind_some, if_neg (by rw [show (0 : Int64) = lN 0 from rfl, pk_lLE (by omega) (by omega)]; omega), if_pos (by decide)]
      · rw [if_neg (nI_ne0 (by omega) (by omega)), nI_s1 (by omega), show (2 : Int32) = nI 2 from rfl, idiv_N (by omega) (by omega) (by omega), Option.bind_some]
        have X1l : lp (f_X1_whole_b50 N x c (nI ((r - 1) / 2)) τ') N 0 = some (if alls (fun v => decide (nrc q n (lw kd q n m w) v ((r - 1) / 2) (szv kd q n m w) = 1)) (q ^ n) = true then .inr () else .inl ()) := by
          refine lp_all (S := lN) (t := fun v => decide (nrc q n (lw kd q n m w) v ((r - 1) / 2) (szv kd q n m w) = 1)) (q ^ n) rfl (by omega) ?_ ?_
          · intro v hv
            have hb := nrc_le q n (lw kd q n m w) v ((r - 1) / 2) (szv kd q n m w)
            unfold f_X1_whole_b50
            rw [y4.cq, Option.bind_some, y4.cn, Option.bind_some, X1_power (by omega) hok.1.lt (by omega), Option.bind_some, if_neg (by rw [pk_lLE (by omega) (by omega)]; omega), X1_near2 hN y4 (by omega) (by omega), Option.bind_some, show (1 : Int64) = lN 1 from rfl, lN_add, show (1 : Int32) = nI 1 from rfl]
            by_cases e1 : nrc q n (lw kd q n m w) v ((r - 1) / 2) (szv kd q n m w) = 1
            · rw [if_pos (by rw [e1]), if_pos (by simp [e1])]
            · rw [if_neg (by rw [nI_eq (by omega) (by omega)]; exact e1), if_neg (by simp [e1])]
          · unfold f_X1_whole_b50
            rw [y4.cq, Option.bind_some, y4.cn, Option.bind_some, X1_power (by omega) hok.1.lt (by omega), Option.bind_some, if_pos (by rw [pk_lLE (by omega) (by omega)]; omega)]
        obtain ⟨z, b1, b2, b3⟩ : ∃ z, lp (f_X3_whole_b55 N (nI p) (nI r)) N (0, st') = some z ∧ (alls (fun v => decide (nrc q n (lw kd q n m w) v ((r - 1) / 2) (szv kd q n m w) = 1)) (q ^ n) = true → ∃ s, z = .inr s ∧ Ld x M own τ' s p kd q n m w c) ∧ (alls (fun v => decide (nrc q n (lw kd q n m w) v ((r - 1) / 2) (szv kd q n m w) = 1)) (q ^ n) = false → ∃ s, z = .inl s ∧ Ld x M own τ' s p kd q n m w c) := by
          have bd : ∀ k (s : MS), k < q ^ n → Ld x M own τ' s p kd q n m w c → ∃ s2, Ld x M own τ' s2 p kd q n m w c ∧ f_X3_whole_b55 N (nI p) (nI r) (lN k, s) = if nrc q n (lw kd q n m w) k ((r - 1) / 2) (szv kd q n m w) = 1 then some (.inl (lN (k + 1), s2)) else some (.inr (.inl s2)) := by
            intro k s hk hls
            have hP' := hls.2.2.2.2.2.1
            have hb := nrc_le q n (lw kd q n m w) k ((r - 1) / 2) (szv kd q n m w)
            obtain ⟨s2, u1, u2⟩ := X3_nearOf hN hls (v := k) (d := (r - 1) / 2) (by omega) (by omega)
            refine ⟨s2, u2, ?_⟩
            unfold f_X3_whole_b55
            dsimp only
            rw [ald_N hp (by omega), Option.bind_some, hP'.2.1, ald_N hp (by omega), Option.bind_some, hP'.2.2.1, X3_power (by omega) hok.1.lt (by omega), Option.bind_some, if_neg (by rw [pk_lLE (by omega) (by omega)]; omega), if_neg (nI_nle (by omega) (by omega)), nI_s1 (by omega), show (2 : Int32) = nI 2 from rfl, idiv_N (by omega) (by omega) (by omega), Option.bind_some, u1, Option.bind_some]
            dsimp only
            rw [show (1 : Int64) = lN 1 from rfl, lN_add, show (1 : Int32) = nI 1 from rfl]
            by_cases e1 : nrc q n (lw kd q n m w) k ((r - 1) / 2) (szv kd q n m w) = 1
            · rw [if_pos (by rw [e1]), if_pos e1]
            · rw [if_neg (by rw [nI_eq (by omega) (by omega)]; exact e1), if_neg e1]
          refine lp_allP (P := fun k (s : Int64 × MS) => s.1 = lN k ∧ Ld x M own τ' s.2 p kd q n m w c) (t := fun v => decide (nrc q n (lw kd q n m w) v ((r - 1) / 2) (szv kd q n m w) = 1)) (Q1 := fun (z : MS ⊕ MS) => ∃ s, z = .inl s ∧ Ld x M own τ' s p kd q n m w c) (Q2 := fun (z : MS ⊕ MS) => ∃ s, z = .inr s ∧ Ld x M own τ' s p kd q n m w c) (q ^ n) (by omega) ⟨rfl, ?_⟩ ?_ ?_ ?_
          · exact y4
          · rintro k ⟨y, s⟩ hk ht ⟨e1, e2⟩
            dsimp only at e1 e2
            subst e1
            obtain ⟨s2, u1, u2⟩ := bd k s hk e2
            rw [u2, if_pos (of_decide_eq_true ht)]
            exact ⟨_, rfl, rfl, u1⟩
          · rintro k ⟨y, s⟩ hk ht ⟨e1, e2⟩
            dsimp only at e1 e2
            subst e1
            obtain ⟨s2, u1, u2⟩ := bd k s hk e2
            rw [u2, if_neg (of_decide_eq_false ht)]
            exact ⟨_, rfl, s2, rfl, u1⟩
          · rintro ⟨y, s⟩ ⟨e1, e2⟩
            dsimp only at e1 e2
            subst e1
            have hP' := e2.2.2.2.2.2.1
            unfold f_X3_whole_b55
            dsimp only
            rw [ald_N hp (by omega), Option.bind_some, hP'.2.1, ald_N hp (by omega), Option.bind_some, hP'.2.2.1, X3_power (by omega) hok.1.lt (by omega), Option.bind_some, if_pos (by rw [pk_lLE (by omega) (by omega)]; omega)]
            exact ⟨_, rfl, s, rfl, e2⟩
        rw [X1l, b1, Option.bind_some, Option.bind_some]
        cases hb : alls (fun v => decide (nrc q n (lw kd q n m w) v ((r - 1) / 2) (szv kd q n m w) = 1)) (q ^ n) with
        | true =>
          obtain ⟨s, z1, z2⟩ := b2 hb
          rw [z1, if_pos rfl]
          dsimp only
          unfold f_X3_whole_j103
          rw [if_neg (nI_nle (by omega) (by omega))]
          exact ⟨τ', s, _, own, rfl, rfl, z2.1, t3.trans y5⟩
        | false =>
          obtain ⟨s, z1, z2⟩ := b3 hb
          rw [z1, if_neg (by decide)]
          exact ⟨τ', s, _, own, rfl, rfl, z2.1, t3.trans y5⟩
/-- a word of a weight that has letters at the places -/
def dsg (q n v d : Nat) (pl : Int32) : Bool := decide (wway q n v 0 0 = d) && alls (fun i => keptAt pl i || decide (dg q n v i ≠ 0)) n
theorem X1_design {N x M p kd q n m c d : Nat} {pl : Int32} {own : Nat → Nat} {τ : SG} {st : MS} {w : Nat → Nat} (hN : 5000 ≤ N) (h : Ld x M own τ st p kd q n m w c) (hd : d < 2 ^ 30) : lp (f_X1_design_b78 N x (nI d) pl c τ) N (0, 0) = some (nI (cn (fun k => dsg q n (lw kd q n m w k) d pl) (szv kd q n m w))) := by
  have hL := h.2.2.2.2.2.2.2.1
  have hok := h.2.2.2.2.2.2.1
  have hn := hok.2.2.1
  have q5 := hok.1.2
  refine lp_0 (S := fun k => (nI (cn (fun k => dsg q n (lw kd q n m w k) d pl) k), nI k)) (szv kd q n m w) rfl (by omega) ?_ ?_
  · intro k hk
    have hw := wway_le q n (lw kd q n m w k) 0 0
    have inn : ∀ (y : Int32) (b : Bool), lp (f_X1_design_b123 N x (nI d) pl c y (nI k) τ) N (bI b, 0) = some (bI (b && alls (fun i => keptAt pl i || decide (dg q n (lw kd q n m w k) i ≠ 0)) n)) := by
      intro y b
      refine lp_0 (S := fun i => (bI (b && alls (fun i => keptAt pl i || decide (dg q n (lw kd q n m w k) i ≠ 0)) i), nI i)) n (by show _ = (bI (b && true), nI 0); rw [Bool.and_true]; rfl) (by omega) ?_ ?_
      · intro i hi
        have hdg := dg_lt hok.1 n (lw kd q n m w k) i
        unfold f_X1_design_b123 f_X1_design_j174
        dsimp only
        rw [h.cn, Option.bind_some, if_neg (nI_ge hi (by omega)), nI_1, alls, ← Bool.and_assoc]
        generalize (b && alls (fun i => keptAt pl i || decide (dg q n (lw kd q n m w k) i ≠ 0)) i) = B
        by_cases e : ((pl >>> (nI i &&& 31)) &&& (1 : Int32)) = 0
        · rw [if_pos e, show keptAt pl i = true from decide_eq_true e]
          show some (Sum.inl (bI B &&& bI true, nI (i + 1))) = _
          rw [bI_and]
          rfl
        · rw [if_neg e, show keptAt pl i = false from decide_eq_false e, h.cq, Option.bind_some, Option.bind_some, h.ws, Option.bind_some, h.wd hk, Option.bind_some, X1_letter (by omega) hok.1 hn (h.lt hk) hi, Option.bind_some]
          by_cases e2 : dg q n (lw kd q n m w k) i = 0
          · rw [if_pos (by rw [e2]; rfl), e2]
            show some (Sum.inl (bI B &&& bI false, nI (i + 1))) = _
            rw [bI_and]
            rfl
          · rw [if_neg (nI_ne0 (by omega) (by omega)), decide_eq_true e2]
            show some (Sum.inl (bI B &&& bI true, nI (i + 1))) = _
            rw [bI_and]
            rfl
      · unfold f_X1_design_b123
        dsimp only
        rw [h.cn, Option.bind_some, if_pos (nI_le (Nat.le_refl _) (by omega))]
    have j118 : ∀ b, f_X1_design_j118 N x (nI d) pl c τ (nI (cn (fun k => dsg q n (lw kd q n m w k) d pl) k)) (nI k) (bI b) = some (.inl (nI (cn (fun k => dsg q n (lw kd q n m w k) d pl) k + if (b && alls (fun i => keptAt pl i || decide (dg q n (lw kd q n m w k) i ≠ 0)) n) = true then 1 else 0), nI (k + 1))) := by
      intro b
      unfold f_X1_design_j118
      rw [inn, Option.bind_some, nI_1]
      cases (b && alls (fun i => keptAt pl i || decide (dg q n (lw kd q n m w k) i ≠ 0)) n) with
      | true => rw [if_neg (by decide), nI_1]; rfl
      | false => rw [if_pos (show bI false = 0 from rfl), nI_p0]; rfl
    unfold f_X1_design_b78
    dsimp only
    rw [h.wc, Option.bind_some, if_neg (nI_ge hk (by omega)), h.cq, Option.bind_some, h.cn, Option.bind_some, h.ws, Option.bind_some, h.wd hk, Option.bind_some, show (0 : Int64) = lN 0 from rfl, h.way hN hk (by decide), Option.bind_some, cn]
    unfold dsg at j118 ⊢
    by_cases e : wway q n (lw kd q n m w k) 0 0 = d
    · rw [if_pos (by rw [e]), show f_X1_design_j118 N x (nI d) pl c τ _ (nI k) 1 = _ from j118 true, decide_eq_true e]
    · rw [if_neg (by rw [nI_eq (by omega) (by omega)]; exact e), show f_X1_design_j118 N x (nI d) pl c τ _ (nI k) 0 = _ from j118 false, decide_eq_false e]
  · unfold f_X1_design_b78
    dsimp only
    rw [h.wc, Option.bind_some, if_pos (nI_le (Nat.le_refl _) (by omega))]
theorem X3_design {N x M p kd q n m c d : Nat} {pl : Int32} {own : Nat → Nat} {τ : SG} {st : MS} {w : Nat → Nat} (hN : 5000 ≤ N) (h : Ld x M own τ st p kd q n m w c) (hd : d < 2 ^ 30) : lp (f_X3_design_b69 N (nI p) (nI d) pl st) N (0, 0) = some (nI (cn (fun k => dsg q n (lw kd q n m w k) d pl) (szv kd q n m w))) := by
  have hL := h.2.2.2.2.2.2.2.1
  have hok := h.2.2.2.2.2.2.1
  have hn := hok.2.2.1
  have q5 := hok.1.2
  have hp := h.2.2.2.2.2.2.2.2
  have h3 := h.2.2.2.2.2.1.2.2.1
  refine lp_0 (S := fun k => (nI (cn (fun k => dsg q n (lw kd q n m w k) d pl) k), nI k)) (szv kd q n m w) rfl (by omega) ?_ ?_
  · intro k hk
    have hw := wway_le q n (lw kd q n m w k) 0 0
    have hwc : wway q n (lw kd q n m w k) 0 0 = cn (fun i => decide (dg q n (lw kd q n m w k) i ≠ 0)) n := cn_congr (fun i hi => by rw [kept0 i (by omega), dg_0, Bool.true_and])
    have inn : ∀ y : Int32, lp (f_X3_design_b87 N (nI p) (nI d) pl y (nI k) st) N (0, 1, 0) = some (nI (wway q n (lw kd q n m w k) 0 0), bI (alls (fun i => keptAt pl i || decide (dg q n (lw kd q n m w k) i ≠ 0)) n)) := by
      intro y
      rw [hwc]
      refine lp_0 (S := fun i => (nI (cn (fun i => decide (dg q n (lw kd q n m w k) i ≠ 0)) i), bI (alls (fun i => keptAt pl i || decide (dg q n (lw kd q n m w k) i ≠ 0)) i), nI i)) n rfl (by omega) ?_ ?_
      · intro i hi
        have hdg := dg_lt hok.1 n (lw kd q n m w k) i
        have j121 : ∀ k0 : Nat, f_X3_design_j121 N (nI p) (nI d) pl y (nI k) st (bI (alls (fun i => keptAt pl i || decide (dg q n (lw kd q n m w k) i ≠ 0)) i)) (nI i) (nI k0) (nI (cn (fun i => decide (dg q n (lw kd q n m w k) i ≠ 0)) i)) = some (.inl (nI (cn (fun i => decide (dg q n (lw kd q n m w k) i ≠ 0)) i + k0), bI (alls (fun i => keptAt pl i || decide (dg q n (lw kd q n m w k) i ≠ 0)) (i + 1)), nI (i + 1))) := by
          intro k0
          unfold f_X3_design_j121
          rw [nI_add, nI_1, alls]
          cases alls (fun i => keptAt pl i || decide (dg q n (lw kd q n m w k) i ≠ 0)) i with
          | false => rw [if_pos (show bI false = 0 from rfl), Bool.false_and]; rfl
          | true =>
            rw [if_neg (show ¬ bI true = 0 by decide), Bool.true_and]
            by_cases e : ((pl >>> (nI i &&& 31)) &&& (1 : Int32)) = 0
            · rw [if_pos e, show keptAt pl i = true from decide_eq_true e]
              rfl
            · rw [if_neg e, show keptAt pl i = false from decide_eq_false e, ix12, ald_N (show 12 * k + i < 49152 by omega) (by omega), Option.bind_some, h.2.2.1.2.2 k hk i hi]
              by_cases e2 : dg q n (lw kd q n m w k) i = 0
              · rw [if_pos (by rw [e2]; rfl), e2]
                rfl
              · rw [if_neg (nI_ne0 (by omega) (by omega)), decide_eq_true e2]
                rfl
        unfold f_X3_design_b87
        dsimp only
        rw [ald_N hp (by omega), Option.bind_some, h3, if_neg (nI_ge hi (by omega)), ix12, ald_N (show 12 * k + i < 49152 by omega) (by omega), Option.bind_some, h.2.2.1.2.2 k hk i hi, cn]
        by_cases e2 : dg q n (lw kd q n m w k) i = 0
        · rw [if_pos (by rw [e2]; rfl), show (0 : Int32) = nI 0 from rfl, j121, if_neg (by simp [e2])]
        · rw [if_neg (nI_ne0 (by omega) (by omega)), show (1 : Int32) = nI 1 from rfl, j121, if_pos (by simp [e2])]
      · unfold f_X3_design_b87
        dsimp only
        rw [ald_N hp (by omega), Option.bind_some, h3, if_pos (nI_le (Nat.le_refl _) (by omega))]
    have j183 : ∀ b, f_X3_design_j183 N (nI p) (nI d) pl st (nI (cn (fun k => dsg q n (lw kd q n m w k) d pl) k)) (nI k) (bI b) = some (.inl (nI (cn (fun k => dsg q n (lw kd q n m w k) d pl) k + if b = true then 1 else 0), nI (k + 1))) := by
      intro b
      unfold f_X3_design_j183
      rw [nI_1]
      cases b with
      | true => rw [if_neg (by decide), nI_1]; rfl
      | false => rw [if_pos (show bI false = 0 from rfl), nI_p0]; rfl
    unfold f_X3_design_b69
    dsimp only
    rw [h.2.2.1.1, if_neg (nI_ge hk (by omega)), inn, Option.bind_some, cn]
    dsimp only
    unfold dsg at j183 ⊢
    cases alls (fun i => keptAt pl i || decide (dg q n (lw kd q n m w k) i ≠ 0)) n with
    | false => rw [if_pos (show bI false = 0 from rfl), show f_X3_design_j183 N (nI p) (nI d) pl st _ (nI k) 0 = _ from j183 false, Bool.and_false]
    | true =>
      rw [if_neg (show ¬ bI true = 0 by decide), Bool.and_true]
      by_cases e : wway q n (lw kd q n m w k) 0 0 = d
      · rw [if_pos (by rw [e]), show f_X3_design_j183 N (nI p) (nI d) pl st _ (nI k) 1 = _ from j183 true, decide_eq_true e]
      · rw [if_neg (by rw [nI_eq (by omega) (by omega)]; exact e), show f_X3_design_j183 N (nI p) (nI d) pl st _ (nI k) 0 = _ from j183 false, decide_eq_false e]
  · unfold f_X3_design_b69
    dsimp only
    rw [h.2.2.1.1, if_pos (nI_le (Nat.le_refl _) (by omega))]
theorem op_design {N x M : Nat} {own : Nat → Nat} {σ : SG} {st : MS} (hN : 5000 ≤ N) (j : J x M own σ st) (a b c : Int32) : Ok x M σ (f_X1_design N σ x a b c) (f_X3_design N st a b c) := by
  unfold f_X1_design f_X3_design
  simp only [j.cc, Option.bind_some]
  rcases pl_cases j N a with h | ⟨p, hp, rfl, h, ⟨h2, -, h3⟩ | ⟨kd, q, n, m, w, cc, h2, h3, hok, hP, hX⟩⟩
  · rw [asks_no h, lacks_no h]
    exact Ok.nil j rfl rfl
  · rw [asks_none j h h2, lacks_none h h3]
    exact Ok.nil j rfl rfl
  · obtain ⟨A, x1, x2, x3, x4, C⟩ := id hX
    have hn := hok.2.2.1
    obtain ⟨w1, w2⟩ := two_le n (by omega)
    simp only [asks_0 j h h2, lacks_0 h h3, Option.bind_some, if_true, j.codes, h2, gI_of (k := 1) C.1 (cls_in kd) rfl, ald_N hp (show 12 < 2 ^ 31 by omega), hP.2.2.1, X3_isIn_eq, ps_l n (show n < 2 ^ 31 by omega), pow2_n n (show n < 13 by omega)]
    rw [show (0 : Int64) = lN 0 from rfl]
    rcases int_cases b 0 n (by omega) with ⟨d, d1, d2, rfl⟩ | hb
    · rw [isIn_yes (by omega) d1 d2, Option.bind_some, if_neg i10, Option.bind_some, if_neg i10]
      rcases int_cases c 0 (2 ^ n - 1) (by omega) with ⟨e, e1, e2, rfl⟩ | hc
      · rw [isIn_yes (by omega) e1 e2, Option.bind_some, if_neg i10, Option.bind_some, if_neg i10]
        rcases lays2 hN j hp h h2 hok hP hX with ⟨-, τ, st', t1, t2, t3, t4, t5⟩ | ⟨τ, st', t1, t2, t3, t4, hl⟩
        · rw [t2, t3]
          exact ⟨τ, st', _, own, rfl, rfl, t5, t4⟩
        · rw [t2, t3, Option.bind_some, Option.bind_some]
          dsimp only
          rw [if_neg i10, if_neg i10, X3_design hN hl (by omega), X1_design hN hl (by omega), Option.bind_some, Option.bind_some]
          exact ⟨τ, st', _, own, rfl, rfl, hl.1, t4⟩
      · rw [isIn_no (by omega) (by omega) hc]
        exact Ok.nil j rfl rfl
    · rw [isIn_no (by omega) (by omega) hb]
      exact Ok.nil j rfl rfl
