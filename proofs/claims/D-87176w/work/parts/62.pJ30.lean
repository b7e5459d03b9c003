/-! ===== PURE J30: least, whole ===== -/
set_option maxRecDepth 100000
/-- the least way among pairs, 0 without any -/
def isLP (q n : Nat) (W : Nat → Nat) (P : Nat → Nat → Prop) (r : Nat) : Prop := (r = 0 ∧ ∀ a b, ¬ P a b) ∨ (0 < r ∧ (∃ a b, P a b ∧ wway q n (W a) (W b) 0 = r) ∧ ∀ a b, P a b → r ≤ wway q n (W a) (W b) 0)
theorem isLP.eq {q n r s : Nat} {W : Nat → Nat} {P : Nat → Nat → Prop} (h : isLP q n W P r) (h2 : isLP q n W P s) : r = s := by
  rcases h with ⟨a1, a2⟩ | ⟨a1, ⟨a, b, a2, a3⟩, a4⟩
  · rcases h2 with ⟨b1, b2⟩ | ⟨b1, ⟨c, d, b2, b3⟩, b4⟩
    · omega
    · exact absurd b2 (a2 c d)
  · rcases h2 with ⟨b1, b2⟩ | ⟨b1, ⟨c, d, b2, b3⟩, b4⟩
    · exact absurd a2 (b2 a b)
    · have := a4 c d b2
      have := b4 a b a2
      omega
theorem isLP.congr {q n r : Nat} {W : Nat → Nat} {P P2 : Nat → Nat → Prop} (h : isLP q n W P r) (e : ∀ a b, P a b ↔ P2 a b) : isLP q n W P2 r := by
  rcases h with ⟨a1, a2⟩ | ⟨a1, ⟨a, b, a2, a3⟩, a4⟩
  · exact Or.inl ⟨a1, fun a b hh => a2 a b ((e a b).mpr hh)⟩
  · exact Or.inr ⟨a1, ⟨a, b, (e a b).mp a2, a3⟩, fun a b hh => a4 a b ((e a b).mpr hh)⟩
theorem isLP.add {q n r a b : Nat} {W : Nat → Nat} {P : Nat → Nat → Prop} (h : isLP q n W P r) (hd : 0 < wway q n (W a) (W b) 0) : isLP q n W (fun a' b' => P a' b' ∨ (a' = a ∧ b' = b)) (if r = 0 then wway q n (W a) (W b) 0 else if r ≤ wway q n (W a) (W b) 0 then r else wway q n (W a) (W b) 0) := by
  rcases h with ⟨a1, a2⟩ | ⟨a1, ⟨c, d, a2, a3⟩, a4⟩
  · rw [if_pos a1]
    refine Or.inr ⟨hd, ⟨a, b, Or.inr ⟨rfl, rfl⟩, rfl⟩, fun c d hh => ?_⟩
    rcases hh with hh | ⟨rfl, rfl⟩
    · exact absurd hh (a2 c d)
    · exact Nat.le_refl _
  · rw [if_neg (by omega)]
    by_cases e : r ≤ wway q n (W a) (W b) 0
    · rw [if_pos e]
      refine Or.inr ⟨a1, ⟨c, d, Or.inl a2, a3⟩, fun c d hh => ?_⟩
      rcases hh with hh | ⟨rfl, rfl⟩
      · exact a4 c d hh
      · exact e
    · rw [if_neg e]
      refine Or.inr ⟨hd, ⟨a, b, Or.inr ⟨rfl, rfl⟩, rfl⟩, fun c d hh => ?_⟩
      rcases hh with hh | ⟨rfl, rfl⟩
      · have := a4 c d hh; omega
      · exact Nat.le_refl _
/-- the pairs that are looked at -/
def prs (kd L : Nat) (a b : Nat) : Prop := b < a ∧ a < L ∧ (kd = 0 ∨ b = 0)
theorem ctf_iff {kd q n L w : Nat} {W : Nat → Nat} (hw : w < 13) : ctf kd q n W L w ≠ 0 ↔ ∃ i, i < L ∧ ∃ k, k < (if kd = 0 then L else 1) ∧ wway q n (W i) (W k) 0 = w := by
  rw [← cts_iff]
  unfold ctf
  generalize cts q n W (if kd = 0 then L else 1) L = ct
  split
  · rename_i e
    have h0 := of_decide_eq_true ((alls_iff _).mp e.2.2 w hw)
    dsimp only
    constructor
    · intro h1 h2
      rw [h2, Nat.zero_div] at h1
      exact h1 rfl
    · intro h1 h2
      have := Nat.div_add_mod (ct w) L
      rw [h0, h2, Nat.mul_zero] at this
      omega
  · exact Iff.rfl
theorem X1_leastOf {N x M p kd q n m c : Nat} {own : Nat → Nat} {τ : SG} {st : MS} {w : Nat → Nat} (hN : 5000 ≤ N) (h : Ld x M own τ st p kd q n m w c) : ∃ τ' r, f_X1_leastOf N τ x c = some (τ', nI r) ∧ r ≤ 12 ∧ isLP q n (lw kd q n m w) (prs kd (szv kd q n m w)) r ∧ Ld x M own τ' st p kd q n m w c ∧ KM M τ τ' := by
  have hL := h.2.2.2.2.2.2.2.1
  have hok := h.2.2.2.2.2.2.1
  have hn := hok.2.2.1
  obtain ⟨τ', a1, a2, a3, a4⟩ := X1_counts hN h
  have hsm : ∀ w2, ctf kd q n (lw kd q n m w) (szv kd q n m w) w2 < 2 ^ 62 := by
    intro w2
    have hh := cts_small (W := lw kd q n m w) hok hL w2
    unfold ctf
    generalize cts q n (lw kd q n m w) (if kd = 0 then szv kd q n m w else 1) (szv kd q n m w) = ct at hh ⊢
    split
    · exact Nat.lt_of_le_of_lt (Nat.div_le_self _ _) hh
    · exact hh
  have hiff : ∀ w2, w2 < 13 → (ctf kd q n (lw kd q n m w) (szv kd q n m w) w2 ≠ 0 ↔ _) := fun w2 hw => ctf_iff hw
  -- pairs and counts
  have h1 : ∀ w2, 0 < w2 → w2 < 13 → ctf kd q n (lw kd q n m w) (szv kd q n m w) w2 ≠ 0 → ∃ a b, prs kd (szv kd q n m w) a b ∧ wway q n (lw kd q n m w a) (lw kd q n m w b) 0 = w2 := by
    intro w2 w0 w13 hc
    obtain ⟨i, i1, k, k1, k2⟩ := (hiff w2 w13).mp hc
    have hik : i ≠ k := fun e => by rw [e, wway_self] at k2; omega
    by_cases e : kd = 0
    · rw [if_pos e] at k1
      rcases Nat.lt_or_ge k i with hlt | hge
      · exact ⟨i, k, ⟨hlt, i1, Or.inl e⟩, k2⟩
      · exact ⟨k, i, ⟨by omega, k1, Or.inl e⟩, by rw [wway_comm]; exact k2⟩
    · rw [if_neg e] at k1
      exact ⟨i, k, ⟨by omega, i1, Or.inr (by omega)⟩, k2⟩
  have h2 : ∀ a b, prs kd (szv kd q n m w) a b → ctf kd q n (lw kd q n m w) (szv kd q n m w) (wway q n (lw kd q n m w a) (lw kd q n m w b) 0) ≠ 0 ∧ 0 < wway q n (lw kd q n m w a) (lw kd q n m w b) 0 := by
    intro a b ⟨p1, p2, p3⟩
    have hw := wway_le q n (lw kd q n m w a) (lw kd q n m w b) 0
    refine ⟨(hiff _ (by omega)).mpr ⟨a, p2, b, ?_, rfl⟩, Nat.pos_of_ne_zero fun e => ?_⟩
    · split
      · omega
      · rcases p3 with p3 | p3 <;> omega
    · have := lw_inj hok p2 (by omega) (wway_eq hok.1 hn (lw_lt hok p2) (lw_lt hok (by omega)) e)
      omega
  generalize hct : ctf kd q n (lw kd q n m w) (szv kd q n m w) = ct at hsm a4 h1 h2
  have body : ∀ k, k < n → f_X1_leastOf_b7 N x c τ' (nI (k + 1)) = if ct (k + 1) = 0 then some (.inl (nI (k + 1 + 1))) else some (.inr (.inl (nI (k + 1)))) := by
    intro k hk
    unfold f_X1_leastOf_b7
    rw [a2.cn, Option.bind_some, if_neg (by rw [nI_ltI (by omega) (by omega)]; omega), a2.cs, Option.bind_some, a4.at (by omega), Option.bind_some, nI_1]
    by_cases e : ct (k + 1) = 0
    · rw [if_pos e, if_pos (by rw [e]; rfl)]
    · rw [if_neg e, if_neg (lN_ne0 (by omega) (by have := hsm (k + 1); omega))]
  unfold f_X1_leastOf
  rw [h.1.cc, Option.bind_some, a1, Option.bind_some]
  by_cases hex : ∃ k, k < n ∧ ct (k + 1) ≠ 0
  · obtain ⟨k, ⟨k1, k2⟩, hl⟩ := pk_least (fun k => k < n ∧ ct (k + 1) ≠ 0) hex
    rw [lp_0 (S := fun k => nI (k + 1)) (R := .inl (nI (k + 1))) (N := N) (s0 := (1 : Int32)) k rfl (by omega) (fun i hi => by rw [body i (by omega), if_pos (Classical.byContradiction fun hne => hl i hi ⟨by omega, hne⟩)]) (by rw [body k k1, if_neg k2]), Option.bind_some]
    refine ⟨τ', k + 1, rfl, by omega, Or.inr ⟨by omega, h1 (k + 1) (by omega) (by omega) k2, fun a b hab => ?_⟩, a2, a3⟩
    obtain ⟨z1, z2⟩ := h2 a b hab
    have hw := wway_le q n (lw kd q n m w a) (lw kd q n m w b) 0
    refine Nat.le_of_not_lt fun hlt => hl (wway q n (lw kd q n m w a) (lw kd q n m w b) 0 - 1) (by omega) ⟨by omega, ?_⟩
    rw [show wway q n (lw kd q n m w a) (lw kd q n m w b) 0 - 1 + 1 = wway q n (lw kd q n m w a) (lw kd q n m w b) 0 by omega]
    exact z1
  · rw [lp_0 (S := fun k => nI (k + 1)) (R := .inr ()) (N := N) (s0 := (1 : Int32)) n rfl (by omega) (fun i hi => by rw [body i (by omega), if_pos (Classical.byContradiction fun hne => hex ⟨i, hi, hne⟩)]) (by unfold f_X1_leastOf_b7; rw [a2.cn, Option.bind_some, if_pos (by rw [nI_ltI (by omega) (by omega)]; omega)]), Option.bind_some]
    refine ⟨τ', 0, rfl, by omega, Or.inl ⟨rfl, fun a b hab => ?_⟩, a2, a3⟩
    obtain ⟨z1, z2⟩ := h2 a b hab
    have hw := wway_le q n (lw kd q n m w a) (lw kd q n m w b) 0
    refine hex ⟨wway q n (lw kd q n m w a) (lw kd q n m w b) 0 - 1, by omega, ?_⟩
    rw [show wway q n (lw kd q n m w a) (lw kd q n m w b) 0 - 1 + 1 = wway q n (lw kd q n m w a) (lw kd q n m w b) 0 by omega]
    exact z1
theorem X3_leastOf {N x M p kd q n m c : Nat} {own : Nat → Nat} {τ : SG} {st : MS} {w : Nat → Nat} (hN : 5000 ≤ N) (h : Ld x M own τ st p kd q n m w c) : ∃ r, f_X3_leastOf N st (nI p) = some (nI r) ∧ r ≤ 12 ∧ isLP q n (lw kd q n m w) (prs kd (szv kd q n m w)) r := by
  have hL := h.2.2.2.2.2.2.2.1
  have hok := h.2.2.2.2.2.2.1
  have hn := hok.2.2.1
  have hp := h.2.2.2.2.2.2.2.2
  have hkd := hok.2.2.2.1
  have inner : ∀ a, a < szv kd q n m w → ∀ r, r ≤ 12 → isLP q n (lw kd q n m w) (prs kd a) r → ∃ z, lp (f_X3_leastOf_b15 N (nI p) (nI a) st) N (nI r, 0) = some z ∧ ∃ r', (z = .inl (nI r') ∨ z = .inr (nI r')) ∧ r' ≤ 12 ∧ isLP q n (lw kd q n m w) (prs kd (a + 1)) r' := by
    intro a ha r hr hlp
    have hT : (if kd = 0 then a else min a 1) ≤ a := by split <;> omega
    refine lp_inv0 (P := fun b (s : Int32 × Int32) => ∃ r, s = (nI r, nI b) ∧ r ≤ 12 ∧ isLP q n (lw kd q n m w) (fun a' b' => prs kd a a' b' ∨ (a' = a ∧ b' < b)) r) (Q := fun (z : Int32 ⊕ Int32) => ∃ r', (z = .inl (nI r') ∨ z = .inr (nI r')) ∧ r' ≤ 12 ∧ isLP q n (lw kd q n m w) (prs kd (a + 1)) r') (if kd = 0 then a else min a 1) (Nat.lt_of_le_of_lt hT (by omega)) ⟨r, rfl, hr, hlp.congr (fun a' b' => ⟨fun hh => Or.inl hh, fun hh => hh.elim id (fun hh => by omega)⟩)⟩ ?_ ?_
    · rintro b ⟨y, z⟩ hb ⟨r, e1, e2, e3⟩
      injection e1 with e1 e1'
      subst e1 e1'
      have hba : b < a := by split at hb <;> omega
      have hw := wway_le q n (lw kd q n m w a) (lw kd q n m w b) 0
      have hpos : 0 < wway q n (lw kd q n m w a) (lw kd q n m w b) 0 := Nat.pos_of_ne_zero fun e => by
        have := lw_inj hok ha (by omega) (wway_eq hok.1 hn (lw_lt hok ha) (lw_lt hok (by omega)) e)
        omega
      have j38 : f_X3_leastOf_j38 N (nI p) (nI a) st (nI r) (nI b) = some (.inl (nI (if r = 0 then wway q n (lw kd q n m w a) (lw kd q n m w b) 0 else if r ≤ wway q n (lw kd q n m w a) (lw kd q n m w b) 0 then r else wway q n (lw kd q n m w a) (lw kd q n m w b) 0), nI (b + 1))) := by
        unfold f_X3_leastOf_j38
        rw [X3_wayOfTwo hN hp hok.1 hn h.2.2.2.2.2.1.2.2.1 h.2.2.1 hL ha (by omega), Option.bind_some, nI_1]
        by_cases e0 : r = 0
        · rw [if_pos (by rw [e0]; rfl), if_pos e0]
        · rw [if_neg (nI_ne0 (by omega) (by omega)), if_neg e0]
          by_cases e4 : r ≤ wway q n (lw kd q n m w a) (lw kd q n m w b) 0
          · rw [if_pos (nI_le e4 (by omega)), if_pos e4]
          · rw [if_neg (nI_ge (by omega) (by omega)), if_neg e4]
      have hend := e3.add hpos
      unfold f_X3_leastOf_b15
      dsimp only
      rw [if_neg (nI_ge hba (by omega)), ald_N hp (by omega), Option.bind_some, h.2.2.2.2.2.1.1]
      have hgo : (if nI kd = 0 then f_X3_leastOf_j38 N (nI p) (nI a) st (nI r) (nI b) else if nI b ≤ 0 then f_X3_leastOf_j38 N (nI p) (nI a) st (nI r) (nI b) else some (.inr (.inl (nI r)))) = f_X3_leastOf_j38 N (nI p) (nI a) st (nI r) (nI b) := by
        by_cases e : kd = 0
        · rw [if_pos (show nI kd = 0 by rw [e]; rfl)]
        · rw [if_neg (nI_ne0 (by omega) (by omega)), if_pos]
          rw [if_neg e] at hb
          rw [show b = 0 by omega]
          decide
      rw [hgo, j38]
      refine ⟨_, rfl, _, rfl, by split <;> (try split) <;> omega, hend.congr (fun a' b' => ?_)⟩
      constructor
      · rintro ((hh | ⟨hh1, hh2⟩) | ⟨hh1, hh2⟩)
        · exact Or.inl hh
        · exact Or.inr ⟨hh1, by omega⟩
        · exact Or.inr ⟨hh1, by omega⟩
      · rintro (hh | ⟨hh1, hh2⟩)
        · exact Or.inl (Or.inl hh)
        · by_cases eb : b' = b
          · exact Or.inr ⟨hh1, eb⟩
          · exact Or.inl (Or.inr ⟨hh1, by omega⟩)
    · rintro ⟨y, z⟩ ⟨r, e1, e2, e3⟩
      injection e1 with e1 e1'
      subst e1 e1'
      have hQ : isLP q n (lw kd q n m w) (prs kd (a + 1)) r := e3.congr (fun a' b' => by
        unfold prs
        constructor
        · rintro (⟨p1, p2, p3⟩ | ⟨p1, p2⟩)
          · exact ⟨p1, by omega, p3⟩
          · split at p2
            · rename_i e
              exact ⟨by omega, by omega, Or.inl e⟩
            · exact ⟨by omega, by omega, Or.inr (by omega)⟩
        · rintro ⟨p1, p2, p3⟩
          by_cases ea : a' = a
          · refine Or.inr ⟨ea, ?_⟩
            split
            · omega
            · rcases p3 with p3 | p3
              · contradiction
              · omega
          · exact Or.inl ⟨p1, by omega, p3⟩)
      unfold f_X3_leastOf_b15
      dsimp only
      by_cases e : kd = 0
      · rw [if_pos e, if_pos (nI_le (Nat.le_refl _) (by omega))]
        exact ⟨_, rfl, r, Or.inr rfl, e2, hQ⟩
      · rw [if_neg e]
        by_cases ea : a ≤ 1
        · rw [if_pos (nI_le (by omega) (by omega))]
          exact ⟨_, rfl, r, Or.inr rfl, e2, hQ⟩
        · rw [if_neg (nI_ge (by omega) (by omega)), ald_N hp (by omega), Option.bind_some, h.2.2.2.2.2.1.1, if_neg (nI_ne0 (by omega) (by omega)), if_neg (by rw [show min a 1 = 1 by omega]; decide)]
          exact ⟨_, rfl, r, Or.inl rfl, e2, hQ⟩
  obtain ⟨z, a1, r, a2, a3, a4⟩ : ∃ z, lp (f_X3_leastOf_b4 N (nI p) st) N (0, 0) = some z ∧ ∃ r, z = nI r ∧ r ≤ 12 ∧ isLP q n (lw kd q n m w) (prs kd (szv kd q n m w)) r := by
    refine lp_inv0 (P := fun a (s : Int32 × Int32) => ∃ r, s = (nI r, nI a) ∧ r ≤ 12 ∧ isLP q n (lw kd q n m w) (prs kd a) r) (Q := fun z => ∃ r, z = nI r ∧ r ≤ 12 ∧ isLP q n (lw kd q n m w) (prs kd (szv kd q n m w)) r) (szv kd q n m w) (by omega) ⟨0, rfl, by omega, Or.inl ⟨rfl, fun a b hh => by unfold prs at hh; omega⟩⟩ ?_ ?_
    · rintro a ⟨y, z⟩ ha ⟨r, e1, e2, e3⟩
      injection e1 with e1 e1'
      subst e1 e1'
      obtain ⟨z, z1, r', z2, z3, z4⟩ := inner a ha r e2 e3
      unfold f_X3_leastOf_b4
      dsimp only
      rw [h.2.2.1.1, if_neg (nI_ge ha (by omega)), z1, Option.bind_some, nI_1]
      rcases z2 with rfl | rfl
      · exact ⟨_, rfl, r', rfl, z3, z4⟩
      · exact ⟨_, rfl, r', rfl, z3, z4⟩
    · rintro ⟨y, z⟩ ⟨r, e1, e2, e3⟩
      injection e1 with e1 e1'
      subst e1 e1'
      unfold f_X3_leastOf_b4
      dsimp only
      rw [h.2.2.1.1, if_pos (nI_le (Nat.le_refl _) (by omega))]
      exact ⟨_, rfl, r, rfl, e2, e3⟩
  unfold f_X3_leastOf
  rw [a1, Option.bind_some, a2]
  exact ⟨r, rfl, a3, a4⟩
/-- both sides -/
theorem least2 {N x M p kd q n m c : Nat} {own : Nat → Nat} {τ : SG} {st : MS} {w : Nat → Nat} (hN : 5000 ≤ N) (h : Ld x M own τ st p kd q n m w c) : ∃ τ' r, f_X1_leastOf N τ x c = some (τ', nI r) ∧ f_X3_leastOf N st (nI p) = some (nI r) ∧ r ≤ 12 ∧ Ld x M own τ' st p kd q n m w c ∧ KM M τ τ' := by
  obtain ⟨τ', r, a1, a2, a3, a4, a5⟩ := X1_leastOf hN h
  obtain ⟨r2, b1, b2, b3⟩ := X3_leastOf hN h
  have := a3.eq b3
  subst this
  exact ⟨τ', r, a1, b1, a2, a4, a5⟩
theorem op_least {N x M : Nat} {own : Nat → Nat} {σ : SG} {st : MS} (hN : 5000 ≤ N) (j : J x M own σ st) (a : Int32) : Ok x M σ (f_X1_least N σ x a) (f_X3_least N st a) := by
  unfold f_X1_least f_X3_least
  simp only [j.cc, Option.bind_some]
  rcases pl_cases j N a with h | ⟨p, hp, rfl, h, ⟨h2, -, h3⟩ | ⟨kd, q, n, m, w, cc, h2, h3, hok, hP, hX⟩⟩
  · unfold f_X1_whyWords
    rw [j.cc, Option.bind_some, asks_no h, lacks_no h]
    exact Ok.nil j rfl rfl
  · unfold f_X1_whyWords
    rw [j.cc, Option.bind_some, asks_none j h h2, lacks_none h h3]
    exact Ok.nil j rfl rfl
  · rw [lacks_0 h h3, Option.bind_some, if_pos rfl]
    rcases lays2 hN j hp h h2 hok hP hX with ⟨-, τ, st', t1, t2, t3, t4, t5⟩ | ⟨τ, st', t1, t2, t3, t4, hl⟩
    · rw [t1, t3]
      exact ⟨τ, st', _, own, rfl, rfl, t5, t4⟩
    · obtain ⟨τ', r, y1, y2, y3, y4, y5⟩ := least2 hN hl
      rw [t1, t3, Option.bind_some, Option.bind_some]
      dsimp only
      rw [if_neg i10, y2, Option.bind_some, if_pos rfl, hl.1.codes, Option.bind_some, hl.2.2.2.1, Option.bind_some, Option.bind_some, hl.1.cc, Option.bind_some, y1, Option.bind_some]
      exact ⟨τ', st', _, own, rfl, rfl, y4.1, t4.trans y5⟩
