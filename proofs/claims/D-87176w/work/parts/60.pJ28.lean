/-! ===== PURE J28: ways are counted ===== -/
set_option maxRecDepth 100000
def bump (c : Nat → Nat) (d : Nat) : Nat → Nat := fun w => if w = d then c w + 1 else c w
/-- ways from u to the first words -/
def ct1 (q n : Nat) (W : Nat → Nat) (u : Nat) (c : Nat → Nat) : Nat → (Nat → Nat)
  | 0 => c
  | b + 1 => bump (ct1 q n W u c b) (wway q n u (W b) 0)
def cts (q n : Nat) (W : Nat → Nat) (B : Nat) : Nat → (Nat → Nat)
  | 0 => fun _ => 0
  | a + 1 => ct1 q n W (W a) (cts q n W B a) B
theorem ct1_le {q n : Nat} {W c : Nat → Nat} {u w : Nat} : ∀ b, ct1 q n W u c b w ≤ c w + b
  | 0 => Nat.le_refl _
  | b + 1 => by
    have := ct1_le (q := q) (n := n) (W := W) (c := c) (u := u) (w := w) b
    rw [ct1]
    unfold bump
    split <;> omega
theorem cts_le {q n B : Nat} {W : Nat → Nat} {w : Nat} : ∀ a, cts q n W B a w ≤ a * B
  | 0 => Nat.zero_le _
  | a + 1 => by
    have h1 := cts_le (q := q) (n := n) (B := B) (W := W) (w := w) a
    have h2 := ct1_le (q := q) (n := n) (W := W) (c := cts q n W B a) (u := W a) (w := w) B
    rw [cts, Nat.succ_mul]
    omega
theorem ct1_0 {q n : Nat} {W c : Nat → Nat} {u w : Nat} (hw : n < w) (hc : c w = 0) : ∀ b, ct1 q n W u c b w = 0
  | 0 => hc
  | b + 1 => by
    have h1 := ct1_0 (q := q) (n := n) (W := W) (u := u) hw hc b
    have h2 := wway_le q n u (W b) 0
    rw [ct1]
    unfold bump
    rw [if_neg (by omega)]
    exact h1
theorem cts_0 {q n B : Nat} {W : Nat → Nat} {w : Nat} (hw : n < w) : ∀ a, cts q n W B a w = 0
  | 0 => rfl
  | a + 1 => ct1_0 hw (cts_0 hw a) B
theorem ct1_iff {q n : Nat} {W c : Nat → Nat} {u w : Nat} : ∀ b, ct1 q n W u c b w ≠ 0 ↔ c w ≠ 0 ∨ ∃ k, k < b ∧ wway q n u (W k) 0 = w
  | 0 => ⟨fun h => Or.inl h, fun h => h.elim id (fun ⟨k, h1, _⟩ => by omega)⟩
  | b + 1 => by
    have ih := ct1_iff (q := q) (n := n) (W := W) (c := c) (u := u) (w := w) b
    rw [ct1]
    unfold bump
    split
    · rename_i e
      exact ⟨fun _ => Or.inr ⟨b, by omega, e.symm⟩, fun _ => by omega⟩
    · rename_i e
      rw [ih]
      constructor
      · rintro (h | ⟨k, h1, h2⟩)
        · exact Or.inl h
        · exact Or.inr ⟨k, by omega, h2⟩
      · rintro (h | ⟨k, h1, h2⟩)
        · exact Or.inl h
        · refine Or.inr ⟨k, ?_, h2⟩
          by_cases ek : k = b
          · subst ek; exact absurd h2.symm e
          · omega
theorem cts_iff {q n B : Nat} {W : Nat → Nat} {w : Nat} : ∀ a, cts q n W B a w ≠ 0 ↔ ∃ i, i < a ∧ ∃ k, k < B ∧ wway q n (W i) (W k) 0 = w
  | 0 => ⟨fun h => absurd rfl h, fun ⟨i, h1, _⟩ => by omega⟩
  | a + 1 => by
    rw [cts, ct1_iff, cts_iff a]
    constructor
    · rintro (⟨i, h1, h2⟩ | ⟨k, h1, h2⟩)
      · exact ⟨i, by omega, h2⟩
      · exact ⟨a, by omega, k, h1, h2⟩
    · rintro ⟨i, h1, h2⟩
      by_cases e : i = a
      · subst e; exact Or.inr h2
      · exact Or.inl ⟨i, by omega, h2⟩
/-- what is counted in the end: by words, if that goes up -/
def ctf (kd q n : Nat) (W : Nat → Nat) (L : Nat) : Nat → Nat := if kd = 0 ∧ 0 < L ∧ alls (fun w => decide (cts q n W (if kd = 0 then L else 1) L w % L = 0)) 13 = true then fun w => cts q n W (if kd = 0 then L else 1) L w / L else cts q n W (if kd = 0 then L else 1) L
theorem alls_cut {t : Nat → Bool} {a b : Nat} (hab : a ≤ b) (h : ∀ k, a ≤ k → k < b → t k = true) : alls t b = alls t a := by
  have h1 : alls t b = true ↔ alls t a = true := by
    rw [alls_iff, alls_iff]
    constructor
    · exact fun hh k hk => hh k (by omega)
    · intro hh k hk
      by_cases e : k < a
      · exact hh k e
      · exact h k (by omega) hk
  cases ha : alls t a with
  | true => exact h1.mpr ha
  | false =>
    cases hb : alls t b with
    | false => rfl
    | true => rw [h1.mp hb] at ha; cases ha
/-- the counts of both sides -/
def xN (x : Nat) (σ : SG) (c : Nat → Nat) : Prop := ∃ g, σ.2 (x + 3) = some (eL 13 g) ∧ ∀ w, w < 13 → g w = lN (c w)
def mN (st : MS) (c : Nat → Nat) : Prop := ∀ w, w < 13 → st.2.1 14 w = lN (c w)
theorem Ld.cs {x M p kd q n m c : Nat} {own : Nat → Nat} {τ : SG} {st : MS} {w : Nat → Nat} (h : Ld x M own τ st p kd q n m w c) : gR [0] τ x 3 = some (x + 3) := by
  obtain ⟨-, ⟨⟨fh, h1⟩, -⟩, -⟩ := h
  exact gR_of h1 (by decide) rfl
theorem Ld.ct {x M p kd q n m c : Nat} {own : Nat → Nat} {τ : SG} {st : MS} {w : Nat → Nat} (h : Ld x M own τ st p kd q n m w c) (g : Nat → Int64) : Ld x M own (uC τ (x + 3) (eL 13 g)) st p kd q n m w c ∧ KM M τ (uC τ (x + 3) (eL 13 g)) := by
  obtain ⟨a1, ⟨⟨f2, a2⟩, g2, a3, a3'⟩, a4, a5, a6, a7⟩ := h
  obtain ⟨⟨j1, j2, j3, j4⟩, ⟨-, b2, b3, -⟩, -⟩ := id a1
  refine ⟨⟨a1.scr (Nat.le_refl _) (fun a ha _ _ e3 => uC_n e3) ⟨_, _, by rw [uC_n (by omega)]; exact a2⟩ (by rw [uC_n (by omega)]; exact b2) ⟨g, uC_s _ _ _⟩ (Mk.refl st), ⟨⟨f2, by rw [uC_n (by omega)]; exact a2⟩, g2, by rw [uC_n (by omega)]; exact a3, a3'⟩, a4, by rw [aQ_at (uC_n (by omega))]; exact a5, a6.keep (Nat.le_refl _) (fun a ha ho => ⟨uC_n (fun e => by have := j3 a (by omega) (by omega); omega), rfl⟩), a7⟩, Nat.le_refl _, fun a h1 h2 => uC_n (by omega)⟩
theorem Ld.line {N x M p kd q n m c : Nat} {own : Nat → Nat} {τ : SG} {st : MS} {w : Nat → Nat} (h : Ld x M own τ st p kd q n m w c) : iO [4, 5, 6] [3] τ (some c) = some (if kd = 0 then 0 else 1) := by
  obtain ⟨-, -, -, -, ⟨A, x1, x2, x3, x4, C⟩, -, hok, -⟩ := h
  exact isLine (N := N) C.1 hok.2.2.2.1
/-- one more way is counted -/
theorem xN.inc {x M p kd q n m c d : Nat} {own : Nat → Nat} {τ s : SG} {st : MS} {w cn : Nat → Nat} (h : Ld x M own s st p kd q n m w c) (hk : KM M τ s) (hc : xN x s cn) (hd : d < 13) : ∃ s', aL s (x + 3) (nI d) = some (lN (cn d)) ∧ wL s (x + 3) (nI d) (lN (cn d) + 1) = some s' ∧ Ld x M own s' st p kd q n m w c ∧ KM M τ s' ∧ xN x s' (bump cn d) := by
  obtain ⟨g, g1, g2⟩ := hc
  obtain ⟨k1, k2⟩ := h.ct (vp_updL g d (lN (cn d) + 1))
  refine ⟨_, by rw [aL_of g1 hd (by omega), g2 d hd], wL_of g1 hd (by omega), k1, hk.trans k2, _, uC_s _ _ _, fun w2 hw => ?_⟩
  unfold bump
  by_cases e : w2 = d
  · rw [e, pk_uLs, if_pos rfl, show (1 : Int64) = lN 1 from rfl, lN_add]
  · rw [pk_uLn e, if_neg e]; exact g2 w2 hw
theorem mN.inc {st s : MS} {cn : Nat → Nat} {d : Nat} (hk : Kp [] [14] [] st s) (hc : mN s cn) (hd : d < 13) : ∃ f, ald (s.2.1 14) 13 (nI d) = some (lN (cn d)) ∧ last (s.2.1 14) 13 (nI d) (lN (cn d) + 1) = some f ∧ Kp [] [14] [] st (sL s 14 f) ∧ mN (sL s 14 f) (bump cn d) := by
  refine ⟨_, by rw [ald_N hd (by omega), hc d hd], last_N hd (by omega), hk.sL (by decide) _, fun w2 hw => ?_⟩
  rw [sL_s]
  unfold bump
  by_cases e : w2 = d
  · rw [e, pk_uLs, if_pos rfl, show (1 : Int64) = lN 1 from rfl, lN_add]
  · rw [pk_uLn e, if_neg e]; exact hc w2 hw
theorem X1_counts0 {N x M p kd q n m c : Nat} {own : Nat → Nat} {τ : SG} {st : MS} {w : Nat → Nat} (hN : 5000 ≤ N) (h : Ld x M own τ st p kd q n m w c) : ∃ τ', lp (f_X1_counts_b2 N x c) N (0, τ) = some τ' ∧ Ld x M own τ' st p kd q n m w c ∧ KM M τ τ' ∧ xN x τ' (fun _ => 0) := by
  refine lp_inv0 (P := fun k (s : Int32 × SG) => s.1 = nI k ∧ Ld x M own s.2 st p kd q n m w c ∧ KM M τ s.2 ∧ ∃ g, s.2.2 (x + 3) = some (eL 13 g) ∧ ∀ w, w < k → g w = lN 0) (Q := fun (s : SG) => Ld x M own s st p kd q n m w c ∧ KM M τ s ∧ xN x s (fun _ => 0)) 13 (by omega) ?_ ?_ ?_
  · obtain ⟨g, hg⟩ := h.1.2.1.2.2.1
    exact ⟨rfl, h, KM.refl _ _, g, hg, fun w hw => by omega⟩
  · rintro k ⟨y, s⟩ hk ⟨e1, e2, e3, g, e4, e5⟩
    dsimp only at e1 e2 e3 e4
    subst e1
    unfold f_X1_counts_b2
    dsimp only
    rw [if_neg (by rw [show (12 : Int32) = nI 12 from rfl, nI_ltI (by omega) (by omega)]; omega), e2.cs, Option.bind_some, wL_of e4 hk (by omega), Option.bind_some, nI_1]
    obtain ⟨k1, k2⟩ := e2.ct (vp_updL g k 0)
    refine ⟨_, rfl, rfl, k1, e3.trans k2, _, uC_s _ _ _, fun w2 hw => ?_⟩
    by_cases e : w2 = k
    · rw [e, pk_uLs]; rfl
    · rw [pk_uLn e]; exact e5 w2 (by omega)
  · rintro ⟨y, s⟩ ⟨e1, e2, e3, g, e4, e5⟩
    dsimp only at e1 e2 e3 e4
    subst e1
    unfold f_X1_counts_b2
    dsimp only
    rw [if_pos (by rw [show (12 : Int32) = nI 12 from rfl, nI_ltI (by omega) (by omega)]; omega)]
    exact ⟨_, rfl, e2, e3, g, e4, e5⟩
/-- of a line -/
theorem X1_countsL {N x M p kd q n m c : Nat} {own : Nat → Nat} {τ : SG} {st : MS} {w : Nat → Nat} (hN : 5000 ≤ N) (h : Ld x M own τ st p kd q n m w c) (hk0 : kd ≠ 0) (hc : xN x τ (fun _ => 0)) : ∃ τ', lp (f_X1_counts_b30 N x c) N (0, τ) = some τ' ∧ Ld x M own τ' st p kd q n m w c ∧ KM M τ τ' ∧ xN x τ' (cts q n (lw kd q n m w) 1 (szv kd q n m w)) := by
  have hL := h.2.2.2.2.2.2.2.1
  have hok := h.2.2.2.2.2.2.1
  have hn := hok.2.2.1
  refine lp_inv0 (P := fun k (s : Int32 × SG) => s.1 = nI k ∧ Ld x M own s.2 st p kd q n m w c ∧ KM M τ s.2 ∧ xN x s.2 (cts q n (lw kd q n m w) 1 k)) (Q := fun (s : SG) => Ld x M own s st p kd q n m w c ∧ KM M τ s ∧ xN x s (cts q n (lw kd q n m w) 1 (szv kd q n m w))) (szv kd q n m w) (by omega) ⟨rfl, h, KM.refl _ _, hc⟩ ?_ ?_
  · rintro k ⟨y, s⟩ hk ⟨e1, e2, e3, e4⟩
    dsimp only at e1 e2 e3 e4
    subst e1
    have hw := wway_le q n (lw kd q n m w k) 0 0
    obtain ⟨s', b1, b2, b3, b4, b5⟩ := xN.inc (d := wway q n (lw kd q n m w k) 0 0) e2 e3 e4 (by omega)
    unfold f_X1_counts_b30
    dsimp only
    rw [e2.wc, Option.bind_some, if_neg (nI_ge hk (by omega)), e2.cs, Option.bind_some, e2.cq, Option.bind_some, e2.cn, Option.bind_some, e2.ws, Option.bind_some, e2.wd hk, Option.bind_some, show (0 : Int64) = lN 0 from rfl, e2.way hN hk (by decide), Option.bind_some, b1, Option.bind_some, b2, Option.bind_some, nI_1]
    refine ⟨_, rfl, rfl, b3, b4, ?_⟩
    dsimp only
    rw [cts, ct1, ct1, lw_0 hok.1 hk0]
    exact b5
  · rintro ⟨y, s⟩ ⟨e1, e2, e3, e4⟩
    dsimp only at e1 e2 e3 e4
    subst e1
    unfold f_X1_counts_b30
    dsimp only
    rw [e2.wc, Option.bind_some, if_pos (nI_le (Nat.le_refl _) (by omega))]
    exact ⟨_, rfl, e2, e3, e4⟩
/-- of listed words -/
theorem X1_countsN {N x M p kd q n m c : Nat} {own : Nat → Nat} {τ : SG} {st : MS} {w : Nat → Nat} (hN : 5000 ≤ N) (h : Ld x M own τ st p kd q n m w c) (hc : xN x τ (fun _ => 0)) : ∃ τ', lp (f_X1_counts_b75 N x c) N (0, τ) = some τ' ∧ Ld x M own τ' st p kd q n m w c ∧ KM M τ τ' ∧ xN x τ' (cts q n (lw kd q n m w) (szv kd q n m w) (szv kd q n m w)) := by
  have hL := h.2.2.2.2.2.2.2.1
  have hok := h.2.2.2.2.2.2.1
  have hn := hok.2.2.1
  refine lp_inv0 (P := fun k (s : Int32 × SG) => s.1 = nI k ∧ Ld x M own s.2 st p kd q n m w c ∧ KM M τ s.2 ∧ xN x s.2 (cts q n (lw kd q n m w) (szv kd q n m w) k)) (Q := fun (s : SG) => Ld x M own s st p kd q n m w c ∧ KM M τ s ∧ xN x s (cts q n (lw kd q n m w) (szv kd q n m w) (szv kd q n m w))) (szv kd q n m w) (by omega) ⟨rfl, h, KM.refl _ _, hc⟩ ?_ ?_
  · rintro a ⟨y, s⟩ ha ⟨e1, e2, e3, e4⟩
    dsimp only at e1 e2 e3 e4
    subst e1
    obtain ⟨s', z1, z2, z3, z4⟩ : ∃ s', lp (f_X1_counts_b85 N x c (nI a)) N (0, s) = some s' ∧ Ld x M own s' st p kd q n m w c ∧ KM M τ s' ∧ xN x s' (ct1 q n (lw kd q n m w) (lw kd q n m w a) (cts q n (lw kd q n m w) (szv kd q n m w) a) (szv kd q n m w)) := by
      refine lp_inv0 (P := fun k (s : Int32 × SG) => s.1 = nI k ∧ Ld x M own s.2 st p kd q n m w c ∧ KM M τ s.2 ∧ xN x s.2 (ct1 q n (lw kd q n m w) (lw kd q n m w a) (cts q n (lw kd q n m w) (szv kd q n m w) a) k)) (Q := fun (s : SG) => Ld x M own s st p kd q n m w c ∧ KM M τ s ∧ xN x s (ct1 q n (lw kd q n m w) (lw kd q n m w a) (cts q n (lw kd q n m w) (szv kd q n m w) a) (szv kd q n m w))) (szv kd q n m w) (by omega) ⟨rfl, e2, e3, e4⟩ ?_ ?_
      · rintro k ⟨y, s⟩ hk ⟨e1, e2, e3, e4⟩
        dsimp only at e1 e2 e3 e4
        subst e1
        have hw := wway_le q n (lw kd q n m w a) (lw kd q n m w k) 0
        obtain ⟨s', b1, b2, b3, b4, b5⟩ := xN.inc (d := wway q n (lw kd q n m w a) (lw kd q n m w k) 0) e2 e3 e4 (by omega)
        unfold f_X1_counts_b85
        dsimp only
        rw [e2.wc, Option.bind_some, if_neg (nI_ge hk (by omega)), e2.cs, Option.bind_some, e2.cq, Option.bind_some, e2.cn, Option.bind_some, e2.ws, Option.bind_some, e2.wd ha, Option.bind_some, Option.bind_some, e2.wd hk, Option.bind_some, e2.way hN ha (e2.lt hk), Option.bind_some, b1, Option.bind_some, b2, Option.bind_some, nI_1]
        exact ⟨_, rfl, rfl, b3, b4, b5⟩
      · rintro ⟨y, s⟩ ⟨e1, e2, e3, e4⟩
        dsimp only at e1 e2 e3 e4
        subst e1
        unfold f_X1_counts_b85
        dsimp only
        rw [e2.wc, Option.bind_some, if_pos (nI_le (Nat.le_refl _) (by omega))]
        exact ⟨_, rfl, e2, e3, e4⟩
    unfold f_X1_counts_b75
    dsimp only
    rw [e2.wc, Option.bind_some, if_neg (nI_ge ha (by omega)), z1, Option.bind_some, nI_1]
    exact ⟨_, rfl, rfl, z2, z3, z4⟩
  · rintro ⟨y, s⟩ ⟨e1, e2, e3, e4⟩
    dsimp only at e1 e2 e3 e4
    subst e1
    unfold f_X1_counts_b75
    dsimp only
    rw [e2.wc, Option.bind_some, if_pos (nI_le (Nat.le_refl _) (by omega))]
    exact ⟨_, rfl, e2, e3, e4⟩
/-- by words -/
theorem X1_countsD {N x M p kd q n m c : Nat} {own : Nat → Nat} {τ : SG} {st : MS} {w ct : Nat → Nat} (hN : 5000 ≤ N) (h : Ld x M own τ st p kd q n m w c) (hb : ∀ w, ct w < 2 ^ 62) (h0 : ∀ w, n < w → ct w = 0) (hc : xN x τ ct) : ∃ τ', f_X1_counts_j150 N x c (bI (decide (0 < szv kd q n m w))) τ = some τ' ∧ Ld x M own τ' st p kd q n m w c ∧ KM M τ τ' ∧ xN x τ' (if 0 < szv kd q n m w ∧ alls (fun w2 => decide (ct w2 % szv kd q n m w = 0)) 13 = true then fun w2 => ct w2 / szv kd q n m w else ct) := by
  have hL := h.2.2.2.2.2.2.2.1
  have hok := h.2.2.2.2.2.2.1
  have hn := hok.2.2.1
  obtain ⟨g, g1, g2⟩ := id hc
  unfold f_X1_counts_j150
  by_cases e : 0 < szv kd q n m w
  · have h1 : lp (f_X1_counts_b153 N x c τ) N (bI (decide (0 < szv kd q n m w)), 0) = some (bI (alls (fun w2 => decide (ct w2 % szv kd q n m w = 0)) (n + 1))) := by
      rw [lp_all (S := fun k => (bI (alls (fun w2 => decide (ct w2 % szv kd q n m w = 0)) k), nI k)) (t := fun k => alls (fun w2 => decide (ct w2 % szv kd q n m w = 0)) k) (R1 := 0) (R2 := bI (alls (fun w2 => decide (ct w2 % szv kd q n m w = 0)) (n + 1))) (N := N) (s0 := (bI (decide (0 < szv kd q n m w)), 0)) (n + 1) (by rw [decide_eq_true e]; rfl) (by omega) ?_ ?_]
      · cases hb2 : alls (fun w2 => decide (ct w2 % szv kd q n m w = 0)) (n + 1) with
        | true =>
          rw [if_pos ((alls_iff _).mpr fun k hk => (alls_iff _).mpr fun k2 hk2 => (alls_iff _).mp hb2 k2 (by omega))]
        | false => split <;> rfl
      · intro k hk
        unfold f_X1_counts_b153
        dsimp only
        rw [h.cn, Option.bind_some, if_neg (by rw [nI_ltI (by omega) (by omega)]; omega)]
        cases hb2 : alls (fun w2 => decide (ct w2 % szv kd q n m w = 0)) k with
        | false => rw [if_pos (show bI false = 0 from rfl), if_neg (by decide)]; rfl
        | true =>
          rw [if_neg (show ¬ bI true = 0 by decide), if_pos rfl, h.cs, Option.bind_some, aL_of g1 (show k < 13 by omega) (by omega), Option.bind_some, g2 k (by omega), h.wc, Option.bind_some, ps_l _ (by omega), lrem_N (by have := hb k; omega) e (by omega), Option.bind_some, nI_1]
          have hm := Nat.mod_lt (ct k) e
          by_cases e2 : ct k % szv kd q n m w = 0
          · rw [if_pos (by rw [e2]; rfl), alls, hb2, decide_eq_true e2]; rfl
          · rw [if_neg (lN_ne0 (by omega) (by omega)), alls, hb2, decide_eq_false e2]; rfl
      · unfold f_X1_counts_b153
        dsimp only
        rw [h.cn, Option.bind_some, if_pos (by rw [nI_ltI (by omega) (by omega)]; omega)]
    have h13 : alls (fun w2 => decide (ct w2 % szv kd q n m w = 0)) 13 = alls (fun w2 => decide (ct w2 % szv kd q n m w = 0)) (n + 1) := alls_cut (by omega) (fun k k1 k2 => decide_eq_true (by rw [h0 k (by omega), Nat.zero_mod]))
    rw [h1, Option.bind_some, h13]
    cases hb2 : alls (fun w2 => decide (ct w2 % szv kd q n m w = 0)) (n + 1) with
    | false =>
      rw [if_neg (fun hh => absurd hh.2 (by decide)), lp_0 (S := fun _ => ((0 : Int32), τ)) (R := τ) (N := N) (s0 := (0, τ)) 0 rfl (by omega) (fun k hk => by omega) ?_, Option.bind_some]
      · exact ⟨τ, rfl, h, KM.refl _ _, hc⟩
      · unfold f_X1_counts_b196
        dsimp only
        rw [h.cn, Option.bind_some, if_neg (by rw [show (0 : Int32) = nI 0 from rfl, nI_ltI (by omega) (by omega)]; omega), if_pos (show bI false = 0 from rfl)]
    | true =>
      rw [if_pos ⟨e, rfl⟩]
      obtain ⟨τ', z1, z2, z3, z4⟩ : ∃ τ', lp (f_X1_counts_b196 N x c (bI true)) N (0, τ) = some τ' ∧ Ld x M own τ' st p kd q n m w c ∧ KM M τ τ' ∧ xN x τ' (fun w2 => ct w2 / szv kd q n m w) := by
        refine lp_inv0 (P := fun k (s : Int32 × SG) => s.1 = nI k ∧ Ld x M own s.2 st p kd q n m w c ∧ KM M τ s.2 ∧ xN x s.2 (fun w2 => if w2 < k then ct w2 / szv kd q n m w else ct w2)) (Q := fun (s : SG) => Ld x M own s st p kd q n m w c ∧ KM M τ s ∧ xN x s (fun w2 => ct w2 / szv kd q n m w)) (n + 1) (by omega) ⟨rfl, h, KM.refl _ _, g, g1, fun w2 hw => by dsimp only; rw [if_neg (by omega)]; exact g2 w2 hw⟩ ?_ ?_
        · rintro k ⟨y, s⟩ hk ⟨e1, e2, e3, gs, e4, e5⟩
          dsimp only at e1 e2 e3 e4 e5
          subst e1
          unfold f_X1_counts_b196
          dsimp only
          have e5k := e5 k (by omega)
          rw [if_neg (by omega)] at e5k
          rw [e2.cn, Option.bind_some, if_neg (by rw [nI_ltI (by omega) (by omega)]; omega), if_neg (show ¬ bI true = 0 by decide), e2.cs, Option.bind_some, aL_of e4 (show k < 13 by omega) (by omega), Option.bind_some, e5k, e2.wc, Option.bind_some, ps_l _ (by omega), ldiv_N (by have := hb k; omega) e (by omega), Option.bind_some, wL_of e4 (show k < 13 by omega) (by omega), Option.bind_some, nI_1]
          obtain ⟨k1, k2⟩ := e2.ct (vp_updL gs k (lN (ct k / szv kd q n m w)))
          refine ⟨_, rfl, rfl, k1, e3.trans k2, _, uC_s _ _ _, fun w2 hw => ?_⟩
          dsimp only
          by_cases ew : w2 = k
          · rw [ew, pk_uLs, if_pos (by omega)]
          · rw [pk_uLn ew, e5 w2 hw]
            by_cases el : w2 < k
            · rw [if_pos el, if_pos (by omega)]
            · rw [if_neg el, if_neg (by omega)]
        · rintro ⟨y, s⟩ ⟨e1, e2, e3, gs, e4, e5⟩
          dsimp only at e1 e2 e3 e4 e5
          subst e1
          unfold f_X1_counts_b196
          dsimp only
          rw [e2.cn, Option.bind_some, if_pos (by rw [nI_ltI (by omega) (by omega)]; omega)]
          refine ⟨_, rfl, e2, e3, gs, e4, fun w2 hw => ?_⟩
          rw [e5 w2 hw]
          dsimp only
          by_cases el : w2 < n + 1
          · rw [if_pos el]
          · rw [if_neg el, h0 w2 (by omega), Nat.zero_div]
      rw [z1, Option.bind_some]
      exact ⟨τ', rfl, z2, z3, z4⟩
  · rw [decide_eq_false e, if_neg (fun hh => e hh.1), lp_0 (S := fun _ => ((0 : Int32), (0 : Int32))) (R := 0) (N := N) (s0 := (bI false, 0)) 0 rfl (by omega) (fun k hk => by omega) ?_, Option.bind_some, lp_0 (S := fun _ => ((0 : Int32), τ)) (R := τ) (N := N) (s0 := (0, τ)) 0 rfl (by omega) (fun k hk => by omega) ?_, Option.bind_some]
    · exact ⟨τ, rfl, h, KM.refl _ _, hc⟩
    · unfold f_X1_counts_b196
      dsimp only
      rw [h.cn, Option.bind_some, if_neg (by rw [show (0 : Int32) = nI 0 from rfl, nI_ltI (by omega) (by omega)]; omega), if_pos rfl]
    · unfold f_X1_counts_b153
      dsimp only
      rw [h.cn, Option.bind_some, if_neg (by rw [show (0 : Int32) = nI 0 from rfl, nI_ltI (by omega) (by omega)]; omega), if_pos rfl]
theorem cts_small {kd q n m : Nat} {w W : Nat → Nat} (hok : okc kd q n m w) (hL : szv kd q n m w ≤ 4096) : ∀ w2, cts q n W (if kd = 0 then szv kd q n m w else 1) (szv kd q n m w) w2 < 2 ^ 62 := by
  intro w2
  have h1 := cts_le (q := q) (n := n) (B := if kd = 0 then szv kd q n m w else 1) (W := W) (w := w2) (szv kd q n m w)
  have h2 : szv kd q n m w * (if kd = 0 then szv kd q n m w else 1) ≤ 4096 * 4096 := Nat.mul_le_mul hL (by split <;> omega)
  omega
theorem X1_counts {N x M p kd q n m c : Nat} {own : Nat → Nat} {τ : SG} {st : MS} {w : Nat → Nat} (hN : 5000 ≤ N) (h : Ld x M own τ st p kd q n m w c) : ∃ τ', f_X1_counts N τ x c = some τ' ∧ Ld x M own τ' st p kd q n m w c ∧ KM M τ τ' ∧ xN x τ' (ctf kd q n (lw kd q n m w) (szv kd q n m w)) := by
  have hL := h.2.2.2.2.2.2.2.1
  have hok := h.2.2.2.2.2.2.1
  have hsm := cts_small (W := lw kd q n m w) hok hL
  obtain ⟨t1, a1, a2, a3, a4⟩ := X1_counts0 hN h
  unfold f_X1_counts ctf
  rw [a1, Option.bind_some, a2.line (N := N), Option.bind_some]
  by_cases e : kd = 0
  · rw [if_pos e] at hsm
    obtain ⟨t2, b1, b2, b3, b4⟩ := X1_countsN hN a2 a4
    obtain ⟨t3, c1, c2, c3, c4⟩ := X1_countsD hN b2 hsm (fun w2 hw => cts_0 hw _) b4
    rw [if_pos e, if_pos rfl, b1, Option.bind_some, b2.wc, Option.bind_some]
    have hj : (if nI (szv kd q n m w) ≤ 0 then f_X1_counts_j150 N x c 0 t2 else f_X1_counts_j150 N x c 1 t2) = some t3 := by
      by_cases e0 : 0 < szv kd q n m w
      · rw [if_neg (nI_nle e0 (by omega))]
        rw [decide_eq_true e0] at c1
        exact c1
      · rw [if_pos (by rw [show szv kd q n m w = 0 by omega]; decide)]
        rw [decide_eq_false e0] at c1
        exact c1
    rw [hj]
    refine ⟨t3, rfl, c2, (a3.trans b3).trans c3, ?_⟩
    simp only [e, if_true, true_and] at c4 ⊢
    exact c4
  · obtain ⟨t2, b1, b2, b3, b4⟩ := X1_countsL hN a2 e a4
    rw [if_neg e, if_neg i10, b1, Option.bind_some, if_neg (fun hh => e hh.1), if_neg e]
    exact ⟨t2, rfl, b2, a3.trans b3, b4⟩
