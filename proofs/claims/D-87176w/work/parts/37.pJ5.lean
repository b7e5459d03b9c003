/-! ===== PURE J5: empty, add ===== -/
set_option maxRecDepth 100000
/-- only cells of the place t changed -/
theorem J.inpl {x M t : Nat} {own : Nat → Nat} {σ σ' : SG} {st st' : MS} (j : J x M own σ st) (h1 : σ.1 ≤ σ'.1) (h2 : ∀ a, a < σ.1 → own a ≠ 1 + t → σ'.2 a = σ.2 a) (hv : ∀ v, aQ 3 σ (x + 1) (nI t) = some v → pRel σ' own st' t v) (ht : t < 12) (hMp : Mp st st' t) : J x M own σ' st' ∧ KM M σ σ' := by
  obtain ⟨⟨a1, a2, a3, a4⟩, ⟨b1, b2, b3, ⟨mc, b4⟩, ⟨g5, b5, b6⟩⟩, ⟨g, c1, c2⟩, d1⟩ := j
  have k0 : ∀ a, x ≤ a → a < x + 12 → σ'.2 a = σ.2 a := fun a h3 h4 => h2 a (by omega) (by rw [a3 a h3 h4]; omega)
  have hs := @shA_in x
  refine ⟨⟨⟨a1, by omega, a3, a4⟩, ⟨by rw [k0 _ (by omega) (by omega)]; exact b1, by rw [k0 _ (by omega) (by omega)]; exact b2, by rw [k0 _ (by omega) (by omega)]; exact b3, ⟨mc, by rw [k0 _ (by omega) (by omega)]; exact b4⟩, ⟨g5, by rw [k0 _ (by omega) (by omega)]; exact b5, b6⟩⟩, ⟨g, by rw [k0 _ (by omega) (by omega)]; exact c1, fun p hp => ?_⟩, fun d hd => ?_⟩, ⟨h1, fun a h3 h4 => h2 a (by omega) (by rw [a4 a h3 h4]; omega)⟩⟩
  · by_cases e : p = t
    · subst e
      exact hv _ (aQ_of c1 ht (by omega))
    · exact (c2 p hp).keep h1 (fun a ha ho => ⟨h2 a ha (by omega), rfl⟩) (hMp.1 p hp e)
  · obtain ⟨v, e1, e2⟩ := d1 d hd
    obtain ⟨m6, m7, m8, m9, m10⟩ := hMp.2
    have := hs hd
    exact ⟨v, by rw [k0 _ (by omega) (by omega)]; exact e1, e2.keep h1 (fun a ha ho => ⟨h2 a ha (by omega), rfl⟩) ⟨by rw [m6], by rw [m7], by rw [m8], by rw [m9], fun k _ => by rw [m10]⟩⟩
theorem empty_do {N x M t : Nat} {own : Nat → Nat} {σ : SG} {st : MS} (j : J x M own σ st) (ht : t < 12) (r : Int32) : Ok x M σ (f_X1_empty_j23 N x (nI t) r σ) (f_X3_empty_j22 N (nI t) r st) := by
  unfold f_X1_empty_j23 f_X3_empty_j22
  have jc := j.codes
  obtain ⟨⟨a1, a2, a3, a4⟩, ⟨b1, b2, b3, ⟨mc, b4⟩, ⟨g5, b5, b6⟩⟩, ⟨g, c1, c2⟩, d1⟩ := j
  rw [jc, Option.bind_some, wQ_of c1 (show okQ 3 σ none = true from rfl) ht (by omega), Option.bind_some, iast_N ht (by omega), Option.bind_some]
  have hs := @shA_in x
  refine ⟨_, _, r, own, rfl, rfl, ⟨⟨a1, a2, a3, a4⟩, ⟨by rw [uC_n (by omega)]; exact b1, by rw [uC_n (by omega)]; exact b2, by rw [uC_n (by omega)]; exact b3, ⟨mc, by rw [uC_n (by omega)]; exact b4⟩, ⟨g5, by rw [uC_n (by omega)]; exact b5, b6⟩⟩, ⟨_, uC_s _ _ _, fun p hp => ?_⟩, fun d hd => ?_⟩, ⟨Nat.le_refl _, fun a h3 h4 => uC_n (by omega)⟩⟩
  · by_cases e : p = t
    · subst e
      rw [up_s]
      exact Or.inl ⟨rfl, by rw [sI_s, up_s']⟩
    · rw [up_n e]
      refine (c2 p hp).keep (Nat.le_refl _) (fun a ha ho => ⟨uC_n (fun e2 => ?_), rfl⟩) ⟨by rw [sI_s, up_n' e], by rw [sI_n (by decide)], by rw [sI_n (by decide)], by rw [sI_n (by decide)], fun k _ => rfl⟩
      have := a3 a (by omega) (by omega)
      omega
  · obtain ⟨v, e1, e2⟩ := d1 d hd
    have := hs hd
    refine ⟨v, by rw [uC_n (by omega)]; exact e1, e2.keep (Nat.le_refl _) (fun a ha ho => ⟨uC_n (fun e2 => ?_), rfl⟩) ⟨by rw [sI_n (by decide)], by rw [sI_n (by decide)], by rw [sI_n (by decide)], by rw [sI_n (by decide)], fun k _ => rfl⟩⟩
    have := a3 a (by omega) (by omega)
    omega
theorem op_empty {N x M : Nat} {own : Nat → Nat} {σ : SG} {st : MS} (j : J x M own σ st) (a : Int32) : Ok x M σ (f_X1_empty N σ x a) (f_X3_empty N st a) := by
  unfold f_X1_empty f_X3_empty
  simp only [X3_isPlace_eq]
  rcases pl_cases j N a with h | ⟨p, hp, rfl, h, ⟨h2, -, h3⟩ | ⟨kd, q, n, m, w, c, h2, h3, -⟩⟩
  · simp only [h, Option.bind_some, if_true]
    exact Ok.nil j rfl rfl
  · simp only [h, Option.bind_some, i10, if_false, j.codes, h2, h3]
    exact empty_do j hp 0
  · simp only [h, Option.bind_some, i10, if_false, j.codes, h2, h3, if_true]
    exact empty_do j hp 1
/-! is a word there? -/
def bI (b : Bool) : Int32 := if b = true then 1 else 0
theorem bI_or (a b : Bool) : bI a ||| bI b = bI (a || b) := by cases a <;> cases b <;> decide
theorem bI_and (a b : Bool) : bI a &&& bI b = bI (a && b) := by cases a <;> cases b <;> decide
theorem rz_b (b : Bool) : rz (bI b) = some (bI b) := by cases b <;> rfl
theorem bI_0 (b : Bool) : (bI b = 0) = (b = false) := by cases b <;> simp [bI]
def fnd (w : Nat → Nat) (v : Nat) : Nat → Bool
  | 0 => false
  | k + 1 => fnd w v k || decide (w k = v)
theorem fnd_iff {w : Nat → Nat} {v : Nat} : ∀ m, fnd w v m = true ↔ ∃ k, k < m ∧ w k = v
  | 0 => ⟨fun h => by simp [fnd] at h, fun ⟨k, h, _⟩ => by omega⟩
  | m + 1 => by
    rw [fnd, Bool.or_eq_true, fnd_iff m, decide_eq_true_iff]
    constructor
    · rintro (⟨k, h1, h2⟩ | h)
      · exact ⟨k, by omega, h2⟩
      · exact ⟨m, by omega, h⟩
    · rintro ⟨k, h1, h2⟩
      by_cases e : k = m
      · subst e; exact Or.inr h2
      · exact Or.inl ⟨k, by omega, h2⟩
theorem X5_has {N c ci q n A m cp v : Nat} {σ : SG} {w : Nat → Nat} (hN : 5000 ≤ N) (h : xC σ c ci q n A m cp w) (hci : ci ∈ [3, 4, 5, 6]) (hm : m ≤ cp) (hcp : cp ≤ 200) (hw : ∀ k, k < m → w k < 2 ^ 62) (hv : v < 2 ^ 62) : f_X5_has N σ c (lN v) = some (bI (fnd w v m)) := by
  obtain ⟨h1, g, h2, h3⟩ := h
  unfold f_X5_has
  rw [lp_0 (S := fun k => (bI (fnd w v k), nI k)) (R := bI (fnd w v m)) (s0 := ((0 : Int32), (0 : Int32))) (N := N) m rfl (by omega) ?_ ?_, Option.bind_some, rz_b]
  · intro k hk
    unfold f_X5_has_b5 f_X5_has_j32
    dsimp only
    rw [gI_of h1 hci rfl, Option.bind_some, if_neg (nI_ge hk (by omega)), gR_of h1 hci rfl, Option.bind_some, aL_of h2 (by omega) (by omega), Option.bind_some, h3 k hk, nI_1]
    by_cases e : w k = v
    · rw [if_pos (by rw [e])]
      have : fnd w v (k + 1) = (fnd w v k || true) := by rw [fnd, decide_eq_true e]
      rw [this, ← bI_or]
      rfl
    · rw [if_neg (by rw [pk_lEQ (by have := hw k hk; omega) (by omega)]; exact e)]
      have : fnd w v (k + 1) = (fnd w v k || false) := by rw [fnd, decide_eq_false e]
      rw [this, ← bI_or]
      rfl
  · unfold f_X5_has_b5
    dsimp only
    rw [gI_of h1 hci rfl, Option.bind_some, if_pos (nI_le (Nat.le_refl _) (by omega))]
theorem X3_find {N p kd q n m v : Nat} {st : MS} {w : Nat → Nat} (hN : 5000 ≤ N) (hp : p < 12) (hm : m ≤ 200) (h : mPl st p kd q n m w) (hw : ∀ k, k < m → w k < 2 ^ 62) (hv : v < 2 ^ 62) : (fnd w v m = false ∧ f_X3_find N st (nI p) (lN v) = some (-1)) ∨ (fnd w v m = true ∧ ∃ k, k < m ∧ w k = v ∧ f_X3_find N st (nI p) (lN v) = some (nI k)) := by
  obtain ⟨p1, p2, p3, p4, p5⟩ := h
  have body : ∀ k, k < m → f_X3_find_b3 N (nI p) (lN v) st (nI k) = if w k = v then some (.inr (nI k)) else some (.inl (nI (k + 1))) := by
    intro k hk
    unfold f_X3_find_b3
    rw [ald_N hp (by omega), Option.bind_some, p4, if_neg (nI_ge hk (by omega)), ix200, ald_N (show 200 * p + k < 2400 by omega) (by omega), Option.bind_some, p5 k hk, nI_1]
    by_cases e : w k = v
    · rw [if_pos e, if_pos (by rw [e])]
    · rw [if_neg e, if_neg (by rw [pk_lEQ (by have := hw k hk; omega) (by omega)]; exact e)]
  unfold f_X3_find
  by_cases hex : ∃ k, k < m ∧ w k = v
  · obtain ⟨k, ⟨k1, k2⟩, hl⟩ := pk_least (fun k => k < m ∧ w k = v) hex
    refine Or.inr ⟨(fnd_iff m).mpr ⟨k, k1, k2⟩, k, k1, k2, ?_⟩
    rw [lp_0 (S := nI) (R := nI k) (s0 := (0 : Int32)) (N := N) k rfl (by omega) ?_ ?_, Option.bind_some]
    · unfold f_X3_find_j38
      rw [ald_N hp (by omega), Option.bind_some, p4, if_neg (nI_ge k1 (by omega))]
    · intro i hi
      rw [body i (by omega), if_neg (fun e => hl i hi ⟨by omega, e⟩)]
    · rw [body k k1, if_pos k2]
  · refine Or.inl ⟨by
      cases hb : fnd w v m with
      | false => rfl
      | true => exact absurd ((fnd_iff m).mp hb) hex, ?_⟩
    rw [lp_0 (S := nI) (R := nI m) (s0 := (0 : Int32)) (N := N) m rfl (by omega) ?_ ?_, Option.bind_some]
    · unfold f_X3_find_j38
      rw [ald_N hp (by omega), Option.bind_some, p4, if_pos (nI_le (Nat.le_refl _) (by omega))]
    · intro i hi
      rw [body i hi, if_neg (fun e => hex ⟨i, hi, e⟩)]
    · unfold f_X3_find_b3
      rw [ald_N hp (by omega), Option.bind_some, p4, if_pos (nI_le (Nat.le_refl _) (by omega))]
/-! own words: all products are 0 -/
def owk (q n v : Nat) (w : Nat → Nat) : Nat → Bool
  | 0 => decide (wprod q n v v = 0)
  | k + 1 => owk q n v w k && decide (wprod q n v (w k) = 0)
theorem X7_refuses {N c ci q n A m cp v : Nat} {σ : SG} {w : Nat → Nat} (hN : 5000 ≤ N) (hq : isQ q) (hn : n ≤ 12) (h : xC σ c ci q n A m cp w) (hci : ci ∈ [3, 4, 5, 6]) (hm : m ≤ cp) (hcp : cp ≤ 200) (hw : ∀ k, k < m → w k < 2 ^ 62) (hv : v < 2 ^ 62) : f_X7_refuses N σ c (lN v) = some (if owk q n v w m = true then (if m = 12 then -6 else 0) else -3) := by
  obtain ⟨h1, g, h2, h3⟩ := h
  unfold f_X7_refuses
  have pz : ∀ u : Nat, (nI (wprod q n v u) = 0) = (wprod q n v u = 0) := fun u => by
    have := wprod_lt (n := n) (a := v) (b := u) hq
    have q5 := hq.2
    rw [← nI_0, nI_eq (by omega) (by omega)]
  have main : f_X7_refuses_j21 N σ c (lN v) (bI (owk q n v w 0)) = some (if owk q n v w m = true then (if m = 12 then -6 else 0) else -3) := by
    unfold f_X7_refuses_j21
    rw [lp_0 (S := fun k => (bI (owk q n v w k), nI k)) (R := bI (owk q n v w m)) (s0 := (bI (owk q n v w 0), (0 : Int32))) (N := N) m rfl (by omega) ?_ ?_, Option.bind_some, cC_of h1 hci, Option.bind_some]
    · cases hb : owk q n v w m with
      | false => rfl
      | true =>
        rw [if_neg (by decide)]
        unfold f_X6_refuses
        rw [gI_of h1 hci rfl, Option.bind_some, if_pos rfl]
        by_cases e : m = 12
        · rw [if_pos e, if_pos (by rw [e]; rfl)]; rfl
        · rw [if_neg e, if_neg (by rw [show (12 : Int32) = nI 12 from rfl, nI_eq (by omega) (by omega)]; exact e)]; rfl
    · intro k hk
      unfold f_X7_refuses_b25 f_X7_refuses_j62
      dsimp only
      rw [gI_of h1 hci rfl, Option.bind_some, if_neg (nI_ge hk (by omega)), gI_of h1 hci rfl, Option.bind_some, gI_of h1 hci rfl, Option.bind_some, gR_of h1 hci rfl, Option.bind_some, aL_of h2 (by omega) (by omega), Option.bind_some, h3 k hk, X1_productOf (by omega) hq hn hv (hw k hk), Option.bind_some, nI_1]
      by_cases e : wprod q n v (w k) = 0
      · rw [if_pos (by rw [pz]; exact e)]
        have : owk q n v w (k + 1) = (owk q n v w k && true) := by rw [owk, decide_eq_true e]
        rw [this, ← bI_and]
        rfl
      · rw [if_neg (by rw [pz]; exact e)]
        have : owk q n v w (k + 1) = (owk q n v w k && false) := by rw [owk, decide_eq_false e]
        rw [this, ← bI_and]
        rfl
    · unfold f_X7_refuses_b25
      dsimp only
      rw [gI_of h1 hci rfl, Option.bind_some, if_pos (nI_le (Nat.le_refl _) (by omega))]
  rw [gI_of h1 hci rfl, Option.bind_some, gI_of h1 hci rfl, Option.bind_some, X1_productOf (by omega) hq hn hv hv, Option.bind_some]
  by_cases e : wprod q n v v = 0
  · rw [if_pos (by rw [pz]; exact e)]
    rw [show owk q n v w 0 = true from decide_eq_true e] at main
    exact main
  · rw [if_neg (by rw [pz]; exact e)]
    rw [show owk q n v w 0 = false from decide_eq_false e] at main
    exact main
