/-! ===== PURE J10: look ===== -/
set_option maxRecDepth 100000
def alls (t : Nat → Bool) : Nat → Bool
  | 0 => true
  | k + 1 => alls t k && t k
theorem alls_iff {t : Nat → Bool} : ∀ m, alls t m = true ↔ ∀ k, k < m → t k = true
  | 0 => ⟨fun _ k hk => by omega, fun _ => rfl⟩
  | m + 1 => by
    rw [alls, Bool.and_eq_true, alls_iff m]
    constructor
    · rintro ⟨h1, h2⟩ k hk
      by_cases e : k = m
      · subst e; exact h2
      · exact h1 k (by omega)
    · exact fun h => ⟨fun k hk => h k (by omega), h m (by omega)⟩
/-- a loop that stops at the first failure -/
theorem lp_all {σ ρ : Type} {body : σ → Option (σ ⊕ ρ)} (S : Nat → σ) (t : Nat → Bool) {R1 R2 : ρ} (m : Nat) {N : Nat} {s0 : σ} (h0 : s0 = S 0) (hN : m < N) (step : ∀ k, k < m → body (S k) = if t k = true then some (.inl (S (k + 1))) else some (.inr R1)) (fin : body (S m) = some (.inr R2)) : lp body N s0 = some (if alls t m = true then R2 else R1) := by
  by_cases ha : alls t m = true
  · rw [if_pos ha]
    exact lp_0 S m h0 hN (fun i hi => by rw [step i hi, if_pos ((alls_iff m).mp ha i hi)]) fin
  · rw [if_neg ha]
    have hex : ∃ k, k < m ∧ t k ≠ true := Classical.byContradiction fun hno => ha ((alls_iff m).mpr fun k hk => Classical.byContradiction fun hne => hno ⟨k, hk, hne⟩)
    obtain ⟨k, ⟨k1, k2⟩, hl⟩ := pk_least (fun k => k < m ∧ t k ≠ true) hex
    exact lp_0 S k h0 (by omega) (fun i hi => by rw [step i (by omega), if_pos (Classical.byContradiction fun hne => hl i hi ⟨by omega, hne⟩)]) (by rw [step k k1, if_neg k2])
/-- the rows' products -/
def wd1 (q n : Nat) (w : Nat → Nat) (i : Nat) : Nat → Bool := alls (fun k => decide (wprod q n (w i) (w k) = 0))
def wdl (q n : Nat) (w : Nat → Nat) : Nat → Bool := alls (fun i => wd1 q n w i (i + 1))
theorem wz {q n a b : Nat} (hq : isQ q) : (nI (wprod q n a b) = 0) = (wprod q n a b = 0) := by
  have := wprod_lt (n := n) (a := a) (b := b) hq
  have q5 := hq.2
  rw [← nI_0, nI_eq (by omega) (by omega)]
theorem X6_within {N c ci q n A m cp : Nat} {σ : SG} {w : Nat → Nat} (hN : 5000 ≤ N) (hq : isQ q) (hn : n ≤ 12) (h : xC σ c ci q n A m cp w) (hci : ci ∈ [3, 4, 5, 6]) (hm : m ≤ cp) (hcp : cp ≤ 200) (hw : ∀ k, k < m → w k < 2 ^ 62) : f_X6_isWithinDual N σ c = some (bI (wdl q n w m)) := by
  obtain ⟨h1, g, h2, h3⟩ := h
  have inner : ∀ i b, i < m → lp (f_X6_isWithinDual_b14 N c (nI i) σ) N (bI b, 0) = some (bI (b && wd1 q n w i (i + 1))) := by
    intro i b hi
    refine lp_0 (S := fun k => (bI (b && wd1 q n w i k), nI k)) (i + 1) ?_ (by omega) ?_ ?_
    · show (bI b, (0 : Int32)) = (bI (b && true), nI 0)
      rw [Bool.and_true]
      rfl
    · intro k hk
      unfold f_X6_isWithinDual_b14 f_X6_isWithinDual_j51
      dsimp only
      rw [if_neg (nI_nlt (by omega) (by omega)), gI_of h1 hci rfl, Option.bind_some, gI_of h1 hci rfl, Option.bind_some, gR_of h1 hci rfl, Option.bind_some, aL_of h2 (show i < cp by omega) (by omega), Option.bind_some, Option.bind_some, aL_of h2 (show k < cp by omega) (by omega), Option.bind_some, h3 i hi, h3 k (by omega), X1_productOf (by omega) hq hn (hw i hi) (hw k (by omega)), Option.bind_some, nI_1]
      have e0 : wd1 q n w i (k + 1) = (wd1 q n w i k && decide (wprod q n (w i) (w k) = 0)) := rfl
      rw [e0, ← Bool.and_assoc]
      generalize (b && wd1 q n w i k) = z
      by_cases e : wprod q n (w i) (w k) = 0
      · rw [if_pos (by rw [wz hq]; exact e), decide_eq_true e]; cases z <;> rfl
      · rw [if_neg (by rw [wz hq]; exact e), decide_eq_false e]; cases z <;> rfl
    · unfold f_X6_isWithinDual_b14
      dsimp only
      rw [if_pos (nI_lt (by omega) (by omega))]
  unfold f_X6_isWithinDual
  rw [lp_0 (S := fun i => (bI (wdl q n w i), nI i)) (R := bI (wdl q n w m)) (s0 := ((1 : Int32), (0 : Int32))) (N := N) m rfl (by omega) ?_ ?_, Option.bind_some, rz_b]
  · intro i hi
    unfold f_X6_isWithinDual_b4
    dsimp only
    rw [gI_of h1 hci rfl, Option.bind_some, if_neg (nI_ge hi (by omega)), inner i _ hi, Option.bind_some, nI_1]
    rfl
  · unfold f_X6_isWithinDual_b4
    dsimp only
    rw [gI_of h1 hci rfl, Option.bind_some, if_pos (nI_le (Nat.le_refl _) (by omega))]
theorem X3_within {N p kd q n m : Nat} {st : MS} {w : Nat → Nat} (hN : 5000 ≤ N) (hq : isQ q) (hn : n ≤ 12) (hp : p < 12) (hm : m ≤ 200) (h : mPl st p kd q n m w) (hw : ∀ k, k < m → w k < 2 ^ 62) : f_X3_isWithin N st (nI p) = some (bI (wdl q n w m)) := by
  obtain ⟨p1, p2, p3, p4, p5⟩ := h
  have inner : ∀ i, i < m → lp (f_X3_isWithin_b14 N (nI p) (nI i) st) N 0 = some (if wd1 q n w i (i + 1) = true then .inr () else .inl ()) := by
    intro i hi
    refine lp_all (S := nI) (t := fun k => decide (wprod q n (w i) (w k) = 0)) (i + 1) rfl (by omega) ?_ ?_
    · intro k hk
      unfold f_X3_isWithin_b14
      rw [if_neg (nI_nlt (by omega) (by omega)), ald_N hp (by omega), Option.bind_some, ald_N hp (by omega), Option.bind_some, p2, p3, ix200, ald_N (show 200 * p + i < 2400 by omega) (by omega), Option.bind_some, ix200, ald_N (show 200 * p + k < 2400 by omega) (by omega), Option.bind_some, p5 i hi, p5 k (by omega), X3_productOf (by omega) hq hn (hw i hi) (hw k (by omega)), Option.bind_some, nI_1]
      by_cases e : wprod q n (w i) (w k) = 0
      · rw [if_pos (by rw [wz hq]; exact e), if_pos (decide_eq_true e)]
      · rw [if_neg (by rw [wz hq]; exact e), if_neg (by rw [decide_eq_false e]; decide)]
    · unfold f_X3_isWithin_b14
      rw [if_pos (nI_lt (by omega) (by omega))]
  unfold f_X3_isWithin
  rw [lp_all (R1 := .inl ()) (R2 := .inr ()) (S := nI) (t := fun i => wd1 q n w i (i + 1)) (s0 := (0 : Int32)) (N := N) m rfl (by omega) ?_ ?_, Option.bind_some]
  · have e : alls (fun i => wd1 q n w i (i + 1)) m = wdl q n w m := rfl
    rw [e]
    cases wdl q n w m <;> rfl
  · intro i hi
    unfold f_X3_isWithin_b2
    rw [ald_N hp (by omega), Option.bind_some, p4, if_neg (nI_ge hi (by omega)), inner i hi, Option.bind_some, nI_1]
    cases wd1 q n w i (i + 1) <;> rfl
  · unfold f_X3_isWithin_b2
    rw [ald_N hp (by omega), Option.bind_some, p4, if_pos (nI_le (Nat.le_refl _) (by omega))]
theorem dv_kind {N c kd : Nat} {σ : SG} {fs : List Value} (h : σ.2 c = some (eO (cls kd) fs)) (hk : kd ≤ 3) : dv_X4_kind N σ c = some (nI kd) := by
  unfold dv_X4_kind
  rw [h]
  rcases (show kd = 0 ∨ kd = 1 ∨ kd = 2 ∨ kd = 3 by omega) with rfl | rfl | rfl | rfl <;> rfl
theorem dv_within {N c kd : Nat} {σ : SG} {fs : List Value} (h : σ.2 c = some (eO (cls kd) fs)) (hk : kd ≤ 3) (h0 : kd ≠ 0) : dv_X6_isWithinDual N σ c = f_X6_isWithinDual N σ c := by
  unfold dv_X6_isWithinDual
  rw [h]
  rcases (show kd = 1 ∨ kd = 2 ∨ kd = 3 by omega) with rfl | rfl | rfl <;> rfl
theorem op_look {N x M : Nat} {own : Nat → Nat} {σ : SG} {st : MS} (hN : 5000 ≤ N) (j : J x M own σ st) (a b : Int32) : Ok x M σ (f_X1_look N σ x a b) (f_X3_look N st a b) := by
  unfold f_X1_look f_X3_look
  simp only [X3_isPlace_eq, X3_isIn_eq]
  rcases pl_cases j N a with h | ⟨p, hp, rfl, h, hcase⟩
  · rw [h]
    exact Ok.nil j rfl rfl
  · rw [h, Option.bind_some, if_neg i10, Option.bind_some, if_neg i10, show (0 : Int64) = lN 0 from rfl, show (5 : Int64) = lN 5 from rfl]
    rcases int_cases b 0 5 (by omega) with ⟨k, k1, k2, rfl⟩ | hb
    · rw [isIn_yes (by omega) k1 k2, Option.bind_some, if_neg i10, Option.bind_some, if_neg i10]
      unfold f_X1_look_j33
      simp only [j.cc, Option.bind_some]
      rcases hcase with ⟨h2, -, h3⟩ | ⟨kd, q, n, m, w, c, h2, h3, hok, hP, hX⟩
      · rw [asks_none j h h2, asks_none j h h2, h3]
        simp only [Option.bind_some]
        split <;> exact Ok.nil j rfl rfl
      · obtain ⟨A, x1, x2, x3, x4, C⟩ := id hX
        have hkd := hok.2.2.2.1
        rw [asks_0 j h h2, asks_1 j h h2 C.1 hkd, h3, Option.bind_some, Option.bind_some, Option.bind_some, if_pos rfl, if_pos rfl, j.codes, Option.bind_some, h2, Option.bind_some]
        simp only [Option.bind_some, ald_N hp (show 12 < 2 ^ 31 by decide), hP.1, hP.2.1, hP.2.2.1, hP.2.2.2.1]
        rcases (show k = 0 ∨ k = 1 ∨ k = 2 ∨ k = 3 ∨ k = 4 ∨ k = 5 by omega) with rfl | rfl | rfl | rfl | hk45
        · rw [if_pos (show nI 0 ≤ 3 by decide), if_pos (show nI 0 = 0 from rfl), if_pos (show nI 0 = 0 from rfl), dv_kind C.1 hkd]
          exact Ok.nil j rfl rfl
        · rw [if_pos (show nI 1 ≤ 3 by decide), if_neg (show ¬ nI 1 = 0 by decide), if_neg (show ¬ nI 1 = 0 by decide), if_pos (show nI 1 = 1 from rfl), if_pos (show nI 1 = 1 from rfl), gI_of C.1 (cls_in kd) rfl]
          exact Ok.nil j rfl rfl
        · rw [if_pos (show nI 2 ≤ 3 by decide), if_neg (show ¬ nI 2 = 0 by decide), if_neg (show ¬ nI 2 = 0 by decide), if_neg (show ¬ nI 2 = 1 by decide), if_neg (show ¬ nI 2 = 1 by decide), if_pos (show nI 2 = 2 from rfl), if_pos (show nI 2 = 2 from rfl), gI_of C.1 (cls_in kd) rfl]
          exact Ok.nil j rfl rfl
        · rw [if_pos (show nI 3 ≤ 3 by decide), if_neg (show ¬ nI 3 = 0 by decide), if_neg (show ¬ nI 3 = 0 by decide), if_neg (show ¬ nI 3 = 1 by decide), if_neg (show ¬ nI 3 = 1 by decide), if_neg (show ¬ nI 3 = 2 by decide), if_neg (show ¬ nI 3 = 2 by decide), if_pos (show nI 3 = 3 from rfl), if_pos (show nI 3 = 3 from rfl), gI_of C.1 (cls_in kd) rfl]
          exact Ok.nil j rfl rfl
        · have hz : ∀ z : Nat, z ≤ 3 → ¬ nI k = nI z := fun z hz => by rw [nI_eq (by omega) (by omega)]; omega
          rw [if_neg (show ¬ nI k ≤ 3 from nI_ge (a := 3) (by omega) (by omega)), if_neg (show ¬ nI k = 0 from hz 0 (by omega)), if_neg (show ¬ nI k = 1 from hz 1 (by omega)), if_neg (show ¬ nI k = 2 from hz 2 (by omega)), if_neg (show ¬ nI k = 3 from hz 3 (by omega))]
          by_cases e : kd = 0
          · rw [e, if_neg (show ¬ nI k = 0 from hz 0 (by omega)), if_neg (show ¬ nI k = 1 from hz 1 (by omega)), if_neg (show ¬ nI k = 2 from hz 2 (by omega)), if_neg (show ¬ nI k = 3 from hz 3 (by omega))]
            exact Ok.nil j rfl rfl
          · have hc : cap kd = 12 := if_neg e
            have hcap := hok.2.2.2.2.1
            rw [if_neg e, if_pos rfl, if_neg (show ¬ nI k = 0 from hz 0 (by omega)), if_neg (show ¬ nI k = 1 from hz 1 (by omega)), if_neg (show ¬ nI k = 2 from hz 2 (by omega)), if_neg (show ¬ nI k = 3 from hz 3 (by omega)), if_neg (nI_ne0 (by omega) (by omega))]
            rcases hk45 with rfl | rfl
            · obtain ⟨τ, a1, F, a3, a4, a5, a6⟩ := new_form (N := N) (by omega) j hok e hX
              obtain ⟨st', b1, b2, b3, -⟩ := X3_clear (N := N) (by omega) hok.1 hok.2.2.1 (show m ≤ 12 by omega) hp hP hok.2.2.2.2.2.1
              rw [if_pos (show nI 4 = 4 from rfl), if_neg (show ¬ nI 4 = 5 by decide), a1, Option.bind_some, F.2.2.2.2.2.1, Option.bind_some, b1, Option.bind_some, b3]
              exact ⟨τ, st', _, own, rfl, rfl, a3.scrM b2.m678, a4⟩
            · have hcc : cC [4, 5, 6] σ c = some () := cC_of C.1 (by
                rcases (show kd = 1 ∨ kd = 2 ∨ kd = 3 by omega) with rfl | rfl | rfl <;> decide)
              rw [if_neg (show ¬ nI 5 = 4 by decide), if_pos (show nI 5 = 5 from rfl), hcc, Option.bind_some, dv_within C.1 hkd e, X6_within hN hok.1 hok.2.2.1 C (cls_in kd) hcap (cap_le kd) hok.w62, X3_within hN hok.1 hok.2.2.1 hp hok.m200 hP hok.w62, Option.bind_some, Option.bind_some]
              cases wdl q n w m <;> exact Ok.nil j rfl rfl
    · rw [isIn_no (by omega) (by omega) hb]
      exact Ok.nil j rfl rfl
