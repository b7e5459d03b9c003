/-! ===== PURE J16: cut ===== -/
set_option maxRecDepth 100000
/-- the words without a place, listed ones once -/
def cw (kd q n i : Nat) (w : Nat → Nat) : Nat → Nat × (Nat → Nat)
  | 0 => (0, fun _ => 0)
  | k + 1 => if kd = 0 ∧ fnd (cw kd q n i w k).2 (wo q n (w k) i) (cw kd q n i w k).1 = true then cw kd q n i w k else ((cw kd q n i w k).1 + 1, wset (cw kd q n i w k).2 (cw kd q n i w k).1 (wo q n (w k) i))
theorem cw_ok {kd q n i m : Nat} {w : Nat → Nat} (hq : isQ q) (hi : i < n) (hw : ∀ k, k < m → w k < q ^ n) : ∀ k, k ≤ m → (cw kd q n i w k).1 ≤ k ∧ (∀ a, a < (cw kd q n i w k).1 → (cw kd q n i w k).2 a < q ^ (n - 1)) ∧ (kd = 0 → ∀ a b, a < b → b < (cw kd q n i w k).1 → (cw kd q n i w k).2 a ≠ (cw kd q n i w k).2 b)
  | 0, _ => ⟨Nat.le_refl _, fun a ha => absurd ha (by simp [cw]), fun _ a b _ hb => absurd hb (by simp [cw])⟩
  | k + 1, hk => by
    obtain ⟨h1, h2, h3⟩ := cw_ok hq hi hw k (by omega)
    have hv := wo_lt hq (hw k (by omega)) hi
    rw [cw]
    by_cases e : kd = 0 ∧ fnd (cw kd q n i w k).2 (wo q n (w k) i) (cw kd q n i w k).1 = true
    · rw [if_pos e]
      exact ⟨by omega, h2, h3⟩
    · rw [if_neg e]
      refine ⟨by dsimp only; omega, fun a ha => ?_, fun e0 a b hab hb => ?_⟩
      · dsimp only at ha ⊢
        unfold wset
        split
        · exact hv
        · exact h2 a (by omega)
      · dsimp only at hb ⊢
        unfold wset
        rw [if_neg (show ¬ a = (cw kd q n i w k).1 by omega)]
        split
        · intro he
          exact e ⟨e0, (fnd_iff _).mpr ⟨a, by omega, he⟩⟩
        · exact h3 e0 a b hab (by omega)
/-- the model: a word aside, once -/
theorem X3_aside1 {N k v : Nat} {st : MS} {u : Nat → Nat} (hN : 5000 ≤ N) (hk : k ≤ 200) (h : st.2.2.1 18 = nI k) (hu : ∀ a, a < k → st.2.1 17 a = lN (u a) ∧ u a < 2 ^ 62) (hv : v < 2 ^ 62) : (fnd u v k = true → f_X3_asideOnce N st (lN v) 1 = some st) ∧ (fnd u v k = false → k < 200 → f_X3_asideOnce N st (lN v) 1 = some (sV (sL st 17 (vp_updL (st.2.1 17) k (lN v))) 18 (nI (k + 1)))) := by
  have hl : lp (f_X3_asideOnce_b3 N (lN v) 1 st) N 0 = some (if alls (fun a => decide (u a ≠ v)) k = true then .inr () else .inl ()) := by
    refine lp_all (S := nI) (t := fun a => decide (u a ≠ v)) k rfl (by omega) ?_ ?_
    · intro a ha
      unfold f_X3_asideOnce_b3
      rw [h, if_neg (nI_ge ha (by omega)), if_neg i10, ald_N (show a < 200 by omega) (by omega), Option.bind_some, (hu a ha).1, nI_1]
      by_cases e : u a = v
      · rw [if_pos (by rw [e]), if_neg (by simp [e])]
      · rw [if_neg (by rw [pk_lEQ (by have := (hu a ha).2; omega) (by omega)]; exact e), if_pos (by simp [e])]
    · unfold f_X3_asideOnce_b3
      rw [h, if_pos (nI_le (Nat.le_refl _) (by omega))]
  have hiff : alls (fun a => decide (u a ≠ v)) k = true ↔ fnd u v k = false := by
    rw [alls_iff]
    constructor
    · intro hh
      cases hb : fnd u v k with
      | false => rfl
      | true =>
        obtain ⟨a, a1, a2⟩ := (fnd_iff k).mp hb
        exact absurd a2 (of_decide_eq_true (hh a a1))
    · intro hb a ha
      refine decide_eq_true fun he => ?_
      rw [(fnd_iff k).mpr ⟨a, ha, he⟩] at hb
      cases hb
  unfold f_X3_asideOnce
  rw [hl, Option.bind_some]
  refine ⟨fun hb => ?_, fun hb hk2 => ?_⟩
  · rw [if_neg (by rw [hiff, hb]; decide)]
  · rw [if_pos (hiff.mpr hb)]
    dsimp only
    unfold f_X3_asideOnce_j35
    have e18 : ∀ f, (sL st 17 f).2.2.1 18 = nI k := fun f => h
    rw [h, last_N hk2 (by omega), Option.bind_some, e18, nI_1]
