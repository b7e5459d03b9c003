/-! ===== PURE J11: form ===== -/
set_option maxRecDepth 100000
theorem Fdn.keep {f q n m : Nat} {σ0 σ τ : SG} {w : Nat → Nat} (F : Fdn σ0 σ f q n m w) (h1 : σ.1 ≤ τ.1) (kp : ∀ a, a < σ.1 → τ.2 a = σ.2 a) : Fdn σ0 τ f q n m w := by
  obtain ⟨f1, f2, f3, f4, f5, f6, f7, f8, f9, f10⟩ := F
  have gv : ∀ k, gV [7] τ f k = gV [7] σ f k := fun k => by unfold gV; rw [kp f (by omega)]
  refine ⟨by omega, fun a ha => by rw [kp a (by omega)]; exact f2 a ha, ?_, ?_, ?_, ?_, ?_, ?_, ?_, ?_⟩
  · unfold cC at f3 ⊢; rw [kp f (by omega)]; exact f3
  · unfold gI at f4 ⊢; rw [gv]; exact f4
  · unfold gI at f5 ⊢; rw [gv]; exact f5
  · unfold gI at f6 ⊢; rw [gv]; exact f6
  · unfold gR at f7 ⊢; rw [gv]; exact f7
  · unfold gR at f8 ⊢; rw [gv]; exact f8
  · intro k hk
    have h := f9 k hk
    unfold aI at h ⊢
    rw [kp _ (by omega)]
    exact h
  · intro k hk
    obtain ⟨b, v, c1, c2, c3, c4, c5⟩ := f10 k hk
    refine ⟨b, v, ?_, c2, by omega, by rw [kp b c3]; exact c4, c5⟩
    unfold aQ at c1 ⊢
    rw [kp _ (by omega)]
    exact c1
theorem xC.congr {σ : SG} {c ci q n A m cp : Nat} {w w2 : Nat → Nat} (h : xC σ c ci q n A m cp w) (e : ∀ k, k < m → w k = w2 k) : xC σ c ci q n A m cp w2 := by
  obtain ⟨h1, g, h2, h3⟩ := h
  exact ⟨h1, g, h2, fun k hk => by rw [← e k hk]; exact h3 k hk⟩
theorem NC.congr {σ τ : SG} {f kd q n m : Nat} {w w2 : Nat → Nat} (h : NC σ τ f kd q n m w) (e : ∀ k, k < m → w k = w2 k) : NC σ τ f kd q n m w2 := ⟨h.1, h.2.1, h.2.2.congr e⟩
/-- the form's words are laid into a new code -/
theorem form_lays {N f kd q n m x : Nat} {t : Int32} {σ0 σ τ : SG} {w : Nat → Nat} (hN : 5000 ≤ N) (hq : isQ q) (hn : n ≤ 12) (hm : m ≤ 12) (hk : 12 ≤ cap kd) (F : Fdn σ0 σ f q n m w) (hτ : NC σ τ σ.1 kd q n 0 (fw q n m (wR q n w))) : ∃ τ', lp (f_X1_form_b75 N x t f σ.1) N (0, τ) = some τ' ∧ NC σ τ' σ.1 kd q n (rk q n m (wR q n w)) (fw q n m (wR q n w)) := by
  have hr := rk_le12 (n := n) (w := w) hq hm
  refine lp_inv0 (P := fun k s => s.1 = nI k ∧ NC σ s.2 σ.1 kd q n k (fw q n m (wR q n w))) (Q := fun s => NC σ s σ.1 kd q n (rk q n m (wR q n w)) (fw q n m (wR q n w))) (rk q n m (wR q n w)) (by omega) ⟨rfl, hτ⟩ ?_ ?_
  · rintro k ⟨y, s⟩ hkr ⟨e1, e2⟩
    dsimp only at e1 e2
    subst e1
    have F2 := F.keep (τ := s) (by have := e2.1; omega) e2.2.1
    obtain ⟨s2, a1, a2, -, -⟩ := e2.add (N := N) (v := fw q n m (wR q n w) k) (by omega)
    unfold f_X1_form_b75
    dsimp only
    rw [F2.2.2.2.2.2.1, Option.bind_some, if_neg (nI_ge hkr (by omega)), F2.2.2.1, Option.bind_some, F2.row (by omega) hq hn hkr, Option.bind_some, a1, Option.bind_some, nI_1]
    refine ⟨_, rfl, rfl, a2.congr (fun i hi => ?_)⟩
    unfold wset
    split
    · rename_i e; rw [e]
    · rfl
  · rintro ⟨y, s⟩ ⟨e1, e2⟩
    dsimp only at e1 e2
    subst e1
    have F2 := F.keep (τ := s) (by have := e2.1; omega) e2.2.1
    unfold f_X1_form_b75
    dsimp only
    rw [F2.2.2.2.2.2.1, Option.bind_some, if_pos (nI_le (Nat.le_refl _) (by omega))]
    exact ⟨_, rfl, e2⟩
/-- the model writes its form over the place -/
theorem form_mod {N p kd kd2 q n m : Nat} {st : MS} {w : Nat → Nat} (hN : 5000 ≤ N) (hp : p < 12) (hq : isQ q) (hm : m ≤ 12) (hP : mPl st p kd q n m w) (h8 : st.2.2.1 8 = nI (rk q n m (wR q n w))) (h6 : ∀ k, k < rk q n m (wR q n w) → st.2.1 6 k = lN (fw q n m (wR q n w) k)) : ∃ st', f_X3_form_j62 N (nI p) (nI kd2) (nI p) st = some (st', nI (rk q n m (wR q n w))) ∧ mPl st' p kd2 q n (rk q n m (wR q n w)) (fw q n m (wR q n w)) ∧ Mp st st' p := by
  have hr := rk_le12 (n := n) (w := w) hq hm
  obtain ⟨p1, p2, p3, p4, p5⟩ := hP
  unfold f_X3_form_j62
  rw [iast_N hp (by omega), Option.bind_some, iast_N hp (by omega), Option.bind_some]
  have e8 : ∀ f, (sI st 1 f).2.2.1 8 = nI (rk q n m (wR q n w)) := fun f => h8
  rw [e8]
  generalize hu : sI (sI st 1 (upd (st.1 1) p (nI kd2))) 4 (upd ((sI st 1 (upd (st.1 1) p (nI kd2))).1 4) p (nI (rk q n m (wR q n w)))) = u
  have u1 : ∀ i, u.1 1 i = upd (st.1 1) p (nI kd2) i := fun i => by rw [← hu, sI_n (by decide), sI_s]
  have u4 : ∀ i, u.1 4 i = upd (st.1 4) p (nI (rk q n m (wR q n w))) i := fun i => by rw [← hu, sI_s, sI_n (by decide)]
  have uo : ∀ k, k ≠ 1 → k ≠ 4 → u.1 k = st.1 k := fun k h1 h4 => by rw [← hu, sI_n h4, sI_n h1]
  have uL : u.2 = st.2 := by rw [← hu]; rfl
  have u8 : u.2.2.1 8 = nI (rk q n m (wR q n w)) := by rw [uL]; exact h8
  have u6 : ∀ k, k < rk q n m (wR q n w) → u.2.1 6 k = lN (fw q n m (wR q n w) k) := by rw [uL]; exact h6
  obtain ⟨s2, b1, b2, b3⟩ : ∃ s2, lp (f_X3_form_b75 N (nI p)) N (0, u) = some s2 ∧ Kp [] [5] [] u s2 ∧ (∀ k, k < rk q n m (wR q n w) → s2.2.1 5 (200 * p + k) = lN (fw q n m (wR q n w) k)) ∧ ∀ a, (∀ k, k < rk q n m (wR q n w) → a ≠ 200 * p + k) → s2.2.1 5 a = u.2.1 5 a := by
    refine lp_inv0 (P := fun k s => s.1 = nI k ∧ Kp [] [5] [] u s.2 ∧ (∀ i, i < k → s.2.2.1 5 (200 * p + i) = lN (fw q n m (wR q n w) i)) ∧ ∀ a, (∀ i, i < k → a ≠ 200 * p + i) → s.2.2.1 5 a = u.2.1 5 a) (Q := fun s => Kp [] [5] [] u s ∧ (∀ k, k < rk q n m (wR q n w) → s.2.1 5 (200 * p + k) = lN (fw q n m (wR q n w) k)) ∧ ∀ a, (∀ k, k < rk q n m (wR q n w) → a ≠ 200 * p + k) → s.2.1 5 a = u.2.1 5 a) (rk q n m (wR q n w)) (by omega) ⟨rfl, Kp.refl _ _ _ _, fun i hi => by omega, fun _ _ => rfl⟩ ?_ ?_
    · rintro k ⟨y, s⟩ hk ⟨e1, e2, e3, e4⟩
      dsimp only at e1 e2 e3 e4
      subst e1
      unfold f_X3_form_b75
      dsimp only
      rw [e2.2.2.1 8 (by decide), u8, if_neg (nI_ge hk (by omega)), ald_N (show k < 12 by omega) (by omega), Option.bind_some, e2.2.1 6 (by decide), u6 k hk, ix200, last_N (show 200 * p + k < 2400 by omega) (by omega), Option.bind_some, nI_1]
      refine ⟨_, rfl, rfl, e2.sL (by decide) _, fun i hi => ?_, fun a ha => ?_⟩
      · dsimp only
        rw [sL_s]
        by_cases e : i = k
        · rw [e, pk_uLs]
        · rw [pk_uLn (by omega)]; exact e3 i (by omega)
      · dsimp only
        rw [sL_s, pk_uLn (ha k (by omega))]
        exact e4 a (fun i hi => ha i (by omega))
    · rintro ⟨y, s⟩ ⟨e1, e2, e3, e4⟩
      dsimp only at e1 e2 e3 e4
      subst e1
      unfold f_X3_form_b75
      dsimp only
      rw [e2.2.2.1 8 (by decide), u8, if_pos (nI_le (Nat.le_refl _) (by omega))]
      exact ⟨_, rfl, e2, e3, e4⟩
  rw [b1, Option.bind_some, b2.2.2.1 8 (by decide), u8]
  have sI1 : ∀ k, s2.1 k = u.1 k := fun k => b2.1 k (by simp)
  refine ⟨s2, rfl, ⟨?_, ?_, ?_, ?_, b3.1⟩, ⟨fun i hi hip => ⟨?_, ?_, ?_, ?_, fun k hk => ?_⟩, ?_, ?_, ?_, ?_, ?_⟩⟩
  · rw [sI1, u1, up_s']
  · rw [sI1, uo 2 (by decide) (by decide)]; exact p2
  · rw [sI1, uo 3 (by decide) (by decide)]; exact p3
  · rw [sI1, u4, up_s']
  · rw [sI1, u1, up_n' hip]
  · rw [sI1, uo 2 (by decide) (by decide)]
  · rw [sI1, uo 3 (by decide) (by decide)]
  · rw [sI1, u4, up_n' hip]
  · rw [b3.2 _ (fun k2 hk2 => by omega), uL]
  · rw [sI1, uo 19 (by decide) (by decide)]
  · rw [sI1, uo 20 (by decide) (by decide)]
  · rw [sI1, uo 21 (by decide) (by decide)]
  · rw [sI1, uo 22 (by decide) (by decide)]
  · rw [b2.2.1 23 (by decide), uL]
