/-! ===== PURE J2: new codes on both sides ===== -/
set_option maxRecDepth 100000
/-- words with one more -/
def wset (w : Nat → Nat) (m v : Nat) : Nat → Nat := fun k => if k = m then v else w k
/-- the model keeps all places but t, and the shelves -/
def Mp (st st' : MS) (t : Nat) : Prop := (∀ p, p < 12 → p ≠ t → st'.1 1 p = st.1 1 p ∧ st'.1 2 p = st.1 2 p ∧ st'.1 3 p = st.1 3 p ∧ st'.1 4 p = st.1 4 p ∧ ∀ k, k < 200 → st'.2.1 5 (200 * p + k) = st.2.1 5 (200 * p + k)) ∧ st'.1 19 = st.1 19 ∧ st'.1 20 = st.1 20 ∧ st'.1 21 = st.1 21 ∧ st'.1 22 = st.1 22 ∧ st'.2.1 23 = st.2.1 23
theorem Mp.trans {a b c : MS} {t : Nat} (h : Mp a b t) (h2 : Mp b c t) : Mp a c t := by
  refine ⟨fun p hp ht => ?_, h2.2.1.trans h.2.1, h2.2.2.1.trans h.2.2.1, h2.2.2.2.1.trans h.2.2.2.1, h2.2.2.2.2.1.trans h.2.2.2.2.1, h2.2.2.2.2.2.trans h.2.2.2.2.2⟩
  obtain ⟨a1, a2, a3, a4, a5⟩ := h.1 p hp ht
  obtain ⟨b1, b2, b3, b4, b5⟩ := h2.1 p hp ht
  exact ⟨b1.trans a1, b2.trans a2, b3.trans a3, b4.trans a4, fun k hk => (b5 k hk).trans (a5 k hk)⟩
theorem Mk.mp {a b : MS} (h : Mk a b) (t : Nat) : Mp a b t := by
  obtain ⟨m1, m2, m3, m4, m5, m6, m7, m8, m9, m10⟩ := h
  exact ⟨fun p _ _ => ⟨by rw [m1], by rw [m2], by rw [m3], by rw [m4], fun k _ => by rw [m5]⟩, m6, m7, m8, m9, m10⟩
theorem Kp.mk {I L V : List Nat} {a b : MS} (h : Kp I L V a b) (h1 : ∀ k, k ∈ [1, 2, 3, 4, 19, 20, 21, 22] → k ∉ I) (h2 : ∀ k, k ∈ [5, 23] → k ∉ L) : Mk a b :=
  ⟨h.1 _ (h1 _ (by decide)), h.1 _ (h1 _ (by decide)), h.1 _ (h1 _ (by decide)), h.1 _ (h1 _ (by decide)), h.2.1 _ (h2 _ (by decide)), h.1 _ (h1 _ (by decide)), h.1 _ (h1 _ (by decide)), h.1 _ (h1 _ (by decide)), h.1 _ (h1 _ (by decide)), h.2.1 _ (h2 _ (by decide))⟩
theorem sI_n {st : MS} {k j : Nat} {f : Nat → Int32} (h : j ≠ k) : (sI st k f).1 j = st.1 j := by
  show va_up st.1 k f j = _
  exact up_n h
theorem sL_n {st : MS} {k j : Nat} {f : Nat → Int64} (h : j ≠ k) : (sL st k f).2.1 j = st.2.1 j := by
  show va_up st.2.1 k f j = _
  exact up_n h
theorem X3_begin {N t kd q n : Nat} {st : MS} (ht : t < 12) (w : Nat → Nat) : ∃ st', f_X3_begin N st (nI t) (nI kd) (nI q) (nI n) = some st' ∧ mPl st' t kd q n 0 w ∧ Mp st st' t ∧ Kp [1, 2, 3, 4] [] [] st st' := by
  unfold f_X3_begin
  simp only [iast_N ht (show 12 < 2 ^ 31 by decide), Option.bind_some]
  refine ⟨_, rfl, ⟨?_, ?_, ?_, ?_, fun k hk => by omega⟩, ⟨fun p hp hpt => ⟨?_, ?_, ?_, ?_, fun k hk => rfl⟩, ?_, ?_, ?_, ?_, rfl⟩, ((((Kp.refl _ _ _ _).sI (by decide) _).sI (by decide) _).sI (by decide) _).sI (by decide) _⟩
  · rw [sI_n (by decide), sI_n (by decide), sI_n (by decide), sI_s, up_s']
  · rw [sI_n (by decide), sI_n (by decide), sI_s, up_s']
  · rw [sI_n (by decide), sI_s, up_s']
  · rw [sI_s, up_s']; rfl
  · rw [sI_n (by decide), sI_n (by decide), sI_n (by decide), sI_s, up_n' hpt]
  · rw [sI_n (by decide), sI_n (by decide), sI_s, up_n' hpt, sI_n (by decide)]
  · rw [sI_n (by decide), sI_s, up_n' hpt, sI_n (by decide), sI_n (by decide)]
  · rw [sI_s, up_n' hpt, sI_n (by decide), sI_n (by decide), sI_n (by decide)]
  · rw [sI_n (by decide), sI_n (by decide), sI_n (by decide), sI_n (by decide)]
  · rw [sI_n (by decide), sI_n (by decide), sI_n (by decide), sI_n (by decide)]
  · rw [sI_n (by decide), sI_n (by decide), sI_n (by decide), sI_n (by decide)]
  · rw [sI_n (by decide), sI_n (by decide), sI_n (by decide), sI_n (by decide)]
theorem X3_push {N t kd q n m v : Nat} {st : MS} {w : Nat → Nat} (ht : t < 12) (hm : m < 200) (h : mPl st t kd q n m w) : ∃ st', f_X3_push N st (nI t) (lN v) = some (st', nI (m + 1)) ∧ mPl st' t kd q n (m + 1) (wset w m v) ∧ Mp st st' t ∧ Kp [4] [5] [] st st' := by
  obtain ⟨p1, p2, p3, p4, p5⟩ := h
  unfold f_X3_push
  have e4 : ∀ f, (sL st 5 f).1 4 t = nI m := fun f => p4
  simp only [ald_N ht (show 12 < 2 ^ 31 by decide), iast_N ht (show 12 < 2 ^ 31 by decide), Option.bind_some, p4, ix200, last_N (show 200 * t + m < 2400 by omega) (show 2400 < 2 ^ 31 by decide), e4, sI_s, up_s', nI_1]
  refine ⟨_, rfl, ⟨?_, ?_, ?_, ?_, fun k hk => ?_⟩, ⟨fun p hp hpt => ⟨?_, ?_, ?_, ?_, fun k hk => ?_⟩, ?_, ?_, ?_, ?_, ?_⟩, ((Kp.refl _ _ _ _).sL (by decide) _).sI (by decide) _⟩
  · rw [sI_n (by decide)]; exact p1
  · rw [sI_n (by decide)]; exact p2
  · rw [sI_n (by decide)]; exact p3
  · rw [sI_s, up_s']
  · show (sL st 5 _).2.1 5 (200 * t + k) = _
    rw [sL_s]
    unfold wset
    by_cases e : k = m
    · rw [e, pk_uLs, if_pos rfl]
    · rw [pk_uLn (by omega), if_neg e]; exact p5 k (by omega)
  · rw [sI_n (by decide)]; rfl
  · rw [sI_n (by decide)]; rfl
  · rw [sI_n (by decide)]; rfl
  · rw [sI_s, up_n' hpt]; rfl
  · show (sL st 5 _).2.1 5 (200 * p + k) = _
    rw [sL_s, pk_uLn (by omega)]
  · rw [sI_n (by decide)]; rfl
  · rw [sI_n (by decide)]; rfl
  · rw [sI_n (by decide)]; rfl
  · rw [sI_n (by decide)]; rfl
  · show (sL st 5 _).2.1 23 = _
    rw [sL_n (by decide)]
theorem mPl.congr {st : MS} {t kd q n m : Nat} {w w2 : Nat → Nat} (h : mPl st t kd q n m w) (e : ∀ k, k < m → w k = w2 k) : mPl st t kd q n m w2 := ⟨h.1, h.2.1, h.2.2.1, h.2.2.2.1, fun k hk => by rw [← e k hk]; exact h.2.2.2.2 k hk⟩
theorem X3_comes {N t kd q n m : Nat} {st : MS} {w : Nat → Nat} (hN : 201 ≤ N) (ht : t < 12) (hm : m ≤ 200) (h1 : st.2.2.1 18 = nI m) (h2 : ∀ i, i < m → st.2.1 17 i = lN (w i)) : ∃ st', f_X3_comes N st (nI t) (nI kd) (nI q) (nI n) = some (st', nI m) ∧ mPl st' t kd q n m w ∧ Mp st st' t ∧ Kp [1, 2, 3, 4] [5] [] st st' := by
  unfold f_X3_comes
  obtain ⟨s0, a1, a2, a3, a4⟩ := X3_begin (N := N) (kd := kd) (q := q) (n := n) (st := st) ht w
  rw [a1, Option.bind_some]
  obtain ⟨s1, b1, b2, b3, b4⟩ : ∃ s1, lp (f_X3_comes_b12 N (nI t)) N (0, s0) = some s1 ∧ mPl s1 t kd q n m w ∧ Mp st s1 t ∧ Kp [1, 2, 3, 4] [5] [] st s1 := by
    refine lp_inv0 (P := fun k s => s.1 = nI k ∧ mPl s.2 t kd q n k w ∧ Mp st s.2 t ∧ Kp [1, 2, 3, 4] [5] [] st s.2) (Q := fun s => mPl s t kd q n m w ∧ Mp st s t ∧ Kp [1, 2, 3, 4] [5] [] st s) m (by omega) ⟨rfl, a2, a3, a4.mono (by decide) (by decide) (by decide)⟩ ?_ ?_
    · rintro k ⟨x, s⟩ hk ⟨e1, e2, e3, e4⟩
      dsimp only at e1 e2 e3 e4
      subst e1
      unfold f_X3_comes_b12
      dsimp only
      obtain ⟨s2, c1, c2, c3, c4⟩ := X3_push (N := N) (v := w k) ht (by omega) e2
      rw [e4.2.2.1 18 (by decide), h1, if_neg (nI_ge hk (by omega)), ald_N (show k < 200 by omega) (by omega), Option.bind_some, e4.2.1 17 (by decide), h2 k hk, c1, Option.bind_some, nI_1]
      refine ⟨_, rfl, rfl, c2.congr (fun i hi => ?_), e3.trans c3, e4.trans (c4.mono (by decide) (by decide) (by decide))⟩
      unfold wset
      split
      · rename_i e; rw [e]
      · rfl
    · rintro ⟨x, s⟩ ⟨e1, e2, e3, e4⟩
      dsimp only at e1 e2 e3 e4
      subst e1
      unfold f_X3_comes_b12
      dsimp only
      rw [e4.2.2.1 18 (by decide), h1, if_pos (nI_le (Nat.le_refl _) (by omega))]
      exact ⟨_, rfl, e2, e3, e4⟩
  rw [b1, Option.bind_some, b4.2.2.1 18 (by decide), h1]
  exact ⟨s1, rfl, b2, b3, b4⟩
