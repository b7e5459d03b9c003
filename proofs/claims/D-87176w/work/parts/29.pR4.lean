/-! ===== PURE R4: the model's 'clear' makes the reduced form ===== -/
set_option maxRecDepth 100000
theorem sL_s (st : MS) (k : Nat) (f : Nat → Int64) : (sL st k f).2.1 k = f := by
  show va_up st.2.1 k f k = f
  exact up_s
theorem sI_s (st : MS) (k : Nat) (f : Nat → Int32) : (sI st k f).1 k = f := by
  show va_up st.1 k f k = f
  exact up_s
theorem sV_s (st : MS) (k : Nat) (x : Int32) : (sV st k x).2.2.1 k = x := by
  show va_up st.2.2.1 k x k = x
  exact up_s
/-- a place of the model: its kind, field, length and words -/
def mPl (st : MS) (p kd q n m : Nat) (w : Nat → Nat) : Prop := st.1 1 p = nI kd ∧ st.1 2 p = nI q ∧ st.1 3 p = nI n ∧ st.1 4 p = nI m ∧ ∀ k, k < m → st.2.1 5 (200 * p + k) = lN (w k)
theorem ix200 (p k : Nat) : (200 : Int32) * nI p + nI k = nI (200 * p + k) := by rw [show (200 : Int32) = nI 200 from rfl, pk_mul, nI_add]
/-- the model's form, as far as the place p -/
def mFo (st : MS) (q n m : Nat) (W : Nat → Nat → Nat) (p : Nat) : Prop := ∃ r h w, Fo q n m W r h (wR q n w) p ∧ st.2.2.1 8 = nI r ∧ (∀ k, k < r → st.1 7 k = nI (h k)) ∧ ∀ k, k < m → st.2.1 6 k = lN (w k) ∧ w k < q ^ n
theorem clear_find {q n m r p N : Nat} {st : MS} {w : Nat → Nat} (hN : 20 ≤ N) (hq : isQ q) (hn : n ≤ 12) (hm : m ≤ 12) (hr : r ≤ m) (hp : p < n) (hw : ∀ k, k < m → st.2.1 6 k = lN (w k) ∧ w k < q ^ n) : ∃ k, r ≤ k ∧ k ≤ m ∧ lp (f_X3_clear_b78 N (nI q) (nI n) (nI m) (nI p) st) N (nI r) = some (nI k) ∧ (k < m → dg q n (w k) p ≠ 0) ∧ (k = m → ∀ j, r ≤ j → j < m → dg q n (w j) p = 0) := by
  have q5 := hq.2
  have hs := qn_small hq hn
  have body : ∀ j, j < m → f_X3_clear_b78 N (nI q) (nI n) (nI m) (nI p) st (nI j) = if dg q n (w j) p = 0 then some (.inl (nI (j + 1))) else some (.inr (nI j)) := by
    intro j hj
    have := (hw j hj).2
    unfold f_X3_clear_b78
    rw [if_neg (nI_ge hj (by omega)), ald_N (show j < 12 by omega) (by omega), Option.bind_some, (hw j hj).1, X3_letter hN hq hn (by omega) hp, Option.bind_some, nI_1]
    have hd := dg_lt hq n (w j) p
    by_cases e : dg q n (w j) p = 0
    · rw [if_pos e, if_pos (by rw [e]; rfl)]
    · rw [if_neg e, if_neg (nI_ne0 (by omega) (by omega))]
  by_cases hex : ∃ k, r ≤ k ∧ k < m ∧ dg q n (w k) p ≠ 0
  · obtain ⟨k, ⟨k1, k2, k3⟩, hl⟩ := pk_least (fun k => r ≤ k ∧ k < m ∧ dg q n (w k) p ≠ 0) hex
    refine ⟨k, k1, by omega, ?_, fun _ => k3, fun h => by omega⟩
    refine lp_up (S := nI) (R := nI k) k ?_ (k - r) r N (by omega) (by omega) ?_
    · rw [body k k2, if_neg k3]
    · intro i i1 i2
      have : dg q n (w i) p = 0 := Classical.byContradiction fun hne => hl i i2 ⟨i1, by omega, hne⟩
      rw [body i (by omega), if_pos this]
  · have hz : ∀ j, r ≤ j → j < m → dg q n (w j) p = 0 := fun j j1 j2 => Classical.byContradiction fun hne => hex ⟨j, j1, j2, hne⟩
    refine ⟨m, hr, Nat.le_refl _, ?_, fun h => by omega, fun _ => hz⟩
    refine lp_up (S := nI) (R := nI m) m ?_ (m - r) r N (by omega) (by omega) ?_
    · unfold f_X3_clear_b78
      rw [if_pos (nI_le (Nat.le_refl _) (by omega))]
    · intro i i1 i2
      rw [body i (by omega), if_pos (hz i i1 i2)]
/-- the words after a step: w1 after the swap -/
def clr (q n p r : Nat) (w1 : Nat → Nat) (i : Nat) : Nat := if i = r then w1 i else wsum q n (w1 i) (w1 r) (fneg q (dg q n (w1 i) p))
theorem clear_rows {q n m r p N : Nat} {st : MS} {w1 : Nat → Nat} (hN : 20 ≤ N) (hq : isQ q) (hn : n ≤ 12) (hm : m ≤ 12) (hr : r < m) (hp : p < n) (h8 : st.2.2.1 8 = nI r) (hw : ∀ k, k < m → st.2.1 6 k = lN (w1 k) ∧ w1 k < q ^ n) : ∃ st', lp (f_X3_clear_b176 N (nI q) (nI n) (nI m) (nI p)) N (0, st) = some st' ∧ Kp [] [6] [] st st' ∧ ∀ k, k < m → st'.2.1 6 k = lN (clr q n p r w1 k) := by
  have q5 := hq.2
  have hs := qn_small hq hn
  have hr1 : clr q n p r w1 r = w1 r := if_pos rfl
  refine lp_inv0 (P := fun j s => s.1 = nI j ∧ Kp [] [6] [] st s.2 ∧ ∀ k, k < m → s.2.2.1 6 k = lN (if k < j then clr q n p r w1 k else w1 k)) (Q := fun st' => Kp [] [6] [] st st' ∧ ∀ k, k < m → st'.2.1 6 k = lN (clr q n p r w1 k)) m (by omega) ⟨rfl, Kp.refl _ _ _ _, fun k hk => by rw [if_neg (by omega)]; exact (hw k hk).1⟩ ?_ ?_
  · rintro j ⟨jj, t⟩ hj ⟨e1, hk, ht⟩
    dsimp only at e1 hk ht
    subst e1
    have t8 : t.2.2.1 8 = nI r := by rw [hk.2.2.1 8 (by decide), h8]
    unfold f_X3_clear_b176
    dsimp only
    rw [if_neg (nI_ge hj (by omega)), t8]
    by_cases e : j = r
    · subst e
      rw [if_pos rfl, nI_1]
      refine ⟨_, rfl, rfl, hk, fun k hkm => ?_⟩
      dsimp only
      rw [ht k hkm]
      by_cases e2 : k = j
      · subst e2; rw [if_neg (by omega), if_pos (by omega), hr1]
      · by_cases e3 : k < j
        · rw [if_pos e3, if_pos (by omega)]
        · rw [if_neg e3, if_neg (by omega)]
    · have hrr : t.2.1 6 r = lN (w1 r) := by
        rw [ht r hr]
        split
        · rw [hr1]
        · rfl
      have hjj : t.2.1 6 j = lN (w1 j) := by rw [ht j hj, if_neg (by omega)]
      have b1 := (hw j hj).2
      have b2 := (hw r hr).2
      have hd := dg_lt hq n (w1 j) p
      rw [if_neg (by rw [nI_eq (by omega) (by omega)]; exact e), ald_N (show j < 12 by omega) (by omega), Option.bind_some, ald_N (show r < 12 by omega) (by omega), Option.bind_some, Option.bind_some, hjj, hrr, X3_letter hN hq hn (by omega) hp, Option.bind_some, X3_minus hq hd, Option.bind_some, X3_sumOf hN hq hn (by omega) (by omega) (fneg_lt hq hd), Option.bind_some, last_N (show j < 12 by omega) (by omega), Option.bind_some, nI_1]
      refine ⟨_, rfl, rfl, hk.sL (by decide) _, fun k hkm => ?_⟩
      dsimp only
      rw [sL_s]
      by_cases e2 : k = j
      · subst e2
        rw [pk_uLs, if_pos (by omega)]
        unfold clr
        rw [if_neg e]
      · rw [pk_uLn e2, ht k hkm]
        by_cases e3 : k < j
        · rw [if_pos e3, if_pos (by omega)]
        · rw [if_neg e3, if_neg (by omega)]
  · rintro ⟨jj, t⟩ ⟨e1, hk, ht⟩
    dsimp only at e1 hk ht
    subst e1
    unfold f_X3_clear_b176
    dsimp only
    rw [if_pos (nI_le (Nat.le_refl _) (by omega))]
    exact ⟨_, rfl, hk, fun k hkm => by rw [ht k hkm, if_pos hkm]⟩
/-- one place of the clearing -/
theorem clear_step {q n m p N : Nat} {st : MS} {W : Nat → Nat → Nat} (hN : 20 ≤ N) (hq : isQ q) (hn : n ≤ 12) (hm : m ≤ 12) (hp : p < n) (F : mFo st q n m W p) : ∃ st', f_X3_clear_b66 N (nI q) (nI n) (nI m) (nI p, st) = some (.inl (nI (p + 1), st')) ∧ Kp [7] [6] [8] st st' ∧ mFo st' q n m W (p + 1) := by
  obtain ⟨r, h, w, F, h8, h7, hw⟩ := F
  have q5 := hq.2
  have q2 := hq.1
  have hs := qn_small hq hn
  have hrm := F.1.2.1
  obtain ⟨k, k1, k2, k3, k4, k5⟩ := clear_find (st := st) hN hq hn hm hrm hp hw
  unfold f_X3_clear_b66
  dsimp only
  rw [if_neg (nI_ge hp (by omega)), h8, k3, Option.bind_some]
  unfold f_X3_clear_j108
  by_cases hkm : k = m
  · rw [hkm, if_pos rfl, nI_1]
    exact ⟨st, rfl, Kp.refl _ _ _ _, r, h, w, F.skip (k5 hkm), h8, h7, hw⟩
  · have hk : k < m := by omega
    have hr : r < m := by omega
    have wk := (hw k hk).2
    have wr := (hw r hr).2
    have d0 := k4 hk
    have dl := dg_lt hq n (w k) p
    have il := finv_lt hq dl
    rw [if_neg (by rw [nI_eq (by omega) (by omega)]; exact hkm), ald_N (show k < 12 by omega) (by omega), Option.bind_some, h8, ald_N (show r < 12 by omega) (by omega), Option.bind_some, last_N (show k < 12 by omega) (by omega), Option.bind_some, (hw k hk).1, (hw r hr).1, X3_letter hN hq hn (by omega) hp, Option.bind_some, X3_inverse hN hq dl d0, Option.bind_some, show (0 : Int64) = lN 0 from rfl, X3_sumOf hN hq hn (by omega) (by omega) il, Option.bind_some]
    have e8 : (sL st 6 (vp_updL (st.2.1 6) k (lN (w r)))).2.2.1 8 = nI r := h8
    have e6 : (sL st 6 (vp_updL (st.2.1 6) k (lN (w r)))).2.1 6 = vp_updL (st.2.1 6) k (lN (w r)) := sL_s _ _ _
    rw [e8, e6, last_N (show r < 12 by omega) (by omega), Option.bind_some]
    -- the words after the swap
    let w1 : Nat → Nat := fun i => if i = r then wsum q n 0 (w k) (finv q (dg q n (w k) p)) else if i = k then w r else w i
    have hw1 : ∀ i, i < m → (sL (sL st 6 (vp_updL (st.2.1 6) k (lN (w r)))) 6 (vp_updL (vp_updL (st.2.1 6) k (lN (w r))) r (lN (wsum q n 0 (w k) (finv q (dg q n (w k) p)))))).2.1 6 i = lN (w1 i) ∧ w1 i < q ^ n := by
      intro i hi
      rw [sL_s]
      by_cases e : i = r
      · subst e
        rw [pk_uLs]
        refine ⟨?_, ?_⟩
        · show _ = lN (if i = i then _ else _)
          rw [if_pos rfl]
        · show (if i = i then _ else _) < _
          rw [if_pos rfl]
          exact wsum_lt hq il
      · rw [pk_uLn e]
        have e' : w1 i = if i = k then w r else w i := if_neg e
        rw [e']
        by_cases e2 : i = k
        · subst e2
          rw [pk_uLs, if_pos rfl]
          exact ⟨rfl, wr⟩
        · rw [pk_uLn e2, if_neg e2]
          exact hw i hi
    obtain ⟨st2, l1, l2, l3⟩ := clear_rows (w1 := w1) (st := sL (sL st 6 (vp_updL (st.2.1 6) k (lN (w r)))) 6 (vp_updL (vp_updL (st.2.1 6) k (lN (w r))) r (lN (wsum q n 0 (w k) (finv q (dg q n (w k) p)))))) hN hq hn hm hr hp h8 hw1
    have hkp : Kp [7] [6] [8] st st2 := (((Kp.refl _ _ _ _).sL (by decide) _).sL (by decide) _).trans (l2.mono (by decide) (by decide) (by decide))
    have s8 : st2.2.2.1 8 = nI r := by rw [l2.2.2.1 8 (by decide)]; exact h8
    have s7 : ∀ j, st2.1 7 j = st.1 7 j := fun j => by rw [l2.1 7 (by decide)]; rfl
    rw [show ((0 : Int32), sL (sL st 6 (vp_updL (st.2.1 6) k (lN (w r)))) 6 (vp_updL (vp_updL (st.2.1 6) k (lN (w r))) r (lN (wsum q n 0 (w k) (finv q (dg q n (w k) p)))))) = ((0 : Int32), sL (sL st 6 (vp_updL (st.2.1 6) k (lN (w r)))) 6 (vp_updL (vp_updL (st.2.1 6) k (lN (w r))) r (lN (wsum q n 0 (w k) (finv q (dg q n (w k) p)))))) from rfl, l1, Option.bind_some, s8, iast_N (show r < 12 by omega) (by omega), Option.bind_some]
    have e9 : (sI st2 7 (upd (st2.1 7) r (nI p))).2.2.1 8 = nI r := s8
    rw [e9, nI_1, nI_1]
    refine ⟨_, rfl, (hkp.sI (by decide) _).sV (by decide) _, r + 1, hset h r p, clr q n p r w1, ?_, sV_s _ _ _, ?_, ?_⟩
    · -- the pivot
      have hw1r : w1 r = wsum q n 0 (w k) (finv q (dg q n (w k) p)) := if_pos rfl
      have hw1j : ∀ j, j ≠ r → w1 j = w (if j = k then r else j) := fun j hj => by
        show (if j = r then _ else if j = k then w r else w j) = _
        rw [if_neg hj]
        split <;> rfl
      have c1 : ∀ i, i < n → dg q n (clr q n p r w1 r) i = fmul q (finv q (dg q n (w k) p)) (dg q n (w k) i) := fun i hi => by
        unfold clr
        rw [if_pos rfl, hw1r, dg_wsum hq il hi, dg_0, fadd_0l hq (fmul_lt hq il (dg_lt hq _ _ _))]
      refine F.piv hq hp k1 hk d0 (Piv.swap k1 hk c1 (fun j hj hjr i hi => ?_))
      show dg q n (clr q n p r w1 j) i = fadd q (dg q n (w (if j = k then r else j)) i) (fmul q (fneg q (dg q n (w (if j = k then r else j)) p)) (dg q n (clr q n p r w1 r) i))
      have e0 : clr q n p r w1 r = w1 r := if_pos rfl
      have e1 : clr q n p r w1 j = wsum q n (w1 j) (w1 r) (fneg q (dg q n (w1 j) p)) := if_neg hjr
      rw [e0, e1, dg_wsum hq (fneg_lt hq (dg_lt hq _ _ _)) hi, hw1j j hjr]
    · intro j hj
      show (sI st2 7 (upd (st2.1 7) r (nI p))).1 7 j = _
      rw [sI_s]
      unfold hset
      by_cases e : j = r
      · subst e; rw [if_pos rfl]; exact if_pos rfl
      · rw [if_neg e, show upd (st2.1 7) r (nI p) j = st2.1 7 j from if_neg e, s7, h7 j (by omega)]
    · intro j hj
      refine ⟨l3 j hj, ?_⟩
      unfold clr
      split
      · exact (hw1 j hj).2
      · exact wsum_lt hq (fneg_lt hq (dg_lt hq _ _ _))
/-- THE MODEL'S FORM -/
theorem X3_clear {q n m p kd N : Nat} {st : MS} {w : Nat → Nat} (hN : 20 ≤ N) (hq : isQ q) (hn : n ≤ 12) (hm : m ≤ 12) (hp : p < 12) (hP : mPl st p kd q n m w) (hw : ∀ k, k < m → w k < q ^ n) : ∃ st', f_X3_clear N st (nI p) = some st' ∧ Kp [7] [6] [8] st st' ∧ st'.2.2.1 8 = nI (rk q n m (wR q n w)) ∧ (∀ k, k < rk q n m (wR q n w) → st'.1 7 k = nI (hd q n m (wR q n w) k)) ∧ ∀ k, k < rk q n m (wR q n w) → st'.2.1 6 k = lN (fw q n m (wR q n w) k) := by
  obtain ⟨p1, p2, p3, p4, p5⟩ := hP
  unfold f_X3_clear
  rw [ald_N hp (by omega), Option.bind_some, ald_N hp (by omega), Option.bind_some, ald_N hp (by omega), Option.bind_some, p2, p3, p4]
  obtain ⟨s1, a1, a2, a3⟩ : ∃ s1, lp (f_X3_clear_b25 N (nI p) (nI q) (nI n) (nI m)) N (0, st) = some s1 ∧ Kp [7] [6] [8] st s1 ∧ ∀ k, k < m → s1.2.1 6 k = lN (w k) := by
    refine lp_inv0 (P := fun j s => s.1 = nI j ∧ Kp [7] [6] [8] st s.2 ∧ ∀ k, k < j → s.2.2.1 6 k = lN (w k)) (Q := fun s1 => Kp [7] [6] [8] st s1 ∧ ∀ k, k < m → s1.2.1 6 k = lN (w k)) m (by omega) ⟨rfl, Kp.refl _ _ _ _, fun k hk => by omega⟩ ?_ ?_
    · rintro j ⟨jj, t⟩ hj ⟨e1, hk, ht⟩
      dsimp only at e1 hk ht
      subst e1
      unfold f_X3_clear_b25
      dsimp only
      rw [if_neg (nI_ge hj (by omega)), ix200, ald_N (show 200 * p + j < 2400 by omega) (by omega), Option.bind_some, last_N (show j < 12 by omega) (by omega), Option.bind_some, nI_1]
      refine ⟨_, rfl, rfl, hk.sL (by decide) _, fun k hkj => ?_⟩
      dsimp only
      rw [sL_s]
      by_cases e : k = j
      · subst e
        rw [pk_uLs, hk.2.1 5 (by decide), p5 k hj]
      · rw [pk_uLn e]
        exact ht k (by omega)
    · rintro ⟨jj, t⟩ ⟨e1, hk, ht⟩
      dsimp only at e1 hk ht
      subst e1
      unfold f_X3_clear_b25
      dsimp only
      rw [if_pos (nI_le (Nat.le_refl _) (by omega))]
      exact ⟨_, rfl, hk, ht⟩
  rw [a1, Option.bind_some]
  obtain ⟨s2, b1, b2, b3⟩ : ∃ s2, lp (f_X3_clear_b66 N (nI q) (nI n) (nI m)) N (0, sV s1 8 0) = some s2 ∧ Kp [7] [6] [8] st s2 ∧ mFo s2 q n m (wR q n w) n := by
    refine lp_inv0 (P := fun j s => s.1 = nI j ∧ Kp [7] [6] [8] st s.2 ∧ mFo s.2 q n m (wR q n w) j) (Q := fun s1 => Kp [7] [6] [8] st s1 ∧ mFo s1 q n m (wR q n w) n) n (by omega) ⟨rfl, a2.sV (by decide) _, 0, fun _ => 0, w, Fo.start _ (wR_ok hq), sV_s _ _ _, fun k hk => by omega, fun k hk => ⟨a3 k hk, hw k hk⟩⟩ ?_ ?_
    · rintro j ⟨jj, t⟩ hj ⟨e1, hk, ht⟩
      dsimp only at e1 hk ht
      subst e1
      obtain ⟨t', c1, c2, c3⟩ := clear_step hN hq hn hm hj ht
      exact ⟨_, c1, rfl, hk.trans c2, c3⟩
    · rintro ⟨jj, t⟩ ⟨e1, hk, ht⟩
      dsimp only at e1 hk ht
      subst e1
      unfold f_X3_clear_b66
      dsimp only
      rw [if_pos (nI_le (Nat.le_refl _) (by omega))]
      exact ⟨_, rfl, hk, ht⟩
  rw [b1, Option.bind_some]
  obtain ⟨r, h, w2, F, c8, c7, c6⟩ := b3
  obtain ⟨e1, e2, e3⟩ := F.words hq (wR_ok hq) (fun _ => Iff.rfl) (fun k hk => (c6 k (by have := F.1.2.1; omega)).2)
  have hrm := F.1.2.1
  subst e1
  exact ⟨s2, rfl, b2, c8, fun k hk => by rw [c7 k hk, e2 k hk], fun k hk => by rw [(c6 k (by omega)).1, e3 k hk]⟩
