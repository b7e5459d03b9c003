/-! ===== PURE J43: keep (op) ===== -/
set_option maxRecDepth 100000
def Mk0 (st s0 : MS) : Prop := s0.1 1 = st.1 1 ∧ s0.1 2 = st.1 2 ∧ s0.1 3 = st.1 3 ∧ s0.1 4 = st.1 4 ∧ s0.2.1 5 = st.2.1 5
theorem isIn_neg (N : Nat) (e : Int32) : f_X1_isIn N e.toInt64 0 ((nI 0 - 1 : Int32)).toInt64 = some 0 := by
  have h1 : ((nI 0 - 1 : Int32)).toInt64 = -1 := by decide
  unfold f_X1_isIn
  rw [h1]
  by_cases h : e.toInt64 < 0
  · rw [if_pos h]; rfl
  · rw [if_neg h, if_pos]
    · rfl
    · rw [Int64.lt_iff_toInt_lt, show (-1 : Int64).toInt = -1 from by decide]
      rw [Int64.lt_iff_toInt_lt, show (0 : Int64).toInt = 0 from rfl] at h
      omega
theorem X3_keep88 {N p d k wt kd q n m : Nat} {b : Int32} {st : MS} {w : Nat → Nat} (hN : 5000 ≤ N) (hd : d < 6) (hp : p < 12) (hok : okc kd q n m w) (hP : mPl st p kd q n m w) (hwt : wt ≤ 4) (hb : wt = 3 → b = nI k ∧ k < m) : ∃ st', f_X3_keep_j88 N (nI d) (nI wt) (nI p) b st = some (st', 0) ∧ Ms st st' d ∧ st'.1 19 d = nI wt ∧ st'.1 20 d = nI kd ∧ st'.1 21 d = nI n ∧ st'.1 22 d = nI (if wt = 3 then n else m) ∧ ∀ i, i < (if wt = 3 then n else m) → st'.2.1 23 (200 * d + i) = lN (if wt = 3 then dg q n (w k) i else w i) := by
  have hm := hok.m200
  have hw := hok.w62
  have hq := hok.1
  have q5 := hq.2
  have hn := hok.2.2.1
  have hcnt : (if wt = 3 then n else m) ≤ 200 := by split <;> omega
  have e3 : (nI wt = (3 : Int32)) ↔ wt = 3 := by rw [show (3 : Int32) = nI 3 from rfl, nI_eq (by omega) (by omega)]
  have hj : ∀ s0 : MS, Mk0 st s0 → s0.1 22 d = nI (if wt = 3 then n else m) → ∃ st', lp (f_X3_keep_b148 N (nI d) (nI wt) (nI p) b) N (0, s0) = some st' ∧ Kp [] [23] [] s0 st' ∧ (∀ a, (a < 200 * d ∨ 200 * d + 200 ≤ a) → st'.2.1 23 a = s0.2.1 23 a) ∧ ∀ i, i < (if wt = 3 then n else m) → st'.2.1 23 (200 * d + i) = lN (if wt = 3 then dg q n (w k) i else w i) := by
    intro s0 h0 h22
    obtain ⟨z1, z2, z3, z4, z5⟩ := h0
    refine lp_inv0 (P := fun i (s : Int32 × MS) => s.1 = nI i ∧ Kp [] [23] [] s0 s.2 ∧ (∀ a, (a < 200 * d ∨ 200 * d + 200 ≤ a) → s.2.2.1 23 a = s0.2.1 23 a) ∧ ∀ a, a < i → s.2.2.1 23 (200 * d + a) = lN (if wt = 3 then dg q n (w k) a else w a)) (Q := fun (s : MS) => Kp [] [23] [] s0 s ∧ (∀ a, (a < 200 * d ∨ 200 * d + 200 ≤ a) → s.2.1 23 a = s0.2.1 23 a) ∧ ∀ i, i < (if wt = 3 then n else m) → s.2.1 23 (200 * d + i) = lN (if wt = 3 then dg q n (w k) i else w i)) (if wt = 3 then n else m) (by omega) ⟨rfl, Kp.refl _ _ _ _, fun _ _ => rfl, fun a ha => by omega⟩ ?_ ?_
    · rintro i ⟨y, s⟩ hi ⟨e1, e2, e4, e5⟩
      dsimp only at e1 e2 e4 e5
      subst e1
      have g2 : s.1 2 p = nI q := by rw [e2.1 2 (by decide), z2]; exact hP.2.1
      have g3 : s.1 3 p = nI n := by rw [e2.1 3 (by decide), z3]; exact hP.2.2.1
      have g5 : ∀ a, a < m → s.2.1 5 (200 * p + a) = lN (w a) := fun a ha => by rw [e2.2.1 5 (by decide), z5]; exact hP.2.2.2.2 a ha
      have g22 : s.1 22 d = nI (if wt = 3 then n else m) := by rw [e2.1 22 (by decide)]; exact h22
      have fin : ∀ v : Nat, v = (if wt = 3 then dg q n (w k) i else w i) → ∃ s', f_X3_keep_j223 N (nI d) (nI wt) (nI p) b (nI i) (lN v) ((200 : Int32) * nI d + nI i) s = some (.inl s') ∧ s'.1 = nI (i + 1) ∧ Kp [] [23] [] s0 s'.2 ∧ (∀ a, (a < 200 * d ∨ 200 * d + 200 ≤ a) → s'.2.2.1 23 a = s0.2.1 23 a) ∧ ∀ a, a < i + 1 → s'.2.2.1 23 (200 * d + a) = lN (if wt = 3 then dg q n (w k) a else w a) := by
        intro v hv
        unfold f_X3_keep_j223
        rw [ix200, last_N (show 200 * d + i < 1200 by omega) (by omega), Option.bind_some, nI_1]
        refine ⟨_, rfl, rfl, e2.sL (by decide) _, fun a ha => ?_, fun a ha => ?_⟩
        · dsimp only
          rw [sL_s, pk_uLn (by omega)]
          exact e4 a ha
        · dsimp only
          rw [sL_s]
          by_cases e : a = i
          · rw [e, pk_uLs, hv]
          · rw [pk_uLn (by omega)]; exact e5 a (by omega)
      unfold f_X3_keep_b148
      dsimp only
      rw [ald_N hd (by omega), Option.bind_some, g22, if_neg (nI_ge hi (by omega))]
      by_cases e : wt = 3
      · obtain ⟨rfl, hk⟩ := hb e
        rw [if_pos e] at hi
        have hdg := dg_lt hq n (w k) i
        rw [if_pos (e3.mpr e), ald_N hp (by omega), Option.bind_some, g2, ald_N hp (by omega), Option.bind_some, g3, ix200, ald_N (show 200 * p + k < 2400 by omega) (by omega), Option.bind_some, g5 k hk, X3_letter (by omega) hq hn (hw k hk) hi, Option.bind_some, ps_l _ (by omega)]
        exact fin _ (by rw [if_pos e])
      · rw [if_neg e] at hi
        rw [if_neg (fun h => e (e3.mp h)), ix200, ald_N (show 200 * p + i < 2400 by omega) (by omega), Option.bind_some, g5 i hi]
        exact fin _ (by rw [if_neg e])
    · rintro ⟨y, s⟩ ⟨e1, e2, e4, e5⟩
      dsimp only at e1 e2 e4 e5
      subst e1
      have g22 : s.1 22 d = nI (if wt = 3 then n else m) := by rw [e2.1 22 (by decide)]; exact h22
      unfold f_X3_keep_b148
      dsimp only
      rw [ald_N hd (by omega), Option.bind_some, g22, if_pos (nI_le (Nat.le_refl _) (by omega))]
      exact ⟨_, rfl, e2, e4, e5⟩
  unfold f_X3_keep_j88 f_X3_keep_j144
  simp only [iast_N hd (show 6 < 2 ^ 31 by omega), ald_N hp (show 12 < 2 ^ 31 by omega), Option.bind_some]
  have hcond : (if nI wt = (3 : Int32) then Option.bind (lp (f_X3_keep_b148 N (nI d) (nI wt) (nI p) b) N (0, sI (sI (sI (sI st 19 (upd (st.1 19) d (nI wt))) 20 (upd (st.1 20) d (nI kd))) 21 (upd (st.1 21) d (nI n))) 22 (upd (st.1 22) d (nI n)))) (fun r => some (r, (0 : Int32))) else Option.bind (lp (f_X3_keep_b148 N (nI d) (nI wt) (nI p) b) N (0, sI (sI (sI (sI st 19 (upd (st.1 19) d (nI wt))) 20 (upd (st.1 20) d (nI kd))) 21 (upd (st.1 21) d (nI n))) 22 (upd (st.1 22) d (nI m)))) (fun r => some (r, (0 : Int32)))) = Option.bind (lp (f_X3_keep_b148 N (nI d) (nI wt) (nI p) b) N (0, sI (sI (sI (sI st 19 (upd (st.1 19) d (nI wt))) 20 (upd (st.1 20) d (nI kd))) 21 (upd (st.1 21) d (nI n))) 22 (upd (st.1 22) d (nI (if wt = 3 then n else m))))) (fun r => some (r, (0 : Int32))) := by
    by_cases e : wt = 3
    · rw [if_pos (e3.mpr e), if_pos e]
    · rw [if_neg (fun h => e (e3.mp h)), if_neg e]
  have y1 : ∀ f, (sI st 19 f).1 1 p = nI kd := fun f => by rw [sI_n (by decide)]; exact hP.1
  have y20 : ∀ f, (sI st 19 f).1 20 = st.1 20 := fun f => sI_n (by decide)
  have y3 : ∀ f g, (sI (sI st 19 f) 20 g).1 3 p = nI n := fun f g => by rw [sI_n (by decide), sI_n (by decide)]; exact hP.2.2.1
  have y21 : ∀ f g, (sI (sI st 19 f) 20 g).1 21 = st.1 21 := fun f g => by rw [sI_n (by decide), sI_n (by decide)]
  have y3' : ∀ f g h, (sI (sI (sI st 19 f) 20 g) 21 h).1 3 p = nI n := fun f g h => by rw [sI_n (by decide), sI_n (by decide), sI_n (by decide)]; exact hP.2.2.1
  have y4 : ∀ f g h, (sI (sI (sI st 19 f) 20 g) 21 h).1 4 p = nI m := fun f g h => by rw [sI_n (by decide), sI_n (by decide), sI_n (by decide)]; exact hP.2.2.2.1
  have y22 : ∀ f g h, (sI (sI (sI st 19 f) 20 g) 21 h).1 22 = st.1 22 := fun f g h => by rw [sI_n (by decide), sI_n (by decide), sI_n (by decide)]
  simp only [y1, y20, y3, y21, y3', y4, y22, hcond]
  have h0 : Mk0 st (sI (sI (sI (sI st 19 (upd (st.1 19) d (nI wt))) 20 (upd (st.1 20) d (nI kd))) 21 (upd (st.1 21) d (nI n))) 22 (upd (st.1 22) d (nI (if wt = 3 then n else m)))) := by
    refine ⟨?_, ?_, ?_, ?_, rfl⟩ <;> rw [sI_n (by decide), sI_n (by decide), sI_n (by decide), sI_n (by decide)]
  obtain ⟨st', a1, a2, a3, a4⟩ := hj _ h0 (by rw [sI_s, up_s'])
  rw [a1, Option.bind_some]
  obtain ⟨z1, z2, z3, z4, z5⟩ := h0
  refine ⟨st', rfl, ⟨⟨by rw [a2.1 1 (by decide)]; exact z1, by rw [a2.1 2 (by decide)]; exact z2, by rw [a2.1 3 (by decide)]; exact z3, by rw [a2.1 4 (by decide)]; exact z4, by rw [a2.2.1 5 (by decide)]; exact z5⟩, fun e he hed => ⟨?_, ?_, ?_, ?_, fun i hi => ?_⟩⟩, ?_, ?_, ?_, ?_, a4⟩
  · rw [a2.1 19 (by decide), sI_n (by decide), sI_n (by decide), sI_n (by decide), sI_s, up_n' hed]
  · rw [a2.1 20 (by decide), sI_n (by decide), sI_n (by decide), sI_s, up_n' hed]
  · rw [a2.1 21 (by decide), sI_n (by decide), sI_s, up_n' hed]
  · rw [a2.1 22 (by decide), sI_s, up_n' hed]
  · rw [a3 _ (by omega)]
    rfl
  · rw [a2.1 19 (by decide), sI_n (by decide), sI_n (by decide), sI_n (by decide), sI_s, up_s']
  · rw [a2.1 20 (by decide), sI_n (by decide), sI_n (by decide), sI_s, up_s']
  · rw [a2.1 21 (by decide), sI_n (by decide), sI_s, up_s']
  · rw [a2.1 22 (by decide), sI_s, up_s']
theorem op_keep {N x M : Nat} {own : Nat → Nat} {σ : SG} {st : MS} (hN : 5000 ≤ N) (j : J x M own σ st) (a b c e : Int32) : Ok x M σ (f_X1_keep N σ x a b c e) (f_X3_keep N st a b c e) := by
  unfold f_X1_keep f_X3_keep
  simp only [X3_isShelf_eq]
  rcases shelf_cases N a with ⟨d, hd, rfl, ha⟩ | ha
  · obtain ⟨g1, g2, g3, g4⟩ := j.get (N := N) hd
    rw [ha, Option.bind_some, if_neg i10, Option.bind_some, if_neg i10, show (0 : Int64) = lN 0 from rfl, show (4 : Int64) = lN 4 from rfl]
    rcases int_cases b 0 4 (by omega) with ⟨wt, w1, w2, rfl⟩ | hb
    · rw [isIn_yes (by omega) w1 w2, Option.bind_some, if_neg i10]
      have hs := shA_in (x := x) hd
      have hj1 := j.1
      have main : ∀ wt, wt = 1 ∨ wt = 3 ∨ wt = 4 → Ok x M σ (Option.bind (f_X1_isPlace N c) fun v23 => if v23 = 0 then some (σ, (-1 : Int32)) else f_X1_keep_j37 N x (nI d) (nI wt) c e σ) (f_X3_keep_j28 N (nI d) (nI wt) c e st) := by
        intro wt hwt
        have wle : wt ≤ 4 := by omega
        unfold f_X3_keep_j28
        rw [if_neg (nI_ne0 (by omega) (by omega)), X3_isPlace_eq]
        rcases pl_cases j N c with h | ⟨p, hp, rfl, h, hcase⟩
        · rw [h]
          exact Ok.nil j rfl rfl
        · rw [h, Option.bind_some, if_neg i10, Option.bind_some, if_neg i10]
          unfold f_X1_keep_j37
          rw [if_neg (nI_nle (by omega) (by omega)), j.codes, Option.bind_some]
          rcases hcase with ⟨h2, -, h3⟩ | ⟨kd, q, n, m, w, cc, h2, h3, hok, hP, hX⟩
          · rw [h2, h3]
            exact Ok.nil j rfl rfl
          · obtain ⟨A, x1, x2, x3, x4, C⟩ := id hX
            have hm := hok.m200
            have hn := hok.2.2.1
            rw [h2, h3, Option.bind_some, Option.bind_some, if_pos rfl]
            dsimp only
            unfold f_X1_keep_j53
            rcases hwt with rfl | rfl | rfl
            · obtain ⟨st', a1, a2, a3, a4, a5, a6, a7⟩ := X3_keep88 (k := 0) (wt := 1) (b := e) hN hd hp hok hP (by omega) (fun h => by omega)
              obtain ⟨τ, b1, b2⟩ := X4_copy (N := N) hok C x1 x2
              obtain ⟨t1, t2, t3⟩ := j.shelve (τ := τ) (st' := st') (v := .ref σ.1) hd (by have := b2.1; omega) b2.2.1 a2 (Or.inr (Or.inl ⟨kd, q, n, m, w, σ.1, rfl, hok, ⟨σ.1 + 1, by have := b2.1; show σ.1 < τ.1; omega, by have := b2.1; show σ.1 + 1 < τ.1; omega, if_neg (by omega), if_neg (by omega), by rw [uC_n (by omega)]; exact b2.2.2.1, by
                obtain ⟨g, z1, z2⟩ := b2.2.2.2
                exact ⟨g, by rw [uC_n (by omega)]; exact z1, z2⟩⟩, a3, a4, a5, a6⟩))
              unfold f_X1_keep_j83 f_X1_keep_j131
              simp only [show (nI 1 = (3 : Int32)) = False from eq_false (by decide), show (nI 1 = (0 : Int32)) = False from eq_false (by decide), show (nI 1 = (1 : Int32)) = True from eq_true rfl, if_true, if_false, g1, g2, g3, g4, Option.bind_some, j.codes, h2, b1]
              rw [a1, show pV [1] τ (shA x d) 0 (va_rf (some σ.1)) = _ from t1, Option.bind_some]
              exact ⟨_, st', _, _, rfl, rfl, t2, t3⟩
            · simp only [show (nI 3 = (3 : Int32)) = True from eq_true rfl, if_true, j.codes, h2, Option.bind_some, gI_of (k := 3) C.1 (cls_in kd) rfl, ald_N hp (show 12 < 2 ^ 31 by omega), hP.2.2.2.1, X3_isIn_eq]
              by_cases hm0 : m = 0
              · subst hm0
                have h9 : f_X1_isIn N e.toInt64 0 ((nI 0 - 1 : Int32)).toInt64 = some 0 := isIn_neg N e
                rw [h9]
                exact Ok.nil j rfl rfl
              · rw [nI_s1 (by omega), ps_l (m - 1) (by omega), show (0 : Int64) = lN 0 from rfl]
                rcases int_cases e 0 (m - 1) (by omega) with ⟨k, k1, k2, rfl⟩ | he
                · rw [isIn_yes (by omega) k1 k2, Option.bind_some, if_neg i10, Option.bind_some, if_neg i10]
                  obtain ⟨st', a1, a2, a3, a4, a5, a6, a7⟩ := X3_keep88 (k := k) (wt := 3) (b := nI k) hN hd hp hok hP (by omega) (fun h => ⟨rfl, by omega⟩)
                  obtain ⟨τ, v, b1, b2, b3, b4, b5⟩ := X1_row3 hN hok C x1 x2 (show k < m by omega)
                  rw [if_pos rfl] at a6
                  obtain ⟨t1, t2, t3⟩ := j.shelve (τ := τ) (st' := st') (v := .ref (σ.1 + 1)) hd (by omega) b3 a2 (Or.inr (Or.inr (Or.inl ⟨σ.1 + 1, n, v, rfl, by show σ.1 + 1 < τ.1; omega, if_neg (by omega), by rw [uC_n (by omega)]; exact b4, by omega, a3, a6, fun i hi => ⟨by
                    rw [a7 i (by rw [if_pos rfl]; exact hi), if_pos rfl, b5 i hi, ps_l _ (by have := dg_lt hok.1 n (w k) i; have := hok.1.2; omega)], by
                    rw [b5 i hi]
                    exact fit5 _ (by have := dg_lt hok.1 n (w k) i; have := hok.1.2; omega)⟩⟩)))
                  unfold f_X1_keep_j83 f_X1_keep_j131
                  simp only [show (nI 3 = (0 : Int32)) = False from eq_false (by decide), show (nI 3 = (1 : Int32)) = False from eq_false (by decide), if_false, g1, g2, g3, g4, Option.bind_some, j.codes, h2]
                  rw [show f_X1_rowOf N σ (nI 3) cc (nI k) = _ from b1, Option.bind_some, a1, show pV [1] τ (shA x d) 0 (va_rf (some (σ.1 + 1))) = _ from t1, Option.bind_some]
                  exact ⟨_, st', _, _, rfl, rfl, t2, t3⟩
                · rw [isIn_no (by omega) (by omega) he]
                  exact Ok.nil j rfl rfl
            · obtain ⟨st', a1, a2, a3, a4, a5, a6, a7⟩ := X3_keep88 (k := 0) (wt := 4) (b := e) hN hd hp hok hP (by omega) (fun h => by omega)
              obtain ⟨τ, v, b1, b2, b3, b4, b5⟩ := X1_row4 (N := N) (b := e) hok C x1 x2
              rw [if_neg (by omega)] at a6
              obtain ⟨t1, t2, t3⟩ := j.shelve (τ := τ) (st' := st') (v := .ref σ.1) hd (by omega) b3 a2 (Or.inr (Or.inr (Or.inr ⟨σ.1, m, v, rfl, by show σ.1 < τ.1; omega, if_neg (by omega), by rw [uC_n (by omega)]; exact b4, hm, a3, a6, fun i hi => by
                rw [a7 i (by rw [if_neg (by omega)]; exact hi), if_neg (by omega), b5 i hi]⟩)))
              unfold f_X1_keep_j83 f_X1_keep_j131
              simp only [show (nI 4 = (3 : Int32)) = False from eq_false (by decide), show (nI 4 = (0 : Int32)) = False from eq_false (by decide), show (nI 4 = (1 : Int32)) = False from eq_false (by decide), if_false, g1, g2, g3, g4, Option.bind_some, j.codes, h2]
              rw [show f_X1_rowOf N σ (nI 4) cc e = _ from b1, Option.bind_some, a1, show pV [1] τ (shA x d) 0 (va_rf (some σ.1)) = _ from t1, Option.bind_some]
              exact ⟨_, st', _, _, rfl, rfl, t2, t3⟩
      rcases (show wt = 0 ∨ wt = 1 ∨ wt = 2 ∨ wt = 3 ∨ wt = 4 by omega) with rfl | rfl | rfl | rfl | rfl
      · unfold f_X1_keep_j37 f_X1_keep_j53 f_X1_keep_j83 f_X1_keep_j131 f_X3_keep_j28
        simp only [show (nI 0 = (2 : Int32)) = False from eq_false (by decide), show (nI 0 ≤ (0 : Int32)) = True from eq_true (by decide), show (nI 0 = (3 : Int32)) = False from eq_false (by decide), show (nI 0 = (0 : Int32)) = True from eq_true rfl, if_true, if_false, g1, g2, g3, g4, Option.bind_some, iast_N hd (show 6 < 2 ^ 31 by omega)]
        obtain ⟨t1, t2, t3⟩ := j.shelve (τ := σ) (st' := sI st 19 (upd (st.1 19) d 0)) (v := .null) hd (Nat.le_refl _) (fun _ _ => rfl) ⟨⟨by rw [sI_n (by decide)], by rw [sI_n (by decide)], by rw [sI_n (by decide)], by rw [sI_n (by decide)], rfl⟩, fun e he hed => ⟨by rw [sI_s, up_n' hed], by rw [sI_n (by decide)], by rw [sI_n (by decide)], by rw [sI_n (by decide)], fun k _ => rfl⟩⟩ (Or.inl ⟨rfl, by rw [sI_s, up_s']⟩)
        rw [show pV [1] σ (shA x d) 0 (va_rf none) = _ from t1, Option.bind_some]
        exact ⟨_, _, _, _, rfl, rfl, t2, t3⟩
      · simp only [show (nI 1 = (2 : Int32)) = False from eq_false (by decide), show (nI 1 ≤ (0 : Int32)) = False from eq_false (by decide), show (nI 1 = (0 : Int32)) = False from eq_false (by decide), show (nI 1 = (1 : Int32)) = True from eq_true rfl, if_true, if_false]
        exact main 1 (Or.inl rfl)
      · simp only [show (nI 2 = (2 : Int32)) = True from eq_true rfl, show (nI 2 = (0 : Int32)) = False from eq_false (by decide), show (nI 2 = (1 : Int32)) = False from eq_false (by decide), show (nI 2 = (3 : Int32)) = False from eq_false (by decide), show (nI 2 = (4 : Int32)) = False from eq_false (by decide), if_true, if_false]
        exact Ok.nil j rfl rfl
      · simp only [show (nI 3 = (2 : Int32)) = False from eq_false (by decide), show (nI 3 ≤ (0 : Int32)) = False from eq_false (by decide), show (nI 3 = (0 : Int32)) = False from eq_false (by decide), show (nI 3 = (1 : Int32)) = False from eq_false (by decide), show (nI 3 = (3 : Int32)) = True from eq_true rfl, if_true, if_false]
        exact main 3 (Or.inr (Or.inl rfl))
      · simp only [show (nI 4 = (2 : Int32)) = False from eq_false (by decide), show (nI 4 ≤ (0 : Int32)) = False from eq_false (by decide), show (nI 4 = (0 : Int32)) = False from eq_false (by decide), show (nI 4 = (1 : Int32)) = False from eq_false (by decide), show (nI 4 = (3 : Int32)) = False from eq_false (by decide), show (nI 4 = (4 : Int32)) = True from eq_true rfl, if_true, if_false]
        exact main 4 (Or.inr (Or.inr rfl))
    · rw [isIn_no (by omega) (by omega) hb, Option.bind_some, if_pos rfl]
      have hne : ∀ k : Nat, k ≤ 4 → ¬ b = nI k := fun k hk h => hb (by rw [h, nI_toInt (by omega)]; omega)
      rw [if_neg (show ¬ b = 0 from hne 0 (by omega)), if_neg (show ¬ b = 1 from hne 1 (by omega)), if_neg (show ¬ b = 3 from hne 3 (by omega)), if_neg (show ¬ b = 4 from hne 4 (by omega))]
      exact Ok.nil j rfl rfl
  · rw [ha]
    exact Ok.nil j rfl rfl
