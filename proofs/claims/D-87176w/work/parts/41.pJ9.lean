/-! ===== PURE J9: in ===== -/
set_option maxRecDepth 100000
/-- what is left of a word after k rows were taken off -/
noncomputable def redw (q n m : Nat) (W : Nat → Nat → Nat) (v : Nat) : Nat → Nat
  | 0 => v
  | k + 1 => wsum q n (redw q n m W v k) (fw q n m W k) (fneg q (dg q n (redw q n m W v k) (hd q n m W k)))
theorem redw_lt {q n m v : Nat} {W : Nat → Nat → Nat} (hq : isQ q) (hv : v < q ^ n) : ∀ k, redw q n m W v k < q ^ n
  | 0 => hv
  | k + 1 => wsum_lt hq (fneg_lt hq (dg_lt hq _ _ _))
/-- is a word in a line? -/
noncomputable def inl (q n m : Nat) (w : Nat → Nat) (v : Nat) : Bool := decide (redw q n m (wR q n w) v (rk q n m (wR q n w)) = 0)
theorem X9_has {N f q n m v : Nat} {σ0 σ : SG} {w : Nat → Nat} (hN : 20 ≤ N) (hq : isQ q) (hn : n ≤ 12) (hm : m ≤ 12) (F : Fdn σ0 σ f q n m w) (hv : v < q ^ n) : f_X9_has N σ f (lN v) = some (bI (inl q n m w v)) := by
  have hr := rk_le12 (n := n) (w := w) hq hm
  have hs := qn_small hq hn
  have F' := F
  obtain ⟨-, -, g0, g1, g2, g3, g4, g5, g6, g7⟩ := F
  unfold f_X9_has
  rw [lp_0 (S := fun k => (lN (redw q n m (wR q n w) v k), nI k)) (R := lN (redw q n m (wR q n w) v (rk q n m (wR q n w)))) (s0 := (lN v, (0 : Int32))) (N := N) (rk q n m (wR q n w)) rfl (by omega) ?_ ?_, Option.bind_some]
  · have hl := redw_lt (m := m) (W := wR q n w) hq hv (rk q n m (wR q n w))
    unfold inl
    by_cases e : redw q n m (wR q n w) v (rk q n m (wR q n w)) = 0
    · rw [if_pos (by rw [e]; rfl), decide_eq_true e]; rfl
    · rw [if_neg (lN_ne0 (by omega) (by omega)), decide_eq_false e]; rfl
  · intro k hk
    unfold f_X9_has_b5
    dsimp only
    have hl := redw_lt (m := m) (W := wR q n w) hq hv k
    have hd1 := hd_lt hq (wR_ok (n := n) (m := m) (w := w) hq) hk
    have hf := fw_lt hq (wR_ok (n := n) (m := m) (w := w) hq) hk
    have hdl := dg_lt hq n (redw q n m (wR q n w) v k) (hd q n m (wR q n w) k)
    rw [g3, Option.bind_some, if_neg (nI_ge hk (by omega)), g1, Option.bind_some, g2, Option.bind_some, g0, Option.bind_some, F'.row hN hq hn hk, Option.bind_some, Option.bind_some, Option.bind_some, Option.bind_some, g5, Option.bind_some, g6 k hk, Option.bind_some, X1_letter hN hq hn (by omega) hd1, Option.bind_some, X1_against hq hdl, Option.bind_some, X1_sumOf hN hq hn (by omega) (by omega) (fneg_lt hq hdl), Option.bind_some, nI_1]
    rfl
  · unfold f_X9_has_b5
    dsimp only
    rw [g3, Option.bind_some, if_pos (nI_le (Nat.le_refl _) (by omega))]
theorem X3_isInLine {N p kd q n m v : Nat} {st : MS} {w : Nat → Nat} (hN : 5000 ≤ N) (hp : p < 12) (hok : okc kd q n m w) (hk : kd ≠ 0) (hP : mPl st p kd q n m w) (hv : v < q ^ n) : ∃ st', f_X3_isInLine N st (nI p) (lN v) = some (st', bI (inl q n m w v)) ∧ Kp [7] [6] [8] st st' := by
  obtain ⟨hq, h1, hn, hkk, hcap, hw, -⟩ := hok
  have hc : cap kd = 12 := if_neg hk
  have hm : m ≤ 12 := by omega
  have hr := rk_le12 (n := n) (w := w) hq hm
  have hs := qn_small hq hn
  obtain ⟨st', a1, a2, a3, a4, a5⟩ := X3_clear (N := N) (by omega) hq hn hm hp hP hw
  have f2 : st'.1 2 p = nI q := by rw [a2.1 2 (by decide)]; exact hP.2.1
  have f3 : st'.1 3 p = nI n := by rw [a2.1 3 (by decide)]; exact hP.2.2.1
  unfold f_X3_isInLine
  rw [a1, Option.bind_some, lp_0 (S := fun k => (lN (redw q n m (wR q n w) v k), nI k)) (R := lN (redw q n m (wR q n w) v (rk q n m (wR q n w)))) (s0 := (lN v, (0 : Int32))) (N := N) (rk q n m (wR q n w)) rfl (by omega) ?_ ?_, Option.bind_some]
  · have hl := redw_lt (m := m) (W := wR q n w) hq hv (rk q n m (wR q n w))
    unfold inl
    by_cases e : redw q n m (wR q n w) v (rk q n m (wR q n w)) = 0
    · rw [if_pos (by rw [e]; rfl), decide_eq_true e]; exact ⟨st', rfl, a2⟩
    · rw [if_neg (lN_ne0 (by omega) (by omega)), decide_eq_false e]; exact ⟨st', rfl, a2⟩
  · intro k hk
    unfold f_X3_isInLine_b11
    dsimp only
    have hl := redw_lt (m := m) (W := wR q n w) hq hv k
    have hd1 := hd_lt hq (wR_ok (n := n) (m := m) (w := w) hq) hk
    have hf := fw_lt hq (wR_ok (n := n) (m := m) (w := w) hq) hk
    have hdl := dg_lt hq n (redw q n m (wR q n w) v k) (hd q n m (wR q n w) k)
    rw [a3, if_neg (nI_ge hk (by omega))]
    simp only [ald_N hp (show 12 < 2 ^ 31 by decide), ald_N (show k < 12 by omega) (show 12 < 2 ^ 31 by decide), Option.bind_some, f2, f3, a4 k hk, a5 k hk]
    rw [X3_letter (by omega) hq hn (by omega) hd1, Option.bind_some, X3_minus hq hdl, Option.bind_some, X3_sumOf (by omega) hq hn (by omega) (by omega) (fneg_lt hq hdl), Option.bind_some, nI_1]
    rfl
  · unfold f_X3_isInLine_b11
    dsimp only
    rw [a3, if_pos (nI_le (Nat.le_refl _) (by omega))]
/-- refusals of words -/
theorem whyW_no {N x : Nat} {σ : SG} {a : Int32} {b : Int64} (h : f_X1_isPlace N a = some 0) : f_X1_whyWord N σ x a b = some (-1) := by
  unfold f_X1_whyWord
  rw [h, Option.bind_some, if_pos rfl]
theorem whyW_none {N x M p : Nat} {own : Nat → Nat} {σ : SG} {st : MS} {b : Int64} (j : J x M own σ st) (h : f_X1_isPlace N (nI p) = some 1) (h2 : aQ 3 σ (x + 1) (nI p) = some none) : f_X1_whyWord N σ x (nI p) b = some (-11) := by
  unfold f_X1_whyWord
  rw [h, Option.bind_some, if_neg (by decide), j.codes, Option.bind_some, h2, Option.bind_some]
theorem whyW_some {N x M p c kd q n m A : Nat} {own : Nat → Nat} {σ : SG} {st : MS} {w : Nat → Nat} {b : Int64} (j : J x M own σ st) (h : f_X1_isPlace N (nI p) = some 1) (h2 : aQ 3 σ (x + 1) (nI p) = some (some c)) (C : xC σ c (cls kd) q n A m (cap kd) w) : f_X1_whyWord N σ x (nI p) b = Option.bind (f_X1_isWord N (nI q) (nI n) b) (fun v => if v = 0 then some (-1 : Int32) else some (0 : Int32)) := by
  unfold f_X1_whyWord
  rw [h, Option.bind_some, if_neg (by decide), j.codes, Option.bind_some, h2, Option.bind_some]
  dsimp only
  simp only [Option.bind_some, h2, gI_of (k := 0) C.1 (cls_in kd) rfl, gI_of (k := 1) C.1 (cls_in kd) rfl]
/-- has of WordBench -/
theorem X1_has {N x M o kd q n m c v : Nat} {own : Nat → Nat} {σ : SG} {st : MS} {w : Nat → Nat} (hN : 5000 ≤ N) (j : J x M own σ st) (hok : okc kd q n m w) (hX : xPl σ own o kd q n m w c) (hv : v < q ^ n) : ∃ τ, f_X1_has N σ c (lN v) = some (τ, bI (if kd = 0 then fnd w v m else inl q n m w v)) ∧ J x M own τ st ∧ KM M σ τ ∧ ∀ a, a < σ.1 → τ.2 a = σ.2 a := by
  have hm := hok.m200
  have hs := qn_small hok.1 hok.2.2.1
  obtain ⟨A, x1, x2, x3, x4, C⟩ := id hX
  have hcap := hok.2.2.2.2.1
  unfold f_X1_has
  rw [isLine (N := N) C.1 hok.2.2.2.1, Option.bind_some]
  by_cases e : kd = 0
  · have hcc : cC [3] σ c = some () := cC_of C.1 (by rw [e]; decide)
    rw [if_pos e, if_pos rfl, if_pos e, hcc, Option.bind_some, Option.bind_some, X5_has hN C (cls_in kd) hcap (cap_le kd) hok.w62 (by omega), Option.bind_some, rz_b, Option.bind_some]
    exact ⟨σ, rfl, j, KM.refl _ _, fun _ _ => rfl⟩
  · have hc : cap kd = 12 := if_neg e
    obtain ⟨τ, a1, F, a3, a4, a5, a6⟩ := new_form (N := N) (by omega) j hok e hX
    rw [if_neg e, if_neg i10, if_neg e, Option.bind_some, a1, Option.bind_some, F.2.2.1, Option.bind_some, X9_has (by omega) hok.1 hok.2.2.1 (by omega) F hv, Option.bind_some, rz_b, Option.bind_some]
    exact ⟨τ, rfl, a3, a4, a6⟩
theorem op_in {N x M : Nat} {own : Nat → Nat} {σ : SG} {st : MS} (hN : 5000 ≤ N) (j : J x M own σ st) (a : Int32) (b : Int64) : Ok x M σ (f_X1_in N σ x a b) (f_X3_in N st a b) := by
  unfold f_X1_in f_X3_in
  simp only [X3_isPlace_eq, j.cc, Option.bind_some]
  rcases pl_cases j N a with h | ⟨p, hp, rfl, h, ⟨h2, -, h3⟩ | ⟨kd, q, n, m, w, c, h2, h3, hok, hP, hX⟩⟩
  · rw [whyW_no h, h]
    exact Ok.nil j rfl rfl
  · rw [whyW_none j h h2, h, Option.bind_some, Option.bind_some, if_neg i10, h3]
    exact Ok.nil j rfl rfl
  · obtain ⟨A, x1, x2, x3, x4, C⟩ := id hX
    rw [whyW_some j h h2 C, h, Option.bind_some, if_neg i10, h3, Option.bind_some, if_pos rfl, X3_hasWord hp hP]
    rcases isWord_cases (N := N) (by omega) hok.1 hok.2.2.1 b with ⟨v, hv, rfl, hi⟩ | hi
    · have hs := qn_small hok.1 hok.2.2.1
      obtain ⟨τ, t1, t2, t3, -⟩ := X1_has hN j hok hX hv
      rw [hi, Option.bind_some, if_neg i10, Option.bind_some, if_pos rfl, Option.bind_some, rz_1, Option.bind_some, if_neg i10, j.codes, Option.bind_some, h2, Option.bind_some, Option.bind_some, t1, Option.bind_some, ald_N hp (by omega), Option.bind_some, hP.1]
      by_cases e : kd = 0
      · rw [e, if_pos rfl, if_pos (show nI 0 = 0 from rfl)]
        rcases X3_find hN hp hok.m200 hP hok.w62 (show v < 2 ^ 62 by omega) with ⟨f1, f2⟩ | ⟨f1, k, k1, k2, f2⟩
        · rw [f1, f2, Option.bind_some]
          exact ⟨τ, st, _, own, rfl, rfl, t2, t3⟩
        · rw [f1, f2, Option.bind_some, if_neg (neg1_ne (by have := hok.m200; omega))]
          exact ⟨τ, st, _, own, rfl, rfl, t2, t3⟩
      · obtain ⟨st', s1, s2⟩ := X3_isInLine hN hp hok e hP hv
        rw [if_neg e, if_neg (nI_ne0 (by omega) (by have := hok.2.2.2.1; omega)), s1, Option.bind_some]
        cases inl q n m w v with
        | true => exact ⟨τ, st', _, own, rfl, rfl, t2.scrM s2.m678, t3⟩
        | false => exact ⟨τ, st', _, own, rfl, rfl, t2.scrM s2.m678, t3⟩
    · rw [hi, Option.bind_some, if_pos rfl]
      exact Ok.nil j rfl rfl
