/-! ===== PURE J8: size, head ===== -/
set_option maxRecDepth 100000
theorem Kp.m678 {a b : MS} (h : Kp [7] [6] [8] a b) : Mk a b := h.mk (by decide) (by decide)
/-- how many words -/
noncomputable def szv (kd q n m : Nat) (w : Nat → Nat) : Nat := if kd = 0 then m else q ^ rk q n m (wR q n w)
theorem X3_sizeOf {N p kd q n m : Nat} {st : MS} {w : Nat → Nat} (hN : 5000 ≤ N) (hp : p < 12) (hok : okc kd q n m w) (hP : mPl st p kd q n m w) : ∃ st', f_X3_sizeOf N st (nI p) = some (st', lN (szv kd q n m w)) ∧ Kp [7] [6] [8] st st' ∧ (kd ≠ 0 → st'.2.2.1 8 = nI (rk q n m (wR q n w)) ∧ (∀ k, k < rk q n m (wR q n w) → st'.1 7 k = nI (hd q n m (wR q n w) k)) ∧ ∀ k, k < rk q n m (wR q n w) → st'.2.1 6 k = lN (fw q n m (wR q n w) k)) := by
  have hm := hok.m200
  obtain ⟨hq, h1, h2, hk, hcap, hw, -⟩ := hok
  unfold f_X3_sizeOf szv
  rw [ald_N hp (by omega), Option.bind_some, hP.1]
  by_cases e : kd = 0
  · subst e
    rw [if_pos (show nI 0 = 0 from rfl), if_pos rfl, ald_N hp (by omega), Option.bind_some, hP.2.2.2.1, ps_l m (by omega)]
    exact ⟨st, rfl, Kp.refl _ _ _ _, fun h => absurd rfl h⟩
  · have hc : cap kd = 12 := if_neg e
    obtain ⟨st', a1, a2, a3, a4, a5⟩ := X3_clear (N := N) (by omega) hq h2 (by omega) hp hP hw
    have hr := rk_le12 (n := n) (w := w) hq (show m ≤ 12 by omega)
    rw [if_neg (nI_ne0 (by omega) (by omega)), if_neg e, a1, Option.bind_some, ald_N hp (by omega), Option.bind_some, a2.1 2 (by decide), hP.2.1, a3, X3_power (by omega) hq.lt (by omega), Option.bind_some]
    exact ⟨st', rfl, a2, fun _ => ⟨a3, a4, a5⟩⟩
theorem X1_sizeOf {N x M o kd q n m c : Nat} {own : Nat → Nat} {σ : SG} {st : MS} {w : Nat → Nat} (hN : 5000 ≤ N) (j : J x M own σ st) (hok : okc kd q n m w) (hX : xPl σ own o kd q n m w c) : ∃ τ, f_X1_sizeOf N σ c = some (τ, lN (szv kd q n m w)) ∧ J x M own τ st ∧ KM M σ τ ∧ ∀ a, a < σ.1 → τ.2 a = σ.2 a := by
  have hm := hok.m200
  obtain ⟨A, x1, x2, x3, x4, C⟩ := id hX
  have hq := hok.1
  have hcap := hok.2.2.2.2.1
  unfold f_X1_sizeOf szv
  rw [isLine (N := N) C.1 hok.2.2.2.1, Option.bind_some]
  by_cases e : kd = 0
  · rw [if_pos e, if_pos rfl, if_pos e, gI_of C.1 (cls_in kd) rfl, Option.bind_some, ps_l m (by omega)]
    exact ⟨σ, rfl, j, KM.refl _ _, fun _ _ => rfl⟩
  · have hc : cap kd = 12 := if_neg e
    obtain ⟨τ, a1, F, a3, a4, a5, a6⟩ := new_form (N := N) (by omega) j hok e hX
    have hr := rk_le12 (n := n) (w := w) hq (show m ≤ 12 by omega)
    rw [if_neg e, if_neg i10, if_neg e, gI_of C.1 (cls_in kd) rfl, Option.bind_some, Option.bind_some, a1, Option.bind_some, F.2.2.2.2.2.1, Option.bind_some, X1_power (by omega) hq.lt (by omega), Option.bind_some]
    exact ⟨τ, rfl, a3, a4, a6⟩
theorem J.scrM {x M : Nat} {own : Nat → Nat} {σ : SG} {st st' : MS} (j : J x M own σ st) (h : Mk st st') : J x M own σ st' := j.new (Nat.le_refl _) (fun _ _ => rfl) h
theorem op_size {N x M : Nat} {own : Nat → Nat} {σ : SG} {st : MS} (hN : 5000 ≤ N) (j : J x M own σ st) (a : Int32) : Ok x M σ (f_X1_size N σ x a) (f_X3_size N st a) := by
  unfold f_X1_size f_X3_size
  simp only [X3_isPlace_eq, j.cc, Option.bind_some]
  rcases pl_cases j N a with h | ⟨p, hp, rfl, h, ⟨h2, -, h3⟩ | ⟨kd, q, n, m, w, c, h2, h3, hok, hP, hX⟩⟩
  · rw [asks_no h, h]
    exact Ok.nil j rfl rfl
  · rw [asks_none j h h2, h, Option.bind_some, Option.bind_some, if_neg i10, h3]
    exact Ok.nil j rfl rfl
  · obtain ⟨st', a1, a2, -⟩ := X3_sizeOf hN hp hok hP
    obtain ⟨τ, b1, b2, b3, -⟩ := X1_sizeOf hN j hok hX
    rw [asks_0 j h h2, h, Option.bind_some, Option.bind_some, if_neg i10, if_pos rfl, h3, Option.bind_some, if_pos rfl, j.codes, Option.bind_some, h2, Option.bind_some, Option.bind_some, a1, b1, Option.bind_some, Option.bind_some]
    exact ⟨τ, st', _, own, rfl, rfl, b2.scrM a2.m678, b3⟩
theorem J.nObj {x M : Nat} {own : Nat → Nat} {σ : SG} {st : MS} (j : J x M own σ st) (ci : Nat) (fs : List Value) : gR [0] (nO ci fs σ) x 0 = some (x + 1) ∧ ∀ {i : Int32}, aQ 3 (nO ci fs σ) (x + 1) i = aQ 3 σ (x + 1) i := by
  have jn : J x M own (nO ci fs σ) st := j.new (Nat.le_succ _) (fun a ha => by show va_up σ.2 σ.1 _ a = _; exact up_n (by omega)) (Mk.refl st)
  refine ⟨jn.codes, fun {i} => ?_⟩
  have hj := j.1
  unfold aQ
  rw [show (nO ci fs σ).2 (x + 1) = σ.2 (x + 1) from up_n (by omega)]
theorem op_head {N x M : Nat} {own : Nat → Nat} {σ : SG} {st : MS} (hN : 5000 ≤ N) (j : J x M own σ st) (a b : Int32) : Ok x M σ (f_X1_head N σ x a b) (f_X3_head N st a b) := by
  unfold f_X1_head f_X3_head
  simp only [X3_isPlace_eq, j.cc, Option.bind_some]
  by_cases hb : 0 ≤ b
  · rw [if_pos hb, if_pos hb]
    rcases pl_cases j N a with h | ⟨p, hp, rfl, h, ⟨h2, -, h3⟩ | ⟨kd, q, n, m, w, c, h2, h3, hok, hP, hX⟩⟩
    · rw [asks_no h, h]
      exact Ok.nil j rfl rfl
    · rw [asks_none j h h2, h, Option.bind_some, Option.bind_some, if_neg i10, h3]
      exact Ok.nil j rfl rfl
    · obtain ⟨A, x1, x2, x3, x4, C⟩ := id hX
      have hq := hok.1
      have hk := hok.2.2.2.1
      have hcap := hok.2.2.2.2.1
      rw [asks_1 j h h2 C.1 hk, h, Option.bind_some, Option.bind_some, if_neg i10, h3, Option.bind_some, if_pos rfl, ald_N hp (by omega), Option.bind_some, hP.1]
      by_cases e : kd = 0
      · rw [if_pos e, if_neg (by decide), e, if_pos (show nI 0 = 0 from rfl)]
        exact Ok.nil j rfl rfl
      · have hc : cap kd = 12 := if_neg e
        obtain ⟨τ, a1, F, a3, a4, a5, a6⟩ := new_form (N := N) (by omega) j hok e hX
        obtain ⟨st', b1, b2, b3, b4, b5⟩ := X3_clear (N := N) (by omega) hq hok.2.2.1 (show m ≤ 12 by omega) hp hP hok.2.2.2.2.2.1
        have hr := rk_le12 (n := n) (w := w) hq (show m ≤ 12 by omega)
        rw [if_neg e, if_pos rfl, if_neg (nI_ne0 (by omega) (by omega)), b1, Option.bind_some, b3, (j.nObj 7 _).1, Option.bind_some, (j.nObj 7 _).2, h2, Option.bind_some, Option.bind_some, a1, Option.bind_some, F.2.2.2.2.2.1, Option.bind_some]
        rcases pk_ix b (n := rk q n m (wR q n w)) (by omega) with hh | hh | ⟨k, k1, rfl⟩
        · exact absurd hb (by rw [Int32.not_le]; exact hh)
        · rw [if_pos hh, if_pos hh]
          exact ⟨τ, st', _, own, rfl, rfl, a3.scrM b2.m678, a4⟩
        · rw [if_neg (nI_ge k1 (by omega)), if_neg (nI_ge k1 (by omega)), F.2.2.2.2.2.2.2.1, Option.bind_some, F.2.2.2.2.2.2.2.2.1 k k1, Option.bind_some, ald_N (show k < 12 by omega) (by omega), Option.bind_some, b4 k k1]
          exact ⟨τ, st', _, own, rfl, rfl, a3.scrM b2.m678, a4⟩
  · rw [if_neg hb, if_neg hb]
    rcases pl_cases j N a with h | ⟨p, hp, rfl, h, -⟩
    · rw [h]
      exact Ok.nil j rfl rfl
    · rw [h]
      exact Ok.nil j rfl rfl
