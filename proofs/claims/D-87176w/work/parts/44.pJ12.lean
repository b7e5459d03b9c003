/-! ===== PURE J12: form (op) ===== -/
set_option maxRecDepth 100000
theorem okc_form {kd kd2 q n m : Nat} {w : Nat → Nat} (hok : okc kd q n m w) (hk : kd ≠ 0) (h2 : kd2 ≤ 3) (h0 : kd2 ≠ 0) : okc kd2 q n (rk q n m (wR q n w)) (fw q n m (wR q n w)) := by
  obtain ⟨hq, h1, hn, hkk, hcap, hw, -⟩ := hok
  have hc : cap kd = 12 := if_neg hk
  have hc2 : cap kd2 = 12 := if_neg h0
  have hr := rk_le12 (n := n) (w := w) hq (show m ≤ 12 by omega)
  exact ⟨hq, h1, hn, h2, by omega, fun k hk => fw_lt hq (wR_ok hq) hk, fun e => absurd e h0⟩
theorem isOwn {c kd : Nat} {σ : SG} {fs : List Value} (h : σ.2 c = some (eO (cls kd) fs)) (hk : kd ≤ 3) : iO [5] [3, 4, 6] σ (some c) = some (if kd = 3 then 1 else 0) := by
  unfold iO
  dsimp only
  rw [h]
  dsimp only
  rcases (show kd = 0 ∨ kd = 1 ∨ kd = 2 ∨ kd = 3 by omega) with rfl | rfl | rfl | rfl <;> rfl
/-- the rest of form, the new code's kind given -/
theorem form_rest {N x M p kd kd2 q n m c : Nat} {own : Nat → Nat} {σ τ : SG} {st st' : MS} {w : Nat → Nat} (hN : 5000 ≤ N) (j : J x M own σ st) (hp : p < 12) (hok : okc kd q n m w) (hk : kd ≠ 0) (h2 : kd2 ≤ 3) (h0 : kd2 ≠ 0) (F : Fdn σ τ σ.1 q n m w) (hM : mPl st' p kd2 q n (rk q n m (wR q n w)) (fw q n m (wR q n w))) (hMp : Mp st st' p) : ∃ τ2, f_X4_init N (nO (cls kd2) [.int 0, .int 0, .null, .int 0] τ) τ.1 (nI q) (nI n) 12 = some τ2 ∧ ∃ τ3, f_X1_form_j70 N x (nI p) σ.1 τ.1 τ2 = some (τ3, nI (rk q n m (wR q n w))) ∧ (∃ own', J x M own' τ3 st') ∧ KM M σ τ3 := by
  have hok2 := okc_form hok hk h2 h0
  have hc2 : cap kd2 = 12 := if_neg h0
  have hc : cap kd = 12 := if_neg hk
  have hcap := hok.2.2.2.2.1
  obtain ⟨τ2, a1, a2, a3⟩ := X4_init (N := N) (kd := kd2) (q := q) (n := n) (σ := τ) (fw q n m (wR q n w))
  rw [hc2] at a1
  obtain ⟨τ4, b1, b2⟩ := form_lays (x := x) (t := nI p) hN hok.1 hok.2.2.1 (show m ≤ 12 by omega) (by omega) F a2
  have hle : σ.1 + 3 ≤ τ.1 := F.1
  have hl4 : τ.1 + 2 ≤ τ4.1 := b2.1
  obtain ⟨c0, τ5, c1, c2, c3⟩ := j.put_new (N := N) (t := p) (τ := τ4) (f := τ.1) (A := τ.1 + 1) hp (by omega) (fun a ha => by rw [b2.2.1 a (by omega)]; exact F.2.1 a ha) ⟨by omega, by omega⟩ ⟨by omega, by omega⟩ b2.2.2 hok2 hM hMp
  refine ⟨τ2, a1, τ5, ?_, c2, c3⟩
  unfold f_X1_form_j70
  rw [b1, Option.bind_some, c0, Option.bind_some, c1, Option.bind_some]
theorem op_form {N x M : Nat} {own : Nat → Nat} {σ : SG} {st : MS} (hN : 5000 ≤ N) (j : J x M own σ st) (a : Int32) : Ok x M σ (f_X1_form N σ x a) (f_X3_form N st a) := by
  unfold f_X1_form f_X3_form
  simp only [X3_isPlace_eq, j.cc, Option.bind_some]
  rcases pl_cases j N a with h | ⟨p, hp, rfl, h, ⟨h2, -, h3⟩ | ⟨kd, q, n, m, w, c, h2, h3, hok, hP, hX⟩⟩
  · rw [asks_no h, h]
    exact Ok.nil j rfl rfl
  · rw [asks_none j h h2, h, Option.bind_some, Option.bind_some, if_neg i10, h3]
    exact Ok.nil j rfl rfl
  · obtain ⟨A, x1, x2, x3, x4, C⟩ := id hX
    have hq := hok.1
    have hk := hok.2.2.2.1
    have hcap := hok.2.2.2.2.1
    rw [asks_1 j h h2 C.1 hk, h, Option.bind_some, Option.bind_some, if_neg i10, h3, Option.bind_some, if_pos rfl, ald_N hp (by omega), Option.bind_some, hP.1]
    by_cases e : kd = 0
    · rw [if_pos e, if_neg (by decide), e, if_pos (show nI 0 = 0 from rfl)]
      exact Ok.nil j rfl rfl
    · have hc : cap kd = 12 := if_neg e
      obtain ⟨τ, a1, F, a3, a4, a5, a6⟩ := new_form (N := N) (by omega) j hok e hX
      obtain ⟨st1, b1, b2, b3, b4, b5⟩ := X3_clear (N := N) (by omega) hq hok.2.2.1 (show m ≤ 12 by omega) hp hP hok.2.2.2.2.2.1
      have hP1 : mPl st1 p kd q n m w := by
        obtain ⟨q1, q2, q3, q4, q5⟩ := hP
        exact ⟨by rw [b2.1 1 (by decide)]; exact q1, by rw [b2.1 2 (by decide)]; exact q2, by rw [b2.1 3 (by decide)]; exact q3, by rw [b2.1 4 (by decide)]; exact q4, fun k hk => by rw [b2.2.1 5 (by decide)]; exact q5 k hk⟩
      have Cτ : τ.2 c = some (eO (cls kd) [.int (nI q), .int (nI n), .ref A, .int (nI m)]) := by rw [a6 c x1]; exact C.1
      have Cn : ∀ ci fs, (nO ci fs τ).2 c = some (eO (cls kd) [.int (nI q), .int (nI n), .ref A, .int (nI m)]) := fun ci fs => by
        rw [show (nO ci fs τ).2 c = τ.2 c from up_n (by omega)]
        exact Cτ
      rw [if_neg e, if_pos rfl, if_neg (nI_ne0 (by omega) (by omega)), b1, Option.bind_some, ald_N hp (by omega), Option.bind_some, hP1.1, j.codes, Option.bind_some, h2, Option.bind_some, Option.bind_some, a1, Option.bind_some, isOwn Cτ hk, Option.bind_some]
      have fin : ∀ kd2, kd2 ≤ 3 → kd2 ≠ 0 → ∃ st2 τ2, f_X3_form_j62 N (nI p) (nI kd2) (nI p) st1 = some (st2, nI (rk q n m (wR q n w))) ∧ f_X4_init N (nO (cls kd2) [.int 0, .int 0, .null, .int 0] τ) τ.1 (nI q) (nI n) 12 = some τ2 ∧ ∃ τ3, f_X1_form_j70 N x (nI p) σ.1 τ.1 τ2 = some (τ3, nI (rk q n m (wR q n w))) ∧ (∃ own', J x M own' τ3 st2) ∧ KM M σ τ3 := by
        intro kd2 k1 k2
        obtain ⟨st2, c1, c2, c3⟩ := form_mod (N := N) (kd2 := kd2) hN hp hq (show m ≤ 12 by omega) hP1 b3 b5
        obtain ⟨τ2, d1, d2⟩ := form_rest (N := N) (c := c) hN j hp hok e k1 k2 F c2 ((b2.m678.mp p).trans c3)
        exact ⟨st2, τ2, c1, d1, d2⟩
      by_cases e3 : kd = 3
      · obtain ⟨st2, τ2, c1, c2, τ3, c3, ⟨own', c4⟩, c5⟩ := fin 3 (by omega) (by omega)
        subst e3
        rw [if_pos rfl, if_neg i10, if_neg (show ¬ nI 3 = 2 by decide), Option.bind_some, c1, gI_of (k := 0) (Cn _ _) (by decide) rfl, Option.bind_some, gI_of (k := 1) (Cn _ _) (by decide) rfl, Option.bind_some]
        unfold f_X7_init f_X6_init
        rw [show f_X4_init N (nO 5 [.int 0, .int 0, .null, .int 0] τ) τ.1 (nI q) (nI n) 12 = some τ2 from c2, Option.bind_some, Option.bind_some, Option.bind_some, c3]
        exact ⟨τ3, st2, _, own', rfl, rfl, c4, c5⟩
      · obtain ⟨st2, τ2, c1, c2, τ3, c3, ⟨own', c4⟩, c5⟩ := fin 1 (by omega) (by omega)
        rw [if_neg e3, if_pos rfl, gI_of (k := 0) (Cn _ _) (cls_in kd) rfl, Option.bind_some, gI_of (k := 1) (Cn _ _) (cls_in kd) rfl, Option.bind_some]
        unfold f_X6_init
        rw [show f_X4_init N (nO 4 [.int 0, .int 0, .null, .int 0] τ) τ.1 (nI q) (nI n) 12 = some τ2 from c2, Option.bind_some, Option.bind_some, c3]
        rcases (show kd = 1 ∨ kd = 2 by omega) with rfl | rfl
        · rw [if_neg (show ¬ nI 1 = 2 by decide), Option.bind_some, c1]
          exact ⟨τ3, st2, _, own', rfl, rfl, c4, c5⟩
        · rw [if_pos (show nI 2 = 2 from rfl), show (1 : Int32) = nI 1 from rfl, c1]
          exact ⟨τ3, st2, _, own', rfl, rfl, c4, c5⟩
