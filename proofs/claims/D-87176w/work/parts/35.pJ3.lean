/-! ===== PURE J3: new codes of WordBench; a code is put ===== -/
set_option maxRecDepth 100000
theorem cls_cases (kd : Nat) : cls kd = 3 ∨ cls kd = 4 ∨ cls kd = 5 ∨ cls kd = 6 := by
  unfold cls
  split
  · exact Or.inl rfl
  · split
    · exact Or.inr (Or.inl rfl)
    · split
      · exact Or.inr (Or.inr (Or.inl rfl))
      · exact Or.inr (Or.inr (Or.inr rfl))
theorem cls_in (kd : Nat) : cls kd ∈ [3, 4, 5, 6] := by
  rcases cls_cases kd with h | h | h | h <;> rw [h] <;> decide
theorem cap_le (kd : Nat) : cap kd ≤ 200 := by
  unfold cap
  split <;> omega
/-- a new code at f, under way -/
def NC (σ τ : SG) (f kd q n m : Nat) (w : Nat → Nat) : Prop := f + 2 ≤ τ.1 ∧ (∀ a, a < f → τ.2 a = σ.2 a) ∧ xC τ f (cls kd) q n (f + 1) m (cap kd) w
theorem X4_init {N kd q n : Nat} {σ : SG} (w : Nat → Nat) : ∃ τ, f_X4_init N (nO (cls kd) [.int 0, .int 0, .null, .int 0] σ) σ.1 (nI q) (nI n) (nI (cap kd)) = some τ ∧ NC σ τ σ.1 kd q n 0 w ∧ τ.1 = σ.1 + 2 := by
  have hc := cls_in kd
  have U0 := Uw.new (σ := σ) (ci := cls kd) (fs := [.int 0, .int 0, .null, .int 0])
  unfold f_X4_init
  obtain ⟨t1, a1, U1, -⟩ := U0.pv (cs := [3, 4, 5, 6]) (k := 0) (w := .int (nI q)) hc (show 0 < 4 by decide)
  rw [a1, Option.bind_some]
  obtain ⟨t2, a2, U2, -⟩ := U1.pv (cs := [3, 4, 5, 6]) (k := 1) (w := .int (nI n)) hc (show 1 < 4 by decide)
  rw [a2, Option.bind_some]
  obtain ⟨t3, a3, U3, b3, -⟩ := U2.na (t := 1) (B := 200) (n := cap kd) (by omega) (cap_le kd) (by omega)
  rw [a3, Option.bind_some, U2.1]
  obtain ⟨t4, a4, U4, b4⟩ := U3.pv (cs := [3, 4, 5, 6]) (k := 2) (w := .ref (σ.1 + 1)) hc (show 2 < 4 by decide)
  rw [a4, Option.bind_some]
  have hA : t4.2 (σ.1 + 1) = some (eL (cap kd) (fun _ => 0)) := by
    rw [b4 _ (by omega), b3]
    rfl
  exact ⟨t4, rfl, ⟨by rw [U4.1]; omega, U4.2.1, U4.2.2, _, hA, fun k hk => by omega⟩, U4.1⟩
theorem X4_add {N c ci q n A m cp v : Nat} {σ : SG} {w : Nat → Nat} (h : xC σ c ci q n A m cp w) (hci : ci ∈ [3, 4, 5, 6]) (hm : m < cp) (hcp : cp < 2 ^ 31) : ∃ σ', f_X4_add N σ c (lN v) = some σ' ∧ xC σ' c ci q n A (m + 1) cp (wset w m v) ∧ σ'.1 = σ.1 ∧ ∀ a, a ≠ c → a ≠ A → σ'.2 a = σ.2 a := by
  obtain ⟨h1, g, h2, h3⟩ := h
  have hAc : c ≠ A := fun e => by rw [e, h2] at h1; cases h1
  unfold f_X4_add
  have h1' : (uC σ A (eL cp (vp_updL g m (lN v)))).2 c = some (eO ci [.int (nI q), .int (nI n), .ref A, .int (nI m)]) := by rw [uC_n hAc]; exact h1
  rw [gR_of h1 hci rfl, Option.bind_some, gI_of h1 hci rfl, Option.bind_some, wL_of h2 hm hcp, Option.bind_some, gI_of h1' hci rfl, Option.bind_some, pV_of h1' hci (show 3 < 4 by decide), Option.bind_some, nI_1]
  refine ⟨_, rfl, ⟨uC_s _ _ _, vp_updL g m (lN v), ?_, fun k hk => ?_⟩, rfl, fun a a1 a2 => by rw [uC_n a1, uC_n a2]⟩
  · rw [uC_n (fun e => hAc e.symm)]; exact uC_s _ _ _
  · unfold wset
    by_cases e : k = m
    · rw [e, pk_uLs, if_pos rfl]
    · rw [pk_uLn e, if_neg e]; exact h3 k (by omega)
theorem dv_add {N c kd : Nat} {σ : SG} {fs : List Value} {v : Int64} (h : σ.2 c = some (eO (cls kd) fs)) : dv_X4_add N σ c v = f_X4_add N σ c v := by
  unfold dv_X4_add
  rw [h]
  rcases cls_cases kd with e | e | e | e <;> rw [e] <;> rfl
theorem NC.add {N f kd q n m v : Nat} {σ τ : SG} {w : Nat → Nat} (h : NC σ τ f kd q n m w) (hm : m < cap kd) : ∃ τ', dv_X4_add N τ f (lN v) = some τ' ∧ NC σ τ' f kd q n (m + 1) (wset w m v) ∧ τ'.1 = τ.1 ∧ ∀ a, a ≠ f → a ≠ f + 1 → τ'.2 a = τ.2 a := by
  obtain ⟨h1, h2, h3⟩ := h
  obtain ⟨τ', a1, a2, a3, a4⟩ := X4_add (N := N) (v := v) h3 (cls_in kd) hm (by have := cap_le kd; omega)
  refine ⟨τ', by rw [dv_add h3.1]; exact a1, ⟨by omega, fun a ha => ?_, a2⟩, a3, a4⟩
  rw [a4 a (by omega) (by omega)]
  exact h2 a ha
theorem okQ_code {σ : SG} {c kd : Nat} {fs : List Value} (h : σ.2 c = some (eO (cls kd) fs)) : okQ 3 σ (some c) = true := by
  unfold okQ
  dsimp only
  rw [h]
  dsimp only
  rcases cls_cases kd with e | e | e | e <;> rw [e] <;> rfl
/-- A CODE IS PUT -/
theorem J.put {N x M t f A kd q n m : Nat} {own : Nat → Nat} {σ τ : SG} {st st' : MS} {w : Nat → Nat} (j : J x M own σ st) (ht : t < 12) (h1 : σ.1 ≤ τ.1) (h2 : ∀ a, a < σ.1 → a ≠ x → a ≠ x + 2 → a ≠ x + 3 → τ.2 a = σ.2 a) (hx : ∃ wc fh, τ.2 x = some (eO 0 [.ref (x + 1), .ref (x + 2), .int wc, .ref (x + 3), .long fh, .ref (x + 4)])) (hw : ∃ g, τ.2 (x + 2) = some (eL 4096 g)) (hc : ∃ g, τ.2 (x + 3) = some (eL 13 g)) (hf : σ.1 ≤ f ∧ f < τ.1) (hA : σ.1 ≤ A ∧ A < τ.1) (C : xC τ f (cls kd) q n A m (cap kd) w) (hok : okc kd q n m w) (hM : mPl st' t kd q n m w) (hMp : Mp st st' t) : ∃ τ', f_X1_puts N τ x (nI t) f = some (τ', nI m) ∧ (∃ own', J x M own' τ' st') ∧ KM M σ τ' := by
  obtain ⟨⟨a1, a2, a3, a4⟩, ⟨-, -, -, ⟨mc, b4⟩, ⟨g5, b5, b6⟩⟩, ⟨g, c1, c2⟩, d1⟩ := j
  obtain ⟨wc, fh, hx⟩ := hx
  have c1' : τ.2 (x + 1) = some (eQ 3 12 g) := by rw [h2 _ (by omega) (by omega) (by omega) (by omega)]; exact c1
  have C' : (uC τ (x + 1) (eQ 3 12 (va_up g t (some f)))).2 f = some (eO (cls kd) [.int (nI q), .int (nI n), .ref A, .int (nI m)]) := by rw [uC_n (by omega)]; exact C.1
  unfold f_X1_puts
  rw [gR_of hx (by decide) rfl, Option.bind_some, wQ_of c1' (okQ_code C.1) ht (by omega), Option.bind_some, gI_of C' (cls_in kd) rfl, Option.bind_some]
  have own0 : ∀ a o, own a = o → o ≠ 0 → a ≠ x ∧ a ≠ x + 1 ∧ a ≠ x + 2 ∧ a ≠ x + 3 := fun a o h0 h9 => by
    refine ⟨fun e => ?_, fun e => ?_, fun e => ?_, fun e => ?_⟩ <;> (have := a3 a (by omega) (by omega); omega)
  have kp : ∀ a, a < σ.1 → ∀ o, own a = o → o ≠ 0 → (uC τ (x + 1) (eQ 3 12 (va_up g t (some f)))).2 a = σ.2 a ∧ (fun a => if a < σ.1 then own a else 1 + t) a = own a := fun a ha o ho h0 => by
    obtain ⟨e1, e2, e3, e4⟩ := own0 a o ho h0
    exact ⟨by rw [uC_n e2, h2 a ha e1 e3 e4], if_pos ha⟩
  refine ⟨_, rfl, ⟨fun a => if a < σ.1 then own a else 1 + t, ⟨a1, Nat.le_trans a2 h1, fun a h3 h4 => ?_, fun a h3 h4 => ?_⟩, ⟨⟨wc, fh, ?_⟩, ?_, ?_, ⟨mc, ?_⟩, ⟨g5, ?_, b6⟩⟩, ⟨_, uC_s _ _ _, fun p hp => ?_⟩, fun d hd => ?_⟩, ⟨h1, fun a h3 h4 => ?_⟩⟩
  · dsimp only; rw [if_pos (by omega)]; exact a3 a h3 h4
  · dsimp only; rw [if_pos (by omega)]; exact a4 a h3 h4
  · rw [uC_n (by omega)]; exact hx
  · rw [uC_n (by omega)]; exact hw
  · rw [uC_n (by omega)]; exact hc
  · rw [uC_n (by omega), h2 _ (by omega) (by omega) (by omega) (by omega)]; exact b4
  · rw [uC_n (by omega), h2 _ (by omega) (by omega) (by omega) (by omega)]; exact b5
  · by_cases e : p = t
    · subst e
      rw [up_s]
      obtain ⟨gA, C2, C3⟩ := C.2
      refine Or.inr ⟨kd, q, n, m, w, f, rfl, hok, hM, A, hf.2, hA.2, if_neg (by omega), if_neg (by omega), C', gA, ?_, C3⟩
      rw [uC_n (by omega)]; exact C2
    · rw [up_n e]
      exact (c2 p hp).keep h1 (fun a ha ho => kp a ha _ ho (by omega)) (hMp.1 p hp e)
  · obtain ⟨v, e1, e2⟩ := d1 d hd
    have hs := shA_in (x := x) hd
    obtain ⟨m6, m7, m8, m9, m10⟩ := hMp.2
    exact ⟨v, by rw [uC_n (by omega), h2 _ (by omega) (by omega) (by omega) (by omega)]; exact e1, e2.keep h1 (fun a ha ho => kp a ha _ ho (by omega)) ⟨by rw [m6], by rw [m7], by rw [m8], by rw [m9], fun k _ => by rw [m10]⟩⟩
  · rw [uC_n (by omega)]
    exact h2 a (by omega) (by omega) (by omega) (by omega)
/-- the same, if only new cells came -/
theorem J.put_new {N x M t f A kd q n m : Nat} {own : Nat → Nat} {σ τ : SG} {st st' : MS} {w : Nat → Nat} (j : J x M own σ st) (ht : t < 12) (h1 : σ.1 ≤ τ.1) (h2 : ∀ a, a < σ.1 → τ.2 a = σ.2 a) (hf : σ.1 ≤ f ∧ f < τ.1) (hA : σ.1 ≤ A ∧ A < τ.1) (C : xC τ f (cls kd) q n A m (cap kd) w) (hok : okc kd q n m w) (hM : mPl st' t kd q n m w) (hMp : Mp st st' t) : cC [0] τ x = some () ∧ ∃ τ', f_X1_puts N τ x (nI t) f = some (τ', nI m) ∧ (∃ own', J x M own' τ' st') ∧ KM M σ τ' := by
  obtain ⟨⟨a1, a2, a3, a4⟩, ⟨⟨wc, fh, b1⟩, b2, b3, -⟩, -⟩ := id j
  have b1' : τ.2 x = some (eO 0 [.ref (x + 1), .ref (x + 2), .int wc, .ref (x + 3), .long fh, .ref (x + 4)]) := by rw [h2 x (by omega)]; exact b1
  refine ⟨cC_of b1' (by decide), j.put ht h1 (fun a ha _ _ _ => h2 a ha) ⟨wc, fh, b1'⟩ ?_ ?_ hf hA C hok hM hMp⟩
  · rw [h2 _ (by omega)]; exact b2
  · rw [h2 _ (by omega)]; exact b3
