/-! ===== PURE J13: codes made out of others: new codes like another, words laid one by one ===== -/
set_option maxRecDepth 100000
/-- kind of a code made out of another -/
def kdl (kd : Nat) : Nat := if kd = 0 then 0 else 1
theorem kdl_le (kd : Nat) : kdl kd ≤ 3 := by
  unfold kdl
  split <;> omega
theorem cap_kdl (kd : Nat) : cap (kdl kd) = cap kd := by
  unfold kdl cap
  by_cases e : kd = 0
  · rw [if_pos e, if_pos rfl, if_pos e]
  · rw [if_neg e, if_neg (by decide), if_neg e]
theorem X1_like {N c kd q n n2 m A : Nat} {σ : SG} {w : Nat → Nat} (C : xC σ c (cls kd) q n A m (cap kd) w) (hk : kd ≤ 3) (hc : c < σ.1) (w2 : Nat → Nat) : ∃ τ, f_X1_like N σ c (nI n2) = some (τ, σ.1) ∧ NC σ τ σ.1 (kdl kd) q n2 0 w2 ∧ τ.1 = σ.1 + 2 := by
  obtain ⟨τ, a1, a2, a3⟩ := X4_init (N := N) (kd := kdl kd) (q := q) (n := n2) (σ := σ) w2
  have Cn : ∀ ci fs, (nO ci fs σ).2 c = some (eO (cls kd) [.int (nI q), .int (nI n), .ref A, .int (nI m)]) := fun ci fs => by
    rw [show (nO ci fs σ).2 c = σ.2 c from up_n (by omega)]
    exact C.1
  refine ⟨τ, ?_, a2, a3⟩
  unfold f_X1_like f_X1_like_j34
  rw [isLine (N := N) C.1 hk, Option.bind_some]
  by_cases e : kd = 0
  · subst e
    rw [if_pos rfl, if_pos rfl, Option.bind_some, gI_of (k := 0) (Cn _ _) (cls_in 0) rfl, Option.bind_some]
    unfold f_X5_init
    rw [show f_X4_init N (nO 3 [.int 0, .int 0, .null, .int 0] σ) σ.1 (nI q) (nI n2) 200 = some τ from a1, Option.bind_some, Option.bind_some]
  · have hkd : kdl kd = 1 := if_neg e
    rw [hkd] at a1
    rw [if_neg e, if_neg i10, Option.bind_some, gI_of (k := 0) (Cn _ _) (cls_in kd) rfl, Option.bind_some]
    unfold f_X6_init
    rw [show f_X4_init N (nO 4 [.int 0, .int 0, .null, .int 0] σ) σ.1 (nI q) (nI n2) 12 = some τ from a1, Option.bind_some, Option.bind_some]
/-- the model: one more word aside -/
theorem X3_aside {N k v : Nat} {st : MS} (hk : k < 200) (h : st.2.2.1 18 = nI k) : f_X3_asideOnce (N + 1) st (lN v) 0 = some (sV (sL st 17 (vp_updL (st.2.1 17) k (lN v))) 18 (nI (k + 1))) := by
  unfold f_X3_asideOnce
  have hb : f_X3_asideOnce_b3 (N + 1) (lN v) 0 st 0 = some (.inr (.inr ())) := by
    unfold f_X3_asideOnce_b3
    by_cases e : st.2.2.1 18 ≤ 0
    · rw [if_pos e]
    · rw [if_neg e, if_pos rfl]
  rw [show lp (f_X3_asideOnce_b3 (N + 1) (lN v) 0 st) (N + 1) 0 = some (.inr ()) by simp only [lp, hb], Option.bind_some]
  dsimp only
  unfold f_X3_asideOnce_j35
  have e18 : ∀ f, (sL st 17 f).2.2.1 18 = nI k := fun f => h
  rw [h, last_N hk (by omega), Option.bind_some, e18, nI_1]
theorem X3_lineOr {N p kd q n m : Nat} {st : MS} {w : Nat → Nat} (hp : p < 12) (hk : kd ≤ 3) (h : mPl st p kd q n m w) : f_X3_lineOr N st (nI p) = some (nI (kdl kd)) := by
  unfold f_X3_lineOr kdl
  rw [ald_N hp (by omega), Option.bind_some, h.1]
  by_cases e : kd = 0
  · rw [if_pos e, e, if_pos (show nI 0 = 0 from rfl)]
    rfl
  · rw [if_neg e, if_neg (nI_ne0 (by omega) (by omega))]
    rfl
/-- the end of what is made: WordBench puts, the model's words come -/
theorem made_ends {N x M t kd q n m : Nat} {own : Nat → Nat} {σ τ : SG} {st st1 : MS} {w : Nat → Nat} (hN : 5000 ≤ N) (j : J x M own σ st) (ht : t < 12) (hok : okc kd q n m w) (hC : NC σ τ σ.1 kd q n m w) (hk : Mk st st1) (h18 : st1.2.2.1 18 = nI m) (h17 : ∀ i, i < m → st1.2.1 17 i = lN (w i)) : cC [0] τ x = some () ∧ ∃ τ' st' own', f_X1_puts N τ x (nI t) σ.1 = some (τ', nI m) ∧ f_X3_comes N st1 (nI t) (nI kd) (nI q) (nI n) = some (st', nI m) ∧ J x M own' τ' st' ∧ KM M σ τ' := by
  obtain ⟨st', a1, a2, a3, -⟩ := X3_comes (N := N) (kd := kd) (q := q) (n := n) (by omega) ht hok.m200 h18 h17
  obtain ⟨b1, b2, b3⟩ := hC
  obtain ⟨c0, τ', c1, ⟨own', c2⟩, c3⟩ := j.put_new (N := N) ht (by omega) b2 ⟨Nat.le_refl _, by omega⟩ ⟨by omega, by omega⟩ b3 hok a2 ((hk.mp t).trans a3)
  exact ⟨c0, τ', st', own', c1, a1, c2, c3⟩
