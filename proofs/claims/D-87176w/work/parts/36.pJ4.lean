/-! ===== PURE J4: which case it is; make, empty ===== -/
set_option maxRecDepth 100000
theorem pl_cases {x M : Nat} {own : Nat → Nat} {σ : SG} {st : MS} (j : J x M own σ st) (N : Nat) (a : Int32) : f_X1_isPlace N a = some 0 ∨ ∃ p, p < 12 ∧ a = nI p ∧ f_X1_isPlace N (nI p) = some 1 ∧ ((aQ 3 σ (x + 1) (nI p) = some none ∧ st.1 1 p = -1 ∧ f_X3_isEmpty N st (nI p) = some 1) ∨ ∃ kd q n m w c, aQ 3 σ (x + 1) (nI p) = some (some c) ∧ f_X3_isEmpty N st (nI p) = some 0 ∧ okc kd q n m w ∧ mPl st p kd q n m w ∧ xPl σ own (1 + p) kd q n m w c) := by
  rcases int_cases a 0 11 (by omega) with ⟨p, h1, h2, rfl⟩ | h
  · refine Or.inr ⟨p, by omega, rfl, isPlace_yes (by omega), ?_⟩
    obtain ⟨v, e1, e2⟩ := j.place (p := p) (by omega)
    rcases e2 with ⟨rfl, e3⟩ | ⟨kd, q, n, m, w, c, rfl, e3, e4, e5⟩
    · refine Or.inl ⟨e1, e3, ?_⟩
      unfold f_X3_isEmpty
      rw [ald_N (show p < 12 by omega) (by omega), Option.bind_some, e3, if_pos rfl]
      rfl
    · refine Or.inr ⟨kd, q, n, m, w, c, e1, ?_, e3, e4, e5⟩
      unfold f_X3_isEmpty
      rw [ald_N (show p < 12 by omega) (by omega), Option.bind_some, e4.1, if_neg (neg1_ne (by have := e3.2.2.2.1; omega))]
      rfl
  · exact Or.inl (isPlace_no h)
theorem isLine {N c kd : Nat} {σ : SG} {fs : List Value} (h : σ.2 c = some (eO (cls kd) fs)) (hk : kd ≤ 3) : iO [4, 5, 6] [3] σ (some c) = some (if kd = 0 then 0 else 1) := by
  unfold iO
  dsimp only
  rw [h]
  dsimp only
  rcases (show kd = 0 ∨ kd = 1 ∨ kd = 2 ∨ kd = 3 by omega) with rfl | rfl | rfl | rfl <;> rfl
theorem asks_no {N x : Nat} {σ : SG} {a b : Int32} (h : f_X1_isPlace N a = some 0) : f_X1_asks N σ x a b = some (-1) := by
  unfold f_X1_asks
  rw [h, Option.bind_some, if_pos rfl]
theorem asks_none {N x M p : Nat} {own : Nat → Nat} {σ : SG} {st : MS} {b : Int32} (j : J x M own σ st) (h : f_X1_isPlace N (nI p) = some 1) (h2 : aQ 3 σ (x + 1) (nI p) = some none) : f_X1_asks N σ x (nI p) b = some (-11) := by
  unfold f_X1_asks
  rw [h, Option.bind_some, if_neg (by decide), j.codes, Option.bind_some, h2, Option.bind_some]
theorem asks_0 {N x M p c : Nat} {own : Nat → Nat} {σ : SG} {st : MS} (j : J x M own σ st) (h : f_X1_isPlace N (nI p) = some 1) (h2 : aQ 3 σ (x + 1) (nI p) = some (some c)) : f_X1_asks N σ x (nI p) 0 = some 0 := by
  unfold f_X1_asks
  rw [h, Option.bind_some, if_neg (by decide), j.codes, Option.bind_some, h2, Option.bind_some]
  dsimp only
  rw [if_pos rfl]
theorem asks_1 {N x M p c kd : Nat} {own : Nat → Nat} {σ : SG} {st : MS} {fs : List Value} (j : J x M own σ st) (h : f_X1_isPlace N (nI p) = some 1) (h2 : aQ 3 σ (x + 1) (nI p) = some (some c)) (h3 : σ.2 c = some (eO (cls kd) fs)) (hk : kd ≤ 3) : f_X1_asks N σ x (nI p) 1 = some (if kd = 0 then -12 else 0) := by
  unfold f_X1_asks
  rw [h, Option.bind_some, if_neg (by decide), j.codes, Option.bind_some, h2, Option.bind_some]
  dsimp only
  rw [if_neg (by decide), Option.bind_some, h2, Option.bind_some, isLine (N := N) h3 hk, Option.bind_some]
  by_cases e : kd = 0
  · rw [if_pos e, if_pos rfl, if_pos e]
  · rw [if_neg e, if_neg (by decide), if_neg e]
/-- nothing happens -/
theorem Ok.nil {α : Type} {x M : Nat} {own : Nat → Nat} {σ : SG} {st : MS} {o1 : Option (SG × α)} {o3 : Option (MS × α)} {r : α} (j : J x M own σ st) (h1 : o1 = some (σ, r)) (h3 : o3 = some (st, r)) : Ok x M σ o1 o3 := ⟨σ, st, r, own, h1, h3, j, KM.refl _ _⟩
theorem okc_0 {kd q n : Nat} (hq : isQ q) (h1 : 1 ≤ n) (h2 : n ≤ 12) (hk : kd ≤ 3) (w : Nat → Nat) : okc kd q n 0 w := ⟨hq, h1, h2, hk, Nat.zero_le _, fun k hk => by omega, fun _ j k h1 h2 => by omega⟩
theorem make_new {N x M t kd q n : Nat} {own : Nat → Nat} {σ : SG} {st : MS} (j : J x M own σ st) (ht : t < 12) (hq : isQ q) (h1 : 1 ≤ n) (h2 : n ≤ 12) (hk : kd ≤ 3) : ∃ τ, f_X4_init N (nO (cls kd) [.int 0, .int 0, .null, .int 0] σ) σ.1 (nI q) (nI n) (nI (cap kd)) = some τ ∧ ∃ st' τ' own', f_X3_begin N st (nI t) (nI kd) (nI q) (nI n) = some st' ∧ f_X1_make_j79 N σ.1 (nI t) x τ = some (τ', 0) ∧ J x M own' τ' st' ∧ KM M σ τ' := by
  obtain ⟨τ, a1, ⟨a2, a3, a4⟩, a5⟩ := X4_init (N := N) (kd := kd) (q := q) (n := n) (σ := σ) (fun _ => 0)
  obtain ⟨st', b1, b2, b3, -⟩ := X3_begin (N := N) (kd := kd) (q := q) (n := n) (st := st) ht (fun _ => 0)
  obtain ⟨c0, τ', c1, ⟨own', c2⟩, c3⟩ := j.put_new (N := N) ht (by omega) a3 ⟨Nat.le_refl _, by omega⟩ ⟨by omega, by omega⟩ a4 (okc_0 hq h1 h2 hk _) b2 b3
  refine ⟨τ, a1, st', τ', own', b1, ?_, c2, c3⟩
  unfold f_X1_make_j79
  rw [c0, Option.bind_some, c1, Option.bind_some]
  rfl
theorem op_make {N x M : Nat} {own : Nat → Nat} {σ : SG} {st : MS} (j : J x M own σ st) (a b c d : Int32) : Ok x M σ (f_X1_make N σ x a b c d) (f_X3_make N st a b c d) := by
  unfold f_X1_make f_X3_make
  simp only [X3_isPlace_eq]
  rcases pl_cases j N a with h | ⟨p, hp, rfl, h, -⟩
  · simp only [h, Option.bind_some, if_true]
    exact Ok.nil j rfl rfl
  · simp only [h, Option.bind_some, i10, if_false]
    have key : ∀ kd : Nat, (kd = 0 ∨ kd = 1 ∨ kd = 3) → b = nI kd → Ok x M σ (f_X1_make_j21 N x (nI p) b c d σ) (f_X3_make_j21 N (nI p) b c d st) := by
      rintro kd hkd rfl
      unfold f_X1_make_j21 f_X3_make_j21
      simp only [X3_isField_eq]
      rcases isField_cases N c d with ⟨q, n, hq, h1, h2, rfl, rfl, hF⟩ | hF
      · simp only [hF, Option.bind_some, i10, if_false]
        obtain ⟨τ, e1, st', τ', own', e2, e3, e4, e5⟩ := make_new (N := N) (kd := kd) j hp hq h1 h2 (by omega)
        rcases hkd with rfl | rfl | rfl
        · rw [if_pos (show nI 0 = 0 from rfl)]
          unfold f_X5_init
          rw [show f_X4_init N (nO 3 [.int 0, .int 0, .null, .int 0] σ) σ.1 (nI q) (nI n) 200 = some τ from e1, Option.bind_some, Option.bind_some, e3, e2, Option.bind_some]
          exact ⟨τ', st', 0, own', rfl, rfl, e4, e5⟩
        · rw [if_neg (by decide), if_pos (show nI 1 = 1 from rfl)]
          unfold f_X6_init
          rw [show f_X4_init N (nO 4 [.int 0, .int 0, .null, .int 0] σ) σ.1 (nI q) (nI n) 12 = some τ from e1, Option.bind_some, Option.bind_some, e3, e2, Option.bind_some]
          exact ⟨τ', st', 0, own', rfl, rfl, e4, e5⟩
        · rw [if_neg (by decide), if_neg (by decide)]
          unfold f_X7_init f_X6_init
          rw [show f_X4_init N (nO 5 [.int 0, .int 0, .null, .int 0] σ) σ.1 (nI q) (nI n) 12 = some τ from e1, Option.bind_some, Option.bind_some, Option.bind_some, e3, e2, Option.bind_some]
          exact ⟨τ', st', 0, own', rfl, rfl, e4, e5⟩
      · simp only [hF, Option.bind_some, if_true]
        exact Ok.nil j rfl rfl
    by_cases b0 : b = 0
    · rw [if_pos b0, if_pos b0]; exact key 0 (Or.inl rfl) b0
    · by_cases b1 : b = 1
      · rw [if_neg b0, if_neg b0, if_pos b1, if_pos b1]; exact key 1 (Or.inr (Or.inl rfl)) b1
      · by_cases b3 : b = 3
        · rw [if_neg b0, if_neg b0, if_neg b1, if_neg b1, if_pos b3, if_pos b3]; exact key 3 (Or.inr (Or.inr rfl)) b3
        · rw [if_neg b0, if_neg b0, if_neg b1, if_neg b1, if_neg b3, if_neg b3]
          exact Ok.nil j rfl rfl
