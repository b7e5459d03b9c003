/-! ===== PURE 1: loops in closed form; letters; static methods of both sides ===== -/
set_option maxRecDepth 100000
/-- a loop whose states are known in closed form -/
theorem lp_up {σ ρ : Type} {body : σ → Option (σ ⊕ ρ)} (S : Nat → σ) (R : ρ) (b : Nat) (fin : body (S b) = some (.inr R)) : ∀ (k a N : Nat), a + k = b → k < N → (∀ i, a ≤ i → i < b → body (S i) = some (.inl (S (i + 1)))) → lp body N (S a) = some R
  | 0, a, N, h, hN, _ => by
    obtain ⟨m, rfl⟩ : ∃ m, N = m + 1 := ⟨N - 1, by omega⟩
    have hab : a = b := by omega
    subst hab
    simp only [lp, fin]
  | k + 1, a, N, h, hN, step => by
    obtain ⟨m, rfl⟩ : ∃ m, N = m + 1 := ⟨N - 1, by omega⟩
    simp only [lp, step a (Nat.le_refl _) (by omega)]
    exact lp_up S R b fin k (a + 1) m (by omega) (by omega) (fun i h1 h2 => step i (by omega) h2)
theorem lp_0 {σ ρ : Type} {body : σ → Option (σ ⊕ ρ)} (S : Nat → σ) {R : ρ} (b : Nat) {N : Nat} {s0 : σ} (h0 : s0 = S 0) (hN : b < N) (step : ∀ i, i < b → body (S i) = some (.inl (S (i + 1)))) (fin : body (S b) = some (.inr R)) : lp body N s0 = some R := by
  subst h0
  exact lp_up S R b fin b 0 N (by omega) hN (fun i _ h => step i h)
theorem lp_mono {σ ρ : Type} {body : σ → Option (σ ⊕ ρ)} : ∀ (n m : Nat) (s : σ) (r : ρ), lp body n s = some r → n ≤ m → lp body m s = some r
  | 0, m, s, r, h, _ => by simp [lp] at h
  | n + 1, m, s, r, h, hm => by
    obtain ⟨k, rfl⟩ : ∃ k, m = k + 1 := ⟨m - 1, by omega⟩
    simp only [lp] at h ⊢
    cases hb : body s with
    | none => rw [hb] at h; simp at h
    | some x =>
      rw [hb] at h
      cases x with
      | inl s' => exact lp_mono n k s' r h (by omega)
      | inr r' => exact h
/-! numbers -/
theorem ps_l (n : Nat) (h : n < 2 ^ 31) : (nI n).toInt64 = lN n := nI_l h
theorem ps_i (n : Nat) : (lN n).toInt32 = nI n := lN_i n
theorem lN_0 : lN 0 = 0 := rfl
theorem lN_1' : lN 1 = 1 := rfl
theorem nI_1' : nI 1 = 1 := rfl
theorem lN_ne0 {n : Nat} (h0 : 0 < n) (h : n < 2 ^ 63) : ¬ lN n = 0 := by
  rw [← lN_0, pk_lEQ h (by decide)]
  omega
theorem ldiv_N {a b : Nat} (ha : a < 2 ^ 63) (h0 : 0 < b) (hb : b < 2 ^ 63) : ldiv (lN a) (lN b) = some (lN (a / b)) := by
  unfold ldiv
  rw [if_neg (lN_ne0 h0 hb), pk_lDiv ha h0 hb]
theorem lrem_N {a b : Nat} (ha : a < 2 ^ 63) (h0 : 0 < b) (hb : b < 2 ^ 63) : lrem (lN a) (lN b) = some (lN (a % b)) := by
  unfold lrem
  rw [if_neg (lN_ne0 h0 hb), pk_lRem ha h0 hb]
theorem irem_N {a b : Nat} (ha : a < 2 ^ 31) (h0 : 0 < b) (hb : b < 2 ^ 31) : irem (nI a) (nI b) = some (nI (a % b)) := by
  unfold irem
  rw [if_neg (nI_ne0 h0 hb), pk_rem ha h0 hb]
theorem idiv_N {a b : Nat} (ha : a < 2 ^ 31) (h0 : 0 < b) (hb : b < 2 ^ 31) : idiv (nI a) (nI b) = some (nI (a / b)) := by
  unfold idiv
  rw [if_neg (nI_ne0 h0 hb), pk_div ha h0 hb]
theorem rz_0 : rz 0 = some 0 := rfl
theorem rz_1 : rz 1 = some 1 := rfl
theorem nI_sub {a b : Nat} (h : b ≤ a) : nI a - nI b = nI (a - b) := pk_sub h
theorem nI_m1 {n : Nat} (h : 0 < n) : nI n + (-1) = nI (n - 1) := by
  obtain ⟨k, rfl⟩ : ∃ k, n = k + 1 := ⟨n - 1, by omega⟩
  exact pk_m1 k
theorem nI_s1 {n : Nat} (h : 0 < n) : nI n - 1 = nI (n - 1) := by
  obtain ⟨k, rfl⟩ : ∃ k, n = k + 1 := ⟨n - 1, by omega⟩
  exact nI_pred k
theorem nI_m1neg : nI 0 - 1 < 0 := by decide
theorem ald_N {α : Type} {f : Nat → α} {n i : Nat} (h : i < n) (hn : n < 2 ^ 31) : ald f n (nI i) = some (f i) := by
  unfold ald
  rw [if_neg (nI_in h hn), nI_clamp (by omega)]
theorem iast_N {f : Nat → Int32} {n i : Nat} {x : Int32} (h : i < n) (hn : n < 2 ^ 31) : iast f n (nI i) x = some (upd f i x) := by
  unfold iast
  rw [if_neg (nI_in h hn), nI_clamp (by omega)]
theorem last_N {f : Nat → Int64} {n i : Nat} {x : Int64} (h : i < n) (hn : n < 2 ^ 31) : last f n (nI i) x = some (vp_updL f i x) := by
  unfold last
  rw [if_neg (nI_in h hn), nI_clamp (by omega)]
/-! the fields -/
def fadd (q a b : Nat) : Nat := if q = 4 then a ^^^ b else (a + b) % q
def fmul (q a b : Nat) : Nat := if q = 4 then (if a = 0 ∨ b = 0 then 0 else (a + b - 2) % 3 + 1) else a * b % q
def fneg (q a : Nat) : Nat := if q = 4 then a else (q - a) % q
def finv (q a : Nat) : Nat := if q = 5 then (if a = 2 then 3 else if a = 3 then 2 else a) else if q = 4 then (if a = 2 then 3 else if a = 3 then 2 else a) else a
/-- a field of 2 .. 5 letters -/
def isQ (q : Nat) : Prop := 2 ≤ q ∧ q ≤ 5
theorem isQ.lt {q : Nat} (h : isQ q) : q < 6 := Nat.lt_succ_of_le h.2
theorem fq_all {P : Nat → Prop} [DecidablePred P] (h : ∀ q, q < 6 → 2 ≤ q → P q) {q : Nat} (hq : isQ q) : P q := h q hq.lt hq.1
theorem fadd_lt {q a b : Nat} (hq : isQ q) (ha : a < q) (hb : b < q) : fadd q a b < q := (by decide +kernel : ∀ q, q < 6 → 2 ≤ q → ∀ a, a < q → ∀ b, b < q → fadd q a b < q) q hq.lt hq.1 a ha b hb
theorem fmul_lt {q a b : Nat} (hq : isQ q) (ha : a < q) (hb : b < q) : fmul q a b < q := (by decide +kernel : ∀ q, q < 6 → 2 ≤ q → ∀ a, a < q → ∀ b, b < q → fmul q a b < q) q hq.lt hq.1 a ha b hb
theorem fneg_lt {q a : Nat} (hq : isQ q) (ha : a < q) : fneg q a < q := (by decide +kernel : ∀ q, q < 6 → 2 ≤ q → ∀ a, a < q → fneg q a < q) q hq.lt hq.1 a ha
theorem finv_lt {q a : Nat} (hq : isQ q) (ha : a < q) : finv q a < q := (by decide +kernel : ∀ q, q < 6 → 2 ≤ q → ∀ a, a < q → finv q a < q) q hq.lt hq.1 a ha
theorem fadd_comm {q a b : Nat} (hq : isQ q) (ha : a < q) (hb : b < q) : fadd q a b = fadd q b a := (by decide +kernel : ∀ q, q < 6 → 2 ≤ q → ∀ a, a < q → ∀ b, b < q → fadd q a b = fadd q b a) q hq.lt hq.1 a ha b hb
theorem fmul_comm {q a b : Nat} (hq : isQ q) (ha : a < q) (hb : b < q) : fmul q a b = fmul q b a := (by decide +kernel : ∀ q, q < 6 → 2 ≤ q → ∀ a, a < q → ∀ b, b < q → fmul q a b = fmul q b a) q hq.lt hq.1 a ha b hb
theorem fadd_assoc {q a b c : Nat} (hq : isQ q) (ha : a < q) (hb : b < q) (hc : c < q) : fadd q (fadd q a b) c = fadd q a (fadd q b c) := (by decide +kernel : ∀ q, q < 6 → 2 ≤ q → ∀ a, a < q → ∀ b, b < q → ∀ c, c < q → fadd q (fadd q a b) c = fadd q a (fadd q b c)) q hq.lt hq.1 a ha b hb c hc
theorem fmul_assoc {q a b c : Nat} (hq : isQ q) (ha : a < q) (hb : b < q) (hc : c < q) : fmul q (fmul q a b) c = fmul q a (fmul q b c) := (by decide +kernel : ∀ q, q < 6 → 2 ≤ q → ∀ a, a < q → ∀ b, b < q → ∀ c, c < q → fmul q (fmul q a b) c = fmul q a (fmul q b c)) q hq.lt hq.1 a ha b hb c hc
theorem fmul_add {q a b c : Nat} (hq : isQ q) (ha : a < q) (hb : b < q) (hc : c < q) : fmul q a (fadd q b c) = fadd q (fmul q a b) (fmul q a c) := (by decide +kernel : ∀ q, q < 6 → 2 ≤ q → ∀ a, a < q → ∀ b, b < q → ∀ c, c < q → fmul q a (fadd q b c) = fadd q (fmul q a b) (fmul q a c)) q hq.lt hq.1 a ha b hb c hc
theorem fadd_0 {q a : Nat} (hq : isQ q) (ha : a < q) : fadd q a 0 = a := (by decide +kernel : ∀ q, q < 6 → 2 ≤ q → ∀ a, a < q → fadd q a 0 = a) q hq.lt hq.1 a ha
theorem fadd_0l {q a : Nat} (hq : isQ q) (ha : a < q) : fadd q 0 a = a := (by decide +kernel : ∀ q, q < 6 → 2 ≤ q → ∀ a, a < q → fadd q 0 a = a) q hq.lt hq.1 a ha
theorem fmul_0 {q a : Nat} (hq : isQ q) (ha : a < q) : fmul q a 0 = 0 := (by decide +kernel : ∀ q, q < 6 → 2 ≤ q → ∀ a, a < q → fmul q a 0 = 0) q hq.lt hq.1 a ha
theorem fmul_0l {q a : Nat} (hq : isQ q) (ha : a < q) : fmul q 0 a = 0 := (by decide +kernel : ∀ q, q < 6 → 2 ≤ q → ∀ a, a < q → fmul q 0 a = 0) q hq.lt hq.1 a ha
theorem fmul_1 {q a : Nat} (hq : isQ q) (ha : a < q) : fmul q a 1 = a := (by decide +kernel : ∀ q, q < 6 → 2 ≤ q → ∀ a, a < q → fmul q a 1 = a) q hq.lt hq.1 a ha
theorem fmul_1l {q a : Nat} (hq : isQ q) (ha : a < q) : fmul q 1 a = a := (by decide +kernel : ∀ q, q < 6 → 2 ≤ q → ∀ a, a < q → fmul q 1 a = a) q hq.lt hq.1 a ha
theorem fneg_add {q a : Nat} (hq : isQ q) (ha : a < q) : fadd q a (fneg q a) = 0 := (by decide +kernel : ∀ q, q < 6 → 2 ≤ q → ∀ a, a < q → fadd q a (fneg q a) = 0) q hq.lt hq.1 a ha
theorem fneg_0 {q : Nat} (hq : isQ q) : fneg q 0 = 0 := (by decide +kernel : ∀ q, q < 6 → 2 ≤ q → fneg q 0 = 0) q hq.lt hq.1
theorem finv_mul {q a : Nat} (hq : isQ q) (ha : a < q) (h0 : a ≠ 0) : fmul q (finv q a) a = 1 := (by decide +kernel : ∀ q, q < 6 → 2 ≤ q → ∀ a, a < q → a ≠ 0 → fmul q (finv q a) a = 1) q hq.lt hq.1 a ha h0
theorem fmul_ne0 {q a b : Nat} (hq : isQ q) (ha : a < q) (hb : b < q) (h : fmul q a b = 0) : a = 0 ∨ b = 0 := by
  by_cases h0 : a = 0
  · exact Or.inl h0
  · refine Or.inr ?_
    rw [← fmul_1l hq hb, ← finv_mul hq ha h0, fmul_assoc hq (finv_lt hq ha) ha hb, h, fmul_0 hq (finv_lt hq ha)]
theorem finv_ne0 {q a : Nat} (hq : isQ q) (ha : a < q) (h0 : a ≠ 0) : finv q a ≠ 0 := (by decide +kernel : ∀ q, q < 6 → 2 ≤ q → ∀ a, a < q → a ≠ 0 → finv q a ≠ 0) q hq.lt hq.1 a ha h0
/-! the small methods, by all cases -/
theorem X1_times {q a b N : Nat} (hq : isQ q) (ha : a < q) (hb : b < q) : f_X1_times N (nI q) (nI a) (nI b) = some (nI (fmul q a b)) := (by decide +kernel : ∀ q, q < 6 → 2 ≤ q → ∀ a, a < q → ∀ b, b < q → f_X1_times 0 (nI q) (nI a) (nI b) = some (nI (fmul q a b))) q hq.lt hq.1 a ha b hb
theorem X3_times {q a b N : Nat} (hq : isQ q) (ha : a < q) (hb : b < q) : f_X3_times N (nI q) (nI a) (nI b) = some (nI (fmul q a b)) := (by decide +kernel : ∀ q, q < 6 → 2 ≤ q → ∀ a, a < q → ∀ b, b < q → f_X3_times 0 (nI q) (nI a) (nI b) = some (nI (fmul q a b))) q hq.lt hq.1 a ha b hb
theorem X1_added {q a b N : Nat} (hq : isQ q) (ha : a < q) (hb : b < q) : f_X1_added N (nI q) (nI a) (nI b) = some (nI (fadd q a b)) := (by decide +kernel : ∀ q, q < 6 → 2 ≤ q → ∀ a, a < q → ∀ b, b < q → f_X1_added 0 (nI q) (nI a) (nI b) = some (nI (fadd q a b))) q hq.lt hq.1 a ha b hb
theorem X3_plus {q a b N : Nat} (hq : isQ q) (ha : a < q) (hb : b < q) : f_X3_plus N (nI q) (nI a) (nI b) = some (nI (fadd q a b)) := (by decide +kernel : ∀ q, q < 6 → 2 ≤ q → ∀ a, a < q → ∀ b, b < q → f_X3_plus 0 (nI q) (nI a) (nI b) = some (nI (fadd q a b))) q hq.lt hq.1 a ha b hb
theorem X1_against {q a N : Nat} (hq : isQ q) (ha : a < q) : f_X1_against N (nI q) (nI a) = some (nI (fneg q a)) := (by decide +kernel : ∀ q, q < 6 → 2 ≤ q → ∀ a, a < q → f_X1_against 0 (nI q) (nI a) = some (nI (fneg q a))) q hq.lt hq.1 a ha
theorem X3_minus {q a N : Nat} (hq : isQ q) (ha : a < q) : f_X3_minus N (nI q) (nI a) = some (nI (fneg q a)) := (by decide +kernel : ∀ q, q < 6 → 2 ≤ q → ∀ a, a < q → f_X3_minus 0 (nI q) (nI a) = some (nI (fneg q a))) q hq.lt hq.1 a ha
theorem inv_X1 : ∀ q, q < 6 → 2 ≤ q → ∀ a, a < q → a ≠ 0 → lp (f_X1_inverse_b2 0 (nI q) (nI a)) 5 1 = some (nI (finv q a)) := by decide +kernel
theorem inv_X3 : ∀ q, q < 6 → 2 ≤ q → ∀ a, a < q → a ≠ 0 → lp (f_X3_inverse_b2 0 (nI q) (nI a)) 5 1 = some (nI (finv q a)) := by decide +kernel
theorem X1_inverse {q a N : Nat} (hN : 20 ≤ N) (hq : isQ q) (ha : a < q) (h0 : a ≠ 0) : f_X1_inverse N (nI q) (nI a) = some (nI (finv q a)) := by
  unfold f_X1_inverse
  rw [show f_X1_inverse_b2 N (nI q) (nI a) = f_X1_inverse_b2 0 (nI q) (nI a) from rfl, lp_mono 5 N 1 _ (inv_X1 q hq.lt hq.1 a ha h0) (by omega)]
  rfl
theorem X3_inverse {q a N : Nat} (hN : 20 ≤ N) (hq : isQ q) (ha : a < q) (h0 : a ≠ 0) : f_X3_inverse N (nI q) (nI a) = some (nI (finv q a)) := by
  unfold f_X3_inverse
  rw [show f_X3_inverse_b2 N (nI q) (nI a) = f_X3_inverse_b2 0 (nI q) (nI a) from rfl, lp_mono 5 N 1 _ (inv_X3 q hq.lt hq.1 a ha h0) (by omega)]
  rfl
theorem pow_X1 : ∀ q, q < 6 → ∀ n, n < 13 → lp (f_X1_power_b5 0 (nI q) (nI n)) 14 (1, 0) = some (lN (q ^ n)) := by decide +kernel
theorem X1_power {q n N : Nat} (hN : 20 ≤ N) (hq : q < 6) (hn : n < 13) : f_X1_power N (nI q) (nI n) = some (lN (q ^ n)) := by
  unfold f_X1_power
  rw [show f_X1_power_b5 N (nI q) (nI n) = f_X1_power_b5 0 (nI q) (nI n) from rfl, lp_mono 14 N _ _ (pow_X1 q hq n hn) (by omega)]
  rfl
theorem X3_power_eq (N : Nat) (a b : Int32) : f_X3_power N a b = f_X1_power N a b := rfl
theorem X3_power {q n N : Nat} (hN : 20 ≤ N) (hq : q < 6) (hn : n < 13) : f_X3_power N (nI q) (nI n) = some (lN (q ^ n)) := X1_power hN hq hn
theorem pow_le : ∀ q, q < 6 → ∀ n, n < 13 → q ^ n ≤ 244140625 := by decide +kernel
theorem pow_lt {q n : Nat} (hq : q < 6) (hn : n < 13) : q ^ n < 2 ^ 28 := Nat.lt_of_le_of_lt (pow_le q hq n hn) (by decide)
theorem pow_pos {q n : Nat} (hq : isQ q) : 0 < q ^ n := Nat.pow_pos (by have := hq.1; omega)
