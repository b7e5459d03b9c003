/-! ===== PURE 3: sums, products and ways: both sides; binomials; further static methods ===== -/
set_option maxRecDepth 100000
theorem div_succ (a q k : Nat) : a / q ^ k / q = a / q ^ (k + 1) := by rw [Nat.div_div_eq_div_mul, Nat.pow_succ]
theorem small_div {a : Nat} (x : Nat) (h : a < 2 ^ 62) : a / x < 2 ^ 63 := Nat.lt_of_le_of_lt (Nat.div_le_self _ _) (by omega)
theorem X1_sumOf {q n a b c N : Nat} (hN : 20 ≤ N) (hq : isQ q) (hn : n ≤ 12) (ha : a < 2 ^ 62) (hb : b < 2 ^ 62) (hc : c < q) : f_X1_sumOf N (nI q) (nI n) (lN a) (lN b) (nI c) = some (lN (wsum q n a b c)) := by
  have q5 := hq.2
  have q2 := hq.1
  unfold f_X1_sumOf
  rw [lp_0 (S := fun k => (lN (a / q ^ k), lN (b / q ^ k), lN (wl q (fun j => fadd q (ld q a j) (fmul q c (ld q b j))) k), lN (q ^ k), nI k)) (R := lN (wsum q n a b c)) n ?_ (by omega) ?_ ?_]
  · rfl
  · rw [Nat.pow_zero, Nat.div_one, Nat.div_one]
    rfl
  · intro k hk
    unfold f_X1_sumOf_b16
    dsimp only
    rw [if_neg (nI_ge hk (by omega)), ps_l q (by omega), lrem_N (small_div _ ha) (by omega) (by omega), Option.bind_some, lrem_N (small_div _ hb) (by omega) (by omega), Option.bind_some, ps_i, ps_i, X1_times hq hc (Nat.mod_lt _ (by omega)), Option.bind_some, X1_added hq (Nat.mod_lt _ (by omega)) (fmul_lt hq hc (Nat.mod_lt _ (by omega))), Option.bind_some, ldiv_N (small_div _ ha) (by omega) (by omega), Option.bind_some, ldiv_N (small_div _ hb) (by omega) (by omega), Option.bind_some]
    have h1 : fadd q (a / q ^ k % q) (fmul q c (b / q ^ k % q)) < q := fadd_lt hq (Nat.mod_lt _ (by omega)) (fmul_lt hq hc (Nat.mod_lt _ (by omega)))
    rw [ps_l _ (by omega), lN_mul, lN_mul, lN_add, nI_1, div_succ, div_succ, Nat.mul_comm (q ^ k), ← Nat.pow_succ]
    rfl
  · unfold f_X1_sumOf_b16
    dsimp only
    rw [if_pos (nI_le (Nat.le_refl _) (by omega))]
    rfl
theorem X3_sumOf {q n a b c N : Nat} (hN : 20 ≤ N) (hq : isQ q) (hn : n ≤ 12) (ha : a < 2 ^ 62) (hb : b < 2 ^ 62) (hc : c < q) : f_X3_sumOf N (nI q) (nI n) (lN a) (lN b) (nI c) = some (lN (wsum q n a b c)) := by
  have q5 := hq.2
  have q2 := hq.1
  unfold f_X3_sumOf
  rw [lp_0 (S := fun k => (lN (hv q (fun i => fadd q (dg q n a i) (fmul q c (dg q n b i))) k), nI k)) (R := lN (wsum q n a b c)) n ?_ (by omega) ?_ ?_]
  · rfl
  · rfl
  · intro k hk
    unfold f_X3_sumOf_b6
    dsimp only
    have h1 := fadd_lt hq (dg_lt hq n a k) (fmul_lt hq hc (dg_lt hq n b k))
    rw [if_neg (nI_ge hk (by omega)), X3_letter hN hq hn ha hk, Option.bind_some, X3_letter hN hq hn hb hk, Option.bind_some, X3_times hq hc (dg_lt hq _ _ _), Option.bind_some, X3_plus hq (dg_lt hq _ _ _) (fmul_lt hq hc (dg_lt hq _ _ _)), Option.bind_some, ps_l q (by omega), ps_l _ (by omega), lN_mul, lN_add, nI_1]
    rfl
  · unfold f_X3_sumOf_b6
    dsimp only
    rw [if_pos (nI_le (Nat.le_refl _) (by omega))]
    have e : hv q (fun i => fadd q (dg q n a i) (fmul q c (dg q n b i))) n = wsum q n a b c := hv_all q n (fun j => fadd q (ld q a j) (fmul q c (ld q b j)))
    rw [e]
theorem X1_productOf {q n a b N : Nat} (hN : 20 ≤ N) (hq : isQ q) (hn : n ≤ 12) (ha : a < 2 ^ 62) (hb : b < 2 ^ 62) : f_X1_productOf N (nI q) (nI n) (lN a) (lN b) = some (nI (wprod q n a b)) := by
  have q5 := hq.2
  have q2 := hq.1
  unfold f_X1_productOf
  rw [lp_0 (S := fun k => (nI (fs q (fun j => fmul q (ld q a j) (ld q b j)) k), lN (a / q ^ k), lN (b / q ^ k), nI k)) (R := nI (wprod q n a b)) n ?_ (by omega) ?_ ?_]
  · rfl
  · rw [Nat.pow_zero, Nat.div_one, Nat.div_one]
    rfl
  · intro k hk
    unfold f_X1_productOf_b13
    dsimp only
    have h1 := fs_lt hq (t := fun j => fmul q (ld q a j) (ld q b j)) k (fun j _ => fmul_lt hq (ld_lt hq _ _) (ld_lt hq _ _))
    rw [if_neg (nI_ge hk (by omega)), ps_l q (by omega), lrem_N (small_div _ ha) (by omega) (by omega), Option.bind_some, lrem_N (small_div _ hb) (by omega) (by omega), Option.bind_some, ps_i, ps_i, X1_times hq (Nat.mod_lt _ (by omega)) (Nat.mod_lt _ (by omega)), Option.bind_some, X1_added hq h1 (fmul_lt hq (Nat.mod_lt _ (by omega)) (Nat.mod_lt _ (by omega))), Option.bind_some, ldiv_N (small_div _ ha) (by omega) (by omega), Option.bind_some, ldiv_N (small_div _ hb) (by omega) (by omega), Option.bind_some, nI_1, div_succ, div_succ]
    rfl
  · unfold f_X1_productOf_b13
    dsimp only
    rw [if_pos (nI_le (Nat.le_refl _) (by omega))]
    rfl
theorem X3_productOf {q n a b N : Nat} (hN : 20 ≤ N) (hq : isQ q) (hn : n ≤ 12) (ha : a < 2 ^ 62) (hb : b < 2 ^ 62) : f_X3_productOf N (nI q) (nI n) (lN a) (lN b) = some (nI (wprod q n a b)) := by
  have q5 := hq.2
  have q2 := hq.1
  unfold f_X3_productOf
  rw [lp_0 (S := fun k => (nI (fs q (fun i => fmul q (dg q n a i) (dg q n b i)) k), nI k)) (R := nI (wprod q n a b)) n ?_ (by omega) ?_ ?_]
  · rfl
  · rfl
  · intro k hk
    unfold f_X3_productOf_b6
    dsimp only
    have h1 := fs_lt hq (t := fun i => fmul q (dg q n a i) (dg q n b i)) k (fun j _ => fmul_lt hq (dg_lt hq _ _ _) (dg_lt hq _ _ _))
    rw [if_neg (nI_ge hk (by omega)), X3_letter hN hq hn ha hk, Option.bind_some, X3_letter hN hq hn hb hk, Option.bind_some, X3_times hq (dg_lt hq _ _ _) (dg_lt hq _ _ _), Option.bind_some, X3_plus hq h1 (fmul_lt hq (dg_lt hq _ _ _) (dg_lt hq _ _ _)), Option.bind_some, nI_1]
    rfl
  · unfold f_X3_productOf_b6
    dsimp only
    rw [if_pos (nI_le (Nat.le_refl _) (by omega))]
    have e : fs q (fun i => fmul q (dg q n a i) (dg q n b i)) n = wprod q n a b := fs_rev hq n (fun j => fmul q (ld q a j) (ld q b j)) (fun j _ => fmul_lt hq (ld_lt hq _ _) (ld_lt hq _ _))
    rw [e]
/-- a counter that runs down to -1 -/
def dn (n m : Nat) : Int32 := if m < n then nI (n - 1 - m) else -1
theorem dn_lt {n m : Nat} (h : m < n) : dn n m = nI (n - 1 - m) := if_pos h
theorem dn_end (n : Nat) : dn n n = -1 := if_neg (Nat.lt_irrefl _)
theorem dn_0 {n : Nat} (h : 0 < n) : nI n - 1 = dn n 0 := by rw [dn_lt h, nI_s1 h]; rfl
theorem dn_00 : nI 0 - 1 = dn 0 0 := by decide
theorem dn_start (n : Nat) : nI n - 1 = dn n 0 := by
  cases n with
  | zero => decide
  | succ n => exact dn_0 (by omega)
theorem dn_s {n m : Nat} (h : m < n) : dn n m + (-1) = dn n (m + 1) := by
  rw [dn_lt h]
  by_cases h2 : m + 1 < n
  · rw [dn_lt h2, nI_m1 (by omega)]
    congr 1
  · have : n - 1 - m = 0 := by omega
    rw [this, show dn n (m + 1) = -1 from if_neg h2]
    decide
theorem dn_neg {n m : Nat} (h : m < n) (hn : n < 2 ^ 31) : ¬ dn n m < 0 := by rw [dn_lt h]; exact nI_pos (by omega)
theorem dn_fin (n : Nat) : dn n n < 0 := by rw [dn_end]; decide
theorem X1_wayOf {q n a b N : Nat} {lost : Int32} (hN : 20 ≤ N) (hq : isQ q) (hn : n ≤ 12) (ha : a < 2 ^ 62) (hb : b < 2 ^ 62) : f_X1_wayOf N (nI q) (nI n) (lN a) (lN b) lost = some (nI (wway q n a b lost)) := by
  have q5 := hq.2
  have q2 := hq.1
  unfold f_X1_wayOf
  rw [lp_0 (S := fun m => (nI (cn (fun m => keptAt lost (n - 1 - m) && decide (dg q n a (n - 1 - m) ≠ dg q n b (n - 1 - m))) m), lN (a / q ^ m), lN (b / q ^ m), dn n m)) (R := nI (wway q n a b lost)) n ?_ (by omega) ?_ ?_]
  · rfl
  · rw [Nat.pow_zero, Nat.div_one, Nat.div_one, dn_start]
    rfl
  · intro k hk
    unfold f_X1_wayOf_b15 f_X1_wayOf_j51
    dsimp only
    rw [if_neg (dn_neg hk (by omega)), ps_l q (by omega), lrem_N (small_div _ ha) (by omega) (by omega), Option.bind_some, lrem_N (small_div _ hb) (by omega) (by omega), Option.bind_some, ldiv_N (small_div _ ha) (by omega) (by omega), Option.bind_some, ldiv_N (small_div _ hb) (by omega) (by omega), Option.bind_some, dn_s hk, div_succ, div_succ, dn_lt hk, cn]
    have e : ∀ w, dg q n w (n - 1 - k) = w / q ^ k % q := fun w => by
      unfold dg
      rw [show n - 1 - (n - 1 - k) = k by omega]
    rw [e, e]
    have hlt : ∀ w : Nat, w / q ^ k % q < 2 ^ 63 := fun w => Nat.lt_trans (Nat.mod_lt _ (by omega)) (by omega)
    by_cases h1 : a / q ^ k % q = b / q ^ k % q
    · rw [if_pos (by rw [h1])]
      simp [h1]
    · rw [if_neg (by rw [pk_lEQ (hlt _) (hlt _)]; exact h1)]
      by_cases h2 : ((lost >>> (nI (n - 1 - k) &&& 31)) &&& (1 : Int32)) = 0
      · rw [if_pos h2]
        have : keptAt lost (n - 1 - k) = true := decide_eq_true h2
        simp only [this, h1, Bool.true_and, ne_eq, not_false_eq_true, decide_true, if_true, Option.bind_some]
        rw [← nI_1]
      · rw [if_neg h2]
        have : keptAt lost (n - 1 - k) = false := decide_eq_false h2
        simp [this]
  · unfold f_X1_wayOf_b15
    dsimp only
    rw [if_pos (dn_fin n)]
    have e : cn (fun m => keptAt lost (n - 1 - m) && decide (dg q n a (n - 1 - m) ≠ dg q n b (n - 1 - m))) n = wway q n a b lost := cn_rev n (fun i => keptAt lost i && decide (dg q n a i ≠ dg q n b i))
    rw [e]
theorem X3_wayOf {q n a b N : Nat} {lost : Int32} (hN : 20 ≤ N) (hq : isQ q) (hn : n ≤ 12) (ha : a < 2 ^ 62) (hb : b < 2 ^ 62) : f_X3_wayOf N (nI q) (nI n) (lN a) (lN b) lost = some (nI (wway q n a b lost)) := by
  have q5 := hq.2
  have q2 := hq.1
  unfold f_X3_wayOf
  rw [lp_0 (S := fun k => (nI (cn (fun i => keptAt lost i && decide (dg q n a i ≠ dg q n b i)) k), nI k)) (R := nI (wway q n a b lost)) n ?_ (by omega) ?_ ?_]
  · rfl
  · rfl
  · intro k hk
    unfold f_X3_wayOf_b6
    dsimp only
    rw [if_neg (nI_ge hk (by omega)), X3_letter hN hq hn ha hk, Option.bind_some, X3_letter hN hq hn hb hk, Option.bind_some, nI_1, cn]
    have l1 := dg_lt hq n a k
    have l2 := dg_lt hq n b k
    by_cases h2 : ((lost >>> (nI k &&& 31)) &&& (1 : Int32)) = 0
    · rw [if_pos h2]
      have hk2 : keptAt lost k = true := decide_eq_true h2
      by_cases h1 : dg q n a k = dg q n b k
      · rw [if_pos (by rw [h1])]
        simp [h1]
      · rw [if_neg (by rw [nI_eq (by omega) (by omega)]; exact h1)]
        simp only [hk2, h1, Bool.true_and, ne_eq, not_false_eq_true, decide_true, if_true, nI_1]
    · rw [if_neg h2]
      have hk2 : keptAt lost k = false := decide_eq_false h2
      simp [hk2]
  · unfold f_X3_wayOf_b6
    dsimp only
    rw [if_pos (nI_le (Nat.le_refl _) (by omega))]
    rfl
/-! checks of numbers -/
theorem X3_isIn_eq (N : Nat) (a b c : Int64) : f_X3_isIn N a b c = f_X1_isIn N a b c := rfl
theorem X3_isPlace_eq (N : Nat) (a : Int32) : f_X3_isPlace N a = f_X1_isPlace N a := rfl
theorem X3_isField_eq (N : Nat) (a b : Int32) : f_X3_isField N a b = f_X1_isField N a b := rfl
theorem X3_isWord_eq (N : Nat) (a b : Int32) (w : Int64) : f_X3_isWord N a b w = f_X1_isWord N a b w := rfl
theorem X3_isShelf_eq (N : Nat) (a : Int32) : f_X3_isShelf N a = f_X1_isShelf N a := rfl
theorem X3_without_eq (N : Nat) (a b : Int32) (w : Int64) (i : Int32) : f_X3_without N a b w i = f_X1_without N a b w i := rfl
/-- an int between two small numbers -/
theorem i2l_lt (x : Int32) (k : Nat) (hk : k < 2 ^ 31) : x.toInt64 < lN k ↔ x.toInt < k := by
  rw [Int64.lt_iff_toInt_lt, lN_toInt hk]
  simp
theorem i2l_gt (x : Int32) (k : Nat) (hk : k < 2 ^ 31) : lN k < x.toInt64 ↔ (k : Int) < x.toInt := by
  rw [Int64.lt_iff_toInt_lt, lN_toInt hk]
  simp
theorem isIn_N {N lo hi : Nat} {x : Int32} (hl : lo < 2 ^ 31) (hh : hi < 2 ^ 31) : f_X1_isIn N x.toInt64 (lN lo) (lN hi) = some (if (lo : Int) ≤ x.toInt ∧ x.toInt ≤ hi then 1 else 0) := by
  unfold f_X1_isIn
  by_cases h1 : x.toInt < lo
  · rw [if_pos ((i2l_lt x lo hl).mpr h1), if_neg (by omega)]
    rfl
  · rw [if_neg (fun h => h1 ((i2l_lt x lo hl).mp h))]
    by_cases h2 : (hi : Int) < x.toInt
    · rw [if_pos ((i2l_gt x hi hh).mpr h2), if_neg (by omega)]
      rfl
    · rw [if_neg (fun h => h2 ((i2l_gt x hi hh).mp h)), if_pos (by omega)]
      rfl
/-- an int is a small number, or out of range -/
theorem int_cases (x : Int32) (lo hi : Nat) (hh : hi < 2 ^ 31) : (∃ k, lo ≤ k ∧ k ≤ hi ∧ x = nI k) ∨ ¬ ((lo : Int) ≤ x.toInt ∧ x.toInt ≤ hi) := by
  by_cases h : (lo : Int) ≤ x.toInt ∧ x.toInt ≤ hi
  · refine Or.inl ⟨x.toInt.toNat, by omega, by omega, ?_⟩
    apply Int32.toInt_inj.mp
    rw [nI_toInt (by omega)]
    omega
  · exact Or.inr h
theorem isIn_yes {N lo hi k : Nat} (hh : hi < 2 ^ 31) (h1 : lo ≤ k) (h2 : k ≤ hi) : f_X1_isIn N (nI k).toInt64 (lN lo) (lN hi) = some 1 := by
  rw [isIn_N (by omega) hh, nI_toInt (by omega), if_pos (by omega)]
theorem isIn_no {N lo hi : Nat} {x : Int32} (hl : lo < 2 ^ 31) (hh : hi < 2 ^ 31) (h : ¬ ((lo : Int) ≤ x.toInt ∧ x.toInt ≤ hi)) : f_X1_isIn N x.toInt64 (lN lo) (lN hi) = some 0 := by
  rw [isIn_N hl hh, if_neg h]
theorem isPlace_yes {N k : Nat} (h : k < 12) : f_X1_isPlace N (nI k) = some 1 := by
  unfold f_X1_isPlace
  rw [show (0 : Int64) = lN 0 from rfl, show (11 : Int64) = lN 11 from rfl, isIn_yes (by omega) (by omega) (by omega)]
  rfl
theorem isPlace_no {N : Nat} {x : Int32} (h : ¬ ((0 : Int) ≤ x.toInt ∧ x.toInt ≤ 11)) : f_X1_isPlace N x = some 0 := by
  unfold f_X1_isPlace
  rw [show (0 : Int64) = lN 0 from rfl, show (11 : Int64) = lN 11 from rfl, isIn_no (lo := 0) (hi := 11) (by decide) (by decide) h]
  rfl
theorem isShelf_yes {N k : Nat} (h : k < 6) : f_X1_isShelf N (nI k) = some 1 := by
  unfold f_X1_isShelf
  rw [show (0 : Int64) = lN 0 from rfl, show (5 : Int64) = lN 5 from rfl, isIn_yes (by omega) (by omega) (by omega)]
  rfl
theorem isShelf_no {N : Nat} {x : Int32} (h : ¬ ((0 : Int) ≤ x.toInt ∧ x.toInt ≤ 5)) : f_X1_isShelf N x = some 0 := by
  unfold f_X1_isShelf
  rw [show (0 : Int64) = lN 0 from rfl, show (5 : Int64) = lN 5 from rfl, isIn_no (lo := 0) (hi := 5) (by decide) (by decide) h]
  rfl
/-- a field and a length, or not -/
theorem isField_cases (N : Nat) (a b : Int32) : (∃ q n, isQ q ∧ 1 ≤ n ∧ n ≤ 12 ∧ a = nI q ∧ b = nI n ∧ f_X1_isField N a b = some 1) ∨ f_X1_isField N a b = some 0 := by
  unfold f_X1_isField
  rw [show (2 : Int64) = lN 2 from rfl, show (5 : Int64) = lN 5 from rfl, show (1 : Int64) = lN 1 from rfl, show (12 : Int64) = lN 12 from rfl]
  rcases int_cases a 2 5 (by omega) with ⟨q, h1, h2, rfl⟩ | h
  · rw [isIn_yes (by omega) h1 h2, Option.bind_some, if_neg (by decide)]
    rcases int_cases b 1 12 (by omega) with ⟨n, h3, h4, rfl⟩ | h
    · rw [isIn_yes (by omega) h3 h4, Option.bind_some, if_neg (by decide)]
      exact Or.inl ⟨q, n, ⟨h1, h2⟩, h3, h4, rfl, rfl, rfl⟩
    · rw [isIn_no (by omega) (by omega) h, Option.bind_some, if_pos rfl]
      exact Or.inr rfl
  · rw [isIn_no (by omega) (by omega) h, Option.bind_some, if_pos rfl]
    exact Or.inr rfl
theorem isField_yes {N q n : Nat} (hq : isQ q) (h1 : 1 ≤ n) (h2 : n ≤ 12) : f_X1_isField N (nI q) (nI n) = some 1 := by
  unfold f_X1_isField
  rw [show (2 : Int64) = lN 2 from rfl, show (5 : Int64) = lN 5 from rfl, show (1 : Int64) = lN 1 from rfl, show (12 : Int64) = lN 12 from rfl, isIn_yes (by omega) hq.1 hq.2, Option.bind_some, if_neg (by decide), isIn_yes (by omega) h1 h2, Option.bind_some, if_neg (by decide)]
  rfl
/-- a word, or not -/
theorem isWord_cases {N q n : Nat} (hN : 20 ≤ N) (hq : isQ q) (hn : n ≤ 12) (w : Int64) : (∃ k, k < q ^ n ∧ w = lN k ∧ f_X1_isWord N (nI q) (nI n) w = some 1) ∨ f_X1_isWord N (nI q) (nI n) w = some 0 := by
  unfold f_X1_isWord
  by_cases h : w < 0
  · rw [if_pos h]
    exact Or.inr rfl
  · rw [if_neg h, X1_power hN hq.lt (by omega), Option.bind_some]
    obtain ⟨k, hk, rfl⟩ := pk_lOf h
    have := qn_small hq hn
    by_cases h2 : k < q ^ n
    · rw [if_neg (by rw [pk_lLE (by omega) hk]; omega)]
      exact Or.inl ⟨k, h2, rfl, rfl⟩
    · rw [if_pos (by rw [pk_lLE (by omega) hk]; omega)]
      exact Or.inr rfl
theorem isWord_yes {N q n k : Nat} (hN : 20 ≤ N) (hq : isQ q) (hn : n ≤ 12) (hk : k < q ^ n) : f_X1_isWord N (nI q) (nI n) (lN k) = some 1 := by
  have := qn_small hq hn
  unfold f_X1_isWord
  rw [if_neg (by rw [← lN_0, pk_lLT (by omega) (by omega)]; omega), X1_power hN hq.lt (by omega), Option.bind_some, if_neg (by rw [pk_lLE (by omega) (by omega)]; omega)]
  rfl
/-! binomials -/
theorem ch_X1 : ∀ n, n < 13 → ∀ k, k < 13 → f_X1_chosen 14 (nI n) (nI k) = f_X3_choose 14 (nI n) (nI k) ∧ (f_X1_chosen 14 (nI n) (nI k)).isSome = true := by decide +kernel
theorem chosen_mono {N : Nat} {a b : Int32} {r : Int64} (h : f_X1_chosen 14 a b = some r) (hN : 20 ≤ N) : f_X1_chosen N a b = some r := by
  unfold f_X1_chosen at h ⊢
  split at h
  · rename_i c; rw [if_pos c]; exact h
  · rename_i c
    rw [if_neg c]
    split at h
    · rename_i c2
      rw [if_pos c2]
      obtain ⟨v, h1, h2⟩ := bd h
      rw [show f_X1_chosen_b16 N a b = f_X1_chosen_b16 14 a b from rfl, lp_mono 14 N _ _ h1 (by omega)]
      exact h2
    · rename_i c2; rw [if_neg c2]; exact h
theorem choose_mono {N : Nat} {a b : Int32} {r : Int64} (h : f_X3_choose 14 a b = some r) (hN : 20 ≤ N) : f_X3_choose N a b = some r := by
  unfold f_X3_choose at h ⊢
  split at h
  · rename_i c; rw [if_pos c]; exact h
  · rename_i c
    rw [if_neg c]
    split at h
    · rename_i c2
      rw [if_pos c2]
      obtain ⟨v, h1, h2⟩ := bd h
      rw [show f_X3_choose_b16 N a b = f_X3_choose_b16 14 a b from rfl, lp_mono 14 N _ _ h1 (by omega)]
      exact h2
    · rename_i c2; rw [if_neg c2]; exact h
/-- n over k, as both sides reckon it -/
def bin (n k : Nat) : Int64 := (f_X1_chosen 14 (nI n) (nI k)).getD 0
theorem X1_chosen {N n k : Nat} (hN : 20 ≤ N) (hn : n ≤ 12) (hk : k ≤ 12) : f_X1_chosen N (nI n) (nI k) = some (bin n k) := by
  have h := (ch_X1 n (by omega) k (by omega)).2
  refine chosen_mono ?_ hN
  unfold bin
  cases h2 : f_X1_chosen 14 (nI n) (nI k) with
  | none => rw [h2] at h; cases h
  | some r => rfl
theorem X3_choose {N n k : Nat} (hN : 20 ≤ N) (hn : n ≤ 12) (hk : k ≤ 12) : f_X3_choose N (nI n) (nI k) = some (bin n k) := by
  refine choose_mono ?_ hN
  rw [← (ch_X1 n (by omega) k (by omega)).1]
  have h := (ch_X1 n (by omega) k (by omega)).2
  unfold bin
  cases h2 : f_X1_chosen 14 (nI n) (nI k) with
  | none => rw [h2] at h; cases h
  | some r => rfl
