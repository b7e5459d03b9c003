/-! ===== PURE 4: the methods without a state: sum, way, product, bound; the numbers of 'law' ===== -/
set_option maxRecDepth 100000
theorem i10 : ¬ (1 : Int32) = 0 := by decide
theorem op_way {N : Nat} (hN : 20 ≤ N) (x : Nat) (st : MS) (a b : Int32) (u v : Int64) : ∃ r, f_X1_way N x a b u v = some r ∧ f_X3_way N st a b u v = some r := by
  unfold f_X1_way f_X3_way f_X1_areWords
  simp only [X3_isField_eq, X3_isWord_eq]
  rcases isField_cases N a b with ⟨q, n, hq, h1, h2, rfl, rfl, hF⟩ | hF
  · simp only [hF, Option.bind_some, i10, if_false]
    rcases isWord_cases hN hq h2 u with ⟨k, hk, rfl, hu⟩ | hu
    · simp only [hu, Option.bind_some, i10, if_false]
      rcases isWord_cases hN hq h2 v with ⟨j, hj, rfl, hv⟩ | hv
      · have hs := qn_small hq h2
        simp only [hv, Option.bind_some, i10, if_false, rz_1, X1_wayOf hN hq h2 (show k < 2 ^ 62 by omega) (show j < 2 ^ 62 by omega), X3_wayOf hN hq h2 (show k < 2 ^ 62 by omega) (show j < 2 ^ 62 by omega)]
        exact ⟨_, rfl, rfl⟩
      · simp only [hv, Option.bind_some, if_true, rz_0]
        exact ⟨_, rfl, rfl⟩
    · simp only [hu, Option.bind_some, if_true, rz_0]
      exact ⟨_, rfl, rfl⟩
  · simp only [hF, Option.bind_some, if_true, rz_0]
    exact ⟨_, rfl, rfl⟩
theorem op_product {N : Nat} (hN : 20 ≤ N) (x : Nat) (st : MS) (a b : Int32) (u v : Int64) : ∃ r, f_X1_product N x a b u v = some r ∧ f_X3_product N st a b u v = some r := by
  unfold f_X1_product f_X3_product f_X1_areWords
  simp only [X3_isField_eq, X3_isWord_eq]
  rcases isField_cases N a b with ⟨q, n, hq, h1, h2, rfl, rfl, hF⟩ | hF
  · simp only [hF, Option.bind_some, i10, if_false]
    rcases isWord_cases hN hq h2 u with ⟨k, hk, rfl, hu⟩ | hu
    · simp only [hu, Option.bind_some, i10, if_false]
      rcases isWord_cases hN hq h2 v with ⟨j, hj, rfl, hv⟩ | hv
      · have hs := qn_small hq h2
        simp only [hv, Option.bind_some, i10, if_false, rz_1, X1_productOf hN hq h2 (show k < 2 ^ 62 by omega) (show j < 2 ^ 62 by omega), X3_productOf hN hq h2 (show k < 2 ^ 62 by omega) (show j < 2 ^ 62 by omega)]
        exact ⟨_, rfl, rfl⟩
      · simp only [hv, Option.bind_some, if_true, rz_0]
        exact ⟨_, rfl, rfl⟩
    · simp only [hu, Option.bind_some, if_true, rz_0]
      exact ⟨_, rfl, rfl⟩
  · simp only [hF, Option.bind_some, if_true, rz_0]
    exact ⟨_, rfl, rfl⟩
theorem op_sum {N : Nat} (hN : 20 ≤ N) (x : Nat) (st : MS) (a b : Int32) (u v : Int64) (c : Int32) : ∃ r, f_X1_sum N x a b u v c = some r ∧ f_X3_sum N st a b u v c = some r := by
  unfold f_X1_sum f_X3_sum f_X1_areWords
  simp only [X3_isField_eq, X3_isWord_eq, X3_isIn_eq]
  rcases isField_cases N a b with ⟨q, n, hq, h1, h2, rfl, rfl, hF⟩ | hF
  · have q5 := hq.2
    have q2 := hq.1
    simp only [hF, Option.bind_some, i10, if_false]
    rw [show (0 : Int64) = lN 0 from rfl, nI_s1 (by omega), ps_l (q - 1) (by omega)]
    have key : (∃ k, k < q ∧ c = nI k ∧ f_X1_isIn N c.toInt64 (lN 0) (lN (q - 1)) = some 1) ∨ f_X1_isIn N c.toInt64 (lN 0) (lN (q - 1)) = some 0 := by
      rcases int_cases c 0 (q - 1) (by omega) with ⟨k, k1, k2, rfl⟩ | h
      · exact Or.inl ⟨k, by omega, rfl, isIn_yes (by omega) k1 k2⟩
      · exact Or.inr (isIn_no (by omega) (by omega) h)
    rcases key with ⟨k0, hk0, rfl, hc⟩ | hc
    · simp only [hc, Option.bind_some, i10, if_false]
      rcases isWord_cases hN hq h2 u with ⟨k, hk, rfl, hu⟩ | hu
      · simp only [hu, Option.bind_some, i10, if_false]
        rcases isWord_cases hN hq h2 v with ⟨j, hj, rfl, hv⟩ | hv
        · have hs := qn_small hq h2
          simp only [hv, Option.bind_some, i10, if_false, rz_1, X1_sumOf hN hq h2 (show k < 2 ^ 62 by omega) (show j < 2 ^ 62 by omega) hk0, X3_sumOf hN hq h2 (show k < 2 ^ 62 by omega) (show j < 2 ^ 62 by omega) hk0]
          exact ⟨_, rfl, rfl⟩
        · simp only [hv, Option.bind_some, if_true, rz_0]
          exact ⟨_, rfl, rfl⟩
      · simp only [hu, Option.bind_some, if_true, rz_0]
        exact ⟨_, rfl, rfl⟩
    · simp only [hc, Option.bind_some, if_true]
      rcases isWord_cases hN hq h2 u with ⟨k, hk, rfl, hu⟩ | hu
      · simp only [hu, Option.bind_some, i10, if_false]
        rcases isWord_cases hN hq h2 v with ⟨j, hj, rfl, hv⟩ | hv
        · simp only [hv, Option.bind_some, i10, if_false, rz_1]
          exact ⟨_, rfl, rfl⟩
        · simp only [hv, Option.bind_some, if_true, rz_0]
          exact ⟨_, rfl, rfl⟩
      · simp only [hu, Option.bind_some, if_true, rz_0]
        exact ⟨_, rfl, rfl⟩
  · simp only [hF, Option.bind_some, if_true, rz_0]
    exact ⟨_, rfl, rfl⟩
/-- what a ball holds -/
def ballv (q n : Nat) : Nat → Int64
  | 0 => 0
  | k + 1 => ballv q n k + bin n k * lN ((q - 1) ^ k)
theorem ballv_ne0 : ∀ q, q < 6 → 2 ≤ q → ∀ n, n < 13 → ∀ d, d < 6 → ¬ ballv q n (d + 1) = 0 := by decide +kernel
theorem X1_ball {q n d N : Nat} (hN : 20 ≤ N) (hq : isQ q) (hn : n ≤ 12) (hd : d < 6) : f_X1_ball N (nI q) (nI n) (nI d) = some (ballv q n (d + 1)) := by
  have q5 := hq.2
  have q2 := hq.1
  unfold f_X1_ball
  rw [lp_0 (S := fun k => (ballv q n k, nI k)) (R := ballv q n (d + 1)) (d + 1) ?_ (by omega) ?_ ?_]
  · rfl
  · rfl
  · intro k hk
    unfold f_X1_ball_b5
    dsimp only
    rw [if_neg (nI_nlt (by omega) (by omega)), X1_chosen hN hn (by omega), Option.bind_some, nI_s1 (by omega), X1_power hN (by omega) (by omega), Option.bind_some, nI_1]
    rfl
  · unfold f_X1_ball_b5
    dsimp only
    rw [if_pos (nI_lt (by omega) (by omega))]
theorem op_bound {N : Nat} (hN : 20 ≤ N) (x : Nat) (st : MS) (a b c d : Int32) : ∃ r, f_X1_bound N x a b c d = some r ∧ f_X3_bound N st a b c d = some r := by
  unfold f_X1_bound f_X3_bound
  simp only [X3_isField_eq, X3_isIn_eq]
  rcases isField_cases N a b with ⟨q, n, hq, h1, h2, rfl, rfl, hF⟩ | hF
  · have q5 := hq.2
    have q2 := hq.1
    simp only [hF, Option.bind_some, i10, if_false]
    rw [show (1 : Int64) = lN 1 from rfl, show (0 : Int64) = lN 0 from rfl, ps_l n (by omega)]
    rcases int_cases c 1 n (by omega) with ⟨k, k1, k2, rfl⟩ | h
    · simp only [isIn_yes (N := N) (show n < 2 ^ 31 by omega) k1 k2, Option.bind_some, i10, if_false]
      rcases int_cases d 0 1 (by omega) with ⟨j, j1, j2, rfl⟩ | h
      · simp only [isIn_yes (N := N) (show 1 < 2 ^ 31 by omega) j1 j2, Option.bind_some, i10, if_false]
        rcases (show j = 0 ∨ j = 1 by omega) with rfl | rfl
        · rw [if_pos (show nI 0 = 0 from rfl), if_neg (by decide)]
          have hs := qn_small hq h2
          have hdd : (k - 1) / 2 < 6 := by omega
          have e1 : nI k - 1 = nI (k - 1) := nI_s1 (by omega)
          have e2 : idiv (nI (k - 1)) 2 = some (nI ((k - 1) / 2)) := idiv_N (b := 2) (by omega) (by omega) (by omega)
          have hb : lp (f_X3_bound_b56 N (nI q) (nI n) (nI k) st) N (lN 0, 0) = some (ballv q n ((k - 1) / 2 + 1)) := by
            refine lp_0 (S := fun k => (ballv q n k, nI k)) ((k - 1) / 2 + 1) rfl (by omega) ?_ ?_
            · intro i hi
              unfold f_X3_bound_b56
              dsimp only
              rw [e1, e2, Option.bind_some, if_neg (nI_nlt (by omega) (by omega)), X3_choose hN h2 (by omega), Option.bind_some, nI_s1 (by omega), X3_power hN (by omega) (by omega), Option.bind_some, nI_1]
              rfl
            · unfold f_X3_bound_b56
              dsimp only
              rw [e1, e2, Option.bind_some, if_pos (nI_lt (by omega) (by omega))]
          have hz := ballv_ne0 q hq.lt hq.1 n (by omega) _ hdd
          have hl : ∀ w, ldiv w (ballv q n ((k - 1) / 2 + 1)) = some (w / ballv q n ((k - 1) / 2 + 1)) := fun w => by
            unfold ldiv
            rw [if_neg hz]
          simp only [X1_power hN hq.lt (show n < 13 by omega), X3_power hN hq.lt (show n < 13 by omega), Option.bind_some, e1, e2, X1_ball hN hq h2 hdd, hb, hl]
          exact ⟨_, rfl, rfl⟩
        · rw [if_neg (by decide), if_pos (show nI 1 = 1 from rfl)]
          simp only [nI_sub k2, nI_1, X1_power hN hq.lt (show n - k + 1 < 13 by omega), X3_power hN hq.lt (show n - k + 1 < 13 by omega), Option.bind_some]
          exact ⟨_, rfl, rfl⟩
      · simp only [isIn_no (N := N) (show 0 < 2 ^ 31 by omega) (show 1 < 2 ^ 31 by omega) h, Option.bind_some, if_true]
        exact ⟨_, rfl, rfl⟩
    · simp only [isIn_no (N := N) (show 1 < 2 ^ 31 by omega) (show n < 2 ^ 31 by omega) h, Option.bind_some, if_true]
      exact ⟨_, rfl, rfl⟩
  · simp only [hF, Option.bind_some, if_true]
    exact ⟨_, rfl, rfl⟩
/-- the numbers of 'law' -/
def krt (q n w i : Nat) : Nat → Int64
  | 0 => 0
  | j + 1 => krt q n w i j + (if j % 2 = 0 then lN ((q - 1) ^ (w - j)) * bin i j * bin (n - i) (w - j) else -(lN ((q - 1) ^ (w - j)) * bin i j * bin (n - i) (w - j)))
theorem X1_turned {q n w i N : Nat} (hN : 20 ≤ N) (hq : isQ q) (hn : n ≤ 12) (hw : w ≤ n) (hi : i ≤ n) : f_X1_turned N (nI q) (nI n) (nI w) (nI i) = some (krt q n w i (w + 1)) := by
  have q5 := hq.2
  have q2 := hq.1
  unfold f_X1_turned
  rw [lp_0 (S := fun k => (krt q n w i k, nI k)) (R := krt q n w i (w + 1)) (w + 1) ?_ (by omega) ?_ ?_]
  · rfl
  · rfl
  · intro k hk
    unfold f_X1_turned_b6 f_X1_turned_j59
    dsimp only
    rw [if_neg (nI_nlt (by omega) (by omega)), nI_s1 (by omega), nI_sub (show k ≤ w by omega), nI_sub hi, X1_power hN (by omega) (by omega), Option.bind_some, X1_chosen hN (by omega) (by omega), Option.bind_some, X1_chosen hN (by omega) (by omega), Option.bind_some, show irem (nI k) 2 = some (nI (k % 2)) from irem_N (b := 2) (by omega) (by omega) (by omega), Option.bind_some, nI_1, krt]
    rcases (show k % 2 = 0 ∨ k % 2 = 1 by omega) with h | h
    · rw [h, if_pos rfl, if_pos (show nI 0 = 0 from rfl)]
    · rw [h, if_neg (by decide), if_neg (by decide)]
  · unfold f_X1_turned_b6
    dsimp only
    rw [if_pos (nI_lt (by omega) (by omega))]
theorem X3_turnsOf {q n w i N : Nat} (hN : 20 ≤ N) (hq : isQ q) (hn : n ≤ 12) (hw : w ≤ n) (hi : i ≤ n) : f_X3_turnsOf N (nI q) (nI n) (nI w) (nI i) = some (krt q n w i (w + 1)) := by
  have q5 := hq.2
  have q2 := hq.1
  unfold f_X3_turnsOf
  rw [lp_0 (S := fun k => (krt q n w i k, nI k)) (R := krt q n w i (w + 1)) (w + 1) ?_ (by omega) ?_ ?_]
  · rfl
  · rfl
  · intro k hk
    unfold f_X3_turnsOf_b6 f_X3_turnsOf_j28
    dsimp only
    rw [if_neg (nI_nlt (by omega) (by omega)), nI_s1 (by omega), nI_sub (show k ≤ w by omega), nI_sub hi, X3_power hN (by omega) (by omega), Option.bind_some, X3_choose hN (by omega) (by omega), Option.bind_some, X3_choose hN (by omega) (by omega), Option.bind_some, show irem (nI k) 2 = some (nI (k % 2)) from irem_N (b := 2) (by omega) (by omega) (by omega), Option.bind_some, nI_1, krt]
    rcases (show k % 2 = 0 ∨ k % 2 = 1 by omega) with h | h
    · rw [h, if_pos rfl, if_pos (show nI 0 = 0 from rfl)]
      congr 4
      grind
    · rw [h, if_neg (by decide), if_neg (by decide), Option.bind_some, Option.bind_some, Option.bind_some]
      congr 4
      grind
  · unfold f_X3_turnsOf_b6
    dsimp only
    rw [if_pos (nI_lt (by omega) (by omega))]
