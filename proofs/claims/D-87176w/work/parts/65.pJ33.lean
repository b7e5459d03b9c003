/-! ===== PURE J33: join ===== -/
set_option maxRecDepth 100000
theorem join_138 {N x M p o t kd kdb q n nb ma mb n2 hw c cb : Nat} {own : Nat → Nat} {σ : SG} {st : MS} {w wb : Nat → Nat} (hN : 5000 ≤ N) (j : J x M own σ st) (hp : p < 12) (ho : o < 12) (ht : t < 12) (hok : okc kd q n ma w) (hokb : okc kdb q nb mb wb) (hP : mPl st p kd q n ma w) (hPb : mPl st o kdb q nb mb wb) (hX : xPl σ own (1 + p) kd q n ma w c) (hXb : xPl σ own (1 + o) kdb q nb mb wb cb) (hn2 : n2 ≤ 24) (hhw : hw ≤ 2) (hok2 : ma + mb ≤ 12 → n2 ≤ 12 → okc 1 q n2 (ma + mb) (jnw ma (if hw = 0 then 1 else q ^ nb) (decide (hw = 2)) w wb)) : Ok x M σ (f_X1_join_j138 N x (nI hw) (nI t) (some c) (some cb) (nI n2) σ) (f_X3_join_j134 N (nI p) (nI o) (nI hw) (nI t) (nI q) (nI n2) st) := by
  have hq := hok.1
  have m1 := hok.m200
  have m2 := hokb.m200
  obtain ⟨A, x1, x2, x3, x4, C⟩ := id hX
  obtain ⟨Ab, y1, y2, y3, y4, Cb⟩ := id hXb
  unfold f_X1_join_j138 f_X3_join_j134
  simp only [Option.bind_some, gI_of (k := 3) C.1 (cls_in kd) rfl, gI_of (k := 3) Cb.1 (cls_in kdb) rfl, ald_N hp (show 12 < 2 ^ 31 by omega), ald_N ho (show 12 < 2 ^ 31 by omega), hP.2.2.2.1, hPb.2.2.2.1, hPb.2.2.1, nI_add]
  by_cases e : ma + mb ≤ 12
  · have e1 : ¬ (12 : Int32) < nI (ma + mb) := nI_nlt (a := 12) e (by omega)
    rw [if_neg e1, if_neg e1]
    by_cases e2 : n2 ≤ 12
    · have e3 : nI n2 ≤ (12 : Int32) := nI_le (b := 12) e2 (by omega)
      obtain ⟨τ1, a1, a2, a3⟩ := X4_init (N := N) (kd := 1) (q := q) (n := n2) (σ := σ) (jnw ma (if hw = 0 then 1 else q ^ nb) (decide (hw = 2)) w wb)
      have hin : f_X6_init N (nO 4 [.int 0, .int 0, .null, .int 0] σ) σ.1 (nI q) (nI n2) = some τ1 := by
        unfold f_X6_init
        rw [show f_X4_init N (nO 4 [.int 0, .int 0, .null, .int 0] σ) σ.1 (nI q) (nI n2) 12 = some τ1 from a1]
        rfl
      have hc : (nO 4 [.int 0, .int 0, .null, .int 0] σ).2 c = some (eO (cls kd) [.int (nI q), .int (nI n), .ref A, .int (nI ma)]) := by
        show va_up σ.2 σ.1 _ c = _
        rw [up_n (by omega)]
        exact C.1
      have D1 : τ1.2 c = some (eO (cls kd) [.int (nI q), .int (nI n), .ref A, .int (nI ma)]) := by rw [a2.2.1 c x1]; exact C.1
      have D2 : τ1.2 cb = some (eO (cls kdb) [.int (nI q), .int (nI nb), .ref Ab, .int (nI mb)]) := by rw [a2.2.1 cb y1]; exact Cb.1
      have hnb := hokb.2.2.1
      simp only [if_pos e3, gI_of (k := 0) hc (cls_in kd) rfl, Option.bind_some, hin, gI_of (k := 0) D1 (cls_in kd) rfl, gI_of (k := 1) D2 (cls_in kdb) rfl, X1_power (show 20 ≤ N by omega) hq.lt (show nb < 13 by omega), X3_power (show 20 ≤ N by omega) hq.lt (show nb < 13 by omega)]
      obtain ⟨τ', st', r, own', b1, b2, b3, b4⟩ := join_do hN j hp ho ht hok hokb hP hPb hX hXb e (hok2 e e2) hhw a2 (g := 0)
      by_cases e0 : hw = 0
      · rw [if_pos e0] at b1 b2
        rw [if_pos (show nI hw = 0 by rw [e0]; rfl), if_pos (show nI hw = 0 by rw [e0]; rfl), show (1 : Int64) = lN 1 from rfl, b1, b2]
        exact ⟨τ', st', r, own', rfl, rfl, b3, b4⟩
      · rw [if_neg e0] at b1 b2
        rw [if_neg (nI_ne0 (by omega) (by omega)), if_neg (nI_ne0 (by omega) (by omega)), b1, b2]
        exact ⟨τ', st', r, own', rfl, rfl, b3, b4⟩
    · have e3 : ¬ nI n2 ≤ (12 : Int32) := nI_ge (a := 12) (by omega) (by omega)
      rw [if_neg e3, if_neg e3]
      exact Ok.nil j rfl rfl
  · have e1 : (12 : Int32) < nI (ma + mb) := nI_lt (a := 12) (by omega) (by omega)
    rw [if_pos e1, if_pos e1]
    exact Ok.nil j rfl rfl
theorem jnw_ok {kd kdb q n nb ma mb n2 S hw : Nat} {w wb : Nat → Nat} (hok : okc kd q n ma w) (hokb : okc kdb q nb mb wb) (hm : ma + mb ≤ 12) (h2 : n2 ≤ 12) (h1 : 1 ≤ n2) (ha : ∀ k, k < ma → w k * S + (if hw = 2 then w k else 0) < q ^ n2) (hb : q ^ nb ≤ q ^ n2) : okc 1 q n2 (ma + mb) (jnw ma S (decide (hw = 2)) w wb) := by
  refine ⟨hok.1, h1, h2, by omega, hm, fun k hk => ?_, fun e => by omega⟩
  unfold jnw
  split
  · rename_i e
    have := ha k e
    simpa using this
  · have := hokb.2.2.2.2.2.1 (k - ma) (by omega)
    omega
theorem op_join {N x M : Nat} {own : Nat → Nat} {σ : SG} {st : MS} (hN : 5000 ≤ N) (j : J x M own σ st) (a b c d : Int32) : Ok x M σ (f_X1_join N σ x a b c d) (f_X3_join N st a b c d) := by
  unfold f_X1_join f_X3_join
  simp only [X3_isPlace_eq, X3_isIn_eq, j.cc, Option.bind_some]
  rcases pl_cases j N a with h | ⟨p, hp, rfl, h, hcase⟩
  · rw [h]
    exact Ok.nil j rfl rfl
  · rw [h, Option.bind_some, if_neg i10, Option.bind_some, if_neg i10]
    rcases pl_cases j N b with hb | ⟨o, ho, rfl, hb, hcaseb⟩
    · rw [hb]
      exact Ok.nil j rfl rfl
    · rw [hb, Option.bind_some, if_neg i10, Option.bind_some, if_neg i10, show (0 : Int64) = lN 0 from rfl, show (2 : Int64) = lN 2 from rfl]
      rcases int_cases c 0 2 (by omega) with ⟨hw, w1, w2, rfl⟩ | hc
      · rw [isIn_yes (by omega) w1 w2, Option.bind_some, if_neg i10, Option.bind_some, if_neg i10]
        rcases pl_cases j N d with hd | ⟨t, ht, rfl, hd, -⟩
        · rw [hd]
          exact Ok.nil j rfl rfl
        · rw [hd, Option.bind_some, if_neg i10, Option.bind_some, if_neg i10]
          rcases hcase with ⟨h2, -, h3⟩ | ⟨kd, q, n, ma, w, ca, h2, h3, hok, hP, hX⟩
          · rw [asks_none j h h2, lacksL_none h3]
            exact Ok.nil j rfl rfl
          · obtain ⟨A, x1, x2, x3, x4, C⟩ := id hX
            rw [asks_1 j h h2 C.1 hok.2.2.2.1, lacksL_some hp hok.2.2.2.1 h3 hP]
            by_cases e : kd = 0
            · rw [if_pos e]
              exact Ok.nil j rfl rfl
            · rw [if_neg e, Option.bind_some, if_pos rfl, Option.bind_some, if_pos rfl]
              rcases hcaseb with ⟨g2, -, g3⟩ | ⟨kdb, qb, nb, mb, wb, cb, g2, g3, hokb, hPb, hXb⟩
              · rw [asks_none j hb g2, lacksL_none g3]
                exact Ok.nil j rfl rfl
              · obtain ⟨Ab, y1, y2, y3, y4, Cb⟩ := id hXb
                rw [asks_1 j hb g2 Cb.1 hokb.2.2.2.1, lacksL_some ho hokb.2.2.2.1 g3 hPb]
                by_cases eb : kdb = 0
                · rw [if_pos eb]
                  exact Ok.nil j rfl rfl
                · rw [if_neg eb, Option.bind_some, Option.bind_some, if_pos rfl]
                  unfold f_X1_join_j57 f_X3_join_j98
                  have hq := hok.1
                  have hqb := hokb.1
                  have q5 := hq.2
                  have q5b := hqb.2
                  have q2 := hq.1
                  have hn := hok.2.2.1
                  have hnb := hokb.2.2.1
                  have hn1 := hok.2.1
                  have hw0 := hok.2.2.2.2.2.1
                  simp only [if_true, j.codes, Option.bind_some, h2, g2, gI_of (k := 0) C.1 (cls_in kd) rfl, gI_of (k := 0) Cb.1 (cls_in kdb) rfl, gI_of (k := 1) C.1 (cls_in kd) rfl, gI_of (k := 1) Cb.1 (cls_in kdb) rfl, ald_N hp (show 12 < 2 ^ 31 by omega), ald_N ho (show 12 < 2 ^ 31 by omega), hP.2.1, hP.2.2.1, hPb.2.1, hPb.2.2.1]
                  by_cases eq : q = qb
                  · subst eq
                    unfold f_X1_join_j115
                    have hle : q ^ nb ≤ q ^ (n + nb) := Nat.pow_le_pow_right (by omega) (by omega)
                    simp only [if_true, Option.bind_some, gI_of (k := 1) C.1 (cls_in kd) rfl, gI_of (k := 1) Cb.1 (cls_in kdb) rfl, nI_add]
                    rcases (show hw = 0 ∨ hw = 1 ∨ hw = 2 by omega) with rfl | rfl | rfl
                    · simp only [show (nI 0 = (0 : Int32)) = True from eq_true rfl, show (nI 0 = (1 : Int32)) = False from eq_false (by decide), if_true, if_false]
                      by_cases en : n = nb
                      · subst en
                        simp only [if_true]
                        exact join_138 hN j hp ho ht hok hokb hP hPb hX hXb (by omega) (by omega) (fun e1 e2 => jnw_ok hok hokb e1 e2 hn1 (fun k hk => by simpa using hw0 k hk) (Nat.le_refl _))
                      · rw [if_neg (by rw [nI_eq (by omega) (by omega)]; exact en), if_neg (by rw [nI_eq (by omega) (by omega)]; exact en)]
                        exact Ok.nil j rfl rfl
                    · simp only [show (nI 1 = (0 : Int32)) = False from eq_false (by decide), show (nI 1 = (1 : Int32)) = True from eq_true rfl, if_true, if_false]
                      exact join_138 hN j hp ho ht hok hokb hP hPb hX hXb (by omega) (by omega) (fun e1 e2 => jnw_ok hok hokb e1 e2 (by omega) (fun k hk => by
                        have h9 := hw0 k hk
                        have h8 : w k * q ^ nb < q ^ n * q ^ nb := Nat.mul_lt_mul_of_pos_right h9 (pow_pos hq)
                        rw [Nat.pow_add]
                        simpa using h8) hle)
                    · simp only [show (nI 2 = (0 : Int32)) = False from eq_false (by decide), show (nI 2 = (1 : Int32)) = False from eq_false (by decide), if_false]
                      by_cases en : n = nb
                      · subst en
                        simp only [if_true]
                        exact join_138 hN j hp ho ht hok hokb hP hPb hX hXb (by omega) (by omega) (fun e1 e2 => jnw_ok hok hokb e1 e2 (by omega) (fun k hk => by
                          have h9 := hw0 k hk
                          have h8 : (w k + 1) * q ^ n ≤ q ^ n * q ^ n := Nat.mul_le_mul_right _ h9
                          rw [Nat.succ_mul] at h8
                          rw [Nat.pow_add, if_pos rfl, if_neg (by omega)]
                          omega) hle)
                      · rw [if_neg (by rw [nI_eq (by omega) (by omega)]; exact en), if_neg (by rw [nI_eq (by omega) (by omega)]; exact en)]
                        exact Ok.nil j rfl rfl
                  · have e9 : ¬ nI q = nI qb := by rw [nI_eq (by omega) (by omega)]; exact eq
                    rw [if_neg e9]
                    by_cases e8 : nI hw = 0
                    · rw [if_pos e8, if_neg (fun hh => e9 hh.symm)]
                      exact Ok.nil j rfl rfl
                    · rw [if_neg e8, if_neg (fun hh => e9 hh.symm)]
                      exact Ok.nil j rfl rfl
      · rw [isIn_no (by omega) (by omega) hc]
        exact Ok.nil j rfl rfl
