/-! ===== PURE J32: list, join ===== -/
set_option maxRecDepth 100000
theorem lacksL_none {N p : Nat} {st : MS} (h3 : f_X3_isEmpty N st (nI p) = some 1) : f_X3_lacksLine N st (nI p) = some (-11) := by
  unfold f_X3_lacksLine
  rw [h3]
  rfl
theorem lacksL_some {N p kd q n m : Nat} {st : MS} {w : Nat → Nat} (hp : p < 12) (hk : kd ≤ 3) (h3 : f_X3_isEmpty N st (nI p) = some 0) (hP : mPl st p kd q n m w) : f_X3_lacksLine N st (nI p) = some (if kd = 0 then -12 else 0) := by
  unfold f_X3_lacksLine
  rw [h3, Option.bind_some, if_pos rfl, ald_N hp (by omega), Option.bind_some, hP.1]
  by_cases e : kd = 0
  · rw [if_pos e, if_pos (by rw [e]; rfl)]
  · rw [if_neg e, if_neg (nI_ne0 (by omega) (by omega))]
theorem okc_list {kd q n m : Nat} {w : Nat → Nat} (hok : okc kd q n m w) (hL : szv kd q n m w ≤ 200) : okc 0 q n (szv kd q n m w) (lw kd q n m w) :=
  ⟨hok.1, hok.2.1, hok.2.2.1, by omega, hL, fun k hk => lw_lt hok hk, fun _ a b hab hb e => by
    have := lw_inj hok (by omega) hb e
    omega⟩
theorem X1_listed {N x M p kd q n m c : Nat} {t : Int32} {own : Nat → Nat} {τ τ1 : SG} {st : MS} {w : Nat → Nat} (hN : 5000 ≤ N) (h : Ld x M own τ st p kd q n m w c) (hL : szv kd q n m w ≤ 200) (h1 : NC τ τ1 τ.1 0 q n 0 (lw kd q n m w)) : ∃ τ', lp (f_X1_list_b82 N x t τ.1) N (0, τ1) = some τ' ∧ NC τ τ' τ.1 0 q n (szv kd q n m w) (lw kd q n m w) := by
  obtain ⟨⟨fh, hx⟩, g, hw, hg⟩ := h.2.1
  have hj := h.1.1
  refine lp_inv0 (P := fun k (s : Int32 × SG) => s.1 = nI k ∧ NC τ s.2 τ.1 0 q n k (lw kd q n m w)) (Q := fun (s : SG) => NC τ s τ.1 0 q n (szv kd q n m w) (lw kd q n m w)) (szv kd q n m w) (by omega) ⟨rfl, h1⟩ ?_ ?_
  · rintro k ⟨y, s⟩ hk ⟨e1, e2⟩
    dsimp only at e1 e2
    subst e1
    have D1 : s.2 x = some (eO 0 [.ref (x + 1), .ref (x + 2), .int (nI (szv kd q n m w)), .ref (x + 3), .long fh, .ref (x + 4)]) := by rw [e2.2.1 x (by omega)]; exact hx
    have D2 : s.2 (x + 2) = some (eL 4096 g) := by rw [e2.2.1 _ (by omega)]; exact hw
    obtain ⟨s2, a1, a2, -, -⟩ := e2.add (N := N) (v := lw kd q n m w k) (by show k < 200; omega)
    unfold f_X1_list_b82
    dsimp only
    rw [gI_of (k := 2) D1 (by decide) rfl, Option.bind_some, if_neg (nI_ge hk (by omega)), gR_of (k := 1) D1 (by decide) rfl, Option.bind_some, aL_of D2 (show k < 4096 by omega) (by omega), Option.bind_some, hg k hk, a1, Option.bind_some, nI_1]
    refine ⟨_, rfl, rfl, a2.congr (fun i hi => ?_)⟩
    unfold wset
    split
    · rename_i e; rw [e]
    · rfl
  · rintro ⟨y, s⟩ ⟨e1, e2⟩
    dsimp only at e1 e2
    subst e1
    have D1 : s.2 x = some (eO 0 [.ref (x + 1), .ref (x + 2), .int (nI (szv kd q n m w)), .ref (x + 3), .long fh, .ref (x + 4)]) := by rw [e2.2.1 x (by omega)]; exact hx
    unfold f_X1_list_b82
    dsimp only
    rw [gI_of (k := 2) D1 (by decide) rfl, Option.bind_some, if_pos (nI_le (Nat.le_refl _) (by omega))]
    exact ⟨_, rfl, e2⟩
theorem X3_listed {N x M p kd q n m c : Nat} {t : Int32} {own : Nat → Nat} {τ : SG} {st : MS} {w : Nat → Nat} (hN : 5000 ≤ N) (h : Ld x M own τ st p kd q n m w c) (hL : szv kd q n m w ≤ 200) : ∃ st1, lp (f_X3_list_b61 N (nI p) t) N (0, sV st 18 0) = some st1 ∧ Kp [] [17] [18] st st1 ∧ st1.2.2.1 18 = nI (szv kd q n m w) ∧ ∀ i, i < szv kd q n m w → st1.2.1 17 i = lN (lw kd q n m w i) := by
  refine lp_inv0 (P := fun k (s : Int32 × MS) => s.1 = nI k ∧ Kp [] [17] [18] st s.2 ∧ s.2.2.2.1 18 = nI k ∧ ∀ i, i < k → s.2.2.1 17 i = lN (lw kd q n m w i)) (Q := fun (s : MS) => Kp [] [17] [18] st s ∧ s.2.2.1 18 = nI (szv kd q n m w) ∧ ∀ i, i < szv kd q n m w → s.2.1 17 i = lN (lw kd q n m w i)) (szv kd q n m w) (by omega) ⟨rfl, (Kp.refl _ _ _ _).sV (by decide) _, sV_s _ _ _, fun a ha => by omega⟩ ?_ ?_
  · rintro k ⟨y, s⟩ hk ⟨e1, e2, e3, e4⟩
    dsimp only at e1 e2 e3 e4
    subst e1
    obtain ⟨N', rfl⟩ : ∃ N', N = N' + 1 := ⟨N - 1, by omega⟩
    unfold f_X3_list_b61
    dsimp only
    rw [e2.2.2.1 11 (by decide), h.2.2.1.1, if_neg (nI_ge hk (by omega)), ald_N (show k < 4096 by omega) (by omega), Option.bind_some, e2.2.1 10 (by decide), h.2.2.1.2.1 k hk, X3_aside (N := N') (by omega) e3, Option.bind_some, nI_1]
    refine ⟨_, rfl, rfl, (e2.sL (by decide) _).sV (by decide) _, sV_s _ _ _, fun a ha => ?_⟩
    show (sL s 17 (vp_updL (s.2.1 17) k (lN (lw kd q n m w k)))).2.1 17 a = _
    rw [sL_s]
    by_cases e : a = k
    · rw [e, pk_uLs]
    · rw [pk_uLn e]; exact e4 a (by omega)
  · rintro ⟨y, s⟩ ⟨e1, e2, e3, e4⟩
    dsimp only at e1 e2 e3 e4
    subst e1
    unfold f_X3_list_b61
    dsimp only
    rw [e2.2.2.1 11 (by decide), h.2.2.1.1, if_pos (nI_le (Nat.le_refl _) (by omega))]
    exact ⟨_, rfl, e2, e3, e4⟩
theorem op_list {N x M : Nat} {own : Nat → Nat} {σ : SG} {st : MS} (hN : 5000 ≤ N) (j : J x M own σ st) (a b : Int32) : Ok x M σ (f_X1_list N σ x a b) (f_X3_list N st a b) := by
  unfold f_X1_list f_X3_list
  simp only [X3_isPlace_eq]
  rcases pl_cases j N a with h | ⟨p, hp, rfl, h, hcase⟩
  · rw [h]
    exact Ok.nil j rfl rfl
  · rw [h, Option.bind_some, if_neg i10, Option.bind_some, if_neg i10]
    rcases pl_cases j N b with hb | ⟨t, ht, rfl, hb, -⟩
    · rw [hb]
      exact Ok.nil j rfl rfl
    · rw [hb, Option.bind_some, if_neg i10, Option.bind_some, if_neg i10, j.cc, Option.bind_some]
      rcases hcase with ⟨h2, -, h3⟩ | ⟨kd, q, n, m, w, c, h2, h3, hok, hP, hX⟩
      · rw [asks_none j h h2, lacksL_none h3]
        exact Ok.nil j rfl rfl
      · obtain ⟨A, x1, x2, x3, x4, C⟩ := id hX
        rw [asks_1 j h h2 C.1 hok.2.2.2.1, lacksL_some hp hok.2.2.2.1 h3 hP]
        by_cases e : kd = 0
        · rw [if_pos e]
          exact Ok.nil j rfl rfl
        · rw [if_neg e, Option.bind_some, if_pos rfl, Option.bind_some, Option.bind_some, if_pos rfl]
          rcases lays2 hN j hp h h2 hok hP hX with ⟨-, τ, st', t1, t2, t3, t4, t5⟩ | ⟨τ, st', t1, t2, t3, t4, hl⟩
          · rw [t1, t3]
            exact ⟨τ, st', _, own, rfl, rfl, t5, t4⟩
          · have hL := hl.2.2.2.2.2.2.2.1
            rw [t1, t3, Option.bind_some, Option.bind_some]
            dsimp only
            unfold f_X1_list_j33
            rw [if_neg i10, hl.2.2.1.1, if_pos rfl, hl.wc, Option.bind_some]
            by_cases e2 : szv kd q n m w ≤ 200
            · obtain ⟨τ1, a1, a2, a3⟩ := X4_init (N := N) (kd := 0) (q := q) (n := n) (σ := τ) (lw kd q n m w)
              obtain ⟨τ2, b1, b2⟩ := X1_listed (t := nI t) hN hl e2 a2
              obtain ⟨st1, c1, c2, c3, c4⟩ := X3_listed (t := nI t) hN hl e2
              have hk := c2.mk (by decide) (by decide)
              have hP1 := hl.2.2.2.2.2.1.kp hk
              obtain ⟨d0, τ3, st2, own', d1, d2, d3, d4⟩ := made_ends hN hl.1 ht (okc_list hok e2) b2 hk c3 c4
              have d2' : f_X3_comes N st1 (nI t) 0 (nI q) (nI n) = some (st2, nI (szv kd q n m w)) := d2
              obtain ⟨n1, n2⟩ := hl.1.nObj 3 [.int 0, .int 0, .null, .int 0]
              obtain ⟨A', z1, z2, z3, z4, C'⟩ := hl.2.2.2.2.1
              have hc : (nO 3 [.int 0, .int 0, .null, .int 0] τ).2 c = some (eO (cls kd) [.int (nI q), .int (nI n), .ref A', .int (nI m)]) := by
                show va_up τ.2 τ.1 _ c = _
                rw [up_n (by omega)]
                exact C'.1
              have hin : f_X5_init N (nO 3 [.int 0, .int 0, .null, .int 0] τ) τ.1 (nI q) (nI n) = some τ1 := by
                unfold f_X5_init
                rw [show f_X4_init N (nO 3 [.int 0, .int 0, .null, .int 0] τ) τ.1 (nI q) (nI n) 200 = some τ1 from a1]
                rfl
              have h200 : nI (szv kd q n m w) ≤ 200 := nI_le (b := 200) e2 (by omega)
              simp only [if_pos h200, c1, ald_N hp (show 12 < 2 ^ 31 by omega), hP1.2.1, hP1.2.2.1, d2', Option.bind_some, n1, n2, hl.2.2.2.1, gI_of (k := 0) hc (cls_in kd) rfl, gI_of (k := 1) hc (cls_in kd) rfl, hin, b1, d0, d1]
              exact ⟨τ3, st2, _, own', rfl, rfl, d3, t4.trans d4⟩
            · rw [if_neg (show ¬ nI (szv kd q n m w) ≤ 200 from nI_ge (b := szv kd q n m w) (a := 200) (by omega) (by omega)), if_neg (show ¬ nI (szv kd q n m w) ≤ 200 from nI_ge (b := szv kd q n m w) (a := 200) (by omega) (by omega))]
              exact ⟨τ, st', _, own, rfl, rfl, hl.1, t4⟩
/-! join -/
def jnw (ma S : Nat) (two : Bool) (w wb : Nat → Nat) (k : Nat) : Nat := if k < ma then w k * S + (if two = true then w k else 0) else wb (k - ma)
theorem NC.add6 {N f q n m v : Nat} {σ τ : SG} {w : Nat → Nat} (h : NC σ τ f 1 q n m w) (hm : m < 12) : ∃ τ', dv_X6_add N τ f (lN v) = some τ' ∧ NC σ τ' f 1 q n (m + 1) (wset w m v) := by
  obtain ⟨τ', a1, a2, -, -⟩ := h.add (N := N) (v := v) hm
  refine ⟨τ', ?_, a2⟩
  rw [← a1]
  unfold dv_X6_add dv_X4_add
  rw [h.2.2.1]
  rfl
theorem join_do {N x M p o t kd kdb q n nb ma mb n2 S hw c cb : Nat} {own : Nat → Nat} {σ τ : SG} {st : MS} {w wb : Nat → Nat} {g : Int32} (hN : 5000 ≤ N) (j : J x M own σ st) (hp : p < 12) (ho : o < 12) (ht : t < 12) (hok : okc kd q n ma w) (hokb : okc kdb q nb mb wb) (hP : mPl st p kd q n ma w) (hPb : mPl st o kdb q nb mb wb) (hX : xPl σ own (1 + p) kd q n ma w c) (hXb : xPl σ own (1 + o) kdb q nb mb wb cb) (hm : ma + mb ≤ 12) (hok2 : okc 1 q n2 (ma + mb) (jnw ma S (decide (hw = 2)) w wb)) (hhw : hw ≤ 2) (h0 : NC σ τ σ.1 1 q n2 0 (jnw ma S (decide (hw = 2)) w wb)) : ∃ τ' st' r own', f_X1_join_j203 N x (nI hw) (nI t) (some c) (some cb) σ.1 (lN S) τ = some (τ', r) ∧ f_X3_join_j181 N (nI p) (nI o) (nI hw) (nI t) (nI q) (nI n2) (lN S) st = some (st', r) ∧ J x M own' τ' st' ∧ KM M σ τ' := by
  have hq := hok.1
  have hcl := cap_le kd
  have hclb := cap_le kdb
  have hcap := hok.2.2.2.2.1
  have hcapb := hokb.2.2.2.2.1
  obtain ⟨A, x1, x2, x3, x4, C1, ga, C2, C3⟩ := hX
  obtain ⟨Ab, y1, y2, y3, y4, Cb1, gb, Cb2, Cb3⟩ := hXb
  have hs2 : (nI hw = (2 : Int32)) ↔ hw = 2 := by rw [show (2 : Int32) = nI 2 from rfl, nI_eq (by omega) (by omega)]
  obtain ⟨τ1, a1, a2⟩ : ∃ τ', lp (f_X1_join_b208 N x (nI hw) (nI t) (some c) (some cb) σ.1 (lN S)) N (0, τ) = some τ' ∧ NC σ τ' σ.1 1 q n2 ma (jnw ma S (decide (hw = 2)) w wb) := by
    refine lp_inv0 (P := fun k (s : Int32 × SG) => s.1 = nI k ∧ NC σ s.2 σ.1 1 q n2 k (jnw ma S (decide (hw = 2)) w wb)) (Q := fun (s : SG) => NC σ s σ.1 1 q n2 ma (jnw ma S (decide (hw = 2)) w wb)) ma (by omega) ⟨rfl, h0⟩ ?_ ?_
    · rintro k ⟨y, s⟩ hk ⟨e1, e2⟩
      dsimp only at e1 e2
      subst e1
      have D1 : s.2 c = some (eO (cls kd) [.int (nI q), .int (nI n), .ref A, .int (nI ma)]) := by rw [e2.2.1 c x1]; exact C1
      have D2 : s.2 A = some (eL (cap kd) ga) := by rw [e2.2.1 A x2]; exact C2
      obtain ⟨s2, b1, b2⟩ := e2.add6 (N := N) (v := jnw ma S (decide (hw = 2)) w wb k) (by omega)
      have hu : jnw ma S (decide (hw = 2)) w wb k = w k * S + (if hw = 2 then w k else 0) := by
        unfold jnw
        rw [if_pos hk]
        simp
      unfold f_X1_join_b208 f_X1_join_j248
      dsimp only
      rw [Option.bind_some, gI_of (k := 3) D1 (cls_in kd) rfl, Option.bind_some, if_neg (nI_ge hk (by omega)), gR_of D1 (cls_in kd) rfl, Option.bind_some, aL_of D2 (show k < cap kd by omega) (by omega), Option.bind_some, Option.bind_some, aL_of D2 (show k < cap kd by omega) (by omega), Option.bind_some, C3 k hk, lN_mul, nI_1]
      have hgo : (if nI hw = (2 : Int32) then Option.bind (dv_X6_add N s σ.1 (lN (w k * S) + lN (w k))) (fun v32 => (some (.inl (nI (k + 1), v32)) : Option ((Int32 × SG) ⊕ SG))) else Option.bind (dv_X6_add N s σ.1 (lN (w k * S) + 0)) (fun v32 => some (.inl (nI (k + 1), v32)))) = some (.inl (nI (k + 1), s2)) := by
        by_cases e : hw = 2
        · rw [if_pos (hs2.mpr e), lN_add]
          rw [hu, if_pos e] at b1
          rw [b1]
          rfl
        · rw [if_neg (fun hh => e (hs2.mp hh)), show (0 : Int64) = lN 0 from rfl, lN_add]
          rw [hu, if_neg e] at b1
          rw [b1]
          rfl
      refine ⟨_, hgo, rfl, b2.congr (fun i hi => ?_)⟩
      unfold wset
      split
      · rename_i e; rw [e]
      · rfl
    · rintro ⟨y, s⟩ ⟨e1, e2⟩
      dsimp only at e1 e2
      subst e1
      have D1 : s.2 c = some (eO (cls kd) [.int (nI q), .int (nI n), .ref A, .int (nI ma)]) := by rw [e2.2.1 c x1]; exact C1
      unfold f_X1_join_b208
      dsimp only
      rw [Option.bind_some, gI_of (k := 3) D1 (cls_in kd) rfl, Option.bind_some, if_pos (nI_le (Nat.le_refl _) (by omega))]
      exact ⟨_, rfl, e2⟩
  obtain ⟨τ2, b1, b2⟩ : ∃ τ', lp (f_X1_join_b261 N x (nI t) (some cb) σ.1) N (0, τ1) = some τ' ∧ NC σ τ' σ.1 1 q n2 (ma + mb) (jnw ma S (decide (hw = 2)) w wb) := by
    refine lp_inv0 (P := fun k (s : Int32 × SG) => s.1 = nI k ∧ NC σ s.2 σ.1 1 q n2 (ma + k) (jnw ma S (decide (hw = 2)) w wb)) (Q := fun (s : SG) => NC σ s σ.1 1 q n2 (ma + mb) (jnw ma S (decide (hw = 2)) w wb)) mb (by omega) ⟨rfl, a2⟩ ?_ ?_
    · rintro k ⟨y, s⟩ hk ⟨e1, e2⟩
      dsimp only at e1 e2
      subst e1
      have D1 : s.2 cb = some (eO (cls kdb) [.int (nI q), .int (nI nb), .ref Ab, .int (nI mb)]) := by rw [e2.2.1 cb y1]; exact Cb1
      have D2 : s.2 Ab = some (eL (cap kdb) gb) := by rw [e2.2.1 Ab y2]; exact Cb2
      obtain ⟨s2, b1, b2⟩ := e2.add6 (N := N) (v := jnw ma S (decide (hw = 2)) w wb (ma + k)) (by omega)
      have hu : jnw ma S (decide (hw = 2)) w wb (ma + k) = wb k := by
        unfold jnw
        rw [if_neg (by omega), show ma + k - ma = k by omega]
      unfold f_X1_join_b261
      dsimp only
      rw [hu] at b1
      rw [Option.bind_some, gI_of (k := 3) D1 (cls_in kdb) rfl, Option.bind_some, if_neg (nI_ge hk (by omega)), gR_of D1 (cls_in kdb) rfl, Option.bind_some, aL_of D2 (show k < cap kdb by omega) (by omega), Option.bind_some, Cb3 k hk, b1, Option.bind_some, nI_1]
      refine ⟨_, rfl, rfl, b2.congr (fun i hi => ?_)⟩
      unfold wset
      split
      · rename_i e; rw [e]
      · rfl
    · rintro ⟨y, s⟩ ⟨e1, e2⟩
      dsimp only at e1 e2
      subst e1
      have D1 : s.2 cb = some (eO (cls kdb) [.int (nI q), .int (nI nb), .ref Ab, .int (nI mb)]) := by rw [e2.2.1 cb y1]; exact Cb1
      unfold f_X1_join_b261
      dsimp only
      rw [Option.bind_some, gI_of (k := 3) D1 (cls_in kdb) rfl, Option.bind_some, if_pos (nI_le (Nat.le_refl _) (by omega))]
      exact ⟨_, rfl, e2⟩
  obtain ⟨N', rfl⟩ : ∃ N', N = N' + 1 := ⟨N - 1, by omega⟩
  obtain ⟨st1, c1, c2, c3, c4⟩ : ∃ st1, lp (f_X3_join_b191 (N' + 1) (nI p) (nI o) (nI hw) (nI t) (nI q) (nI n2) (lN S)) (N' + 1) (0, sV st 18 0) = some st1 ∧ Kp [] [17] [18] st st1 ∧ st1.2.2.1 18 = nI ma ∧ ∀ i, i < ma → st1.2.1 17 i = lN (jnw ma S (decide (hw = 2)) w wb i) := by
    refine lp_inv0 (P := fun k (s : Int32 × MS) => s.1 = nI k ∧ Kp [] [17] [18] st s.2 ∧ s.2.2.2.1 18 = nI k ∧ ∀ i, i < k → s.2.2.1 17 i = lN (jnw ma S (decide (hw = 2)) w wb i)) (Q := fun (s : MS) => Kp [] [17] [18] st s ∧ s.2.2.1 18 = nI ma ∧ ∀ i, i < ma → s.2.1 17 i = lN (jnw ma S (decide (hw = 2)) w wb i)) ma (by omega) ⟨rfl, (Kp.refl _ _ _ _).sV (by decide) _, sV_s _ _ _, fun a ha => by omega⟩ ?_ ?_
    · rintro k ⟨y, s⟩ hk ⟨e1, e2, e3, e4⟩
      dsimp only at e1 e2 e3 e4
      subst e1
      have hu : jnw ma S (decide (hw = 2)) w wb k = w k * S + (if hw = 2 then w k else 0) := by
        unfold jnw
        rw [if_pos hk]
        simp
      have had := X3_aside (N := N') (v := jnw ma S (decide (hw = 2)) w wb k) (show k < 200 by omega) e3
      unfold f_X3_join_b191 f_X3_join_j234
      dsimp only
      rw [ald_N hp (by omega), Option.bind_some, e2.1 4 (by decide), hP.2.2.2.1, if_neg (nI_ge hk (by omega)), ix200, ald_N (show 200 * p + k < 2400 by omega) (by omega), Option.bind_some, e2.2.1 5 (by decide), hP.2.2.2.2 k hk, lN_mul, nI_1]
      have hgo : (if nI hw = (2 : Int32) then Option.bind (f_X3_asideOnce (N' + 1) s (lN (w k * S) + lN (w k)) 0) (fun v17 => (some (.inl (nI (k + 1), v17)) : Option ((Int32 × MS) ⊕ MS))) else Option.bind (f_X3_asideOnce (N' + 1) s (lN (w k * S) + 0) 0) (fun v17 => some (.inl (nI (k + 1), v17)))) = some (.inl (nI (k + 1), sV (sL s 17 (vp_updL (s.2.1 17) k (lN (jnw ma S (decide (hw = 2)) w wb k)))) 18 (nI (k + 1)))) := by
        by_cases e : hw = 2
        · rw [if_pos (hs2.mpr e), lN_add]
          rw [hu, if_pos e] at had ⊢
          rw [had]
          rfl
        · rw [if_neg (fun hh => e (hs2.mp hh)), show lN (w k * S) + 0 = lN (w k * S + 0) from lN_add _ 0]
          rw [hu, if_neg e] at had ⊢
          rw [had]
          rfl
      refine ⟨_, hgo, rfl, (e2.sL (by decide) _).sV (by decide) _, sV_s _ _ _, fun a ha => ?_⟩
      show (sL s 17 (vp_updL (s.2.1 17) k (lN (jnw ma S (decide (hw = 2)) w wb k)))).2.1 17 a = _
      rw [sL_s]
      by_cases e : a = k
      · rw [e, pk_uLs]
      · rw [pk_uLn e]; exact e4 a (by omega)
    · rintro ⟨y, s⟩ ⟨e1, e2, e3, e4⟩
      dsimp only at e1 e2 e3 e4
      subst e1
      unfold f_X3_join_b191
      dsimp only
      rw [ald_N hp (by omega), Option.bind_some, e2.1 4 (by decide), hP.2.2.2.1, if_pos (nI_le (Nat.le_refl _) (by omega))]
      exact ⟨_, rfl, e2, e3, e4⟩
  obtain ⟨st2, d1, d2, d3, d4⟩ : ∃ st2, lp (f_X3_join_b248 (N' + 1) (nI o) (nI t) (nI q) (nI n2)) (N' + 1) (0, st1) = some st2 ∧ Kp [] [17] [18] st st2 ∧ st2.2.2.1 18 = nI (ma + mb) ∧ ∀ i, i < ma + mb → st2.2.1 17 i = lN (jnw ma S (decide (hw = 2)) w wb i) := by
    refine lp_inv0 (P := fun k (s : Int32 × MS) => s.1 = nI k ∧ Kp [] [17] [18] st s.2 ∧ s.2.2.2.1 18 = nI (ma + k) ∧ ∀ i, i < ma + k → s.2.2.1 17 i = lN (jnw ma S (decide (hw = 2)) w wb i)) (Q := fun (s : MS) => Kp [] [17] [18] st s ∧ s.2.2.1 18 = nI (ma + mb) ∧ ∀ i, i < ma + mb → s.2.1 17 i = lN (jnw ma S (decide (hw = 2)) w wb i)) mb (by omega) ⟨rfl, c2, c3, c4⟩ ?_ ?_
    · rintro k ⟨y, s⟩ hk ⟨e1, e2, e3, e4⟩
      dsimp only at e1 e2 e3 e4
      subst e1
      have hu : jnw ma S (decide (hw = 2)) w wb (ma + k) = wb k := by
        unfold jnw
        rw [if_neg (by omega), show ma + k - ma = k by omega]
      unfold f_X3_join_b248
      dsimp only
      rw [ald_N ho (by omega), Option.bind_some, e2.1 4 (by decide), hPb.2.2.2.1, if_neg (nI_ge hk (by omega)), ix200, ald_N (show 200 * o + k < 2400 by omega) (by omega), Option.bind_some, e2.2.1 5 (by decide), hPb.2.2.2.2 k hk, X3_aside (N := N') (show ma + k < 200 by omega) e3, Option.bind_some, nI_1]
      refine ⟨_, rfl, rfl, (e2.sL (by decide) _).sV (by decide) _, sV_s _ _ _, fun a ha => ?_⟩
      show (sL s 17 (vp_updL (s.2.1 17) (ma + k) (lN (wb k)))).2.1 17 a = _
      rw [sL_s]
      by_cases e : a = ma + k
      · rw [e, pk_uLs, hu]
      · rw [pk_uLn e]; exact e4 a (by omega)
    · rintro ⟨y, s⟩ ⟨e1, e2, e3, e4⟩
      dsimp only at e1 e2 e3 e4
      subst e1
      unfold f_X3_join_b248
      dsimp only
      rw [ald_N ho (by omega), Option.bind_some, e2.1 4 (by decide), hPb.2.2.2.1, if_pos (nI_le (Nat.le_refl _) (by omega))]
      exact ⟨_, rfl, e2, e3, e4⟩
  obtain ⟨f0, τ3, st3, own', f1, f2, f3, f4⟩ := made_ends hN j ht hok2 b2 (d2.mk (by decide) (by decide)) d3 d4
  unfold f_X1_join_j203 f_X3_join_j181
  rw [a1, Option.bind_some, b1, Option.bind_some, f0, Option.bind_some, f1, Option.bind_some, c1, Option.bind_some, d1, Option.bind_some, show f_X3_comes (N' + 1) st2 (nI t) 1 (nI q) (nI n2) = _ from f2, Option.bind_some]
  exact ⟨τ3, st3, _, own', rfl, rfl, f3, f4⟩
