/-! ===== PURE J42: shelves; keep ===== -/
set_option maxRecDepth 100000
/-- the model keeps places, and all shelves but d -/
def Ms (st st' : MS) (d : Nat) : Prop := (st'.1 1 = st.1 1 ∧ st'.1 2 = st.1 2 ∧ st'.1 3 = st.1 3 ∧ st'.1 4 = st.1 4 ∧ st'.2.1 5 = st.2.1 5) ∧ ∀ e, e < 6 → e ≠ d → st'.1 19 e = st.1 19 e ∧ st'.1 20 e = st.1 20 e ∧ st'.1 21 e = st.1 21 e ∧ st'.1 22 e = st.1 22 e ∧ ∀ k, k < 200 → st'.2.1 23 (200 * e + k) = st.2.1 23 (200 * e + k)
theorem J.shelve {x M d : Nat} {own : Nat → Nat} {σ τ : SG} {st st' : MS} {v : Value} (j : J x M own σ st) (hd : d < 6) (h1 : σ.1 ≤ τ.1) (h2 : ∀ a, a < σ.1 → τ.2 a = σ.2 a) (hm : Ms st st' d) (hv : sRel (uC τ (shA x d) (eO 1 [v])) (fun a => if a < σ.1 then own a else 13 + d) st' d v) : pV [1] τ (shA x d) 0 v = some (uC τ (shA x d) (eO 1 [v])) ∧ J x M (fun a => if a < σ.1 then own a else 13 + d) (uC τ (shA x d) (eO 1 [v])) st' ∧ KM M σ (uC τ (shA x d) (eO 1 [v])) := by
  obtain ⟨⟨a1, a2, a3, a4⟩, ⟨⟨wc, fh, b1⟩, ⟨g2, b2⟩, ⟨g3, b3⟩, ⟨mc, b4⟩, ⟨g5, b5, b6⟩⟩, ⟨g, c1, c2⟩, d1⟩ := id j
  obtain ⟨v0, e1, e2⟩ := d1 d hd
  have hs := shA_in (x := x) hd
  have hc : τ.2 (shA x d) = some (eO 1 [v0]) := by rw [h2 _ (by omega)]; exact e1
  have own0 : ∀ a o, a < σ.1 → own a = o → o ≠ 0 → (uC τ (shA x d) (eO 1 [v])).2 a = σ.2 a ∧ (fun a => if a < σ.1 then own a else 13 + d) a = own a := fun a o ha ho h0 => by
    refine ⟨?_, if_pos ha⟩
    rw [uC_n (fun e => by have := a3 a (by omega) (by omega); omega)]
    exact h2 a ha
  refine ⟨pV_of hc (by decide) (show 0 < 1 by decide), ⟨⟨a1, Nat.le_trans a2 h1, fun a h3 h4 => ?_, fun a h3 h4 => ?_⟩, ⟨⟨wc, fh, ?_⟩, ⟨g2, ?_⟩, ⟨g3, ?_⟩, ⟨mc, ?_⟩, ⟨g5, ?_, b6⟩⟩, ⟨g, ?_, fun p hp => ?_⟩, fun e he => ?_⟩, h1, fun a h3 h4 => ?_⟩
  · dsimp only; rw [if_pos (by omega)]; exact a3 a h3 h4
  · dsimp only; rw [if_pos (by omega)]; exact a4 a h3 h4
  · rw [uC_n (by omega), h2 _ (by omega)]; exact b1
  · rw [uC_n (by omega), h2 _ (by omega)]; exact b2
  · rw [uC_n (by omega), h2 _ (by omega)]; exact b3
  · rw [uC_n (by omega), h2 _ (by omega)]; exact b4
  · rw [uC_n (by omega), h2 _ (by omega)]; exact b5
  · rw [uC_n (by omega), h2 _ (by omega)]; exact c1
  · obtain ⟨m1, m2, m3, m4, m5⟩ := hm.1
    exact (c2 p hp).keep h1 (fun a ha ho => own0 a _ ha ho (by omega)) ⟨by rw [m1], by rw [m2], by rw [m3], by rw [m4], fun k _ => by rw [m5]⟩
  · by_cases ed : e = d
    · subst ed
      exact ⟨v, uC_s _ _ _, hv⟩
    · obtain ⟨v1, f1, f2⟩ := d1 e he
      have hse := shA_in (x := x) he
      refine ⟨v1, ?_, f2.keep h1 (fun a ha ho => own0 a _ ha ho (by omega)) (hm.2 e he ed)⟩
      rw [uC_n (fun h => ed (shA_inj h)), h2 _ (by omega)]
      exact f1
  · rw [uC_n (by omega)]
    exact h2 a (by omega)
theorem J.get {N x M d : Nat} {own : Nat → Nat} {σ : SG} {st : MS} (j : J x M own σ st) (hd : d < 6) : gR [0] σ x 5 = some (x + 4) ∧ cC [8] σ (x + 4) = some () ∧ f_J2_get N σ (x + 4) (nI d) = some (some (shA x d)) ∧ cC [1] σ (shA x d) = some () := by
  obtain ⟨-, ⟨⟨wc, fh, b1⟩, -, -, ⟨mc, b4⟩, ⟨g5, b5, b6⟩⟩, -, d1⟩ := j
  obtain ⟨v0, e1, e2⟩ := d1 d hd
  refine ⟨gR_of b1 (by decide) rfl, cC_of b4 (by decide), ?_, cC_of e1 (by decide)⟩
  have hck : f_J11_checkIndex N (nI d) 6 = some (nI d) := (by decide +kernel : ∀ d, d < 6 → f_J11_checkIndex 0 (nI d) 6 = some (nI d)) d hd
  unfold f_J2_get f_J2_elementData
  rw [gI_of (k := 2) b4 (by decide) rfl, Option.bind_some, hck, Option.bind_some, cC_of b4 (by decide), Option.bind_some, gR_of (k := 1) b4 (by decide) rfl, Option.bind_some, aQ_of b5 (show d < 10 by omega) (by omega), Option.bind_some, Option.bind_some, b6 d hd]
theorem shelf_cases (N : Nat) (a : Int32) : (∃ d, d < 6 ∧ a = nI d ∧ f_X1_isShelf N a = some 1) ∨ f_X1_isShelf N a = some 0 := by
  unfold f_X1_isShelf
  rw [show (0 : Int64) = lN 0 from rfl, show (5 : Int64) = lN 5 from rfl]
  rcases int_cases a 0 5 (by omega) with ⟨d, d1, d2, rfl⟩ | h
  · rw [isIn_yes (by omega) d1 d2]
    exact Or.inl ⟨d, by omega, rfl, rfl⟩
  · rw [isIn_no (by omega) (by omega) h]
    exact Or.inr rfl
/-- a copy of a code -/
theorem X4_copy {N kd q n m c A : Nat} {σ : SG} {w : Nat → Nat} (hok : okc kd q n m w) (C : xC σ c (cls kd) q n A m (cap kd) w) (hc : c < σ.1) (hA : A < σ.1) : ∃ τ, dv_X4_copy N σ c = some (τ, σ.1) ∧ NC σ τ σ.1 kd q n m w := by
  have hkd := hok.2.2.2.1
  have hcap := hok.2.2.2.2.1
  have hcl := cap_le kd
  obtain ⟨τ, a1, a2, a3⟩ := X4_init (N := N) (kd := kd) (q := q) (n := n) (σ := σ) (fun _ => 0)
  obtain ⟨C1, g, C2, C3⟩ := C
  have hdv : dv_X4_copy N σ c = f_X4_copy N σ c := by
    unfold dv_X4_copy
    rw [C1]
    rcases cls_cases kd with e | e | e | e <;> rw [e] <;> rfl
  have han : dv_X4_another N σ c (nI n) = some (τ, σ.1) := by
    have hcn : ∀ ci fs, (nO ci fs σ).2 c = some (eO (cls kd) [.int (nI q), .int (nI n), .ref A, .int (nI m)]) := fun ci fs => by
      show va_up σ.2 σ.1 _ c = _
      rw [up_n (by omega)]
      exact C1
    unfold dv_X4_another
    rw [C1]
    rcases (show kd = 0 ∨ kd = 1 ∨ kd = 2 ∨ kd = 3 by omega) with rfl | rfl | rfl | rfl
    · show f_X5_another N σ c (nI n) = _
      unfold f_X5_another f_X5_init
      rw [Option.bind_some, gI_of (k := 0) (hcn 3 _) (cls_in 0) rfl, Option.bind_some, show f_X4_init N (nO 3 [.int 0, .int 0, .null, .int 0] σ) σ.1 (nI q) (nI n) 200 = some τ from a1]
      rfl
    · show f_X6_another N σ c (nI n) = _
      unfold f_X6_another f_X6_init
      rw [Option.bind_some, gI_of (k := 0) (hcn 4 _) (cls_in 1) rfl, Option.bind_some, show f_X4_init N (nO 4 [.int 0, .int 0, .null, .int 0] σ) σ.1 (nI q) (nI n) 12 = some τ from a1]
      rfl
    · show f_X8_another N σ c (nI n) = _
      unfold f_X8_another f_X8_init f_X6_init
      rw [Option.bind_some, gI_of (k := 0) (hcn 6 _) (cls_in 2) rfl, Option.bind_some, show f_X4_init N (nO 6 [.int 0, .int 0, .null, .int 0] σ) σ.1 (nI q) (nI n) 12 = some τ from a1]
      rfl
    · show f_X7_another N σ c (nI n) = _
      unfold f_X7_another f_X7_init f_X6_init
      rw [Option.bind_some, gI_of (k := 0) (hcn 5 _) (cls_in 3) rfl, Option.bind_some, show f_X4_init N (nO 5 [.int 0, .int 0, .null, .int 0] σ) σ.1 (nI q) (nI n) 12 = some τ from a1]
      rfl
  obtain ⟨h1, h2, D1, g2, D2, D3⟩ := a2
  have E1 : τ.2 c = some (eO (cls kd) [.int (nI q), .int (nI n), .ref A, .int (nI m)]) := by rw [h2 c hc]; exact C1
  have E2 : τ.2 A = some (eL (cap kd) g) := by rw [h2 A hA]; exact C2
  have hcp := cpL_of (i := 0) (k := 0) (c := m) E2 D2 (by omega) (by omega) (by omega) (by omega)
  have G1 : (uC τ (σ.1 + 1) (eL (cap kd) (va_cpy g g2 0 0 m))).2 c = some (eO (cls kd) [.int (nI q), .int (nI n), .ref A, .int (nI m)]) := by rw [uC_n (by omega)]; exact E1
  have G2 : (uC τ (σ.1 + 1) (eL (cap kd) (va_cpy g g2 0 0 m))).2 σ.1 = some (eO (cls kd) [.int (nI q), .int (nI n), .ref (σ.1 + 1), .int (nI 0)]) := by rw [uC_n (by omega)]; exact D1
  rw [hdv]
  unfold f_X4_copy
  rw [gI_of (k := 1) C1 (cls_in kd) rfl, Option.bind_some, han, Option.bind_some]
  dsimp only
  rw [gR_of E1 (cls_in kd) rfl, Option.bind_some, gR_of D1 (cls_in kd) rfl, Option.bind_some, gI_of (k := 3) E1 (cls_in kd) rfl, Option.bind_some, show cpL τ A 0 (σ.1 + 1) 0 (nI m) = _ from hcp, Option.bind_some, gI_of (k := 3) G1 (cls_in kd) rfl, Option.bind_some, pV_of G2 (cls_in kd) (show 3 < 4 by decide), Option.bind_some]
  refine ⟨_, rfl, ?_, fun a ha => ?_, uC_s _ _ _, va_cpy g g2 0 0 m, ?_, fun k hk => ?_⟩
  · exact h1
  · rw [uC_n (by omega), uC_n (by omega)]; exact h2 a ha
  · rw [uC_n (by omega)]; exact uC_s _ _ _
  · rw [pk_cpy_in (by omega) (by omega), show 0 + (k - 0) = k by omega, C3 k hk]
theorem fit5 : ∀ k, k < 6 → fits .byte (.int (nI k)) = true := by decide +kernel
theorem nar5 : ∀ k, k < 6 → (nI k).toInt8.toInt32 = nI k ∧ vp_nar .byte (nI k) = nI k := by decide +kernel
theorem wB_of {σ : SG} {b n i : Nat} {f : Nat → Int32} {x : Int32} (h : σ.2 b = some (eB n f)) (hi : i < n) (hn : n < 2 ^ 31) : wB σ b (nI i) x = some (uC σ b (eB n (upd f i (vp_nar .byte x)))) := by
  unfold wB
  rw [h]
  show (iast f n (nI i) (vp_nar .byte x)).map _ = _
  rw [iast_N hi hn]
  rfl
/-- a row of letters as bytes -/
theorem X1_row3 {N kd q n m c A k : Nat} {σ : SG} {w : Nat → Nat} (hN : 5000 ≤ N) (hok : okc kd q n m w) (C : xC σ c (cls kd) q n A m (cap kd) w) (hc : c < σ.1) (hA : A < σ.1) (hk : k < m) : ∃ τ v, f_X1_rowOf N σ 3 c (nI k) = some (τ, σ.1 + 1) ∧ τ.1 = σ.1 + 2 ∧ (∀ a, a < σ.1 → τ.2 a = σ.2 a) ∧ τ.2 (σ.1 + 1) = some (eB n v) ∧ ∀ i, i < n → v i = nI (dg q n (w k) i) := by
  have hw := hok.w62
  have hcl := cap_le kd
  obtain ⟨hq, h1, h2, h3, hcap, h5, h6⟩ := hok
  have q5 := hq.2
  obtain ⟨C1, g, C2, C3⟩ := C
  obtain ⟨v, a1, a2⟩ := X1_letters (N := N) (σ := σ) (by omega) hq h2 (hw k hk)
  have D1 : ∀ (s : SG), (∀ a, a < σ.1 → s.2 a = σ.2 a) → s.2 c = some (eO (cls kd) [.int (nI q), .int (nI n), .ref A, .int (nI m)]) := fun s hs => by rw [hs c hc]; exact C1
  have k1 : ∀ a, a < σ.1 → ((σ.1 + 1, va_up σ.2 σ.1 (some (eI n v))) : SG).2 a = σ.2 a := fun a ha => by
    show va_up σ.2 σ.1 _ a = _
    exact up_n (by omega)
  unfold f_X1_rowOf
  rw [if_pos rfl, gI_of (k := 0) C1 (cls_in kd) rfl, Option.bind_some, gI_of (k := 1) C1 (cls_in kd) rfl, Option.bind_some, gR_of C1 (cls_in kd) rfl, Option.bind_some, aL_of C2 (show k < cap kd by omega) (by omega), Option.bind_some, C3 k hk, a1, Option.bind_some]
  dsimp only
  rw [gI_of (k := 1) (D1 _ k1) (cls_in kd) rfl, Option.bind_some, nA_of h2 (by omega), Option.bind_some]
  dsimp only
  obtain ⟨τ, b1, b2, b3, b4, v2, b5, b6⟩ : ∃ τ, lp (f_X1_rowOf_b34 N c σ.1 (σ.1 + 1)) N (0, ((σ.1 + 1 + 1, va_up (va_up σ.2 σ.1 (some (eI n v))) (σ.1 + 1) (some (.inl (2, nD 2 n)))) : SG)) = some τ ∧ τ.1 = σ.1 + 2 ∧ (∀ a, a < σ.1 → τ.2 a = σ.2 a) ∧ τ.2 σ.1 = some (eI n v) ∧ ∃ v2, τ.2 (σ.1 + 1) = some (eB n v2) ∧ ∀ i, i < n → v2 i = nI (dg q n (w k) i) := by
    refine lp_inv0 (P := fun i (s : Int32 × SG) => s.1 = nI i ∧ s.2.1 = σ.1 + 2 ∧ (∀ a, a < σ.1 → s.2.2 a = σ.2 a) ∧ s.2.2 σ.1 = some (eI n v) ∧ ∃ v2, s.2.2 (σ.1 + 1) = some (eB n v2) ∧ ∀ a, a < i → v2 a = nI (dg q n (w k) a)) (Q := fun (s : SG) => s.1 = σ.1 + 2 ∧ (∀ a, a < σ.1 → s.2 a = σ.2 a) ∧ s.2 σ.1 = some (eI n v) ∧ ∃ v2, s.2 (σ.1 + 1) = some (eB n v2) ∧ ∀ i, i < n → v2 i = nI (dg q n (w k) i)) n (by omega) ⟨rfl, rfl, fun a ha => ?_, ?_, fun _ => 0, ?_, fun a ha => by omega⟩ ?_ ?_
    · show va_up (va_up σ.2 σ.1 _) (σ.1 + 1) _ a = _
      rw [up_n (by omega), up_n (by omega)]
    · show va_up (va_up σ.2 σ.1 _) (σ.1 + 1) _ σ.1 = _
      rw [up_n (by omega), up_s]
    · show va_up (va_up σ.2 σ.1 _) (σ.1 + 1) _ (σ.1 + 1) = _
      rw [up_s]
      rfl
    · rintro i ⟨y, s⟩ hi ⟨e1, e2, e3, e4, v2, e5, e6⟩
      dsimp only at e1 e2 e3 e4 e5
      subst e1
      have hd := dg_lt hq n (w k) i
      obtain ⟨n1, n2⟩ := nar5 (dg q n (w k) i) (by omega)
      unfold f_X1_rowOf_b34
      dsimp only
      rw [gI_of (k := 1) (D1 s e3) (cls_in kd) rfl, Option.bind_some, if_neg (nI_ge hi (by omega)), aI_of e4 hi (by omega), Option.bind_some, a2 i hi, n1, wB_of e5 hi (by omega), Option.bind_some, n2, nI_1]
      refine ⟨_, rfl, rfl, e2, fun a ha => ?_, ?_, _, uC_s _ _ _, fun a ha => ?_⟩
      · dsimp only
        rw [uC_n (by omega)]; exact e3 a ha
      · dsimp only
        rw [uC_n (by omega)]; exact e4
      · by_cases e : a = i
        · rw [e, up_s']
        · rw [up_n' e]; exact e6 a (by omega)
    · rintro ⟨y, s⟩ ⟨e1, e2, e3, e4, v2, e5, e6⟩
      dsimp only at e1 e2 e3 e4 e5
      subst e1
      unfold f_X1_rowOf_b34
      dsimp only
      rw [gI_of (k := 1) (D1 s e3) (cls_in kd) rfl, Option.bind_some, if_pos (nI_le (Nat.le_refl _) (by omega))]
      exact ⟨_, rfl, e2, e3, e4, v2, e5, e6⟩
  rw [b1, Option.bind_some]
  exact ⟨τ, v2, rfl, b2, b3, b5, b6⟩
/-- all words as longs -/
theorem X1_row4 {N kd q n m c A : Nat} {b : Int32} {σ : SG} {w : Nat → Nat} (hok : okc kd q n m w) (C : xC σ c (cls kd) q n A m (cap kd) w) (hc : c < σ.1) (hA : A < σ.1) : ∃ τ v, f_X1_rowOf N σ 4 c b = some (τ, σ.1) ∧ τ.1 = σ.1 + 1 ∧ (∀ a, a < σ.1 → τ.2 a = σ.2 a) ∧ τ.2 σ.1 = some (eL m v) ∧ ∀ i, i < m → v i = lN (w i) := by
  have hm := hok.m200
  have hcap := hok.2.2.2.2.1
  have hcl := cap_le kd
  obtain ⟨C1, g, C2, C3⟩ := C
  have k1 : ∀ a, a < σ.1 → ((σ.1 + 1, va_up σ.2 σ.1 (some (.inl (1, nD 1 m)))) : SG).2 a = σ.2 a := fun a ha => by
    show va_up σ.2 σ.1 _ a = _
    exact up_n (by omega)
  have D1 : ((σ.1 + 1, va_up σ.2 σ.1 (some (.inl (1, nD 1 m)))) : SG).2 c = some (eO (cls kd) [.int (nI q), .int (nI n), .ref A, .int (nI m)]) := by rw [k1 c hc]; exact C1
  have D2 : ((σ.1 + 1, va_up σ.2 σ.1 (some (.inl (1, nD 1 m)))) : SG).2 A = some (eL (cap kd) g) := by rw [k1 A hA]; exact C2
  have D3 : ((σ.1 + 1, va_up σ.2 σ.1 (some (.inl (1, nD 1 m)))) : SG).2 σ.1 = some (eL m (fun _ => 0)) := by
    show va_up σ.2 σ.1 _ σ.1 = _
    rw [up_s]
    rfl
  have hcp := cpL_of (i := 0) (k := 0) (c := m) D2 D3 (by omega) (by omega) (by omega) (by omega)
  unfold f_X1_rowOf
  rw [if_neg (by decide), gI_of (k := 3) C1 (cls_in kd) rfl, Option.bind_some, nA_of hm (by omega), Option.bind_some, gR_of D1 (cls_in kd) rfl, Option.bind_some, gI_of (k := 3) D1 (cls_in kd) rfl, Option.bind_some, show cpL ((σ.1 + 1, va_up σ.2 σ.1 (some (.inl (1, nD 1 m)))) : SG) A 0 σ.1 0 (nI m) = _ from hcp, Option.bind_some]
  refine ⟨_, _, rfl, rfl, fun a ha => ?_, uC_s _ _ _, fun i hi => ?_⟩
  · rw [uC_n (by omega)]; exact k1 a ha
  · rw [pk_cpy_in (by omega) (by omega), show 0 + (i - 0) = i by omega, C3 i hi]
