/-! ===== PURE X3: a new Form ===== -/
set_option maxRecDepth 100000
/-- a code object at c: class ci, field q, length n, m words w, in an array at A of the size cap -/
def xC (σ : SG) (c ci q n A m cap : Nat) (w : Nat → Nat) : Prop := σ.2 c = some (eO ci [.int (nI q), .int (nI n), .ref A, .int (nI m)]) ∧ ∃ g, σ.2 A = some (eL cap g) ∧ ∀ k, k < m → g k = lN (w k)
/-- an object under way at f -/
def Uw (σ s : SG) (f ci z : Nat) (fs : List Value) : Prop := s.1 = z ∧ (∀ a, a < f → s.2 a = σ.2 a) ∧ s.2 f = some (eO ci fs)
theorem Uw.new {σ : SG} {ci : Nat} {fs : List Value} : Uw σ (nO ci fs σ) σ.1 ci (σ.1 + 1) fs := ⟨rfl, fun a ha => by show va_up σ.2 σ.1 _ a = _; exact up_n (by omega), by show va_up σ.2 σ.1 _ σ.1 = _; exact up_s⟩
theorem Uw.pv {σ s : SG} {f ci z k : Nat} {fs : List Value} {cs : List Nat} {w : Value} (h : Uw σ s f ci z fs) (hc : ci ∈ cs) (hk : k < fs.length) : ∃ s', pV cs s f k w = some s' ∧ Uw σ s' f ci z (fs.set k w) ∧ ∀ a, a ≠ f → s'.2 a = s.2 a :=
  ⟨_, pV_of h.2.2 hc hk, ⟨h.1, fun a ha => by rw [uC_n (by omega)]; exact h.2.1 a ha, uC_s _ _ _⟩, fun a ha => uC_n ha⟩
theorem Uw.na {σ s : SG} {f ci z t B n : Nat} {fs : List Value} (h : Uw σ s f ci z fs) (hz : f < z) (hn : n ≤ B) (hB : B < 2 ^ 31) : ∃ s', nA t B s (nI n) = some s' ∧ Uw σ s' f ci (z + 1) fs ∧ s'.2 z = some (.inl (t, nD t n)) ∧ ∀ a, a ≠ z → s'.2 a = s.2 a := by
  refine ⟨_, nA_of hn hB, ⟨by rw [h.1], fun a ha => ?_, ?_⟩, ?_, fun a ha => ?_⟩
  · rw [newA_n (by rw [h.1]; omega)]; exact h.2.1 a ha
  · rw [newA_n (by rw [h.1]; omega)]; exact h.2.2
  · have := newA_s (t := t) (n := n) (σ := s)
    rw [h.1] at this
    rw [h.1]
    exact this
  · exact newA_n (by rw [h.1]; exact ha)
theorem xC.at {σ s : SG} {f c ci q n A m cap : Nat} {w : Nat → Nat} (h : xC σ c ci q n A m cap w) (hc : c < f) (hs : ∀ a, a < f → s.2 a = σ.2 a) : s.2 c = some (eO ci [.int (nI q), .int (nI n), .ref A, .int (nI m)]) := by rw [hs c hc]; exact h.1
/-- A NEW FORM -/
theorem X9_init {q n m c ci A cap N : Nat} {σ : SG} {w : Nat → Nat} (hN : 20 ≤ N) (hq : isQ q) (hn : n ≤ 12) (hm : m ≤ 12) (C : xC σ c ci q n A m cap w) (hci : ci ∈ [3, 4, 5, 6]) (hc : c < σ.1) (hA : A < σ.1) (hcap : m ≤ cap ∧ cap < 2 ^ 31) (hw : ∀ k, k < m → w k < q ^ n) : ∃ σ2, f_X9_init N (nO 7 [.int 0, .int 0, .null, .null, .int 0] σ) σ.1 c = some σ2 ∧ XF σ σ2 σ.1 q n m (wR q n w) n := by
  have hs := qn_small hq hn
  have U0 := Uw.new (σ := σ) (ci := 7) (fs := [.int 0, .int 0, .null, .null, .int 0])
  generalize nO 7 [.int 0, .int 0, .null, .null, .int 0] σ = t0 at U0 ⊢
  have hcf : ∀ s : SG, (∀ a, a < σ.1 → s.2 a = σ.2 a) → s.2 c = some (eO ci [.int (nI q), .int (nI n), .ref A, .int (nI m)]) := fun s hs => C.at hc hs
  unfold f_X9_init
  rw [gI_of (hcf _ U0.2.1) hci rfl, Option.bind_some]
  obtain ⟨t2, a1, U2, -⟩ := U0.pv (cs := [7]) (k := 0) (w := .int (nI q)) (by decide) (show 0 < 5 by decide)
  rw [a1, Option.bind_some, gI_of (hcf _ U2.2.1) hci rfl, Option.bind_some]
  obtain ⟨t4, a2, U4, -⟩ := U2.pv (cs := [7]) (k := 1) (w := .int (nI n)) (by decide) (show 1 < 5 by decide)
  rw [a2, Option.bind_some, gI_of (hcf _ U4.2.1) hci rfl, Option.bind_some]
  obtain ⟨t6, a3, U6, b6, -⟩ := U4.na (t := 4) (B := 12) (n := m) (by omega) hm (by omega)
  rw [a3, Option.bind_some, U4.1]
  obtain ⟨t7, a4, U7, b7⟩ := U6.pv (cs := [7]) (k := 2) (w := .ref (σ.1 + 1)) (by decide) (show 2 < 5 by decide)
  rw [a4, Option.bind_some, gI_of (hcf _ U7.2.1) hci rfl, Option.bind_some]
  obtain ⟨t9, a5, U9, b9, b9'⟩ := U7.na (t := 0) (B := 12) (n := m) (by omega) hm (by omega)
  rw [a5, Option.bind_some, U7.1]
  obtain ⟨t10, a6, U10, b10⟩ := U9.pv (cs := [7]) (k := 3) (w := .ref (σ.1 + 1 + 1)) (by decide) (show 3 < 5 by decide)
  rw [a6, Option.bind_some]
  have c1 : t10.2 (σ.1 + 1) = some (eQ 4 m (fun _ => none)) := by rw [b10 _ (by omega), b9' _ (by omega), b7 _ (by omega), b6]; rfl
  have c2 : t10.2 (σ.1 + 2) = some (eI m (fun _ => 0)) := by rw [b10 _ (by omega), b9]; rfl
  have F0 : FH σ t10 σ.1 q n m 0 0 (fun _ => 0) (fun k => k) (fun k i => dg q n (w k) i) := ⟨⟨U10.1, U10.2.1⟩, U10.2.2, ⟨_, c1, fun k hk => by omega⟩, ⟨_, c2, fun k hk => by omega⟩, fun j hj => by omega⟩
  obtain ⟨g, g1, g2⟩ := C.2
  obtain ⟨σ1, l1, F1⟩ : ∃ σ1, lp (f_X9_init_b43 N σ.1 c) 13 (0, t10) = some σ1 ∧ FH σ σ1 σ.1 q n m 0 m (fun _ => 0) (fun k => k) (fun k i => dg q n (w k) i) := by
    refine lp_inv0 (P := fun t s => s.1 = nI t ∧ FH σ s.2 σ.1 q n m 0 t (fun _ => 0) (fun k => k) (fun k i => dg q n (w k) i)) (Q := fun s => FH σ s σ.1 q n m 0 m (fun _ => 0) (fun k => k) (fun k i => dg q n (w k) i)) m (by omega) ⟨rfl, F0⟩ ?_ ?_
    · rintro t ⟨x, s⟩ ht ⟨e1, F⟩
      dsimp only at e1 F
      subst e1
      unfold f_X9_init_b43
      dsimp only
      have hsc := hcf s F.1.2
      have hsA : s.2 A = some (eL cap g) := by rw [F.1.2 A hA]; exact g1
      obtain ⟨v, d1, d2⟩ := X1_letters (σ := s) (w := w t) hN hq hn (by have := hw t ht; omega)
      rw [gI_of hsc hci rfl, Option.bind_some, if_neg (nI_ge ht (by omega)), F.ga, Option.bind_some, F.gq, Option.bind_some, F.gn, Option.bind_some, gR_of hsc hci rfl, Option.bind_some, aL_of hsA (by omega) (by omega), Option.bind_some, g2 t ht, d1, Option.bind_some]
      obtain ⟨⟨a1, a2⟩, a3, ⟨gg, a4, a5⟩, ⟨hh, a6, a7⟩, a8⟩ := F
      dsimp only
      have n1 : ∀ a, a ≠ s.1 → ((s.1 + 1, va_up s.2 s.1 (some (eI n v))) : SG).2 a = s.2 a := fun a ha => by
        show va_up s.2 s.1 _ a = _
        exact up_n ha
      have n2 : ((s.1 + 1, va_up s.2 s.1 (some (eI n v))) : SG).2 s.1 = some (eI n v) := by
        show va_up s.2 s.1 _ s.1 = _
        exact up_s
      have n3 : ((s.1 + 1, va_up s.2 s.1 (some (eI n v))) : SG).1 = s.1 + 1 := rfl
      generalize ((s.1 + 1, va_up s.2 s.1 (some (eI n v))) : SG) = u at n1 n2 n3 ⊢
      have n4 : u.2 (σ.1 + 1) = some (eQ 4 m gg) := by rw [n1 _ (by omega)]; exact a4
      have n5 : okQ 4 u (some s.1) = true := by
        unfold okQ
        dsimp only
        rw [n2]
        rfl
      rw [wQ_of n4 n5 ht (by omega), Option.bind_some, nI_1]
      refine ⟨_, rfl, rfl, ⟨?_, fun a ha => ?_⟩, ?_, ⟨_, uC_s _ _ _, fun k hk => ?_⟩, ⟨hh, ?_, a7⟩, fun j hj => ?_⟩
      · show u.1 = _
        omega
      · rw [uC_n (by omega), n1 _ (by omega)]; exact a2 a ha
      · rw [uC_n (by omega), n1 _ (by omega)]; exact a3
      · by_cases e : k = t
        · rw [e, up_s, a1]
        · rw [up_n e, a5 k (by omega)]
      · rw [uC_n (by omega), n1 _ (by omega)]; exact a6
      · by_cases e : j = t
        · refine ⟨v, ?_, fun i hi => by rw [e]; exact d2 i hi⟩
          rw [uC_n (by omega), show σ.1 + 3 + j = s.1 by omega]
          exact n2
        · obtain ⟨v2, p1, p2⟩ := a8 j (by omega)
          exact ⟨v2, by rw [uC_n (by omega), n1 _ (by omega)]; exact p1, p2⟩
    · rintro ⟨x, s⟩ ⟨e1, F⟩
      dsimp only at e1 F
      subst e1
      unfold f_X9_init_b43
      dsimp only
      rw [gI_of (hcf s F.1.2) hci rfl, Option.bind_some, if_pos (nI_le (Nat.le_refl _) (by omega))]
      exact ⟨_, rfl, F⟩
  rw [l1, Option.bind_some]
  obtain ⟨σ2, l2, X2⟩ : ∃ σ2, lp (f_X9_init_b82 N σ.1) N (0, σ1) = some σ2 ∧ XF σ σ2 σ.1 q n m (wR q n w) n := by
    refine lp_inv0 (P := fun t s => s.1 = nI t ∧ XF σ s.2 σ.1 q n m (wR q n w) t) (Q := fun s => XF σ s σ.1 q n m (wR q n w) n) n (by omega) ⟨rfl, 0, _, _, _, F1, fun k hk => hk, fun j k _ _ e => e, Fo.start _ (wR_ok hq)⟩ ?_ ?_
    · rintro t ⟨x, s⟩ ht ⟨e1, X⟩
      dsimp only at e1 X
      subst e1
      obtain ⟨s2, h1, h2⟩ := X9_clears hN hq hn hm ht X
      obtain ⟨r, h, ad, V, F, -⟩ := X
      unfold f_X9_init_b82
      dsimp only
      rw [F.gn, Option.bind_some, if_neg (nI_ge ht (by omega)), F.cc, Option.bind_some, h1, Option.bind_some, nI_1]
      exact ⟨_, rfl, rfl, h2⟩
    · rintro ⟨x, s⟩ ⟨e1, X⟩
      dsimp only at e1 X
      subst e1
      have X' := X
      obtain ⟨r, h, ad, V, F, -⟩ := X
      unfold f_X9_init_b82
      dsimp only
      rw [F.gn, Option.bind_some, if_pos (nI_le (Nat.le_refl _) (by omega))]
      exact ⟨_, rfl, X'⟩
  rw [l2, Option.bind_some]
  exact ⟨σ2, rfl, X2⟩
