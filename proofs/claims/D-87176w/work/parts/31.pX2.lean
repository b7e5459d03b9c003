/-! ===== PURE X2: WordBench's Form makes the reduced form ===== -/
set_option maxRecDepth 100000
/-- a form at f: c rows are laid (out of m); row k lies at f + 3 + ad k; V: the letters by address -/
def FH (σ0 σ : SG) (f q n m r c : Nat) (h ad : Nat → Nat) (V : Nat → Nat → Nat) : Prop :=
  (σ.1 = f + 3 + c ∧ ∀ a, a < f → σ.2 a = σ0.2 a) ∧ σ.2 f = some (eO 7 [.int (nI q), .int (nI n), .ref (f + 1), .ref (f + 2), .int (nI r)]) ∧ (∃ g, σ.2 (f + 1) = some (eQ 4 m g) ∧ ∀ k, k < c → g k = some (f + 3 + ad k)) ∧ (∃ hh, σ.2 (f + 2) = some (eI m hh) ∧ ∀ k, k < r → hh k = nI (h k)) ∧ ∀ j, j < c → ∃ v, σ.2 (f + 3 + j) = some (eI n v) ∧ ∀ i, i < n → v i = nI (V j i)
theorem FH.gq {σ0 σ : SG} {f q n m r c : Nat} {h ad : Nat → Nat} {V : Nat → Nat → Nat} (F : FH σ0 σ f q n m r c h ad V) : gI [7] σ f 0 = some (nI q) := gI_of F.2.1 (by decide) rfl
theorem FH.gn {σ0 σ : SG} {f q n m r c : Nat} {h ad : Nat → Nat} {V : Nat → Nat → Nat} (F : FH σ0 σ f q n m r c h ad V) : gI [7] σ f 1 = some (nI n) := gI_of F.2.1 (by decide) rfl
theorem FH.gr {σ0 σ : SG} {f q n m r c : Nat} {h ad : Nat → Nat} {V : Nat → Nat → Nat} (F : FH σ0 σ f q n m r c h ad V) : gI [7] σ f 4 = some (nI r) := gI_of F.2.1 (by decide) rfl
theorem FH.ga {σ0 σ : SG} {f q n m r c : Nat} {h ad : Nat → Nat} {V : Nat → Nat → Nat} (F : FH σ0 σ f q n m r c h ad V) : gR [7] σ f 2 = some (f + 1) := gR_of F.2.1 (by decide) rfl
theorem FH.gh {σ0 σ : SG} {f q n m r c : Nat} {h ad : Nat → Nat} {V : Nat → Nat → Nat} (F : FH σ0 σ f q n m r c h ad V) : gR [7] σ f 3 = some (f + 2) := gR_of F.2.1 (by decide) rfl
theorem FH.cc {σ0 σ : SG} {f q n m r c : Nat} {h ad : Nat → Nat} {V : Nat → Nat → Nat} (F : FH σ0 σ f q n m r c h ad V) : cC [7] σ f = some () := cC_of F.2.1 (by decide)
theorem FH.an {σ0 σ : SG} {f q n m r c : Nat} {h ad : Nat → Nat} {V : Nat → Nat → Nat} (F : FH σ0 σ f q n m r c h ad V) : aN σ (f + 1) = some (nI m) := by
  obtain ⟨g, h1, -⟩ := F.2.2.1
  exact aN_of h1 (by decide)
theorem FH.aq {σ0 σ : SG} {f q n m r c k : Nat} {h ad : Nat → Nat} {V : Nat → Nat → Nat} (F : FH σ0 σ f q n m r c h ad V) (hm : m ≤ 12) (hc : c ≤ m) (hk : k < c) : aQ 4 σ (f + 1) (nI k) = some (some (f + 3 + ad k)) := by
  obtain ⟨g, h1, h2⟩ := F.2.2.1
  rw [aQ_of h1 (by omega) (by omega), h2 k hk]
theorem FH.ai {σ0 σ : SG} {f q n m r c j i : Nat} {h ad : Nat → Nat} {V : Nat → Nat → Nat} (F : FH σ0 σ f q n m r c h ad V) (hn : n ≤ 12) (hj : j < c) (hi : i < n) : aI σ (f + 3 + j) (nI i) = some (nI (V j i)) := by
  obtain ⟨v, h1, h2⟩ := F.2.2.2.2 j hj
  rw [aI_of h1 hi (by omega), h2 i hi]
theorem FH.ok {σ0 σ : SG} {f q n m r c j : Nat} {h ad : Nat → Nat} {V : Nat → Nat → Nat} (F : FH σ0 σ f q n m r c h ad V) (hj : j < c) : okQ 4 σ (some (f + 3 + j)) = true := by
  obtain ⟨v, h1, h2⟩ := F.2.2.2.2 j hj
  unfold okQ
  dsimp only
  rw [h1]
  rfl
/-- the letters with one row anew -/
def vset (V : Nat → Nat → Nat) (j : Nat) (X : Nat → Nat) : Nat → Nat → Nat := fun j2 i => if j2 = j then X i else V j2 i
theorem FH.put {σ0 σ : SG} {f q n m r c j : Nat} {h ad : Nat → Nat} {V : Nat → Nat → Nat} {v : Nat → Int32} {X : Nat → Nat} (F : FH σ0 σ f q n m r c h ad V) (hX : ∀ i, i < n → v i = nI (X i)) : FH σ0 (uC σ (f + 3 + j) (eI n v)) f q n m r c h ad (vset V j X) := by
  obtain ⟨⟨a1, a2⟩, a3, ⟨g, a4, a5⟩, ⟨hh, a6, a7⟩, a8⟩ := F
  refine ⟨⟨a1, fun a ha => by rw [uC_n (by omega)]; exact a2 a ha⟩, by rw [uC_n (by omega)]; exact a3, ⟨g, by rw [uC_n (by omega)]; exact a4, a5⟩, ⟨hh, by rw [uC_n (by omega)]; exact a6, a7⟩, fun j2 hj2 => ?_⟩
  by_cases e : j2 = j
  · subst e
    exact ⟨v, uC_s _ _ _, fun i hi => by rw [hX i hi]; exact congrArg nI (if_pos rfl).symm⟩
  · obtain ⟨u, b1, b2⟩ := a8 j2 hj2
    exact ⟨u, by rw [uC_n (by omega)]; exact b1, fun i hi => by rw [b2 i hi]; exact congrArg nI (if_neg e).symm⟩
theorem X9_find {q n m r p N f : Nat} {σ0 σ : SG} {h ad : Nat → Nat} {V : Nat → Nat → Nat} (hN : 20 ≤ N) (hq : isQ q) (hn : n ≤ 12) (hm : m ≤ 12) (hr : r ≤ m) (hp : p < n) (F : FH σ0 σ f q n m r m h ad V) (had : ∀ k, k < m → ad k < m) (hV : ∀ k, k < m → ∀ i, i < n → V (ad k) i < q) : ∃ k, r ≤ k ∧ k ≤ m ∧ lp (f_X9_clears_b5 N f (nI p) σ) N (nI r) = some (nI k) ∧ (k < m → V (ad k) p ≠ 0) ∧ (k = m → ∀ j, r ≤ j → j < m → V (ad j) p = 0) := by
  have q5 := hq.2
  have body : ∀ j, j < m → f_X9_clears_b5 N f (nI p) σ (nI j) = if V (ad j) p = 0 then some (.inl (nI (j + 1))) else some (.inr (nI j)) := by
    intro j hj
    unfold f_X9_clears_b5
    rw [F.ga, Option.bind_some, F.an, Option.bind_some, if_neg (nI_ge hj (by omega)), Option.bind_some, F.aq hm (Nat.le_refl _) hj, Option.bind_some, Option.bind_some, F.ai hn (had j hj) hp, Option.bind_some, nI_1]
    have hd := hV j hj p hp
    by_cases e : V (ad j) p = 0
    · rw [if_pos e, if_pos (by rw [e]; rfl)]
    · rw [if_neg e, if_neg (nI_ne0 (by omega) (by omega))]
  by_cases hex : ∃ k, r ≤ k ∧ k < m ∧ V (ad k) p ≠ 0
  · obtain ⟨k, ⟨k1, k2, k3⟩, hl⟩ := pk_least (fun k => r ≤ k ∧ k < m ∧ V (ad k) p ≠ 0) hex
    refine ⟨k, k1, by omega, ?_, fun _ => k3, fun h => by omega⟩
    refine lp_up (S := nI) (R := nI k) k ?_ (k - r) r N (by omega) (by omega) ?_
    · rw [body k k2, if_neg k3]
    · intro i i1 i2
      have : V (ad i) p = 0 := Classical.byContradiction fun hne => hl i i2 ⟨i1, by omega, hne⟩
      rw [body i (by omega), if_pos this]
  · have hz : ∀ j, r ≤ j → j < m → V (ad j) p = 0 := fun j j1 j2 => Classical.byContradiction fun hne => hex ⟨j, j1, j2, hne⟩
    refine ⟨m, hr, Nat.le_refl _, ?_, fun h => by omega, fun _ => hz⟩
    refine lp_up (S := nI) (R := nI m) m ?_ (m - r) r N (by omega) (by omega) ?_
    · unfold f_X9_clears_b5
      rw [F.ga, Option.bind_some, F.an, Option.bind_some, if_pos (nI_le (Nat.le_refl _) (by omega))]
    · intro i i1 i2
      rw [body i (by omega), if_pos (hz i i1 i2)]
/-- the turn of the rows r .. k -/
def rot (r k j : Nat) : Nat := if j = r then k else if r < j ∧ j ≤ k then j - 1 else j
theorem X9_rotate {q n m r k N f : Nat} {p : Int32} {c : Option Nat} {σ0 σ : SG} {h ad : Nat → Nat} {V : Nat → Nat → Nat} (hN : 20 ≤ N) (hm : m ≤ 12) (hrk : r ≤ k) (hk : k < m) (F : FH σ0 σ f q n m r m h ad V) (had : ∀ k, k < m → ad k < m) : ∃ σ1 σ2, lp (f_X9_clears_b48 N f p c) N (nI k, σ) = some σ1 ∧ gR [7] σ1 f 2 = some (f + 1) ∧ gI [7] σ1 f 4 = some (nI r) ∧ wQ 4 σ1 (f + 1) (nI r) (some (f + 3 + ad k)) = some σ2 ∧ FH σ0 σ2 f q n m r m h (fun j => ad (rot r k j)) V := by
  have F0 := F
  obtain ⟨⟨a1, a2⟩, a3, ⟨g, a4, a5⟩, ⟨hh, a6, a7⟩, a8⟩ := F
  have fld : ∀ g', (uC σ (f + 1) (eQ 4 m g')).2 f = some (eO 7 [.int (nI q), .int (nI n), .ref (f + 1), .ref (f + 2), .int (nI r)]) := fun g' => by rw [uC_n (by omega)]; exact a3
  have okk : ∀ g' j, j < m → okQ 4 (uC σ (f + 1) (eQ 4 m g')) (some (f + 3 + j)) = true := fun g' j hj => by
    obtain ⟨v, h1, h2⟩ := a8 j hj
    unfold okQ
    dsimp only
    rw [uC_n (by omega), h1]
    rfl
  obtain ⟨σ1, l1, g1, l2, l3⟩ : ∃ σ1, lp (f_X9_clears_b48 N f p c) N (nI k, σ) = some σ1 ∧ ∃ g', σ1 = uC σ (f + 1) (eQ 4 m g') ∧ ∀ j, j < m → g' j = if r < j ∧ j ≤ k then g (j - 1) else g j := by
    refine lp_inv0 (P := fun t s => s.1 = nI (k - t) ∧ ∃ g', s.2 = uC σ (f + 1) (eQ 4 m g') ∧ ∀ j, j < m → g' j = if k - t < j ∧ j ≤ k then g (j - 1) else g j) (Q := fun s => ∃ g', s = uC σ (f + 1) (eQ 4 m g') ∧ ∀ j, j < m → g' j = if r < j ∧ j ≤ k then g (j - 1) else g j) (k - r) (by omega) ⟨rfl, g, (uC_self a4).symm, fun j hj => by rw [if_neg (by omega)]⟩ ?_ ?_
    · rintro t ⟨x, s⟩ ht ⟨e1, g', e2, e3⟩
      dsimp only at e1 e2
      subst e1 e2
      unfold f_X9_clears_b48
      dsimp only
      have hg : g' (k - t - 1) = some (f + 3 + ad (k - t - 1)) := by rw [e3 _ (by omega), if_neg (by omega), a5 _ (by omega)]
      rw [gI_of (fld g') (by decide) rfl, Option.bind_some, if_neg (nI_ge (by omega) (by omega)), gR_of (fld g') (by decide) rfl, Option.bind_some, Option.bind_some, nI_s1 (by omega), aQ_of (uC_s _ _ _) (show k - t - 1 < m by omega) (by omega), Option.bind_some, hg, wQ_of (uC_s _ _ _) (okk g' _ (had _ (by omega))) (show k - t < m by omega) (by omega), Option.bind_some, nI_m1 (by omega), uC_uC]
      refine ⟨_, rfl, by rw [Nat.sub_sub], _, rfl, fun j hj => ?_⟩
      by_cases e : j = k - t
      · rw [e, up_s, if_pos (by omega), a5 _ (by omega)]
      · rw [up_n e, e3 j hj]
        by_cases e4 : k - t < j ∧ j ≤ k
        · rw [if_pos e4, if_pos (by omega)]
        · rw [if_neg e4, if_neg (by omega)]
    · rintro ⟨x, s⟩ ⟨e1, g', e2, e3⟩
      dsimp only at e1 e2
      subst e1 e2
      unfold f_X9_clears_b48
      dsimp only
      rw [gI_of (fld g') (by decide) rfl, Option.bind_some, if_pos (nI_le (by omega) (by omega))]
      exact ⟨_, rfl, g', rfl, fun j hj => by rw [e3 j hj, show k - (k - r) = r by omega]⟩
  subst l2
  refine ⟨_, uC σ (f + 1) (eQ 4 m (va_up g1 r (some (f + 3 + ad k)))), l1, gR_of (fld g1) (by decide) rfl, gI_of (fld g1) (by decide) rfl, ?_, ⟨a1, fun a ha => by rw [uC_n (by omega)]; exact a2 a ha⟩, fld _, ⟨_, uC_s _ _ _, ?_⟩, ⟨hh, by rw [uC_n (by omega)]; exact a6, a7⟩, fun j hj => ?_⟩
  · rw [wQ_of (uC_s _ _ _) (okk g1 _ (had k hk)) (by omega) (by omega), uC_uC]
  · intro j hj
    dsimp only
    unfold rot
    by_cases e : j = r
    · rw [e, up_s, if_pos rfl]
    · rw [up_n e, if_neg e, l3 j hj]
      split
      · rw [a5 _ (by omega)]
      · rw [a5 _ hj]
  · obtain ⟨v, h1, h2⟩ := a8 j hj
    exact ⟨v, by rw [uC_n (by omega)]; exact h1, h2⟩
/-- the row is multiplied -/
theorem X9_scale {q n m r a by_ N f : Nat} {p : Int32} {σ0 σ : SG} {h ad : Nat → Nat} {V : Nat → Nat → Nat} (hN : 20 ≤ N) (hq : isQ q) (hn : n ≤ 12) (ha : a < m) (hb : by_ < q) (F : FH σ0 σ f q n m r m h ad V) (hV : ∀ i, i < n → V a i < q) : ∃ σ2, lp (f_X9_clears_b101 N f p (f + 3 + a) (nI by_)) N (0, σ) = some σ2 ∧ FH σ0 σ2 f q n m r m h ad (vset V a (fun i => fmul q by_ (V a i))) := by
  obtain ⟨v, c1, c2⟩ := F.2.2.2.2 a ha
  have fld : ∀ v', (uC σ (f + 3 + a) (eI n v')).2 f = some (eO 7 [.int (nI q), .int (nI n), .ref (f + 1), .ref (f + 2), .int (nI r)]) := fun g' => by rw [uC_n (by omega)]; exact F.2.1
  refine lp_inv0 (P := fun t s => s.1 = nI t ∧ ∃ v', s.2 = uC σ (f + 3 + a) (eI n v') ∧ ∀ i, i < n → v' i = nI (if i < t then fmul q by_ (V a i) else V a i)) (Q := fun s => FH σ0 s f q n m r m h ad (vset V a (fun i => fmul q by_ (V a i)))) n (by omega) ⟨rfl, v, (uC_self c1).symm, fun i hi => by rw [if_neg (by omega)]; exact c2 i hi⟩ ?_ ?_
  · rintro t ⟨x, s⟩ ht ⟨e1, v', e2, e3⟩
    dsimp only at e1 e2
    subst e1 e2
    unfold f_X9_clears_b101
    dsimp only
    rw [gI_of (fld v') (by decide) rfl, Option.bind_some, if_neg (nI_ge ht (by omega)), gI_of (fld v') (by decide) rfl, Option.bind_some, aI_of (uC_s _ _ _) ht (by omega), Option.bind_some, e3 t ht, if_neg (Nat.lt_irrefl _), X1_times hq hb (hV t ht), Option.bind_some, wI_of (uC_s _ _ _) ht (by omega), Option.bind_some, nI_1, uC_uC]
    refine ⟨_, rfl, rfl, _, rfl, fun i hi => ?_⟩
    by_cases e : i = t
    · rw [e, up_s', if_pos (by omega)]
    · rw [up_n' e, e3 i hi]
      by_cases e4 : i < t
      · rw [if_pos e4, if_pos (by omega)]
      · rw [if_neg e4, if_neg (by omega)]
  · rintro ⟨x, s⟩ ⟨e1, v', e2, e3⟩
    dsimp only at e1 e2
    subst e1 e2
    unfold f_X9_clears_b101
    dsimp only
    rw [gI_of (fld v') (by decide) rfl, Option.bind_some, if_pos (nI_le (Nat.le_refl _) (by omega))]
    exact ⟨_, rfl, F.put (fun i hi => by rw [e3 i hi, if_pos hi])⟩
/-- a row is taken from another -/
theorem X9_takes {q n m r a b c N f : Nat} {σ0 σ : SG} {h ad : Nat → Nat} {V : Nat → Nat → Nat} (hN : 20 ≤ N) (hq : isQ q) (hn : n ≤ 12) (ha : a < m) (hb : b < m) (hab : a ≠ b) (hc : c < q) (F : FH σ0 σ f q n m r m h ad V) (hV : ∀ i, i < n → V a i < q) (hVb : ∀ i, i < n → V b i < q) : ∃ σ2, f_X9_takes N σ f (f + 3 + a) (f + 3 + b) (nI c) = some σ2 ∧ FH σ0 σ2 f q n m r m h ad (vset V a (fun i => fadd q (V a i) (fmul q (fneg q c) (V b i)))) := by
  obtain ⟨v, c1, c2⟩ := F.2.2.2.2 a ha
  obtain ⟨vb, d1, d2⟩ := F.2.2.2.2 b hb
  have fld : ∀ v', (uC σ (f + 3 + a) (eI n v')).2 f = some (eO 7 [.int (nI q), .int (nI n), .ref (f + 1), .ref (f + 2), .int (nI r)]) := fun g' => by rw [uC_n (by omega)]; exact F.2.1
  unfold f_X9_takes
  rw [F.gq, Option.bind_some, X1_against hq hc, Option.bind_some]
  have nc := fneg_lt hq hc
  obtain ⟨σ2, k1, k2⟩ : ∃ σ2, lp (f_X9_takes_b13 N f (f + 3 + a) (f + 3 + b) (nI (fneg q c))) N (0, σ) = some σ2 ∧ FH σ0 σ2 f q n m r m h ad (vset V a (fun i => fadd q (V a i) (fmul q (fneg q c) (V b i)))) := by
    refine lp_inv0 (P := fun t s => s.1 = nI t ∧ ∃ v', s.2 = uC σ (f + 3 + a) (eI n v') ∧ ∀ i, i < n → v' i = nI (if i < t then fadd q (V a i) (fmul q (fneg q c) (V b i)) else V a i)) (Q := fun s => FH σ0 s f q n m r m h ad (vset V a (fun i => fadd q (V a i) (fmul q (fneg q c) (V b i))))) n (by omega) ⟨rfl, v, (uC_self c1).symm, fun i hi => by rw [if_neg (by omega)]; exact c2 i hi⟩ ?_ ?_
    · rintro t ⟨x, s⟩ ht ⟨e1, v', e2, e3⟩
      dsimp only at e1 e2
      subst e1 e2
      unfold f_X9_takes_b13
      dsimp only
      have hbb : (uC σ (f + 3 + a) (eI n v')).2 (f + 3 + b) = some (eI n vb) := by rw [uC_n (by omega)]; exact d1
      rw [gI_of (fld v') (by decide) rfl, Option.bind_some, if_neg (nI_ge ht (by omega)), gI_of (fld v') (by decide) rfl, Option.bind_some, aI_of (uC_s _ _ _) ht (by omega), Option.bind_some, Option.bind_some, aI_of hbb ht (by omega), Option.bind_some, e3 t ht, d2 t ht, if_neg (Nat.lt_irrefl _), X1_times hq nc (hVb t ht), Option.bind_some, X1_added hq (hV t ht) (fmul_lt hq nc (hVb t ht)), Option.bind_some, wI_of (uC_s _ _ _) ht (by omega), Option.bind_some, nI_1, uC_uC]
      refine ⟨_, rfl, rfl, _, rfl, fun i hi => ?_⟩
      by_cases e : i = t
      · rw [e, up_s', if_pos (by omega)]
      · rw [up_n' e, e3 i hi]
        by_cases e4 : i < t
        · rw [if_pos e4, if_pos (by omega)]
        · rw [if_neg e4, if_neg (by omega)]
    · rintro ⟨x, s⟩ ⟨e1, v', e2, e3⟩
      dsimp only at e1 e2
      subst e1 e2
      unfold f_X9_takes_b13
      dsimp only
      rw [gI_of (fld v') (by decide) rfl, Option.bind_some, if_pos (nI_le (Nat.le_refl _) (by omega))]
      exact ⟨_, rfl, F.put (fun i hi => by rw [e3 i hi, if_pos hi])⟩
  rw [k1, Option.bind_some]
  exact ⟨σ2, rfl, k2⟩
/-- the other rows are cleared -/
theorem X9_rows {q n m r p N f : Nat} {σ0 σ : SG} {h ad : Nat → Nat} {V : Nat → Nat → Nat} (hN : 20 ≤ N) (hq : isQ q) (hn : n ≤ 12) (hm : m ≤ 12) (hr : r < m) (hp : p < n) (F : FH σ0 σ f q n m r m h ad V) (had : ∀ k, k < m → ad k < m) (hin : ∀ j k, j < m → k < m → ad j = ad k → j = k) (hV : ∀ k, k < m → ∀ i, i < n → V (ad k) i < q) : ∃ σ2, lp (f_X9_clears_b136 N f (nI p) (f + 3 + ad r)) N (0, σ) = some σ2 ∧ ∃ V2, FH σ0 σ2 f q n m r m h ad V2 ∧ ∀ k, k < m → ∀ i, i < n → V2 (ad k) i = if k = r then V (ad k) i else fadd q (V (ad k) i) (fmul q (fneg q (V (ad k) p)) (V (ad r) i)) := by
  refine lp_inv0 (P := fun t s => s.1 = nI t ∧ ∃ V2, FH σ0 s.2 f q n m r m h ad V2 ∧ ∀ k, k < m → ∀ i, i < n → V2 (ad k) i = if k < t ∧ k ≠ r then fadd q (V (ad k) i) (fmul q (fneg q (V (ad k) p)) (V (ad r) i)) else V (ad k) i) (Q := fun s => ∃ V2, FH σ0 s f q n m r m h ad V2 ∧ ∀ k, k < m → ∀ i, i < n → V2 (ad k) i = if k = r then V (ad k) i else fadd q (V (ad k) i) (fmul q (fneg q (V (ad k) p)) (V (ad r) i))) m (by omega) ⟨rfl, V, F, fun k hk i hi => by rw [if_neg (by omega)]⟩ ?_ ?_
  · rintro t ⟨x, s⟩ ht ⟨e1, V2, F2, e3⟩
    dsimp only at e1 F2
    subst e1
    unfold f_X9_clears_b136
    dsimp only
    rw [F2.ga, Option.bind_some, F2.an, Option.bind_some, if_neg (nI_ge ht (by omega)), F2.gr, Option.bind_some]
    by_cases e : t = r
    · rw [if_pos (by rw [e]), nI_1]
      refine ⟨_, rfl, rfl, V2, F2, fun k hk i hi => ?_⟩
      rw [e3 k hk i hi]
      by_cases e4 : k < t ∧ k ≠ r
      · rw [if_pos e4, if_pos ⟨by omega, e4.2⟩]
      · rw [if_neg e4, if_neg (fun e5 => e4 ⟨by omega, e5.2⟩)]
    · have er : ∀ i, i < n → V2 (ad r) i = V (ad r) i := fun i hi => by rw [e3 r hr i hi, if_neg (fun e5 => e5.2 rfl)]
      have et : ∀ i, i < n → V2 (ad t) i = V (ad t) i := fun i hi => by rw [e3 t ht i hi, if_neg (by omega)]
      rw [if_neg (by rw [nI_eq (by omega) (by omega)]; exact e), Option.bind_some, F2.aq hm (Nat.le_refl _) ht, Option.bind_some, Option.bind_some, F2.aq hm (Nat.le_refl _) ht, Option.bind_some, Option.bind_some, F2.ai hn (had t ht) hp, Option.bind_some, Option.bind_some, F2.cc, Option.bind_some]
      obtain ⟨σ3, k1, k2⟩ := X9_takes (c := V2 (ad t) p) hN hq hn (had t ht) (had r hr) (fun e5 => e (hin t r ht hr e5)) (by rw [et p hp]; exact hV t ht p hp) F2 (fun i hi => by rw [et i hi]; exact hV t ht i hi) (fun i hi => by rw [er i hi]; exact hV r hr i hi)
      rw [k1, Option.bind_some, nI_1]
      refine ⟨_, rfl, rfl, _, k2, fun k hk i hi => ?_⟩
      unfold vset
      by_cases e4 : k = t
      · subst e4
        rw [if_pos rfl, if_pos ⟨by omega, e⟩]
        dsimp only
        rw [et i hi, et p hp, er i hi]
      · rw [if_neg (fun e5 => e4 (hin k t hk ht e5)), e3 k hk i hi]
        by_cases e6 : k < t ∧ k ≠ r
        · rw [if_pos e6, if_pos ⟨by omega, e6.2⟩]
        · rw [if_neg e6, if_neg (fun e5 => e6 ⟨by omega, e5.2⟩)]
  · rintro ⟨x, s⟩ ⟨e1, V2, F2, e3⟩
    dsimp only at e1 F2
    subst e1
    unfold f_X9_clears_b136
    dsimp only
    rw [F2.ga, Option.bind_some, F2.an, Option.bind_some, if_pos (nI_le (Nat.le_refl _) (by omega))]
    refine ⟨_, rfl, V2, F2, fun k hk i hi => ?_⟩
    rw [e3 k hk i hi]
    by_cases e : k = r
    · rw [if_neg (fun e5 => e5.2 e), if_pos e]
    · rw [if_pos ⟨hk, e⟩, if_neg e]
/-- a form, as far as the place p -/
def XF (σ0 σ : SG) (f q n m : Nat) (W : Nat → Nat → Nat) (p : Nat) : Prop := ∃ r h ad V, FH σ0 σ f q n m r m h ad V ∧ (∀ k, k < m → ad k < m) ∧ (∀ j k, j < m → k < m → ad j = ad k → j = k) ∧ Fo q n m W r h (fun k i => V (ad k) i) p
theorem rot_lt {r k j m : Nat} (hk : k < m) (hj : j < m) : rot r k j < m := by
  unfold rot
  split
  · exact hk
  · split <;> omega
theorem rot_cases (r k j : Nat) : (j = r ∧ rot r k j = k) ∨ (r < j ∧ j ≤ k ∧ rot r k j = j - 1) ∨ (j ≠ r ∧ ¬ (r < j ∧ j ≤ k) ∧ rot r k j = j) := by
  unfold rot
  by_cases e : j = r
  · exact Or.inl ⟨e, if_pos e⟩
  · by_cases e2 : r < j ∧ j ≤ k
    · exact Or.inr (Or.inl ⟨e2.1, e2.2, by rw [if_neg e, if_pos e2]⟩)
    · exact Or.inr (Or.inr ⟨e, e2, by rw [if_neg e, if_neg e2]⟩)
theorem rot_inj {r k i j : Nat} (hrk : r ≤ k) (h : rot r k i = rot r k j) : i = j := by
  rcases rot_cases r k i with ⟨a1, a2⟩ | ⟨a1, a2, a3⟩ | ⟨a1, a2, a3⟩ <;> rcases rot_cases r k j with ⟨b1, b2⟩ | ⟨b1, b2, b3⟩ | ⟨b1, b2, b3⟩ <;> omega
theorem Piv.turn {q n m r p k : Nat} {R R2 : Nat → Nat → Nat} (hrk : r ≤ k) (hk : k < m) (h1 : ∀ i, i < n → R2 r i = fmul q (finv q (R k p)) (R k i)) (h2 : ∀ j, j < m → j ≠ r → ∀ i, i < n → R2 j i = fadd q (R (rot r k j) i) (fmul q (fneg q (R (rot r k j) p)) (R2 r i))) : Piv q n m R r p k (fun j => rot r k j) R2 := by
  refine ⟨h1, fun j hj hjr => ⟨⟨rot_lt hk hj, ?_, ?_, ?_⟩, h2 j hj hjr⟩, fun j hj hjk => ?_⟩
  · intro e
    have e2 : rot r k j = rot r k r := e.trans (if_pos rfl).symm
    exact hjr (rot_inj hrk e2)
  · intro hlt
    show (if j = r then k else if r < j ∧ j ≤ k then j - 1 else j) = j
    rw [if_neg hjr, if_neg (by omega)]
  · intro hle
    show r ≤ (if j = r then k else if r < j ∧ j ≤ k then j - 1 else j)
    split
    · exact hrk
    · split <;> omega
  · by_cases e : r ≤ j ∧ j < k
    · refine ⟨j + 1, by omega, by omega, ?_⟩
      show (if j + 1 = r then k else if r < j + 1 ∧ j + 1 ≤ k then j + 1 - 1 else j + 1) = j
      rw [if_neg (by omega), if_pos (by omega)]
      omega
    · refine ⟨j, hj, by omega, ?_⟩
      show (if j = r then k else if r < j ∧ j ≤ k then j - 1 else j) = j
      rw [if_neg (by omega), if_neg (by omega)]
/-- one place of the clearing -/
theorem X9_clears {q n m p N f : Nat} {σ0 σ : SG} {W : Nat → Nat → Nat} (hN : 20 ≤ N) (hq : isQ q) (hn : n ≤ 12) (hm : m ≤ 12) (hp : p < n) (X : XF σ0 σ f q n m W p) : ∃ σ2, f_X9_clears N σ f (nI p) = some σ2 ∧ XF σ0 σ2 f q n m W (p + 1) := by
  obtain ⟨r, h, ad, V, F, had, hin, FF⟩ := X
  have hV : ∀ k, k < m → ∀ i, i < n → V (ad k) i < q := FF.1.1
  have hrm := FF.1.2.1
  have q5 := hq.2
  obtain ⟨k, k1, k2, k3, k4, k5⟩ := X9_find hN hq hn hm hrm hp F had hV
  unfold f_X9_clears
  rw [F.gr, Option.bind_some, k3, Option.bind_some]
  unfold f_X9_clears_j31
  rw [F.ga, Option.bind_some, F.an, Option.bind_some]
  by_cases hkm : k = m
  · rw [if_neg (nI_nlt (by omega) (by omega))]
    exact ⟨σ, rfl, r, h, ad, V, F, had, hin, FF.skip (k5 hkm)⟩
  · have hk : k < m := by omega
    have hr : r < m := by omega
    have d0 := k4 hk
    have dl := hV k hk p hp
    have il := finv_lt hq dl
    rw [if_pos (nI_lt hk (by omega)), Option.bind_some, F.aq hm (Nat.le_refl _) hk, Option.bind_some]
    obtain ⟨σ1, σ2, a1, a2, a3, a4, F2⟩ := X9_rotate (p := nI p) (c := some (f + 3 + ad k)) hN hm k1 hk F had
    rw [a1, Option.bind_some, a2, Option.bind_some, a3, Option.bind_some, a4, Option.bind_some, F2.gq, Option.bind_some, Option.bind_some, F2.ai hn (had k hk) hp, Option.bind_some, X1_inverse hN hq dl d0, Option.bind_some]
    obtain ⟨σ3, b1, F3⟩ := X9_scale (p := nI p) hN hq hn (had k hk) il F2 (fun i hi => hV k hk i hi)
    rw [b1, Option.bind_some]
    have rr : rot r k r = k := if_pos rfl
    have had2 : ∀ j, j < m → ad (rot r k j) < m := fun j hj => had _ (rot_lt hk hj)
    have hin2 : ∀ i j, i < m → j < m → ad (rot r k i) = ad (rot r k j) → i = j := fun i j hi hj e => rot_inj k1 (hin _ _ (rot_lt hk hi) (rot_lt hk hj) e)
    -- the letters after the scaling
    have hv3r : ∀ i, vset V (ad k) (fun i => fmul q (finv q (V (ad k) p)) (V (ad k) i)) (ad k) i = fmul q (finv q (V (ad k) p)) (V (ad k) i) := fun i => if_pos rfl
    have hv3j : ∀ j, j < m → j ≠ r → ∀ i, vset V (ad k) (fun i => fmul q (finv q (V (ad k) p)) (V (ad k) i)) (ad (rot r k j)) i = V (ad (rot r k j)) i := fun j hj hjr i => if_neg (fun e => hjr (hin2 j r hj hr (by rw [rr]; exact e)))
    have hV3 : ∀ j, j < m → ∀ i, i < n → vset V (ad k) (fun i => fmul q (finv q (V (ad k) p)) (V (ad k) i)) (ad (rot r k j)) i < q := fun j hj i hi => by
      by_cases e : j = r
      · rw [e, rr, hv3r]; exact fmul_lt hq il (hV k hk i hi)
      · rw [hv3j j hj e]; exact hV _ (rot_lt hk hj) i hi
    obtain ⟨σ4, c1, V2, F4, c2⟩ := X9_rows hN hq hn hm hr hp F3 had2 hin2 hV3
    try dsimp only at c1 c2
    rw [rr] at c1 c2
    rw [c1, Option.bind_some, F4.gh, Option.bind_some, F4.gr, Option.bind_some]
    obtain ⟨⟨e1, e2⟩, e3, ⟨g, e4, e5⟩, ⟨hh, e6, e7⟩, e8⟩ := F4
    rw [wI_of e6 hr (by omega), Option.bind_some]
    have e3' : (uC σ4 (f + 2) (eI m (upd hh r (nI p)))).2 f = some (eO 7 [.int (nI q), .int (nI n), .ref (f + 1), .ref (f + 2), .int (nI r)]) := by rw [uC_n (by omega)]; exact e3
    rw [gI_of e3' (by decide) rfl, Option.bind_some, pV_of e3' (by decide) (show 4 < 5 by decide), Option.bind_some, nI_1]
    refine ⟨_, rfl, r + 1, hset h r p, fun j => ad (rot r k j), V2, ⟨⟨e1, fun a ha => ?_⟩, uC_s _ _ _, ⟨g, ?_, e5⟩, ⟨upd hh r (nI p), ?_, fun j hj => ?_⟩, fun j hj => ?_⟩, had2, hin2, ?_⟩
    · rw [uC_n (by omega), uC_n (by omega)]; exact e2 a ha
    · rw [uC_n (by omega), uC_n (by omega)]; exact e4
    · rw [uC_n (by omega)]; exact uC_s _ _ _
    · unfold hset
      by_cases e : j = r
      · rw [e, up_s', if_pos rfl]
      · rw [up_n' e, if_neg e, e7 j (by omega)]
    · rw [uC_n (by omega), uC_n (by omega)]
      exact e8 j hj
    · refine FF.piv hq hp k1 hk d0 (Piv.turn k1 hk (fun i hi => ?_) (fun j hj hjr i hi => ?_))
      · dsimp only
        rw [c2 r hr i hi, if_pos rfl, rr, hv3r]
      · dsimp only
        rw [c2 j hj i hi, if_neg hjr, c2 r hr i hi, if_pos rfl, rr, hv3r, hv3j j hj hjr, hv3j j hj hjr]
