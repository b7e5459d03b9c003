/-! ===== PURE R2: one step of the clearing ===== -/
set_option maxRecDepth 100000
theorem fa_back {q a c x : Nat} (hq : isQ q) (ha : a < q) (hc : c < q) (hx : x < q) : fadd q (fadd q a (fmul q (fneg q c) x)) (fmul q c x) = a := (by decide +kernel : ∀ q, q < 6 → 2 ≤ q → ∀ a, a < q → ∀ c, c < q → ∀ x, x < q → fadd q (fadd q a (fmul q (fneg q c) x)) (fmul q c x) = a) q hq.lt hq.1 a ha c hc x hx
theorem fm_back {q a x : Nat} (hq : isQ q) (ha : a < q) (h0 : a ≠ 0) (hx : x < q) : fmul q a (fmul q (finv q a) x) = x := (by decide +kernel : ∀ q, q < 6 → 2 ≤ q → ∀ a, a < q → a ≠ 0 → ∀ x, x < q → fmul q a (fmul q (finv q a) x) = x) q hq.lt hq.1 a ha h0 x hx
theorem Rf.start {q n m : Nat} {R : Nat → Nat → Nat} (h : Nat → Nat) (hR : okR q n m R) : Rf q n m R 0 h 0 :=
  ⟨hR, Nat.zero_le _, fun k hk => absurd hk (by omega), fun j k _ hk => absurd hk (by omega), fun k hk => absurd hk (by omega), fun j k _ hk => absurd hk (by omega), fun k hk => absurd hk (by omega), fun j _ _ i hi => absurd hi (by omega)⟩
theorem Rf.skip {q n m r p : Nat} {R : Nat → Nat → Nat} {h : Nat → Nat} (F : Rf q n m R r h p) (hz : ∀ k, r ≤ k → k < m → R k p = 0) : Rf q n m R r h (p + 1) := by
  obtain ⟨hR, hr, hn, hmono, h1, h0, hl, hzz⟩ := F
  refine ⟨hR, hr, fun k hk => by have := hn k hk; omega, hmono, h1, h0, hl, fun j j1 j2 i hi => ?_⟩
  by_cases e : i = p
  · subst e; exact hz j j1 j2
  · exact hzz j j1 j2 i (by omega)
/-- the heads with one more -/
def hset (h : Nat → Nat) (r p : Nat) : Nat → Nat := fun k => if k = r then p else h k
/-- R2 comes out of R by the pivot k at the place p -/
def Piv (q n m : Nat) (R : Nat → Nat → Nat) (r p k : Nat) (s : Nat → Nat) (R2 : Nat → Nat → Nat) : Prop :=
  (∀ i, i < n → R2 r i = fmul q (finv q (R k p)) (R k i)) ∧ (∀ j, j < m → j ≠ r → (s j < m ∧ s j ≠ k ∧ (j < r → s j = j) ∧ (r ≤ j → r ≤ s j)) ∧ ∀ i, i < n → R2 j i = fadd q (R (s j) i) (fmul q (fneg q (R (s j) p)) (R2 r i))) ∧ (∀ j, j < m → j ≠ k → ∃ j2, j2 < m ∧ j2 ≠ r ∧ s j2 = j)
theorem Piv.ok {q n m r p k : Nat} {R R2 : Nat → Nat → Nat} {s : Nat → Nat} (hq : isQ q) (hR : okR q n m R) (hp : p < n) (hk : k < m) (P : Piv q n m R r p k s R2) : okR q n m R2 := by
  obtain ⟨P1, P2, -⟩ := P
  have h1 : ∀ i, i < n → R2 r i < q := fun i hi => by
    rw [P1 i hi]
    exact fmul_lt hq (finv_lt hq (hR k hk p hp)) (hR k hk i hi)
  intro j hj i hi
  by_cases e : j = r
  · subst e; exact h1 i hi
  · obtain ⟨⟨a1, -⟩, a2⟩ := P2 j hj e
    rw [a2 i hi]
    exact fadd_lt hq (hR _ a1 i hi) (fmul_lt hq (fneg_lt hq (hR _ a1 p hp)) (h1 i hi))
theorem Piv.rf {q n m r p k : Nat} {R R2 : Nat → Nat → Nat} {s h : Nat → Nat} (hq : isQ q) (F : Rf q n m R r h p) (hp : p < n) (hrk : r ≤ k) (hk : k < m) (hkp : R k p ≠ 0) (P : Piv q n m R r p k s R2) : Rf q n m R2 (r + 1) (hset h r p) (p + 1) := by
  have hok := P.ok hq F.1 hp hk
  obtain ⟨hR, hr, hn, hmono, h1, h0, hl, hz⟩ := F
  obtain ⟨P1, P2, -⟩ := P
  have q2 := hq.1
  have kp := hR k hk p hp
  have iv := finv_lt hq kp
  -- the pivot's own row
  have rp : R2 r p = 1 := by rw [P1 p hp, finv_mul hq kp hkp]
  have rb : ∀ i, i < p → R2 r i = 0 := fun i hi => by rw [P1 i (by omega), hz k hrk hk i hi, fmul_0 hq iv]
  -- the other rows
  have jp : ∀ j, j < m → j ≠ r → R2 j p = 0 := fun j hj e => by
    obtain ⟨⟨a1, -⟩, a2⟩ := P2 j hj e
    have sp := hR _ a1 p hp
    rw [a2 p hp, rp, fmul_1 hq (fneg_lt hq sp), fneg_add hq sp]
  have jb : ∀ j, j < m → j ≠ r → ∀ i, i < p → R2 j i = R (s j) i := fun j hj e i hi => by
    obtain ⟨⟨a1, -⟩, a2⟩ := P2 j hj e
    rw [a2 i (by omega), rb i hi, fmul_0 hq (fneg_lt hq (hR _ a1 p hp)), fadd_0 hq (hR _ a1 i (by omega))]
  have hs1 : hset h r p r = p := if_pos rfl
  have hs2 : ∀ k, k < r → hset h r p k = h k := fun k hk => if_neg (by omega)
  refine ⟨hok, by omega, ?_, ?_, ?_, ?_, ?_, ?_⟩
  · intro a ha
    by_cases e : a = r
    · subst e; rw [hs1]; omega
    · rw [hs2 a (by omega)]
      have := hn a (by omega)
      omega
  · intro a b hab hb
    rw [hs2 a (by omega)]
    by_cases e : b = r
    · subst e; rw [hs1]; exact hn a hab
    · rw [hs2 b (by omega)]; exact hmono a b hab (by omega)
  · intro a ha
    by_cases e : a = r
    · subst e; rw [hs1]; exact rp
    · have har : a < r := by omega
      rw [hs2 a har, jb a (by omega) e (h a) (hn a har), ((P2 a (by omega) e).1.2.2.1 har)]
      exact h1 a har
  · intro j a hj ha hja
    by_cases e : a = r
    · subst e; rw [hs1]; exact jp j hj hja
    · have har : a < r := by omega
      rw [hs2 a har]
      by_cases ej : j = r
      · subst ej; exact rb _ (hn a har)
      · obtain ⟨⟨b1, b2, b3, b4⟩, -⟩ := P2 j hj ej
        rw [jb j hj ej (h a) (hn a har)]
        refine h0 _ a b1 har ?_
        by_cases hjr : j < r
        · rw [b3 hjr]; exact hja
        · have := b4 (by omega)
          omega
  · intro a ha i hi
    by_cases e : a = r
    · subst e; rw [hs1] at hi; exact rb i hi
    · have har : a < r := by omega
      rw [hs2 a har] at hi
      have := hn a har
      rw [jb a (by omega) e i (by omega), (P2 a (by omega) e).1.2.2.1 har]
      exact hl a har i hi
  · intro j j1 j2 i hi
    have ej : j ≠ r := by omega
    by_cases e : i = p
    · subst e; exact jp j j2 ej
    · obtain ⟨⟨b1, b2, b3, b4⟩, -⟩ := P2 j j2 ej
      rw [jb j j2 ej i (by omega)]
      exact hz _ (b4 (by omega)) b1 i (by omega)
theorem Piv.sp {q n m r p k : Nat} {R R2 : Nat → Nat → Nat} {s : Nat → Nat} (hq : isQ q) (hR : okR q n m R) (hp : p < n) (hrm : r < m) (hk : k < m) (hkp : R k p ≠ 0) (P : Piv q n m R r p k s R2) (v : Nat → Nat) : Sp q n m R2 v ↔ Sp q n m R v := by
  have hok := P.ok hq hR hp hk
  obtain ⟨P1, P2, P3⟩ := P
  have kp := hR k hk p hp
  have iv := finv_lt hq kp
  have hr2 : Sp q n m R (R2 r) := ((Sp.row hq hR hk).smul hq hR iv).congr P1
  constructor
  · refine Sp.le hq hR (fun j hj => ?_)
    by_cases e : j = r
    · subst e; exact hr2
    · obtain ⟨⟨a1, -⟩, a2⟩ := P2 j hj e
      exact ((Sp.row hq hR a1).add hq hR (hr2.smul hq hR (fneg_lt hq (hR _ a1 p hp)))).congr a2
  · refine Sp.le hq hok (fun j hj => ?_)
    have hrow : Sp q n m R2 (R2 r) := Sp.row hq hok hrm
    by_cases e : j = k
    · subst e
      exact (hrow.smul hq hok kp).congr (fun i hi => by rw [P1 i hi, fm_back hq kp hkp (hR j hk i hi)])
    · obtain ⟨j2, b1, b2, rfl⟩ := P3 j hj e
      obtain ⟨⟨a1, -⟩, a2⟩ := P2 j2 b1 b2
      refine ((Sp.row hq hok b1).add hq hok (hrow.smul hq hok (hR _ a1 p hp))).congr (fun i hi => ?_)
      rw [a2 i hi, fa_back hq (hR _ a1 i hi) (hR _ a1 p hp) (hok r hrm i hi)]
