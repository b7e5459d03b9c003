/-! ===== PURE R1: rows, what they span, reduced forms; a span has one reduced form ===== -/
set_option maxRecDepth 100000
theorem fs_add {q : Nat} (hq : isQ q) {s t : Nat → Nat} : ∀ m, (∀ k, k < m → s k < q) → (∀ k, k < m → t k < q) → fs q (fun k => fadd q (s k) (t k)) m = fadd q (fs q s m) (fs q t m)
  | 0, _, _ => by
    have h0 : 0 < q := by have := hq.1; omega
    simp only [fs]
    rw [fadd_0 hq h0]
  | m + 1, hs, ht => by
    have a1 := fs_lt hq m (fun k hk => hs k (by omega))
    have a2 := fs_lt hq m (fun k hk => ht k (by omega))
    have b1 := hs m (by omega)
    have b2 := ht m (by omega)
    simp only [fs]
    rw [fs_add hq m (fun k hk => hs k (by omega)) (fun k hk => ht k (by omega))]
    rw [fadd_assoc hq a1 a2 (fadd_lt hq b1 b2), fadd_assoc hq a1 b1 (fadd_lt hq a2 b2), ← fadd_assoc hq a2 b1 b2, fadd_comm hq a2 b1, fadd_assoc hq b1 a2 b2]
theorem fs_mul {q : Nat} (hq : isQ q) {c : Nat} (hc : c < q) {t : Nat → Nat} : ∀ m, (∀ k, k < m → t k < q) → fs q (fun k => fmul q c (t k)) m = fmul q c (fs q t m)
  | 0, _ => by simp only [fs]; rw [fmul_0 hq hc]
  | m + 1, ht => by
    simp only [fs]
    rw [fs_mul hq hc m (fun k hk => ht k (by omega)), fmul_add hq hc (fs_lt hq m (fun k hk => ht k (by omega))) (ht m (by omega))]
theorem fs_zero {q : Nat} (hq : isQ q) {t : Nat → Nat} : ∀ m, (∀ k, k < m → t k = 0) → fs q t m = 0
  | 0, _ => rfl
  | m + 1, h => by
    have h0 : 0 < q := by have := hq.1; omega
    simp only [fs]
    rw [fs_zero hq m (fun k hk => h k (by omega)), h m (by omega), fadd_0 hq h0]
/-- one term alone -/
theorem fs_one {q : Nat} (hq : isQ q) {t : Nat → Nat} {k : Nat} (hk : t k < q) : ∀ m, k < m → (∀ j, j < m → j ≠ k → t j = 0) → fs q t m = t k
  | 0, h, _ => by omega
  | m + 1, h, hz => by
    have h0 : 0 < q := by have := hq.1; omega
    simp only [fs]
    by_cases hkm : k = m
    · subst hkm
      rw [fs_zero hq k (fun j hj => hz j (by omega) (by omega)), fadd_0l hq hk]
    · rw [fs_one hq hk m (by omega) (fun j hj hn => hz j (by omega) hn), hz m (by omega) (fun e => hkm e.symm), fadd_0 hq hk]
/-- the last terms are nought -/
theorem fs_cut {q : Nat} (hq : isQ q) {t : Nat → Nat} {r : Nat} : ∀ m, r ≤ m → (∀ k, k < m → t k < q) → (∀ j, r ≤ j → j < m → t j = 0) → fs q t m = fs q t r
  | 0, h, _, _ => by
    have : r = 0 := by omega
    subst this
    rfl
  | m + 1, h, hl, hz => by
    by_cases hr : r = m + 1
    · subst hr; rfl
    · simp only [fs]
      rw [fs_cut hq m (by omega) (fun k hk => hl k (by omega)) (fun j h1 h2 => hz j h1 (by omega)), hz m (by omega) (by omega), fadd_0 hq (fs_lt hq r (fun k hk => hl k (by omega)))]
/-- rows of letters -/
def okR (q n m : Nat) (R : Nat → Nat → Nat) : Prop := ∀ k, k < m → ∀ i, i < n → R k i < q
/-- v is a sum of multiples of the rows -/
def Sp (q n m : Nat) (R : Nat → Nat → Nat) (v : Nat → Nat) : Prop := ∃ c : Nat → Nat, (∀ k, k < m → c k < q) ∧ ∀ i, i < n → v i = fs q (fun k => fmul q (c k) (R k i)) m
theorem Sp.congr {q n m : Nat} {R : Nat → Nat → Nat} {v w : Nat → Nat} (h : Sp q n m R v) (e : ∀ i, i < n → w i = v i) : Sp q n m R w := by
  obtain ⟨c, h1, h2⟩ := h
  exact ⟨c, h1, fun i hi => (e i hi).trans (h2 i hi)⟩
theorem Sp.lt {q n m : Nat} {R : Nat → Nat → Nat} {v : Nat → Nat} (hq : isQ q) (hR : okR q n m R) (h : Sp q n m R v) : ∀ i, i < n → v i < q := by
  obtain ⟨c, h1, h2⟩ := h
  intro i hi
  rw [h2 i hi]
  exact fs_lt hq m (fun k hk => fmul_lt hq (h1 k hk) (hR k hk i hi))
theorem Sp.zero {q n m : Nat} {R : Nat → Nat → Nat} (hq : isQ q) (hR : okR q n m R) : Sp q n m R (fun _ => 0) := by
  have h0 : 0 < q := by have := hq.1; omega
  exact ⟨fun _ => 0, fun _ _ => h0, fun i hi => (fs_zero hq m (fun k hk => fmul_0l hq (hR k hk i hi))).symm⟩
theorem Sp.add {q n m : Nat} {R : Nat → Nat → Nat} {v w : Nat → Nat} (hq : isQ q) (hR : okR q n m R) (hv : Sp q n m R v) (hw : Sp q n m R w) : Sp q n m R (fun i => fadd q (v i) (w i)) := by
  obtain ⟨c, h1, h2⟩ := hv
  obtain ⟨d, h3, h4⟩ := hw
  refine ⟨fun k => fadd q (c k) (d k), fun k hk => fadd_lt hq (h1 k hk) (h3 k hk), fun i hi => ?_⟩
  show fadd q (v i) (w i) = fs q (fun k => fmul q (fadd q (c k) (d k)) (R k i)) m
  rw [h2 i hi, h4 i hi, ← fs_add hq m (fun k hk => fmul_lt hq (h1 k hk) (hR k hk i hi)) (fun k hk => fmul_lt hq (h3 k hk) (hR k hk i hi))]
  refine fs_congr (fun k hk => ?_)
  have r := hR k hk i hi
  rw [fmul_comm hq (fadd_lt hq (h1 k hk) (h3 k hk)) r, fmul_add hq r (h1 k hk) (h3 k hk), fmul_comm hq r (h1 k hk), fmul_comm hq r (h3 k hk)]
theorem Sp.smul {q n m : Nat} {R : Nat → Nat → Nat} {v : Nat → Nat} (hq : isQ q) (hR : okR q n m R) {a : Nat} (ha : a < q) (hv : Sp q n m R v) : Sp q n m R (fun i => fmul q a (v i)) := by
  obtain ⟨c, h1, h2⟩ := hv
  refine ⟨fun k => fmul q a (c k), fun k hk => fmul_lt hq ha (h1 k hk), fun i hi => ?_⟩
  show fmul q a (v i) = fs q (fun k => fmul q (fmul q a (c k)) (R k i)) m
  rw [h2 i hi, ← fs_mul hq ha m (fun k hk => fmul_lt hq (h1 k hk) (hR k hk i hi))]
  exact fs_congr (fun k hk => (fmul_assoc hq ha (h1 k hk) (hR k hk i hi)).symm)
theorem Sp.row {q n m : Nat} {R : Nat → Nat → Nat} (hq : isQ q) (hR : okR q n m R) {k : Nat} (hk : k < m) : Sp q n m R (R k) := by
  have q2 := hq.1
  refine ⟨fun j => if j = k then 1 else 0, fun j _ => by dsimp only; split <;> omega, fun i hi => ?_⟩
  have r := hR k hk i hi
  rw [fs_one hq (k := k) (by dsimp only; rw [if_pos rfl, fmul_1l hq r]; exact r) m hk (fun j hj hn => by dsimp only; rw [if_neg hn, fmul_0l hq (hR j hj i hi)])]
  dsimp only
  rw [if_pos rfl, fmul_1l hq r]
/-- rows out of a span span no more -/
theorem Sp.le {q n m m2 : Nat} {R R2 : Nat → Nat → Nat} {v : Nat → Nat} (hq : isQ q) (hR : okR q n m R) (h : ∀ j, j < m2 → Sp q n m R (R2 j)) (hv : Sp q n m2 R2 v) : Sp q n m R v := by
  obtain ⟨c, h1, h2⟩ := hv
  have key : ∀ k, k ≤ m2 → Sp q n m R (fun i => fs q (fun j => fmul q (c j) (R2 j i)) k) := by
    intro k
    induction k with
    | zero => intro _; exact Sp.zero hq hR
    | succ k ih =>
      intro hk
      exact (ih (by omega)).add hq hR ((h k (by omega)).smul hq hR (h1 k (by omega)))
  exact (key m2 (Nat.le_refl _)).congr h2
/-- a reduced form, as far as the place p: r rows with heads h, the others nought there -/
def Rf (q n m : Nat) (R : Nat → Nat → Nat) (r : Nat) (h : Nat → Nat) (p : Nat) : Prop :=
  okR q n m R ∧ r ≤ m ∧ (∀ k, k < r → h k < p) ∧ (∀ j k, j < k → k < r → h j < h k) ∧ (∀ k, k < r → R k (h k) = 1) ∧ (∀ j k, j < m → k < r → j ≠ k → R j (h k) = 0) ∧ (∀ k, k < r → ∀ i, i < h k → R k i = 0) ∧ (∀ j, r ≤ j → j < m → ∀ i, i < p → R j i = 0)
/-- what is spanned is known by its values at the heads -/
theorem Rf.by {q n m r : Nat} {R : Nat → Nat → Nat} {h v : Nat → Nat} (hq : isQ q) (F : Rf q n m R r h n) (hv : Sp q n m R v) : ∀ i, i < n → v i = fs q (fun k => fmul q (v (h k)) (R k i)) r := by
  obtain ⟨hR, hr, hn, hmono, h1, h0, hl, hz⟩ := F
  obtain ⟨c, c1, c2⟩ := hv
  have q2 := hq.1
  have hc : ∀ k, k < r → v (h k) = c k := by
    intro k hk
    have hkn := hn k hk
    have hck := c1 k (by omega)
    rw [c2 (h k) hkn, fs_one hq (k := k) (by (try dsimp only); rw [h1 k hk, fmul_1 hq hck]; exact hck) m (by omega) (fun j hj hne => by (try dsimp only); rw [h0 j k hj hk hne, fmul_0 hq (c1 j hj)])]
    try dsimp only
    rw [h1 k hk, fmul_1 hq hck]
  intro i hi
  rw [c2 i hi, fs_cut hq m hr (fun k hk => fmul_lt hq (c1 k hk) (hR k hk i hi)) (fun j j1 j2 => by (try dsimp only); rw [hz j j1 j2 i hi, fmul_0 hq (c1 j j2)])]
  exact fs_congr (fun k hk => by rw [hc k hk])
/-- where something spanned begins, there is a head -/
theorem Rf.lead {q n m r : Nat} {R : Nat → Nat → Nat} {h v : Nat → Nat} (hq : isQ q) (F : Rf q n m R r h n) (hv : Sp q n m R v) {p : Nat} (hp : p < n) (hvp : v p ≠ 0) (hbef : ∀ i, i < p → v i = 0) : ∃ k, k < r ∧ h k = p := by
  have hby := F.by hq hv
  obtain ⟨hR, hr, hn, hmono, h1, h0, hl, hz⟩ := F
  have hvl := hv.lt hq hR
  -- some head has a value
  have hex : ∃ k, k < r ∧ v (h k) ≠ 0 := by
    apply Classical.byContradiction
    intro hno
    apply hvp
    rw [hby p hp]
    refine fs_zero hq r (fun k hk => ?_)
    have : v (h k) = 0 := Classical.byContradiction fun hne => hno ⟨k, hk, hne⟩
    rw [this, fmul_0l hq (hR k (by omega) p hp)]
  obtain ⟨k, ⟨hk, hvk⟩, hleast⟩ := pk_least (fun k => k < r ∧ v (h k) ≠ 0) hex
  refine ⟨k, hk, ?_⟩
  rcases Nat.lt_trichotomy (h k) p with hlt | heq | hgt
  · exact absurd (hbef (h k) hlt) hvk
  · exact heq
  · exfalso
    apply hvp
    rw [hby p hp]
    refine fs_zero hq r (fun j hj => ?_)
    by_cases hjk : j < k
    · have : v (h j) = 0 := Classical.byContradiction fun hne => hleast j hjk ⟨hj, hne⟩
      rw [this, fmul_0l hq (hR j (by omega) p hp)]
    · have hge : h k ≤ h j := by
        by_cases e : j = k
        · rw [e]; exact Nat.le_refl _
        · exact Nat.le_of_lt (hmono k j (by omega) hj)
      rw [hl j hj p (by omega), fmul_0 hq (hvl (h j) (hn j hj))]
theorem Rf.head_in {q n m r m2 r2 : Nat} {R R2 : Nat → Nat → Nat} {h h2 : Nat → Nat} (hq : isQ q) (F : Rf q n m R r h n) (F2 : Rf q n m2 R2 r2 h2 n) (hs : ∀ v, Sp q n m R v → Sp q n m2 R2 v) {k : Nat} (hk : k < r) : ∃ j, j < r2 ∧ h2 j = h k := by
  obtain ⟨hR, hr, hn, hmono, h1, h0, hl, hz⟩ := F
  exact F2.lead hq (hs _ (Sp.row hq hR (k := k) (by omega))) (hn k hk) (by rw [h1 k hk]; decide) (hl k hk)
/-- ONE REDUCED FORM -/
theorem Rf.unique {q n m r m2 r2 : Nat} {R R2 : Nat → Nat → Nat} {h h2 : Nat → Nat} (hq : isQ q) (F : Rf q n m R r h n) (F2 : Rf q n m2 R2 r2 h2 n) (hs : ∀ v, Sp q n m R v → Sp q n m2 R2 v) (hs2 : ∀ v, Sp q n m2 R2 v → Sp q n m R v) : r = r2 ∧ (∀ k, k < r → h k = h2 k) ∧ ∀ k, k < r → ∀ i, i < n → R k i = R2 k i := by
  have a1 : ∀ k, k < r → ∃ j, j < r2 ∧ h2 j = h k := fun k hk => F.head_in hq F2 hs hk
  have a2 : ∀ k, k < r2 → ∃ j, j < r ∧ h j = h2 k := fun k hk => F2.head_in hq F hs2 hk
  have m1 := F.2.2.2.1
  have m2' := F2.2.2.2.1
  have key : ∀ k, (k < r → k < r2 ∧ h k = h2 k) ∧ (k < r2 → k < r ∧ h k = h2 k) := by
    intro k
    induction k using Nat.strongRecOn with
    | _ k ih =>
      refine ⟨fun hk => ?_, fun hk => ?_⟩
      · obtain ⟨j, hj, ej⟩ := a1 k hk
        have hjk : k ≤ j := Nat.not_lt.mp fun hlt => by
          have := (ih j hlt).2 hj
          have := m1 j k hlt hk
          omega
        have hk2 : k < r2 := by omega
        obtain ⟨i, hi, ei⟩ := a2 k hk2
        have hik : k ≤ i := Nat.not_lt.mp fun hlt => by
          have := (ih i hlt).1 hi
          have := m2' i k hlt hk2
          omega
        refine ⟨hk2, ?_⟩
        have b1 : h k ≤ h i := by
          by_cases e : k = i
          · rw [e]; exact Nat.le_refl _
          · exact Nat.le_of_lt (m1 k i (by omega) hi)
        have b2 : h2 k ≤ h2 j := by
          by_cases e : k = j
          · rw [e]; exact Nat.le_refl _
          · exact Nat.le_of_lt (m2' k j (by omega) hj)
        omega
      · obtain ⟨j, hj, ej⟩ := a2 k hk
        have hjk : k ≤ j := Nat.not_lt.mp fun hlt => by
          have := (ih j hlt).1 hj
          have := m2' j k hlt hk
          omega
        have hk1 : k < r := by omega
        obtain ⟨i, hi, ei⟩ := a1 k hk1
        have hik : k ≤ i := Nat.not_lt.mp fun hlt => by
          have := (ih i hlt).2 hi
          have := m1 i k hlt hk1
          omega
        refine ⟨hk1, ?_⟩
        have b1 : h2 k ≤ h2 i := by
          by_cases e : k = i
          · rw [e]; exact Nat.le_refl _
          · exact Nat.le_of_lt (m2' k i (by omega) hi)
        have b2 : h k ≤ h j := by
          by_cases e : k = j
          · rw [e]; exact Nat.le_refl _
          · exact Nat.le_of_lt (m1 k j (by omega) hj)
        omega
  have hrr : r = r2 := by
    rcases Nat.lt_trichotomy r r2 with hlt | heq | hgt
    · have := ((key r).2 hlt).1; omega
    · exact heq
    · have := ((key r2).1 hgt).1; omega
  refine ⟨hrr, fun k hk => ((key k).1 hk).2, fun k hk i hi => ?_⟩
  obtain ⟨hR, hr, hn, hmono, h1, h0, hl, hz⟩ := F
  rw [F2.by hq (hs _ (Sp.row hq hR (k := k) (by omega))) i hi]
  obtain ⟨hR2, hr2, -⟩ := F2
  have r2i := hR2 k (by omega) i hi
  have ek : ∀ j, j < r2 → R k (h2 j) = R k (h j) := fun j hj => by rw [((key j).2 hj).2]
  rw [fs_one hq (k := k) (by (try dsimp only); rw [ek k (by omega), h1 k hk, fmul_1l hq r2i]; exact r2i) r2 (by omega) (fun j hj hne => by (try dsimp only); rw [ek j hj, h0 k j (by omega) (by omega) (fun e => hne e.symm), fmul_0l hq (hR2 j (by omega) i hi)])]
  try dsimp only
  rw [ek k (by omega), h1 k hk, fmul_1l hq r2i]
