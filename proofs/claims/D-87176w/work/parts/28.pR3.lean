/-! ===== PURE R3: the reduced form of words; the model's 'clear' ===== -/
set_option maxRecDepth 100000
/-- a loop by an invariant -/
theorem lp_inv {σ ρ : Type} {body : σ → Option (σ ⊕ ρ)} (P : Nat → σ → Prop) (Q : ρ → Prop) (b : Nat) (step : ∀ i s, i < b → P i s → ∃ s', body s = some (.inl s') ∧ P (i + 1) s') (fin : ∀ s, P b s → ∃ r, body s = some (.inr r) ∧ Q r) : ∀ (k a N : Nat) (s : σ), a + k = b → k < N → P a s → ∃ r, lp body N s = some r ∧ Q r
  | 0, a, N, s, h, hN, hp => by
    obtain ⟨m, rfl⟩ : ∃ m, N = m + 1 := ⟨N - 1, by omega⟩
    have hab : a = b := by omega
    subst hab
    obtain ⟨r, h1, h2⟩ := fin s hp
    exact ⟨r, by simp only [lp, h1], h2⟩
  | k + 1, a, N, s, h, hN, hp => by
    obtain ⟨m, rfl⟩ : ∃ m, N = m + 1 := ⟨N - 1, by omega⟩
    obtain ⟨s', h1, h2⟩ := step a s (by omega) hp
    obtain ⟨r, h3, h4⟩ := lp_inv P Q b step fin k (a + 1) m s' (by omega) (by omega) h2
    exact ⟨r, by simp only [lp, h1]; exact h3, h4⟩
theorem lp_inv0 {σ ρ : Type} {body : σ → Option (σ ⊕ ρ)} (P : Nat → σ → Prop) (Q : ρ → Prop) (b : Nat) {N : Nat} {s : σ} (hN : b < N) (h0 : P 0 s) (step : ∀ i s, i < b → P i s → ∃ s', body s = some (.inl s') ∧ P (i + 1) s') (fin : ∀ s, P b s → ∃ r, body s = some (.inr r) ∧ Q r) : ∃ r, lp body N s = some r ∧ Q r :=
  lp_inv P Q b step fin b 0 N s (by omega) hN h0
/-! rows of words -/
def wR (q n : Nat) (w : Nat → Nat) : Nat → Nat → Nat := fun k i => dg q n (w k) i
theorem wR_ok {q n m : Nat} {w : Nat → Nat} (hq : isQ q) : okR q n m (wR q n w) := fun _ _ _ _ => dg_lt hq _ _ _
theorem dg_wsum {q n a b c i : Nat} (hq : isQ q) (hc : c < q) (hi : i < n) : dg q n (wsum q n a b c) i = fadd q (dg q n a i) (fmul q c (dg q n b i)) := by
  rw [dg_ld, ld_wsum hq hc (by omega)]
  rfl
theorem dg_0 {q n i : Nat} : dg q n 0 i = 0 := by
  unfold dg
  rw [Nat.zero_div, Nat.zero_mod]
theorem dg_inj {q n a b : Nat} (hq : isQ q) (ha : a < q ^ n) (hb : b < q ^ n) (h : ∀ i, i < n → dg q n a i = dg q n b i) : a = b := by
  refine wl_inj (by have := hq.1; omega) ha hb (fun j hj => ?_)
  have := h (n - 1 - j) (by omega)
  unfold dg at this
  rw [show n - 1 - (n - 1 - j) = j by omega] at this
  exact this
/-- R with rank r and heads h is the reduced form of the rows W -/
def Fo (q n m : Nat) (W : Nat → Nat → Nat) (r : Nat) (h : Nat → Nat) (R : Nat → Nat → Nat) (p : Nat) : Prop := Rf q n m R r h p ∧ ∀ v, Sp q n m R v ↔ Sp q n m W v
theorem Fo.start {q n m : Nat} {W : Nat → Nat → Nat} (h : Nat → Nat) (hW : okR q n m W) : Fo q n m W 0 h W 0 := ⟨Rf.start h hW, fun _ => Iff.rfl⟩
theorem Fo.skip {q n m r p : Nat} {W R : Nat → Nat → Nat} {h : Nat → Nat} (F : Fo q n m W r h R p) (hz : ∀ k, r ≤ k → k < m → R k p = 0) : Fo q n m W r h R (p + 1) := ⟨F.1.skip hz, F.2⟩
theorem Fo.piv {q n m r p k : Nat} {W R R2 : Nat → Nat → Nat} {s h : Nat → Nat} (hq : isQ q) (F : Fo q n m W r h R p) (hp : p < n) (hrk : r ≤ k) (hk : k < m) (hkp : R k p ≠ 0) (P : Piv q n m R r p k s R2) : Fo q n m W (r + 1) (hset h r p) R2 (p + 1) :=
  ⟨P.rf hq F.1 hp hrk hk hkp, fun v => (P.sp hq F.1.1 hp (by omega) hk hkp v).trans (F.2 v)⟩
/-- the swap of two rows -/
theorem Piv.swap {q n m r p k : Nat} {R R2 : Nat → Nat → Nat} (hrk : r ≤ k) (hk : k < m) (h1 : ∀ i, i < n → R2 r i = fmul q (finv q (R k p)) (R k i)) (h2 : ∀ j, j < m → j ≠ r → ∀ i, i < n → R2 j i = fadd q (R (if j = k then r else j) i) (fmul q (fneg q (R (if j = k then r else j) p)) (R2 r i))) : Piv q n m R r p k (fun j => if j = k then r else j) R2 := by
  refine ⟨h1, fun j hj hjr => ⟨?_, h2 j hj hjr⟩, fun j hj hjk => ?_⟩
  · dsimp only
    by_cases e : j = k
    · rw [if_pos e]
      subst e
      exact ⟨by omega, fun e => hjr e.symm, fun h => by omega, fun _ => Nat.le_refl _⟩
    · rw [if_neg e]
      exact ⟨hj, e, fun _ => rfl, fun h => h⟩
  · by_cases e : j = r
    · subst e
      exact ⟨k, hk, fun e => hjk e.symm, if_pos rfl⟩
    · exact ⟨j, hj, e, if_neg hjk⟩
theorem Fo.exists {q n m : Nat} {W : Nat → Nat → Nat} (hq : isQ q) (hW : okR q n m W) : ∀ p, p ≤ n → ∃ r h R, Fo q n m W r h R p
  | 0, _ => ⟨0, fun _ => 0, W, Fo.start _ hW⟩
  | p + 1, hp => by
    obtain ⟨r, h, R, F⟩ := Fo.exists hq hW p (by omega)
    by_cases hex : ∃ k, r ≤ k ∧ k < m ∧ R k p ≠ 0
    · obtain ⟨k, k1, k2, k3⟩ := hex
      refine ⟨r + 1, hset h r p, fun j i => if j = r then fmul q (finv q (R k p)) (R k i) else fadd q (R (if j = k then r else j) i) (fmul q (fneg q (R (if j = k then r else j) p)) (fmul q (finv q (R k p)) (R k i))), F.piv hq (by omega) k1 k2 k3 (Piv.swap k1 k2 ?_ ?_)⟩
      · intro i hi
        rw [if_pos rfl]
      · intro j hj hjr i hi
        rw [if_neg hjr, if_pos rfl]
    · exact ⟨r, h, R, F.skip (fun k k1 k2 => Classical.byContradiction fun hne => hex ⟨k, k1, k2, hne⟩)⟩
/-- rank, heads, rows: of the one reduced form -/
noncomputable def frm (q n m : Nat) (W : Nat → Nat → Nat) : Nat × (Nat → Nat) × (Nat → Nat → Nat) :=
  Classical.epsilon (fun x => Fo q n m W x.1 x.2.1 x.2.2 n)
noncomputable def rk (q n m : Nat) (W : Nat → Nat → Nat) : Nat := (frm q n m W).1
noncomputable def hd (q n m : Nat) (W : Nat → Nat → Nat) : Nat → Nat := (frm q n m W).2.1
noncomputable def fm (q n m : Nat) (W : Nat → Nat → Nat) : Nat → Nat → Nat := (frm q n m W).2.2
theorem frm_ok {q n m : Nat} {W : Nat → Nat → Nat} (hq : isQ q) (hW : okR q n m W) : Fo q n m W (rk q n m W) (hd q n m W) (fm q n m W) n := by
  have hex : ∃ x : Nat × (Nat → Nat) × (Nat → Nat → Nat), Fo q n m W x.1 x.2.1 x.2.2 n := by
    obtain ⟨r, h, R, F⟩ := Fo.exists hq hW n (Nat.le_refl _)
    exact ⟨(r, h, R), F⟩
  exact Classical.epsilon_spec hex
theorem Fo.eq {q n m m2 r : Nat} {W W2 R : Nat → Nat → Nat} {h : Nat → Nat} (hq : isQ q) (hW : okR q n m W) (F : Fo q n m2 W2 r h R n) (hs : ∀ v, Sp q n m2 W2 v ↔ Sp q n m W v) : r = rk q n m W ∧ (∀ k, k < r → h k = hd q n m W k) ∧ ∀ k, k < r → ∀ i, i < n → R k i = fm q n m W k i := by
  have F2 := frm_ok hq hW
  exact F.1.unique hq F2.1 (fun v hv => (F2.2 v).mpr ((hs v).mp ((F.2 v).mp hv))) (fun v hv => (F.2 v).mpr ((hs v).mpr ((F2.2 v).mp hv)))
/-- the form's rows as words -/
noncomputable def fw (q n m : Nat) (W : Nat → Nat → Nat) (k : Nat) : Nat := wl q (fun j => fm q n m W k (n - 1 - j)) n
theorem rk_le {q n m : Nat} {W : Nat → Nat → Nat} (hq : isQ q) (hW : okR q n m W) : rk q n m W ≤ m := (frm_ok hq hW).1.2.1
theorem fm_lt {q n m : Nat} {W : Nat → Nat → Nat} (hq : isQ q) (hW : okR q n m W) {k i : Nat} (hk : k < rk q n m W) (hi : i < n) : fm q n m W k i < q := (frm_ok hq hW).1.1 k (Nat.lt_of_lt_of_le hk (rk_le hq hW)) i hi
theorem hd_lt {q n m : Nat} {W : Nat → Nat → Nat} (hq : isQ q) (hW : okR q n m W) {k : Nat} (hk : k < rk q n m W) : hd q n m W k < n := (frm_ok hq hW).1.2.2.1 k hk
theorem hd_mono {q n m : Nat} {W : Nat → Nat → Nat} (hq : isQ q) (hW : okR q n m W) {j k : Nat} (h : j < k) (hk : k < rk q n m W) : hd q n m W j < hd q n m W k := (frm_ok hq hW).1.2.2.2.1 j k h hk
theorem fw_lt {q n m : Nat} {W : Nat → Nat → Nat} (hq : isQ q) (hW : okR q n m W) {k : Nat} (hk : k < rk q n m W) : fw q n m W k < q ^ n := wl_lt (by have := hq.1; omega) n (fun _ hj => fm_lt hq hW hk (by omega))
theorem dg_fw {q n m : Nat} {W : Nat → Nat → Nat} (hq : isQ q) (hW : okR q n m W) {k i : Nat} (hk : k < rk q n m W) (hi : i < n) : dg q n (fw q n m W k) i = fm q n m W k i := by
  rw [dg_ld]
  unfold fw
  rw [ld_wl (by have := hq.1; omega) n (fun _ hj => fm_lt hq hW hk (by omega)) _ (by omega)]
  congr 1
  omega
/-- words that make a reduced form are the form's -/
theorem Fo.words {q n m m2 r : Nat} {W W2 : Nat → Nat → Nat} {h w : Nat → Nat} (hq : isQ q) (hW : okR q n m W) (F : Fo q n m2 W2 r h (wR q n w) n) (hs : ∀ v, Sp q n m2 W2 v ↔ Sp q n m W v) (hw : ∀ k, k < r → w k < q ^ n) : r = rk q n m W ∧ (∀ k, k < r → h k = hd q n m W k) ∧ ∀ k, k < r → w k = fw q n m W k := by
  obtain ⟨e1, e2, e3⟩ := F.eq hq hW hs
  refine ⟨e1, e2, fun k hk => dg_inj hq (hw k hk) (fw_lt hq hW (by omega)) (fun i hi => ?_)⟩
  rw [dg_fw hq hW (by omega) hi]
  exact e3 k hk i hi
/-! the model's state -/
theorem up_s {α : Type} {f : Nat → α} {k : Nat} {x : α} : va_up f k x k = x := if_pos rfl
theorem up_n {α : Type} {f : Nat → α} {k j : Nat} {x : α} (h : j ≠ k) : va_up f k x j = f j := if_neg h
theorem up_up {α : Type} {f : Nat → α} {k : Nat} {x y : α} : va_up (va_up f k x) k y = va_up f k y := by
  funext j
  by_cases h : j = k
  · subst h; rw [up_s, up_s]
  · rw [up_n h, up_n h, up_n h]
/-- all but these is kept -/
def Kp (I L V : List Nat) (st st' : MS) : Prop := (∀ k, k ∉ I → st'.1 k = st.1 k) ∧ (∀ k, k ∉ L → st'.2.1 k = st.2.1 k) ∧ (∀ k, k ∉ V → st'.2.2.1 k = st.2.2.1 k) ∧ (15 ∉ V → st'.2.2.2 = st.2.2.2)
theorem Kp.refl (I L V : List Nat) (st : MS) : Kp I L V st st := ⟨fun _ _ => rfl, fun _ _ => rfl, fun _ _ => rfl, fun _ => rfl⟩
theorem Kp.trans {I L V : List Nat} {a b c : MS} (h : Kp I L V a b) (h2 : Kp I L V b c) : Kp I L V a c := ⟨fun k hk => (h2.1 k hk).trans (h.1 k hk), fun k hk => (h2.2.1 k hk).trans (h.2.1 k hk), fun k hk => (h2.2.2.1 k hk).trans (h.2.2.1 k hk), fun hk => (h2.2.2.2 hk).trans (h.2.2.2 hk)⟩
theorem Kp.mono {I L V I2 L2 V2 : List Nat} {a b : MS} (h : Kp I L V a b) (h1 : ∀ k, k ∈ I → k ∈ I2) (h2 : ∀ k, k ∈ L → k ∈ L2) (h3 : ∀ k, k ∈ V → k ∈ V2) : Kp I2 L2 V2 a b := ⟨fun k hk => h.1 k (fun e => hk (h1 k e)), fun k hk => h.2.1 k (fun e => hk (h2 k e)), fun k hk => h.2.2.1 k (fun e => hk (h3 k e)), fun hk => h.2.2.2 (fun e => hk (h3 15 e))⟩
theorem Kp.sI {I L V : List Nat} {a b : MS} (h : Kp I L V a b) {k : Nat} (hk : k ∈ I) (f : Nat → Int32) : Kp I L V a (sI b k f) := ⟨fun j hj => (up_n (k := k) (j := j) (fun e : j = k => hj (by rw [e]; exact hk))).trans (h.1 j hj), h.2.1, h.2.2.1, h.2.2.2⟩
theorem Kp.sL {I L V : List Nat} {a b : MS} (h : Kp I L V a b) {k : Nat} (hk : k ∈ L) (f : Nat → Int64) : Kp I L V a (sL b k f) := ⟨h.1, fun j hj => (up_n (k := k) (j := j) (fun e : j = k => hj (by rw [e]; exact hk))).trans (h.2.1 j hj), h.2.2.1, h.2.2.2⟩
theorem Kp.sV {I L V : List Nat} {a b : MS} (h : Kp I L V a b) {k : Nat} (hk : k ∈ V) (x : Int32) : Kp I L V a (sV b k x) := ⟨h.1, h.2.1, fun j hj => (up_n (k := k) (j := j) (fun e : j = k => hj (by rw [e]; exact hk))).trans (h.2.2.1 j hj), h.2.2.2⟩
