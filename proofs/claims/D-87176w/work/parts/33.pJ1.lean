/-! ===== PURE J1: what both sides hold; frames ===== -/
set_option maxRecDepth 100000
/-- class and room of a code by its kind -/
def cls (kd : Nat) : Nat := if kd = 0 then 3 else if kd = 1 then 4 else if kd = 3 then 5 else 6
def cap (kd : Nat) : Nat := if kd = 0 then 200 else 12
def okc (kd q n m : Nat) (w : Nat → Nat) : Prop := isQ q ∧ 1 ≤ n ∧ n ≤ 12 ∧ kd ≤ 3 ∧ m ≤ cap kd ∧ (∀ k, k < m → w k < q ^ n) ∧ (kd = 0 → ∀ j k, j < k → k < m → w j ≠ w k)
def xPl (σ : SG) (own : Nat → Nat) (o kd q n m : Nat) (w : Nat → Nat) (c : Nat) : Prop := ∃ A, c < σ.1 ∧ A < σ.1 ∧ own c = o ∧ own A = o ∧ xC σ c (cls kd) q n A m (cap kd) w
/-- place p of both sides -/
def pRel (σ : SG) (own : Nat → Nat) (st : MS) (p : Nat) (v : Option Nat) : Prop := (v = none ∧ st.1 1 p = -1) ∨ ∃ kd q n m w c, v = some c ∧ okc kd q n m w ∧ mPl st p kd q n m w ∧ xPl σ own (1 + p) kd q n m w c
/-- shelf d of both sides -/
def sRel (σ : SG) (own : Nat → Nat) (st : MS) (d : Nat) (v : Value) : Prop :=
  (v = .null ∧ st.1 19 d = 0) ∨ (∃ (kd q n m : Nat) (w : Nat → Nat) (c : Nat), v = .ref c ∧ okc kd q n m w ∧ xPl σ own (13 + d) kd q n m w c ∧ st.1 19 d = 1 ∧ st.1 20 d = nI kd ∧ st.1 21 d = nI n ∧ st.1 22 d = nI m) ∨ (∃ (b m : Nat) (f : Nat → Int32), v = .ref b ∧ b < σ.1 ∧ own b = 13 + d ∧ σ.2 b = some (eB m f) ∧ m ≤ 200 ∧ st.1 19 d = 3 ∧ st.1 22 d = nI m ∧ ∀ i, i < m → st.2.1 23 (200 * d + i) = (f i).toInt64 ∧ fits .byte (.int (f i)) = true) ∨ (∃ (b m : Nat) (f : Nat → Int64), v = .ref b ∧ b < σ.1 ∧ own b = 13 + d ∧ σ.2 b = some (eL m f) ∧ m ≤ 200 ∧ st.1 19 d = 4 ∧ st.1 22 d = nI m ∧ ∀ i, i < m → st.2.1 23 (200 * d + i) = f i)
def shA (x d : Nat) : Nat := if d = 0 then x + 5 else x + 6 + d
/-- the bench's own cells -/
def xB (σ : SG) (x : Nat) : Prop := (∃ wc fh, σ.2 x = some (eO 0 [.ref (x + 1), .ref (x + 2), .int wc, .ref (x + 3), .long fh, .ref (x + 4)])) ∧ (∃ g, σ.2 (x + 2) = some (eL 4096 g)) ∧ (∃ g, σ.2 (x + 3) = some (eL 13 g)) ∧ (∃ mc, σ.2 (x + 4) = some (eO 8 [.int mc, .ref (x + 6), .int 6])) ∧ ∃ g, σ.2 (x + 6) = some (eQ 5 10 g) ∧ ∀ d, d < 6 → g d = some (shA x d)
def J (x M : Nat) (own : Nat → Nat) (σ : SG) (st : MS) : Prop :=
  (x + 12 ≤ M ∧ M + 20 ≤ σ.1 ∧ (∀ a, x ≤ a → a < x + 12 → own a = 0) ∧ ∀ a, M ≤ a → a < M + 20 → own a = 99) ∧ xB σ x ∧ (∃ g, σ.2 (x + 1) = some (eQ 3 12 g) ∧ ∀ p, p < 12 → pRel σ own st p (g p)) ∧ ∀ d, d < 6 → ∃ v, σ.2 (shA x d) = some (eO 1 [v]) ∧ sRel σ own st d v
/-- the model's cells aren't touched -/
def KM (M : Nat) (σ σ' : SG) : Prop := σ.1 ≤ σ'.1 ∧ ∀ a, M ≤ a → a < M + 20 → σ'.2 a = σ.2 a
theorem KM.refl (M : Nat) (σ : SG) : KM M σ σ := ⟨Nat.le_refl _, fun _ _ _ => rfl⟩
theorem KM.trans {M : Nat} {a b c : SG} (h : KM M a b) (h2 : KM M b c) : KM M a c := ⟨Nat.le_trans h.1 h2.1, fun k k1 k2 => (h2.2 k k1 k2).trans (h.2 k k1 k2)⟩
/-- the op's both sides -/
def Ok {α : Type} (x M : Nat) (σ : SG) (o1 : Option (SG × α)) (o3 : Option (MS × α)) : Prop := ∃ σ' st' r own', o1 = some (σ', r) ∧ o3 = some (st', r) ∧ J x M own' σ' st' ∧ KM M σ σ'
theorem xPl.keep {σ σ' : SG} {own own' : Nat → Nat} {o kd q n m c : Nat} {w : Nat → Nat} (h : xPl σ own o kd q n m w c) (h1 : σ.1 ≤ σ'.1) (h2 : ∀ a, a < σ.1 → own a = o → σ'.2 a = σ.2 a ∧ own' a = own a) : xPl σ' own' o kd q n m w c := by
  obtain ⟨A, a1, a2, a3, a4, a5, g, a6, a7⟩ := h
  obtain ⟨b1, b2⟩ := h2 c a1 a3
  obtain ⟨b3, b4⟩ := h2 A a2 a4
  exact ⟨A, by omega, by omega, by omega, by omega, by rw [b1]; exact a5, g, by rw [b3]; exact a6, a7⟩
theorem pRel.keep {σ σ' : SG} {own own' : Nat → Nat} {st st' : MS} {p : Nat} {v : Option Nat} (h : pRel σ own st p v) (h1 : σ.1 ≤ σ'.1) (h2 : ∀ a, a < σ.1 → own a = 1 + p → σ'.2 a = σ.2 a ∧ own' a = own a) (h3 : st'.1 1 p = st.1 1 p ∧ st'.1 2 p = st.1 2 p ∧ st'.1 3 p = st.1 3 p ∧ st'.1 4 p = st.1 4 p ∧ ∀ k, k < 200 → st'.2.1 5 (200 * p + k) = st.2.1 5 (200 * p + k)) : pRel σ' own' st' p v := by
  rcases h with ⟨e1, e2⟩ | ⟨kd, q, n, m, w, c, e1, e2, e3, e4⟩
  · exact Or.inl ⟨e1, by rw [h3.1]; exact e2⟩
  · refine Or.inr ⟨kd, q, n, m, w, c, e1, e2, ?_, e4.keep h1 h2⟩
    obtain ⟨m1, m2, m3, m4, m5⟩ := e3
    have hm : m ≤ 200 := by
      have := e2.2.2.2.2.1
      unfold cap at this
      split at this <;> omega
    exact ⟨by rw [h3.1]; exact m1, by rw [h3.2.1]; exact m2, by rw [h3.2.2.1]; exact m3, by rw [h3.2.2.2.1]; exact m4, fun k hk => by rw [h3.2.2.2.2 k (by omega)]; exact m5 k hk⟩
theorem sRel.keep {σ σ' : SG} {own own' : Nat → Nat} {st st' : MS} {d : Nat} {v : Value} (h : sRel σ own st d v) (h1 : σ.1 ≤ σ'.1) (h2 : ∀ a, a < σ.1 → own a = 13 + d → σ'.2 a = σ.2 a ∧ own' a = own a) (h3 : st'.1 19 d = st.1 19 d ∧ st'.1 20 d = st.1 20 d ∧ st'.1 21 d = st.1 21 d ∧ st'.1 22 d = st.1 22 d ∧ ∀ k, k < 200 → st'.2.1 23 (200 * d + k) = st.2.1 23 (200 * d + k)) : sRel σ' own' st' d v := by
  obtain ⟨c1, c2, c3, c4, c5⟩ := h3
  rcases h with ⟨e1, e2⟩ | ⟨kd, q, n, m, w, c, e1, e2, e3, e4, e5, e6, e7⟩ | ⟨b, m, f, e1, e2, e3, e4, e5, e6, e7, e8⟩ | ⟨b, m, f, e1, e2, e3, e4, e5, e6, e7, e8⟩
  · exact Or.inl ⟨e1, by rw [c1]; exact e2⟩
  · exact Or.inr (Or.inl ⟨kd, q, n, m, w, c, e1, e2, e3.keep h1 h2, by rw [c1]; exact e4, by rw [c2]; exact e5, by rw [c3]; exact e6, by rw [c4]; exact e7⟩)
  · obtain ⟨d1, d2⟩ := h2 b e2 e3
    exact Or.inr (Or.inr (Or.inl ⟨b, m, f, e1, by omega, by omega, by rw [d1]; exact e4, e5, by rw [c1]; exact e6, by rw [c4]; exact e7, fun i hi => by rw [c5 i (by omega)]; exact e8 i hi⟩))
  · obtain ⟨d1, d2⟩ := h2 b e2 e3
    exact Or.inr (Or.inr (Or.inr ⟨b, m, f, e1, by omega, by omega, by rw [d1]; exact e4, e5, by rw [c1]; exact e6, by rw [c4]; exact e7, fun i hi => by rw [c5 i (by omega)]; exact e8 i hi⟩))
theorem shA_in {x d : Nat} (h : d < 6) : x + 5 ≤ shA x d ∧ shA x d < x + 12 ∧ shA x d ≠ x + 6 := by
  unfold shA
  split <;> omega
theorem shA_inj {x d e : Nat} (h : shA x d = shA x e) : d = e := by
  unfold shA at h
  split at h <;> split at h <;> omega
/-- what the model does beside its scratch -/
def Mk (st st' : MS) : Prop := st'.1 1 = st.1 1 ∧ st'.1 2 = st.1 2 ∧ st'.1 3 = st.1 3 ∧ st'.1 4 = st.1 4 ∧ st'.2.1 5 = st.2.1 5 ∧ st'.1 19 = st.1 19 ∧ st'.1 20 = st.1 20 ∧ st'.1 21 = st.1 21 ∧ st'.1 22 = st.1 22 ∧ st'.2.1 23 = st.2.1 23
theorem Mk.refl (st : MS) : Mk st st := ⟨rfl, rfl, rfl, rfl, rfl, rfl, rfl, rfl, rfl, rfl⟩
/-- scratch of the bench and of the model is all that changed -/
theorem J.scr {x M : Nat} {own : Nat → Nat} {σ σ' : SG} {st st' : MS} (j : J x M own σ st) (h1 : σ.1 ≤ σ'.1) (h2 : ∀ a, a < σ.1 → a ≠ x → a ≠ x + 2 → a ≠ x + 3 → σ'.2 a = σ.2 a) (hx : ∃ wc fh, σ'.2 x = some (eO 0 [.ref (x + 1), .ref (x + 2), .int wc, .ref (x + 3), .long fh, .ref (x + 4)])) (hw : ∃ g, σ'.2 (x + 2) = some (eL 4096 g)) (hc : ∃ g, σ'.2 (x + 3) = some (eL 13 g)) (hm : Mk st st') : J x M own σ' st' := by
  obtain ⟨⟨a1, a2, a3, a4⟩, ⟨-, -, -, ⟨mc, b4⟩, ⟨g5, b5, b6⟩⟩, ⟨g, c1, c2⟩, d1⟩ := j
  obtain ⟨m1, m2, m3, m4, m5, m6, m7, m8, m9, m10⟩ := hm
  have own0 : ∀ a o, own a = o → o ≠ 0 → a ≠ x ∧ a ≠ x + 2 ∧ a ≠ x + 3 := fun a o h0 h9 => by
    refine ⟨fun e => ?_, fun e => ?_, fun e => ?_⟩ <;> (have := a3 a (by omega) (by omega); omega)
  refine ⟨⟨a1, by omega, a3, a4⟩, ⟨hx, hw, hc, ⟨mc, by rw [h2 _ (by omega) (by omega) (by omega) (by omega)]; exact b4⟩, ⟨g5, by rw [h2 _ (by omega) (by omega) (by omega) (by omega)]; exact b5, b6⟩⟩, ⟨g, by rw [h2 _ (by omega) (by omega) (by omega) (by omega)]; exact c1, fun p hp => ?_⟩, fun d hd => ?_⟩
  · refine (c2 p hp).keep h1 (fun a ha ho => ?_) ⟨by rw [m1], by rw [m2], by rw [m3], by rw [m4], fun k _ => by rw [m5]⟩
    obtain ⟨e1, e2, e3⟩ := own0 a _ ho (by omega)
    exact ⟨h2 a ha e1 e2 e3, rfl⟩
  · obtain ⟨v, e1, e2⟩ := d1 d hd
    have hs := shA_in (x := x) hd
    refine ⟨v, by rw [h2 _ (by omega) (by omega) (by omega) (by omega)]; exact e1, e2.keep h1 (fun a ha ho => ?_) ⟨by rw [m6], by rw [m7], by rw [m8], by rw [m9], fun k _ => by rw [m10]⟩⟩
    obtain ⟨f1, f2, f3⟩ := own0 a _ ho (by omega)
    exact ⟨h2 a ha f1 f2 f3, rfl⟩
/-- only new cells came, and the model's scratch -/
theorem J.new {x M : Nat} {own : Nat → Nat} {σ σ' : SG} {st st' : MS} (j : J x M own σ st) (h1 : σ.1 ≤ σ'.1) (h2 : ∀ a, a < σ.1 → σ'.2 a = σ.2 a) (hm : Mk st st') : J x M own σ' st' := by
  obtain ⟨⟨a1, a2, a3, a4⟩, ⟨b1, b2, b3, -⟩, -⟩ := id j
  refine j.scr h1 (fun a ha _ _ _ => h2 a ha) ?_ ?_ ?_ hm
  · rw [h2 x (by omega)]; exact b1
  · rw [h2 _ (by omega)]; exact b2
  · rw [h2 _ (by omega)]; exact b3
/-- the codes' array -/
theorem J.codes {x M : Nat} {own : Nat → Nat} {σ : SG} {st : MS} (j : J x M own σ st) : gR [0] σ x 0 = some (x + 1) := by
  obtain ⟨-, ⟨⟨wc, fh, h⟩, -⟩, -⟩ := j
  exact gR_of h (by decide) rfl
theorem J.cc {x M : Nat} {own : Nat → Nat} {σ : SG} {st : MS} (j : J x M own σ st) : cC [0] σ x = some () := by
  obtain ⟨-, ⟨⟨wc, fh, h⟩, -⟩, -⟩ := j
  exact cC_of h (by decide)
/-- what lies at a place -/
theorem J.place {x M : Nat} {own : Nat → Nat} {σ : SG} {st : MS} (j : J x M own σ st) {p : Nat} (hp : p < 12) : ∃ v, aQ 3 σ (x + 1) (nI p) = some v ∧ pRel σ own st p v := by
  obtain ⟨-, -, ⟨g, c1, c2⟩, -⟩ := j
  exact ⟨g p, aQ_of c1 hp (by omega), c2 p hp⟩
theorem neg1_ne {k : Nat} (h : k < 2 ^ 31) : ¬ nI k = -1 := by
  intro e
  have h1 := nI_pos (n := k) h
  rw [e] at h1
  exact h1 (by decide)
