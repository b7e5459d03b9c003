/-! ===== PURE J7: add; forms of both sides: size, head, in, look ===== -/
set_option maxRecDepth 100000
theorem rfs_ok {kd q n m v : Nat} {w : Nat → Nat} (hok : okc kd q n m w) (hv : v < q ^ n) (h : rfs kd q n m w v = 0) : m < cap kd ∧ okc kd q n (m + 1) (wset w m v) := by
  obtain ⟨hq, h1, h2, hk, hcap, hw, hd⟩ := hok
  have hlt : m < cap kd ∧ (kd = 0 → fnd w v m = false) := by
    rcases (show kd = 0 ∨ kd = 1 ∨ kd = 2 ∨ kd = 3 by omega) with rfl | rfl | rfl | rfl
    · rw [rfs_0] at h
      have c0 : cap 0 = 200 := rfl
      cases hb : fnd w v m with
      | true => rw [hb, if_pos rfl] at h; exact absurd h (by decide)
      | false =>
        refine ⟨?_, fun _ => rfl⟩
        by_cases e : m = 200
        · rw [hb, if_neg (by decide), if_pos e] at h; exact absurd h (by decide)
        · omega
    · rw [rfs_1] at h
      have c0 : cap 1 = 12 := rfl
      refine ⟨?_, fun e => absurd e (by decide)⟩
      by_cases e : m = 12
      · rw [if_pos e] at h; exact absurd h (by decide)
      · omega
    · rw [rfs_2] at h; exact absurd h (by decide)
    · rw [rfs_3] at h
      have c0 : cap 3 = 12 := rfl
      refine ⟨?_, fun e => absurd e (by decide)⟩
      by_cases e : m = 12
      · rw [if_pos e] at h
        split at h <;> exact absurd h (by decide)
      · omega
  refine ⟨hlt.1, hq, h1, h2, hk, hlt.1, fun k hk => ?_, fun e0 a b hab hb => ?_⟩
  · unfold wset
    split
    · exact hv
    · exact hw k (by omega)
  · unfold wset
    rw [if_neg (show ¬ a = m by omega)]
    split
    · intro e
      have := hlt.2 e0
      rw [(fnd_iff m).mpr ⟨a, by omega, e⟩] at this
      cases this
    · exact hd e0 a b hab (by omega)
theorem X3_hasWord {N p kd q n m : Nat} {st : MS} {w : Nat → Nat} {v : Int64} (hp : p < 12) (h : mPl st p kd q n m w) : f_X3_hasWord N st (nI p) v = Option.bind (f_X1_isWord N (nI q) (nI n) v) (fun v3 => rz v3) := by
  unfold f_X3_hasWord
  rw [ald_N hp (by omega), Option.bind_some, ald_N hp (by omega), Option.bind_some, h.2.1, h.2.2.1]
  rfl
theorem op_add {N x M : Nat} {own : Nat → Nat} {σ : SG} {st : MS} (hN : 5000 ≤ N) (j : J x M own σ st) (a : Int32) (b : Int64) : Ok x M σ (f_X1_add N σ x a b) (f_X3_add N st a b) := by
  unfold f_X1_add f_X3_add
  simp only [X3_isPlace_eq, j.cc, Option.bind_some]
  rcases pl_cases j N a with h | ⟨p, hp, rfl, h, ⟨h2, -, h3⟩ | ⟨kd, q, n, m, w, c, h2, h3, hok, hP, hX⟩⟩
  · rw [asks_no h, h]
    exact Ok.nil j rfl rfl
  · rw [asks_none j h h2, h, Option.bind_some, Option.bind_some, if_neg i10, h3]
    exact Ok.nil j rfl rfl
  · obtain ⟨A, x1, x2, x3, x4, C⟩ := id hX
    have hq := hok.1
    have hn := hok.2.2.1
    rw [asks_0 j h h2, h, Option.bind_some, Option.bind_some, if_neg i10, if_pos rfl, h3, Option.bind_some, if_pos rfl, X3_hasWord hp hP, j.codes, Option.bind_some, h2, Option.bind_some, Option.bind_some, gI_of C.1 (cls_in kd) rfl, Option.bind_some, gI_of C.1 (cls_in kd) rfl, Option.bind_some]
    rcases isWord_cases (N := N) (by omega) hq hn b with ⟨v, hv, rfl, hi⟩ | hi
    · have hs := qn_small hq hn
      rw [hi, Option.bind_some, if_neg i10, Option.bind_some, rz_1, Option.bind_some, if_neg i10, dv_refuses hN hok C (by omega), Option.bind_some, add_kind hN hp hok hP (by omega)]
      by_cases e : rfs kd q n m w v = 0
      · rw [if_pos e, if_pos e]
        obtain ⟨hm, hok2⟩ := rfs_ok hok hv e
        obtain ⟨st', s1, s2, s3, -⟩ := X3_push (N := N) (v := v) hp (by have := cap_le kd; omega) hP
        obtain ⟨σ', y1, y2, y3, y4⟩ := X4_add (N := N) (v := v) C (cls_in kd) hm (by have := cap_le kd; omega)
        rw [s1, dv_add C.1, y1, Option.bind_some, gI_of y2.1 (cls_in kd) rfl, Option.bind_some]
        obtain ⟨z1, z2⟩ := j.inpl (t := p) (σ' := σ') (st' := st') (by omega) (fun a ha ho => y4 a (fun e => ho (by rw [e]; exact x3)) (fun e => ho (by rw [e]; exact x4))) (fun u hu => by
          rw [h2] at hu
          have := Option.some.inj hu
          subst this
          exact Or.inr ⟨kd, q, n, m + 1, wset w m v, c, rfl, hok2, s2, A, by omega, by omega, x3, x4, y2⟩) hp s3
        exact ⟨σ', st', _, own, rfl, rfl, z1, z2⟩
      · rw [if_neg e, if_neg e]
        exact Ok.nil j rfl rfl
    · rw [hi, Option.bind_some, if_pos rfl]
      exact Ok.nil j rfl rfl
/-! the form of a place -/
theorem rk_le12 {q n m : Nat} {w : Nat → Nat} (hq : isQ q) (hm : m ≤ 12) : rk q n m (wR q n w) ≤ 12 := Nat.le_trans (rk_le hq (wR_ok hq)) hm
/-- a form that is done: what one reads off it -/
def Fdn (σ0 σ : SG) (f q n m : Nat) (w : Nat → Nat) : Prop := f + 3 ≤ σ.1 ∧ (∀ a, a < f → σ.2 a = σ0.2 a) ∧ cC [7] σ f = some () ∧ gI [7] σ f 0 = some (nI q) ∧ gI [7] σ f 1 = some (nI n) ∧ gI [7] σ f 4 = some (nI (rk q n m (wR q n w))) ∧ gR [7] σ f 2 = some (f + 1) ∧ gR [7] σ f 3 = some (f + 2) ∧ (∀ k, k < rk q n m (wR q n w) → aI σ (f + 2) (nI k) = some (nI (hd q n m (wR q n w) k))) ∧ ∀ k, k < rk q n m (wR q n w) → ∃ b v, aQ 4 σ (f + 1) (nI k) = some (some b) ∧ f < b ∧ b < σ.1 ∧ σ.2 b = some (eI n v) ∧ ∀ i, i < n → v i = nI (fm q n m (wR q n w) k i)
theorem XF.fd {σ0 σ : SG} {f q n m : Nat} {w : Nat → Nat} (hq : isQ q) (hm : m ≤ 12) (X : XF σ0 σ f q n m (wR q n w) n) : Fdn σ0 σ f q n m w := by
  obtain ⟨r, h, ad, V, F, had, hin, FF⟩ := X
  obtain ⟨e1, e2, e3⟩ := FF.eq hq (wR_ok hq) (fun _ => Iff.rfl)
  have hrm := FF.1.2.1
  subst e1
  obtain ⟨hh, b1, b2⟩ := F.2.2.2.1
  refine ⟨by have := F.1.1; omega, F.1.2, F.cc, F.gq, F.gn, F.gr, F.ga, F.gh, fun k hk => ?_, fun k hk => ?_⟩
  · rw [aI_of b1 (by omega) (by omega), b2 k hk, e2 k hk]
  · obtain ⟨v, c1, c2⟩ := F.2.2.2.2 (ad k) (had k (by omega))
    refine ⟨f + 3 + ad k, v, F.aq hm (Nat.le_refl _) (by omega), by omega, by have := F.1.1; have := had k (by omega); omega, c1, fun i hi => ?_⟩
    rw [c2 i hi, ← e3 k hk i hi]
theorem Fdn.row {N f q n m k : Nat} {σ0 σ : SG} {w : Nat → Nat} (hN : 20 ≤ N) (hq : isQ q) (hn : n ≤ 12) (F : Fdn σ0 σ f q n m w) (hk : k < rk q n m (wR q n w)) : f_X9_row N σ f (nI k) = some (lN (fw q n m (wR q n w) k)) := by
  obtain ⟨-, -, -, g1, g2, g3, g4, g5, g6, g7⟩ := F
  obtain ⟨b, v, c1, c2, c3, c4, c5⟩ := g7 k hk
  unfold f_X9_row
  rw [g1, Option.bind_some, g4, Option.bind_some, c1, Option.bind_some, Option.bind_some, X1_wordOf (V := fm q n m (wR q n w) k) hN hq hn c4 (fun i hi => ⟨c5 i hi, fm_lt hq (wR_ok hq) hk hi⟩), Option.bind_some]
  rfl
/-- a new form of the code at a place -/
theorem new_form {N x M o kd q n m c : Nat} {own : Nat → Nat} {σ : SG} {st : MS} {w : Nat → Nat} (hN : 20 ≤ N) (j : J x M own σ st) (hok : okc kd q n m w) (hk : kd ≠ 0) (hX : xPl σ own o kd q n m w c) : ∃ τ, f_X9_init N (nO 7 [.int 0, .int 0, .null, .null, .int 0] σ) σ.1 c = some τ ∧ Fdn σ τ σ.1 q n m w ∧ J x M own τ st ∧ KM M σ τ ∧ σ.1 ≤ τ.1 ∧ ∀ a, a < σ.1 → τ.2 a = σ.2 a := by
  obtain ⟨A, x1, x2, x3, x4, C⟩ := hX
  obtain ⟨hq, h1, h2, h3, hcap, hw, -⟩ := hok
  have hc12 : cap kd = 12 := if_neg hk
  obtain ⟨τ, a1, a2⟩ := X9_init hN hq h2 (by omega) C (cls_in kd) x1 x2 ⟨hcap, by omega⟩ hw
  have F := a2.fd hq (by omega)
  have hle : σ.1 ≤ τ.1 := by have := F.1; omega
  have hM := j.1.2.1
  exact ⟨τ, a1, F, j.new hle F.2.1 (Mk.refl st), ⟨hle, fun a h3 h4 => F.2.1 a (by omega)⟩, hle, F.2.1⟩
