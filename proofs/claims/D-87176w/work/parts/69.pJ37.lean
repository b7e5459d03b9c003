/-! ===== PURE J37: the dual of a form ===== -/
set_option maxRecDepth 100000
/-- heads before a place -/
noncomputable def hs (q n m : Nat) (W : Nat → Nat → Nat) : Nat → Nat
  | 0 => 0
  | p + 1 => if hs q n m W p < rk q n m W ∧ hd q n m W (hs q n m W p) = p then hs q n m W p + 1 else hs q n m W p
/-- letters of the row for a place -/
noncomputable def dV (q n m : Nat) (W : Nat → Nat → Nat) (p : Nat) : Nat → (Nat → Nat)
  | 0 => fun a => if a = p then 1 else 0
  | k + 1 => fun a => if a = hd q n m W k then fneg q (fm q n m W k p) else dV q n m W p k a
noncomputable def du (q n m : Nat) (W : Nat → Nat → Nat) (p : Nat) : Nat → Nat
  | 0 => q ^ (n - 1 - p)
  | k + 1 => du q n m W p k + fneg q (fm q n m W k p) * q ^ (n - 1 - hd q n m W k)
noncomputable def dw (q n m : Nat) (W : Nat → Nat → Nat) : Nat → Nat × (Nat → Nat)
  | 0 => (0, fun _ => 0)
  | p + 1 => if hs q n m W p < rk q n m W ∧ hd q n m W (hs q n m W p) = p then dw q n m W p else ((dw q n m W p).1 + 1, wset (dw q n m W p).2 (dw q n m W p).1 (du q n m W p (rk q n m W)))
theorem hs_ok {q n m : Nat} {W : Nat → Nat → Nat} (hq : isQ q) (hW : okR q n m W) : ∀ p, p ≤ n → hs q n m W p ≤ rk q n m W ∧ ∀ k, hs q n m W p ≤ k → k < rk q n m W → p ≤ hd q n m W k
  | 0, _ => ⟨Nat.zero_le _, fun k _ _ => Nat.zero_le _⟩
  | p + 1, hp => by
    obtain ⟨h1, h2⟩ := hs_ok hq hW p (by omega)
    rw [hs]
    by_cases e : hs q n m W p < rk q n m W ∧ hd q n m W (hs q n m W p) = p
    · rw [if_pos e]
      refine ⟨by omega, fun k k1 k2 => ?_⟩
      have := hd_mono hq hW (show hs q n m W p < k by omega) k2
      omega
    · rw [if_neg e]
      refine ⟨h1, fun k k1 k2 => ?_⟩
      have h3 := h2 k k1 k2
      by_cases e2 : k = hs q n m W p
      · subst e2
        have : hd q n m W (hs q n m W p) ≠ p := fun e3 => e ⟨k2, e3⟩
        omega
      · have h4 := h2 (hs q n m W p) (Nat.le_refl _) (by omega)
        have := hd_mono hq hW (show hs q n m W p < k by omega) k2
        omega
theorem not_head {q n m p : Nat} {W : Nat → Nat → Nat} (hq : isQ q) (hW : okR q n m W) (hp : p < n) (e : ¬ (hs q n m W p < rk q n m W ∧ hd q n m W (hs q n m W p) = p)) : ∀ k, k < rk q n m W → hd q n m W k ≠ p := by
  intro k hk he
  obtain ⟨h1, h2⟩ := hs_ok hq hW (p + 1) (by omega)
  rw [hs, if_neg e] at h1 h2
  by_cases ek : hs q n m W p ≤ k
  · have := h2 k ek hk; omega
  · have hb : ∀ p, p ≤ n → ∀ k, k < hs q n m W p → hd q n m W k < p := by
      intro p
      induction p with
      | zero => intro _ k hk; simp [hs] at hk
      | succ p ih =>
        intro hp k hk
        rw [hs] at hk
        by_cases e : hs q n m W p < rk q n m W ∧ hd q n m W (hs q n m W p) = p
        · rw [if_pos e] at hk
          by_cases e2 : k = hs q n m W p
          · subst e2; omega
          · have := ih (by omega) k (by omega); omega
        · rw [if_neg e] at hk
          have := ih (by omega) k hk; omega
    have := hb p (by omega) k (by omega)
    omega
theorem dV_lt {q n m p : Nat} {W : Nat → Nat → Nat} (hq : isQ q) (hW : okR q n m W) (hp : p < n) : ∀ k, k ≤ rk q n m W → ∀ a, dV q n m W p k a < q
  | 0, _, a => by
    have := hq.1
    rw [dV]
    dsimp only
    split <;> omega
  | k + 1, hk, a => by
    rw [dV]
    dsimp only
    split
    · exact fneg_lt hq (fm_lt hq hW (by omega) hp)
    · exact dV_lt hq hW hp k (by omega) a
theorem dV_0 {q n m p a : Nat} {W : Nat → Nat → Nat} (ha : a ≠ p) : ∀ k, (∀ i, i < k → a ≠ hd q n m W i) → dV q n m W p k a = 0
  | 0, _ => by
    rw [dV]
    dsimp only
    rw [if_neg ha]
  | k + 1, h => by
    rw [dV]
    dsimp only
    rw [if_neg (h k (by omega))]
    exact dV_0 ha k (fun i hi => h i (by omega))
theorem du_wl {q n m p : Nat} {W : Nat → Nat → Nat} (hq : isQ q) (hW : okR q n m W) (hp : p < n) (hnh : ∀ k, k < rk q n m W → hd q n m W k ≠ p) : ∀ k, k ≤ rk q n m W → du q n m W p k = wl q (fun j => dV q n m W p k (n - 1 - j)) n
  | 0, _ => by
    have h1 := wl_upd (q := q) (j := n - 1 - p) (v := 1) (h := fun _ => 0) rfl n (by omega)
    rw [wl_zero, Nat.zero_add, Nat.one_mul] at h1
    rw [du, ← h1]
    refine wl_congr (fun j hj => ?_)
    rw [dV]
    dsimp only
    by_cases e : j = n - 1 - p
    · rw [if_pos e, if_pos (by omega)]
    · rw [if_neg e, if_neg (by omega)]
  | k + 1, hk => by
    have hh := hd_lt hq hW (show k < rk q n m W by omega)
    rw [du, du_wl hq hW hp hnh k (by omega), ← wl_upd (h := fun j => dV q n m W p k (n - 1 - j)) (j := n - 1 - hd q n m W k) (v := fneg q (fm q n m W k p)) (by
      rw [show n - 1 - (n - 1 - hd q n m W k) = hd q n m W k by omega]
      refine dV_0 (hnh k (by omega)) k (fun i hi => ?_)
      have := hd_mono hq hW hi (show k < rk q n m W by omega)
      omega) n (by omega)]
    refine wl_congr (fun j hj => ?_)
    rw [dV]
    dsimp only
    by_cases e : j = n - 1 - hd q n m W k
    · rw [if_pos e, if_pos (by omega)]
    · rw [if_neg e, if_neg (by omega)]
theorem du_lt {q n m p : Nat} {W : Nat → Nat → Nat} (hq : isQ q) (hW : okR q n m W) (hp : p < n) (hnh : ∀ k, k < rk q n m W → hd q n m W k ≠ p) (k : Nat) (hk : k ≤ rk q n m W) : du q n m W p k < q ^ n := by
  rw [du_wl hq hW hp hnh k hk]
  exact wl_lt (by have := hq.1; omega) n (fun j _ => dV_lt hq hW hp k hk _)
theorem dw_ok {q n m : Nat} {W : Nat → Nat → Nat} (hq : isQ q) (hW : okR q n m W) : ∀ p, p ≤ n → (dw q n m W p).1 ≤ p ∧ ∀ a, a < (dw q n m W p).1 → (dw q n m W p).2 a < q ^ n
  | 0, _ => ⟨Nat.le_refl _, fun a ha => absurd ha (by simp [dw])⟩
  | p + 1, hp => by
    obtain ⟨h1, h2⟩ := dw_ok hq hW p (by omega)
    rw [dw]
    by_cases e : hs q n m W p < rk q n m W ∧ hd q n m W (hs q n m W p) = p
    · rw [if_pos e]; exact ⟨by omega, h2⟩
    · rw [if_neg e]
      refine ⟨by dsimp only; omega, fun a ha => ?_⟩
      dsimp only at ha ⊢
      unfold wset
      split
      · exact du_lt hq hW (by omega) (not_head hq hW (by omega) e) _ (Nat.le_refl _)
      · exact h2 a (by omega)
theorem okc_dual {kd q n m : Nat} {w : Nat → Nat} (hok : okc kd q n m w) : okc 1 q n (dw q n m (wR q n w) n).1 (dw q n m (wR q n w) n).2 := by
  obtain ⟨h1, h2⟩ := dw_ok hok.1 (wR_ok (n := n) (m := m) (w := w) hok.1) n (Nat.le_refl _)
  have := hok.2.2.1
  exact ⟨hok.1, hok.2.1, hok.2.2.1, by omega, by show _ ≤ 12; omega, h2, fun e => by omega⟩
theorem Fdn.row2 {f q n m k p : Nat} {σ0 σ : SG} {w : Nat → Nat} (hn : n ≤ 12) (F : Fdn σ0 σ f q n m w) (hk : k < rk q n m (wR q n w)) (hp : p < n) : ∃ b, aQ 4 σ (f + 1) (nI k) = some (some b) ∧ aI σ b (nI p) = some (nI (fm q n m (wR q n w) k p)) := by
  obtain ⟨b, v, c1, c2, c3, c4, c5⟩ := F.2.2.2.2.2.2.2.2.2 k hk
  exact ⟨b, c1, by rw [aI_of c4 hp (by omega), c5 p hp]⟩
theorem X9_dual_row {N f c q n m p : Nat} {d : Int32} {σ0 σ u : SG} {w : Nat → Nat} (hN : 5000 ≤ N) (hq : isQ q) (hn : n ≤ 12) (hm : m ≤ 12) (hp : p < n) (F : Fdn σ0 σ f q n m w) (h1 : σ.1 ≤ u.1) (h2 : ∀ a, a < σ.1 → u.2 a = σ.2 a) : ∃ r, lp (f_X9_dual_b68 N f c d (nI p) u.1) N (0, ((u.1 + 1, va_up u.2 u.1 (some (eI n (upd (fun _ => 0) p 1)))) : SG)) = some r ∧ ∃ v, r = ((u.1 + 1, va_up u.2 u.1 (some (eI n v))) : SG) ∧ ∀ a, a < n → v a = nI (dV q n m (wR q n w) p (rk q n m (wR q n w)) a) := by
  have q5 := hq.2
  have q2 := hq.1
  have hr := rk_le12 (n := n) (w := w) hq hm
  refine lp_inv0 (P := fun k (s : Int32 × SG) => s.1 = nI k ∧ ∃ v, s.2 = ((u.1 + 1, va_up u.2 u.1 (some (eI n v))) : SG) ∧ ∀ a, a < n → v a = nI (dV q n m (wR q n w) p k a)) (Q := fun (r : SG) => ∃ v, r = ((u.1 + 1, va_up u.2 u.1 (some (eI n v))) : SG) ∧ ∀ a, a < n → v a = nI (dV q n m (wR q n w) p (rk q n m (wR q n w)) a)) (rk q n m (wR q n w)) (by omega) ⟨rfl, _, rfl, fun a ha => ?_⟩ ?_ ?_
  · rw [dV]
    dsimp only
    by_cases e : a = p
    · rw [e, up_s', if_pos rfl]; rfl
    · rw [up_n' e, if_neg e]; rfl
  · rintro k ⟨y, s⟩ hk ⟨e1, v, e2, e3⟩
    dsimp only at e1 e2
    subst e1 e2
    have Fs : Fdn σ0 ((u.1 + 1, va_up u.2 u.1 (some (eI n v))) : SG) f q n m w := F.keep (by show σ.1 ≤ u.1 + 1; omega) (fun a ha => by
      show va_up u.2 u.1 _ a = _
      rw [up_n (by omega)]
      exact h2 a ha)
    obtain ⟨b, r1, r2⟩ := Fs.row2 hn hk hp
    have hh := hd_lt hq (wR_ok (w := w) hq) hk
    have hfm := fm_lt hq (wR_ok (w := w) hq) hk hp
    unfold f_X9_dual_b68
    dsimp only
    rw [Fs.2.2.2.2.2.1, Option.bind_some, if_neg (nI_ge hk (by omega)), Fs.2.2.2.2.2.2.2.1, Option.bind_some, Fs.2.2.2.2.2.2.2.2.1 k hk, Option.bind_some, Fs.2.2.2.1, Option.bind_some, Fs.2.2.2.2.2.2.1, Option.bind_some, r1, Option.bind_some, Option.bind_some, r2, Option.bind_some, X1_against hq hfm, Option.bind_some, wI_of (n := n) (f := v) (show va_up u.2 u.1 _ u.1 = _ from up_s) hh (by omega), Option.bind_some, nI_1]
    refine ⟨_, rfl, rfl, upd v (hd q n m (wR q n w) k) (nI (fneg q (fm q n m (wR q n w) k p))), ?_, fun a ha => ?_⟩
    · show (u.1 + 1, va_up (va_up u.2 u.1 _) u.1 _) = _
      rw [up_up]
    · rw [dV]
      dsimp only
      by_cases e : a = hd q n m (wR q n w) k
      · rw [e, up_s', if_pos rfl]
      · rw [up_n' e, if_neg e]; exact e3 a ha
  · rintro ⟨y, s⟩ ⟨e1, v, e2, e3⟩
    dsimp only at e1 e2
    subst e1 e2
    have Fs : Fdn σ0 ((u.1 + 1, va_up u.2 u.1 (some (eI n v))) : SG) f q n m w := F.keep (by show σ.1 ≤ u.1 + 1; omega) (fun a ha => by
      show va_up u.2 u.1 _ a = _
      rw [up_n (by omega)]
      exact h2 a ha)
    unfold f_X9_dual_b68
    dsimp only
    rw [Fs.2.2.2.2.2.1, Option.bind_some, if_pos (nI_le (Nat.le_refl _) (by omega))]
    exact ⟨_, rfl, v, rfl, e3⟩
theorem X9_dual {N f q n m : Nat} {σ0 σ : SG} {w : Nat → Nat} (hN : 5000 ≤ N) (hq : isQ q) (hn : n ≤ 12) (hm : m ≤ 12) (F : Fdn σ0 σ f q n m w) : ∃ τ, f_X9_dual N σ f = some (τ, σ.1) ∧ NC σ τ σ.1 1 q n (dw q n m (wR q n w) n).1 (dw q n m (wR q n w) n).2 := by
  have hr := rk_le12 (n := n) (w := w) hq hm
  have hf : f + 3 ≤ σ.1 := F.1
  obtain ⟨τ0, a1, a2, a3⟩ := X4_init (N := N) (kd := 1) (q := q) (n := n) (σ := σ) (fun _ => 0)
  have Fn : Fdn σ0 (nO 4 [.int 0, .int 0, .null, .int 0] σ) f q n m w := F.keep (Nat.le_succ _) (fun a ha => by
    show va_up σ.2 σ.1 _ a = _
    exact up_n (by omega))
  have hin : f_X6_init N (nO 4 [.int 0, .int 0, .null, .int 0] σ) σ.1 (nI q) (nI n) = some τ0 := by
    unfold f_X6_init
    rw [show f_X4_init N (nO 4 [.int 0, .int 0, .null, .int 0] σ) σ.1 (nI q) (nI n) 12 = some τ0 from a1]
    rfl
  obtain ⟨τ, b1, b2⟩ : ∃ τ, lp (f_X9_dual_b20 N f σ.1) 13 (0, 0, τ0) = some τ ∧ NC σ τ σ.1 1 q n (dw q n m (wR q n w) n).1 (dw q n m (wR q n w) n).2 := by
    refine lp_inv0 (P := fun p (s : Int32 × Int32 × SG) => s.1 = nI (hs q n m (wR q n w) p) ∧ s.2.1 = nI p ∧ NC σ s.2.2 σ.1 1 q n (dw q n m (wR q n w) p).1 (dw q n m (wR q n w) p).2) (Q := fun (s : SG) => NC σ s σ.1 1 q n (dw q n m (wR q n w) n).1 (dw q n m (wR q n w) n).2) n (by omega) ⟨rfl, rfl, a2⟩ ?_ ?_
    · rintro p ⟨y, z, s⟩ hp ⟨e1, e2, e3⟩
      dsimp only at e1 e2 e3
      subst e1 e2
      have Fs : Fdn σ0 s f q n m w := F.keep (by have := e3.1; omega) (fun a ha => e3.2.1 a ha)
      obtain ⟨o1, o2⟩ := dw_ok hq (wR_ok (n := n) (m := m) (w := w) hq) p (by omega)
      obtain ⟨p1, p2⟩ := hs_ok hq (wR_ok (n := n) (m := m) (w := w) hq) p (by omega)
      have skip : ∀ (_ : ¬ (hs q n m (wR q n w) p < rk q n m (wR q n w) ∧ hd q n m (wR q n w) (hs q n m (wR q n w) p) = p)), ∃ s', f_X9_dual_j52 N f σ.1 (nI (hs q n m (wR q n w) p)) (nI p) s = some (.inl s') ∧ s'.1 = nI (hs q n m (wR q n w) (p + 1)) ∧ s'.2.1 = nI (p + 1) ∧ NC σ s'.2.2 σ.1 1 q n (dw q n m (wR q n w) (p + 1)).1 (dw q n m (wR q n w) (p + 1)).2 := by
        intro e
        have hnh := not_head hq (wR_ok (w := w) hq) hp e
        obtain ⟨r, c1, v, c2, c3⟩ := X9_dual_row (N := N) (c := σ.1) (d := nI (hs q n m (wR q n w) p)) hN hq hn hm hp F (u := s) (by have := e3.1; omega) (fun a ha => e3.2.1 a ha)
        have Fr : Fdn σ0 r f q n m w := F.keep (by rw [c2]; have := e3.1; show σ.1 ≤ s.1 + 1; omega) (fun a ha => by
          rw [c2]
          show va_up s.2 s.1 _ a = _
          rw [up_n (by have := e3.1; omega)]
          exact e3.2.1 a ha)
        have hwo := X1_wordOf (N := N) (q := q) (n := n) (b := s.1) (σ := r) (v := v) (V := dV q n m (wR q n w) p (rk q n m (wR q n w))) (by omega) hq hn (by rw [c2]; exact up_s) (fun a ha => ⟨c3 a ha, dV_lt hq (wR_ok hq) hp _ (Nat.le_refl _) a⟩)
        rw [← du_wl hq (wR_ok hq) hp hnh _ (Nat.le_refl _)] at hwo
        have e4 : NC σ r σ.1 1 q n (dw q n m (wR q n w) p).1 (dw q n m (wR q n w) p).2 := by rw [c2]; exact e3.arr
        obtain ⟨s2, d1, d2⟩ := e4.add6 (N := N) (v := du q n m (wR q n w) p (rk q n m (wR q n w))) (by omega)
        have hwi : wI ((s.1 + 1, va_up s.2 s.1 (some (.inl (0, nD 0 n)))) : SG) s.1 (nI p) 1 = some ((s.1 + 1, va_up s.2 s.1 (some (eI n (upd (fun _ => 0) p 1)))) : SG) := by
          rw [wI_of (n := n) (f := fun _ => 0) (show va_up s.2 s.1 _ s.1 = _ from up_s) hp (by omega)]
          show some (s.1 + 1, va_up (va_up s.2 s.1 _) s.1 _) = _
          rw [up_up]
        unfold f_X9_dual_j52
        rw [Fs.2.2.2.2.1, Option.bind_some, nA_of hn (by omega), Option.bind_some, hwi, Option.bind_some, c1, Option.bind_some, Fr.2.2.2.1, Option.bind_some, hwo, Option.bind_some, d1, Option.bind_some, nI_1]
        refine ⟨_, rfl, ?_, rfl, ?_⟩
        · rw [hs, if_neg e]
        · rw [dw, if_neg e]
          exact d2
      unfold f_X9_dual_b20
      dsimp only
      rw [Fs.2.2.2.2.1, Option.bind_some, if_neg (nI_ge hp (by omega)), Fs.2.2.2.2.2.1, Option.bind_some]
      by_cases e1 : hs q n m (wR q n w) p < rk q n m (wR q n w)
      · have hh := hd_lt hq (wR_ok (w := w) hq) e1
        rw [if_neg (nI_ge e1 (by omega)), Fs.2.2.2.2.2.2.2.1, Option.bind_some, Fs.2.2.2.2.2.2.2.2.1 _ e1, Option.bind_some]
        by_cases e2 : hd q n m (wR q n w) (hs q n m (wR q n w) p) = p
        · rw [if_pos (by rw [e2]), nI_1, nI_1]
          refine ⟨_, rfl, ?_, rfl, ?_⟩
          · rw [hs, if_pos ⟨e1, e2⟩]
          · rw [dw, if_pos ⟨e1, e2⟩]
            exact e3
        · rw [if_neg (by rw [nI_eq (by omega) (by omega)]; exact e2)]
          exact skip (fun hh => e2 hh.2)
      · rw [if_pos (nI_le (by omega) (by omega))]
        exact skip (fun hh => e1 hh.1)
    · rintro ⟨y, z, s⟩ ⟨e1, e2, e3⟩
      dsimp only at e1 e2 e3
      subst e1 e2
      have Fs : Fdn σ0 s f q n m w := F.keep (by have := e3.1; omega) (fun a ha => e3.2.1 a ha)
      unfold f_X9_dual_b20
      dsimp only
      rw [Fs.2.2.2.2.1, Option.bind_some, if_pos (nI_le (Nat.le_refl _) (by omega))]
      exact ⟨_, rfl, e3⟩
  unfold f_X9_dual
  rw [Option.bind_some, Fn.2.2.2.1, Option.bind_some, Fn.2.2.2.2.1, Option.bind_some, hin, Option.bind_some, b1, Option.bind_some]
  exact ⟨τ, rfl, b2⟩
