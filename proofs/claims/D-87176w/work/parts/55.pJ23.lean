/-! ===== PURE J23: lays of WordBench ===== -/
set_option maxRecDepth 100000
theorem cpL_of {σ : SG} {a b n0 n1 i k c : Nat} {f g : Nat → Int64} (h1 : σ.2 a = some (eL n0 f)) (h2 : σ.2 b = some (eL n1 g)) (hi : i + c ≤ n0) (hk : k + c ≤ n1) (hs : n0 < 2 ^ 31) (hs1 : n1 < 2 ^ 31) : cpL σ a (nI i) b (nI k) (nI c) = some (uC σ b (eL n1 (va_cpy f g i k c))) := by
  unfold cpL
  rw [h1, h2]
  show (if nI i < 0 ∨ nI k < 0 ∨ nI c < 0 ∨ n0 < (nI i).toNatClampNeg + (nI c).toNatClampNeg ∨ n1 < (nI k).toNatClampNeg + (nI c).toNatClampNeg then none else some (σ.1, va_up σ.2 b (some (.inl (1, n1, .inr (.inl (va_cpy f g (nI i).toNatClampNeg (nI k).toNatClampNeg (nI c).toNatClampNeg))))))) = _
  rw [nI_clamp (by omega), nI_clamp (by omega), nI_clamp (by omega), if_neg (by
    intro hh
    rcases hh with hh | hh | hh | hh | hh
    · exact nI_pos (by omega) hh
    · exact nI_pos (by omega) hh
    · exact nI_pos (by omega) hh
    · omega
    · omega)]
  rfl
/-- a finished form depends on its own cells alone -/
theorem Fdn.own {f q n m : Nat} {σ0 σ τ : SG} {w : Nat → Nat} (F : Fdn σ0 σ f q n m w) (h1 : σ.1 ≤ τ.1) (kp : ∀ a, f ≤ a → a < σ.1 → τ.2 a = σ.2 a) : Fdn τ τ f q n m w := by
  obtain ⟨f1, f2, f3, f4, f5, f6, f7, f8, f9, f10⟩ := F
  have gv : ∀ k, gV [7] τ f k = gV [7] σ f k := fun k => by unfold gV; rw [kp f (Nat.le_refl _) (by omega)]
  refine ⟨by omega, fun a ha => rfl, ?_, ?_, ?_, ?_, ?_, ?_, ?_, ?_⟩
  · unfold cC at f3 ⊢; rw [kp f (Nat.le_refl _) (by omega)]; exact f3
  · unfold gI at f4 ⊢; rw [gv]; exact f4
  · unfold gI at f5 ⊢; rw [gv]; exact f5
  · unfold gI at f6 ⊢; rw [gv]; exact f6
  · unfold gR at f7 ⊢; rw [gv]; exact f7
  · unfold gR at f8 ⊢; rw [gv]; exact f8
  · intro k hk
    have h := f9 k hk
    unfold aI at h ⊢
    rw [kp _ (by omega) (by omega)]
    exact h
  · intro k hk
    obtain ⟨b, v, c1, c2, c3, c4, c5⟩ := f10 k hk
    refine ⟨b, v, ?_, c2, by omega, by rw [kp b (by omega) c3]; exact c4, c5⟩
    unfold aQ at c1 ⊢
    rw [kp _ (by omega) (by omega)]
    exact c1
theorem lays_word {N x f c kd q n A m k : Nat} {σ0 σ : SG} {w : Nat → Nat} (hN : 5000 ≤ N) (hok : okc kd q n m w) (hk : kd ≠ 0) (C : xC σ c (cls kd) q n A m (cap kd) w) (F : Fdn σ0 σ f q n m w) (hk2 : k < 4096) : lp (f_X1_lays_b103 N x c f (nI k) σ) N (0, nI k, nI (rk q n m (wR q n w)) - 1) = some (lN (lw kd q n m w k)) := by
  have hc : cap kd = 12 := if_neg hk
  obtain ⟨hq, h1, h2, h3, hcap, h5, h6⟩ := hok
  have q5 := hq.2
  have q2 := hq.1
  have hs := qn_small hq h2
  have hr := rk_le12 (n := n) (w := w) hq (show m ≤ 12 by omega)
  have hdk : ∀ t, k / q ^ t < 4096 := fun t => Nat.lt_of_le_of_lt (Nat.div_le_self _ _) hk2
  have hend : lw kd q n m w k = lk q n (rk q n m (wR q n w)) (fw q n m (wR q n w)) k (rk q n m (wR q n w)) := if_neg hk
  rw [hend]
  refine lp_0 (S := fun t => (lN (lk q n (rk q n m (wR q n w)) (fw q n m (wR q n w)) k t), nI (k / q ^ t), dn (rk q n m (wR q n w)) t)) (rk q n m (wR q n w)) ?_ (by omega) ?_ ?_
  · rw [dn_start, Nat.pow_zero, Nat.div_one]
    rfl
  · intro t ht
    unfold f_X1_lays_b103
    dsimp only
    have hlk := lk_lt (n := n) (r := rk q n m (wR q n w)) (k := k) (f := fw q n m (wR q n w)) hq t
    have hfw := fw_lt hq (wR_ok (w := w) hq) (show rk q n m (wR q n w) - 1 - t < rk q n m (wR q n w) by omega)
    have hdt := hdk t
    rw [if_neg (dn_neg ht (by omega)), gI_of (k := 0) C.1 (cls_in kd) rfl, Option.bind_some, gI_of (k := 1) C.1 (cls_in kd) rfl, Option.bind_some, F.2.2.1, Option.bind_some, dn_lt ht, F.row (by omega) hq h2 (by omega), Option.bind_some, Option.bind_some, irem_N (by omega) (by omega) (by omega), Option.bind_some, X1_sumOf (by omega) hq h2 (by omega) (by omega) (Nat.mod_lt _ (by omega)), Option.bind_some, Option.bind_some, idiv_N (by omega) (by omega) (by omega), Option.bind_some, ← dn_lt ht, dn_s ht, div_succ]
    rfl
  · unfold f_X1_lays_b103
    dsimp only
    rw [if_pos (dn_fin _)]
/-- all words of WordBench are laid out -/
theorem X1_lays {N x M o kd q n m c : Nat} {own : Nat → Nat} {σ : SG} {st : MS} {w : Nat → Nat} (hN : 5000 ≤ N) (j : J x M own σ st) (ho : o ≠ 0) (hok : okc kd q n m w) (hX : xPl σ own o kd q n m w c) : ∃ τ, f_X1_lays N σ x c = some (τ, if szv kd q n m w ≤ 4096 then 1 else 0) ∧ J x M own τ st ∧ KM M σ τ ∧ xPl τ own o kd q n m w c ∧ (τ.2 (x + 1) = σ.2 (x + 1) ∧ ∀ a, a < σ.1 → own a ≠ 0 → τ.2 a = σ.2 a) ∧ (szv kd q n m w ≤ 4096 → xW x τ (szv kd q n m w) (lw kd q n m w)) := by
  have hm := hok.m200
  obtain ⟨A, x1, x2, x3, x4, C⟩ := id hX
  have hok' := hok
  obtain ⟨hq, h1, h2, h3, hcap, h5, h6⟩ := hok
  obtain ⟨⟨j1, j2, j3, j4⟩, ⟨⟨wc, fh, b1⟩, ⟨g2, b2⟩, b3, -⟩, -⟩ := id j
  have hcl := cap_le kd
  have hcx : c ≠ x ∧ c ≠ x + 2 ∧ A ≠ x ∧ A ≠ x + 2 := by
    refine ⟨fun e => ?_, fun e => ?_, fun e => ?_, fun e => ?_⟩
    · have := j3 c (by omega) (by omega); omega
    · have := j3 c (by omega) (by omega); omega
    · have := j3 A (by omega) (by omega); omega
    · have := j3 A (by omega) (by omega); omega
  obtain ⟨C1, g, C2, C3⟩ := C
  -- what a heap with other scratch gives
  have scr : ∀ τ : SG, σ.1 ≤ τ.1 → (∀ a, a < σ.1 → a ≠ x → a ≠ x + 2 → τ.2 a = σ.2 a) → (∃ wc fh, τ.2 x = some (eO 0 [.ref (x + 1), .ref (x + 2), .int wc, .ref (x + 3), .long fh, .ref (x + 4)])) → (∃ g, τ.2 (x + 2) = some (eL 4096 g)) → J x M own τ st ∧ KM M σ τ ∧ xPl τ own o kd q n m w c ∧ (τ.2 (x + 1) = σ.2 (x + 1) ∧ ∀ a, a < σ.1 → own a ≠ 0 → τ.2 a = σ.2 a) := by
    intro τ t1 t2 t3 t4
    refine ⟨j.scr t1 (fun a ha a1 a2 a3 => t2 a ha a1 a2) t3 t4 ?_ (Mk.refl st), ⟨t1, fun a a1 a2 => t2 a (by omega) (by omega) (by omega)⟩, hX.keep t1 (fun a ha hoa => ⟨t2 a ha (fun e => ?_) (fun e => ?_), rfl⟩), t2 _ (by omega) (by omega) (by omega), fun a ha ho => t2 a ha (fun e => ho (j3 a (by omega) (by omega))) (fun e => ho (j3 a (by omega) (by omega)))⟩
    · rw [t2 _ (by omega) (by omega) (by omega)]; exact b3
    · have := j3 a (by omega) (by omega); omega
    · have := j3 a (by omega) (by omega); omega
  unfold f_X1_lays
  rw [isLine (N := N) C1 h3, Option.bind_some]
  by_cases e : kd = 0
  · have hcap200 : cap kd = 200 := by rw [e]; rfl
    rw [if_pos e, if_pos rfl, szv_list e, if_pos (show m ≤ 4096 by omega), gR_of C1 (cls_in kd) rfl, Option.bind_some, gR_of b1 (by decide) rfl, Option.bind_some, gI_of (k := 3) C1 (cls_in kd) rfl, Option.bind_some]
    have hcp := cpL_of (i := 0) (k := 0) (c := m) C2 b2 (by omega) (by omega) (by omega) (by omega)
    have D1 : (uC σ (x + 2) (eL 4096 (va_cpy g g2 0 0 m))).2 c = some (eO (cls kd) [.int (nI q), .int (nI n), .ref A, .int (nI m)]) := by rw [uC_n hcx.2.1]; exact C1
    have D2 : (uC σ (x + 2) (eL 4096 (va_cpy g g2 0 0 m))).2 x = some (eO 0 [.ref (x + 1), .ref (x + 2), .int wc, .ref (x + 3), .long fh, .ref (x + 4)]) := by rw [uC_n (by omega)]; exact b1
    rw [show cpL σ A 0 (x + 2) 0 (nI m) = _ from hcp, Option.bind_some, gI_of (k := 3) D1 (cls_in kd) rfl, Option.bind_some, pV_of D2 (by decide) (show 2 < 6 by decide), Option.bind_some, rz_1, Option.bind_some]
    obtain ⟨r1, r2, r3, r4⟩ := scr (uC (uC σ (x + 2) (eL 4096 (va_cpy g g2 0 0 m))) x (eO 0 [.ref (x + 1), .ref (x + 2), .int (nI m), .ref (x + 3), .long fh, .ref (x + 4)])) (Nat.le_refl _) (fun a _ a1 a2 => by rw [uC_n a1, uC_n a2]) ⟨_, _, uC_s _ _ _⟩ ⟨_, by rw [uC_n (by omega)]; exact uC_s _ _ _⟩
    refine ⟨_, rfl, r1, r2, r3, r4, fun _ => ⟨⟨fh, uC_s _ _ _⟩, va_cpy g g2 0 0 m, ?_, fun k hk => ?_⟩⟩
    · show (uC (uC σ (x + 2) _) x _).2 (x + 2) = _
      rw [uC_n (by omega)]
      exact uC_s _ _ _
    · rw [pk_cpy_in (by omega) (by omega), show 0 + (k - 0) = k by omega, C3 k hk]
      unfold lw
      rw [if_pos e]
  · have hc : cap kd = 12 := if_neg e
    have hr := rk_le12 (n := n) (w := w) hq (show m ≤ 12 by omega)
    obtain ⟨τ, a1, F, a3, a4, a5, a6⟩ := new_form (N := N) (by omega) j hok' e hX
    have hrs := qn_small hq hr
    have D1 : τ.2 c = some (eO (cls kd) [.int (nI q), .int (nI n), .ref A, .int (nI m)]) := by rw [a6 c x1]; exact C1
    have D2 : τ.2 x = some (eO 0 [.ref (x + 1), .ref (x + 2), .int wc, .ref (x + 3), .long fh, .ref (x + 4)]) := by rw [a6 x (by omega)]; exact b1
    have D3 : τ.2 (x + 2) = some (eL 4096 g2) := by rw [a6 _ (by omega)]; exact b2
    rw [if_neg e, if_neg i10, szv_line e, Option.bind_some, a1, Option.bind_some, gI_of (k := 0) D1 (cls_in kd) rfl, Option.bind_some, F.2.2.2.2.2.1, Option.bind_some, X1_power (by omega) hq.lt (by omega), Option.bind_some]
    by_cases hL : q ^ rk q n m (wR q n w) ≤ 4096
    · rw [if_pos hL, if_pos (show lN (q ^ rk q n m (wR q n w)) ≤ 4096 by rw [show (4096 : Int64) = lN 4096 from rfl, pk_lLE (by omega) (by omega)]; exact hL), Option.bind_some, Option.bind_some, X1_power (by omega) hq.lt (by omega), Option.bind_some, ps_i, show pV [0] τ x 2 (.int (nI (q ^ rk q n m (wR q n w)))) = some (uC τ x (eO 0 [.ref (x + 1), .ref (x + 2), .int (nI (q ^ rk q n m (wR q n w))), .ref (x + 3), .long fh, .ref (x + 4)])) from pV_of D2 (by decide) (show 2 < 6 by decide), Option.bind_some]
      obtain ⟨τ2, c1, c2, c3, c4, g3, c5, c6⟩ : ∃ τ2, lp (f_X1_lays_b81 N x c σ.1) N (0, uC τ x (eO 0 [.ref (x + 1), .ref (x + 2), .int (nI (q ^ rk q n m (wR q n w))), .ref (x + 3), .long fh, .ref (x + 4)])) = some τ2 ∧ τ2.1 = τ.1 ∧ (∀ a, a ≠ x → a ≠ x + 2 → τ2.2 a = τ.2 a) ∧ τ2.2 x = some (eO 0 [.ref (x + 1), .ref (x + 2), .int (nI (q ^ rk q n m (wR q n w))), .ref (x + 3), .long fh, .ref (x + 4)]) ∧ ∃ g, τ2.2 (x + 2) = some (eL 4096 g) ∧ ∀ k, k < q ^ rk q n m (wR q n w) → g k = lN (lw kd q n m w k) := by
        refine lp_inv0 (P := fun k (s : Int32 × SG) => s.1 = nI k ∧ s.2.1 = τ.1 ∧ (∀ a, a ≠ x → a ≠ x + 2 → s.2.2 a = τ.2 a) ∧ s.2.2 x = some (eO 0 [.ref (x + 1), .ref (x + 2), .int (nI (q ^ rk q n m (wR q n w))), .ref (x + 3), .long fh, .ref (x + 4)]) ∧ ∃ g, s.2.2 (x + 2) = some (eL 4096 g) ∧ ∀ i, i < k → g i = lN (lw kd q n m w i)) (Q := fun (s : SG) => s.1 = τ.1 ∧ (∀ a, a ≠ x → a ≠ x + 2 → s.2 a = τ.2 a) ∧ s.2 x = some (eO 0 [.ref (x + 1), .ref (x + 2), .int (nI (q ^ rk q n m (wR q n w))), .ref (x + 3), .long fh, .ref (x + 4)]) ∧ ∃ g, s.2 (x + 2) = some (eL 4096 g) ∧ ∀ k, k < q ^ rk q n m (wR q n w) → g k = lN (lw kd q n m w k)) (q ^ rk q n m (wR q n w)) (by omega) ⟨rfl, rfl, fun a a1 _ => uC_n a1, uC_s _ _ _, g2, by rw [uC_n (by omega)]; exact D3, fun i hi => by omega⟩ ?_ ?_
        · rintro k ⟨y, s⟩ hk ⟨e1, e2, e3, e4, g3, e5, e6⟩
          dsimp only at e1 e2 e3 e4 e5
          subst e1
          have Cs : xC s c (cls kd) q n A m (cap kd) w := ⟨by rw [e3 c hcx.1 hcx.2.1]; exact D1, g, by rw [e3 A hcx.2.2.1 hcx.2.2.2, a6 A x2]; exact C2, C3⟩
          have Fs := F.own (τ := s) (by omega) (fun a ha _ => e3 a (by omega) (by omega))
          unfold f_X1_lays_b81
          dsimp only
          rw [gI_of (k := 2) e4 (by decide) rfl, Option.bind_some, if_neg (nI_ge hk (by omega)), Fs.2.2.2.2.2.1, Option.bind_some, lays_word hN hok' e Cs Fs (by omega), Option.bind_some, gR_of e4 (by decide) rfl, Option.bind_some, wL_of e5 (show k < 4096 by omega) (by omega), Option.bind_some, nI_1]
          refine ⟨_, rfl, rfl, e2, fun a a1 a2 => ?_, ?_, vp_updL g3 k (lN (lw kd q n m w k)), uC_s _ _ _, fun i hi => ?_⟩
          · dsimp only
            rw [uC_n a2]; exact e3 a a1 a2
          · dsimp only
            rw [uC_n (by omega)]; exact e4
          · by_cases ei : i = k
            · rw [ei, pk_uLs]
            · rw [pk_uLn ei]; exact e6 i (by omega)
        · rintro ⟨y, s⟩ ⟨e1, e2, e3, e4, g3, e5, e6⟩
          dsimp only at e1 e2 e3 e4 e5
          subst e1
          unfold f_X1_lays_b81
          dsimp only
          rw [gI_of (k := 2) e4 (by decide) rfl, Option.bind_some, if_pos (nI_le (Nat.le_refl _) (by omega))]
          exact ⟨_, rfl, e2, e3, e4, g3, e5, e6⟩
      rw [c1, Option.bind_some, rz_1, Option.bind_some]
      obtain ⟨r1, r2, r3, r4⟩ := scr τ2 (by omega) (fun a ha a1 a2 => by rw [c3 a a1 a2, a6 a ha]) ⟨_, _, c4⟩ ⟨_, c5⟩
      exact ⟨τ2, rfl, r1, r2, r3, r4, fun _ => ⟨⟨fh, c4⟩, g3, c5, c6⟩⟩
    · rw [if_neg hL, if_neg (show ¬ lN (q ^ rk q n m (wR q n w)) ≤ 4096 by rw [show (4096 : Int64) = lN 4096 from rfl, pk_lLE (by omega) (by omega)]; exact hL), rz_0, Option.bind_some]
      obtain ⟨r1, r2, r3, r4⟩ := scr τ a5 (fun a ha _ _ => a6 a ha) ⟨_, _, D2⟩ ⟨_, D3⟩
      exact ⟨τ, rfl, r1, r2, r3, r4, fun h => absurd h hL⟩
