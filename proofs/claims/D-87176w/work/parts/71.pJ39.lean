/-! ===== PURE J39: the words of a line are what is in it; pigeons ===== -/
set_option maxRecDepth 100000
theorem sp_wsum {q n m a k c : Nat} {W : Nat → Nat → Nat} (hq : isQ q) (hW : okR q n m W) (hk : k < rk q n m W) (hc : c < q) (h : Sp q n m (fm q n m W) (fun i => dg q n a i)) : Sp q n m (fm q n m W) (fun i => dg q n (wsum q n a (fw q n m W k) c) i) := by
  have F := (frm_ok hq hW).1
  have hrm := rk_le hq hW
  refine (Sp.add hq F.1 h (Sp.smul hq F.1 hc (Sp.row hq F.1 (show k < m by omega)))).congr (fun i hi => ?_)
  rw [dg_wsum hq hc hi, dg_fw hq hW hk hi]
theorem sp_lk {q n m k : Nat} {W : Nat → Nat → Nat} (hq : isQ q) (hW : okR q n m W) : ∀ t, t ≤ rk q n m W → Sp q n m (fm q n m W) (fun i => dg q n (lk q n (rk q n m W) (fw q n m W) k t) i)
  | 0, _ => (Sp.zero hq (frm_ok hq hW).1.1).congr (fun i _ => dg_0)
  | t + 1, ht => sp_wsum hq hW (by omega) (Nat.mod_lt _ (by have := hq.1; omega)) (sp_lk hq hW t (by omega))
/-- two of the span with the same letters at the heads -/
theorem sp_eq {q n m a b : Nat} {W : Nat → Nat → Nat} (hq : isQ q) (hW : okR q n m W) (ha : a < q ^ n) (hb : b < q ^ n) (h1 : Sp q n m (fm q n m W) (fun i => dg q n a i)) (h2 : Sp q n m (fm q n m W) (fun i => dg q n b i)) (h : ∀ k, k < rk q n m W → dg q n a (hd q n m W k) = dg q n b (hd q n m W k)) : a = b := by
  have F := (frm_ok hq hW).1
  refine dg_inj hq ha hb (fun i hi => ?_)
  have e1 := Rf.by hq F h1 i hi
  have e2 := Rf.by hq F h2 i hi
  rw [e1, e2]
  exact fs_congr (fun k hk => by rw [h k hk])
theorem redw_hd {q n m v : Nat} {W : Nat → Nat → Nat} (hq : isQ q) (hW : okR q n m W) : ∀ k, k ≤ rk q n m W → ∀ i, i < k → dg q n (redw q n m W v k) (hd q n m W i) = 0
  | 0, _, i, hi => by omega
  | k + 1, hk, i, hi => by
    have F := (frm_ok hq hW).1
    have hrm := rk_le hq hW
    have hd1 := dg_lt hq n (redw q n m W v k) (hd q n m W k)
    rw [redw, dg_wsum hq (fneg_lt hq hd1) (hd_lt hq hW (by omega)), dg_fw hq hW (by omega) (hd_lt hq hW (by omega))]
    by_cases e : i = k
    · subst e
      rw [F.2.2.2.2.1 i (by omega), fmul_1 hq (fneg_lt hq hd1), fneg_add hq hd1]
    · rw [F.2.2.2.2.2.1 k i (by omega) (by omega) (fun h => e h.symm), fmul_0 hq (fneg_lt hq hd1), redw_hd hq hW k (by omega) i (by omega), fadd_0 hq (by have := hq.1; omega)]
theorem sp_redw {q n m v : Nat} {W : Nat → Nat → Nat} (hq : isQ q) (hW : okR q n m W) (h : Sp q n m (fm q n m W) (fun i => dg q n v i)) : ∀ k, k ≤ rk q n m W → Sp q n m (fm q n m W) (fun i => dg q n (redw q n m W v k) i)
  | 0, _ => h
  | k + 1, hk => sp_wsum hq hW (by omega) (fneg_lt hq (dg_lt hq _ _ _)) (sp_redw hq hW h k (by omega))
theorem sp_unredw {q n m v : Nat} {W : Nat → Nat → Nat} (hq : isQ q) (hW : okR q n m W) : ∀ k, k ≤ rk q n m W → Sp q n m (fm q n m W) (fun i => dg q n (redw q n m W v k) i) → Sp q n m (fm q n m W) (fun i => dg q n v i)
  | 0, _, h => h
  | k + 1, hk, h => by
    have F := (frm_ok hq hW).1
    have hrm := rk_le hq hW
    have hd1 := dg_lt hq n (redw q n m W v k) (hd q n m W k)
    refine sp_unredw hq hW k (by omega) ?_
    refine (Sp.add hq F.1 h (Sp.smul hq F.1 hd1 (Sp.row hq F.1 (show k < m by omega)))).congr (fun i hi => ?_)
    rw [redw, dg_wsum hq (fneg_lt hq hd1) hi, dg_fw hq hW (by omega) hi, fa_back hq (dg_lt hq _ _ _) hd1 (fm_lt hq hW (by omega) hi)]
theorem inl_iff {q n m v : Nat} {w : Nat → Nat} (hq : isQ q) (hv : v < q ^ n) : inl q n m w v = true ↔ ∃ k, k < q ^ rk q n m (wR q n w) ∧ lk q n (rk q n m (wR q n w)) (fw q n m (wR q n w)) k (rk q n m (wR q n w)) = v := by
  have hW := wR_ok (n := n) (m := m) (w := w) hq
  have q2 := hq.1
  unfold inl
  rw [decide_eq_true_iff]
  constructor
  · intro h
    have hsp := sp_unredw (v := v) hq hW _ (Nat.le_refl _) (by rw [h]; exact (Sp.zero hq (frm_ok hq hW).1.1).congr (fun i _ => dg_0))
    have hk := wl_lt (show 0 < q by omega) (f := fun j => dg q n v (hd q n m (wR q n w) (rk q n m (wR q n w) - 1 - j))) (rk q n m (wR q n w)) (fun j _ => dg_lt hq _ _ _)
    refine ⟨_, hk, sp_eq hq hW (lk_lt hq _) hv (sp_lk hq hW _ (Nat.le_refl _)) hsp (fun i hi => ?_)⟩
    rw [lk_dg hq hW hi _ (Nat.le_refl _), if_pos (by omega)]
    have := ld_wl (show 0 < q by omega) (f := fun j => dg q n v (hd q n m (wR q n w) (rk q n m (wR q n w) - 1 - j))) (rk q n m (wR q n w)) (fun j _ => dg_lt hq _ _ _) (rk q n m (wR q n w) - 1 - i) (by omega)
    rw [show rk q n m (wR q n w) - 1 - (rk q n m (wR q n w) - 1 - i) = i by omega] at this
    exact this
  · rintro ⟨k, hk, rfl⟩
    have hsp := sp_redw hq hW (sp_lk (k := k) hq hW _ (Nat.le_refl _)) _ (Nat.le_refl _)
    refine sp_eq hq hW (redw_lt hq hv _) (by have := pow_pos (n := n) hq; omega) hsp ((Sp.zero hq (frm_ok hq hW).1.1).congr (fun i _ => dg_0)) (fun i hi => ?_)
    rw [redw_hd hq hW _ (Nat.le_refl _) i hi, dg_0]
theorem pig {L : Nat} {R : Nat → Nat → Prop} (h1 : ∀ i, i < L → ∃ k, k < L ∧ R i k) (inj : ∀ i i' k, i < L → i' < L → R i k → R i' k → i = i') : ∀ k, k < L → ∃ i, i < L ∧ R i k := by
  intro k0 hk0
  apply Classical.byContradiction
  intro hne
  have hh : ∀ k, ∃ i, (∃ i', i' < L ∧ R i' k) → i < L ∧ R i k := fun k => by
    by_cases e : ∃ i', i' < L ∧ R i' k
    · obtain ⟨i, hi⟩ := e
      exact ⟨i, fun _ => hi⟩
    · exact ⟨0, fun h => absurd h e⟩
  have := surj_le L (L - 1) (fun k => if k = k0 then Classical.choose (hh (L - 1)) else Classical.choose (hh k)) (fun a ha => by
    obtain ⟨k, k1, k2⟩ := h1 a ha
    have hk : k ≠ k0 := fun e => hne ⟨a, ha, by rw [← e]; exact k2⟩
    have hc := Classical.choose_spec (hh k) ⟨a, ha, k2⟩
    have he := inj _ a k hc.1 ha hc.2 k2
    by_cases e : k = L - 1
    · refine ⟨k0, by omega, ?_⟩
      try dsimp only
      rw [if_pos rfl, ← e]
      exact he
    · refine ⟨k, by omega, ?_⟩
      try dsimp only
      rw [if_neg hk]
      exact he)
  omega
/-- a line and as many listed words: each in the other -/
theorem same_iff {kd q n m mo : Nat} {w wo : Nat → Nat} (hok : okc kd q n m w) (hk : kd ≠ 0) (hoko : okc 0 q n mo wo) (he : szv kd q n m w = mo) : alls (fun i => inl q n m w (wo i)) mo = alls (fun k => fnd wo (lw kd q n m w k) mo) (szv kd q n m w) := by
  have hq := hok.1
  have hsz : szv kd q n m w = q ^ rk q n m (wR q n w) := szv_line hk
  have hlw : ∀ k, lw kd q n m w k = lk q n (rk q n m (wR q n w)) (fw q n m (wR q n w)) k (rk q n m (wR q n w)) := fun k => if_neg hk
  have hd : ∀ i j, i < mo → j < mo → wo i = wo j → i = j := fun i j hi hj h => by
    rcases Nat.lt_trichotomy i j with hl | hl | hl
    · exact absurd h (hoko.2.2.2.2.2.2 rfl i j hl hj)
    · exact hl
    · exact absurd h.symm (hoko.2.2.2.2.2.2 rfl j i hl hi)
  have h1 : alls (fun i => inl q n m w (wo i)) mo = true ↔ ∀ i, i < mo → ∃ k, k < mo ∧ lw kd q n m w k = wo i := by
    rw [alls_iff]
    refine ⟨fun h i hi => ?_, fun h i hi => ?_⟩
    · obtain ⟨k, k1, k2⟩ := (inl_iff hq (hoko.2.2.2.2.2.1 i hi)).mp (h i hi)
      exact ⟨k, by rw [← he, hsz]; exact k1, by rw [hlw]; exact k2⟩
    · obtain ⟨k, k1, k2⟩ := h i hi
      exact (inl_iff hq (hoko.2.2.2.2.2.1 i hi)).mpr ⟨k, by rw [← hsz, he]; exact k1, by rw [← hlw]; exact k2⟩
  have h2 : alls (fun k => fnd wo (lw kd q n m w k) mo) (szv kd q n m w) = true ↔ ∀ k, k < mo → ∃ i, i < mo ∧ wo i = lw kd q n m w k := by
    rw [alls_iff, he]
    exact ⟨fun h k hk => (fnd_iff mo).mp (h k hk), fun h k hk => (fnd_iff mo).mpr (h k hk)⟩
  have h3 : alls (fun i => inl q n m w (wo i)) mo = true ↔ alls (fun k => fnd wo (lw kd q n m w k) mo) (szv kd q n m w) = true := by
    rw [h1, h2]
    constructor
    · intro h k hk
      obtain ⟨i, i1, i2⟩ := pig (L := mo) (R := fun i k => lw kd q n m w k = wo i) h (fun i i' k hi hi' e1 e2 => hd i i' hi hi' (by rw [← e1, e2])) k hk
      exact ⟨i, i1, i2.symm⟩
    · intro h i hi
      obtain ⟨k, k1, k2⟩ := pig (L := mo) (R := fun k i => wo i = lw kd q n m w k) h (fun k k' i hk hk' e1 e2 => lw_inj hok (by omega) (by omega) (by rw [← e1, e2])) i hi
      exact ⟨k, k1, k2.symm⟩
  cases ha : alls (fun i => inl q n m w (wo i)) mo with
  | true => rw [h3.mp ha]
  | false =>
    cases hb : alls (fun k => fnd wo (lw kd q n m w k) mo) (szv kd q n m w) with
    | false => rfl
    | true => rw [h3.mpr hb] at ha; cases ha
