/-! ===== PURE J20: shorter, the loops ===== -/
set_option maxRecDepth 100000
theorem okc_shorter {kd q n m i f : Nat} {w : Nat → Nat} (hok : okc kd q n m w) (hi : i < n) (hn : 2 ≤ n) : okc (kdl kd) q (n - 1) (shw kd q n i f w m).1 (shw kd q n i f w m).2 := by
  obtain ⟨hq, h1, h2, h3, h4, h5, h6⟩ := hok
  obtain ⟨o1, o2, -, o3⟩ := shw_ok (f := f) hq hi h5 h6 m (Nat.le_refl _)
  exact ⟨hq, by omega, by omega, kdl_le kd, by rw [cap_kdl]; omega, o2, fun e => o3 ((kdl_0 kd).mp e)⟩
/-- the first row with a letter there -/
def isF (q n i m f : Nat) (w : Nat → Nat) : Prop := f ≤ m ∧ (f < m → dg q n (w f) i ≠ 0) ∧ ∀ k, k < f → dg q n (w k) i = 0
theorem isF_ex (q n i m : Nat) (w : Nat → Nat) : ∃ f, isF q n i m f w := by
  by_cases hex : ∃ k, k < m ∧ dg q n (w k) i ≠ 0
  · obtain ⟨k, ⟨k1, k2⟩, hl⟩ := pk_least (fun k => k < m ∧ dg q n (w k) i ≠ 0) hex
    exact ⟨k, by omega, fun _ => k2, fun j hj => Classical.byContradiction fun hne => hl j hj ⟨by omega, hne⟩⟩
  · exact ⟨m, Nat.le_refl _, fun h => by omega, fun j hj => Classical.byContradiction fun hne => hex ⟨j, hj, hne⟩⟩
theorem X3_first {N p kd q n m i f : Nat} {st : MS} {w : Nat → Nat} {t : Int32} (hN : 5000 ≤ N) (hp : p < 12) (hok : okc kd q n m w) (hi : i < n) (hP : mPl st p kd q n m w) (hf : isF q n i m f w) : lp (f_X3_shorter_b37 N (nI p) (nI i) t (nI q) (nI n) st) N 0 = some (nI f) := by
  have hm := hok.m200
  have hw := hok.w62
  obtain ⟨hq, h1, h2, h3, hcap, h5, h6⟩ := hok
  obtain ⟨p1, p2, p3, p4, p5⟩ := hP
  obtain ⟨f1, f2, f3⟩ := hf
  have q5 := hq.2
  have body : ∀ k, k < m → f_X3_shorter_b37 N (nI p) (nI i) t (nI q) (nI n) st (nI k) = if dg q n (w k) i = 0 then some (.inl (nI (k + 1))) else some (.inr (nI k)) := by
    intro k hk
    unfold f_X3_shorter_b37
    rw [ald_N hp (by omega), Option.bind_some, p4, if_neg (nI_ge hk (by omega)), ix200, ald_N (show 200 * p + k < 2400 by omega) (by omega), Option.bind_some, p5 k hk, X3_letter (by omega) hq h2 (hw k hk) hi, Option.bind_some, nI_1]
    have hd := dg_lt hq n (w k) i
    by_cases e : dg q n (w k) i = 0
    · rw [if_pos e, if_pos (by rw [e]; rfl)]
    · rw [if_neg e, if_neg (nI_ne0 (by omega) (by omega))]
  refine lp_0 (S := nI) f rfl (by omega) (fun k hk => by rw [body k (by omega), if_pos (f3 k hk)]) ?_
  by_cases e : f = m
  · unfold f_X3_shorter_b37
    rw [ald_N hp (by omega), Option.bind_some, p4, if_pos (nI_le (by omega) (by omega))]
  · rw [body f (by omega), if_neg (f2 (by omega))]
theorem X1_first {N x kd q n m c A i f g : Nat} {t : Int32} {σ : SG} {w : Nat → Nat} (hN : 5000 ≤ N) (hok : okc kd q n m w) (hi : i < n) (C : xC σ c (cls kd) q n A m (cap kd) w) (hf : isF q n i m f w) : lp (f_X1_shorter_b42 N x (nI i) t c g σ) N 0 = some (nI (if kd = 0 then 0 else f)) := by
  have hm := hok.m200
  have hw := hok.w62
  have hcl := cap_le kd
  obtain ⟨hq, h1, h2, h3, hcap, h5, h6⟩ := hok
  obtain ⟨C1, gg, C2, C3⟩ := C
  obtain ⟨f1, f2, f3⟩ := hf
  have q5 := hq.2
  by_cases e0 : kd = 0
  · rw [if_pos e0]
    refine lp_0 (S := nI) 0 rfl (by omega) (fun k hk => by omega) ?_
    unfold f_X1_shorter_b42
    rw [isLine (N := N) C1 h3, Option.bind_some, if_pos e0, if_pos rfl]
  · rw [if_neg e0]
    have body : ∀ k, k < m → f_X1_shorter_b42 N x (nI i) t c g σ (nI k) = if dg q n (w k) i = 0 then some (.inl (nI (k + 1))) else some (.inr (nI k)) := by
      intro k hk
      unfold f_X1_shorter_b42
      rw [isLine (N := N) C1 h3, Option.bind_some, if_neg e0, if_neg i10, gI_of (k := 3) C1 (cls_in kd) rfl, Option.bind_some, if_neg (nI_ge hk (by omega)), gI_of (k := 0) C1 (cls_in kd) rfl, Option.bind_some, gI_of (k := 1) C1 (cls_in kd) rfl, Option.bind_some, gR_of C1 (cls_in kd) rfl, Option.bind_some, aL_of C2 (show k < cap kd by omega) (by omega), Option.bind_some, C3 k hk, X1_letter (by omega) hq h2 (hw k hk) hi, Option.bind_some, nI_1]
      have hd := dg_lt hq n (w k) i
      by_cases e : dg q n (w k) i = 0
      · rw [if_pos e, if_pos (by rw [e]; rfl)]
      · rw [if_neg e, if_neg (nI_ne0 (by omega) (by omega))]
    refine lp_0 (S := nI) f rfl (by omega) (fun k hk => by rw [body k (by omega), if_pos (f3 k hk)]) ?_
    by_cases e : f = m
    · unfold f_X1_shorter_b42
      rw [isLine (N := N) C1 h3, Option.bind_some, if_neg e0, if_neg i10, gI_of (k := 3) C1 (cls_in kd) rfl, Option.bind_some, if_pos (nI_le (by omega) (by omega))]
    · rw [body f (by omega), if_neg (f2 (by omega))]
