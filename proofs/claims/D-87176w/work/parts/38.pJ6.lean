/-! ===== PURE J6: add ===== -/
set_option maxRecDepth 100000
/-- why a word can't come -/
def rfs (kd q n m : Nat) (w : Nat → Nat) (v : Nat) : Int32 := if kd = 2 then -12 else if kd = 0 then (if fnd w v m = true then -3 else if m = 200 then -6 else 0) else if kd = 3 then (if owk q n v w m = true then (if m = 12 then -6 else 0) else -3) else (if m = 12 then -6 else 0)
theorem rfs_0 (q n m : Nat) (w : Nat → Nat) (v : Nat) : rfs 0 q n m w v = if fnd w v m = true then -3 else if m = 200 then -6 else 0 := rfl
theorem rfs_1 (q n m : Nat) (w : Nat → Nat) (v : Nat) : rfs 1 q n m w v = if m = 12 then -6 else 0 := rfl
theorem rfs_2 (q n m : Nat) (w : Nat → Nat) (v : Nat) : rfs 2 q n m w v = -12 := rfl
theorem rfs_3 (q n m : Nat) (w : Nat → Nat) (v : Nat) : rfs 3 q n m w v = if owk q n v w m = true then (if m = 12 then -6 else 0) else -3 := rfl
theorem X6_refuses {N c ci q n A m cp : Nat} {σ : SG} {w : Nat → Nat} {v : Int64} (h : xC σ c ci q n A m cp w) (hci : ci ∈ [3, 4, 5, 6]) (hm : m ≤ 200) : f_X6_refuses N σ c v = some (if m = 12 then -6 else 0) := by
  unfold f_X6_refuses
  rw [gI_of h.1 hci rfl, Option.bind_some]
  by_cases e : m = 12
  · rw [if_pos e, if_pos (by rw [e]; rfl)]
  · rw [if_neg e, if_neg (by rw [show (12 : Int32) = nI 12 from rfl, nI_eq (by omega) (by omega)]; exact e)]
theorem okc.w62 {kd q n m : Nat} {w : Nat → Nat} (h : okc kd q n m w) : ∀ k, k < m → w k < 2 ^ 62 := fun k hk => by
  have h1 := qn_small h.1 h.2.2.1
  have h2 := h.2.2.2.2.2.1 k hk
  omega
theorem okc.m200 {kd q n m : Nat} {w : Nat → Nat} (h : okc kd q n m w) : m ≤ 200 := Nat.le_trans h.2.2.2.2.1 (cap_le kd)
theorem dv_refuses {N c kd q n A m v : Nat} {σ : SG} {w : Nat → Nat} (hN : 5000 ≤ N) (hok : okc kd q n m w) (h : xC σ c (cls kd) q n A m (cap kd) w) (hv : v < 2 ^ 62) : dv_X4_refuses N σ c (lN v) = some (rfs kd q n m w v) := by
  have hm := hok.m200
  have hw := hok.w62
  obtain ⟨hq, h1, h2, hk, hcap, -⟩ := hok
  have hd : ∀ kd, σ.2 c = some (eO (cls kd) [.int (nI q), .int (nI n), .ref A, .int (nI m)]) → kd ≤ 3 → dv_X4_refuses N σ c (lN v) = if kd = 0 then f_X5_refuses N σ c (lN v) else if kd = 1 then f_X6_refuses N σ c (lN v) else if kd = 3 then f_X7_refuses N σ c (lN v) else f_X8_refuses N c (lN v) := by
    intro kd h hk
    unfold dv_X4_refuses
    rw [h]
    rcases (show kd = 0 ∨ kd = 1 ∨ kd = 2 ∨ kd = 3 by omega) with rfl | rfl | rfl | rfl <;> rfl
  rw [hd kd h.1 hk]
  have hci := cls_in kd
  rcases (show kd = 0 ∨ kd = 1 ∨ kd = 2 ∨ kd = 3 by omega) with rfl | rfl | rfl | rfl
  · rw [if_pos rfl]
    unfold f_X5_refuses
    rw [cC_of h.1 (by decide), Option.bind_some, X5_has hN h hci hcap (cap_le 0) hw hv, Option.bind_some, rfs_0]
    cases hb : fnd w v m with
    | true => rfl
    | false =>
      rw [if_pos (show bI false = 0 from rfl), gI_of h.1 hci rfl, Option.bind_some, if_neg (show ¬ false = true by decide)]
      by_cases e : m = 200
      · rw [if_pos e, if_pos (by rw [e]; rfl)]
      · rw [if_neg e, if_neg (by rw [show (200 : Int32) = nI 200 from rfl, nI_eq (by omega) (by omega)]; exact e)]
  · rw [if_neg (by decide), if_pos rfl, X6_refuses h hci hm]
    rfl
  · rfl
  · rw [if_neg (by decide), if_neg (by decide), if_pos rfl, X7_refuses hN hq h2 h hci hcap (cap_le 3) hw hv]
    rfl
theorem X3_own {N p kd q n m v : Nat} {st : MS} {w : Nat → Nat} (hN : 5000 ≤ N) (hq : isQ q) (hn : n ≤ 12) (hp : p < 12) (hm : m ≤ 200) (h : mPl st p kd q n m w) (hw : ∀ k, k < m → w k < 2 ^ 62) (hv : v < 2 ^ 62) : f_X3_add_j101 N (nI p) (lN v) (bI (owk q n v w 0)) st = if owk q n v w m = true then f_X3_add_j175 N (nI p) (lN v) st else some (st, -3) := by
  obtain ⟨p1, p2, p3, p4, p5⟩ := h
  have pz : ∀ u : Nat, (nI (wprod q n v u) = 0) = (wprod q n v u = 0) := fun u => by
    have := wprod_lt (n := n) (a := v) (b := u) hq
    have q5 := hq.2
    rw [← nI_0, nI_eq (by omega) (by omega)]
  unfold f_X3_add_j101
  rw [lp_0 (S := fun k => (bI (owk q n v w k), nI k)) (R := bI (owk q n v w m)) (s0 := (bI (owk q n v w 0), (0 : Int32))) (N := N) m rfl (by omega) ?_ ?_, Option.bind_some]
  · cases hb : owk q n v w m with
    | false => rfl
    | true => rfl
  · intro k hk
    unfold f_X3_add_b106
    dsimp only
    rw [ald_N hp (by omega), Option.bind_some, p4, if_neg (nI_ge hk (by omega)), ald_N hp (by omega), Option.bind_some, ald_N hp (by omega), Option.bind_some, p2, p3, ix200, ald_N (show 200 * p + k < 2400 by omega) (by omega), Option.bind_some, p5 k hk, X3_productOf (by omega) hq hn hv (hw k hk), Option.bind_some, nI_1]
    cases hb : owk q n v w k with
    | false =>
      have : owk q n v w (k + 1) = false := by rw [owk, hb]; rfl
      rw [this]
      rfl
    | true =>
      rw [if_neg (by decide)]
      by_cases e : wprod q n v (w k) = 0
      · rw [if_pos (by rw [pz]; exact e)]
        have : owk q n v w (k + 1) = true := by rw [owk, hb, decide_eq_true e]; rfl
        rw [this]
        rfl
      · rw [if_neg (by rw [pz]; exact e)]
        have : owk q n v w (k + 1) = false := by rw [owk, hb, decide_eq_false e]; rfl
        rw [this]
        rfl
  · unfold f_X3_add_b106
    dsimp only
    rw [ald_N hp (by omega), Option.bind_some, p4, if_pos (nI_le (Nat.le_refl _) (by omega))]
theorem X3_full {N p kd q n m v : Nat} {st : MS} {w : Nat → Nat} (hp : p < 12) (hk : kd ≤ 3) (hm : m ≤ 200) (h : mPl st p kd q n m w) : f_X3_add_j175 N (nI p) (lN v) st = if m = cap kd then some (st, -6) else f_X3_push N st (nI p) (lN v) := by
  obtain ⟨p1, p2, p3, p4, p5⟩ := h
  unfold f_X3_add_j175 f_X3_add_j198
  rw [ald_N hp (by omega), Option.bind_some, ald_N hp (by omega), Option.bind_some, p1, p4]
  have hpush : (Option.bind (f_X3_push N st (nI p) (lN v)) fun v9 => some (v9.1, v9.2)) = f_X3_push N st (nI p) (lN v) := by
    cases f_X3_push N st (nI p) (lN v) <;> rfl
  rw [hpush]
  by_cases e0 : kd = 0
  · subst e0
    rw [if_pos (show nI 0 = 0 from rfl), show cap 0 = 200 from rfl]
    by_cases e : m = 200
    · rw [if_pos e, if_pos (by rw [e]; rfl)]
    · rw [if_neg e, if_neg (by rw [show (200 : Int32) = nI 200 from rfl, nI_eq (by omega) (by omega)]; exact e)]
  · rw [if_neg (nI_ne0 (by omega) (by omega)), show cap kd = 12 from if_neg e0]
    by_cases e : m = 12
    · rw [if_pos e, if_pos (by rw [e]; rfl)]
    · rw [if_neg e, if_neg (by rw [show (12 : Int32) = nI 12 from rfl, nI_eq (by omega) (by omega)]; exact e)]
theorem add_kind {N p kd q n m v : Nat} {st : MS} {w : Nat → Nat} (hN : 5000 ≤ N) (hp : p < 12) (hok : okc kd q n m w) (h : mPl st p kd q n m w) (hv : v < 2 ^ 62) : (Option.bind (ald (st.1 1) 12 (nI p)) fun v4 => if v4 = (2 : Int32) then some (st, (-12 : Int32)) else Option.bind (ald (st.1 1) 12 (nI p)) fun v5 => if v5 = 0 then Option.bind (f_X3_find N st (nI p) (lN v)) fun v19 => if v19 = (-1 : Int32) then f_X3_add_j66 N (nI p) (lN v) st else some (st, (-3 : Int32)) else f_X3_add_j66 N (nI p) (lN v) st) = if rfs kd q n m w v = 0 then f_X3_push N st (nI p) (lN v) else some (st, rfs kd q n m w v) := by
  have hm := hok.m200
  have hw := hok.w62
  have h' := h
  obtain ⟨hq, h1, h2, hk, hcap, -⟩ := hok
  obtain ⟨p1, p2, p3, p4, p5⟩ := h
  have hfull := X3_full (N := N) (v := v) hp hk hm h'
  rw [ald_N hp (by omega), Option.bind_some, p1, Option.bind_some]
  have j66n : kd ≠ 3 → f_X3_add_j66 N (nI p) (lN v) st = f_X3_add_j175 N (nI p) (lN v) st := fun e => by
    unfold f_X3_add_j66
    rw [ald_N hp (by omega), Option.bind_some, p1, if_neg (by rw [show (3 : Int32) = nI 3 from rfl, nI_eq (by omega) (by omega)]; exact e)]
  rcases (show kd = 0 ∨ kd = 1 ∨ kd = 2 ∨ kd = 3 by omega) with rfl | rfl | rfl | rfl
  · rw [if_neg (show ¬ nI 0 = 2 by decide), if_pos (show nI 0 = 0 from rfl), rfs_0]
    rcases X3_find hN hp hm h' hw hv with ⟨e1, e2⟩ | ⟨e1, k, k1, k2, e2⟩
    · rw [e2, Option.bind_some, if_pos rfl, j66n (by decide), hfull, e1, show cap 0 = 200 from rfl]
      by_cases e : m = 200
      · simp only [if_pos e]
        rfl
      · simp only [if_neg e]
        rfl
    · rw [e2, Option.bind_some, if_neg (neg1_ne (by omega)), e1]
      rfl
  · rw [if_neg (show ¬ nI 1 = 2 by decide), if_neg (show ¬ nI 1 = 0 by decide), j66n (by decide), hfull, rfs_1, show cap 1 = 12 from rfl]
    by_cases e : m = 12
    · simp only [if_pos e]
      rfl
    · simp only [if_neg e]
      rfl
  · rw [if_pos (show nI 2 = 2 from rfl), rfs_2]
    rfl
  · rw [if_neg (show ¬ nI 3 = 2 by decide), if_neg (show ¬ nI 3 = 0 by decide), rfs_3]
    have j66o : f_X3_add_j66 N (nI p) (lN v) st = f_X3_add_j101 N (nI p) (lN v) (bI (owk q n v w 0)) st := by
      unfold f_X3_add_j66
      rw [ald_N hp (by omega), Option.bind_some, p1, if_pos (show nI 3 = 3 from rfl), ald_N hp (by omega), Option.bind_some, ald_N hp (by omega), Option.bind_some, p2, p3, X3_productOf (by omega) hq h2 hv hv, Option.bind_some]
      have hl := wprod_lt (n := n) (a := v) (b := v) hq
      have q5 := hq.2
      by_cases e : wprod q n v v = 0
      · rw [if_pos (by rw [e]; rfl), show owk q n v w 0 = true from decide_eq_true e]; rfl
      · rw [if_neg (nI_ne0 (by omega) (by omega)), show owk q n v w 0 = false from decide_eq_false e]; rfl
    rw [j66o, X3_own hN hq h2 hp hm h' hw hv, hfull, show cap 3 = 12 from rfl]
    cases hb : owk q n v w m with
    | false => rfl
    | true =>
      by_cases e : m = 12
      · simp only [if_pos e]
        rfl
      · simp only [if_neg e]
        rfl
