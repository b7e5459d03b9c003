/-! ===== PURE J36: ring ===== -/
set_option maxRecDepth 100000
/-- a polynomial's letters, from place i on -/
def rg (q n f i : Nat) : Nat → Nat
  | 0 => 0
  | k + 1 => rg q n f i k + ld q f k * q ^ (n - 1 - i - k)
theorem wl_zero (q : Nat) : ∀ n, wl q (fun _ => 0) n = 0
  | 0 => rfl
  | n + 1 => by rw [wl, wl_zero q n]; simp
theorem rg_wl {q n f i : Nat} (hi : i < n) : ∀ K, K ≤ n - i → rg q n f i K = wl q (fun j => if j ≤ n - 1 - i ∧ n - 1 - i - j < K then ld q f (n - 1 - i - j) else 0) n
  | 0, _ => by
    rw [wl_congr (g := fun _ => 0) (fun j _ => if_neg (by omega)), wl_zero]
    rfl
  | K + 1, hK => by
    rw [rg, rg_wl hi K (by omega), ← wl_upd (h := fun j => if j ≤ n - 1 - i ∧ n - 1 - i - j < K then ld q f (n - 1 - i - j) else 0) (j := n - 1 - i - K) (v := ld q f K) (by rw [if_neg (by omega)]) n (by omega)]
    refine wl_congr (fun j hj => ?_)
    by_cases e : j = n - 1 - i - K
    · rw [if_pos e, e, if_pos (by omega), show n - 1 - i - (n - 1 - i - K) = K by omega]
    · rw [if_neg e]
      by_cases e2 : j ≤ n - 1 - i ∧ n - 1 - i - j < K
      · rw [if_pos e2, if_pos (by omega)]
      · rw [if_neg e2, if_neg (by omega)]
theorem rg_lt {q n f i K : Nat} (hq : isQ q) (hi : i < n) (hK : K ≤ n - i) : rg q n f i K < q ^ n := by
  rw [rg_wl hi K hK]
  refine wl_lt (by have := hq.1; omega) n (fun j _ => ?_)
  split
  · exact ld_lt hq _ _
  · have := hq.1; omega
theorem cpI_of {σ : SG} {a b n0 n1 i k c : Nat} {f g : Nat → Int32} (h1 : σ.2 a = some (eI n0 f)) (h2 : σ.2 b = some (eI n1 g)) (hi : i + c ≤ n0) (hk : k + c ≤ n1) (hs : n0 < 2 ^ 31) (hs1 : n1 < 2 ^ 31) : cpI σ a (nI i) b (nI k) (nI c) = some (uC σ b (eI n1 (va_cpy f g i k c))) := by
  unfold cpI
  rw [h1, h2]
  show (if nI i < 0 ∨ nI k < 0 ∨ nI c < 0 ∨ n0 < (nI i).toNatClampNeg + (nI c).toNatClampNeg ∨ n1 < (nI k).toNatClampNeg + (nI c).toNatClampNeg then none else some (σ.1, va_up σ.2 b (some (.inl (0, n1, .inl (va_cpy f g (nI i).toNatClampNeg (nI k).toNatClampNeg (nI c).toNatClampNeg)))))) = _
  rw [nI_clamp (by omega), nI_clamp (by omega), nI_clamp (by omega), if_neg (by
    intro hh
    rcases hh with hh | hh | hh | hh | hh
    · exact nI_pos (by omega) hh
    · exact nI_pos (by omega) hh
    · exact nI_pos (by omega) hh
    · omega
    · omega)]
  rfl
/-- the degree -/
def isDeg (q f d : Nat) : Prop := f < q ^ (d + 1) ∧ ∀ k, k < d → q ^ (k + 1) ≤ f
theorem deg_ex {q n f : Nat} (hf : f < q ^ n) (hn : 1 ≤ n) : ∃ d, d < n ∧ isDeg q f d := by
  obtain ⟨d, h1, h2⟩ := pk_least (fun k => f < q ^ (k + 1)) ⟨n - 1, by rw [show n - 1 + 1 = n by omega]; exact hf⟩
  refine ⟨d, Nat.lt_of_not_le fun h => h2 (n - 1) (by omega) (by rw [show n - 1 + 1 = n by omega]; exact hf), h1, fun k hk => Nat.le_of_not_lt (h2 k hk)⟩
theorem X1_ringp {N n q f d x : Nat} {a1 : Int32} {σ : SG} (hN : 5000 ≤ N) (hq : isQ q) (hn : n ≤ 12) (hf : f < q ^ n) (hf0 : 0 < f) (hdn : d < n) (hd : isDeg q f d) : ∃ r v, lp (f_X1_ring_b50 N x a1 (nI q) (nI n) σ.1) N (0, lN f, 0, ((σ.1 + 1, va_up σ.2 σ.1 (some (.inl (0, nD 0 n)))) : SG)) = some r ∧ r.1 = nI d ∧ r.2 = ((σ.1 + 1, va_up σ.2 σ.1 (some (eI n v))) : SG) ∧ ∀ i, i < n → v i = nI (ld q f i) := by
  have q2 := hq.1
  have q5 := hq.2
  have hs := qn_small hq hn
  have hpos : ∀ k, k ≤ d → 0 < f / q ^ k := fun k hk => by
    apply Nat.div_pos _ (pow_pos hq)
    by_cases e : k = 0
    · rw [e, Nat.pow_zero]; exact hf0
    · have := hd.2 (k - 1) (by omega)
      rw [show k - 1 + 1 = k by omega] at this
      exact this
  obtain ⟨r, a1, a2⟩ : ∃ r, lp (f_X1_ring_b50 N x a1 (nI q) (nI n) σ.1) N (0, lN f, 0, ((σ.1 + 1, va_up σ.2 σ.1 (some (.inl (0, nD 0 n)))) : SG)) = some r ∧ (r.1 = nI d ∧ ∃ v, r.2 = ((σ.1 + 1, va_up σ.2 σ.1 (some (eI n v))) : SG) ∧ ∀ i, i < n → v i = nI (ld q f i)) := by
    refine lp_inv0 (P := fun k (s : Int32 × Int64 × Int32 × SG) => s.1 = nI (k - 1) ∧ s.2.1 = lN (f / q ^ k) ∧ s.2.2.1 = nI k ∧ ∃ v, s.2.2.2 = ((σ.1 + 1, va_up σ.2 σ.1 (some (eI n v))) : SG) ∧ (∀ i, i < k → v i = nI (ld q f i)) ∧ ∀ i, k ≤ i → v i = 0) (Q := fun (r : Int32 × SG) => r.1 = nI d ∧ ∃ v, r.2 = ((σ.1 + 1, va_up σ.2 σ.1 (some (eI n v))) : SG) ∧ ∀ i, i < n → v i = nI (ld q f i)) (d + 1) (by omega) ⟨rfl, by rw [Nat.pow_zero, Nat.div_one], rfl, fun _ => 0, rfl, fun i hi => by omega, fun i _ => rfl⟩ ?_ ?_
    · rintro k ⟨y1, y2, y3, s⟩ hk ⟨e1, e2, e3, v, e4, e5, e6⟩
      dsimp only at e1 e2 e3 e4
      subst e1 e2 e3 e4
      have hp := hpos k (by omega)
      have hle := Nat.div_le_self f (q ^ k)
      unfold f_X1_ring_b50
      dsimp only
      rw [if_neg (by rw [show (0 : Int64) = lN 0 from rfl, pk_lLE (by omega) (by omega)]; omega), ps_l q (by omega), lrem_N (by omega) (by omega) (by omega), Option.bind_some, wI_of (n := n) (f := v) (show va_up σ.2 σ.1 _ σ.1 = _ from up_s) (by omega) (by omega), Option.bind_some, ldiv_N (by omega) (by omega) (by omega), Option.bind_some, ps_i, div_succ, nI_1]
      refine ⟨_, rfl, rfl, rfl, rfl, upd v k (nI (f / q ^ k % q)), ?_, fun i hi => ?_, fun i hi => ?_⟩
      · show (σ.1 + 1, va_up (va_up σ.2 σ.1 _) σ.1 _) = _
        rw [up_up]
      · by_cases e : i = k
        · rw [e, up_s']; rfl
        · rw [up_n' e]; exact e5 i (by omega)
      · rw [up_n' (by omega)]; exact e6 i (by omega)
    · rintro ⟨y1, y2, y3, s⟩ ⟨e1, e2, e3, v, e4, e5, e6⟩
      dsimp only at e1 e2 e3 e4
      subst e1 e2 e3 e4
      unfold f_X1_ring_b50
      dsimp only
      rw [Nat.div_eq_of_lt hd.1, if_pos (by decide)]
      refine ⟨_, rfl, rfl, v, rfl, fun i hi => ?_⟩
      by_cases e : i < d + 1
      · exact e5 i e
      · rw [e6 i (by omega)]
        unfold ld
        have h9 : f < q ^ i := Nat.lt_of_lt_of_le hd.1 (Nat.pow_le_pow_right (by omega) (by omega))
        rw [Nat.div_eq_of_lt h9, Nat.zero_mod]
        rfl
  obtain ⟨h1, v, h2, h3⟩ := a2
  exact ⟨r, v, a1, h1, h2, h3⟩
theorem NC.arr {σ τ : SG} {f kd q n m k : Nat} {v : Nat → Int32} {w : Nat → Nat} (h : NC σ τ f kd q n m w) : NC σ ((τ.1 + 1, va_up τ.2 τ.1 (some (eI k v))) : SG) f kd q n m w := by
  obtain ⟨h1, h2, C1, g, C2, C3⟩ := h
  refine ⟨by show f + 2 ≤ τ.1 + 1; omega, fun a ha => ?_, ?_, g, ?_, C3⟩
  · show va_up τ.2 τ.1 _ a = _
    rw [up_n (by omega)]
    exact h2 a ha
  · show va_up τ.2 τ.1 _ f = _
    rw [up_n (by omega)]
    exact C1
  · show va_up τ.2 τ.1 _ (f + 1) = _
    rw [up_n (by omega)]
    exact C2
theorem NC.add8 {N f q n m v : Nat} {σ τ : SG} {w : Nat → Nat} (h : NC σ τ f 2 q n m w) (hm : m < 12) : ∃ τ', dv_X8_add N τ f (lN v) = some τ' ∧ NC σ τ' f 2 q n (m + 1) (wset w m v) ∧ τ'.1 = τ.1 := by
  obtain ⟨τ', a1, a2, a3, -⟩ := h.add (N := N) (v := v) hm
  refine ⟨τ', ?_, a2, a3⟩
  rw [← a1]
  unfold dv_X8_add dv_X4_add
  rw [h.2.2.1]
  rfl
theorem X1_ringw {N n q f d x P : Nat} {a1 : Int32} {σ τ : SG} {v : Nat → Int32} (hN : 5000 ≤ N) (hq : isQ q) (hn : n ≤ 12) (hdn : d < n) (hPv : P < σ.1) (hv : σ.2 P = some (eI n v)) (hvl : ∀ i, i < n → v i = nI (ld q f i)) (h0 : NC σ τ σ.1 2 q n 0 (fun i => rg q n f i (d + 1))) : ∃ τ', lp (f_X1_ring_b99 N x a1 (nI q) (nI n) P (nI d) σ.1) 13 (0, τ) = some τ' ∧ NC σ τ' σ.1 2 q n (n - d) (fun i => rg q n f i (d + 1)) := by
  have q5 := hq.2
  have q2 := hq.1
  refine lp_inv0 (P := fun i (s : Int32 × SG) => s.1 = nI i ∧ NC σ s.2 σ.1 2 q n i (fun i => rg q n f i (d + 1))) (Q := fun (s : SG) => NC σ s σ.1 2 q n (n - d) (fun i => rg q n f i (d + 1))) (n - d) (by omega) ⟨rfl, h0⟩ ?_ ?_
  · rintro i ⟨y, s⟩ hi ⟨e1, e2⟩
    dsimp only at e1 e2
    subst e1
    have e3 := e2.arr (k := n) (v := va_cpy v (fun _ => 0) 0 i (d + 1))
    have hPs : s.2 P = some (eI n v) := by rw [e2.2.1 P hPv]; exact hv
    have hb : P ≠ s.1 := by have := e2.1; omega
    have ha : ((s.1 + 1, va_up s.2 s.1 (some (.inl (0, nD 0 n)))) : SG).2 s.1 = some (eI n (fun _ => 0)) := by
      show va_up s.2 s.1 _ s.1 = _
      rw [up_s]
      rfl
    have hp2 : ((s.1 + 1, va_up s.2 s.1 (some (.inl (0, nD 0 n)))) : SG).2 P = some (eI n v) := by
      show va_up s.2 s.1 _ P = _
      rw [up_n hb]
      exact hPs
    have hcp := cpI_of (i := 0) (k := i) (c := d + 1) hp2 ha (by omega) (by omega) (by omega) (by omega)
    have hcell : uC ((s.1 + 1, va_up s.2 s.1 (some (.inl (0, nD 0 n)))) : SG) s.1 (eI n (va_cpy v (fun _ => 0) 0 i (d + 1))) = ((s.1 + 1, va_up s.2 s.1 (some (eI n (va_cpy v (fun _ => 0) 0 i (d + 1))))) : SG) := by
      show (s.1 + 1, va_up (va_up s.2 s.1 _) s.1 _) = _
      rw [up_up]
    rw [hcell] at hcp
    have hwo := X1_wordOf (N := N) (q := q) (n := n) (b := s.1) (σ := ((s.1 + 1, va_up s.2 s.1 (some (eI n (va_cpy v (fun _ => 0) 0 i (d + 1))))) : SG)) (V := fun a => if i ≤ a ∧ a < i + (d + 1) then ld q f (a - i) else 0) (by omega) hq hn (show va_up s.2 s.1 _ s.1 = _ from up_s) (fun a ha2 => by
      by_cases e : i ≤ a ∧ a < i + (d + 1)
      · rw [pk_cpy_in e.1 e.2, if_pos e, show 0 + (a - i) = a - i by omega, hvl _ (by omega)]
        exact ⟨rfl, ld_lt hq _ _⟩
      · rw [pk_cpy_out (by omega), if_neg e]
        exact ⟨rfl, by omega⟩)
    have hval : wl q (fun j => (fun a => if i ≤ a ∧ a < i + (d + 1) then ld q f (a - i) else 0) (n - 1 - j)) n = rg q n f i (d + 1) := by
      rw [rg_wl (by omega) (d + 1) (by omega)]
      refine wl_congr (fun j hj => ?_)
      dsimp only
      by_cases e : j ≤ n - 1 - i ∧ n - 1 - i - j < d + 1
      · rw [if_pos e, if_pos (by omega), show n - 1 - j - i = n - 1 - i - j by omega]
      · rw [if_neg e, if_neg (by omega)]
    rw [hval] at hwo
    obtain ⟨s2, b1, b2, b3⟩ := e3.add8 (N := N) (v := rg q n f i (d + 1)) (by omega)
    unfold f_X1_ring_b99
    dsimp only
    rw [nI_sub (by omega), if_neg (nI_ge hi (by omega)), nA_of hn (by omega), Option.bind_some, nI_1, show cpI ((s.1 + 1, va_up s.2 s.1 (some (.inl (0, nD 0 n)))) : SG) P 0 s.1 (nI i) (nI (d + 1)) = _ from hcp, Option.bind_some, hwo, Option.bind_some, b1, Option.bind_some, nI_1]
    refine ⟨_, rfl, rfl, b2.congr (fun a ha2 => ?_)⟩
    unfold wset
    split
    · rename_i e; rw [e]
    · rfl
  · rintro ⟨y, s⟩ ⟨e1, e2⟩
    dsimp only at e1 e2
    subst e1
    unfold f_X1_ring_b99
    dsimp only
    rw [nI_sub (by omega), if_pos (nI_le (Nat.le_refl _) (by omega))]
    exact ⟨_, rfl, e2⟩
theorem X3_ringw {N p n q f d : Nat} {st : MS} (hN : 5000 ≤ N) (hp : p < 12) (hq : isQ q) (hn : n ≤ 12) (hf : f < q ^ n) (hdn : d < n) (h0 : mPl st p 2 q n 0 (fun i => rg q n f i (d + 1))) : ∃ st', lp (f_X3_ring_b69 N (nI p) (nI q) (nI n) (lN f) (nI d)) N (0, st) = some st' ∧ mPl st' p 2 q n (n - d) (fun i => rg q n f i (d + 1)) ∧ Mp st st' p := by
  have q5 := hq.2
  have q2 := hq.1
  have hs := qn_small hq hn
  refine lp_inv0 (P := fun i (s : Int32 × MS) => s.1 = nI i ∧ mPl s.2 p 2 q n i (fun i => rg q n f i (d + 1)) ∧ Mp st s.2 p) (Q := fun (s : MS) => mPl s p 2 q n (n - d) (fun i => rg q n f i (d + 1)) ∧ Mp st s p) (n - d) (by omega) ⟨rfl, h0, (Mk.refl st).mp p⟩ ?_ ?_
  · rintro i ⟨y, s⟩ hi ⟨e1, e2, e3⟩
    dsimp only at e1 e2 e3
    subst e1
    have hin : lp (f_X3_ring_b84 N (nI p) (nI q) (nI n) (lN f) (nI d) (nI i) s) N (0, 0) = some (lN (rg q n f i (d + 1))) := by
      refine lp_0 (S := fun k => (lN (rg q n f i k), nI k)) (d + 1) rfl (by omega) ?_ ?_
      · intro k hk
        have hle := Nat.div_le_self f (q ^ k)
        have hpk := qn_small hq (show k ≤ 12 by omega)
        unfold f_X3_ring_b84
        dsimp only
        rw [if_neg (by rw [nI_ltI (by omega) (by omega)]; omega), X3_power (by omega) hq.lt (by omega), Option.bind_some, ldiv_N (by omega) (pow_pos hq) (by omega), Option.bind_some, ps_l q (by omega), lrem_N (by omega) (by omega) (by omega), Option.bind_some, nI_s1 (by omega), nI_sub (by omega), nI_sub (by omega), X3_power (by omega) hq.lt (by omega), Option.bind_some, lN_mul, lN_add, nI_1]
        rfl
      · unfold f_X3_ring_b84
        dsimp only
        rw [if_pos (by rw [nI_ltI (by omega) (by omega)]; omega)]
    obtain ⟨s2, b1, b2, b3, -⟩ := X3_push (N := N) (v := rg q n f i (d + 1)) hp (by omega) e2
    unfold f_X3_ring_b69
    dsimp only
    rw [nI_sub (by omega), if_neg (nI_ge hi (by omega)), hin, Option.bind_some, b1, Option.bind_some, nI_1]
    refine ⟨_, rfl, rfl, b2.congr (fun a ha2 => ?_), e3.trans b3⟩
    unfold wset
    split
    · rename_i e; rw [e]
    · rfl
  · rintro ⟨y, s⟩ ⟨e1, e2, e3⟩
    dsimp only at e1 e2 e3
    subst e1
    unfold f_X3_ring_b69
    dsimp only
    rw [nI_sub (by omega), if_pos (nI_le (Nat.le_refl _) (by omega))]
    exact ⟨_, rfl, e2, e3⟩
theorem X3_deg {N p n q f d : Nat} {a : Int32} {st : MS} (hN : 5000 ≤ N) (hq : isQ q) (hn : n ≤ 12) (hf : f < q ^ n) (hdn : d < n) (hd : isDeg q f d) : lp (f_X3_ring_b38 N (nI p) (nI q) a (lN f) st) N 0 = some (nI d) := by
  have hs := qn_small hq hn
  refine lp_0 (S := nI) d rfl (by omega) ?_ ?_
  · intro k hk
    have h1 := hd.2 k hk
    unfold f_X3_ring_b38
    rw [nI_1, X3_power (by omega) hq.lt (by omega), Option.bind_some, if_neg (by rw [pk_lLT (by omega) (by have := qn_small hq (show k + 1 ≤ 12 by omega); omega)]; omega)]
  · unfold f_X3_ring_b38
    have h1 := hd.1
    rw [nI_1, X3_power (by omega) hq.lt (by omega), Option.bind_some, if_pos (by rw [pk_lLT (by omega) (by have := qn_small hq (show d + 1 ≤ 12 by omega); omega)]; omega)]
theorem op_ring {N x M : Nat} {own : Nat → Nat} {σ : SG} {st : MS} (hN : 5000 ≤ N) (j : J x M own σ st) (a b c : Int32) (d : Int64) : Ok x M σ (f_X1_ring N σ x a b c d) (f_X3_ring N st a b c d) := by
  unfold f_X1_ring f_X3_ring
  simp only [X3_isPlace_eq, X3_isField_eq, X3_power_eq]
  rcases pl_cases j N a with h | ⟨p, hp, rfl, h, -⟩
  · rw [h]
    exact Ok.nil j rfl rfl
  · rw [h, Option.bind_some, if_neg i10, Option.bind_some, if_neg i10]
    rcases isField_cases N b c with ⟨q, n, hq, h1, hn, rfl, rfl, hF⟩ | hF
    · rw [hF, Option.bind_some, if_neg i10, Option.bind_some, if_neg i10]
      have hs := qn_small hq hn
      by_cases hd0 : d < 1
      · have hd1 : d ≤ 0 := by
          rw [Int64.le_iff_toInt_le, show (0 : Int64).toInt = 0 from rfl]
          rw [Int64.lt_iff_toInt_lt, show (1 : Int64).toInt = 1 from rfl] at hd0
          omega
        rw [if_pos hd0, if_pos hd1]
        exact Ok.nil j rfl rfl
      · have hd1 : ¬ d ≤ 0 := by
          rw [Int64.le_iff_toInt_le, show (0 : Int64).toInt = 0 from rfl]
          rw [Int64.lt_iff_toInt_lt, show (1 : Int64).toInt = 1 from rfl] at hd0
          omega
        have hd2 : ¬ d < 0 := by
          rw [Int64.lt_iff_toInt_lt, show (0 : Int64).toInt = 0 from rfl]
          rw [Int64.lt_iff_toInt_lt, show (1 : Int64).toInt = 1 from rfl] at hd0
          omega
        rw [if_neg hd0, if_neg hd1, X1_power (by omega) hq.lt (by omega), Option.bind_some, Option.bind_some]
        obtain ⟨f, hf2, rfl⟩ := pk_lOf hd2
        have hf0 : 0 < f := by
          apply Nat.pos_of_ne_zero
          intro e
          subst e
          exact hd0 (by decide)
        by_cases hf : f < q ^ n
        · have e1 : lN f < lN (q ^ n) := by rw [pk_lLT (by omega) (by omega)]; exact hf
          rw [if_pos e1, if_pos e1]
          obtain ⟨dd, d1, d2⟩ := deg_ex hf h1
          obtain ⟨r, v, a1, a2, a3, a4⟩ := X1_ringp (N := N) (x := x) (a1 := nI p) (σ := σ) hN hq hn hf hf0 d1 d2
          obtain ⟨τ, b1, b2, b3⟩ := X4_init (N := N) (kd := 2) (q := q) (n := n) (σ := r.2) (fun i => rg q n f i (dd + 1))
          have hr1 : r.2.1 = σ.1 + 1 := by rw [a3]
          have hrP : r.2.2 σ.1 = some (eI n v) := by rw [a3]; exact up_s
          have hrk : ∀ k, k < σ.1 → r.2.2 k = σ.2 k := fun k hk => by rw [a3]; exact up_n (by omega)
          have hin : f_X8_init N (nO 6 [.int 0, .int 0, .null, .int 0] r.2) r.2.1 (nI q) (nI n) = some τ := by
            unfold f_X8_init f_X6_init
            rw [show f_X4_init N (nO 6 [.int 0, .int 0, .null, .int 0] r.2) r.2.1 (nI q) (nI n) 12 = some τ from b1]
            rfl
          obtain ⟨τ2, c1, c2⟩ := X1_ringw (N := N) (x := x) (P := σ.1) (a1 := nI p) hN hq hn d1 (by omega) hrP a4 b2
          obtain ⟨s0, g1, g2, g3, -⟩ := X3_begin (N := N) (kd := 2) (q := q) (n := n) (st := st) hp (fun i => rg q n f i (dd + 1))
          obtain ⟨s1, k1, k2, k3⟩ := X3_ringw hN hp hq hn hf d1 g2
          have hok : okc 2 q n (n - dd) (fun i => rg q n f i (dd + 1)) := ⟨hq, h1, hn, by omega, by show n - dd ≤ 12; omega, fun k hk => rg_lt hq (by omega) (by omega), fun e => by omega⟩
          obtain ⟨c0, τ3, f1, ⟨own', f2⟩, f3⟩ := j.put_new (N := N) (τ := τ2) (f := r.2.1) (A := r.2.1 + 1) hp (by have := c2.1; omega) (fun k hk => by rw [c2.2.1 k (by omega)]; exact hrk k hk) ⟨by omega, by have := c2.1; omega⟩ ⟨by omega, by have := c2.1; omega⟩ c2.2.2 hok k2 (g3.trans k3)
          rw [nA_of hn (by omega), Option.bind_some, a1, Option.bind_some, a2, Option.bind_some, hin, Option.bind_some, c1, Option.bind_some, c0, Option.bind_some, f1, Option.bind_some, X3_deg hN hq hn hf d1 d2, Option.bind_some, show f_X3_begin N st (nI p) 2 (nI q) (nI n) = some s0 from g1, Option.bind_some, k1, Option.bind_some, ald_N hp (by omega), Option.bind_some, k2.2.2.2.1]
          exact ⟨τ3, s1, _, own', rfl, rfl, f2, f3⟩
        · have e1 : ¬ lN f < lN (q ^ n) := by rw [pk_lLT (by omega) (by omega)]; exact hf
          rw [if_neg e1, if_neg e1]
          exact Ok.nil j rfl rfl
    · rw [hF]
      exact Ok.nil j rfl rfl
