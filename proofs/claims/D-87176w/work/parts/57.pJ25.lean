/-! ===== PURE J25: ways between laid words; both sides lay ===== -/
set_option maxRecDepth 100000
theorem kept0 : ∀ i, i < 12 → keptAt 0 i = true := by decide +kernel
theorem nI_p0 (a : Nat) : nI a + 0 = nI a := nI_add a 0
theorem wway_le (q n a b : Nat) (l : Int32) : wway q n a b l ≤ n := cn_le _ _
theorem wway_comm (q n a b : Nat) (l : Int32) : wway q n a b l = wway q n b a l := by
  unfold wway
  refine cn_congr (fun i hi => ?_)
  congr 1
  exact decide_eq_decide.mpr ⟨fun h e => h e.symm, fun h e => h e.symm⟩
theorem cn_none {t : Nat → Bool} : ∀ n, cn t n = 0 → ∀ i, i < n → t i = false
  | 0, _, i, hi => by omega
  | n + 1, h, i, hi => by
    rw [cn] at h
    have h1 : cn t n = 0 := by omega
    have h2 : (if t n = true then 1 else 0) = 0 := by omega
    by_cases e : i = n
    · subst e
      cases hb : t i with
      | false => rfl
      | true => rw [hb] at h2; simp at h2
    · exact cn_none n h1 i (by omega)
theorem cn_zero {t : Nat → Bool} : ∀ n, (∀ i, i < n → t i = false) → cn t n = 0
  | 0, _ => rfl
  | n + 1, h => by rw [cn, cn_zero n (fun i hi => h i (by omega)), h n (by omega)]; rfl
theorem wway_self (q n a : Nat) (l : Int32) : wway q n a a l = 0 := cn_zero n (fun i _ => by simp)
theorem wway_eq {q n a b : Nat} (hq : isQ q) (hn : n ≤ 12) (ha : a < q ^ n) (hb : b < q ^ n) (h : wway q n a b 0 = 0) : a = b := by
  refine dg_inj hq ha hb (fun i hi => ?_)
  have := cn_none n h i hi
  rw [kept0 i (by omega), Bool.true_and] at this
  exact Classical.byContradiction fun hne => by rw [decide_eq_true hne] at this; cases this
theorem X3_wayOfTwo {N p q n L a b : Nat} {st : MS} {W : Nat → Nat} (hN : 5000 ≤ N) (hp : p < 12) (hq : isQ q) (hn : n ≤ 12) (h3 : st.1 3 p = nI n) (hW : mW st q n L W) (hL : L ≤ 4096) (ha : a < L) (hb : b < L) : f_X3_wayOfTwo N st (nI p) (nI a) (nI b) = some (nI (wway q n (W a) (W b) 0)) := by
  have q5 := hq.2
  unfold f_X3_wayOfTwo
  rw [lp_0 (S := fun k => (nI (cn (fun i => keptAt 0 i && decide (dg q n (W a) i ≠ dg q n (W b) i)) k), nI k)) (R := nI (wway q n (W a) (W b) 0)) (N := N) (s0 := (0, 0)) n rfl (by omega) ?_ ?_]
  · rfl
  · intro k hk
    unfold f_X3_wayOfTwo_b6
    dsimp only
    have d1 := dg_lt hq n (W a) k
    have d2 := dg_lt hq n (W b) k
    rw [ald_N hp (by omega), Option.bind_some, h3, if_neg (nI_ge hk (by omega)), ix12, ald_N (show 12 * a + k < 49152 by omega) (by omega), Option.bind_some, hW.2.2 a ha k hk, ix12, ald_N (show 12 * b + k < 49152 by omega) (by omega), Option.bind_some, hW.2.2 b hb k hk, nI_1, cn, kept0 k (by omega), Bool.true_and]
    by_cases e : dg q n (W a) k = dg q n (W b) k
    · rw [if_pos (by rw [e]), nI_p0, if_neg (by simp [e])]
      exact rfl
    · rw [if_neg (by rw [nI_eq (by omega) (by omega)]; exact e), nI_1, if_pos (by simp [e])]
  · unfold f_X3_wayOfTwo_b6
    dsimp only
    rw [ald_N hp (by omega), Option.bind_some, h3, if_pos (nI_le (Nat.le_refl _) (by omega))]
    rfl
theorem X3_looksAt {N p kd q n m v : Nat} {st : MS} {w : Nat → Nat} (hN : 5000 ≤ N) (hp : p < 12) (hq : isQ q) (hn : n ≤ 12) (hP : mPl st p kd q n m w) (hv : v < 2 ^ 62) : ∃ st', f_X3_looksAt N st (nI p) (lN v) = some st' ∧ Kp [13] [] [] st st' ∧ ∀ i, i < n → st'.1 13 i = nI (dg q n v i) := by
  have q5 := hq.2
  have q2 := hq.1
  unfold f_X3_looksAt
  rw [ald_N hp (by omega), Option.bind_some, hP.2.2.1]
  obtain ⟨s', a1, a2, a3⟩ : ∃ st', lp (f_X3_looksAt_b13 N (nI p)) N (lN v, nI n - 1, st) = some st' ∧ Kp [13] [] [] st st' ∧ ∀ i, i < n → st'.1 13 i = nI (dg q n v i) := by
    refine lp_inv0 (P := fun t s => s.1 = lN (v / q ^ t) ∧ s.2.1 = dn n t ∧ Kp [13] [] [] st s.2.2 ∧ ∀ i, n - t ≤ i → i < n → s.2.2.1 13 i = nI (dg q n v i)) (Q := fun s => Kp [13] [] [] st s ∧ ∀ i, i < n → s.1 13 i = nI (dg q n v i)) n (by omega) ⟨by rw [Nat.pow_zero, Nat.div_one], dn_start n, Kp.refl _ _ _ _, fun i h1 h2 => by omega⟩ ?_ ?_
    · rintro t ⟨x, y, s⟩ ht ⟨e1, e2, e3, e5⟩
      dsimp only at e1 e2 e3 e5
      subst e1 e2
      have s2 : s.1 2 p = nI q := by rw [e3.1 2 (by decide)]; exact hP.2.1
      unfold f_X3_looksAt_b13
      dsimp only
      rw [if_neg (dn_neg ht (by omega)), ald_N hp (by omega), Option.bind_some, s2, ps_l q (by omega), lrem_N (small_div _ hv) (by omega) (by omega), Option.bind_some, dn_lt ht, iast_N (show n - 1 - t < 12 by omega) (by omega), Option.bind_some, sI_n (by decide), ald_N hp (by omega), Option.bind_some, s2, ps_l q (by omega), ldiv_N (small_div _ hv) (by omega) (by omega), Option.bind_some, ← dn_lt ht, dn_s ht, ps_i, div_succ]
      refine ⟨_, rfl, rfl, rfl, e3.sI (by decide) _, fun i h1 h2 => ?_⟩
      dsimp only
      rw [sI_s]
      by_cases e : i = n - 1 - t
      · rw [e, up_s']
        unfold dg
        rw [show n - 1 - (n - 1 - t) = t by omega]
      · rw [up_n' (by omega)]
        exact e5 i (by omega) h2
    · rintro ⟨x, y, s⟩ ⟨e1, e2, e3, e5⟩
      dsimp only at e1 e2 e3 e5
      subst e1 e2
      unfold f_X3_looksAt_b13
      dsimp only
      rw [if_pos (dn_fin n)]
      exact ⟨_, rfl, e3, fun i hi => e5 i (by omega) hi⟩
  rw [a1, Option.bind_some]
  exact ⟨s', rfl, a2, a3⟩
theorem X3_wayTo {N p q n L k v : Nat} {st : MS} {W : Nat → Nat} {lost : Int32} (hN : 5000 ≤ N) (hp : p < 12) (hq : isQ q) (hn : n ≤ 12) (h3 : st.1 3 p = nI n) (hW : mW st q n L W) (hL : L ≤ 4096) (hk : k < L) (h13 : ∀ i, i < n → st.1 13 i = nI (dg q n v i)) : f_X3_wayTo N st (nI p) (nI k) lost = some (nI (wway q n (W k) v lost)) := by
  have q5 := hq.2
  unfold f_X3_wayTo
  rw [wway_comm, lp_0 (S := fun i => (nI (cn (fun i => keptAt lost i && decide (dg q n v i ≠ dg q n (W k) i)) i), nI i)) (R := nI (wway q n v (W k) lost)) (N := N) (s0 := (0, 0)) n rfl (by omega) ?_ ?_]
  · rfl
  · intro i hi
    unfold f_X3_wayTo_b6
    dsimp only
    have d1 := dg_lt hq n (W k) i
    have d2 := dg_lt hq n v i
    rw [ald_N hp (by omega), Option.bind_some, h3, if_neg (nI_ge hi (by omega)), ald_N (show i < 12 by omega) (by omega), Option.bind_some, h13 i hi, ix12, ald_N (show 12 * k + i < 49152 by omega) (by omega), Option.bind_some, hW.2.2 k hk i hi, nI_1, cn]
    by_cases h2 : ((lost >>> (nI i &&& 31)) &&& (1 : Int32)) = 0
    · have hk2 : keptAt lost i = true := decide_eq_true h2
      rw [if_pos h2, hk2, Bool.true_and]
      by_cases e : dg q n v i = dg q n (W k) i
      · rw [if_pos (by rw [e]), nI_p0, if_neg (by simp [e])]
        exact rfl
      · rw [if_neg (by rw [nI_eq (by omega) (by omega)]; exact e), nI_1, if_pos (by simp [e])]
    · have hk2 : keptAt lost i = false := decide_eq_false h2
      rw [if_neg h2, hk2, nI_p0, Bool.false_and, if_neg (by decide)]
      exact rfl
  · unfold f_X3_wayTo_b6
    dsimp only
    rw [ald_N hp (by omega), Option.bind_some, h3, if_pos (nI_le (Nat.le_refl _) (by omega))]
    rfl
theorem mW.kp {st st1 : MS} {q n L : Nat} {W : Nat → Nat} {I F V : List Nat} (h : mW st q n L W) (k : Kp I F V st st1) (h1 : 12 ∉ I) (h2 : 10 ∉ F) (h3 : 11 ∉ V) : mW st1 q n L W := ⟨by rw [k.2.2.1 11 h3]; exact h.1, by rw [k.2.1 10 h2]; exact h.2.1, by rw [k.1 12 h1]; exact h.2.2⟩
theorem aQ_at {σ τ : SG} {a t : Nat} {i : Int32} (h : τ.2 a = σ.2 a) : aQ t τ a i = aQ t σ a i := by
  unfold aQ
  rw [h]
/-- both sides have laid out the words of place p -/
def Ld (x M : Nat) (own : Nat → Nat) (τ : SG) (st : MS) (p kd q n m : Nat) (w : Nat → Nat) (c : Nat) : Prop := J x M own τ st ∧ xW x τ (szv kd q n m w) (lw kd q n m w) ∧ mW st q n (szv kd q n m w) (lw kd q n m w) ∧ aQ 3 τ (x + 1) (nI p) = some (some c) ∧ xPl τ own (1 + p) kd q n m w c ∧ mPl st p kd q n m w ∧ okc kd q n m w ∧ szv kd q n m w ≤ 4096 ∧ p < 12
theorem both_lay {N x M p kd q n m c : Nat} {own : Nat → Nat} {σ : SG} {st : MS} {w : Nat → Nat} (hN : 5000 ≤ N) (j : J x M own σ st) (hp : p < 12) (h2 : aQ 3 σ (x + 1) (nI p) = some (some c)) (hok : okc kd q n m w) (hP : mPl st p kd q n m w) (hX : xPl σ own (1 + p) kd q n m w c) : ∃ τ st', f_X1_lays N σ x c = some (τ, if szv kd q n m w ≤ 4096 then 1 else 0) ∧ f_X3_lays N st (nI p) = some (st', if szv kd q n m w ≤ 4096 then 1 else 0) ∧ KM M σ τ ∧ J x M own τ st' ∧ (szv kd q n m w ≤ 4096 → Ld x M own τ st' p kd q n m w c) := by
  obtain ⟨τ, a1, a2, a3, a4, a5, a6⟩ := X1_lays (N := N) hN j (by omega) hok hX
  obtain ⟨st', b1, b2, b3⟩ := X3_lays hN hp hok hP
  have hk := b2.mk (by decide) (by decide)
  exact ⟨τ, st', a1, b1, a3, a2.scrM hk, fun hL => ⟨a2.scrM hk, a6 hL, b3 hL, by rw [aQ_at a5.1]; exact h2, a4, hP.kp hk, hok, hL, hp⟩⟩
theorem whyWs {N x M p c : Nat} {own : Nat → Nat} {σ : SG} {st : MS} (j : J x M own σ st) (h : f_X1_isPlace N (nI p) = some 1) (h2 : aQ 3 σ (x + 1) (nI p) = some (some c)) : f_X1_whyWords N σ x (nI p) = Option.bind (f_X1_lays N σ x c) (fun v => if v.2 = 0 then some (v.1, (-5 : Int32)) else some (v.1, (0 : Int32))) := by
  unfold f_X1_whyWords
  simp only [j.cc, asks_0 j h h2, j.codes, h2, Option.bind_some, if_true]
theorem Ld.wc {x M p kd q n m c : Nat} {own : Nat → Nat} {τ : SG} {st : MS} {w : Nat → Nat} (h : Ld x M own τ st p kd q n m w c) : gI [0] τ x 2 = some (nI (szv kd q n m w)) := by
  obtain ⟨-, ⟨⟨fh, h1⟩, -⟩, -⟩ := h
  exact gI_of h1 (by decide) rfl
theorem Ld.ws {x M p kd q n m c : Nat} {own : Nat → Nat} {τ : SG} {st : MS} {w : Nat → Nat} (h : Ld x M own τ st p kd q n m w c) : gR [0] τ x 1 = some (x + 2) := by
  obtain ⟨-, ⟨⟨fh, h1⟩, -⟩, -⟩ := h
  exact gR_of h1 (by decide) rfl
theorem Ld.wd {x M p kd q n m c k : Nat} {own : Nat → Nat} {τ : SG} {st : MS} {w : Nat → Nat} (h : Ld x M own τ st p kd q n m w c) (hk : k < szv kd q n m w) : aL τ (x + 2) (nI k) = some (lN (lw kd q n m w k)) := by
  obtain ⟨-, ⟨-, g, h1, h2⟩, -, -, -, -, -, hL, -⟩ := h
  rw [aL_of h1 (show k < 4096 by omega) (by omega), h2 k hk]
theorem Ld.cq {x M p kd q n m c : Nat} {own : Nat → Nat} {τ : SG} {st : MS} {w : Nat → Nat} (h : Ld x M own τ st p kd q n m w c) : gI [3, 4, 5, 6] τ c 0 = some (nI q) := by
  obtain ⟨-, -, -, -, ⟨A, x1, x2, x3, x4, C⟩, -⟩ := h
  exact gI_of C.1 (cls_in kd) rfl
theorem Ld.cn {x M p kd q n m c : Nat} {own : Nat → Nat} {τ : SG} {st : MS} {w : Nat → Nat} (h : Ld x M own τ st p kd q n m w c) : gI [3, 4, 5, 6] τ c 1 = some (nI n) := by
  obtain ⟨-, -, -, -, ⟨A, x1, x2, x3, x4, C⟩, -⟩ := h
  exact gI_of C.1 (cls_in kd) rfl
theorem Ld.lt {x M p kd q n m c k : Nat} {own : Nat → Nat} {τ : SG} {st : MS} {w : Nat → Nat} (h : Ld x M own τ st p kd q n m w c) (hk : k < szv kd q n m w) : lw kd q n m w k < 2 ^ 62 := by
  obtain ⟨-, -, -, -, -, -, hok, -, -⟩ := h
  have := lw_lt hok hk
  have := qn_small hok.1 hok.2.2.1
  omega
theorem Ld.way {N x M p kd q n m c k v : Nat} {own : Nat → Nat} {τ : SG} {st : MS} {w : Nat → Nat} {lost : Int32} (hN : 5000 ≤ N) (h : Ld x M own τ st p kd q n m w c) (hk : k < szv kd q n m w) (hv : v < 2 ^ 62) : f_X1_wayOf N (nI q) (nI n) (lN (lw kd q n m w k)) (lN v) lost = some (nI (wway q n (lw kd q n m w k) v lost)) := by
  have hl := h.lt hk
  obtain ⟨-, -, -, -, -, -, hok, -, -⟩ := h
  exact X1_wayOf (by omega) hok.1 hok.2.2.1 hl hv
/-- the model's further scratch -/
theorem Ld.sc {x M p kd q n m c : Nat} {own : Nat → Nat} {τ : SG} {st st1 : MS} {w : Nat → Nat} {I F V : List Nat} (h : Ld x M own τ st p kd q n m w c) (k : Kp I F V st st1) (hk : Mk st st1) (h1 : 12 ∉ I) (h2 : 10 ∉ F) (h3 : 11 ∉ V) : Ld x M own τ st1 p kd q n m w c := by
  obtain ⟨a1, a2, a3, a4, a5, a6, a7⟩ := h
  exact ⟨a1.scrM hk, a2, a3.kp k h1 h2 h3, a4, a5, a6.kp hk, a7⟩
theorem lays2 {N x M p kd q n m c : Nat} {own : Nat → Nat} {σ : SG} {st : MS} {w : Nat → Nat} (hN : 5000 ≤ N) (j : J x M own σ st) (hp : p < 12) (h : f_X1_isPlace N (nI p) = some 1) (h2 : aQ 3 σ (x + 1) (nI p) = some (some c)) (hok : okc kd q n m w) (hP : mPl st p kd q n m w) (hX : xPl σ own (1 + p) kd q n m w c) : (4096 < szv kd q n m w ∧ ∃ τ st', f_X1_whyWords N σ x (nI p) = some (τ, -5) ∧ f_X1_lays N σ x c = some (τ, 0) ∧ f_X3_lays N st (nI p) = some (st', 0) ∧ KM M σ τ ∧ J x M own τ st') ∨ ∃ τ st', f_X1_whyWords N σ x (nI p) = some (τ, 0) ∧ f_X1_lays N σ x c = some (τ, 1) ∧ f_X3_lays N st (nI p) = some (st', 1) ∧ KM M σ τ ∧ Ld x M own τ st' p kd q n m w c := by
  obtain ⟨τ, st', a1, b1, km, jj, hld⟩ := both_lay (N := N) hN j hp h2 hok hP hX
  rw [whyWs j h h2]
  by_cases hL : szv kd q n m w ≤ 4096
  · rw [if_pos hL] at a1 b1
    refine Or.inr ⟨τ, st', ?_, a1, b1, km, hld hL⟩
    rw [a1]
    rfl
  · rw [if_neg hL] at a1 b1
    refine Or.inl ⟨by omega, τ, st', ?_, a1, b1, km, jj⟩
    rw [a1]
    rfl
theorem lacks_no {N : Nat} {st : MS} {a : Int32} (h : f_X1_isPlace N a = some 0) : f_X3_lacks N st a = some (-1) := by
  unfold f_X3_lacks
  rw [X3_isPlace_eq, h]
  rfl
theorem lacks_none {N : Nat} {st : MS} {a : Int32} (h : f_X1_isPlace N a = some 1) (h3 : f_X3_isEmpty N st a = some 1) : f_X3_lacks N st a = some (-11) := by
  unfold f_X3_lacks
  rw [X3_isPlace_eq, h, Option.bind_some, if_neg i10, h3]
  rfl
theorem lacks_0 {N : Nat} {st : MS} {a : Int32} (h : f_X1_isPlace N a = some 1) (h3 : f_X3_isEmpty N st a = some 0) : f_X3_lacks N st a = some 0 := by
  unfold f_X3_lacks
  rw [X3_isPlace_eq, h, Option.bind_some, if_neg i10, h3]
  rfl
