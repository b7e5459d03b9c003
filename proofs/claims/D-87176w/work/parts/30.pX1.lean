/-! ===== PURE X1: access to abstract heaps; rows of letters ===== -/
set_option maxRecDepth 100000
theorem up_self {α : Type} {f : Nat → α} {k : Nat} {x : α} (h : f k = x) : va_up f k x = f := by
  funext j
  by_cases e : j = k
  · subst e; rw [up_s, h]
  · rw [up_n e]
/-- a heap with one cell laid anew -/
def uC (σ : SG) (b : Nat) (e : AE) : SG := (σ.1, va_up σ.2 b (some e))
theorem uC_s (σ : SG) (b : Nat) (e : AE) : (uC σ b e).2 b = some e := by
  show va_up σ.2 b (some e) b = some e
  exact up_s
theorem uC_n {σ : SG} {b a : Nat} {e : AE} (h : a ≠ b) : (uC σ b e).2 a = σ.2 a := by
  show va_up σ.2 b (some e) a = σ.2 a
  exact up_n h
theorem uC_uC (σ : SG) (b : Nat) (e e2 : AE) : uC (uC σ b e) b e2 = uC σ b e2 := by
  show (σ.1, va_up (va_up σ.2 b (some e)) b (some e2)) = (σ.1, va_up σ.2 b (some e2))
  rw [up_up]
theorem uC_self {σ : SG} {b : Nat} {e : AE} (h : σ.2 b = some e) : uC σ b e = σ := by
  show (σ.1, va_up σ.2 b (some e)) = σ
  rw [up_self h]
abbrev eI (n : Nat) (f : Nat → Int32) : AE := .inl (0, (n, .inl f))
abbrev eB (n : Nat) (f : Nat → Int32) : AE := .inl (2, (n, .inl f))
abbrev eL (n : Nat) (f : Nat → Int64) : AE := .inl (1, (n, .inr (.inl f)))
abbrev eQ (t n : Nat) (f : Nat → Option Nat) : AE := .inl (t, (n, .inr (.inr (.inr (.inr f)))))
abbrev eO (c : Nat) (fs : List Value) : AE := .inr (c, fs)
theorem gV_of {cs : List Nat} {σ : SG} {b k ci : Nat} {fs : List Value} {v : Value} (h : σ.2 b = some (eO ci fs)) (hc : ci ∈ cs) (hk : fs[k]? = some v) : gV cs σ b k = some v := by
  unfold gV
  rw [h]
  dsimp only
  rw [if_pos hc, hk]
theorem gI_of {cs : List Nat} {σ : SG} {b k ci : Nat} {fs : List Value} {x : Int32} (h : σ.2 b = some (eO ci fs)) (hc : ci ∈ cs) (hk : fs[k]? = some (.int x)) : gI cs σ b k = some x := by
  unfold gI
  rw [gV_of h hc hk]
theorem gJ_of {cs : List Nat} {σ : SG} {b k ci : Nat} {fs : List Value} {x : Int64} (h : σ.2 b = some (eO ci fs)) (hc : ci ∈ cs) (hk : fs[k]? = some (.long x)) : gJ cs σ b k = some x := by
  unfold gJ
  rw [gV_of h hc hk]
theorem gR_of {cs : List Nat} {σ : SG} {b k ci : Nat} {fs : List Value} {x : Nat} (h : σ.2 b = some (eO ci fs)) (hc : ci ∈ cs) (hk : fs[k]? = some (.ref x)) : gR cs σ b k = some x := by
  unfold gR
  rw [gV_of h hc hk]
theorem cC_of {cs : List Nat} {σ : SG} {b ci : Nat} {fs : List Value} (h : σ.2 b = some (eO ci fs)) (hc : ci ∈ cs) : cC cs σ b = some () := by
  unfold cC
  rw [h]
  dsimp only
  rw [if_pos hc]
theorem pV_of {cs : List Nat} {σ : SG} {b k ci : Nat} {fs : List Value} {w : Value} (h : σ.2 b = some (eO ci fs)) (hc : ci ∈ cs) (hk : k < fs.length) : pV cs σ b k w = some (uC σ b (eO ci (fs.set k w))) := by
  unfold pV
  rw [h]
  dsimp only
  rw [if_pos ⟨hc, hk⟩]
  rfl
theorem aI_of {σ : SG} {b n i : Nat} {f : Nat → Int32} (h : σ.2 b = some (eI n f)) (hi : i < n) (hn : n < 2 ^ 31) : aI σ b (nI i) = some (f i) := by
  unfold aI
  rw [h]
  exact ald_N hi hn
theorem aL_of {σ : SG} {b n i : Nat} {f : Nat → Int64} (h : σ.2 b = some (eL n f)) (hi : i < n) (hn : n < 2 ^ 31) : aL σ b (nI i) = some (f i) := by
  unfold aL
  rw [h]
  exact ald_N hi hn
theorem aQ_of {t : Nat} {σ : SG} {b n i : Nat} {f : Nat → Option Nat} (h : σ.2 b = some (eQ t n f)) (hi : i < n) (hn : n < 2 ^ 31) : aQ t σ b (nI i) = some (f i) := by
  unfold aQ
  rw [h]
  dsimp only
  rw [if_pos rfl]
  exact ald_N hi hn
theorem aN_of {t : Nat} {σ : SG} {b n : Nat} {x} (h : σ.2 b = some (.inl (t, (n, x)))) (ht : t < 6) : aN σ b = some (nI n) := by
  unfold aN
  rw [h]
  dsimp only
  rw [if_pos ht]
theorem wI_of {σ : SG} {b n i : Nat} {f : Nat → Int32} {x : Int32} (h : σ.2 b = some (eI n f)) (hi : i < n) (hn : n < 2 ^ 31) : wI σ b (nI i) x = some (uC σ b (eI n (upd f i x))) := by
  unfold wI
  rw [h]
  show Option.map _ (iast f n (nI i) x) = _
  rw [iast_N hi hn]
  rfl
theorem wL_of {σ : SG} {b n i : Nat} {f : Nat → Int64} {x : Int64} (h : σ.2 b = some (eL n f)) (hi : i < n) (hn : n < 2 ^ 31) : wL σ b (nI i) x = some (uC σ b (eL n (vp_updL f i x))) := by
  unfold wL
  rw [h]
  show Option.map _ (last f n (nI i) x) = _
  rw [last_N hi hn]
  rfl
theorem wQ_of {t : Nat} {σ : SG} {b n i : Nat} {f : Nat → Option Nat} {v : Option Nat} (h : σ.2 b = some (eQ t n f)) (ho : okQ t σ v = true) (hi : i < n) (hn : n < 2 ^ 31) : wQ t σ b (nI i) v = some (uC σ b (eQ t n (va_up f i v))) := by
  unfold wQ
  rw [h]
  dsimp only
  rw [if_pos ⟨rfl, ho⟩, if_neg (nI_in hi hn), nI_clamp (by omega)]
  rfl
theorem nA_of {t B n : Nat} {σ : SG} (h : n ≤ B) (hB : B < 2 ^ 31) : nA t B σ (nI n) = some (σ.1 + 1, va_up σ.2 σ.1 (some (.inl (t, nD t n)))) := by
  unfold nA
  rw [nI_clamp (by omega), if_neg (by
    intro hh
    rcases hh with hh | hh
    · exact nI_pos (by omega) hh
    · omega)]
theorem newA_s {t n : Nat} {σ : SG} : ((σ.1 + 1, va_up σ.2 σ.1 (some (.inl (t, nD t n)))) : SG).2 σ.1 = some (.inl (t, nD t n)) := up_s
theorem newA_n {t n a : Nat} {σ : SG} (h : a ≠ σ.1) : ((σ.1 + 1, va_up σ.2 σ.1 (some (.inl (t, nD t n)))) : SG).2 a = σ.2 a := up_n h
theorem up_s' {f : Nat → Int32} {k : Nat} {x : Int32} : upd f k x k = x := if_pos rfl
theorem up_n' {f : Nat → Int32} {k j : Nat} {x : Int32} (h : j ≠ k) : upd f k x j = f j := if_neg h
/-- letters: a new row -/
theorem X1_letters {q n w N : Nat} {σ : SG} (hN : 20 ≤ N) (hq : isQ q) (hn : n ≤ 12) (hw : w < 2 ^ 62) : ∃ v, f_X1_letters N σ (nI q) (nI n) (lN w) = some ((σ.1 + 1, va_up σ.2 σ.1 (some (eI n v))), σ.1) ∧ ∀ i, i < n → v i = nI (dg q n w i) := by
  have q5 := hq.2
  have q2 := hq.1
  unfold f_X1_letters
  rw [nA_of hn (by omega), Option.bind_some]
  obtain ⟨s, h1, v, h2, h3⟩ : ∃ s, lp (f_X1_letters_b13 N (nI q) σ.1) N (lN w, nI n - 1, ((σ.1 + 1, va_up σ.2 σ.1 (some (.inl (0, nD 0 n)))) : SG)) = some s ∧ ∃ v, s = ((σ.1 + 1, va_up σ.2 σ.1 (some (eI n v))) : SG) ∧ ∀ i, i < n → v i = nI (dg q n w i) := by
    refine lp_inv0 (P := fun k s => s.1 = lN (w / q ^ k) ∧ s.2.1 = dn n k ∧ ∃ v, s.2.2 = ((σ.1 + 1, va_up σ.2 σ.1 (some (eI n v))) : SG) ∧ ∀ i, n - k ≤ i → i < n → v i = nI (dg q n w i)) (Q := fun s => ∃ v, s = ((σ.1 + 1, va_up σ.2 σ.1 (some (eI n v))) : SG) ∧ ∀ i, i < n → v i = nI (dg q n w i)) n (by omega) ⟨by rw [Nat.pow_zero, Nat.div_one], dn_start n, fun _ => 0, rfl, fun i h1 h2 => by omega⟩ ?_ ?_
    · rintro k ⟨x, y, t⟩ hk ⟨e1, e2, v, e3, hv⟩
      dsimp only at e1 e2 e3
      subst e1 e2 e3
      unfold f_X1_letters_b13
      dsimp only
      rw [if_neg (dn_neg hk (by omega)), ps_l q (by omega), lrem_N (small_div _ hw) (by omega) (by omega), Option.bind_some, dn_lt hk, wI_of (n := n) (f := v) (show va_up σ.2 σ.1 _ σ.1 = _ from up_s) (by omega) (by omega), Option.bind_some, ldiv_N (small_div _ hw) (by omega) (by omega), Option.bind_some, ← dn_lt hk, dn_s hk, ps_i, div_succ]
      refine ⟨_, rfl, rfl, rfl, upd v (n - 1 - k) (nI (w / q ^ k % q)), ?_, fun i h1 h2 => ?_⟩
      · show (σ.1 + 1, va_up (va_up σ.2 σ.1 _) σ.1 _) = _
        rw [up_up]
      · by_cases e : i = n - 1 - k
        · rw [e, up_s']
          unfold dg
          rw [show n - 1 - (n - 1 - k) = k by omega]
        · rw [up_n' e]
          exact hv i (by omega) h2
    · rintro ⟨x, y, t⟩ ⟨e1, e2, v, e3, hv⟩
      dsimp only at e1 e2 e3
      subst e1 e2 e3
      unfold f_X1_letters_b13
      dsimp only
      rw [if_pos (dn_fin n)]
      exact ⟨_, rfl, v, rfl, fun i hi => hv i (by omega) hi⟩
  rw [h1, Option.bind_some, h2]
  exact ⟨v, rfl, h3⟩
/-- wordOf: the word of a row -/
theorem X1_wordOf {q n b N : Nat} {σ : SG} {v : Nat → Int32} {V : Nat → Nat} (hN : 20 ≤ N) (hq : isQ q) (hn : n ≤ 12) (h : σ.2 b = some (eI n v)) (hV : ∀ i, i < n → v i = nI (V i) ∧ V i < q) : f_X1_wordOf N σ (nI q) b = some (lN (wl q (fun j => V (n - 1 - j)) n)) := by
  have q5 := hq.2
  have q2 := hq.1
  unfold f_X1_wordOf
  rw [aN_of h (by omega), Option.bind_some, lp_0 (S := fun k => (lN (hv q V k), nI k)) (R := lN (wl q (fun j => V (n - 1 - j)) n)) n ?_ (by omega) ?_ ?_]
  · rfl
  · rfl
  · intro k hk
    unfold f_X1_wordOf_b13
    dsimp only
    rw [if_neg (nI_ge hk (by omega)), aI_of h hk (by omega), Option.bind_some, (hV k hk).1, ps_l q (by omega), ps_l _ (by have := (hV k hk).2; omega), lN_mul, lN_add, nI_1, Nat.mul_comm]
    rfl
  · unfold f_X1_wordOf_b13
    dsimp only
    rw [if_pos (nI_le (Nat.le_refl _) (by omega)), ← hv_all q n]
    congr 3
    exact hv_congr (fun i hi => by congr 1; omega)
