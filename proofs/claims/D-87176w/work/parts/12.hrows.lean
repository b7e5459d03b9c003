/-! ===== operations on abstract heaps, and their rows ===== -/
set_option maxRecDepth 100000
def gV (cs : List Nat) (σ : SG) (b k : Nat) : Option Value := match σ.2 b with
  | some (.inr (ci, fs)) => if ci ∈ cs then fs[k]? else none
  | _ => none
def gI (cs : List Nat) (σ : SG) (b k : Nat) : Option Int32 := match gV cs σ b k with
  | some (.int x) => some x
  | _ => none
def gJ (cs : List Nat) (σ : SG) (b k : Nat) : Option Int64 := match gV cs σ b k with
  | some (.long x) => some x
  | _ => none
def gR (cs : List Nat) (σ : SG) (b k : Nat) : Option Nat := match gV cs σ b k with
  | some (.ref x) => some x
  | _ => none
def gQ (cs : List Nat) (σ : SG) (b k : Nat) : Option (Option Nat) := match gV cs σ b k with
  | some .null => some none
  | some (.ref x) => some (some x)
  | _ => none
/-- the object's class is one of these -/
def cC (cs : List Nat) (σ : SG) (b : Nat) : Option Unit := match σ.2 b with
  | some (.inr (ci, _)) => if ci ∈ cs then some () else none
  | _ => none
def pV (cs : List Nat) (σ : SG) (b k : Nat) (w : Value) : Option SG := match σ.2 b with
  | some (.inr (ci, fs)) => if ci ∈ cs ∧ k < fs.length then some (σ.1, va_up σ.2 b (some (.inr (ci, fs.set k w)))) else none
  | _ => none
def aI (σ : SG) (b : Nat) (i : Int32) : Option Int32 := match σ.2 b with
  | some (.inl (0, n, .inl f)) => ald f n i
  | _ => none
def aL (σ : SG) (b : Nat) (i : Int32) : Option Int64 := match σ.2 b with
  | some (.inl (1, n, .inr (.inl f))) => ald f n i
  | _ => none
def aQ (t : Nat) (σ : SG) (b : Nat) (i : Int32) : Option (Option Nat) := match σ.2 b with
  | some (.inl (t', n, .inr (.inr (.inr (.inr f))))) => if t' = t then ald f n i else none
  | _ => none
def aN (σ : SG) (b : Nat) : Option Int32 := match σ.2 b with
  | some (.inl (t, n, _)) => if t < 6 then some (nI n) else none
  | _ => none
def wI (σ : SG) (b : Nat) (i x : Int32) : Option SG := match σ.2 b with
  | some (.inl (0, n, .inl f)) => (iast f n i x).map (fun f' => (σ.1, va_up σ.2 b (some (.inl (0, n, .inl f')))))
  | _ => none
def wL (σ : SG) (b : Nat) (i : Int32) (x : Int64) : Option SG := match σ.2 b with
  | some (.inl (1, n, .inr (.inl f))) => (last f n i x).map (fun f' => (σ.1, va_up σ.2 b (some (.inl (1, n, .inr (.inl f'))))))
  | _ => none
def wB (σ : SG) (b : Nat) (i x : Int32) : Option SG := match σ.2 b with
  | some (.inl (2, n, .inl f)) => (iast f n i (vp_nar .byte x)).map (fun f' => (σ.1, va_up σ.2 b (some (.inl (2, n, .inl f')))))
  | _ => none
/-- what may be laid into an array of references -/
def okQ (t : Nat) (σ : SG) (v : Option Nat) : Bool := match v with
  | none => t != 4
  | some o => match σ.2 o with
    | some (.inr (ci, _)) => (t == 3 && (ci == 3 || ci == 4 || ci == 5 || ci == 6)) || (t == 5 && ci == 1)
    | some (.inl (0, _, .inl _)) => t == 4
    | _ => false
def wQ (t : Nat) (σ : SG) (b : Nat) (i : Int32) (v : Option Nat) : Option SG := match σ.2 b with
  | some (.inl (t', n, .inr (.inr (.inr (.inr f))))) => if t' = t ∧ okQ t σ v = true then (if i < 0 ∨ n ≤ i.toNatClampNeg then none else some (σ.1, va_up σ.2 b (some (.inl (t, n, .inr (.inr (.inr (.inr (va_up f i.toNatClampNeg v)))))))) ) else none
  | _ => none
def nO (ci : Nat) (fs : List Value) (σ : SG) : SG := (σ.1 + 1, va_up σ.2 σ.1 (some (.inr (ci, fs))))
/-- what a new array of that tag holds -/
def nD (t n : Nat) : vp_A := if t = 1 then (n, .inr (.inl (fun _ => 0))) else if t = 3 ∨ t = 4 ∨ t = 5 then (n, .inr (.inr (.inr (.inr (fun _ => none))))) else (n, .inl (fun _ => 0))
def nA (t B : Nat) (σ : SG) (n : Int32) : Option SG := if n < 0 ∨ B < n.toNatClampNeg then none else some (σ.1 + 1, va_up σ.2 σ.1 (some (.inl (t, nD t n.toNatClampNeg))))
/-- instanceof: 1 for the classes ys, 0 for the classes ns and for null -/
def iO (ys ns : List Nat) (σ : SG) (v : Option Nat) : Option Int32 := match v with
  | none => some 0
  | some b => match σ.2 b with
    | some (.inr (ci, _)) => if ci ∈ ys then some 1 else if ci ∈ ns then some 0 else none
    | _ => none
/-- System.arraycopy of longs, of ints -/
def cpL (σ : SG) (a : Nat) (sp : Int32) (b : Nat) (dp n : Int32) : Option SG := match σ.2 a, σ.2 b with
  | some (.inl (1, n0, .inr (.inl f))), some (.inl (1, n1, .inr (.inl g))) => if sp < 0 ∨ dp < 0 ∨ n < 0 ∨ n0 < sp.toNatClampNeg + n.toNatClampNeg ∨ n1 < dp.toNatClampNeg + n.toNatClampNeg then none else some (σ.1, va_up σ.2 b (some (.inl (1, n1, .inr (.inl (va_cpy f g sp.toNatClampNeg dp.toNatClampNeg n.toNatClampNeg))))))
  | _, _ => none
def cpI (σ : SG) (a : Nat) (sp : Int32) (b : Nat) (dp n : Int32) : Option SG := match σ.2 a, σ.2 b with
  | some (.inl (0, n0, .inl f)), some (.inl (0, n1, .inl g)) => if sp < 0 ∨ dp < 0 ∨ n < 0 ∨ n0 < sp.toNatClampNeg + n.toNatClampNeg ∨ n1 < dp.toNatClampNeg + n.toNatClampNeg then none else some (σ.1, va_up σ.2 b (some (.inl (0, n1, .inl (va_cpy f g sp.toNatClampNeg dp.toNatClampNeg n.toNatClampNeg)))))
  | _, _ => none
theorem gV_s {cs : List Nat} {σ : SG} {b k : Nat} {v : Value} (h : gV cs σ b k = some v) : ∃ ci fs, σ.2 b = some (.inr (ci, fs)) ∧ ci ∈ cs ∧ fs[k]? = some v := by
  unfold gV at h
  split at h
  · rename_i ci fs he
    split at h
    · exact ⟨ci, fs, he, by assumption, h⟩
    · cases h
  · cases h
theorem gI_s {cs : List Nat} {σ : SG} {b k : Nat} {v : Int32} (h : gI cs σ b k = some v) : gV cs σ b k = some (.int v) := by
  unfold gI at h
  split at h
  · cases h; assumption
  · cases h
theorem gJ_s {cs : List Nat} {σ : SG} {b k : Nat} {v : Int64} (h : gJ cs σ b k = some v) : gV cs σ b k = some (.long v) := by
  unfold gJ at h
  split at h
  · cases h; assumption
  · cases h
theorem gR_s {cs : List Nat} {σ : SG} {b k : Nat} {v : Nat} (h : gR cs σ b k = some v) : gV cs σ b k = some (.ref v) := by
  unfold gR at h
  split at h
  · cases h; assumption
  · cases h
theorem gQ_s {cs : List Nat} {σ : SG} {b k : Nat} {v : Option Nat} (h : gQ cs σ b k = some v) : gV cs σ b k = some (va_rf v) := by
  unfold gQ at h
  split at h
  · cases h; assumption
  · cases h; assumption
  · cases h
theorem cC_s {cs : List Nat} {σ : SG} {b : Nat} {u : Unit} (h : cC cs σ b = some u) : ∃ ci fs, σ.2 b = some (.inr (ci, fs)) ∧ ci ∈ cs := by
  unfold cC at h
  split at h
  · rename_i ci fs he
    split at h
    · exact ⟨ci, fs, he, by assumption⟩
    · cases h
  · cases h
theorem pV_s {cs : List Nat} {σ σ' : SG} {b k : Nat} {w : Value} (h : pV cs σ b k w = some σ') : ∃ ci fs, σ.2 b = some (.inr (ci, fs)) ∧ ci ∈ cs ∧ k < fs.length ∧ σ' = (σ.1, va_up σ.2 b (some (.inr (ci, fs.set k w)))) := by
  unfold pV at h
  split at h
  · rename_i ci fs he
    split at h
    · rename_i hc
      exact ⟨ci, fs, he, hc.1, hc.2, (Option.some.inj h).symm⟩
    · cases h
  · cases h
/-- a field of all these classes -/
def FieldOf (cs : List Nat) (k : Nat) (ref nm ds : String) (fin : Bool) : Prop := ∀ ci ∈ cs, ∃ (C : String) (T : u_T) (N : Nat) (ty0 : Nat → FieldType), vwCl[ci]? = some (C, T, N) ∧ (∀ w ∈ u_ws C T N, w ∈ lw_all) ∧ k < N ∧ T k = (ref, nm, ds, fin) ∧ (∀ k, k < N → parseFieldDescriptor (T k).2.2.1 = some (ty0 k)) ∧ (∀ a, a < N → ∀ b, b < N → a ≠ b → (T a).2.1 ≠ (T b).2.1)
theorem HH.push {G : GG} {σ : SG} {H H1 : Heap} {e' : AE} (h : HH G σ H) (hz : H1.size = H.size + 1) (he : va_at (G.1, G.2.1) vwCl (H.size, toE G.2.2.1 e') H1) (oq : ∀ q : Nat, q < H.size → H1[q]? = H[q]?) : HH G (σ.1 + 1, va_up σ.2 σ.1 (some e')) H1 := by
  refine ⟨⟨by rw [hz, h.1.1], Nat.le_succ_of_le h.1.2.1, fun q hq => (oq q (by have h1 := h.1.1; have h2 := h.1.2.1; omega)).trans (h.1.2.2 q hq)⟩, fun b e hb => ?_⟩
  by_cases hba : b = σ.1
  · subst hba
    rw [show (σ.1 + 1, va_up σ.2 σ.1 (some e')).2 = va_up σ.2 σ.1 (some e') from rfl, va_up_self] at hb
    cases hb
    rw [← h.1.1]
    exact ⟨he, by rw [h.1.1]; exact h.1.2.1⟩
  · rw [show (σ.1 + 1, va_up σ.2 σ.1 (some e')).2 = va_up σ.2 σ.1 (some e') from rfl, va_up_ne _ _ hba] at hb
    exact ⟨(h.2 b e hb).1.kept (oq b (h.2 b e hb).1.lt), (h.2 b e hb).2⟩
/-! all known cells as one list: for rows that are stated over lists -/
def hhW (G : GG) (σ : SG) : va_W := (List.range σ.1).filterMap (fun a => (σ.2 a).map (fun e => (a, toE G.2.2.1 e)))
theorem hhW_get {G : GG} {σ : SG} {q : Nat × va_E} (h : q ∈ hhW G σ) : ∃ e, σ.2 q.1 = some e ∧ q.2 = toE G.2.2.1 e := by
  obtain ⟨a, -, ha⟩ := List.mem_filterMap.mp h
  cases he : σ.2 a with
  | none => rw [he] at ha; cases ha
  | some e =>
    rw [he] at ha
    cases ha
    exact ⟨e, he, rfl⟩
theorem hhW_mem {G : GG} {σ : SG} {H : Heap} (hH : HH G σ H) {a : Nat} {e : AE} (h : σ.2 a = some e) : ∃ k : Nat, (hhW G σ)[k]? = some (a, toE G.2.2.1 e) := by
  apply List.getElem?_of_mem
  exact List.mem_filterMap.mpr ⟨a, List.mem_range.mpr (hH.lt h), by rw [h]; rfl⟩
theorem hhW_P {G : GG} {σ : SG} {H : Heap} (hH : HH G σ H) : va_P (G.1, G.2.1) vwCl (hhW G σ) H := by
  intro k q hq
  obtain ⟨e, h1, h2⟩ := hhW_get (List.mem_of_getElem? hq)
  have := (hH.2 q.1 e h1).1
  rw [← h2] at this
  exact this
theorem hhW_nd (G : GG) (σ : SG) : (hhW G σ).Pairwise (fun x y => x.1 ≠ y.1) := by
  unfold hhW
  rw [List.pairwise_filterMap]
  refine List.Pairwise.imp (fun {a b} (hab : a < b) x hx y hy => ?_) (List.pairwise_lt_range (n := σ.1))
  cases ha : σ.2 a with
  | none => rw [ha] at hx; cases hx
  | some e1 =>
    cases hb : σ.2 b with
    | none => rw [hb] at hy; cases hy
    | some e2 =>
      rw [ha] at hx
      rw [hb] at hy
      cases hx
      cases hy
      exact Nat.ne_of_lt hab
theorem hhW_D {G : GG} {σ : SG} {H : Heap} (hH : HH G σ H) : va_D (AG G) (hhW G σ) := by
  refine ⟨fun i j x y hi hj hxy => ?_, fun k q hq => ?_⟩
  · have hp := List.pairwise_iff_getElem.mp (hhW_nd G σ)
    obtain ⟨li, ei⟩ := List.getElem?_eq_some_iff.mp hi
    obtain ⟨lj, ej⟩ := List.getElem?_eq_some_iff.mp hj
    rcases Nat.lt_trichotomy i j with h | h | h
    · exact absurd (by rw [ei, ej]; exact hxy) (hp i j li lj h)
    · exact h
    · exact absurd (by rw [ei, ej]; exact hxy.symm) (hp j i lj li h)
  · obtain ⟨e, h1, -⟩ := hhW_get (List.mem_of_getElem? hq)
    exact (hH.2 q.1 e h1).2
