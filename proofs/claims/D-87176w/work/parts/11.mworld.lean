/-! ===== the model's world: one object at M, its arrays at M + 1 .. M + 18 ===== -/
set_option maxRecDepth 100000
/-- int arrays by field, long arrays by field, int fields, the long field -/
abbrev MS : Type := (Nat → Nat → Int32) × (Nat → Nat → Int64) × (Nat → Int32) × Int64
def sI (st : MS) (k : Nat) (f : Nat → Int32) : MS := (va_up st.1 k f, st.2)
def sL (st : MS) (k : Nat) (f : Nat → Int64) : MS := (st.1, va_up st.2.1 k f, st.2.2)
def sV (st : MS) (k : Nat) (x : Int32) : MS := (st.1, st.2.1, va_up st.2.2.1 k x, st.2.2.2)
def sH (st : MS) (x : Int64) : MS := (st.1, st.2.1, st.2.2.1, x)
def mfl (M : Nat) (st : MS) : List Value := [.int (st.2.2.1 0), .ref (M + 1), .ref (M + 2), .ref (M + 3), .ref (M + 4), .ref (M + 5), .ref (M + 6), .ref (M + 7), .int (st.2.2.1 8), .ref (M + 8), .ref (M + 9), .int (st.2.2.1 11), .ref (M + 10), .ref (M + 11), .ref (M + 12), .long st.2.2.2, .int (st.2.2.1 16), .ref (M + 13), .int (st.2.2.1 18), .ref (M + 14), .ref (M + 15), .ref (M + 16), .ref (M + 17), .ref (M + 18)]
def mcells (M : Nat) (st : MS) : List AE := [.inr (2, mfl M st), .inl (0, 12, .inl (st.1 1)), .inl (0, 12, .inl (st.1 2)), .inl (0, 12, .inl (st.1 3)), .inl (0, 12, .inl (st.1 4)), .inl (1, 2400, .inr (.inl (st.2.1 5))), .inl (1, 12, .inr (.inl (st.2.1 6))), .inl (0, 12, .inl (st.1 7)), .inl (1, 12, .inr (.inl (st.2.1 9))), .inl (1, 4096, .inr (.inl (st.2.1 10))), .inl (0, 49152, .inl (st.1 12)), .inl (0, 12, .inl (st.1 13)), .inl (1, 13, .inr (.inl (st.2.1 14))), .inl (1, 200, .inr (.inl (st.2.1 17))), .inl (0, 6, .inl (st.1 19)), .inl (0, 6, .inl (st.1 20)), .inl (0, 6, .inl (st.1 21)), .inl (0, 6, .inl (st.1 22)), .inl (1, 1200, .inr (.inl (st.2.1 23)))]
def MH (M : Nat) (st : MS) (rst : Nat → Option AE) : Nat → Option AE := fun a => if M ≤ a ∧ a < M + 19 then (mcells M st)[a - M]? else rst a
theorem mc_len (M : Nat) (st : MS) : (mcells M st).length = 19 := rfl
theorem MH_at {M : Nat} {st : MS} {rst : Nat → Option AE} (i : Nat) {x : AE} (h : (mcells M st)[i]? = some x) : MH M st rst (M + i) = some x := by
  have hi : i < 19 := (List.getElem?_eq_some_iff.mp h).1
  unfold MH
  rw [if_pos ⟨by omega, by omega⟩, show M + i - M = i by omega]
  exact h
theorem MH_0 {M : Nat} {st : MS} {rst : Nat → Option AE} : MH M st rst M = some (.inr (2, mfl M st)) := MH_at (M := M) (st := st) (rst := rst) 0 rfl
theorem MH_up {M : Nat} {st st' : MS} {rst : Nat → Option AE} (i : Nat) (hi : i < 19) {x : AE} (h : (mcells M st).set i x = mcells M st') : va_up (MH M st rst) (M + i) (some x) = MH M st' rst := by
  funext a
  by_cases ha : a = M + i
  · subst ha
    rw [va_up_self]
    unfold MH
    rw [if_pos ⟨by omega, by omega⟩, show M + i - M = i by omega, ← h, List.getElem?_set_self (by rw [mc_len]; exact hi)]
  · rw [va_up_ne _ _ ha]
    unfold MH
    by_cases hb : M ≤ a ∧ a < M + 19
    · rw [if_pos hb, if_pos hb, ← h, List.getElem?_set_ne (by omega)]
    · rw [if_neg hb, if_neg hb]
theorem TX3_own (k : Nat) : (TX3 k).1 = "WordBenchModel" := by
  unfold TX3
  split <;> rfl
theorem mg_0 (M : Nat) (st : MS) : (mfl M st)[0]? = some (.int (st.2.2.1 0)) := rfl
theorem mg_1 (M : Nat) (st : MS) : (mfl M st)[1]? = some (.ref (M + 1)) := rfl
theorem mg_2 (M : Nat) (st : MS) : (mfl M st)[2]? = some (.ref (M + 2)) := rfl
theorem mg_3 (M : Nat) (st : MS) : (mfl M st)[3]? = some (.ref (M + 3)) := rfl
theorem mg_4 (M : Nat) (st : MS) : (mfl M st)[4]? = some (.ref (M + 4)) := rfl
theorem mg_5 (M : Nat) (st : MS) : (mfl M st)[5]? = some (.ref (M + 5)) := rfl
theorem mg_6 (M : Nat) (st : MS) : (mfl M st)[6]? = some (.ref (M + 6)) := rfl
theorem mg_7 (M : Nat) (st : MS) : (mfl M st)[7]? = some (.ref (M + 7)) := rfl
theorem mg_8 (M : Nat) (st : MS) : (mfl M st)[8]? = some (.int (st.2.2.1 8)) := rfl
theorem mg_9 (M : Nat) (st : MS) : (mfl M st)[9]? = some (.ref (M + 8)) := rfl
theorem mg_10 (M : Nat) (st : MS) : (mfl M st)[10]? = some (.ref (M + 9)) := rfl
theorem mg_11 (M : Nat) (st : MS) : (mfl M st)[11]? = some (.int (st.2.2.1 11)) := rfl
theorem mg_12 (M : Nat) (st : MS) : (mfl M st)[12]? = some (.ref (M + 10)) := rfl
theorem mg_13 (M : Nat) (st : MS) : (mfl M st)[13]? = some (.ref (M + 11)) := rfl
theorem mg_14 (M : Nat) (st : MS) : (mfl M st)[14]? = some (.ref (M + 12)) := rfl
theorem mg_15 (M : Nat) (st : MS) : (mfl M st)[15]? = some (.long st.2.2.2) := rfl
theorem mg_16 (M : Nat) (st : MS) : (mfl M st)[16]? = some (.int (st.2.2.1 16)) := rfl
theorem mg_17 (M : Nat) (st : MS) : (mfl M st)[17]? = some (.ref (M + 13)) := rfl
theorem mg_18 (M : Nat) (st : MS) : (mfl M st)[18]? = some (.int (st.2.2.1 18)) := rfl
theorem mg_19 (M : Nat) (st : MS) : (mfl M st)[19]? = some (.ref (M + 14)) := rfl
theorem mg_20 (M : Nat) (st : MS) : (mfl M st)[20]? = some (.ref (M + 15)) := rfl
theorem mg_21 (M : Nat) (st : MS) : (mfl M st)[21]? = some (.ref (M + 16)) := rfl
theorem mg_22 (M : Nat) (st : MS) : (mfl M st)[22]? = some (.ref (M + 17)) := rfl
theorem mg_23 (M : Nat) (st : MS) : (mfl M st)[23]? = some (.ref (M + 18)) := rfl
theorem mc_1 (M : Nat) (st : MS) : (mcells M st)[1]? = some (.inl (0, 12, .inl (st.1 1))) := rfl
theorem mt_1 (M : Nat) (st : MS) (f : Nat → Int32) : (mcells M st).set 1 (.inl (0, 12, .inl f)) = mcells M (sI st 1 f) := rfl
theorem mc_2 (M : Nat) (st : MS) : (mcells M st)[2]? = some (.inl (0, 12, .inl (st.1 2))) := rfl
theorem mt_2 (M : Nat) (st : MS) (f : Nat → Int32) : (mcells M st).set 2 (.inl (0, 12, .inl f)) = mcells M (sI st 2 f) := rfl
theorem mc_3 (M : Nat) (st : MS) : (mcells M st)[3]? = some (.inl (0, 12, .inl (st.1 3))) := rfl
theorem mt_3 (M : Nat) (st : MS) (f : Nat → Int32) : (mcells M st).set 3 (.inl (0, 12, .inl f)) = mcells M (sI st 3 f) := rfl
theorem mc_4 (M : Nat) (st : MS) : (mcells M st)[4]? = some (.inl (0, 12, .inl (st.1 4))) := rfl
theorem mt_4 (M : Nat) (st : MS) (f : Nat → Int32) : (mcells M st).set 4 (.inl (0, 12, .inl f)) = mcells M (sI st 4 f) := rfl
theorem mc_5 (M : Nat) (st : MS) : (mcells M st)[5]? = some (.inl (1, 2400, .inr (.inl (st.2.1 5)))) := rfl
theorem mt_5 (M : Nat) (st : MS) (f : Nat → Int64) : (mcells M st).set 5 (.inl (1, 2400, .inr (.inl f))) = mcells M (sL st 5 f) := rfl
theorem mc_6 (M : Nat) (st : MS) : (mcells M st)[6]? = some (.inl (1, 12, .inr (.inl (st.2.1 6)))) := rfl
theorem mt_6 (M : Nat) (st : MS) (f : Nat → Int64) : (mcells M st).set 6 (.inl (1, 12, .inr (.inl f))) = mcells M (sL st 6 f) := rfl
theorem mc_7 (M : Nat) (st : MS) : (mcells M st)[7]? = some (.inl (0, 12, .inl (st.1 7))) := rfl
theorem mt_7 (M : Nat) (st : MS) (f : Nat → Int32) : (mcells M st).set 7 (.inl (0, 12, .inl f)) = mcells M (sI st 7 f) := rfl
theorem mc_9 (M : Nat) (st : MS) : (mcells M st)[8]? = some (.inl (1, 12, .inr (.inl (st.2.1 9)))) := rfl
theorem mt_9 (M : Nat) (st : MS) (f : Nat → Int64) : (mcells M st).set 8 (.inl (1, 12, .inr (.inl f))) = mcells M (sL st 9 f) := rfl
theorem mc_10 (M : Nat) (st : MS) : (mcells M st)[9]? = some (.inl (1, 4096, .inr (.inl (st.2.1 10)))) := rfl
theorem mt_10 (M : Nat) (st : MS) (f : Nat → Int64) : (mcells M st).set 9 (.inl (1, 4096, .inr (.inl f))) = mcells M (sL st 10 f) := rfl
theorem mc_12 (M : Nat) (st : MS) : (mcells M st)[10]? = some (.inl (0, 49152, .inl (st.1 12))) := rfl
theorem mt_12 (M : Nat) (st : MS) (f : Nat → Int32) : (mcells M st).set 10 (.inl (0, 49152, .inl f)) = mcells M (sI st 12 f) := rfl
theorem mc_13 (M : Nat) (st : MS) : (mcells M st)[11]? = some (.inl (0, 12, .inl (st.1 13))) := rfl
theorem mt_13 (M : Nat) (st : MS) (f : Nat → Int32) : (mcells M st).set 11 (.inl (0, 12, .inl f)) = mcells M (sI st 13 f) := rfl
theorem mc_14 (M : Nat) (st : MS) : (mcells M st)[12]? = some (.inl (1, 13, .inr (.inl (st.2.1 14)))) := rfl
theorem mt_14 (M : Nat) (st : MS) (f : Nat → Int64) : (mcells M st).set 12 (.inl (1, 13, .inr (.inl f))) = mcells M (sL st 14 f) := rfl
theorem mc_17 (M : Nat) (st : MS) : (mcells M st)[13]? = some (.inl (1, 200, .inr (.inl (st.2.1 17)))) := rfl
theorem mt_17 (M : Nat) (st : MS) (f : Nat → Int64) : (mcells M st).set 13 (.inl (1, 200, .inr (.inl f))) = mcells M (sL st 17 f) := rfl
theorem mc_19 (M : Nat) (st : MS) : (mcells M st)[14]? = some (.inl (0, 6, .inl (st.1 19))) := rfl
theorem mt_19 (M : Nat) (st : MS) (f : Nat → Int32) : (mcells M st).set 14 (.inl (0, 6, .inl f)) = mcells M (sI st 19 f) := rfl
theorem mc_20 (M : Nat) (st : MS) : (mcells M st)[15]? = some (.inl (0, 6, .inl (st.1 20))) := rfl
theorem mt_20 (M : Nat) (st : MS) (f : Nat → Int32) : (mcells M st).set 15 (.inl (0, 6, .inl f)) = mcells M (sI st 20 f) := rfl
theorem mc_21 (M : Nat) (st : MS) : (mcells M st)[16]? = some (.inl (0, 6, .inl (st.1 21))) := rfl
theorem mt_21 (M : Nat) (st : MS) (f : Nat → Int32) : (mcells M st).set 16 (.inl (0, 6, .inl f)) = mcells M (sI st 21 f) := rfl
theorem mc_22 (M : Nat) (st : MS) : (mcells M st)[17]? = some (.inl (0, 6, .inl (st.1 22))) := rfl
theorem mt_22 (M : Nat) (st : MS) (f : Nat → Int32) : (mcells M st).set 17 (.inl (0, 6, .inl f)) = mcells M (sI st 22 f) := rfl
theorem mc_23 (M : Nat) (st : MS) : (mcells M st)[18]? = some (.inl (1, 1200, .inr (.inl (st.2.1 23)))) := rfl
theorem mt_23 (M : Nat) (st : MS) (f : Nat → Int64) : (mcells M st).set 18 (.inl (1, 1200, .inr (.inl f))) = mcells M (sL st 23 f) := rfl
theorem mp_0 (M : Nat) (st : MS) (x : Int32) : (mcells M st).set 0 (.inr (2, (mfl M st).set 0 (.int x))) = mcells M (sV st 0 x) := rfl
theorem mp_8 (M : Nat) (st : MS) (x : Int32) : (mcells M st).set 0 (.inr (2, (mfl M st).set 8 (.int x))) = mcells M (sV st 8 x) := rfl
theorem mp_11 (M : Nat) (st : MS) (x : Int32) : (mcells M st).set 0 (.inr (2, (mfl M st).set 11 (.int x))) = mcells M (sV st 11 x) := rfl
theorem mp_15 (M : Nat) (st : MS) (x : Int64) : (mcells M st).set 0 (.inr (2, (mfl M st).set 15 (.long x))) = mcells M (sH st x) := rfl
theorem mp_16 (M : Nat) (st : MS) (x : Int32) : (mcells M st).set 0 (.inr (2, (mfl M st).set 16 (.int x))) = mcells M (sV st 16 x) := rfl
theorem mp_18 (M : Nat) (st : MS) (x : Int32) : (mcells M st).set 0 (.inr (2, (mfl M st).set 18 (.int x))) = mcells M (sV st 18 x) := rfl
section MROW
variable {p : Program} {l : Launch} {e : Env} {R : Room} {s : State} {m : MethodId} {args : Array Value} {below : List Frame} {meth : Method} {c : Code} {H : Heap} {locs : List Loc} {cells slots : Nat} {Q : State → Prop}
variable {cc : ByteArray} {pc : Nat} {ls : Array Slot} {rest : List Value} {H0 : Heap} {G : GG} {y yo : MethodName} {nL : Nat} {rto : Option FieldType} {sz M : Nat} {st st' : MS} {rst : Nat → Option AE}
theorem m_get {index : Nat} {w : Value} (X : Cx p s m args meth c cc rto nL yo) (hK : KK G s) (hH : HH G (sz, MH M st rst) H) (k : Nat) (hk : k < 24) (hyo : yo.cls = "WordBenchModel") (hv : (mfl M st)[k]? = some w) (hlink : Cond.fieldLink "WordBenchModel" index "WordBenchModel" (TX3 k).2.1 (TX3 k).2.2.1 ∈ lw_all) (hdg : decode cc pc = .ok (.getfield index, 3))
    (kk : W p l e R s m args below meth c H locs cells slots Q (F0 m (pc + 3) ls (w :: rest))) : W p l e R s m args below meth c H locs cells slots Q (F0 m pc ls (.ref M :: rest)) :=
  hh_get (C := RX3) (T := TX3) (N := 24) (ci := 2) X.1 X.2.1 (by rw [← hyo]; exact X.2.2.2.2.1) X.2.2.2.2.2.1 in_X3 hK hH MH_0 rfl k hk hlink (TX3_own k) hv hdg kk
theorem m_put {index : Nat} {w : Value} {ty : FieldType} (X : Cx p s m args meth c cc rto nL yo) (hK : KK G s) (hH : HH G (sz, MH M st rst) H) (hS : va_S (AG G) H0 H locs) (k : Nat) (hk : k < 24) (hyo : yo.cls = "WordBenchModel") (hset : (mcells M st).set 0 (.inr (2, (mfl M st).set k w)) = mcells M st') (hlink : Cond.fieldLink "WordBenchModel" index "WordBenchModel" (TX3 k).2.1 (TX3 k).2.2.1 ∈ lw_all) (hfin : (TX3 k).2.2.2 = false) (hd : parseFieldDescriptor (TX3 k).2.2.1 = some ty) (hn : narrow ty w = w) (hfit : fits ty w = true) (hdg : decode cc pc = .ok (.putfield index, 3))
    (kk : ∀ (H1 : Heap) (locs1 : List Loc), HH G (sz, MH M st' rst) H1 → va_S (AG G) H0 H1 locs1 → W p l e R s m args below meth c H1 locs1 cells slots Q (F0 m (pc + 3) ls rest)) : W p l e R s m args below meth c H locs cells slots Q (F0 m pc ls (w :: .ref M :: rest)) :=
  hh_put (C := RX3) (T := TX3) (N := 24) (ci := 2) X.1 X.2.1 (by rw [← hyo]; exact X.2.2.2.2.1) X.2.2.2.2.2.1 in_X3 tyX3 tyX3_ok nmX3 hK hH hS MH_0 rfl k hk hlink (TX3_own k) hfin hd hn hfit hk hdg (fun H1 locs1 h1 h2 => kk H1 locs1 (by
    have e1 := MH_up (rst := rst) 0 (by decide) hset
    rw [Nat.add_zero] at e1
    rw [show ((sz, MH M st rst) : SG).2 = MH M st rst from rfl, e1] at h1
    exact h1) h2)
theorem m_iald {n : Nat} {f : Nat → Int32} {j r : Int32} (X : Cx p s m args meth c cc rto nL yo) (hK : KK G s) (hH : HH G (sz, MH M st rst) H) (i : Nat) (hi : (mcells M st)[i]? = some (.inl (0, n, .inl f))) (h : ald f n j = some r) (hdg : decode cc pc = .ok (.iaload, 1))
    (kk : W p l e R s m args below meth c H locs cells slots Q (F0 m (pc + 1) ls (.int r :: rest))) : W p l e R s m args below meth c H locs cells slots Q (F0 m pc ls (.int j :: .ref (M + i) :: rest)) :=
  hh_iald X.1 X.2.1 hK hH (MH_at i hi) h hdg kk
theorem m_lald {n : Nat} {f : Nat → Int64} {j : Int32} {r : Int64} (X : Cx p s m args meth c cc rto nL yo) (hK : KK G s) (hH : HH G (sz, MH M st rst) H) (i : Nat) (hi : (mcells M st)[i]? = some (.inl (1, n, .inr (.inl f)))) (h : ald f n j = some r) (hdg : decode cc pc = .ok (.laload, 1))
    (kk : W p l e R s m args below meth c H locs cells slots Q (F0 m (pc + 1) ls (.long r :: rest))) : W p l e R s m args below meth c H locs cells slots Q (F0 m pc ls (.int j :: .ref (M + i) :: rest)) :=
  hh_lald X.1 X.2.1 hK hH (MH_at i hi) h hdg kk
theorem m_iast {n : Nat} {f f' : Nat → Int32} {j x : Int32} (X : Cx p s m args meth c cc rto nL yo) (hK : KK G s) (hH : HH G (sz, MH M st rst) H) (hS : va_S (AG G) H0 H locs) (i : Nat) (hi : (mcells M st)[i]? = some (.inl (0, n, .inl f))) (h : iast f n j x = some f') (hset : (mcells M st).set i (.inl (0, n, .inl f')) = mcells M st') (hdg : decode cc pc = .ok (.iastore, 1))
    (kk : ∀ (H1 : Heap) (locs1 : List Loc), HH G (sz, MH M st' rst) H1 → va_S (AG G) H0 H1 locs1 → W p l e R s m args below meth c H1 locs1 cells slots Q (F0 m (pc + 1) ls rest)) : W p l e R s m args below meth c H locs cells slots Q (F0 m pc ls (.int x :: .int j :: .ref (M + i) :: rest)) :=
  hh_iast X.1 X.2.1 hK hH hS (MH_at i hi) h hdg (fun H1 locs1 h1 h2 => kk H1 locs1 (by
    rw [show ((sz, MH M st rst) : SG).2 = MH M st rst from rfl, MH_up (rst := rst) i (List.getElem?_eq_some_iff.mp hi).1 hset] at h1
    exact h1) h2)
theorem m_last {n : Nat} {f f' : Nat → Int64} {j : Int32} {x : Int64} (X : Cx p s m args meth c cc rto nL yo) (hK : KK G s) (hH : HH G (sz, MH M st rst) H) (hS : va_S (AG G) H0 H locs) (i : Nat) (hi : (mcells M st)[i]? = some (.inl (1, n, .inr (.inl f)))) (h : last f n j x = some f') (hset : (mcells M st).set i (.inl (1, n, .inr (.inl f'))) = mcells M st') (hdg : decode cc pc = .ok (.lastore, 1))
    (kk : ∀ (H1 : Heap) (locs1 : List Loc), HH G (sz, MH M st' rst) H1 → va_S (AG G) H0 H1 locs1 → W p l e R s m args below meth c H1 locs1 cells slots Q (F0 m (pc + 1) ls rest)) : W p l e R s m args below meth c H locs cells slots Q (F0 m pc ls (.long x :: .int j :: .ref (M + i) :: rest)) :=
  hh_last X.1 X.2.1 hK hH hS (MH_at i hi) h hdg (fun H1 locs1 h1 h2 => kk H1 locs1 (by
    rw [show ((sz, MH M st rst) : SG).2 = MH M st rst from rfl, MH_up (rst := rst) i (List.getElem?_eq_some_iff.mp hi).1 hset] at h1
    exact h1) h2)
theorem m_recv (hK : KK G s) (hH : HH G (sz, MH M st rst) H) : ∃ cell : Cell, H[M]? = some cell ∧ cell.vm.isStatics = false ∧ s.vm.findClass "WordBenchModel" = some cell.cls := recv_of_HH (w := (RX3, TX3, 24)) hK hH MH_0 rfl
end MROW
