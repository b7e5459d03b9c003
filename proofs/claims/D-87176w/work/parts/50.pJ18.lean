/-! ===== PURE J18: cut (op) ===== -/
set_option maxRecDepth 100000
theorem mPl.kp {st st1 : MS} {p kd q n m : Nat} {w : Nat → Nat} (hP : mPl st p kd q n m w) (h : Mk st st1) : mPl st1 p kd q n m w := by
  obtain ⟨m1, m2, m3, m4, m5, -⟩ := h
  exact ⟨by rw [m1]; exact hP.1, by rw [m2]; exact hP.2.1, by rw [m3]; exact hP.2.2.1, by rw [m4]; exact hP.2.2.2.1, fun k hk => by rw [m5]; exact hP.2.2.2.2 k hk⟩
theorem op_cut {N x M : Nat} {own : Nat → Nat} {σ : SG} {st : MS} (hN : 5000 ≤ N) (j : J x M own σ st) (a b c : Int32) : Ok x M σ (f_X1_cut N σ x a b c) (f_X3_cut N st a b c) := by
  unfold f_X1_cut f_X3_cut
  simp only [j.cc, Option.bind_some]
  rcases why_place (N := N) j a b c with ⟨r, hr, h1, h2⟩ | ⟨p, i, t, kd, q, n, m, w, d, hp, ht, hi, hn2, rfl, rfl, rfl, hd, hok, hP, hX, h1, h2⟩
  · rw [h1, h2, Option.bind_some, Option.bind_some, if_neg hr, if_neg hr, Option.bind_some]
    exact Ok.nil j rfl rfl
  · obtain ⟨A, x1, x2, x3, x4, C⟩ := id hX
    obtain ⟨τ, a1, a2, a3⟩ := X1_like (N := N) (n2 := n - 1) C hok.2.2.2.1 x1 (fun _ => 0)
    obtain ⟨τ2, b1, b2⟩ := X1_cut (N := N) (x := x) (t := nI t) hN hok hi C x1 x2 a2
    obtain ⟨st1, c1, c2, c3, c4⟩ := X3_cut (t2 := nI t) hN hp hok hi hP
    have hk := c2.mk (by decide) (by decide)
    have hP1 := hP.kp hk
    obtain ⟨d0, τ3, st2, own', d1, d2, d3, d4⟩ := made_ends hN j ht (okc_cut hok hi hn2) b2 hk c3 c4
    rw [h1, h2, Option.bind_some, Option.bind_some, if_pos rfl, if_pos rfl, j.codes, Option.bind_some, hd, Option.bind_some, Option.bind_some, gI_of (k := 1) C.1 (cls_in kd) rfl, Option.bind_some, nI_s1 (by omega), a1, Option.bind_some, c1, Option.bind_some, X3_lineOr hp hok.2.2.2.1 hP1, Option.bind_some, ald_N hp (by omega), Option.bind_some, ald_N hp (by omega), Option.bind_some, hP1.2.1, hP1.2.2.1, nI_s1 (by omega), d2, Option.bind_some]
    dsimp only
    rw [b1, Option.bind_some, d0, Option.bind_some, d1, Option.bind_some]
    exact ⟨τ3, st2, _, own', rfl, rfl, d3, d4⟩
