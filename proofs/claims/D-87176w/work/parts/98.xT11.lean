/-! ===== T11: a native method throws with a message: the exception is made over the native's frame, which is then left ===== -/
set_option maxRecDepth 100000
section NATC
variable {p : Program} {e : Env} {below : List Frame} {s S : State} {B : List Frame} {P1 : PassC} {a str : Addr} {cF : Cell}
/-- the constructor of the exception's class, over any frames -/
theorem n_core (hexec : p.tables.exec = Jvm.exec) (hrun : S.status = .running) (hrbl : S.curStatus? = some .runnable) (hal : S.alone = true) (hcur : S.cur < S.threads.size) (hB : ∃ mid, B = mid ++ below) (L1 : P1.LinksS e.platform s) (hW : s.WarmedH S.vm)
    (hroom : e.platform.stackFull (((S.setFrames (.thenThrow a :: B)).threads[(S.setFrames (.thenThrow a :: B)).cur]?).getD { frames := [] }) (S.setFrames (.thenThrow a :: B)).frames 2 = false)
    (hsup : ∀ V : State, At V P1.m P1.code below → V.frames = .java (passJ P1.m a (.ref str) 0 []) :: .thenThrow a :: B → V.heap = S.heap → V.cur = S.cur → s.WarmedH V.vm → e.platform.stackLimits V.me = e.platform.stackLimits S.me →
      ∃ vm2, s.WarmedH vm2 ∧ ∀ t', Steps p.tables e below (((V.setVm vm2).setCell a cF).setTop (passJ P1.m a (.ref str) 5 [])) t' → Steps p.tables e below (doInvoke e (V.setTop (passJ P1.m a (.ref str) 2 [])) [] P1.sup #[.ref a, .ref str]).1 t') :
    ∃ vm', s.WarmedH vm' ∧ ∀ tg, Steps p.tables e below (((S.setVm vm').setCell a cF).setFrames (.throwing a :: B)) tg → Steps p.tables e below (doInvoke e (S.setFrames (.thenThrow a :: B)) [] P1.m #[.ref a, .ref str]).1 tg := by
  obtain ⟨mid, hmid⟩ := hB
  have hf1 : (S.setFrames (.thenThrow a :: B)).frames = .thenThrow a :: B := State.frames_setFrames _ hcur
  have hc1 : (S.setFrames (.thenThrow a :: B)).cur < (S.setFrames (.thenThrow a :: B)).threads.size := State.cur_lt_of_frames hf1
  have hmS : S.vm.method? P1.m = some P1.meth := hW.methodAt L1.method
  have hI : At ((S.setFrames (.thenThrow a :: B)).pushFrame (.java (passJ P1.m a (.ref str) 0 []))) P1.m P1.code below :=
    At.pushOn _ ⟨hrun, by simpa using hrbl, by simpa using hal⟩ hc1 ⟨.thenThrow a :: mid, by rw [hf1, hmid]; rfl⟩ hmS L1.code (hW.plainAt L1.plain)
  have hfI : ((S.setFrames (.thenThrow a :: B)).pushFrame (.java (passJ P1.m a (.ref str) 0 []))).frames = .java (passJ P1.m a (.ref str) 0 []) :: .thenThrow a :: B := by
    rw [show ((S.setFrames (.thenThrow a :: B)).pushFrame (.java (passJ P1.m a (.ref str) 0 []))).frames = .java (passJ P1.m a (.ref str) 0 []) :: (S.setFrames (.thenThrow a :: B)).frames from State.frames_setFrames _ hc1, hf1]
  have hset : ∀ (vm1 vm2 : Vm) (F : List Frame), (((((S.setFrames (.thenThrow a :: B)).pushFrame (.java (passJ P1.m a (.ref str) 0 []))).setVm vm1).setVm vm2).setCell a cF).setFrames F = ((S.setVm vm2).setCell a cF).setFrames F := by
    intro vm1 vm2 F
    show (((((S.setVm vm2).setCell a cF).setFrames (.thenThrow a :: B)).setFrames (.java (passJ P1.m a (.ref str) 0 []) :: (S.setFrames (.thenThrow a :: B)).frames)).setFrames F) = _
    rw [State.setFrames_setFrames, State.setFrames_setFrames]
  have hXl : e.platform.stackLimits ((S.setFrames (.thenThrow a :: B)).pushFrame (.java (passJ P1.m a (.ref str) 0 []))).me = e.platform.stackLimits S.me := by rw [State.stackLimits_pushFrame, State.stackLimits_setFrames]
  have hXh : ((S.setFrames (.thenThrow a :: B)).pushFrame (.java (passJ P1.m a (.ref str) 0 []))).heap = S.heap := rfl
  have hXc : ((S.setFrames (.thenThrow a :: B)).pushFrame (.java (passJ P1.m a (.ref str) 0 []))).cur = S.cur := rfl
  have hXv : ((S.setFrames (.thenThrow a :: B)).pushFrame (.java (passJ P1.m a (.ref str) 0 []))).vm = S.vm := rfl
  generalize hX : (S.setFrames (.thenThrow a :: B)).pushFrame (.java (passJ P1.m a (.ref str) 0 [])) = X0 at hI hfI hset hXl hXh hXc hXv
  obtain ⟨vm1, hW1, st1⟩ := Steps.invokeInitCold (tb := p.tables) (s₀ := s) (U := X0) (f := passJ P1.m a (.ref str) 2 [.ref str, .ref a]) (args := [.ref str]) (rest := []) (a := a) hI hexec L1.at2 (by rw [hXv]; exact hW) L1.links L1.right L1.notHandle L1.cls L1.file L1.pool
    L1.supClass L1.supMethod L1.supName L1.supStatic L1.supAbstract L1.supFound L1.supParams.symm rfl
  have al1 : X0.vm.Alike vm1 := by rw [hXv]; exact hW.alike.symm.trans hW1.alike
  obtain ⟨vm2, hW2, st2⟩ := hsup (X0.setVm vm1) (hI.setVm al1) hfI hXh hXc hW1 hXl
  refine ⟨vm2, hW2, fun tg hrest => ?_⟩
  rw [(doInvoke_java (s := S.setFrames (.thenThrow a :: B)) (e := e) (acts := []) (args := #[.ref a, .ref str]) (meth := P1.meth) (code := P1.code) hmS L1.code L1.locks (by rw [L1.locals]; exact hroom)).1, L1.locals]
  show Steps p.tables e below ((S.setFrames (.thenThrow a :: B)).pushFrame (.java (passJ P1.m a (.ref str) 0 []))) tg
  rw [hX, ← State.setTop_self (s := X0) (State.topJava?_of_frames hfI)]
  jvm_step hI [hexec, L1.at0, Value.isRef]
  jvm_step hI [hexec, L1.at1, Value.isRef]
  refine st1 tg (st2 tg ?_)
  have al2 : (X0.setVm vm1).vm.Alike vm2 := hW1.alike.symm.trans hW2.alike
  have hY : At (((X0.setVm vm1).setVm vm2).setCell a cF) P1.m P1.code below := (At.setCell_iff a cF).mpr ((hI.setVm al1).setVm al2)
  have hfY : (((X0.setVm vm1).setVm vm2).setCell a cF).frames = .java (passJ P1.m a (.ref str) 0 []) :: .thenThrow a :: B := hfI
  jvm_step hY [hexec, L1.at5, return_.wp_sem]
  intro acts2
  rw [ret_to (t := ((X0.setVm vm1).setVm vm2).setCell a cF) (f := passJ P1.m a (.ref str) 5 []) (f₀ := passJ P1.m a (.ref str) 0 []) (below := .thenThrow a :: B) (fs := .thenThrow a :: B) (meth := P1.meth) hfY (hW2.methodAt L1.method) L1.locks rfl rfl rfl acts2]
  have hcY := State.cur_lt_of_frames hfY
  have hf2 : ((((X0.setVm vm1).setVm vm2).setCell a cF).setFrames (.thenThrow a :: B)).frames = .thenThrow a :: B := State.frames_setFrames _ hcY
  refine Steps.head ⟨hY.running, by simpa using hY.runnable, by simpa using hY.alone⟩ ⟨.thenThrow a :: mid, by rw [hf2, hmid]; rfl, by simp, by simp⟩ ?_
  rw [stepThread_thenThrow hf2]
  show Steps p.tables e below (((((X0.setVm vm1).setVm vm2).setCell a cF).setFrames (.thenThrow a :: B)).setFrames (.throwing a :: B)) tg
  rw [State.setFrames_setFrames, hset]
  exact hrest
/-- a native's frame is left -/
theorem n_left {T2 : State} {nf : NFrame} {A : Addr} {r : List Frame} (hrun : T2.status = .running) (hrbl : T2.curStatus? = some .runnable) (hal : T2.alone = true) (hcur : T2.cur < T2.threads.size) (haw : nf.awaiting = false) (hlk : nf.locked = none) (hB : ∃ mid, r = mid ++ below) {tg : State}
    (h : Steps p.tables e below (T2.setFrames (.throwing A :: r)) tg) : Steps p.tables e below (T2.setFrames (.throwing A :: .native nf :: r)) tg := by
  obtain ⟨mid, hmid⟩ := hB
  have hf : (T2.setFrames (.throwing A :: .native nf :: r)).frames = .throwing A :: .native nf :: r := State.frames_setFrames _ hcur
  refine Steps.head ⟨hrun, by simpa using hrbl, by simpa using hal⟩ ⟨.throwing A :: .native nf :: mid, by rw [hf, hmid]; rfl, by simp, by simp⟩ ?_
  rw [stepThread_throwing hf]
  unfold stepThrowing
  simp only [haw, Bool.false_eq_true, if_false]
  unfold vmDo
  generalize hr : Sem.go _ e false _ (T2.setFrames (.throwing A :: .native nf :: r)) = res
  obtain ⟨as, rfl, -⟩ := Sem.eq_ok_of hr (a := true) (s' := T2.setFrames (.throwing A :: .native nf :: r)) (acts' := _) (by simp [hlk, leaveIfLocked])
  show Steps p.tables e below ((T2.setFrames (.throwing A :: .native nf :: r)).setFrames (.throwing A :: r)) tg
  rw [State.setFrames_setFrames]
  exact h
end NATC
