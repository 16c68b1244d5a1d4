/-! System.arraycopy out of bounds: the native throws -/
set_option maxRecDepth 100000
theorem nt_call {tb : Tables} {e : Env} {below : List Frame} {s target : State} {g : JFrame} {c : Code} (h : At s g.method c below) {m : MethodId} {meth : Method} {k : Class} {row : NativeRow} {args : Array Value} (acts : List Action)
    (hk : s.vm.classes[m.cls]? = some k) (hx : k.methods[m.idx]? = some meth) (hboot : k.loader = none) (hnat : meth.isNative = true) (hc : meth.code = none) (hl : meth.locks = false) (hrow : NativeRow.find? tb.natives k.name meth.name meth.desc = some row)
    (hroom : e.platform.stackFull (((s.setTop g).threads[(s.setTop g).cur]?).getD { frames := [] }) (s.setTop g).frames (nativeFrameWords k.name meth.name (operandWords args.toList)) = false) {cls : String} {msg : Option String}
    (hw : ∀ E : CtlPost, (∀ acts', E (.throwNew cls msg) acts' ((s.setTop g).pushFrame (.native { method := m, args := seenByNative meth args, locked := none }))) → wp (row.sem (seenByNative meth args)) (fun _ _ _ _ => False) E e false [] ((s.setTop g).pushFrame (.native { method := m, args := seenByNative meth args, locked := none })))
    (hrest : Steps tb e below (((s.setTop g).pushFrame (.native { method := m, args := seenByNative meth args, locked := none })).pushFrame (.throwNew cls msg none)) target) : Steps tb e below (doInvoke e (s.setTop g) acts m args).1 target := by
  have hm : (s.setTop g).vm.method? m = some meth := by
    show s.vm.method? m = some meth
    simp [Vm.method?, hk, hx]
  have hroom' : e.platform.stackFull (((s.setTop g).threads[(s.setTop g).cur]?).getD { frames := [] }) (s.setTop g).frames (nativeFrameWords ((((s.setTop g).vm.classes[m.cls]?).map (·.name)).getD "") meth.name (operandWords args.toList)) = false := by
    have : (((s.setTop g).vm.classes[m.cls]?).map (·.name)).getD "" = k.name := by
      show ((s.vm.classes[m.cls]?).map (·.name)).getD "" = k.name
      simp [hk]
    rw [this]; exact hroom
  rw [(Fast.doInvoke_native (s := s.setTop g) (e := e) (acts := acts) (args := args) hm hnat hc hl hroom').1]
  have hfe := frames_entered (g := g) h.top (.native { method := m, args := seenByNative meth args, locked := none })
  obtain ⟨mid, hmid⟩ := h.above
  refine Steps.head ⟨h.running, by simpa using h.runnable, by simpa using h.alone⟩ ⟨.native { method := m, args := seenByNative meth args, locked := none } :: .java g :: mid, by rw [hfe, hmid]; rfl, by simp, by simp⟩ ?_
  rw [stepThread_native (f := { method := m, args := seenByNative meth args, locked := none }) (k := k) (x := meth) (row := row) hfe hk hx hboot hrow rfl]
  have hw1 : wpRun (row.sem (seenByNative meth args)) (fun _ _ _ => False) (fun x s₁ _ => x = .throwNew cls msg ∧ s₁ = (s.setTop g).pushFrame (.native { method := m, args := seenByNative meth args, locked := none })) e ((s.setTop g).pushFrame (.native { method := m, args := seenByNative meth args, locked := none })) := hw _ (fun _ => ⟨rfl, rfl⟩)
  have hw2 := (wpRun_iff_run _ _ _ _ _).mp hw1
  cases hr : (row.sem (seenByNative meth args)).run e ((s.setTop g).pushFrame (.native { method := m, args := seenByNative meth args, locked := none })) with
  | ok v s₁ acts₁ => rw [hr] at hw2; exact hw2.elim
  | ctl x s₁ acts₁ =>
    rw [hr] at hw2
    cases x <;> first
      | exact hw2.elim
      | (obtain ⟨h1, h2⟩ := hw2; cases h1; subst h2; exact hrest)
      | (obtain ⟨h1, -⟩ := hw2; cases h1)
theorem nt_pop {tb : Tables} {e : Env} {below : List Frame} {u target : State} {a : Addr} {f : NFrame} {r mid : List Frame} (hgo : u.goesOn) (hcur : u.cur < u.threads.size) (hr : r = mid ++ below) (haw : f.awaiting = false) (hl : f.locked = none) (hrest : Steps tb e below (u.setFrames (.throwing a :: r)) target) : Steps tb e below (u.setFrames (.throwing a :: .native f :: r)) target := by
  have hf : (u.setFrames (.throwing a :: .native f :: r)).frames = .throwing a :: .native f :: r := State.frames_setFrames _ hcur
  refine Steps.head ⟨hgo.1, by simpa using hgo.2.1, by simpa using hgo.2.2⟩ ⟨.throwing a :: .native f :: mid, by rw [hf, hr]; rfl, by simp, by simp⟩ ?_
  have e1 : (stepThread tb e (u.setFrames (.throwing a :: .native f :: r))).1 = (u.setFrames (.throwing a :: .native f :: r)).setFrames (.throwing a :: r) := by
    rw [stepThread_throwing hf]
    unfold stepThrowing
    simp only [haw, Bool.false_eq_true, if_false, hl]
    unfold vmDo
    generalize hg : Sem.go _ e false _ (u.setFrames (.throwing a :: .native f :: r)) = res
    obtain ⟨as, rfl, -⟩ := Sem.eq_ok_of hg (a := true) (s' := u.setFrames (.throwing a :: .native f :: r)) (acts' := []) (by simp [leaveIfLocked, unmarked, Action.isMark])
    rfl
  rw [e1, State.setFrames_setFrames]
  exact hrest
theorem int_print {x : Int} (h1 : -10000000000 < x) (h2 : x < 10000000000) : (toString x).toList.length ≤ 11 := by
  show (Int.repr x).toList.length ≤ 11
  cases h : x with
  | ofNat m =>
    rw [h] at h2
    have h2' : (m : Int) < 10000000000 := h2
    have := nat_print (n := m) (by omega)
    show (toString m).toList.length ≤ 11
    omega
  | negSucc m =>
    rw [h] at h1
    have h1' : -(10000000000 : Int) < -((m : Int) + 1) := by simpa [Int.negSucc_eq] using h1
    have := nat_print (n := m.succ) (by omega)
    show ("-" ++ toString m.succ).toList.length ≤ 11
    rw [String.toList_append, List.length_append]
    have h0 : "-".toList.length = 1 := by decide
    omega
theorem nc_text (w : String) (hw : w.toList.length ≤ 85) : (("arraycopy: " ++ w) == notModelled) = false ∧ (stringBytes (stringToUtf16 ("arraycopy: " ++ w))).size ≤ 400 := by
  have a1 : "arraycopy: ".toList.length = 11 := by decide
  refine ⟨?_, ?_⟩
  · rw [beq_eq_false_iff_ne]
    intro h
    have h2 := congrArg (fun x : String => x.toList.head?) h
    have h3 : ("arraycopy: " ++ w).toList.head? = some 'a' := by rw [String.toList_append]; rfl
    have h4 : notModelled.toList.head? = some '\u0000' := by decide
    have h5 : some 'a' = some '\u0000' := h3.symm.trans (h2.trans h4)
    exact absurd h5 (by decide)
  · have b1 := stringBytes_size_le (stringToUtf16 ("arraycopy: " ++ w))
    have b2 := utf16_size_le ("arraycopy: " ++ w)
    rw [String.toList_append, List.length_append] at b2
    omega
