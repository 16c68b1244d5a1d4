/-! a handler of the method's own takes an exception: the search may warm the tables -/
def FndTo (e : Env) (S : State) (f : JFrame) (a : Addr) (h : Handler) (v : Vm) : Prop := ∀ (Q : Handler → Pre) (E : CtlPost) (d : Bool) (acts : List Action), wp (findHandler f a) Q E e d acts S ↔ Q h d acts (S.setVm v)
theorem hd_row {e : Env} {f : JFrame} {a : Addr} {Q : Handler → Pre} {E : CtlPost} {d : Bool} {acts : List Action} {S : State} {x : ExceptionTableEntry} {t : List ExceptionTableEntry} {c : ClassId} {cell : Cell} {b : Bool} (hx : covers x f.pc = true) (h0 : x.catchType ≠ 0) (hl : S.vm.ClassLinks e.platform f.method.cls x.catchType c) (hcell : S.heap[a]? = some cell) (hobj : ∀ k, cell.vm ≠ .statics k) (hk : ∃ k, S.vm.classes[cell.cls]? = some k) (hc : ∃ k, S.vm.classes[c]? = some k) (hb : S.vm.assignable cell.cls c = b) :
    wp (findHandler.go f a (x :: t)) Q E e d acts S ↔ (match b with | true => Q (.found x.handlerPc) d acts (S.setVm (S.vm.noted f.method.cls x.catchType (.cls c))) | false => wp (findHandler.go f a t) Q E e d acts (S.setVm (S.vm.noted f.method.cls x.catchType (.cls c)))) := by
  simp only [covers] at hx
  obtain ⟨ha, ht⟩ := (resolveClass_links e.toSetting hl).op (op := VmOp.resolveClass f.method.cls x.catchType) rfl
  have hal : S.vm.Alike (S.vm.noted f.method.cls x.catchType (.cls c)) := (Vm.Alike.refl S.vm).noted _ _ _
  obtain ⟨k1, hk1⟩ := hk
  obtain ⟨k2, hk2⟩ := hc
  obtain ⟨k1', hk1', -⟩ := hal.2.2 _ _ hk1
  obtain ⟨k2', hk2', -⟩ := hal.2.2 _ _ hk2
  have hq : (S.vm.noted f.method.cls x.catchType (.cls c)).assignable cell.cls c = b := by rw [hal.assignable]; exact hb
  cases b <;> simp [findHandler.go, hx, h0, ha, ht, hcell, hobj, hk1', hk2', hq, VmOp.dirties, VmOp.acts]
theorem hd_step {e : Env} {S : State} {a : Addr} {f : JFrame} {r : List Frame} {pc : Nat} {v : Vm} (hfind : FndTo e S f a (.found pc) v) :
    (stepThrowing e S a (.java f :: r)).Is ((S.setVm v).setFrames (.java { f with pc := pc, stack := [.ref a] } :: r)) [] := by
  simp only [stepThrowing, searchFrame, vmDo]
  generalize hr : Sem.go _ e false [] S = res
  obtain ⟨as, rfl, ha⟩ := Sem.eq_ok_of hr (a := Handler.found pc) (s' := S.setVm v) (acts' := []) (by simp [hfind _ _ _ _])
  exact ⟨rfl, ha⟩
theorem hd_caught {tb : Tables} {e : Env} {S target : State} {g : JFrame} {c : Code} {below : List Frame} {a : Addr} (h : At S g.method c below) {pc : Nat} {v : Vm} (hfind : FndTo e ((S.setTop g).pushFrame (.throwing a)) g a (.found pc) v) (hrest : Steps tb e below ((S.setVm v).setTop { g with pc := pc, stack := [.ref a] }) target) :
    Steps tb e below ((S.setTop g).pushFrame (.throwing a)) target := by
  obtain ⟨hgo, hw⟩ := h.throwing a
  refine Steps.head hgo hw ?_
  rw [stepThread_throwing (frames_entered h.top _), (hd_step (S := (S.setTop g).pushFrame (.throwing a)) hfind).1]
  obtain ⟨g0, hg⟩ := Option.isSome_iff_exists.mp h.top
  obtain ⟨r, hr⟩ := State.topJava?_eq_some.mp hg
  have hr' : (S.setVm v).frames = .java g0 :: r := hr
  have ev : ∀ (u : State) (F G : List Frame), ((u.setFrames F).setVm v).setFrames G = (u.setVm v).setFrames G := fun u F G => by
    have h1 : (u.setFrames F).setVm v = (u.setVm v).setFrames F := rfl
    rw [h1, State.setFrames_setFrames]
  rw [State.setTop_of_frames _ hr'] at hrest
  rw [hr, List.tail_cons, State.pushFrame, ev, State.setTop_of_frames _ hr, ev]
  exact hrest
section HX
variable {p : Program} {l : Launch} {e : Env} {R : Room} {s : State} {m : MethodId} {args : Array Value} {below : List Frame} {meth : Method} {c : Code} {H : Heap} {locs : List Loc} {cells slots : Nat} {Q : State → Prop}
/-- caught by the first row of the table -/
theorem WT.hand1 {a : Addr} {g : JFrame} {cell : Cell} {own name : String} {cT : ClassId} {x : ExceptionTableEntry} {rest : List ExceptionTableEntry} (hg : g.method = m) (hown : s.vm.findClass own = some m.cls) (hsp : c.exceptionTable.toList = x :: rest) (hx : covers x g.pc = true) (h0 : x.catchType ≠ 0) (hlk : (Cond.classLink own x.catchType name).before args s = true) (hcT : s.vm.findClass name = some cT)
    (hcell : H[a]? = some cell) (hobj : cell.vm.isStatics = false) (hfit : s.vm.assignable cell.cls cT = true) (kk : W p l e R s m args below meth c H locs cells slots Q { g with pc := x.handlerPc, stack := [.ref a] }) : WT p l e R s m args below meth c H locs cells slots Q a g := by
  intro T hT X
  have hpl : e.platform.magicAccessors = ({} : Platform).magicAccessors := by rw [X.admits.platform]
  obtain ⟨c', hc', hcl⟩ := Cond.classLink_spec hown hlk e.platform hpl
  cases hcT.symm.trans hc'
  obtain ⟨dk, _, _, kt, hd, _, _, _, _, hkt, _, hopen⟩ := hcl.here
  have hW' : s.WarmedH (T.vm.noted m.cls x.catchType (.cls cT)) := X.warmed.noted hd hopen (State.rightAt_cls hcl)
  have hal := X.warmed.alike
  obtain ⟨kt', hkt', -⟩ := hal.2.2 _ _ hkt
  have hfit' : T.vm.assignable cell.cls cT = true := by rw [hal.assignable]; exact hfit
  obtain ⟨t, a1, b1⟩ := kk (T.setVm (T.vm.noted m.cls x.catchType (.cls cT))) hT (X.noted hW')
  refine ⟨t, ?_, b1⟩
  subst hg
  refine hd_caught X.here (v := T.vm.noted g.method.cls x.catchType (.cls cT)) ?_ a1
  intro Q E d acts
  rw [W.findHandler_eq (s := (T.setTop g).pushFrame (.throwing a)) (meth := meth) (code := c) X.method' X.code, hsp]
  exact hd_row (S := (T.setTop g).pushFrame (.throwing a)) (b := true) hx h0 (X.warmed.classLinks hcl) (by show T.heap[a]? = _; rw [hT]; exact hcell) (VmData.ne_statics_of hobj) (Vm.classAt_of_assignable hfit' ⟨kt', hkt'⟩) ⟨kt', hkt'⟩ hfit'
/-- the first row passes it by, the second takes it -/
theorem WT.hand2 {a : Addr} {g : JFrame} {cell : Cell} {own name name1 : String} {cT cU : ClassId} {x y : ExceptionTableEntry} {rest : List ExceptionTableEntry} (hg : g.method = m) (hown : s.vm.findClass own = some m.cls) (hsp : c.exceptionTable.toList = y :: x :: rest) (hy : covers y g.pc = true) (hx : covers x g.pc = true) (hy0 : y.catchType ≠ 0) (h0 : x.catchType ≠ 0)
    (hlk1 : (Cond.classLink own y.catchType name1).before args s = true) (hcU : s.vm.findClass name1 = some cU) (hno : s.vm.assignable cell.cls cU = false) (hlk : (Cond.classLink own x.catchType name).before args s = true) (hcT : s.vm.findClass name = some cT)
    (hcell : H[a]? = some cell) (hobj : cell.vm.isStatics = false) (hfit : s.vm.assignable cell.cls cT = true) (kk : W p l e R s m args below meth c H locs cells slots Q { g with pc := x.handlerPc, stack := [.ref a] }) : WT p l e R s m args below meth c H locs cells slots Q a g := by
  intro T hT X
  have hpl : e.platform.magicAccessors = ({} : Platform).magicAccessors := by rw [X.admits.platform]
  obtain ⟨c1, hc1, hcl1⟩ := Cond.classLink_spec hown hlk1 e.platform hpl
  cases hcU.symm.trans hc1
  obtain ⟨c', hc', hcl⟩ := Cond.classLink_spec hown hlk e.platform hpl
  cases hcT.symm.trans hc'
  obtain ⟨dk1, _, _, kt1, hd1, _, _, _, _, hkt1, _, hopen1⟩ := hcl1.here
  obtain ⟨dk, _, _, kt, hd, _, _, _, _, hkt, _, hopen⟩ := hcl.here
  have hW1 : s.WarmedH (T.vm.noted m.cls y.catchType (.cls cU)) := X.warmed.noted hd1 hopen1 (State.rightAt_cls hcl1)
  have hW2 : s.WarmedH ((T.vm.noted m.cls y.catchType (.cls cU)).noted m.cls x.catchType (.cls cT)) := hW1.noted hd hopen (State.rightAt_cls hcl)
  have hal := X.warmed.alike
  have hal1 := hW1.alike
  obtain ⟨kt1', hkt1', -⟩ := hal.2.2 _ _ hkt1
  obtain ⟨kt', hkt', -⟩ := hal1.2.2 _ _ hkt
  have hfit0 : T.vm.assignable cell.cls cT = true := by rw [hal.assignable]; exact hfit
  obtain ⟨kt0, hkt0, -⟩ := hal.2.2 _ _ hkt
  have hno' : T.vm.assignable cell.cls cU = false := by rw [hal.assignable]; exact hno
  have hfit' : (T.vm.noted m.cls y.catchType (.cls cU)).assignable cell.cls cT = true := by rw [hal1.assignable]; exact hfit
  obtain ⟨t, a1, b1⟩ := kk (T.setVm ((T.vm.noted m.cls y.catchType (.cls cU)).noted m.cls x.catchType (.cls cT))) hT (X.noted hW2)
  refine ⟨t, ?_, b1⟩
  subst hg
  refine hd_caught X.here (v := (T.vm.noted g.method.cls y.catchType (.cls cU)).noted g.method.cls x.catchType (.cls cT)) ?_ a1
  intro Q E d acts
  have hc0 : T.heap[a]? = some cell := by rw [hT]; exact hcell
  rw [W.findHandler_eq (s := (T.setTop g).pushFrame (.throwing a)) (meth := meth) (code := c) X.method' X.code, hsp]
  refine (hd_row (S := (T.setTop g).pushFrame (.throwing a)) (b := false) hy hy0 (X.warmed.classLinks hcl1) hc0 (VmData.ne_statics_of hobj) (Vm.classAt_of_assignable hfit0 ⟨kt0, hkt0⟩) ⟨kt1', hkt1'⟩ hno').trans ?_
  exact hd_row (S := ((T.setTop g).pushFrame (.throwing a)).setVm (T.vm.noted g.method.cls y.catchType (.cls cU))) (b := true) hx h0 (hW1.classLinks hcl) hc0 (VmData.ne_statics_of hobj) (Vm.classAt_of_assignable hfit' ⟨kt', hkt'⟩) ⟨kt', hkt'⟩ hfit'
end HX
/-- the table of a method with handlers -/
theorem tab_of {p : Program} {l : Launch} {y : MethodName} {S : Spec} {cc : ByteArray} {maxL : Nat} {ret : Option FieldType} {hh : List (Nat × Nat × Nat × Nat)} {e : Env} {s : State} {m : MethodId} {args : Array Value} {below : List Frame} {meth : Method} {c : Code} {s₁ : State} (B : BodyLoose p l y S cc maxL ret e s m args below meth c s₁) (hw : (Cond.codeWith y cc maxL ret hh).before args s = true) : c.exceptionTable.toList.map (fun h => (h.startPc, h.endPc, h.handlerPc, h.catchType)) = hh := by
  obtain ⟨m9, meth', c', hn9, h1, h2, -, -, h7, -⟩ := Cond.codeWith_spec hw
  cases B.named.symm.trans hn9
  have h := B.here.code
  rw [B.state] at h
  have h' : s.code? m = some c := h
  have h3 : s.code? m = some c' := by
    rw [State.code?_eq, h1]
    exact h2
  cases h3.symm.trans h'
  exact h7
theorem tab_1 {c : Code} {a b d t : Nat} (h : c.exceptionTable.toList.map (fun h => (h.startPc, h.endPc, h.handlerPc, h.catchType)) = [(a, b, d, t)]) : ∃ x, c.exceptionTable.toList = [x] ∧ x.startPc = a ∧ x.endPc = b ∧ x.handlerPc = d ∧ x.catchType = t := by
  cases hc : c.exceptionTable.toList with
  | nil => rw [hc] at h; cases h
  | cons x r =>
    rw [hc] at h
    cases r with
    | nil =>
      have h1 := (List.cons.inj h).1
      simp only [Prod.mk.injEq] at h1
      exact ⟨x, rfl, h1.1, h1.2.1, h1.2.2.1, h1.2.2.2⟩
    | cons y r => cases h
theorem tab_2 {c : Code} {a b d t a2 b2 d2 t2 : Nat} (h : c.exceptionTable.toList.map (fun h => (h.startPc, h.endPc, h.handlerPc, h.catchType)) = [(a, b, d, t), (a2, b2, d2, t2)]) : ∃ x y, c.exceptionTable.toList = [x, y] ∧ (x.startPc = a ∧ x.endPc = b ∧ x.handlerPc = d ∧ x.catchType = t) ∧ (y.startPc = a2 ∧ y.endPc = b2 ∧ y.handlerPc = d2 ∧ y.catchType = t2) := by
  cases hc : c.exceptionTable.toList with
  | nil => rw [hc] at h; cases h
  | cons x r =>
    rw [hc] at h
    cases r with
    | nil => cases h
    | cons y r =>
      cases r with
      | nil =>
        have h1 := (List.cons.inj h).1
        have h2 := (List.cons.inj (List.cons.inj h).2).1
        simp only [Prod.mk.injEq] at h1 h2
        exact ⟨x, y, rfl, ⟨h1.1, h1.2.1, h1.2.2.1, h1.2.2.2⟩, ⟨h2.1, h2.2.1, h2.2.2.1, h2.2.2.2⟩⟩
      | cons z r => cases h
theorem cov_of {x : ExceptionTableEntry} {a b pc : Nat} (h1 : x.startPc = a) (h2 : x.endPc = b) (ha : a ≤ pc) (hb : pc < b) : covers x pc = true := by
  simp [covers, h1, h2, ha, hb]
