/-! System.arraycopy out of bounds: from the call to the exception over the caller's frame -/
set_option maxRecDepth 100000
theorem sf_eq {V s₂ : State} {F G A : List Frame} (f1 : ({ s₂ with vm := V.vm } : State) = { (V.setFrames A).setFrames s₂.frames with heap := s₂.heap, slotsUsed := s₂.slotsUsed }) : ({ s₂.setFrames F with vm := V.vm } : State) = { (V.setFrames G).setFrames F with heap := s₂.heap, slotsUsed := s₂.slotsUsed } := by
  have f1' := congrArg (fun u : State => u.setFrames F) f1
  refine Eq.trans (show ({ s₂.setFrames F with vm := V.vm } : State) = State.setFrames { s₂ with vm := V.vm } F from rfl) (f1'.trans ?_)
  show ({ ((V.setFrames A).setFrames s₂.frames).setFrames F with heap := s₂.heap, slotsUsed := s₂.slotsUsed } : State) = _
  rw [State.setFrames_setFrames, State.setFrames_setFrames, State.setFrames_setFrames]
section NC
variable {p : Program} {l : Launch} {e : Env} {R : Room} {s : State} {m : MethodId} {args : Array Value} {below : List Frame} {meth : Method} {c : Code} {locs : List Loc} {cells slots : Nat}
theorem room_over {T : State} (X : Stand p l e R s m args below meth c T locs cells slots) {g : JFrame} (hsize : g.locals.size = c.maxLocals) {nf : NFrame} (hnf : nf.words = 0) {a : Addr} {m' : MethodId} {meth' : Method} {code' : Code} {args' : Array Value} {R' : Room} (hm : T.vm.method? m' = some meth') (hc : meth'.code = some code') (hframes : R'.frames + 3 ≤ R.frames)
    (hlocals : 2 * g.monitorRoom + (g.stack.map fun v => v.category).sum + 2048 + (code'.maxLocals + 11) + R'.locals ≤ R.locals) (hcells : cells + R'.cells ≤ R.cells) (hslots : slots + R'.slots ≤ R.slots) :
    (T.setFrames (.invoking m' args' :: .thenThrow a :: .native nf :: .java g :: below)).hasRoom e.platform R' = true := by
  obtain ⟨g₀, hfr⟩ := X.frames_eq
  have hcur : T.cur < T.threads.size := State.cur_lt_of_frames hfr
  have h₀ := X.room
  obtain ⟨r1, r2, r3, r4⟩ := State.hasRoom_stack h₀
  have r5 := State.hasRoom_real h₀
  have h := h₀
  simp only [State.hasRoom, Bool.and_eq_true, decide_eq_true_eq] at h
  rw [State.localsInUse_invoking X.frames X.method X.code] at r3 r4 r5
  rw [X.frames, List.length_cons] at r1 r2
  have hF : (T.setFrames (.invoking m' args' :: .thenThrow a :: .native nf :: .java g :: below)).frames = .invoking m' args' :: .thenThrow a :: .native nf :: .java g :: below := State.frames_setFrames _ hcur
  have hU : (T.setFrames (.invoking m' args' :: .thenThrow a :: .native nf :: .java g :: below)).localsInUse = stackWeight below + (g.locals.size + 11 + 2 * g.monitorRoom) + (g.stack.map fun v => v.category).sum + 1024 + 1024 + 1024 + (code'.maxLocals + 11) := by
    rw [State.localsInUse_invoking hF (meth := meth') (c := code') hm hc, stackWeight_other (.thenThrow a) _ (fun f h => by cases h), stackWeight_other (.native nf) _ (fun f h => by cases h) hnf, stackWeight_java]
    rfl
  have hv : vmFrameWords = 1024 := rfl
  rw [hv] at r3 r4 r5
  simp only [State.hasRoom, Bool.and_eq_true, decide_eq_true_eq, hF, hU, List.length_cons, State.stackLimits_setFrames, State.stackBytes_setFrames, X.limits, X.bytes]
  have hh := X.heapSize
  have hu := X.used
  refine ⟨⟨⟨⟨by omega, by omega, by omega, by omega, by omega, h.1.1.1.2.2.2.2.2⟩, ?_⟩, ?_⟩, X.book⟩
  · have := h.1.1.2
    show T.heap.size + R'.cells ≤ e.platform.maxCells
    omega
  · have := h.1.2
    show T.slotsUsed + R'.slots ≤ e.platform.maxSlots
    omega
theorem may_over {T : State} (X : Stand p l e R s m args below meth c T locs cells slots) {g : JFrame} (hsize : g.locals.size = c.maxLocals) {nf : NFrame} (hnf : nf.words = 0) (note : Frame) (hnote : ∀ f, note ≠ .java f) (hw : note.words = 0) (hK : 2 * g.monitorRoom + (g.stack.map fun v => v.category).sum + 10240 ≤ R.locals) :
    e.platform.stackBeyond ((((T.setFrames (note :: .native nf :: .java g :: below)).threads[T.cur]?).map (·.stackBytes)).getD 0) (T.setFrames (note :: .native nf :: .java g :: below)).frames = false ∧
      e.platform.vmThrowRoom ≤ e.platform.stackFree ((((T.setFrames (note :: .native nf :: .java g :: below)).threads[T.cur]?).map (·.stackBytes)).getD 0) (T.setFrames (note :: .native nf :: .java g :: below)).frames := by
  obtain ⟨g₀, hfr⟩ := X.frames_eq
  have hcur : T.cur < T.threads.size := State.cur_lt_of_frames hfr
  have hb : ((((T.setFrames (note :: .native nf :: .java g :: below)).threads[T.cur]?).map (·.stackBytes)).getD 0) = T.me.stackBytes := by
    rw [← State.stackBytes_setFrames T (note :: .native nf :: .java g :: below)]
    exact State.stackBytes_me (T.setFrames (note :: .native nf :: .java g :: below))
  have hA := X.stackAbove hsize hK
  rw [X.tail] at hA
  have hlimit : (e.platform.stackLimits T.me).2 = (e.platform.limitsFor T.me.stackBytes).2 := rfl
  rw [hb, State.frames_setFrames _ hcur, Launch.admits_vmThrowRoom X.admits]
  unfold Platform.stackBeyond Platform.stackFree
  rw [stackUse_light _ _ hnote hw, stackUse_light (.native nf) _ (fun f hf => by cases hf) hnf]
  refine ⟨decide_eq_false (by omega), by omega⟩
/-- from the note of an AIOOBE over a native's frame to the exception over the caller's frame -/
theorem over_throws {Z : CZ} {T : State} (X : Stand p l e R s m args below meth c T locs cells slots) (hts : ∀ (w : Cond), w ∈ lw_all → ∀ a', w.before a' T = true) (hE : cE Z (fun q => T.heap.size ≤ q) T T.heap) (htr : l.stackTraces = false) {g : JFrame} (hg : g.method = m) (hsize : g.locals.size = c.maxLocals) {nf : NFrame} (hnf : nf.words = 0) (haw : nf.awaiting = false) (hlk : nf.locked = none) {text : String} (htext : (text == notModelled) = false) (hbytes : (stringBytes (stringToUtf16 text)).size ≤ 400)
    (hst : 2 * g.monitorRoom + (g.stack.map fun v => v.category).sum ≤ 8) (hR : 9 ≤ R.frames ∧ 10300 ≤ R.locals ∧ cells + 3 ≤ R.cells ∧ slots + 410 ≤ R.slots) :
    ∃ (T' : State) (L : List Loc) (ce : Cell) (n : Nat), n ≤ slots + 410 ∧ Stand p l e R s m args below meth c T' (locs ++ L) (cells + 3) n ∧ (∀ q ∈ L, q.base = T.heap.size + 2) ∧ (∀ q : Nat, q < T.heap.size → T'.heap[q]? = T.heap[q]?) ∧ T.heap.size ≤ T'.heap.size ∧ T'.heap[T.heap.size + 2]? = some ce ∧ ce.vm = .none ∧ T.vm.findClass "java/lang/ArrayIndexOutOfBoundsException" = some ce.cls ∧
      Steps p.tables e below (T.setFrames (.throwNew "java/lang/ArrayIndexOutOfBoundsException" (some text) none :: .native nf :: .java g :: below)) ((T'.setTop g).pushFrame (.throwing (T.heap.size + 2))) := by
  obtain ⟨g₀, hfr⟩ := X.frames_eq
  have hcur : T.cur < T.threads.size := State.cur_lt_of_frames hfr
  have hts0 : ∀ w ∈ lw_all, w.before (#[] : Array Value) T = true := fun w hw => hts w hw _
  obtain ⟨Zs, LZs, hn4, hfitv, hfitc⟩ := StringT.of_atoms (args := #[]) (am_G hts0 hE)
  obtain ⟨cX, kX, hcX, hkX, hord, -, -, hn6⟩ := Cond.instantiable_spec (am_A hts0 hE (.instantiable "java/lang/ArrayIndexOutOfBoundsException" 6) (by simp [Bundle.messageArmAtoms]))
  have hinit : kX.init = .initialized := Cond.initialized_spec hcX hkX (am_A hts0 hE (.initialized "java/lang/ArrayIndexOutOfBoundsException") (by simp [Bundle.messageArmAtoms]))
  obtain ⟨mk, hnamed⟩ := Cond.code_named (hts0 _ q991)
  obtain ⟨methK, codeK, hmK, hcK, -, hlK, hrK, -, -, -⟩ := Cond.code_spec hnamed (hts0 _ q991)
  have hcls : mk.cls = cX := Option.some.inj ((findClass_of_methodNamed hnamed).symm.trans hcX)
  have hctor : kX.findMethod "<init>" "(Ljava/lang/String;)V" = some mk.idx := findMethod_of_methodNamed hnamed (by rw [hcls]; exact hkX)
  have hf0 : (T.setFrames (.throwNew "java/lang/ArrayIndexOutOfBoundsException" (some text) none :: .native nf :: .java g :: below)).frames = .throwNew "java/lang/ArrayIndexOutOfBoundsException" (some text) none :: .native nf :: .java g :: below := State.frames_setFrames _ hcur
  obtain ⟨hbeyond, hfree⟩ := may_over X hsize hnf (.throwNew "java/lang/ArrayIndexOutOfBoundsException" (some text) none) (fun f hf => by cases hf) rfl (by omega)
  have hcl := X.cellsAbove hR.2.2.1
  have hsl := X.slotsAbove (n := 410) hR.2.2.2
  have hgo : T.goesOn := ⟨X.here.running, X.here.runnable, X.here.alone⟩
  have hlim : e.platform.arrayLengthLimit = 2147483645 := by rw [X.admits.platform]
  have hmx : e.platform.maxHeapBytes = 536870912 := by rw [X.admits.platform]
  have emk : (⟨cX, mk.idx⟩ : MethodId) = mk := by rw [← hcls]
  have hstep := stepThrowNew_message (e := e) (s := T.setFrames (.throwNew "java/lang/ArrayIndexOutOfBoundsException" (some text) none :: .native nf :: .java g :: below)) (m := text) (rest := .native nf :: .java g :: below) (c := cX) (k := kX) (i := mk.idx) Zs LZs rfl rfl hcX hkX hinit hord (Launch.admits_hotImplicitExceptions X.admits) hbeyond hfree htext hctor (by rw [hlim]; omega) (by rw [hmx]; show ¬ _ * 1 > _; omega) hcl (by show T.slotsUsed + _ + _ + _ ≤ _; rw [hn4, hn6]; omega) (hfitv _) (hfitc _)
  rw [withThrown_setFrames, State.setFrames_setFrames, emk] at hstep
  obtain ⟨w1, w2, w3, w4, w5, w6, -⟩ := withThrown_facts e.platform T Zs text cX kX
  have X3 := ((X.pushed (bytesOf Zs.cB (stringToUtf16 text))).pushed (stringAt Zs.cS Zs.kS Zs.fv Zs.fc (stringToUtf16 text) T.heap.size)).pushed (freshCell cX kX)
  rw [← withString_eq] at X3
  have b1 : (bytesOf Zs.cB (stringToUtf16 text)).slots.size = (stringBytes (stringToUtf16 text)).size := by
    rw [(Cell.writeAll_facts _ _).2.2]; simp [bytes0]
  have b2 : (stringAt Zs.cS Zs.kS Zs.fv Zs.fc (stringToUtf16 text) T.heap.size).slots.size = 4 := by simp [string0, Cell.setSlot, hn4]
  have b3 : (freshCell cX kX).slots.size = 6 := by simp [hn6]
  rw [b1, b2, b3] at X3
  have X3 : Stand p l e R s m args below meth c (withThrown T Zs text cX kX) locs (cells + 1 + 1 + 1) (slots + (stringBytes (stringToUtf16 text)).size + 4 + 6) := X3
  generalize hV : withThrown T Zs text cX kX = V at X3 hstep w1 w2 w3 w4 w5
  obtain ⟨g₁, hfr1⟩ := X3.frames_eq
  have hcurV : V.cur < V.threads.size := State.cur_lt_of_frames hfr1
  have hfV : (V.setFrames (.thenThrow (T.heap.size + 2) :: .native nf :: .java g :: below)).frames = .thenThrow (T.heap.size + 2) :: .native nf :: .java g :: below := State.frames_setFrames _ hcurV
  have hpush : (V.setFrames (.thenThrow (T.heap.size + 2) :: .native nf :: .java g :: below)).pushFrame (.invoking mk #[.ref (T.heap.size + 2), .ref (T.heap.size + 1)]) = V.setFrames (.invoking mk #[.ref (T.heap.size + 2), .ref (T.heap.size + 1)] :: .thenThrow (T.heap.size + 2) :: .native nf :: .java g :: below) := by
    rw [State.pushFrame, hfV, State.setFrames_setFrames]
  have hfI : (V.setFrames (.invoking mk #[.ref (T.heap.size + 2), .ref (T.heap.size + 1)] :: .thenThrow (T.heap.size + 2) :: .native nf :: .java g :: below)).frames = .invoking mk #[.ref (T.heap.size + 2), .ref (T.heap.size + 1)] :: .thenThrow (T.heap.size + 2) :: .native nf :: .java g :: below := State.frames_setFrames _ hcurV
  have hVm : V.vm = T.vm := w1
  have hroom := room_over X3 hsize hnf (a := T.heap.size + 2) (m' := mk) (args' := #[.ref (T.heap.size + 2), .ref (T.heap.size + 1)]) (R' := axR) (by rw [hVm]; exact hmK) hcK (by show 6 + 3 ≤ _; exact hR.1) (by rw [hlK]; show _ + _ + 2048 + (2 + 11) + 200 ≤ _; omega) (by show _ + 0 ≤ _; omega) (by show _ + 0 ≤ _; omega)
  have hpre : ∀ (w : Cond), w ∈ ws_ yJ16_init cJ16_init 2 none → w.before #[.ref (T.heap.size + 2), .ref (T.heap.size + 1)] (V.setFrames (.invoking mk #[.ref (T.heap.size + 2), .ref (T.heap.size + 1)] :: .thenThrow (T.heap.size + 2) :: .native nf :: .java g :: below)) = true := fun w hw => by
    have hg := lw_meth (y := yJ16_init) (b := cJ16_init) (L := 2) (r := none) q991 w hw
    have : T.WarmedH (V.setFrames (.invoking mk #[.ref (T.heap.size + 2), .ref (T.heap.size + 1)] :: .thenThrow (T.heap.size + 2) :: .native nf :: .java g :: below)).vm := by
      show T.WarmedH V.vm
      rw [hVm]
      exact State.WarmedH.refl T
    exact pay_in (args := #[]) hts0 (lw_meth (y := yJ16_init) (b := cJ16_init) (L := 2) (r := none) q991) w hw _ _ this
  have happ : (headSpec (ws_ yJ16_init cJ16_init 2 none) axR).appliesLoose yJ16_init e.platform ((V.setFrames (.thenThrow (T.heap.size + 2) :: .native nf :: .java g :: below)).pushFrame (.invoking mk #[.ref (T.heap.size + 2), .ref (T.heap.size + 1)])) = true := by
    rw [hpush]
    refine (Spec.appliesLoose_iff hfI).mpr ⟨X3.here.running, by simpa using X3.here.runnable, by simpa using X3.here.alone, ?_, ?_, State.classRipe_of (k := kX) (by show V.vm.classes[mk.cls]? = _; rw [hVm, hcls]; exact hkX) hinit, hroom, atoms_intro hpre⟩
    · show V.methodNamed? yJ16_init = _
      unfold State.methodNamed?
      rw [hVm]
      exact hnamed
    · show (V.vm.method? mk).any _ = true
      rw [hVm, hmK]
      simp [hrK]
  have hE1 : cE Z (tnA (T.heap.size + 2)) (V.setFrames (.invoking mk #[.ref (T.heap.size + 2), .ref (T.heap.size + 1)] :: .thenThrow (T.heap.size + 2) :: .native nf :: .java g :: below)) V.heap :=
    cE.moved (u := T) (by show T.vm.Alike V.vm; rw [hVm]; exact Vm.Alike.refl _) ((hE.kept (fun q hq _ => w5 q hq)).narrow (fun q hq => by rw [show q = T.heap.size + 2 from hq]; omega))
  have hP : va_Pc [.ref (T.heap.size + 2), .ref (T.heap.size + 1)] (axS Z (T.heap.size + 2)) #[.ref (T.heap.size + 2), .ref (T.heap.size + 1)] ((V.setFrames (.thenThrow (T.heap.size + 2) :: .native nf :: .java g :: below)).pushFrame (.invoking mk #[.ref (T.heap.size + 2), .ref (T.heap.size + 1)])) := by
    rw [hpush]
    exact ⟨rfl, hE1, cX, kX, by show V.vm.findClass _ = _; rw [hVm]; exact hcX, by show V.vm.classes[cX]? = _; rw [hVm]; exact hkX, w4⟩
  obtain ⟨o, s₂, hsteps, hrun, hend, hq⟩ := Steps.callFree (ax_met l htr Z (T.heap.size + 2) (T.heap.size + 1)) p X.admits X.cas X.clock (acts := []) (mid := [.thenThrow (T.heap.size + 2), .native nf, .java g]) (below := below) hfV happ hP trivial
  obtain ⟨hQ, L, ⟨-, hF⟩, hL⟩ := hq
  obtain ⟨rfl, ⟨ce, cX', hc', hce, hcc, hcv⟩, hsz2, hk2⟩ := hQ
  rw [hfV] at hend
  have hf2 : s₂.frames = .thenThrow (T.heap.size + 2) :: .native nf :: .java g :: below := hend.2
  have hcur2 : s₂.cur < s₂.threads.size := State.cur_lt_of_frames hf2
  rw [hpush] at hF hc' hsz2 hk2
  obtain ⟨hFW, f1, f2, f3, f4, f5, f6⟩ := hF
  have hca := State.calling_eq X3.here.top g mk #[.ref (T.heap.size + 2), .ref (T.heap.size + 1)]
  have hsame3 : (V.calling g mk #[.ref (T.heap.size + 2), .ref (T.heap.size + 1)]).sameButNew ({ s₂.setFrames (.throwing (T.heap.size + 2) :: .java g :: below) with vm := (V.calling g mk #[.ref (T.heap.size + 2), .ref (T.heap.size + 1)]).vm } : State) L 0 0 := by
    rw [hca]
    have hfF : (s₂.setFrames (.throwing (T.heap.size + 2) :: .java g :: below)).frames = .throwing (T.heap.size + 2) :: .java g :: below := State.frames_setFrames _ hcur2
    have k1 := sf_eq (V := V) (s₂ := s₂) (A := .invoking mk #[.ref (T.heap.size + 2), .ref (T.heap.size + 1)] :: .thenThrow (T.heap.size + 2) :: .native nf :: .java g :: below) (F := .throwing (T.heap.size + 2) :: .java g :: below) (G := .invoking mk #[.ref (T.heap.size + 2), .ref (T.heap.size + 1)] :: .java g :: V.frames.tail) f1
    have k2 : ∀ fs : List Frame, fs = .throwing (T.heap.size + 2) :: .java g :: below → ({ s₂.setFrames (.throwing (T.heap.size + 2) :: .java g :: below) with vm := V.vm } : State) = { (V.setFrames (.invoking mk #[.ref (T.heap.size + 2), .ref (T.heap.size + 1)] :: .java g :: V.frames.tail)).setFrames fs with heap := s₂.heap, slotsUsed := s₂.slotsUsed } := fun fs hfs => by
      subst hfs
      exact k1
    exact ⟨k2 _ hfF, f2, f3, f4, f5, f6⟩
  have hW3 : (V.calling g mk #[.ref (T.heap.size + 2), .ref (T.heap.size + 1)]).WarmedH (s₂.setFrames (.throwing (T.heap.size + 2) :: .java g :: below)).vm := by
    rw [hca]
    exact hFW
  obtain ⟨T', X', -, -, e4⟩ := X3.outOfThrown hg (t := s₂.setFrames (.throwing (T.heap.size + 2) :: .java g :: below)) (State.frames_setFrames _ hcur2) hW3 hsame3
  have hh : T'.heap = s₂.heap := by
    have := congrArg State.heap e4
    exact this.symm
  have hgo2 : s₂.goesOn := by
    have e6 : s₂ = (s₂.setFrames (.throwing (T.heap.size + 2) :: .java g :: below)).setFrames s₂.frames := by
      rw [State.setFrames_setFrames]
      obtain ⟨t, ht, -⟩ := State.frames_cons hf2
      exact (State.setFrames_self ht).symm
    rw [e6, e4, State.pushFrame, State.setFrames_setFrames]
    have ht := X'.here.top
    exact ⟨X'.here.running, by simpa using X'.here.runnable, by simpa using X'.here.alone⟩
  refine ⟨T', L, ce, slots + (stringBytes (stringToUtf16 text)).size + 4 + 6 + 0, by omega, X', hL, fun q hq => ?_, ?_, by rw [hh]; exact hce, hcv, ?_, ?_⟩
  · rw [hh, hk2 q (by omega)]
    exact w5 q hq
  · rw [hh, hsz2]
    show _ ≤ V.heap.size
    omega
  · rw [← hVm, hcc]
    exact hc'
  · refine Steps.head ⟨X.here.running, by simpa using X.here.runnable, by simpa using X.here.alone⟩ ⟨[.throwNew "java/lang/ArrayIndexOutOfBoundsException" (some text) none, .native nf, .java g], hf0, by simp, by simp⟩ ?_
    rw [stepThread_throwNew hf0, hstep]
    refine Steps.trans hsteps ?_
    refine Steps.head hgo2 ⟨[.thenThrow (T.heap.size + 2), .native nf, .java g], hf2, by simp, by simp⟩ ?_
    rw [stepThread_thenThrow hf2]
    refine nt_pop (mid := [.java g]) hgo2 hcur2 rfl haw hlk ?_
    rw [e4]
    exact Steps.refl _
end NC
