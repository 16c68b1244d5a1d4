/-! a message is thrown out of a method that has no table -/
set_option maxRecDepth 100000
/-- the method throws an X that the machine makes; no old cell is touched -/
def Qmx (X : String) (_ : Array Value) (st : State) (o : Outcome) (t : State) : Prop := ∃ (x : Addr) (cell : Cell), o = .threw x ∧ t.heap[x]? = some cell ∧ st.vm.findClass X = some cell.cls ∧ cell.vm.isStatics = false ∧ ∀ (q : Nat) (c : Cell), st.heap[q]? = some c → t.heap[q]? = some c
theorem Qmx.thr {X : String} : ∀ a st o t, Qmx X a st o t → ∃ x, o = .threw x := fun _ _ _ _ h => by
  obtain ⟨x, cell, h1, -⟩ := h
  exact ⟨x, h1⟩
theorem sbn_old {s s' : State} {k n : Nat} (h : s.sameButNew s' [] k n) {q : Nat} {c : Cell} (hc : s.heap[q]? = some c) : s'.heap[q]? = some c := by
  obtain ⟨c', h1, h2, h3, h4⟩ := h.2.2.2.2.2 q c hc
  have : c'.slots = c.slots := Array.ext_getElem? fun i => h4 i (fun z => by cases z)
  rw [h1, h2, this]
theorem sbn_wide {s s' : State} {L : List Loc} {k n n' : Nat} (h : s.sameButNew s' L k n) (hn : n ≤ n') : s.sameButNew s' L k n' :=
  ⟨h.1, h.2.1, h.2.2.1, h.2.2.2.1, Nat.le_trans h.2.2.2.2.1 hn, h.2.2.2.2.2⟩
section AR
variable {p : Program} {l : Launch} {e : Env} {R : Room} {s : State} {m : MethodId} {args : Array Value} {below : List Frame} {meth : Method} {c : Code} {Q : State → Prop}
variable {pc : Nat} {ls : Array Slot} {rest st0 : List Value} {cc : ByteArray} {nL : Nat}
theorem W.arm {X : String} {names : List String} {free : Addr → Prop} (hx : p.tables.exec = Jvm.exec) (htr : l.stackTraces = false) (hcls : Bundle.fit X = true) (hnames : ∀ n ∈ names, Bundle.fit n = true) (hsoe : (X == "java/lang/StackOverflowError") = false) (hoom : (X == "java/lang/OutOfMemoryError") = false)
    (ha : ∀ a ∈ Bundle.messageArmAtoms X names, a.before args s = true) (hsz : ls.size = c.maxLocals) (hnt : ∀ x ∈ c.exceptionTable.toList, covers x pc = false) (hn : names.length ≤ 3) (hR : 8 ≤ R.frames ∧ 10300 ≤ R.locals ∧ 3 ≤ R.cells ∧ 222 ≤ R.slots) (hw : (rest.map fun v => v.category).sum ≤ 8) (hlocks : meth.locks = false)
    (hthr : ∀ T : State, T.heap = s.heap → Stand p l e R s m args below meth c T [] 0 0 → ∃ (T1 : State) (text : String), Stand p l e R s m args below meth c T1 [] 0 0 ∧ (text == notModelled) = false ∧ (stringBytes (stringToUtf16 text)).size ≤ 212 ∧ ∀ target, Steps p.tables e below ((T1.setTop (F0 m pc ls rest)).pushFrame (.throwNew X (some text) none)) target → Steps p.tables e below (T.setTop (F0 m pc ls st0)) target) :
    W p l e R s m args below meth c s.heap [] 0 0 (MQX below (Qmx X) args s 3 222 free) (F0 m pc ls st0) := by
  intro T hT X0
  obtain ⟨T1, text, X1, ht, hb, hgo⟩ := hthr T hT X0
  have htr' : e.platform.stackTraces = false := by rw [X0.admits.platform]; exact htr
  obtain ⟨U, g1, g2, g3, g4, ⟨n, hn1, g5⟩, cb, cs, ce, -, -, g6, -, -, KE⟩ := X1.messageArmCells (g := F0 m pc ls rest) hx htr' hcls hnames hsoe hoom ha (fun z hz => by cases hz) ht (by rw [X0.admits.platform]; show ¬ _ > 2147483645; omega) (by rw [X0.admits.platform]; show ¬ _ * 1 > 536870912; omega)
    rfl hsz rfl rfl hnt (by omega) (by show 2 * 0 + (rest.map fun v => v.category).sum + 10240 ≤ R.locals; omega) (by omega) (by omega) (by omega) hlocks
  refine ⟨U, hgo U g1, .threw (T1.heap.size + 2), g2, g3, ⟨_, ce, rfl, g6, KE.cls, by rw [KE.vm]; rfl, fun q c0 hq => ?_⟩, [], ⟨g4, sbn_wide g5 (by omega)⟩, fun q hq => by cases hq⟩
  exact sbn_old g5 hq
end AR
/-! the words of a cast that fails, between arrays of primitives -/
def ccH (z : Bool) : String := (if z then "module java.base" else "unnamed module") ++ " of loader " ++ "'bootstrap'"
def ccT (a b : String) (z : Bool) : String := toString "class " ++ toString a ++ toString " cannot be cast to class " ++ toString b ++ toString " (" ++ toString (toString a ++ toString " and " ++ toString b ++ toString " are in " ++ toString (ccH z)) ++ toString ")"
theorem cc_k {vm : Vm} {n : String} {c : ClassId} {k : Class} {i : ClassId} {t : FieldType} (h : vm.findClass n = some c) (hk : vm.classes[c]? = some k) (hkind : k.kind = .array i t) (hn : ((withoutBrackets n).length == 1) = true) : k.shown = dotted n ∧ k.loader = none ∧ k.ofPrimitives = true := by
  obtain ⟨hlt, hp, _⟩ := Array.findIdx?_eq_some_iff_getElem.mp h
  have e : vm.classes[c] = k := by rw [Array.getElem?_eq_getElem hlt] at hk; exact Option.some.inj hk
  rw [e] at hp
  simp only [Bool.and_eq_true, beq_iff_eq, Option.isNone_iff_eq_none] at hp
  obtain ⟨⟨⟨h1, h2⟩, -⟩, h3⟩ := hp
  refine ⟨?_, h3, ?_⟩
  · unfold Class.shown; rw [h2, h1]
  · unfold Class.ofPrimitives; rw [hkind, h1]; exact hn
theorem cc_text {vm : Vm} {k k' : Class} {a b : String} (h1 : k.shown = a) (h2 : k.loader = none) (h3 : k.ofPrimitives = true) (g1 : k'.shown = b) (g2 : k'.loader = none) (g3 : k'.ofPrimitives = true) : ∃ z, Op.checkcast.message vm k k' = ccT a b z := by
  have em : vm.moduleOf k = vm.modules.find? (·.name == "java.base") := by unfold Vm.moduleOf; rw [if_pos h3]
  have em' : vm.moduleOf k' = vm.modules.find? (·.name == "java.base") := by unfold Vm.moduleOf; rw [if_pos g3]
  have hs : vm.sameModule k k' = true := by
    unfold Vm.sameModule
    rw [em, em']
    cases vm.modules.find? (·.name == "java.base") with
    | none => rw [h2, g2]; rfl
    | some x => simp
  have hh : ∃ z, vm.home k = ccH z := by
    unfold Vm.home
    rw [em, h2]
    cases hf : vm.modules.find? (·.name == "java.base") with
    | none => exact ⟨false, rfl⟩
    | some x =>
      have := List.find?_some hf
      refine ⟨true, ?_⟩
      simp only [beq_iff_eq] at this
      simp only [this]
      rfl
  obtain ⟨z, hz⟩ := hh
  refine ⟨z, ?_⟩
  unfold Op.checkcast.message Vm.homes ccT
  rw [if_pos hs, hz, h1, g1]
