/-! what parsing and the sheets need beside the world -/
set_option maxRecDepth 100000
abbrev cXw : List Cond := [.castable RX8 "java/lang/Object", .castable RX9 "java/lang/Object", .castable "[I" "java/lang/Object", .castable RX7 RX7, .castable RJ12 RJ12, .castable RJ14 RJ14, .castable RJ16 RJ16, .castable RJ16 RJ15, .declares ⟨RX2, "part", "(I)V"⟩, .declares ⟨RX2, "clears", "()V"⟩, .privateMethod yX2_next, .privateMethod yX2_reads, .declares ⟨RJ15, "<init>", "(Ljava/lang/String;)V"⟩, .declares ⟨RJ11, "<init>", "(Ljava/lang/String;)V"⟩, .declares ⟨RJ4, "<init>", "(Ljava/lang/String;)V"⟩, .declares ⟨RJ3, "<init>", "(Ljava/lang/String;)V"⟩]
abbrev cXn : List (String × String) := [("[S", "[B"), ("[I", "[B"), ("[I", "[S"), ("[B", "[S"), ("[B", "[I"), ("[S", "[I"), (RJ16, RJ14)]
def stG : Nat → Int32 := fun i => match i with | 0 => 7 | 1 => 8 | 2 => 99 | _ => 16
def stH : Nat → Int32 := fun i => match i with | 0 => 99 | 1 => 1 | 2 => 999 | _ => 10
def cStA (nm : String) (g : Nat → Int32) (A : Nat → Prop) (U : State) (H : Heap) : Prop := ∃ t : Nat, va_Z RX0 nm "[I" (.ref t) A U H ∧ va_T .int t 4 (fun i => .int (g i)) A U H
/-- a static field is laid, and its cell is outside A -/
def cLs (C n d : String) (A : Nat → Prop) (U : State) (H : Heap) : Prop := ∃ (c : ClassId) (k : Class) (i : Nat) (f : Field) (a : Nat) (cell : Cell), U.vm.findClass C = some c ∧ U.fieldFound? C n d = some (c, k, i, f) ∧ f.isStatic = true ∧ k.statics = some a ∧ H[a]? = some cell ∧ cell.vm.isStatics = true ∧ cell.cls = c ∧ f.slot < cell.slots.size ∧ k.staticTypes[f.slot]? = some f.type ∧ ¬ A a
theorem cLs.of {C n d : String} {A : Nat → Prop} {U : State} {args : Array Value} (h : (Cond.laysStatic C n d).before args U = true) (hA : ∀ a : Nat, a < U.heap.size → ¬ A a) : cLs C n d A U U.heap := by
  obtain ⟨c, k, i, f, a, cell, h1, h2, h3, h4, h5, h6, h7, h8, h9⟩ := Cond.laysStatic_spec h
  exact ⟨c, k, i, f, a, cell, h1, h2, h3, h4, h5, h6, h7, h8, h9, hA a (Array.getElem?_eq_some_iff.mp h5).1⟩
theorem cLs.use {C n d : String} {A : Nat → Prop} {U : State} {args : Array Value} (h : cLs C n d A U U.heap) : (Cond.laysStatic C n d).before args U = true := by
  obtain ⟨c, k, i, f, a, cell, h1, h2, h3, h4, h5, h6, h7, h8, h9, -⟩ := h
  exact Cond.laysStatic_of h1 h2 h3 h4 h5 h6 h7 h8 h9
theorem cLs.moved {C n d : String} {A : Nat → Prop} {u U : State} {H : Heap} (hvm : u.vm.Alike U.vm) (h : cLs C n d A u H) : cLs C n d A U H := by
  obtain ⟨c, k, i, f, a, cell, h1, h2, h3, h4, h5, h6, h7, h8, h9, h0⟩ := h
  obtain ⟨k', hi', hek⟩ := State.fieldFound?_setVm hvm h2
  exact ⟨c, k', i, f, a, cell, by rw [hvm.findClass]; exact h1, hi', h3, by rw [hek]; exact h4, h5, h6, h7, h8, by rw [hek]; exact h9, h0⟩
theorem cLs.kept {C n d : String} {A : Nat → Prop} {U : State} {H H1 : Heap} (h : cLs C n d A U H) (hq : ∀ a : Nat, a < H.size → ¬ A a → H1[a]? = H[a]?) : cLs C n d A U H1 := by
  obtain ⟨c, k, i, f, a, cell, h1, h2, h3, h4, h5, h6, h7, h8, h9, h0⟩ := h
  exact ⟨c, k, i, f, a, cell, h1, h2, h3, h4, by rw [hq a (Array.getElem?_eq_some_iff.mp h5).1 h0]; exact h5, h6, h7, h8, h9, h0⟩
theorem cLs.narrow {C n d : String} {A B : Nat → Prop} {U : State} {H : Heap} (h : cLs C n d A U H) (hAB : ∀ q, B q → A q) : cLs C n d B U H := by
  obtain ⟨c, k, i, f, a, cell, h1, h2, h3, h4, h5, h6, h7, h8, h9, h0⟩ := h
  exact ⟨c, k, i, f, a, cell, h1, h2, h3, h4, h5, h6, h7, h8, h9, fun z => h0 (hAB a z)⟩
abbrev cL2 (A : Nat → Prop) (U : State) (H : Heap) : Prop := cLs "java/lang/Throwable" "UNASSIGNED_STACK" "[Ljava/lang/StackTraceElement;" A U H ∧ cLs "java/lang/Throwable" "SUPPRESSED_SENTINEL" "Ljava/util/List;" A U H
def cE (Z : CZ) (A : Nat → Prop) (U : State) (H : Heap) : Prop := emZ Z A U H ∧ tnUS A U H ∧ cStA "GREATEST" stG A U H ∧ cStA "HIGH" stH A U H ∧ (∀ w ∈ cXw, va_Nw w U) ∧ (∀ q ∈ cXn, va_Nc q.1 q.2 U) ∧ cL2 A U H
theorem cStA.moved {nm : String} {g : Nat → Int32} {A : Nat → Prop} {u U : State} {H : Heap} (hvm : u.vm.Alike U.vm) (h : cStA nm g A u H) : cStA nm g A U H := by
  obtain ⟨t, h1, h2⟩ := h
  exact ⟨t, va_Z.moved hvm h1, va_T.moved hvm h2⟩
theorem cStA.kept {nm : String} {g : Nat → Int32} {A : Nat → Prop} {U : State} {H H1 : Heap} (h : cStA nm g A U H) (hq : ∀ a : Nat, a < H.size → ¬ A a → H1[a]? = H[a]?) : cStA nm g A U H1 := by
  obtain ⟨t, h1, h2⟩ := h
  exact ⟨t, h1.kept hq, h2.kept hq⟩
theorem cStA.narrow {nm : String} {g : Nat → Int32} {A B : Nat → Prop} {U : State} {H : Heap} (h : cStA nm g A U H) (hAB : ∀ q, B q → A q) : cStA nm g B U H := by
  obtain ⟨t, h1, h2⟩ := h
  exact ⟨t, h1.narrow hAB, h2.narrow hAB⟩
def pwW : Cond → Bool
  | .castable _ _ => true
  | .declares _ => true
  | .privateMethod _ => true
  | _ => false
theorem nw_moved {w : Cond} (hp : pwW w = true) {s U : State} (hvm : s.vm.Alike U.vm) (h : va_Nw w s) : va_Nw w U := by
  unfold pwW at hp
  split at hp
  · exact va_tabs rfl (rfl : (s.setVm U.vm).vm = U.vm) (by rw [Cond.castable_setVm hvm]; exact h)
  · exact va_tabs rfl (rfl : (s.setVm U.vm).vm = U.vm) (by rw [Cond.declares_setVm hvm]; exact h)
  · exact va_tabs rfl (rfl : (s.setVm U.vm).vm = U.vm) (by rw [Cond.privateMethod_setVm hvm]; exact h)
  · cases hp
theorem cXw_p : cXw.all pwW = true := rfl
theorem cE.moved {Z : CZ} {A : Nat → Prop} {u U : State} {H : Heap} (hvm : u.vm.Alike U.vm) (h : cE Z A u H) : cE Z A U H :=
  ⟨emZ.moved hvm h.1, ⟨va_Zq.moved hvm h.2.1.1, va_Zq.moved hvm h.2.1.2⟩, h.2.2.1.moved hvm, h.2.2.2.1.moved hvm, fun w hw => nw_moved (List.all_eq_true.mp cXw_p w hw) hvm (h.2.2.2.2.1 w hw), fun q hq => va_Nc.moved hvm (h.2.2.2.2.2.1 q hq), h.2.2.2.2.2.2.1.moved hvm, h.2.2.2.2.2.2.2.moved hvm⟩
theorem cE.kept {Z : CZ} {A : Nat → Prop} {U : State} {H H1 : Heap} (h : cE Z A U H) (hq : ∀ a : Nat, a < H.size → ¬ A a → H1[a]? = H[a]?) : cE Z A U H1 :=
  ⟨h.1.kept hq, ⟨h.2.1.1.kept hq, h.2.1.2.kept hq⟩, h.2.2.1.kept hq, h.2.2.2.1.kept hq, h.2.2.2.2.1, h.2.2.2.2.2.1, h.2.2.2.2.2.2.1.kept hq, h.2.2.2.2.2.2.2.kept hq⟩
theorem cE.narrow {Z : CZ} {A B : Nat → Prop} {U : State} {H : Heap} (h : cE Z A U H) (hAB : ∀ q, B q → A q) : cE Z B U H :=
  ⟨h.1.narrow hAB, ⟨h.2.1.1.narrow hAB, h.2.1.2.narrow hAB⟩, h.2.2.1.narrow hAB, h.2.2.2.1.narrow hAB, h.2.2.2.2.1, h.2.2.2.2.2.1, h.2.2.2.2.2.2.1.narrow hAB, h.2.2.2.2.2.2.2.narrow hAB⟩
theorem cE.nw {Z : CZ} {A : Nat → Prop} {U : State} {H : Heap} (h : cE Z A U H) (i : Nat) {w : Cond} (hw : cXw[i]? = some w) : va_Nw w U := h.2.2.2.2.1 w (List.mem_of_getElem? hw)
theorem cE.nc {Z : CZ} {A : Nat → Prop} {U : State} {H : Heap} (h : cE Z A U H) (i : Nat) {q : String × String} (hw : cXn[i]? = some q) : va_Nc q.1 q.2 U := h.2.2.2.2.2.1 q (List.mem_of_getElem? hw)
/-- the start of a method that may parse -/
def cSx (Z : CZ) (Y : CY) (C : St) (sz : Nat) (U : State) : Prop := cSw Z Y C sz U ∧ cE Z (va_A (cWs Z Y C) sz) U U.heap
theorem cSx.blind {Z : CZ} {Y : CY} {C : St} {sz : Nat} {av : List Value} : FrameBlind (va_Pc av (cSx Z Y C sz)) := fun a U g mk q => ⟨q.1, (cSw.blind a U g mk ⟨q.1, q.2.1⟩).2, cE.moved (u := U) (U := U.calling g mk a) (Vm.Alike.refl U.vm) q.2.2⟩
theorem cSx.dp {Z : CZ} {Y : CY} {C : St} {sz : Nat} {U : State} (h : cSx Z Y C sz U) : dpS Z Y C sz U := ⟨h.1, h.2.1, h.2.nw 0 rfl⟩
theorem cSx.tx {Z : CZ} {Y : CY} {C : St} {sz : Nat} {U : State} (h : cSx Z Y C sz U) : txS Z Y C sz U := ⟨h.1, h.2.2.1⟩
theorem cSx.sw {Z : CZ} {Y : CY} {C : St} {sz : Nat} {U : State} (h : cSx Z Y C sz U) : cSw Z Y C sz U := h.1
/-- a private method of Text, on a receiver of a class below -/
theorem sel_priv {Cn : String} {n : Nat} {y : MethodName} {s : State} {args : Array Value} (hy : y.cls ≠ "java/lang/invoke/MethodHandle" ∧ y.cls ≠ "java/lang/invoke/VarHandle") (hins : (Cond.instantiable Cn n).before args s = true) (hni : ∃ k, s.vm.findClass y.cls = some k ∧ ∃ kc, s.vm.classes[k]? = some kc ∧ kc.isInterface = false)
    (hpriv : (Cond.privateMethod y).before args s = true) (hinst : (Cond.instanceMethod y).before args s = true) : (Cond.selects Cn y y).before args s = true := by
  obtain ⟨c, k, hc, hk, -, -, -, -⟩ := Cond.instantiable_spec hins
  obtain ⟨mk, methM, hnamed, hmethM, -, -⟩ := Cond.instanceMethod_spec hinst
  have hfound : s.methodFound? y.cls y.name y.desc = some mk := State.methodFound?_of_named hnamed hy
  have hsel : selectMethod {} s.vm c mk = .method mk := selectMethod_private hmethM (Cond.privateMethod_at hpriv mk methM hnamed hmethM)
  obtain ⟨k0, hk0, kc, hkc, hki⟩ := hni
  have hcls : mk.cls = k0 := Option.some.inj ((findClass_of_methodNamed hnamed).symm.trans hk0)
  simp only [Cond.before, Cond.holds, Cond.value, hc, hfound, hnamed, hsel, hcls, hkc]
  simp
  exact hki
/-- the class of a method that another call selects is no interface -/
theorem sel_ni {Cn : String} {x y : MethodName} {s : State} {args : Array Value} (hsel : (Cond.selects Cn x y).before args s = true) (hinst : (Cond.instanceMethod y).before args s = true) : ∃ k, s.vm.findClass y.cls = some k ∧ ∃ kc, s.vm.classes[k]? = some kc ∧ kc.isInterface = false := by
  obtain ⟨mk, methM, hnamed, hmethM, -, -⟩ := Cond.instanceMethod_spec hinst
  obtain ⟨c2, r2, m2, q1, q2, q3, q4, kP, hkP, hkPi⟩ := Cond.selects_spec hsel
  cases hnamed.symm.trans q3
  exact ⟨mk.cls, findClass_of_methodNamed hnamed, kP, hkP, hkPi⟩
