/-! the classes that the worlds speak of, by number; the classes of arrays -/
abbrev clA : List vw_C := [(RX6, TX6, 39), (RX0, TX0, 20), (RX1, TX1, 1), (RX3, TX3, 6), (RX4, TX4, 9), (RX5, TX5, 1), (RX7, TX7, 7), (RX8, TX8, 5), (RX9, TX9, 3), (RJ2, TJ2, 3)]
abbrev tysA (ac : Nat → ClassId) : List (ClassId × FieldType) := [(ac 0, .int), (ac 1, .boolean), (ac 2, .byte), (ac 3, .short), (ac 4, .object "SecondChances$Person"), (ac 5, .object "SecondChances$Sheet"), (ac 6, .object "java/lang/Object"), (ac 7, .array .int)]
/-! BASE: words of the decompiled functions (Option), and rows that carry them over the machine -/
/-- banks of numbers: bank k, place i -/
abbrev St : Type := Nat → Nat → Int32
def upd2 (I : St) (k i : Nat) (v : Int32) : St := fun a => if a = k then upd (I k) i v else I a
theorem upd2_same (I : St) (k i : Nat) (v : Int32) : upd2 I k i v k = upd (I k) i v := if_pos rfl
theorem upd2_other (I : St) {k a : Nat} (i : Nat) (v : Int32) (h : a ≠ k) : upd2 I k i v a = I a := if_neg h
def lt_ {α β : Type} (e : α) (f : α → β) : β := f e
theorem lt_i {α β : Type} {e : α} {f : α → β} {r : β} {x : α} (h : lt_ e f = r) (hx : x = e) : f x = r := by subst hx; exact h
def inb (i : Int32) (n : Nat) : Bool := !decide (i < 0) && decide (i.toNatClampNeg < n)
theorem inb_in {i : Int32} {n : Nat} (h : inb i n = true) : vp_in i n := by
  unfold inb at h
  simp only [Bool.and_eq_true, Bool.not_eq_true', decide_eq_false_iff_not, decide_eq_true_eq] at h
  intro q
  rcases q with q | q
  · exact h.1 q
  · omega
theorem in_inb {i : Int32} {n : Nat} (h : vp_in i n) : inb i n = true := by
  unfold inb
  simp only [Bool.and_eq_true, Bool.not_eq_true', decide_eq_false_iff_not, decide_eq_true_eq]
  exact ⟨fun q => h (Or.inl q), Nat.not_le.mp fun q => h (Or.inr q)⟩
/-- a load out of an array of n places -/
def al_ {β : Type} (n : Nat) (f : Nat → Int32) (i : Int32) (k : Int32 → Option β) : Option β := if inb i n = true then k (f i.toNatClampNeg) else none
theorem al_e {β : Type} {n : Nat} {f : Nat → Int32} {i : Int32} {k : Int32 → Option β} {r : β} (h : al_ n f i k = some r) : vp_in i n ∧ ∀ v, v = f i.toNatClampNeg → k v = some r := by
  unfold al_ at h
  by_cases q : inb i n = true
  · rw [if_pos q] at h
    exact ⟨inb_in q, fun v e => by rw [e]; exact h⟩
  · rw [if_neg q] at h
    cases h
/-- a store into bank k of n places -/
def as_ {β : Type} (n k : Nat) (I : St) (i x : Int32) (g : St → Option β) : Option β := if inb i n = true then g (upd2 I k i.toNatClampNeg x) else none
theorem as_e {β : Type} {n k : Nat} {I : St} {i x : Int32} {g : St → Option β} {r : β} (h : as_ n k I i x g = some r) : vp_in i n ∧ ∀ J, J = upd2 I k i.toNatClampNeg x → g J = some r := by
  unfold as_ at h
  by_cases q : inb i n = true
  · rw [if_pos q] at h
    exact ⟨inb_in q, fun v e => by rw [e]; exact h⟩
  · rw [if_neg q] at h
    cases h
def bd_ {α β : Type} (o : Option α) (f : α → Option β) : Option β := match o with
  | some a => f a
  | none => none
theorem bd_e {α β : Type} {o : Option α} {f : α → Option β} {r : β} (h : bd_ o f = some r) : ∃ a, o = some a ∧ f a = some r := by
  cases o with
  | none => cases h
  | some a => exact ⟨a, rfl, h⟩
def bd2_ {α γ β : Type} (o : Option (α × γ)) (f : α → γ → Option β) : Option β := match o with
  | some a => f a.1 a.2
  | none => none
theorem bd2_e {α γ β : Type} {o : Option (α × γ)} {f : α → γ → Option β} {r : β} (h : bd2_ o f = some r) : ∃ a b, o = some (a, b) ∧ f a b = some r := by
  cases o with
  | none => cases h
  | some a => exact ⟨a.1, a.2, rfl, h⟩
theorem ip_ {α : Sort _} {c : Prop} {i : Decidable c} {a b r : α} (hc : c) (h : @ite α c i a b = r) : a = r := by rw [if_pos hc] at h; exact h
theorem in_ {α : Sort _} {c : Prop} {i : Decidable c} {a b r : α} (hc : ¬ c) (h : @ite α c i a b = r) : b = r := by rw [if_neg hc] at h; exact h
theorem no_ {α : Type} {r : α} {P : Prop} (h : (none : Option α) = some r) : P := by cases h
theorem so_ {α : Type} {x r : α} (h : (some x : Option α) = some r) : x = r := Option.some.inj h
/-- loops: by a number of rounds -/
def lp {T : Type} (dead : T) (b : T → T) : Nat → T
  | 0 => dead
  | n + 1 => b (lp dead b n)
def FU : Nat := 3000
def zb (v : Int32) : Bool := decide (v = 0 ∨ v = 1)
theorem zb_n {v : Int32} (h : zb v = true) : narrow .boolean (.int v) = .int v := by
  rcases of_decide_eq_true h with rfl | rfl <;> rfl
theorem zb_f {v : Int32} (h : zb v = true) : fits .boolean (.int v) = true := by
  rcases of_decide_eq_true h with rfl | rfl <;> rfl
/-- ends -/
def Qro (v : Option Value) : Array Value → State → Outcome → State → Prop := fun _ st o t => o = .returned v ∧ t.heap = st.heap
def Qwr (v : Option Value) (B : State → Prop) (A : Nat → Prop) : Array Value → State → Outcome → State → Prop := fun _ st o t => o = .returned v ∧ B t ∧ va_F A st t
/-- what a walk stands on -/
def SCx (p : Program) (s : State) (m : MethodId) (args : Array Value) (meth : Method) (c : Code) (cc : ByteArray) (nL : Nat) (ret : Option FieldType) (own : String) : Prop :=
  p.tables.exec = Jvm.exec ∧ c.code = cc ∧ meth.sig.returnType = ret ∧ meth.locks = false ∧ c.maxLocals = nL ∧ s.vm.findClass own = some m.cls ∧ ∀ w ∈ lw_all, w.before args s = true
theorem SCx.fix {p : Program} {s : State} {m : MethodId} {args : Array Value} {meth : Method} {c : Code} {cc : ByteArray} {nL : Nat} {ret : Option FieldType} {own : String} (C : SCx p s m args meth c cc nL ret own) : CallFix p m c cc nL s args lw_all own := ⟨C.1, C.2.1, C.2.2.2.2.1, C.2.2.2.2.2.1, C.2.2.2.2.2.2⟩
section CR
variable {p : Program} {l : Launch} {e : Env} {R : Room} {s : State} {m : MethodId} {args : Array Value} {below : List Frame} {meth : Method} {c : Code} {H : Heap} {locs : List Loc} {cells slots : Nat} {Q : State → Prop}
variable {pc : Nat} {ls : Array Slot} {rest st0 : List Value} {a : Array Value} {A0 A1 : Nat → Prop} {H0 : Heap} {mc ms : Nat} {free : Addr → Prop}
theorem c_ro {v : Option Value} (hr : va_Run p l e R s m args below meth c H locs cells slots 0 0 (F0 m pc ls st0) rest (Qro v a) (fun _ => False))
    (kk : W p l e R s m args below meth c H locs cells slots Q (F0 m (pc + 3) ls (v.toList ++ rest))) : W p l e R s m args below meth c H locs cells slots Q (F0 m pc ls st0) := by
  intro T hT X
  obtain ⟨v', st₀, t, T', L, h0, X', hL, e1, e2, ⟨hv, hh⟩, st⟩ := hr T hT X
  cases hv
  obtain ⟨t2, a1, b1⟩ := kk T' (by rw [e1, hh, h0]) (Stand.forget X' (fun q h => (hL q h).elim))
  exact ⟨t2, st t2 a1, b1⟩
theorem c_wr {v : Option Value} {B : State → Prop} (hr : va_Run p l e R s m args below meth c H locs cells slots mc ms (F0 m pc ls st0) rest (Qwr v B A1 a) free) (hS : va_S A0 H0 H locs) (hA : ∀ q, q < H.size → A1 q → A0 q) (hf : ∀ q, free q → A0 q)
    (kk : ∀ (t : State) (H1 : Heap) (locs1 : List Loc), t.heap = H1 → s.vm.Alike t.vm → B t → H.size ≤ H1.size → (∀ q : Nat, q < H.size → ¬ A1 q → H1[q]? = H[q]?) → va_S A0 H0 H1 locs1 → W p l e R s m args below meth c H1 locs1 (cells + mc) (slots + ms) Q (F0 m (pc + 3) ls (v.toList ++ rest))) : W p l e R s m args below meth c H locs cells slots Q (F0 m pc ls st0) := by
  intro T hT X
  obtain ⟨v', st₀, t, T', L, h0, X', hL, e1, e2, ⟨hv, hb, hz, hk⟩, st⟩ := hr T hT X
  cases hv
  rw [h0] at hz hk
  obtain ⟨t2, a1, b1⟩ := kk t T'.heap (locs ++ L) e1.symm (by rw [← e2]; exact X'.warmed.alike) hb (by rw [e1]; exact hz) (fun q h1 h2 => by rw [e1]; exact hk q h1 h2)
    ⟨Nat.le_trans hS.1 (by rw [e1]; exact hz), fun q h1 h2 => by rw [e1, hk q (Nat.lt_of_lt_of_le h1 hS.1) (fun z => h2 (hA q (Nat.lt_of_lt_of_le h1 hS.1) z))]; exact hS.2.1 q h1 h2, fun q hq => by
      rcases List.mem_append.mp hq with h | h
      · exact hS.2.2 q h
      · exact hf _ (hL q h)⟩ T' rfl X'
  exact ⟨t2, st t2 a1, b1⟩
end CR
section CS
variable {p : Program} {l : Launch} {e : Env} {R : Room} {s : State} {m : MethodId} {args : Array Value} {below : List Frame} {meth : Method} {c : Code} {H : Heap} {locs : List Loc} {cells slots : Nat} {Q : State → Prop}
variable {pc : Nat} {ls : Array Slot} {rest st0 As : List Value} {cc bytes : ByteArray} {nL maxL index n : Nat} {ret ret' : Option FieldType} {own : String} {y : MethodName} {rm : Room}
/-- a call of a static method that reads nothing -/
theorem s_ro {v : Option Value} (C : SCx p s m args meth c cc nL ret own) (hM : Met l y (ws_ y bytes maxL ret') rm (va_Pc As (fun _ => True)) (Qro v) 0 0 (fun _ => False)) (hq : GoodIn lw_all (va_wsS own index y (ws_ y bytes maxL ret')))
    (hd : y.cls ≠ "java/lang/invoke/MethodHandle" ∧ y.cls ≠ "java/lang/invoke/VarHandle" ∧ (parseMethodDescriptor y.desc).map (fun d => d.parameters.length) = some n)
    (hrm : rm.cells = 0 ∧ rm.slots = 0) (hR : rm.frames + 1 ≤ R.frames ∧ 8 + (maxL + 11) + rm.locals ≤ R.locals) (hc : cells ≤ R.cells ∧ slots ≤ R.slots) (hn : As.length = n) (hs : ls.size = nL) (hst : st0 = As.reverse ++ rest) (hw : (rest.map fun v => v.category).sum ≤ 8) (hdg : decode cc pc = .ok (.invokestatic index, 3))
    (kk : W p l e R s m args below meth c H locs cells slots Q (F0 m (pc + 3) ls (v.toList ++ rest))) : W p l e R s m args below meth c H locs cells slots Q (F0 m pc ls st0) :=
  c_ro (va_runS (As := As) (rest := rest) C.fix hM (va_cwS n C.2.2.2.2.2.2 hq rfl hrm.1 hrm.2 hd hR) ⟨fun _ _ _ _ h => h, fun _ _ _ => ⟨rfl, trivial⟩⟩ rfl hn hs hst (lv_room hw) hdg hc) kk
theorem s_roI {v : Int32} (C : SCx p s m args meth c cc nL ret own) (hM : Met l y (ws_ y bytes maxL ret') rm (va_Pc As (fun _ => True)) (Qro (some (.int v))) 0 0 (fun _ => False)) (hq : GoodIn lw_all (va_wsS own index y (ws_ y bytes maxL ret')))
    (hd : y.cls ≠ "java/lang/invoke/MethodHandle" ∧ y.cls ≠ "java/lang/invoke/VarHandle" ∧ (parseMethodDescriptor y.desc).map (fun d => d.parameters.length) = some n)
    (hrm : rm.cells = 0 ∧ rm.slots = 0) (hR : rm.frames + 1 ≤ R.frames ∧ 8 + (maxL + 11) + rm.locals ≤ R.locals) (hc : cells ≤ R.cells ∧ slots ≤ R.slots) (hn : As.length = n) (hs : ls.size = nL) (hst : st0 = As.reverse ++ rest) (hw : (rest.map fun v => v.category).sum ≤ 8) (hdg : decode cc pc = .ok (.invokestatic index, 3))
    (kk : W p l e R s m args below meth c H locs cells slots Q (F0 m (pc + 3) ls (.int v :: rest))) : W p l e R s m args below meth c H locs cells slots Q (F0 m pc ls st0) :=
  s_ro C hM hq hd hrm hR hc hn hs hst hw hdg kk
theorem s_roJ {v : Int64} (C : SCx p s m args meth c cc nL ret own) (hM : Met l y (ws_ y bytes maxL ret') rm (va_Pc As (fun _ => True)) (Qro (some (.long v))) 0 0 (fun _ => False)) (hq : GoodIn lw_all (va_wsS own index y (ws_ y bytes maxL ret')))
    (hd : y.cls ≠ "java/lang/invoke/MethodHandle" ∧ y.cls ≠ "java/lang/invoke/VarHandle" ∧ (parseMethodDescriptor y.desc).map (fun d => d.parameters.length) = some n)
    (hrm : rm.cells = 0 ∧ rm.slots = 0) (hR : rm.frames + 1 ≤ R.frames ∧ 8 + (maxL + 11) + rm.locals ≤ R.locals) (hc : cells ≤ R.cells ∧ slots ≤ R.slots) (hn : As.length = n) (hs : ls.size = nL) (hst : st0 = As.reverse ++ rest) (hw : (rest.map fun v => v.category).sum ≤ 8) (hdg : decode cc pc = .ok (.invokestatic index, 3))
    (kk : W p l e R s m args below meth c H locs cells slots Q (F0 m (pc + 3) ls (.long v :: rest))) : W p l e R s m args below meth c H locs cells slots Q (F0 m pc ls st0) :=
  s_ro C hM hq hd hrm hR hc hn hs hst hw hdg kk
end CS
