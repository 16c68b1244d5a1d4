/-! multianewarray of int[8][256] -/
set_option maxRecDepth 100000
def mtO (cO : ClassId) (b i : Nat) : Cell := { cls := cO, slots := (Array.range 8).map (fun j => if j < i then Value.ref (b + 1 + j) else .null), vm := .none }
def mtI (cI : ClassId) : Cell := { cls := cI, slots := Array.replicate 256 (.int 0), vm := .none }
def mtS (T : State) (cO cI : ClassId) : Nat → State
  | 0 => T.pushCell (mtO cO T.heap.size 0)
  | i + 1 => ((mtS T cO cI i).pushCell (mtI cI)).setCell T.heap.size (mtO cO T.heap.size (i + 1))
theorem mtO_size (cO : ClassId) (b i : Nat) : (mtO cO b i).slots.size = 8 := by simp [mtO]
theorem mtO_set (cO : ClassId) (b i : Nat) (hi : i < 8) : (mtO cO b i).setSlot i (.ref (b + 1 + i)) = mtO cO b (i + 1) := by
  unfold mtO Cell.setSlot
  congr 1
  apply Array.ext_getElem?
  intro k
  by_cases hk : k < 8
  · by_cases e : i = k
    · subst e
      simp [Array.getElem?_setIfInBounds, hk]
    · by_cases h1 : k < i
      · simp [Array.getElem?_setIfInBounds, hk, e, h1, show k < i + 1 by omega]
      · simp [Array.getElem?_setIfInBounds, hk, e, h1, show ¬ k < i + 1 by omega]
  · by_cases e : i = k
    · omega
    · simp [Array.getElem?_setIfInBounds, hk, e]
theorem mtS_f (T : State) (cO cI : ClassId) : ∀ i, (mtS T cO cI i).heap.size = T.heap.size + 1 + i ∧ (mtS T cO cI i).heap[T.heap.size]? = some (mtO cO T.heap.size i) ∧ (mtS T cO cI i).vm = T.vm ∧ (mtS T cO cI i).slotsUsed = T.slotsUsed + 8 + i * 256 ∧ (∀ a, a < T.heap.size → (mtS T cO cI i).heap[a]? = T.heap[a]?) ∧ ∀ j, j < i → (mtS T cO cI i).heap[T.heap.size + 1 + j]? = some (mtI cI)
  | 0 => ⟨by simp [mtS], by simp [mtS], rfl, by simp [mtS, mtO_size], fun a h => State.heap_pushCell_of_lt _ _ h, fun j h => absurd h (Nat.not_lt_zero _)⟩
  | i + 1 => by
    obtain ⟨f1, f2, f3, f4, f5, f6⟩ := mtS_f T cO cI i
    have hlt : T.heap.size < (mtS T cO cI i).heap.size := by omega
    have hb : ((mtS T cO cI i).pushCell (mtI cI)).heap[T.heap.size]? = some (mtO cO T.heap.size i) := by rw [State.heap_pushCell_of_lt (h := hlt)]; exact f2
    refine ⟨?_, State.heap_setCell_self hb, by simp [mtS, f3], ?_, fun a h => ?_, fun j h => ?_⟩
    · simp [mtS, State.setCell, f1]; omega
    · simp [mtS, f4, mtI]; omega
    · show (((mtS T cO cI i).pushCell (mtI cI)).setCell T.heap.size _).heap[a]? = _
      have hl2 : a < (mtS T cO cI i).heap.size := by omega
      rw [State.heap_setCell_other (Nat.ne_of_gt h), State.heap_pushCell_of_lt (h := hl2)]
      exact f5 a h
    · show (((mtS T cO cI i).pushCell (mtI cI)).setCell T.heap.size _).heap[T.heap.size + 1 + j]? = _
      rw [State.heap_setCell_other (show T.heap.size ≠ T.heap.size + 1 + j by omega)]
      by_cases hj : j < i
      · have hl2 : T.heap.size + 1 + j < (mtS T cO cI i).heap.size := by omega
        rw [State.heap_pushCell_of_lt (h := hl2)]
        exact f6 j hj
      · have e : j = i := by omega
        subst e
        rw [← f1]
        exact State.heap_pushCell_size _ _
theorem mtS_top (T : State) (f : JFrame) (cO cI : ClassId) : ∀ i, mtS (T.setTop f) cO cI i = (mtS T cO cI i).setTop f
  | 0 => rfl
  | i + 1 => by simp only [mtS, mtS_top T f cO cI i, State.heap_setTop, State.pushCell_setTop, State.setCell_setTop]
section MT
variable {E : CtlPost} {e : Env} {d : Bool} {acts : List Action} {s : State}
theorem mt_new {c comp : ClassId} {k : Class} {ty : FieldType} {len : Nat} {init : Value} (hk : s.vm.classes[c]? = some k) (hkind : k.kind = .array comp ty) (h0 : ¬ len > e.platform.arrayLengthLimit) (h3 : ¬ len * componentBytes ty > e.platform.maxHeapBytes) (hfit : fits ty init = true) (hdef : init.isDefault = true) {Q : Addr → Pre} (h1 : s.heap.size < e.platform.maxCells) (h2 : s.slotsUsed + len ≤ e.platform.maxSlots)
    (hq : Q s.heap.size d acts (s.pushCell { cls := c, slots := Array.replicate len init, vm := .none })) : wp (Jvm.newArray c len init) Q E e d acts s := by
  have hf : ∀ i v, (Array.replicate len init)[i]? = some v → s.fitsSlot c .none i v = true := fun i v hv => by
    rw [Array.getElem?_replicate] at hv
    by_cases z : i < len
    · rw [if_pos z] at hv
      cases hv
      simp [State.fitsSlot, State.slotType?, hk, hkind, hfit]
    · rw [if_neg z] at hv; cases hv
  have ha : allocActs (Array.replicate len init) s.heap.size acts = acts := by
    unfold allocActs
    rw [if_pos (by rw [Array.all_replicate]; by_cases z : len = 0 <;> simp [z, hdef])]
  simp only [Jvm.newArray, Jvm.arrayFits, wp_bind', W.ask, W.ite, h0, if_false, wp_pure', W.theClass, hk, hkind, h3, W.alloc, W.stop, Option.some.injEq, exists_eq_left', Array.size_replicate, ha]
  rw [if_neg (by omega)]
  exact ⟨h1, h2, hf, hq⟩
theorem mt_make {cO cI cc : ClassId} {k kc : Class} (hk : s.vm.classes[cO]? = some k) (hkind : k.kind = .array cI (.array .int)) (hkc : s.vm.classes[cI]? = some kc) (hkindc : kc.kind = .array cc .int) (hl : 1000 ≤ e.platform.arrayLengthLimit) (hh : 10000 ≤ e.platform.maxHeapBytes) (hc : s.heap.size + 9 ≤ e.platform.maxCells) (hs : s.slotsUsed + 2056 ≤ e.platform.maxSlots)
    {Q : Addr → Pre} (hq : ∀ d' acts', Q s.heap.size d' acts' (mtS s cO cI 8)) : wp (Op.multianewarray.make cO [8, 256]) Q E e d acts s := by
  have e8 : (8 : Int32).toNatClampNeg = 8 := by decide
  have e256 : (256 : Int32).toNatClampNeg = 256 := by decide
  rw [Op.multianewarray.make]
  simp only [wp_bind', W.ite, show ¬ (8 : Int32) < 0 by decide, if_false, wp_pure', W.theClass, hk, hkind, Option.some.injEq, exists_eq_left', e8]
  refine mt_new hk hkind (by omega) (by show ¬ 8 * 4 > _; omega) rfl rfl (by omega) (by omega) ?_
  simp only [show ([256] : List Int32).find? (· < 0) = none by decide]
  rw [ite_self, wp_bind', Std.Legacy.Range.forIn_eq_forIn_range']
  have e0 : s.pushCell { cls := cO, slots := Array.replicate 8 Value.null, vm := .none } = mtS s cO cI 0 := by
    have eO : ({ cls := cO, slots := Array.replicate 8 Value.null, vm := .none } : Cell) = mtO cO s.heap.size 0 := by
      unfold mtO
      congr 1
      apply Array.ext_getElem?
      intro k
      by_cases hk : k < 8 <;> simp [hk]
    rw [eO]
    rfl
  rw [e0]
  refine wp_forIn_inv (fun rest s' => ∃ i, i ≤ 8 ∧ rest = List.range' i (8 - i) ∧ s' = mtS s cO cI i) _ _ ⟨0, by omega, rfl, rfl⟩ ?_ ?_
  · rintro x rest s' d' acts' Q' ⟨i, hi, hlst, rfl⟩ hnext
    have hlt : i < 8 := by
      by_cases z : i < 8
      · exact z
      · rw [show 8 - i = 0 by omega] at hlst; cases hlst
    rw [show 8 - i = (8 - (i + 1)) + 1 by omega, List.range'_succ] at hlst
    obtain ⟨rfl, hrest⟩ := List.cons.inj hlst
    obtain ⟨f1, f2, f3, f4, -, -⟩ := mtS_f s cO cI x
    simp only [wp_bind']
    rw [Op.multianewarray.make]
    simp only [wp_bind', W.ite, show ¬ (256 : Int32) < 0 by decide, if_false, wp_pure', W.theClass, f3, hkc, hkindc, Option.some.injEq, exists_eq_left', e256]
    refine mt_new (s := mtS s cO cI x) (by rw [f3]; exact hkc) hkindc (by omega) (by show ¬ 256 * 4 > _; omega) rfl rfl (by omega) (by omega) ?_
    simp only [wp_bind', W.writeLoc, wp_pure']
    have hl2 : s.heap.size < (mtS s cO cI x).heap.size := by omega
    refine ⟨mtO cO s.heap.size x, by rw [State.heap_pushCell_of_lt (h := hl2)]; exact f2, by simp [mtO], by rw [mtO_size]; exact hlt, ?_, hnext _ _ _ ⟨x + 1, hlt, hrest, ?_⟩⟩
    · simp [mtO, State.fitsSlot, State.slotType?, f3, hk, hkind, fits]
    · rw [f1, mtO_set _ _ _ hlt]
      rfl
  · rintro s' d' acts' ⟨i, hi, hlst, rfl⟩
    have : i = 8 := by
      by_cases z : i < 8
      · rw [show 8 - i = (8 - (i + 1)) + 1 by omega, List.range'_succ] at hlst; cases hlst
      · omega
    subst this
    simp only [wp_pure']
    exact hq _ _
end MT
/-- the class of int[][] and its component's -/
theorem ao_ii {args : Array Value} {s : State} (h : (Cond.arrayOver (.array .int)).before args s = true) : ∃ (comp c : ClassId) (k : Class), s.vm.findClass "[I" = some comp ∧ s.vm.classes[c]? = some k ∧ k.kind = .array comp (.array .int) ∧ s.vm.findClass "[[I" = some c := by
  have e1 : (FieldType.array .int).toString = "[I" := by decide +kernel
  have e2 : "[" ++ (FieldType.array .int).toString = "[[I" := by decide +kernel
  simp only [Cond.before, Cond.holds, Cond.value, beq_iff_eq, e1] at h
  cases hc : s.vm.findClass "[I" with
  | none => simp [hc] at h
  | some comp =>
    simp only [hc, Option.bind_some, Option.bind_eq_some_iff, Option.map_eq_some_iff] at h
    obtain ⟨c, hi, k, hk, hb⟩ := h
    obtain ⟨hlt, hp, -⟩ := Array.findIdx?_eq_some_iff_getElem.mp hi
    have hkk : s.vm.classes[c] = k := (Array.getElem?_eq_some_iff.mp hk).2
    rw [hkk] at hp
    cases hkind : k.kind with
    | array component ty =>
      rw [hkind] at hb hp
      simp at hb hp
      refine ⟨comp, c, k, rfl, hk, by rw [hkind, hp, hb.1], ?_⟩
      rw [← e2, e1]
      exact hb.2
    | _ => rw [hkind] at hb; simp at hb
section MW
variable {p : Program} {l : Launch} {e : Env} {R : Room} {s : State} {m : MethodId} {args : Array Value} {below : List Frame} {meth : Method} {c : Code} {H : Heap} {locs : List Loc} {cells slots : Nat} {Q : State → Prop}
variable {pc : Nat} {ls : Array Slot} {rest : List Value} {cc : ByteArray}
theorem mt_stand {T : State} (X : Stand p l e R s m args below meth c T locs cells slots) (cO cI : ClassId) : ∀ i, i ≤ 8 → Stand p l e R s m args below meth c (mtS T cO cI i) (locs ++ (List.range i).map (fun j => (⟨T.heap.size, j⟩ : Loc))) (cells + 1 + i) (slots + 8 + i * 256)
  | 0, _ => by
    have h := X.pushed (mtO cO T.heap.size 0)
    rw [mtO_size] at h
    simpa [mtS] using h
  | i + 1, hi => by
    have Xi := mt_stand X cO cI i (by omega)
    obtain ⟨f1, f2, -, -, -, -⟩ := mtS_f T cO cI i
    have hl2 : T.heap.size < (mtS T cO cI i).heap.size := by omega
    have hcell : ((mtS T cO cI i).pushCell (mtI cI)).heap[T.heap.size]? = some (mtO cO T.heap.size i) := by rw [State.heap_pushCell_of_lt (h := hl2)]; exact f2
    have h := (Xi.pushed (mtI cI)).stored hcell i (.ref (T.heap.size + 1 + i))
    rw [mtO_set _ _ _ (by omega)] at h
    have e1 : (mtI cI).slots.size = 256 := by simp [mtI]
    rw [e1] at h
    have e2 : (locs ++ (List.range (i + 1)).map fun j => (⟨T.heap.size, j⟩ : Loc)) = (locs ++ (List.range i).map fun j => (⟨T.heap.size, j⟩ : Loc)) ++ [⟨T.heap.size, i⟩] := by simp [List.range_succ, List.append_assoc]
    rw [e2, show slots + 8 + (i + 1) * 256 = slots + 8 + i * 256 + 256 by omega]
    exact h
theorem mt_row {own : String} {index : Nat} (hexec : p.tables.exec = Jvm.exec) (hb : c.code = cc) (hown : s.vm.findClass own = some m.cls) (hlk : (Cond.classLink own index "[[I").before args s = true) (hov : (Cond.arrayOver (.array .int)).before args s = true) (harr : (Cond.arrayClass .int).before args s = true) (hcl : cells + 9 ≤ R.cells) (hsl : slots + 2056 ≤ R.slots) (hdg : decode cc pc = .ok (.multianewarray index 2, 4))
    (kk : ∀ (cO cI : ClassId) (H1 : Heap), s.vm.findClass "[[I" = some cO → s.vm.findClass "[I" = some cI → H1.size = H.size + 9 → (∀ a, a < H.size → H1[a]? = H[a]?) → H1[H.size]? = some (mtO cO H.size 8) → (∀ j, j < 8 → H1[H.size + 1 + j]? = some (mtI cI)) →
      W p l e R s m args below meth c H1 (locs ++ (List.range 8).map (fun j => (⟨H.size, j⟩ : Loc))) (cells + 9) (slots + 2056) Q (F0 m (pc + 4) ls (.ref H.size :: rest))) : W p l e R s m args below meth c H locs cells slots Q (F0 m pc ls (.int 256 :: .int 8 :: rest)) := by
  intro T hT X
  have hpl : e.platform.magicAccessors = ({} : Platform).magicAccessors := by rw [X.admits.platform]
  obtain ⟨cI, cO, kO, hcI, hkO, hkindO, hcO⟩ := ao_ii hov
  obtain ⟨cI', kI, ci2, hcI', hkI, hkindI⟩ := Cond.arrayClass_spec harr
  have e0 : cI' = cI := Option.some.inj ((show s.vm.findClass "[I" = some cI' from hcI').symm.trans hcI)
  subst e0
  obtain ⟨c0, hfc0, hcl0⟩ := Cond.classLink_spec hown hlk e.platform hpl
  cases hcO.symm.trans hfc0
  obtain ⟨hg₁, hwarm₁, hready₁⟩ := State.classEntry (e := e) X.warmed hcl0
  generalize T.vm.noted m.cls index (.cls cO) = vm₁ at hg₁ hwarm₁ hready₁
  obtain ⟨kO₁, hkO₁, heO⟩ := hwarm₁.alike.2.2 _ _ hkO
  obtain ⟨kI₁, hkI₁, heI⟩ := hwarm₁.alike.2.2 _ _ hkI
  have X₁ := X.noted hwarm₁
  obtain ⟨hr1, hr2⟩ := X.roomAbove hcl hsl
  have XF := mt_stand X₁ cO cI' 8 (by omega)
  obtain ⟨f1, f2, f3, f4, f5, f6⟩ := mtS_f (T.setVm vm₁) cO cI' 8
  have hh : (T.setVm vm₁).heap = H := hT
  rw [hh] at f1 f2 f5 f6
  obtain ⟨t, a1, b1⟩ := kk cO cI' (mtS (T.setVm vm₁) cO cI' 8).heap hcO hcI (by omega) f5 f2 f6 (mtS (T.setVm vm₁) cO cI' 8) rfl (by rw [← hh]; exact XF)
  refine ⟨t, ?_, b1⟩
  have hl1 : 1000 ≤ e.platform.arrayLengthLimit := by rw [Launch.admits_arrayLengthLimit X.admits]; omega
  have hh1 : 10000 ≤ e.platform.maxHeapBytes := by rw [Launch.admits_maxHeapBytes X.admits]; omega
  subst hb
  jvm_step X.here [hexec, hdg]
  simp only [Op.multianewarray.sem, wp_bind', W.resolveClassAt_links (State.method?_setTop (F0 m pc ls (.int 256 :: .int 8 :: rest)) X.here.top) hg₁]
  rw [W.popN, if_neg (by decide)]
  refine ⟨F0 m pc ls (.int 256 :: .int 8 :: rest), State.topJava?_setTop' (s := T.setVm vm₁) _ X.here.top, [.int 8, .int 256], rest, rfl, rfl, ?_⟩
  simp only [List.mapM_cons, List.mapM_nil, wp_bind', wp_pure']
  refine mt_make (k := kO₁) (kc := kI₁) (cI := cI') (cc := ci2) hkO₁ (by rw [heO]; exact hkindO) hkI₁ (by rw [heI]; exact hkindI) hl1 hh1 (by show T.heap.size + 9 ≤ _; omega) (by show T.slotsUsed + 2056 ≤ _; omega) (fun d' acts' => ?_)
  have eS : ((T.setTop (F0 m pc ls (.int 256 :: .int 8 :: rest))).setVm vm₁).setTop (F0 m pc ls rest) = (T.setVm vm₁).setTop (F0 m pc ls rest) := by
    show ((T.setVm vm₁).setTop _).setTop _ = _
    rw [State.setTop_setTop]
  show wp _ _ _ _ _ _ (mtS (((T.setTop (F0 m pc ls (.int 256 :: .int 8 :: rest))).setVm vm₁).setTop (F0 m pc ls rest)) cO cI' 8)
  rw [eS, mtS_top]
  simp only [wp_bind', W.mark, W.pushRef, State.topJava?_setTop' _ XF.here.top, Option.some.injEq, exists_eq_left', State.setTop_setTop, State.heap_setTop]
  intro acts
  simp [jvm, XF.here.top]
  rw [← hT] at a1
  exact a1
end MW
