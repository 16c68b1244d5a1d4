set_option maxRecDepth 100000
/-! SecondChancesModel.in(III)Z -/
def mo_in_rm : Room := { frames := 0, cells := 0, slots := 0, locals := 0 }
def mo_in_P0 (p : Program) (l : Launch) (e : Env) (s : State) (m : MethodId) (args : Array Value) (below : List Frame) (meth : Method) (c : Code) (r : Int32) (f : Int32 → Int32 → Int32 → Option Int32) : Prop := ∀ (x0 : Int32) (x1 : Int32) (x2 : Int32) (ls : Array Slot), lv_has ls 3 [(0, .int x0), (1, .int x1), (2, .int x2)] → f x0 x1 x2 = some r → W p l e mo_in_rm s m args below meth c s.heap [] 0 0 (MQ below (Qro (some (.int r))) args s 0 0 (fun _ => False)) (F0 m 0 ls [])
def mo_in (x0 : Int32) (x1 : Int32) (x2 : Int32) : Option Int32 :=
  if x0 < x1 then (some (0 : Int32))
  else (if x2 < x0 then (some (0 : Int32))
    else (some (1 : Int32)))
theorem mo_in_w0 {p : Program} {l : Launch} {e : Env} {s : State} {m : MethodId} {args : Array Value} {below : List Frame} {meth : Method} {c : Code} (C : SCx p s m args meth c cX6_in 3 (some .boolean) RX6) {r : Int32} : mo_in_P0 p l e s m args below meth c r (mo_in) := by
  intro x0 x1 x2 ls hl h
  obtain ⟨hx, hb, hr, hlocks, hml, hown, hts⟩ := id C
  unfold mo_in at h
  refine lv_iload_n hx hb dX6_in_0 rfl (lv_at hl 0 rfl) ?_
  refine lv_iload_n hx hb dX6_in_1 rfl (lv_at hl 1 rfl) ?_
  refine lv_icmp_lt (tgt := 14) hx hb dX6_in_2 (by decide) (fun c1 => ?_) (fun c1 => ?_)
  · have h := ip_ c1 h
    refine lv_iconst (v := 0) hx hb dX6_in_14 (by decide) ?_
    have h := so_ h
    subst h
    exact W.zret hx hb hr rfl (fun t ht hW => ⟨rfl, ht⟩) (fun q hq => by cases hq) dX6_in_15
  · have h := in_ c1 h
    refine lv_iload_n hx hb dX6_in_5 rfl (lv_at hl 0 rfl) ?_
    refine lv_iload_n hx hb dX6_in_6 rfl (lv_at hl 2 rfl) ?_
    refine lv_icmp_gt (tgt := 14) hx hb dX6_in_7 (by decide) (fun c2 => ?_) (fun c2 => ?_)
    · have h := ip_ c2 h
      refine lv_iconst (v := 0) hx hb dX6_in_14 (by decide) ?_
      have h := so_ h
      subst h
      exact W.zret hx hb hr rfl (fun t ht hW => ⟨rfl, ht⟩) (fun q hq => by cases hq) dX6_in_15
    · have h := in_ c2 h
      refine lv_iconst (v := 1) hx hb dX6_in_10 (by decide) ?_
      refine lv_goto (tgt := 15) hx hb dX6_in_11 (by decide) ?_
      have h := so_ h
      subst h
      exact W.zret hx hb hr rfl (fun t ht hW => ⟨rfl, ht⟩) (fun q hq => by cases hq) dX6_in_15
theorem mo_in_hd : yX6_in.cls ≠ "java/lang/invoke/MethodHandle" ∧ yX6_in.cls ≠ "java/lang/invoke/VarHandle" ∧ (parseMethodDescriptor yX6_in.desc).map (fun d => d.parameters.length) = some 3 := by decide +kernel
theorem mo_in_met (l : Launch) (x0 : Int32) (x1 : Int32) (x2 : Int32) (r : Int32) (h : mo_in x0 x1 x2 = some r) : Met l yX6_in (ws_ yX6_in cX6_in 3 (some .boolean)) mo_in_rm (va_Pc [.int x0, .int x1, .int x2] (fun _ => True)) (Qro (some (.int r))) 0 0 (fun _ => False) := by
  refine Met.ofW (cc := cX6_in) (maxL := 3) (ret := some .boolean) (by decide) rfl ?_
  intro p e s m args below meth c s₁ B hml hv
  obtain ⟨rfl, hv⟩ := hv
  have hts := atoms_spec (ws := ws_ yX6_in cX6_in 3 (some .boolean)) B.pre
  have hts : ∀ w ∈ lw_all, w.before _ s = true := fun w h => hts w (List.mem_cons_of_mem _ h)
  have C : SCx p s m _ meth c cX6_in 3 (some .boolean) RX6 := ⟨B.exec, B.bytes, B.returns, B.notSynchronized, hml, findClass_of_methodNamed B.named, hts⟩
  have hl := lv_entry [.int x0, .int x1, .int x2] (n := 3) (Nat.le_of_ble_eq_true rfl)
  rw [lg_entry_eq]
  generalize (lg_sl [.int x0, .int x1, .int x2] ++ List.replicate (3 - (lg_sl [.int x0, .int x1, .int x2]).length) Slot.unset).toArray = ls at hl ⊢
  exact mo_in_w0 C x0 x1 x2 ls hl h

/-! SecondChancesModel.isIn(II)Z -/
def mo_isIn_rm : Room := { frames := 0, cells := 0, slots := 0, locals := 0 }
def mo_isIn_P0 (p : Program) (l : Launch) (e : Env) (s : State) (m : MethodId) (args : Array Value) (below : List Frame) (meth : Method) (c : Code) (r : Int32) (f : Int32 → Int32 → Option Int32) : Prop := ∀ (x0 : Int32) (x1 : Int32) (ls : Array Slot), lv_has ls 2 [(0, .int x0), (1, .int x1)] → f x0 x1 = some r → W p l e mo_isIn_rm s m args below meth c s.heap [] 0 0 (MQ below (Qro (some (.int r))) args s 0 0 (fun _ => False)) (F0 m 0 ls [])
def mo_isIn (x0 : Int32) (x1 : Int32) : Option Int32 :=
  if ((x0 >>> (x1 &&& 31)) &&& (1 : Int32)) = (1 : Int32) then (some (1 : Int32))
  else (some (0 : Int32))
theorem mo_isIn_w0 {p : Program} {l : Launch} {e : Env} {s : State} {m : MethodId} {args : Array Value} {below : List Frame} {meth : Method} {c : Code} (C : SCx p s m args meth c cX6_isIn 2 (some .boolean) RX6) {r : Int32} : mo_isIn_P0 p l e s m args below meth c r (mo_isIn) := by
  intro x0 x1 ls hl h
  obtain ⟨hx, hb, hr, hlocks, hml, hown, hts⟩ := id C
  unfold mo_isIn at h
  refine lv_iload_n hx hb dX6_isIn_0 rfl (lv_at hl 0 rfl) ?_
  refine lv_iload_n hx hb dX6_isIn_1 rfl (lv_at hl 1 rfl) ?_
  refine lv_ishr hx hb dX6_isIn_2 ?_
  refine lv_iconst (v := 1) hx hb dX6_isIn_3 (by decide) ?_
  refine lv_iand hx hb dX6_isIn_4 ?_
  refine lv_iconst (v := 1) hx hb dX6_isIn_5 (by decide) ?_
  refine lv_icmp_ne (tgt := 13) hx hb dX6_isIn_6 (by decide) (fun c1 => ?_) (fun c1 => ?_)
  · have h := in_ c1 h
    refine lv_iconst (v := 0) hx hb dX6_isIn_13 (by decide) ?_
    have h := so_ h
    subst h
    exact W.zret hx hb hr rfl (fun t ht hW => ⟨rfl, ht⟩) (fun q hq => by cases hq) dX6_isIn_14
  · have h := ip_ c1 h
    refine lv_iconst (v := 1) hx hb dX6_isIn_9 (by decide) ?_
    refine lv_goto (tgt := 14) hx hb dX6_isIn_10 (by decide) ?_
    have h := so_ h
    subst h
    exact W.zret hx hb hr rfl (fun t ht hW => ⟨rfl, ht⟩) (fun q hq => by cases hq) dX6_isIn_14
theorem mo_isIn_hd : yX6_isIn.cls ≠ "java/lang/invoke/MethodHandle" ∧ yX6_isIn.cls ≠ "java/lang/invoke/VarHandle" ∧ (parseMethodDescriptor yX6_isIn.desc).map (fun d => d.parameters.length) = some 2 := by decide +kernel
theorem mo_isIn_met (l : Launch) (x0 : Int32) (x1 : Int32) (r : Int32) (h : mo_isIn x0 x1 = some r) : Met l yX6_isIn (ws_ yX6_isIn cX6_isIn 2 (some .boolean)) mo_isIn_rm (va_Pc [.int x0, .int x1] (fun _ => True)) (Qro (some (.int r))) 0 0 (fun _ => False) := by
  refine Met.ofW (cc := cX6_isIn) (maxL := 2) (ret := some .boolean) (by decide) rfl ?_
  intro p e s m args below meth c s₁ B hml hv
  obtain ⟨rfl, hv⟩ := hv
  have hts := atoms_spec (ws := ws_ yX6_isIn cX6_isIn 2 (some .boolean)) B.pre
  have hts : ∀ w ∈ lw_all, w.before _ s = true := fun w h => hts w (List.mem_cons_of_mem _ h)
  have C : SCx p s m _ meth c cX6_isIn 2 (some .boolean) RX6 := ⟨B.exec, B.bytes, B.returns, B.notSynchronized, hml, findClass_of_methodNamed B.named, hts⟩
  have hl := lv_entry [.int x0, .int x1] (n := 2) (Nat.le_of_ble_eq_true rfl)
  rw [lg_entry_eq]
  generalize (lg_sl [.int x0, .int x1] ++ List.replicate (2 - (lg_sl [.int x0, .int x1]).length) Slot.unset).toArray = ls at hl ⊢
  exact mo_isIn_w0 C x0 x1 ls hl h

/-! SecondChancesModel.ones(I)I -/
def mo_ones_rm : Room := { frames := 0, cells := 0, slots := 0, locals := 0 }
def mo_ones_P0 (p : Program) (l : Launch) (e : Env) (s : State) (m : MethodId) (args : Array Value) (below : List Frame) (meth : Method) (c : Code) (r : Int32) (f : Int32 → Option Int32) : Prop := ∀ (x0 : Int32) (ls : Array Slot), lv_has ls 3 [(0, .int x0)] → f x0 = some r → W p l e mo_ones_rm s m args below meth c s.heap [] 0 0 (MQ below (Qro (some (.int r))) args s 0 0 (fun _ => False)) (F0 m 0 ls [])
def mo_ones_P4 (p : Program) (l : Launch) (e : Env) (s : State) (m : MethodId) (args : Array Value) (below : List Frame) (meth : Method) (c : Code) (r : Int32) (f : Int32 → Int32 → Int32 → Option Int32) : Prop := ∀ (x0 : Int32) (x1 : Int32) (x2 : Int32) (ls : Array Slot), lv_has ls 3 [(0, .int x0), (1, .int x1), (2, .int x2)] → f x0 x1 x2 = some r → W p l e mo_ones_rm s m args below meth c s.heap [] 0 0 (MQ below (Qro (some (.int r))) args s 0 0 (fun _ => False)) (F0 m 4 ls [])
def mo_ones_b4 (k4 : Int32 → Int32 → Int32 → Option Int32) (x0 : Int32) (x1 : Int32) (x2 : Int32) : Option Int32 :=
  if (10 : Int32) ≤ x2 then (some x1)
  else (lt_ (x1 + ((x0 >>> (x2 &&& 31)) &&& (1 : Int32))) fun v2 =>
    k4 x0 v2 (x2 + 1))
theorem mo_ones_w4 {p : Program} {l : Launch} {e : Env} {s : State} {m : MethodId} {args : Array Value} {below : List Frame} {meth : Method} {c : Code} (C : SCx p s m args meth c cX6_ones 3 (some .int) RX6) {r : Int32} {k4 : Int32 → Int32 → Int32 → Option Int32} (hk4 : mo_ones_P4 p l e s m args below meth c r k4) : mo_ones_P4 p l e s m args below meth c r (mo_ones_b4 k4) := by
  intro x0 x1 x2 ls hl h
  obtain ⟨hx, hb, hr, hlocks, hml, hown, hts⟩ := id C
  unfold mo_ones_b4 at h
  refine lv_iload_n hx hb dX6_ones_4 rfl (lv_at hl 2 rfl) ?_
  refine lv_bipush (v := 10) hx hb dX6_ones_5 (by decide) ?_
  refine lv_icmp_ge (tgt := 24) hx hb dX6_ones_7 (by decide) (fun c1 => ?_) (fun c1 => ?_)
  · have h := ip_ c1 h
    refine lv_iload_n hx hb dX6_ones_24 rfl (lv_at hl 1 rfl) ?_
    have h := so_ h
    subst h
    exact W.iret hx hb hr (fun t ht hW => ⟨rfl, ht⟩) (fun q hq => by cases hq) dX6_ones_25
  · have h := in_ c1 h
    refine lv_iload_n hx hb dX6_ones_10 rfl (lv_at hl 1 rfl) ?_
    refine lv_iload_n hx hb dX6_ones_11 rfl (lv_at hl 0 rfl) ?_
    refine lv_iload_n hx hb dX6_ones_12 rfl (lv_at hl 2 rfl) ?_
    refine lv_ishr hx hb dX6_ones_13 ?_
    refine lv_iconst (v := 1) hx hb dX6_ones_14 (by decide) ?_
    refine lv_iand hx hb dX6_ones_15 ?_
    refine lv_iadd hx hb dX6_ones_16 ?_
    refine lv_topi (fun v2 e_v2 => ?_)
    have h := lt_i h e_v2
    refine lv_istore_n (lv' := [(1, .int v2), (0, .int x0), (2, .int x2)]) hx hb dX6_ones_17 rfl hl (by decide) rfl (fun ls hl => ?_)
    refine lv_iinc (v := (x2 + 1)) (lv' := [(2, .int (x2 + 1)), (1, .int v2), (0, .int x0)]) hx hb dX6_ones_18 hl (k := 2) rfl rfl (by decide) rfl (fun ls hl => ?_)
    refine lv_goto (tgt := 4) hx hb dX6_ones_21 (by decide) ?_
    exact hk4 x0 v2 (x2 + 1) ls (lv_sub hl [2, 1, 0] rfl) h
def mo_ones_l4 (n : Nat) : Int32 → Int32 → Int32 → Option Int32 := lp (fun _ _ _ => none) (mo_ones_b4) n
theorem mo_ones_lw4 {p : Program} {l : Launch} {e : Env} {s : State} {m : MethodId} {args : Array Value} {below : List Frame} {meth : Method} {c : Code} (C : SCx p s m args meth c cX6_ones 3 (some .int) RX6) {r : Int32} : ∀ n : Nat, mo_ones_P4 p l e s m args below meth c r (mo_ones_l4 n) := by
  intro n
  induction n with
  | zero => intro x0 x1 x2 ls hl h; exact no_ h
  | succ n ih => exact mo_ones_w4 C ih
def mo_ones (x0 : Int32) : Option Int32 :=
  mo_ones_l4 FU x0 (0 : Int32) (0 : Int32)
theorem mo_ones_w0 {p : Program} {l : Launch} {e : Env} {s : State} {m : MethodId} {args : Array Value} {below : List Frame} {meth : Method} {c : Code} (C : SCx p s m args meth c cX6_ones 3 (some .int) RX6) {r : Int32} : mo_ones_P0 p l e s m args below meth c r (mo_ones) := by
  intro x0 ls hl h
  obtain ⟨hx, hb, hr, hlocks, hml, hown, hts⟩ := id C
  unfold mo_ones at h
  refine lv_iconst (v := 0) hx hb dX6_ones_0 (by decide) ?_
  refine lv_istore_n (lv' := [(1, .int (0 : Int32)), (0, .int x0)]) hx hb dX6_ones_1 rfl hl (by decide) rfl (fun ls hl => ?_)
  refine lv_iconst (v := 0) hx hb dX6_ones_2 (by decide) ?_
  refine lv_istore_n (lv' := [(2, .int (0 : Int32)), (1, .int (0 : Int32)), (0, .int x0)]) hx hb dX6_ones_3 rfl hl (by decide) rfl (fun ls hl => ?_)
  exact mo_ones_lw4 C FU x0 (0 : Int32) (0 : Int32) ls (lv_sub hl [2, 1, 0] rfl) h
theorem mo_ones_hd : yX6_ones.cls ≠ "java/lang/invoke/MethodHandle" ∧ yX6_ones.cls ≠ "java/lang/invoke/VarHandle" ∧ (parseMethodDescriptor yX6_ones.desc).map (fun d => d.parameters.length) = some 1 := by decide +kernel
theorem mo_ones_met (l : Launch) (x0 : Int32) (r : Int32) (h : mo_ones x0 = some r) : Met l yX6_ones (ws_ yX6_ones cX6_ones 3 (some .int)) mo_ones_rm (va_Pc [.int x0] (fun _ => True)) (Qro (some (.int r))) 0 0 (fun _ => False) := by
  refine Met.ofW (cc := cX6_ones) (maxL := 3) (ret := some .int) (by decide) rfl ?_
  intro p e s m args below meth c s₁ B hml hv
  obtain ⟨rfl, hv⟩ := hv
  have hts := atoms_spec (ws := ws_ yX6_ones cX6_ones 3 (some .int)) B.pre
  have hts : ∀ w ∈ lw_all, w.before _ s = true := fun w h => hts w (List.mem_cons_of_mem _ h)
  have C : SCx p s m _ meth c cX6_ones 3 (some .int) RX6 := ⟨B.exec, B.bytes, B.returns, B.notSynchronized, hml, findClass_of_methodNamed B.named, hts⟩
  have hl := lv_entry [.int x0] (n := 3) (Nat.le_of_ble_eq_true rfl)
  rw [lg_entry_eq]
  generalize (lg_sl [.int x0] ++ List.replicate (3 - (lg_sl [.int x0]).length) Slot.unset).toArray = ls at hl ⊢
  exact mo_ones_w0 C x0 ls hl h

/-! SecondChancesModel.no(I)J -/
def mo_no_rm : Room := { frames := 0, cells := 0, slots := 0, locals := 0 }
def mo_no_P0 (p : Program) (l : Launch) (e : Env) (s : State) (m : MethodId) (args : Array Value) (below : List Frame) (meth : Method) (c : Code) (r : Int64) (f : Int32 → Option Int64) : Prop := ∀ (x0 : Int32) (ls : Array Slot), lv_has ls 1 [(0, .int x0)] → f x0 = some r → W p l e mo_no_rm s m args below meth c s.heap [] 0 0 (MQ below (Qro (some (.long r))) args s 0 0 (fun _ => False)) (F0 m 0 ls [])
def mo_no (x0 : Int32) : Option Int64 :=
  some ((-9223372036854775808 : Int64) - (x0.toInt64))
theorem mo_no_w0 {p : Program} {l : Launch} {e : Env} {s : State} {m : MethodId} {args : Array Value} {below : List Frame} {meth : Method} {c : Code} (C : SCx p s m args meth c cX6_no 1 (some .long) RX6) {r : Int64} : mo_no_P0 p l e s m args below meth c r (mo_no) := by
  intro x0 ls hl h
  obtain ⟨hx, hb, hr, hlocks, hml, hown, hts⟩ := id C
  unfold mo_no at h
  refine lv_ldc2 (v := -9223372036854775808) hx hb hown (hts _ q1377) dX6_no_0 ?_
  refine lv_iload_n hx hb dX6_no_3 rfl (lv_at hl 0 rfl) ?_
  refine lv_i2l hx hb dX6_no_4 rfl ?_
  refine lv_lsub hx hb dX6_no_5 ?_
  have h := so_ h
  subst h
  exact W.lret hx hb hr (fun t ht hW => ⟨rfl, ht⟩) (fun q hq => by cases hq) dX6_no_6
theorem mo_no_hd : yX6_no.cls ≠ "java/lang/invoke/MethodHandle" ∧ yX6_no.cls ≠ "java/lang/invoke/VarHandle" ∧ (parseMethodDescriptor yX6_no.desc).map (fun d => d.parameters.length) = some 1 := by decide +kernel
theorem mo_no_met (l : Launch) (x0 : Int32) (r : Int64) (h : mo_no x0 = some r) : Met l yX6_no (ws_ yX6_no cX6_no 1 (some .long)) mo_no_rm (va_Pc [.int x0] (fun _ => True)) (Qro (some (.long r))) 0 0 (fun _ => False) := by
  refine Met.ofW (cc := cX6_no) (maxL := 1) (ret := some .long) (by decide) rfl ?_
  intro p e s m args below meth c s₁ B hml hv
  obtain ⟨rfl, hv⟩ := hv
  have hts := atoms_spec (ws := ws_ yX6_no cX6_no 1 (some .long)) B.pre
  have hts : ∀ w ∈ lw_all, w.before _ s = true := fun w h => hts w (List.mem_cons_of_mem _ h)
  have C : SCx p s m _ meth c cX6_no 1 (some .long) RX6 := ⟨B.exec, B.bytes, B.returns, B.notSynchronized, hml, findClass_of_methodNamed B.named, hts⟩
  have hl := lv_entry [.int x0] (n := 1) (Nat.le_of_ble_eq_true rfl)
  rw [lg_entry_eq]
  generalize (lg_sl [.int x0] ++ List.replicate (1 - (lg_sl [.int x0]).length) Slot.unset).toArray = ls at hl ⊢
  exact mo_no_w0 C x0 ls hl h

/-! SecondChancesModel.lowest(JJI)J -/
def mo_lowest_rm : Room := { frames := 0, cells := 0, slots := 0, locals := 0 }
def mo_lowest_P0 (p : Program) (l : Launch) (e : Env) (s : State) (m : MethodId) (args : Array Value) (below : List Frame) (meth : Method) (c : Code) (r : Int64) (f : Int64 → Int64 → Int32 → Option Int64) : Prop := ∀ (x0 : Int64) (x2 : Int64) (x4 : Int32) (ls : Array Slot), lv_has ls 11 [(0, .long x0), (2, .long x2), (4, .int x4)] → f x0 x2 x4 = some r → W p l e mo_lowest_rm s m args below meth c s.heap [] 0 0 (MQ below (Qro (some (.long r))) args s 0 0 (fun _ => False)) (F0 m 0 ls [])
def mo_lowest_P6 (p : Program) (l : Launch) (e : Env) (s : State) (m : MethodId) (args : Array Value) (below : List Frame) (meth : Method) (c : Code) (r : Int64) (f : Int64 → Int64 → Int32 → Int64 → Int64 → Option Int64) : Prop := ∀ (x0 : Int64) (x2 : Int64) (x4 : Int32) (x5 : Int64) (x7 : Int64) (ls : Array Slot), lv_has ls 11 [(0, .long x0), (2, .long x2), (4, .int x4), (5, .long x5), (7, .long x7)] → f x0 x2 x4 x5 x7 = some r → W p l e mo_lowest_rm s m args below meth c s.heap [] 0 0 (MQ below (Qro (some (.long r))) args s 0 0 (fun _ => False)) (F0 m 6 ls [])
def mo_lowest_b6 (k6 : Int64 → Int64 → Int32 → Int64 → Int64 → Option Int64) (x0 : Int64) (x2 : Int64) (x4 : Int32) (x5 : Int64) (x7 : Int64) : Option Int64 :=
  if (lg_cmp x7 (0 : Int64)) = 0 then (if x4 = 0 then (if x5 = 0 then none else
      some (x0 / x5))
    else (if x5 = 0 then none else
      some (x2 / x5)))
  else (if x7 = 0 then none else
    lt_ (x5 - x5 / x7 * x7) fun v6 =>
    k6 x0 x2 x4 x7 v6)
theorem mo_lowest_w6 {p : Program} {l : Launch} {e : Env} {s : State} {m : MethodId} {args : Array Value} {below : List Frame} {meth : Method} {c : Code} (C : SCx p s m args meth c cX6_lowest 11 (some .long) RX6) {r : Int64} {k6 : Int64 → Int64 → Int32 → Int64 → Int64 → Option Int64} (hk6 : mo_lowest_P6 p l e s m args below meth c r k6) : mo_lowest_P6 p l e s m args below meth c r (mo_lowest_b6 k6) := by
  intro x0 x2 x4 x5 x7 ls hl h
  obtain ⟨hx, hb, hr, hlocks, hml, hown, hts⟩ := id C
  unfold mo_lowest_b6 at h
  refine lv_lload hx hb dX6_lowest_6 (lv_at hl 4 rfl) ?_
  refine lv_lconst (v := 0) hx hb dX6_lowest_8 (by decide) ?_
  refine W.lcmp hx hb dX6_lowest_9 ?_
  refine lv_if_eq (tgt := 31) hx hb dX6_lowest_10 (by decide) (fun c1 => ?_) (fun c1 => ?_)
  · have h := ip_ c1 h
    refine lv_iload hx hb dX6_lowest_31 (lv_at hl 2 rfl) ?_
    refine lv_if_ne (tgt := 43) hx hb dX6_lowest_33 (by decide) (fun c2 => ?_) (fun c2 => ?_)
    · have h := in_ c2 h
      refine lv_lload_n hx hb dX6_lowest_43 rfl (lv_at hl 1 rfl) ?_
      refine lv_lload hx hb dX6_lowest_44 (lv_at hl 3 rfl) ?_
      by_cases c3 : x5 = 0
      · exact no_ (ip_ c3 h)
      have h := in_ c3 h
      refine lv_ldiv hx hb dX6_lowest_46 c3 ?_
      have h := so_ h
      subst h
      exact W.lret hx hb hr (fun t ht hW => ⟨rfl, ht⟩) (fun q hq => by cases hq) dX6_lowest_47
    · have h := ip_ c2 h
      refine lv_lload_n hx hb dX6_lowest_36 rfl (lv_at hl 0 rfl) ?_
      refine lv_lload hx hb dX6_lowest_37 (lv_at hl 3 rfl) ?_
      by_cases c4 : x5 = 0
      · exact no_ (ip_ c4 h)
      have h := in_ c4 h
      refine lv_ldiv hx hb dX6_lowest_39 c4 ?_
      refine lv_goto (tgt := 47) hx hb dX6_lowest_40 (by decide) ?_
      have h := so_ h
      subst h
      exact W.lret hx hb hr (fun t ht hW => ⟨rfl, ht⟩) (fun q hq => by cases hq) dX6_lowest_47
  · have h := in_ c1 h
    refine lv_lload hx hb dX6_lowest_13 (lv_at hl 3 rfl) ?_
    refine lv_lload hx hb dX6_lowest_15 (lv_at hl 4 rfl) ?_
    by_cases c5 : x7 = 0
    · exact no_ (ip_ c5 h)
    have h := in_ c5 h
    refine lv_lrem hx hb dX6_lowest_17 c5 ?_
    refine lv_topl (fun v6 e_v6 => ?_)
    have h := lt_i h e_v6
    refine lv_lstore (lv' := [(9, .long v6), (0, .long x0), (2, .long x2), (4, .int x4), (5, .long x5), (7, .long x7)]) hx hb dX6_lowest_18 hl (by decide) rfl (fun ls hl => ?_)
    refine lv_lload hx hb dX6_lowest_20 (lv_at hl 5 rfl) ?_
    refine lv_lstore (lv' := [(5, .long x7), (9, .long v6), (0, .long x0), (2, .long x2), (4, .int x4), (7, .long x7)]) hx hb dX6_lowest_22 hl (by decide) rfl (fun ls hl => ?_)
    refine lv_lload hx hb dX6_lowest_24 (lv_at hl 1 rfl) ?_
    refine lv_lstore (lv' := [(7, .long v6), (5, .long x7), (9, .long v6), (0, .long x0), (2, .long x2), (4, .int x4)]) hx hb dX6_lowest_26 hl (by decide) rfl (fun ls hl => ?_)
    refine lv_goto (tgt := 6) hx hb dX6_lowest_28 (by decide) ?_
    exact hk6 x0 x2 x4 x7 v6 ls (lv_sub hl [3, 4, 5, 1, 0] rfl) h
def mo_lowest_l6 (n : Nat) : Int64 → Int64 → Int32 → Int64 → Int64 → Option Int64 := lp (fun _ _ _ _ _ => none) (mo_lowest_b6) n
theorem mo_lowest_lw6 {p : Program} {l : Launch} {e : Env} {s : State} {m : MethodId} {args : Array Value} {below : List Frame} {meth : Method} {c : Code} (C : SCx p s m args meth c cX6_lowest 11 (some .long) RX6) {r : Int64} : ∀ n : Nat, mo_lowest_P6 p l e s m args below meth c r (mo_lowest_l6 n) := by
  intro n
  induction n with
  | zero => intro x0 x2 x4 x5 x7 ls hl h; exact no_ h
  | succ n ih => exact mo_lowest_w6 C ih
def mo_lowest (x0 : Int64) (x2 : Int64) (x4 : Int32) : Option Int64 :=
  mo_lowest_l6 FU x0 x2 x4 x0 x2
theorem mo_lowest_w0 {p : Program} {l : Launch} {e : Env} {s : State} {m : MethodId} {args : Array Value} {below : List Frame} {meth : Method} {c : Code} (C : SCx p s m args meth c cX6_lowest 11 (some .long) RX6) {r : Int64} : mo_lowest_P0 p l e s m args below meth c r (mo_lowest) := by
  intro x0 x2 x4 ls hl h
  obtain ⟨hx, hb, hr, hlocks, hml, hown, hts⟩ := id C
  unfold mo_lowest at h
  refine lv_lload_n hx hb dX6_lowest_0 rfl (lv_at hl 0 rfl) ?_
  refine lv_lstore (lv' := [(5, .long x0), (0, .long x0), (2, .long x2), (4, .int x4)]) hx hb dX6_lowest_1 hl (by decide) rfl (fun ls hl => ?_)
  refine lv_lload_n hx hb dX6_lowest_3 rfl (lv_at hl 2 rfl) ?_
  refine lv_lstore (lv' := [(7, .long x2), (5, .long x0), (0, .long x0), (2, .long x2), (4, .int x4)]) hx hb dX6_lowest_4 hl (by decide) rfl (fun ls hl => ?_)
  exact mo_lowest_lw6 C FU x0 x2 x4 x0 x2 ls (lv_sub hl [2, 3, 4, 1, 0] rfl) h
theorem mo_lowest_hd : yX6_lowest.cls ≠ "java/lang/invoke/MethodHandle" ∧ yX6_lowest.cls ≠ "java/lang/invoke/VarHandle" ∧ (parseMethodDescriptor yX6_lowest.desc).map (fun d => d.parameters.length) = some 3 := by decide +kernel
theorem mo_lowest_met (l : Launch) (x0 : Int64) (x2 : Int64) (x4 : Int32) (r : Int64) (h : mo_lowest x0 x2 x4 = some r) : Met l yX6_lowest (ws_ yX6_lowest cX6_lowest 11 (some .long)) mo_lowest_rm (va_Pc [.long x0, .long x2, .int x4] (fun _ => True)) (Qro (some (.long r))) 0 0 (fun _ => False) := by
  refine Met.ofW (cc := cX6_lowest) (maxL := 11) (ret := some .long) (by decide) rfl ?_
  intro p e s m args below meth c s₁ B hml hv
  obtain ⟨rfl, hv⟩ := hv
  have hts := atoms_spec (ws := ws_ yX6_lowest cX6_lowest 11 (some .long)) B.pre
  have hts : ∀ w ∈ lw_all, w.before _ s = true := fun w h => hts w (List.mem_cons_of_mem _ h)
  have C : SCx p s m _ meth c cX6_lowest 11 (some .long) RX6 := ⟨B.exec, B.bytes, B.returns, B.notSynchronized, hml, findClass_of_methodNamed B.named, hts⟩
  have hl := lv_entry [.long x0, .long x2, .int x4] (n := 11) (Nat.le_of_ble_eq_true rfl)
  rw [lg_entry_eq]
  generalize (lg_sl [.long x0, .long x2, .int x4] ++ List.replicate (11 - (lg_sl [.long x0, .long x2, .int x4]).length) Slot.unset).toArray = ls at hl ⊢
  exact mo_lowest_w0 C x0 x2 x4 ls hl h

/-! SecondChancesModel.choose(II)J -/
def mo_choose_rm : Room := { frames := 0, cells := 0, slots := 0, locals := 0 }
def mo_choose_P0 (p : Program) (l : Launch) (e : Env) (s : State) (m : MethodId) (args : Array Value) (below : List Frame) (meth : Method) (c : Code) (r : Int64) (f : Int32 → Int32 → Option Int64) : Prop := ∀ (x0 : Int32) (x1 : Int32) (ls : Array Slot), lv_has ls 5 [(0, .int x0), (1, .int x1)] → f x0 x1 = some r → W p l e mo_choose_rm s m args below meth c s.heap [] 0 0 (MQ below (Qro (some (.long r))) args s 0 0 (fun _ => False)) (F0 m 0 ls [])
def mo_choose_P14 (p : Program) (l : Launch) (e : Env) (s : State) (m : MethodId) (args : Array Value) (below : List Frame) (meth : Method) (c : Code) (r : Int64) (f : Int32 → Int32 → Int64 → Option Int64) : Prop := ∀ (x0 : Int32) (x1 : Int32) (t0 : Int64) (ls : Array Slot), lv_has ls 5 [(0, .int x0), (1, .int x1)] → f x0 x1 t0 = some r → W p l e mo_choose_rm s m args below meth c s.heap [] 0 0 (MQ below (Qro (some (.long r))) args s 0 0 (fun _ => False)) (F0 m 14 ls [.long t0])
def mo_choose_P18 (p : Program) (l : Launch) (e : Env) (s : State) (m : MethodId) (args : Array Value) (below : List Frame) (meth : Method) (c : Code) (r : Int64) (f : Int32 → Int32 → Int64 → Int32 → Option Int64) : Prop := ∀ (x0 : Int32) (x1 : Int32) (x2 : Int64) (x4 : Int32) (ls : Array Slot), lv_has ls 5 [(0, .int x0), (1, .int x1), (2, .long x2), (4, .int x4)] → f x0 x1 x2 x4 = some r → W p l e mo_choose_rm s m args below meth c s.heap [] 0 0 (MQ below (Qro (some (.long r))) args s 0 0 (fun _ => False)) (F0 m 18 ls [])
def mo_choose_b18 (k18 : Int32 → Int32 → Int64 → Int32 → Option Int64) (x0 : Int32) (x1 : Int32) (x2 : Int64) (x4 : Int32) : Option Int64 :=
  if x1 < x4 then (some x2)
  else (if (lg_cmp x2 (0 : Int64)) ≤ 0 then (some x2)
    else (if (x4.toInt64) = 0 then none else
      lt_ ((x2 * (((x0 - x1) + x4).toInt64)) / (x4.toInt64)) fun v4 =>
      k18 x0 x1 v4 (x4 + 1)))
theorem mo_choose_w18 {p : Program} {l : Launch} {e : Env} {s : State} {m : MethodId} {args : Array Value} {below : List Frame} {meth : Method} {c : Code} (C : SCx p s m args meth c cX6_choose 5 (some .long) RX6) {r : Int64} {k18 : Int32 → Int32 → Int64 → Int32 → Option Int64} (hk18 : mo_choose_P18 p l e s m args below meth c r k18) : mo_choose_P18 p l e s m args below meth c r (mo_choose_b18 k18) := by
  intro x0 x1 x2 x4 ls hl h
  obtain ⟨hx, hb, hr, hlocks, hml, hown, hts⟩ := id C
  unfold mo_choose_b18 at h
  refine lv_iload hx hb dX6_choose_18 (lv_at hl 3 rfl) ?_
  refine lv_iload_n hx hb dX6_choose_20 rfl (lv_at hl 1 rfl) ?_
  refine lv_icmp_gt (tgt := 50) hx hb dX6_choose_21 (by decide) (fun c1 => ?_) (fun c1 => ?_)
  · have h := ip_ c1 h
    refine lv_lload_n hx hb dX6_choose_50 rfl (lv_at hl 2 rfl) ?_
    have h := so_ h
    subst h
    exact W.lret hx hb hr (fun t ht hW => ⟨rfl, ht⟩) (fun q hq => by cases hq) dX6_choose_51
  · have h := in_ c1 h
    refine lv_lload_n hx hb dX6_choose_24 rfl (lv_at hl 2 rfl) ?_
    refine lv_lconst (v := 0) hx hb dX6_choose_25 (by decide) ?_
    refine W.lcmp hx hb dX6_choose_26 ?_
    refine lv_if_le (tgt := 50) hx hb dX6_choose_27 (by decide) (fun c2 => ?_) (fun c2 => ?_)
    · have h := ip_ c2 h
      refine lv_lload_n hx hb dX6_choose_50 rfl (lv_at hl 2 rfl) ?_
      have h := so_ h
      subst h
      exact W.lret hx hb hr (fun t ht hW => ⟨rfl, ht⟩) (fun q hq => by cases hq) dX6_choose_51
    · have h := in_ c2 h
      refine lv_lload_n hx hb dX6_choose_30 rfl (lv_at hl 2 rfl) ?_
      refine lv_iload_n hx hb dX6_choose_31 rfl (lv_at hl 0 rfl) ?_
      refine lv_iload_n hx hb dX6_choose_32 rfl (lv_at hl 1 rfl) ?_
      refine lv_isub hx hb dX6_choose_33 ?_
      refine lv_iload hx hb dX6_choose_34 (lv_at hl 3 rfl) ?_
      refine lv_iadd hx hb dX6_choose_36 ?_
      refine lv_i2l hx hb dX6_choose_37 rfl ?_
      refine lv_lmul hx hb dX6_choose_38 ?_
      refine lv_iload hx hb dX6_choose_39 (lv_at hl 3 rfl) ?_
      refine lv_i2l hx hb dX6_choose_41 rfl ?_
      by_cases c3 : (x4.toInt64) = 0
      · exact no_ (ip_ c3 h)
      have h := in_ c3 h
      refine lv_ldiv hx hb dX6_choose_42 c3 ?_
      refine lv_topl (fun v4 e_v4 => ?_)
      have h := lt_i h e_v4
      refine lv_lstore_n (lv' := [(2, .long v4), (0, .int x0), (1, .int x1), (4, .int x4)]) hx hb dX6_choose_43 rfl hl (by decide) rfl (fun ls hl => ?_)
      refine lv_iinc (v := (x4 + 1)) (lv' := [(4, .int (x4 + 1)), (2, .long v4), (0, .int x0), (1, .int x1)]) hx hb dX6_choose_44 hl (k := 3) rfl rfl (by decide) rfl (fun ls hl => ?_)
      refine lv_goto (tgt := 18) hx hb dX6_choose_47 (by decide) ?_
      exact hk18 x0 x1 v4 (x4 + 1) ls (lv_sub hl [2, 3, 1, 0] rfl) h
def mo_choose_l18 (n : Nat) : Int32 → Int32 → Int64 → Int32 → Option Int64 := lp (fun _ _ _ _ => none) (mo_choose_b18) n
theorem mo_choose_lw18 {p : Program} {l : Launch} {e : Env} {s : State} {m : MethodId} {args : Array Value} {below : List Frame} {meth : Method} {c : Code} (C : SCx p s m args meth c cX6_choose 5 (some .long) RX6) {r : Int64} : ∀ n : Nat, mo_choose_P18 p l e s m args below meth c r (mo_choose_l18 n) := by
  intro n
  induction n with
  | zero => intro x0 x1 x2 x4 ls hl h; exact no_ h
  | succ n ih => exact mo_choose_w18 C ih
def mo_choose_b14 (x0 : Int32) (x1 : Int32) (t0 : Int64) : Option Int64 :=
  mo_choose_l18 FU x0 x1 t0 (1 : Int32)
theorem mo_choose_w14 {p : Program} {l : Launch} {e : Env} {s : State} {m : MethodId} {args : Array Value} {below : List Frame} {meth : Method} {c : Code} (C : SCx p s m args meth c cX6_choose 5 (some .long) RX6) {r : Int64} : mo_choose_P14 p l e s m args below meth c r (mo_choose_b14) := by
  intro x0 x1 t0 ls hl h
  obtain ⟨hx, hb, hr, hlocks, hml, hown, hts⟩ := id C
  unfold mo_choose_b14 at h
  refine lv_lstore_n (lv' := [(2, .long t0), (0, .int x0), (1, .int x1)]) hx hb dX6_choose_14 rfl hl (by decide) rfl (fun ls hl => ?_)
  refine lv_iconst (v := 1) hx hb dX6_choose_15 (by decide) ?_
  refine lv_istore (lv' := [(4, .int (1 : Int32)), (2, .long t0), (0, .int x0), (1, .int x1)]) hx hb dX6_choose_16 hl (by decide) rfl (fun ls hl => ?_)
  exact mo_choose_lw18 C FU x0 x1 t0 (1 : Int32) ls (lv_sub hl [2, 3, 1, 0] rfl) h
def mo_choose (x0 : Int32) (x1 : Int32) : Option Int64 :=
  if x1 < 0 then (mo_choose_b14 x0 x1 (0 : Int64))
  else (if x1 ≤ x0 then (mo_choose_b14 x0 x1 (1 : Int64))
    else (mo_choose_b14 x0 x1 (0 : Int64)))
theorem mo_choose_w0 {p : Program} {l : Launch} {e : Env} {s : State} {m : MethodId} {args : Array Value} {below : List Frame} {meth : Method} {c : Code} (C : SCx p s m args meth c cX6_choose 5 (some .long) RX6) {r : Int64} : mo_choose_P0 p l e s m args below meth c r (mo_choose) := by
  intro x0 x1 ls hl h
  obtain ⟨hx, hb, hr, hlocks, hml, hown, hts⟩ := id C
  unfold mo_choose at h
  refine lv_iload_n hx hb dX6_choose_0 rfl (lv_at hl 1 rfl) ?_
  refine lv_if_lt (tgt := 9) hx hb dX6_choose_1 (by decide) (fun c1 => ?_) (fun c1 => ?_)
  · have h := ip_ c1 h
    refine lv_lconst (v := 0) hx hb dX6_choose_9 (by decide) ?_
    refine lv_goto (tgt := 14) hx hb dX6_choose_10 (by decide) ?_
    exact mo_choose_w14 C x0 x1 (0 : Int64) ls (lv_sub hl [0, 1] rfl) h
  · have h := in_ c1 h
    refine lv_iload_n hx hb dX6_choose_4 rfl (lv_at hl 1 rfl) ?_
    refine lv_iload_n hx hb dX6_choose_5 rfl (lv_at hl 0 rfl) ?_
    refine lv_icmp_le (tgt := 13) hx hb dX6_choose_6 (by decide) (fun c2 => ?_) (fun c2 => ?_)
    · have h := ip_ c2 h
      refine lv_lconst (v := 1) hx hb dX6_choose_13 (by decide) ?_
      exact mo_choose_w14 C x0 x1 (1 : Int64) ls (lv_sub hl [0, 1] rfl) h
    · have h := in_ c2 h
      refine lv_lconst (v := 0) hx hb dX6_choose_9 (by decide) ?_
      refine lv_goto (tgt := 14) hx hb dX6_choose_10 (by decide) ?_
      exact mo_choose_w14 C x0 x1 (0 : Int64) ls (lv_sub hl [0, 1] rfl) h
theorem mo_choose_hd : yX6_choose.cls ≠ "java/lang/invoke/MethodHandle" ∧ yX6_choose.cls ≠ "java/lang/invoke/VarHandle" ∧ (parseMethodDescriptor yX6_choose.desc).map (fun d => d.parameters.length) = some 2 := by decide +kernel
theorem mo_choose_met (l : Launch) (x0 : Int32) (x1 : Int32) (r : Int64) (h : mo_choose x0 x1 = some r) : Met l yX6_choose (ws_ yX6_choose cX6_choose 5 (some .long)) mo_choose_rm (va_Pc [.int x0, .int x1] (fun _ => True)) (Qro (some (.long r))) 0 0 (fun _ => False) := by
  refine Met.ofW (cc := cX6_choose) (maxL := 5) (ret := some .long) (by decide) rfl ?_
  intro p e s m args below meth c s₁ B hml hv
  obtain ⟨rfl, hv⟩ := hv
  have hts := atoms_spec (ws := ws_ yX6_choose cX6_choose 5 (some .long)) B.pre
  have hts : ∀ w ∈ lw_all, w.before _ s = true := fun w h => hts w (List.mem_cons_of_mem _ h)
  have C : SCx p s m _ meth c cX6_choose 5 (some .long) RX6 := ⟨B.exec, B.bytes, B.returns, B.notSynchronized, hml, findClass_of_methodNamed B.named, hts⟩
  have hl := lv_entry [.int x0, .int x1] (n := 5) (Nat.le_of_ble_eq_true rfl)
  rw [lg_entry_eq]
  generalize (lg_sl [.int x0, .int x1] ++ List.replicate (5 - (lg_sl [.int x0, .int x1]).length) Slot.unset).toArray = ls at hl ⊢
  exact mo_choose_w0 C x0 x1 ls hl h

/-! SecondChancesModel.type(II)I -/
def mo_type_rm : Room := { frames := 1, cells := 0, slots := 0, locals := 22 }
def mo_type_P0 (p : Program) (l : Launch) (e : Env) (s : State) (m : MethodId) (args : Array Value) (below : List Frame) (meth : Method) (c : Code) (Z : MZ) (r : (Int32 × St)) (f : Int32 → Int32 → St → Option (Int32 × St)) : Prop := ∀ (x1 : Int32) (x2 : Int32) (I : St) (H : Heap) (locs : List Loc) (ls : Array Slot), mIn Z s I H locs → lv_has ls 3 [(0, .ref (mH Z)), (1, .int x1), (2, .int x2)] → f x1 x2 I = some r → W p l e mo_type_rm s m args below meth c H locs 0 0 (MQ below (Qwr (some (.int r.1)) (mS Z r.2) (mA Z)) args s 0 0 (mA Z)) (F0 m 0 ls [])
def mo_type_P40 (p : Program) (l : Launch) (e : Env) (s : State) (m : MethodId) (args : Array Value) (below : List Frame) (meth : Method) (c : Code) (Z : MZ) (r : (Int32 × St)) (f : Int32 → Int32 → Int32 → Int32 → St → Option (Int32 × St)) : Prop := ∀ (x1 : Int32) (x2 : Int32) (t0 : Int32) (t1 : Int32) (I : St) (H : Heap) (locs : List Loc) (ls : Array Slot), mIn Z s I H locs → lv_has ls 3 [(0, .ref (mH Z)), (1, .int x1), (2, .int x2)] → f x1 x2 t0 t1 I = some r → W p l e mo_type_rm s m args below meth c H locs 0 0 (MQ below (Qwr (some (.int r.1)) (mS Z r.2) (mA Z)) args s 0 0 (mA Z)) (F0 m 40 ls [.int t0, .int t1])
def mo_type_b40 (x1 : Int32) (x2 : Int32) (t0 : Int32) (t1 : Int32) (I : St) : Option (Int32 × St) :=
  if t1 = t0 then (some ((-4 : Int32), I))
  else (al_ 2 (I 0) x1 fun v2 =>
    as_ 160 1 I (((80 : Int32) * x1) + v2) x2 fun I3 =>
    al_ 2 (I3 0) x1 fun v4 =>
    as_ 2 0 I3 x1 (v4 + (1 : Int32)) fun I5 =>
    al_ 2 (I5 0) x1 fun v6 =>
    some (v6, I5))
theorem mo_type_w40 {p : Program} {l : Launch} {e : Env} {s : State} {m : MethodId} {args : Array Value} {below : List Frame} {meth : Method} {c : Code} {Z : MZ} (C : MCx p s m args meth c cX6_type 3 (some .int) Z) {r : (Int32 × St)} : mo_type_P40 p l e s m args below meth c Z r (mo_type_b40) := by
  intro x1 x2 t0 t1 I H locs ls hM hl h
  obtain ⟨⟨hx, hb, hr, hlocks, hml, hown, hts⟩, hK⟩ := id C
  unfold mo_type_b40 at h
  refine lv_icmp_ne (tgt := 46) hx hb dX6_type_40 (by decide) (fun c1 => ?_) (fun c1 => ?_)
  · have h := in_ c1 h
    refine lv_aload_n hx hb dX6_type_46 rfl (lv_at hl 0 rfl) ?_
    refine gm1 C hM.1 dX6_type_47 ?_
    refine lv_bipush (v := 80) hx hb dX6_type_50 (by decide) ?_
    refine lv_iload_n hx hb dX6_type_52 rfl (lv_at hl 1 rfl) ?_
    refine lv_imul hx hb dX6_type_53 ?_
    refine lv_aload_n hx hb dX6_type_54 rfl (lv_at hl 0 rfl) ?_
    refine gm0 C hM.1 dX6_type_55 ?_
    refine lv_iload_n hx hb dX6_type_58 rfl (lv_at hl 1 rfl) ?_
    obtain ⟨i_v2, h⟩ := al_e h
    refine m_ald C hM.1 (pos := 0) (k := 0) rfl rfl i_v2 dX6_type_59 (fun v2 e_v2 => ?_)
    have h := h v2 e_v2
    refine lv_iadd hx hb dX6_type_60 ?_
    refine lv_iload_n hx hb dX6_type_61 rfl (lv_at hl 2 rfl) ?_
    obtain ⟨i_I3, h⟩ := as_e h
    refine m_ast C hM (pos := 1) (k := 1) rfl rfl i_I3 dX6_type_62 (fun H locs I3 e_I3 hM => ?_)
    have h := h I3 e_I3
    refine lv_aload_n hx hb dX6_type_63 rfl (lv_at hl 0 rfl) ?_
    refine gm0 C hM.1 dX6_type_64 ?_
    refine lv_iload_n hx hb dX6_type_67 rfl (lv_at hl 1 rfl) ?_
    refine lv_dup2_11 hx hb dX6_type_68 rfl rfl ?_
    obtain ⟨i_v4, h⟩ := al_e h
    refine m_ald C hM.1 (pos := 0) (k := 0) rfl rfl i_v4 dX6_type_69 (fun v4 e_v4 => ?_)
    have h := h v4 e_v4
    refine lv_iconst (v := 1) hx hb dX6_type_70 (by decide) ?_
    refine lv_iadd hx hb dX6_type_71 ?_
    obtain ⟨i_I5, h⟩ := as_e h
    refine m_ast C hM (pos := 0) (k := 0) rfl rfl i_I5 dX6_type_72 (fun H locs I5 e_I5 hM => ?_)
    have h := h I5 e_I5
    refine lv_aload_n hx hb dX6_type_73 rfl (lv_at hl 0 rfl) ?_
    refine gm0 C hM.1 dX6_type_74 ?_
    refine lv_iload_n hx hb dX6_type_77 rfl (lv_at hl 1 rfl) ?_
    obtain ⟨i_v6, h⟩ := al_e h
    refine m_ald C hM.1 (pos := 0) (k := 0) rfl rfl i_v6 dX6_type_78 (fun v6 e_v6 => ?_)
    have h := h v6 e_v6
    have h := so_ h
    subst h
    exact W.iret hx hb hr (fun t ht hW => ⟨rfl, ⟨by rw [ht]; exact hM.1, va_K.moved hW.alike hK⟩, hM.2.F ht⟩) hM.2.2.2 dX6_type_79
  · have h := ip_ c1 h
    refine lv_bipush (v := -4) hx hb dX6_type_43 (by decide) ?_
    have h := so_ h
    subst h
    exact W.iret hx hb hr (fun t ht hW => ⟨rfl, ⟨by rw [ht]; exact hM.1, va_K.moved hW.alike hK⟩, hM.2.F ht⟩) hM.2.2.2 dX6_type_45
def mo_type (x1 : Int32) (x2 : Int32) (I : St) : Option (Int32 × St) :=
  bd_ (mo_in x1 (0 : Int32) (1 : Int32)) fun v1 =>
  if v1 = 0 then (some ((-2 : Int32), I))
  else (bd_ (mo_in x2 (0 : Int32) (255 : Int32)) fun v3 =>
    if v3 = 0 then (some ((-2 : Int32), I))
    else (al_ 2 (I 0) x1 fun v5 =>
      if x1 = 0 then (mo_type_b40 x1 x2 (80 : Int32) v5 I)
      else (mo_type_b40 x1 x2 (40 : Int32) v5 I)))
theorem mo_type_w0 {p : Program} {l : Launch} {e : Env} {s : State} {m : MethodId} {args : Array Value} {below : List Frame} {meth : Method} {c : Code} {Z : MZ} (C : MCx p s m args meth c cX6_type 3 (some .int) Z) {r : (Int32 × St)} : mo_type_P0 p l e s m args below meth c Z r (mo_type) := by
  intro x1 x2 I H locs ls hM hl h
  obtain ⟨⟨hx, hb, hr, hlocks, hml, hown, hts⟩, hK⟩ := id C
  unfold mo_type at h
  refine lv_iload_n hx hb dX6_type_0 rfl (lv_at hl 1 rfl) ?_
  refine lv_iconst (v := 0) hx hb dX6_type_1 (by decide) ?_
  refine lv_iconst (v := 1) hx hb dX6_type_2 (by decide) ?_
  obtain ⟨v1, q_v1, h⟩ := bd_e h
  refine s_roI (As := [.int x1, .int (0 : Int32), .int (1 : Int32)]) (rest := []) C.1 (mo_in_met _ x1 (0 : Int32) (1 : Int32) v1 q_v1) (lw_S q1168 q1169 q88 q1170) mo_in_hd ⟨rfl, rfl⟩ ⟨Nat.le_of_ble_eq_true rfl, Nat.le_of_ble_eq_true rfl⟩ ⟨Nat.le_refl _, Nat.le_refl _⟩ rfl hl.1 rfl (Nat.le_of_ble_eq_true rfl) dX6_type_3 ?_
  refine lv_if_eq (tgt := 20) hx hb dX6_type_6 (by decide) (fun c2 => ?_) (fun c2 => ?_)
  · have h := ip_ c2 h
    refine lv_bipush (v := -2) hx hb dX6_type_20 (by decide) ?_
    have h := so_ h
    subst h
    exact W.iret hx hb hr (fun t ht hW => ⟨rfl, ⟨by rw [ht]; exact hM.1, va_K.moved hW.alike hK⟩, hM.2.F ht⟩) hM.2.2.2 dX6_type_22
  · have h := in_ c2 h
    refine lv_iload_n hx hb dX6_type_9 rfl (lv_at hl 2 rfl) ?_
    refine lv_iconst (v := 0) hx hb dX6_type_10 (by decide) ?_
    refine lv_sipush (v := 255) hx hb dX6_type_11 (by decide) ?_
    obtain ⟨v3, q_v3, h⟩ := bd_e h
    refine s_roI (As := [.int x2, .int (0 : Int32), .int (255 : Int32)]) (rest := []) C.1 (mo_in_met _ x2 (0 : Int32) (255 : Int32) v3 q_v3) (lw_S q1168 q1169 q88 q1170) mo_in_hd ⟨rfl, rfl⟩ ⟨Nat.le_of_ble_eq_true rfl, Nat.le_of_ble_eq_true rfl⟩ ⟨Nat.le_refl _, Nat.le_refl _⟩ rfl hl.1 rfl (Nat.le_of_ble_eq_true rfl) dX6_type_14 ?_
    refine lv_if_ne (tgt := 23) hx hb dX6_type_17 (by decide) (fun c4 => ?_) (fun c4 => ?_)
    · have h := in_ c4 h
      refine lv_aload_n hx hb dX6_type_23 rfl (lv_at hl 0 rfl) ?_
      refine gm0 C hM.1 dX6_type_24 ?_
      refine lv_iload_n hx hb dX6_type_27 rfl (lv_at hl 1 rfl) ?_
      obtain ⟨i_v5, h⟩ := al_e h
      refine m_ald C hM.1 (pos := 0) (k := 0) rfl rfl i_v5 dX6_type_28 (fun v5 e_v5 => ?_)
      have h := h v5 e_v5
      refine lv_iload_n hx hb dX6_type_29 rfl (lv_at hl 1 rfl) ?_
      refine lv_if_ne (tgt := 38) hx hb dX6_type_30 (by decide) (fun c6 => ?_) (fun c6 => ?_)
      · have h := in_ c6 h
        refine lv_bipush (v := 40) hx hb dX6_type_38 (by decide) ?_
        exact mo_type_w40 C x1 x2 (40 : Int32) v5 I _ _ ls hM (lv_sub hl [0, 1, 2] rfl) h
      · have h := ip_ c6 h
        refine lv_bipush (v := 80) hx hb dX6_type_33 (by decide) ?_
        refine lv_goto (tgt := 40) hx hb dX6_type_35 (by decide) ?_
        exact mo_type_w40 C x1 x2 (80 : Int32) v5 I _ _ ls hM (lv_sub hl [0, 1, 2] rfl) h
    · have h := ip_ c4 h
      refine lv_bipush (v := -2) hx hb dX6_type_20 (by decide) ?_
      have h := so_ h
      subst h
      exact W.iret hx hb hr (fun t ht hW => ⟨rfl, ⟨by rw [ht]; exact hM.1, va_K.moved hW.alike hK⟩, hM.2.F ht⟩) hM.2.2.2 dX6_type_22
theorem mo_type_hd : yX6_type.cls = RX6 ∧ yX6_type.cls ≠ "java/lang/invoke/MethodHandle" ∧ yX6_type.cls ≠ "java/lang/invoke/VarHandle" ∧ (parseMethodDescriptor yX6_type.desc).map (fun d => d.parameters.length) = some 2 := by decide +kernel
theorem mo_type_met (l : Launch) (Z : MZ) (I : St) (x1 : Int32) (x2 : Int32) (r : (Int32 × St)) (h : mo_type x1 x2 I = some r) : Met l yX6_type (ws_ yX6_type cX6_type 3 (some .int)) mo_type_rm (va_Pc [.ref (mH Z), .int x1, .int x2] (mS Z I)) (Qwr (some (.int r.1)) (mS Z r.2) (mA Z)) 0 0 (mA Z) := by
  refine Met.ofW (cc := cX6_type) (maxL := 3) (ret := some .int) (by decide) rfl ?_
  intro p e s m args below meth c s₁ B hml hv
  obtain ⟨rfl, hv⟩ := hv
  have hts := atoms_spec (ws := ws_ yX6_type cX6_type 3 (some .int)) B.pre
  have hts : ∀ w ∈ lw_all, w.before _ s = true := fun w h => hts w (List.mem_cons_of_mem _ h)
  have C : SCx p s m _ meth c cX6_type 3 (some .int) RX6 := ⟨B.exec, B.bytes, B.returns, B.notSynchronized, hml, findClass_of_methodNamed B.named, hts⟩
  have hl := lv_entry [.ref (mH Z), .int x1, .int x2] (n := 3) (Nat.le_of_ble_eq_true rfl)
  rw [lg_entry_eq]
  generalize (lg_sl [.ref (mH Z), .int x1, .int x2] ++ List.replicate (3 - (lg_sl [.ref (mH Z), .int x1, .int x2]).length) Slot.unset).toArray = ls at hl ⊢
  have C : MCx p s m _ meth c _ _ _ Z := ⟨C, hv.2⟩
  have hM : mIn Z s I s.heap [] := ⟨hv.1, va_S.rf⟩
  exact mo_type_w0 C x1 x2 I _ _ ls hM hl h

/-! SecondChancesModel.wipe(I)I -/
def mo_wipe_rm : Room := { frames := 1, cells := 0, slots := 0, locals := 22 }
def mo_wipe_P0 (p : Program) (l : Launch) (e : Env) (s : State) (m : MethodId) (args : Array Value) (below : List Frame) (meth : Method) (c : Code) (Z : MZ) (r : (Int32 × St)) (f : Int32 → St → Option (Int32 × St)) : Prop := ∀ (x1 : Int32) (I : St) (H : Heap) (locs : List Loc) (ls : Array Slot), mIn Z s I H locs → lv_has ls 3 [(0, .ref (mH Z)), (1, .int x1)] → f x1 I = some r → W p l e mo_wipe_rm s m args below meth c H locs 0 0 (MQ below (Qwr (some (.int r.1)) (mS Z r.2) (mA Z)) args s 0 0 (mA Z)) (F0 m 0 ls [])
def mo_wipe (x1 : Int32) (I : St) : Option (Int32 × St) :=
  bd_ (mo_in x1 (0 : Int32) (1 : Int32)) fun v1 =>
  if v1 = 0 then (some ((-2 : Int32), I))
  else (al_ 2 (I 0) x1 fun v3 =>
    as_ 2 0 I x1 (0 : Int32) fun I4 =>
    some (v3, I4))
theorem mo_wipe_w0 {p : Program} {l : Launch} {e : Env} {s : State} {m : MethodId} {args : Array Value} {below : List Frame} {meth : Method} {c : Code} {Z : MZ} (C : MCx p s m args meth c cX6_wipe 3 (some .int) Z) {r : (Int32 × St)} : mo_wipe_P0 p l e s m args below meth c Z r (mo_wipe) := by
  intro x1 I H locs ls hM hl h
  obtain ⟨⟨hx, hb, hr, hlocks, hml, hown, hts⟩, hK⟩ := id C
  unfold mo_wipe at h
  refine lv_iload_n hx hb dX6_wipe_0 rfl (lv_at hl 1 rfl) ?_
  refine lv_iconst (v := 0) hx hb dX6_wipe_1 (by decide) ?_
  refine lv_iconst (v := 1) hx hb dX6_wipe_2 (by decide) ?_
  obtain ⟨v1, q_v1, h⟩ := bd_e h
  refine s_roI (As := [.int x1, .int (0 : Int32), .int (1 : Int32)]) (rest := []) C.1 (mo_in_met _ x1 (0 : Int32) (1 : Int32) v1 q_v1) (lw_S q1168 q1169 q88 q1170) mo_in_hd ⟨rfl, rfl⟩ ⟨Nat.le_of_ble_eq_true rfl, Nat.le_of_ble_eq_true rfl⟩ ⟨Nat.le_refl _, Nat.le_refl _⟩ rfl hl.1 rfl (Nat.le_of_ble_eq_true rfl) dX6_wipe_3 ?_
  refine lv_if_ne (tgt := 12) hx hb dX6_wipe_6 (by decide) (fun c2 => ?_) (fun c2 => ?_)
  · have h := in_ c2 h
    refine lv_aload_n hx hb dX6_wipe_12 rfl (lv_at hl 0 rfl) ?_
    refine gm0 C hM.1 dX6_wipe_13 ?_
    refine lv_iload_n hx hb dX6_wipe_16 rfl (lv_at hl 1 rfl) ?_
    obtain ⟨i_v3, h⟩ := al_e h
    refine m_ald C hM.1 (pos := 0) (k := 0) rfl rfl i_v3 dX6_wipe_17 (fun v3 e_v3 => ?_)
    have h := h v3 e_v3
    refine lv_istore_n (lv' := [(2, .int v3), (0, .ref (mH Z)), (1, .int x1)]) hx hb dX6_wipe_18 rfl hl (by decide) rfl (fun ls hl => ?_)
    refine lv_aload_n hx hb dX6_wipe_19 rfl (lv_at hl 1 rfl) ?_
    refine gm0 C hM.1 dX6_wipe_20 ?_
    refine lv_iload_n hx hb dX6_wipe_23 rfl (lv_at hl 2 rfl) ?_
    refine lv_iconst (v := 0) hx hb dX6_wipe_24 (by decide) ?_
    obtain ⟨i_I4, h⟩ := as_e h
    refine m_ast C hM (pos := 0) (k := 0) rfl rfl i_I4 dX6_wipe_25 (fun H locs I4 e_I4 hM => ?_)
    have h := h I4 e_I4
    refine lv_iload_n hx hb dX6_wipe_26 rfl (lv_at hl 0 rfl) ?_
    have h := so_ h
    subst h
    exact W.iret hx hb hr (fun t ht hW => ⟨rfl, ⟨by rw [ht]; exact hM.1, va_K.moved hW.alike hK⟩, hM.2.F ht⟩) hM.2.2.2 dX6_wipe_27
  · have h := ip_ c2 h
    refine lv_bipush (v := -2) hx hb dX6_wipe_9 (by decide) ?_
    have h := so_ h
    subst h
    exact W.iret hx hb hr (fun t ht hW => ⟨rfl, ⟨by rw [ht]; exact hM.1, va_K.moved hW.alike hK⟩, hM.2.F ht⟩) hM.2.2.2 dX6_wipe_11
theorem mo_wipe_hd : yX6_wipe.cls = RX6 ∧ yX6_wipe.cls ≠ "java/lang/invoke/MethodHandle" ∧ yX6_wipe.cls ≠ "java/lang/invoke/VarHandle" ∧ (parseMethodDescriptor yX6_wipe.desc).map (fun d => d.parameters.length) = some 1 := by decide +kernel
theorem mo_wipe_met (l : Launch) (Z : MZ) (I : St) (x1 : Int32) (r : (Int32 × St)) (h : mo_wipe x1 I = some r) : Met l yX6_wipe (ws_ yX6_wipe cX6_wipe 3 (some .int)) mo_wipe_rm (va_Pc [.ref (mH Z), .int x1] (mS Z I)) (Qwr (some (.int r.1)) (mS Z r.2) (mA Z)) 0 0 (mA Z) := by
  refine Met.ofW (cc := cX6_wipe) (maxL := 3) (ret := some .int) (by decide) rfl ?_
  intro p e s m args below meth c s₁ B hml hv
  obtain ⟨rfl, hv⟩ := hv
  have hts := atoms_spec (ws := ws_ yX6_wipe cX6_wipe 3 (some .int)) B.pre
  have hts : ∀ w ∈ lw_all, w.before _ s = true := fun w h => hts w (List.mem_cons_of_mem _ h)
  have C : SCx p s m _ meth c cX6_wipe 3 (some .int) RX6 := ⟨B.exec, B.bytes, B.returns, B.notSynchronized, hml, findClass_of_methodNamed B.named, hts⟩
  have hl := lv_entry [.ref (mH Z), .int x1] (n := 3) (Nat.le_of_ble_eq_true rfl)
  rw [lg_entry_eq]
  generalize (lg_sl [.ref (mH Z), .int x1] ++ List.replicate (3 - (lg_sl [.ref (mH Z), .int x1]).length) Slot.unset).toArray = ls at hl ⊢
  have C : MCx p s m _ meth c _ _ _ Z := ⟨C, hv.2⟩
  have hM : mIn Z s I s.heap [] := ⟨hv.1, va_S.rf⟩
  exact mo_wipe_w0 C x1 I _ _ ls hM hl h

/-! SecondChancesModel.byteAt(II)I -/
def mo_byteAt_rm : Room := { frames := 0, cells := 0, slots := 0, locals := 0 }
def mo_byteAt_P0 (p : Program) (l : Launch) (e : Env) (s : State) (m : MethodId) (args : Array Value) (below : List Frame) (meth : Method) (c : Code) (Z : MZ) (r : Int32) (f : Int32 → Int32 → Option Int32) : Prop := ∀ (x1 : Int32) (x2 : Int32) (ls : Array Slot), lv_has ls 3 [(0, .ref (mH Z)), (1, .int x1), (2, .int x2)] → f x1 x2 = some r → W p l e mo_byteAt_rm s m args below meth c s.heap [] 0 0 (MQ below (Qro (some (.int r))) args s 0 0 (fun _ => False)) (F0 m 0 ls [])
def mo_byteAt (I : St) (x1 : Int32) (x2 : Int32) : Option Int32 :=
  al_ 2 (I 0) x1 fun v1 =>
  if v1 ≤ x2 then (some (-1 : Int32))
  else (al_ 160 (I 1) (((80 : Int32) * x1) + x2) fun v3 =>
    some v3)
theorem mo_byteAt_w0 {p : Program} {l : Launch} {e : Env} {s : State} {m : MethodId} {args : Array Value} {below : List Frame} {meth : Method} {c : Code} {Z : MZ} {I : St} (C : MCx p s m args meth c cX6_byteAt 3 (some .int) Z) (hM : mPD Z I s.heap) {r : Int32} : mo_byteAt_P0 p l e s m args below meth c Z r (mo_byteAt I) := by
  intro x1 x2 ls hl h
  obtain ⟨⟨hx, hb, hr, hlocks, hml, hown, hts⟩, hK⟩ := id C
  unfold mo_byteAt at h
  refine lv_iload_n hx hb dX6_byteAt_0 rfl (lv_at hl 2 rfl) ?_
  refine lv_aload_n hx hb dX6_byteAt_1 rfl (lv_at hl 0 rfl) ?_
  refine gm0 C hM dX6_byteAt_2 ?_
  refine lv_iload_n hx hb dX6_byteAt_5 rfl (lv_at hl 1 rfl) ?_
  obtain ⟨i_v1, h⟩ := al_e h
  refine m_ald C hM (pos := 0) (k := 0) rfl rfl i_v1 dX6_byteAt_6 (fun v1 e_v1 => ?_)
  have h := h v1 e_v1
  refine lv_icmp_ge (tgt := 24) hx hb dX6_byteAt_7 (by decide) (fun c2 => ?_) (fun c2 => ?_)
  · have h := ip_ c2 h
    refine lv_iconst (v := -1) hx hb dX6_byteAt_24 (by decide) ?_
    have h := so_ h
    subst h
    exact W.iret hx hb hr (fun t ht hW => ⟨rfl, ht⟩) (fun q hq => by cases hq) dX6_byteAt_25
  · have h := in_ c2 h
    refine lv_aload_n hx hb dX6_byteAt_10 rfl (lv_at hl 0 rfl) ?_
    refine gm1 C hM dX6_byteAt_11 ?_
    refine lv_bipush (v := 80) hx hb dX6_byteAt_14 (by decide) ?_
    refine lv_iload_n hx hb dX6_byteAt_16 rfl (lv_at hl 1 rfl) ?_
    refine lv_imul hx hb dX6_byteAt_17 ?_
    refine lv_iload_n hx hb dX6_byteAt_18 rfl (lv_at hl 2 rfl) ?_
    refine lv_iadd hx hb dX6_byteAt_19 ?_
    obtain ⟨i_v3, h⟩ := al_e h
    refine m_ald C hM (pos := 1) (k := 1) rfl rfl i_v3 dX6_byteAt_20 (fun v3 e_v3 => ?_)
    have h := h v3 e_v3
    refine lv_goto (tgt := 25) hx hb dX6_byteAt_21 (by decide) ?_
    have h := so_ h
    subst h
    exact W.iret hx hb hr (fun t ht hW => ⟨rfl, ht⟩) (fun q hq => by cases hq) dX6_byteAt_25
theorem mo_byteAt_hd : yX6_byteAt.cls = RX6 ∧ yX6_byteAt.cls ≠ "java/lang/invoke/MethodHandle" ∧ yX6_byteAt.cls ≠ "java/lang/invoke/VarHandle" ∧ (parseMethodDescriptor yX6_byteAt.desc).map (fun d => d.parameters.length) = some 2 := by decide +kernel
theorem mo_byteAt_met (l : Launch) (Z : MZ) (I : St) (x1 : Int32) (x2 : Int32) (r : Int32) (h : mo_byteAt I x1 x2 = some r) : Met l yX6_byteAt (ws_ yX6_byteAt cX6_byteAt 3 (some .int)) mo_byteAt_rm (va_Pc [.ref (mH Z), .int x1, .int x2] (mS Z I)) (Qro (some (.int r))) 0 0 (fun _ => False) := by
  refine Met.ofW (cc := cX6_byteAt) (maxL := 3) (ret := some .int) (by decide) rfl ?_
  intro p e s m args below meth c s₁ B hml hv
  obtain ⟨rfl, hv⟩ := hv
  have hts := atoms_spec (ws := ws_ yX6_byteAt cX6_byteAt 3 (some .int)) B.pre
  have hts : ∀ w ∈ lw_all, w.before _ s = true := fun w h => hts w (List.mem_cons_of_mem _ h)
  have C : SCx p s m _ meth c cX6_byteAt 3 (some .int) RX6 := ⟨B.exec, B.bytes, B.returns, B.notSynchronized, hml, findClass_of_methodNamed B.named, hts⟩
  have hl := lv_entry [.ref (mH Z), .int x1, .int x2] (n := 3) (Nat.le_of_ble_eq_true rfl)
  rw [lg_entry_eq]
  generalize (lg_sl [.ref (mH Z), .int x1, .int x2] ++ List.replicate (3 - (lg_sl [.ref (mH Z), .int x1, .int x2]).length) Slot.unset).toArray = ls at hl ⊢
  have C : MCx p s m _ meth c _ _ _ Z := ⟨C, hv.2⟩
  have hM := hv.1
  exact mo_byteAt_w0 C hM x1 x2 ls hl h

/-! SecondChancesModel.kindBy(I)I -/
def mo_kindBy_rm : Room := { frames := 0, cells := 0, slots := 0, locals := 0 }
def mo_kindBy_P0 (p : Program) (l : Launch) (e : Env) (s : State) (m : MethodId) (args : Array Value) (below : List Frame) (meth : Method) (c : Code) (r : Int32) (f : Int32 → Option Int32) : Prop := ∀ (x0 : Int32) (ls : Array Slot), lv_has ls 1 [(0, .int x0)] → f x0 = some r → W p l e mo_kindBy_rm s m args below meth c s.heap [] 0 0 (MQ below (Qro (some (.int r))) args s 0 0 (fun _ => False)) (F0 m 0 ls [])
def mo_kindBy (x0 : Int32) : Option Int32 :=
  if x0 = (112 : Int32) then (some (0 : Int32))
  else (if x0 = (114 : Int32) then (some (1 : Int32))
    else (if x0 = (116 : Int32) then (some (2 : Int32))
      else (if x0 = (115 : Int32) then (some (3 : Int32))
        else (some (-1 : Int32)))))
theorem mo_kindBy_w0 {p : Program} {l : Launch} {e : Env} {s : State} {m : MethodId} {args : Array Value} {below : List Frame} {meth : Method} {c : Code} (C : SCx p s m args meth c cX6_kindBy 1 (some .int) RX6) {r : Int32} : mo_kindBy_P0 p l e s m args below meth c r (mo_kindBy) := by
  intro x0 ls hl h
  obtain ⟨hx, hb, hr, hlocks, hml, hown, hts⟩ := id C
  unfold mo_kindBy at h
  refine lv_iload_n hx hb dX6_kindBy_0 rfl (lv_at hl 0 rfl) ?_
  refine lv_bipush (v := 112) hx hb dX6_kindBy_1 (by decide) ?_
  refine lv_icmp_ne (tgt := 10) hx hb dX6_kindBy_3 (by decide) (fun c1 => ?_) (fun c1 => ?_)
  · have h := in_ c1 h
    refine lv_iload_n hx hb dX6_kindBy_10 rfl (lv_at hl 0 rfl) ?_
    refine lv_bipush (v := 114) hx hb dX6_kindBy_11 (by decide) ?_
    refine lv_icmp_ne (tgt := 20) hx hb dX6_kindBy_13 (by decide) (fun c2 => ?_) (fun c2 => ?_)
    · have h := in_ c2 h
      refine lv_iload_n hx hb dX6_kindBy_20 rfl (lv_at hl 0 rfl) ?_
      refine lv_bipush (v := 116) hx hb dX6_kindBy_21 (by decide) ?_
      refine lv_icmp_ne (tgt := 30) hx hb dX6_kindBy_23 (by decide) (fun c3 => ?_) (fun c3 => ?_)
      · have h := in_ c3 h
        refine lv_iload_n hx hb dX6_kindBy_30 rfl (lv_at hl 0 rfl) ?_
        refine lv_bipush (v := 115) hx hb dX6_kindBy_31 (by decide) ?_
        refine lv_icmp_ne (tgt := 40) hx hb dX6_kindBy_33 (by decide) (fun c4 => ?_) (fun c4 => ?_)
        · have h := in_ c4 h
          refine lv_iconst (v := -1) hx hb dX6_kindBy_40 (by decide) ?_
          have h := so_ h
          subst h
          exact W.iret hx hb hr (fun t ht hW => ⟨rfl, ht⟩) (fun q hq => by cases hq) dX6_kindBy_41
        · have h := ip_ c4 h
          refine lv_iconst (v := 3) hx hb dX6_kindBy_36 (by decide) ?_
          refine lv_goto (tgt := 41) hx hb dX6_kindBy_37 (by decide) ?_
          have h := so_ h
          subst h
          exact W.iret hx hb hr (fun t ht hW => ⟨rfl, ht⟩) (fun q hq => by cases hq) dX6_kindBy_41
      · have h := ip_ c3 h
        refine lv_iconst (v := 2) hx hb dX6_kindBy_26 (by decide) ?_
        refine lv_goto (tgt := 41) hx hb dX6_kindBy_27 (by decide) ?_
        have h := so_ h
        subst h
        exact W.iret hx hb hr (fun t ht hW => ⟨rfl, ht⟩) (fun q hq => by cases hq) dX6_kindBy_41
    · have h := ip_ c2 h
      refine lv_iconst (v := 1) hx hb dX6_kindBy_16 (by decide) ?_
      refine lv_goto (tgt := 41) hx hb dX6_kindBy_17 (by decide) ?_
      have h := so_ h
      subst h
      exact W.iret hx hb hr (fun t ht hW => ⟨rfl, ht⟩) (fun q hq => by cases hq) dX6_kindBy_41
  · have h := ip_ c1 h
    refine lv_iconst (v := 0) hx hb dX6_kindBy_6 (by decide) ?_
    refine lv_goto (tgt := 41) hx hb dX6_kindBy_7 (by decide) ?_
    have h := so_ h
    subst h
    exact W.iret hx hb hr (fun t ht hW => ⟨rfl, ht⟩) (fun q hq => by cases hq) dX6_kindBy_41
theorem mo_kindBy_hd : yX6_kindBy.cls ≠ "java/lang/invoke/MethodHandle" ∧ yX6_kindBy.cls ≠ "java/lang/invoke/VarHandle" ∧ (parseMethodDescriptor yX6_kindBy.desc).map (fun d => d.parameters.length) = some 1 := by decide +kernel
theorem mo_kindBy_met (l : Launch) (x0 : Int32) (r : Int32) (h : mo_kindBy x0 = some r) : Met l yX6_kindBy (ws_ yX6_kindBy cX6_kindBy 1 (some .int)) mo_kindBy_rm (va_Pc [.int x0] (fun _ => True)) (Qro (some (.int r))) 0 0 (fun _ => False) := by
  refine Met.ofW (cc := cX6_kindBy) (maxL := 1) (ret := some .int) (by decide) rfl ?_
  intro p e s m args below meth c s₁ B hml hv
  obtain ⟨rfl, hv⟩ := hv
  have hts := atoms_spec (ws := ws_ yX6_kindBy cX6_kindBy 1 (some .int)) B.pre
  have hts : ∀ w ∈ lw_all, w.before _ s = true := fun w h => hts w (List.mem_cons_of_mem _ h)
  have C : SCx p s m _ meth c cX6_kindBy 1 (some .int) RX6 := ⟨B.exec, B.bytes, B.returns, B.notSynchronized, hml, findClass_of_methodNamed B.named, hts⟩
  have hl := lv_entry [.int x0] (n := 1) (Nat.le_of_ble_eq_true rfl)
  rw [lg_entry_eq]
  generalize (lg_sl [.int x0] ++ List.replicate (1 - (lg_sl [.int x0]).length) Slot.unset).toArray = ls at hl ⊢
  exact mo_kindBy_w0 C x0 ls hl h

/-! SecondChancesModel.readsDeeds()I -/
def mo_readsDeeds_rm : Room := { frames := 1, cells := 0, slots := 0, locals := 22 }
def mo_readsDeeds_P0 (p : Program) (l : Launch) (e : Env) (s : State) (m : MethodId) (args : Array Value) (below : List Frame) (meth : Method) (c : Code) (Z : MZ) (r : (Int32 × St)) (f : St → Option (Int32 × St)) : Prop := ∀ (I : St) (H : Heap) (locs : List Loc) (ls : Array Slot), mIn Z s I H locs → lv_has ls 5 [(0, .ref (mH Z))] → f  I = some r → W p l e mo_readsDeeds_rm s m args below meth c H locs 0 0 (MQ below (Qwr (some (.int r.1)) (mS Z r.2) (mA Z)) args s 0 0 (mA Z)) (F0 m 0 ls [])
def mo_readsDeeds_P9 (p : Program) (l : Launch) (e : Env) (s : State) (m : MethodId) (args : Array Value) (below : List Frame) (meth : Method) (c : Code) (Z : MZ) (r : (Int32 × St)) (f : Int32 → Int32 → St → Option (Int32 × St)) : Prop := ∀ (x1 : Int32) (x2 : Int32) (I : St) (H : Heap) (locs : List Loc) (ls : Array Slot), mIn Z s I H locs → lv_has ls 5 [(0, .ref (mH Z)), (1, .int x1), (2, .int x2)] → f x1 x2 I = some r → W p l e mo_readsDeeds_rm s m args below meth c H locs 0 0 (MQ below (Qwr (some (.int r.1)) (mS Z r.2) (mA Z)) args s 0 0 (mA Z)) (F0 m 9 ls [])
def mo_readsDeeds_P23 (p : Program) (l : Launch) (e : Env) (s : State) (m : MethodId) (args : Array Value) (below : List Frame) (meth : Method) (c : Code) (Z : MZ) (r : (Int32 × St)) (f : Int32 → Int32 → St → Option (Int32 × St)) : Prop := ∀ (x1 : Int32) (x2 : Int32) (I : St) (H : Heap) (locs : List Loc) (ls : Array Slot), mIn Z s I H locs → lv_has ls 5 [(0, .ref (mH Z)), (1, .int x1), (2, .int x2)] → f x1 x2 I = some r → W p l e mo_readsDeeds_rm s m args below meth c H locs 0 0 (MQ below (Qwr (some (.int r.1)) (mS Z r.2) (mA Z)) args s 0 0 (mA Z)) (F0 m 23 ls [])
def mo_readsDeeds_P91 (p : Program) (l : Launch) (e : Env) (s : State) (m : MethodId) (args : Array Value) (below : List Frame) (meth : Method) (c : Code) (Z : MZ) (r : (Int32 × St)) (f : Int32 → Int32 → Int32 → St → Option (Int32 × St)) : Prop := ∀ (x1 : Int32) (x2 : Int32) (x3 : Int32) (I : St) (H : Heap) (locs : List Loc) (ls : Array Slot), mIn Z s I H locs → lv_has ls 5 [(0, .ref (mH Z)), (1, .int x1), (2, .int x2), (3, .int x3)] → f x1 x2 x3 I = some r → W p l e mo_readsDeeds_rm s m args below meth c H locs 0 0 (MQ below (Qwr (some (.int r.1)) (mS Z r.2) (mA Z)) args s 0 0 (mA Z)) (F0 m 91 ls [])
def mo_readsDeeds_P161 (p : Program) (l : Launch) (e : Env) (s : State) (m : MethodId) (args : Array Value) (below : List Frame) (meth : Method) (c : Code) (Z : MZ) (r : (Int32 × St)) (f : Int32 → Int32 → Int32 → Int32 → St → Option (Int32 × St)) : Prop := ∀ (x1 : Int32) (x2 : Int32) (t0 : Int32) (t1 : Int32) (I : St) (H : Heap) (locs : List Loc) (ls : Array Slot), mIn Z s I H locs → lv_has ls 5 [(0, .ref (mH Z)), (1, .int x1), (2, .int x2)] → f x1 x2 t0 t1 I = some r → W p l e mo_readsDeeds_rm s m args below meth c H locs 0 0 (MQ below (Qwr (some (.int r.1)) (mS Z r.2) (mA Z)) args s 0 0 (mA Z)) (F0 m 161 ls [.int t0, .int t1, .ref (mAd Z 5)])
def mo_readsDeeds_P189 (p : Program) (l : Launch) (e : Env) (s : State) (m : MethodId) (args : Array Value) (below : List Frame) (meth : Method) (c : Code) (Z : MZ) (r : (Int32 × St)) (f : Int32 → Int32 → St → Option (Int32 × St)) : Prop := ∀ (x1 : Int32) (x2 : Int32) (I : St) (H : Heap) (locs : List Loc) (ls : Array Slot), mIn Z s I H locs → lv_has ls 5 [(0, .ref (mH Z)), (1, .int x1), (2, .int x2)] → f x1 x2 I = some r → W p l e mo_readsDeeds_rm s m args below meth c H locs 0 0 (MQ below (Qwr (some (.int r.1)) (mS Z r.2) (mA Z)) args s 0 0 (mA Z)) (F0 m 189 ls [])
def mo_readsDeeds_b189 (k9 : Int32 → Int32 → St → Option (Int32 × St)) (k189 : Int32 → Int32 → St → Option (Int32 × St)) (x1 : Int32) (x2 : Int32) (I : St) : Option (Int32 × St) :=
  bd_ (mo_byteAt I (0 : Int32) x2) fun v1 =>
  bd_ (mo_in v1 (65 : Int32) (72 : Int32)) fun v2 =>
  if v2 = 0 then (al_ 9 (I 7) x1 fun v4 =>
    if v4 = 0 then (some (x2, I))
    else (al_ 2 (I 0) (0 : Int32) fun v6 =>
      if x2 = v6 then (lt_ (upd2 I 2 0 (x1 + 1)) fun I10 =>
        some ((-1 : Int32), I10))
      else (bd_ (mo_byteAt I (0 : Int32) x2) fun v8 =>
        if v8 = (59 : Int32) then (k9 (x1 + 1) (x2 + 1) I)
        else (some (x2, I)))))
  else (bd_ (mo_byteAt I (0 : Int32) x2) fun v11 =>
    lt_ (v11 - (65 : Int32)) fun v12 =>
    al_ 9 (I 7) x1 fun v13 =>
    bd_ (mo_isIn v13 v12) fun v14 =>
    if v14 = 0 then (al_ 9 (I 7) x1 fun v16 =>
      as_ 9 7 I x1 (v16 ||| ((1 : Int32) <<< (v12 &&& 31))) fun I17 =>
      k189 x1 (x2 + 1) I17)
    else (some (x2, I)))
theorem mo_readsDeeds_w189 {p : Program} {l : Launch} {e : Env} {s : State} {m : MethodId} {args : Array Value} {below : List Frame} {meth : Method} {c : Code} {Z : MZ} (C : MCx p s m args meth c cX6_readsDeeds 5 (some .int) Z) {r : (Int32 × St)} {k9 : Int32 → Int32 → St → Option (Int32 × St)} (hk9 : mo_readsDeeds_P9 p l e s m args below meth c Z r k9) {k189 : Int32 → Int32 → St → Option (Int32 × St)} (hk189 : mo_readsDeeds_P189 p l e s m args below meth c Z r k189) : mo_readsDeeds_P189 p l e s m args below meth c Z r (mo_readsDeeds_b189 k9 k189) := by
  intro x1 x2 I H locs ls hM hl h
  obtain ⟨⟨hx, hb, hr, hlocks, hml, hown, hts⟩, hK⟩ := id C
  unfold mo_readsDeeds_b189 at h
  refine lv_aload_n hx hb dX6_readsDeeds_189 rfl (lv_at hl 0 rfl) ?_
  refine lv_iconst (v := 0) hx hb dX6_readsDeeds_190 (by decide) ?_
  refine lv_iload_n hx hb dX6_readsDeeds_191 rfl (lv_at hl 2 rfl) ?_
  obtain ⟨v1, q_v1, h⟩ := bd_e h
  refine m_roI (As := [.int (0 : Int32), .int x2]) (rest := []) C hM.1 (mo_byteAt_met _ Z I (0 : Int32) x2 v1 q_v1) (lw_V q1187 q1189 qs43 q88 q1190) mo_byteAt_hd ⟨rfl, rfl⟩ ⟨Nat.le_of_ble_eq_true rfl, Nat.le_of_ble_eq_true rfl⟩ ⟨Nat.le_refl _, Nat.le_refl _⟩ rfl hl.1 rfl (Nat.le_of_ble_eq_true rfl) dX6_readsDeeds_192 ?_
  refine lv_bipush (v := 65) hx hb dX6_readsDeeds_195 (by decide) ?_
  refine lv_bipush (v := 72) hx hb dX6_readsDeeds_197 (by decide) ?_
  obtain ⟨v2, q_v2, h⟩ := bd_e h
  refine s_roI (As := [.int v1, .int (65 : Int32), .int (72 : Int32)]) (rest := []) C.1 (mo_in_met _ v1 (65 : Int32) (72 : Int32) v2 q_v2) (lw_S q1168 q1169 q88 q1170) mo_in_hd ⟨rfl, rfl⟩ ⟨Nat.le_of_ble_eq_true rfl, Nat.le_of_ble_eq_true rfl⟩ ⟨Nat.le_refl _, Nat.le_refl _⟩ rfl hl.1 rfl (Nat.le_of_ble_eq_true rfl) dX6_readsDeeds_199 ?_
  refine lv_if_eq (tgt := 251) hx hb dX6_readsDeeds_202 (by decide) (fun c3 => ?_) (fun c3 => ?_)
  · have h := ip_ c3 h
    refine lv_aload_n hx hb dX6_readsDeeds_251 rfl (lv_at hl 0 rfl) ?_
    refine gm7 C hM.1 dX6_readsDeeds_252 ?_
    refine lv_iload_n hx hb dX6_readsDeeds_255 rfl (lv_at hl 1 rfl) ?_
    obtain ⟨i_v4, h⟩ := al_e h
    refine m_ald C hM.1 (pos := 6) (k := 7) rfl rfl i_v4 dX6_readsDeeds_256 (fun v4 e_v4 => ?_)
    have h := h v4 e_v4
    refine lv_if_ne (tgt := 262) hx hb dX6_readsDeeds_257 (by decide) (fun c5 => ?_) (fun c5 => ?_)
    · have h := in_ c5 h
      refine lv_iinc (v := (x1 + 1)) (lv' := [(1, .int (x1 + 1)), (0, .ref (mH Z)), (2, .int x2)]) hx hb dX6_readsDeeds_262 hl (k := 1) rfl rfl (by decide) rfl (fun ls hl => ?_)
      refine lv_iload_n hx hb dX6_readsDeeds_265 rfl (lv_at hl 2 rfl) ?_
      refine lv_aload_n hx hb dX6_readsDeeds_266 rfl (lv_at hl 1 rfl) ?_
      refine gm0 C hM.1 dX6_readsDeeds_267 ?_
      refine lv_iconst (v := 0) hx hb dX6_readsDeeds_270 (by decide) ?_
      obtain ⟨i_v6, h⟩ := al_e h
      refine m_ald C hM.1 (pos := 0) (k := 0) rfl rfl i_v6 dX6_readsDeeds_271 (fun v6 e_v6 => ?_)
      have h := h v6 e_v6
      refine lv_icmp_ne (tgt := 282) hx hb dX6_readsDeeds_272 (by decide) (fun c7 => ?_) (fun c7 => ?_)
      · have h := in_ c7 h
        refine lv_aload_n hx hb dX6_readsDeeds_282 rfl (lv_at hl 1 rfl) ?_
        refine lv_iconst (v := 0) hx hb dX6_readsDeeds_283 (by decide) ?_
        refine lv_iload_n hx hb dX6_readsDeeds_284 rfl (lv_at hl 2 rfl) ?_
        obtain ⟨v8, q_v8, h⟩ := bd_e h
        refine m_roI (As := [.int (0 : Int32), .int x2]) (rest := []) C hM.1 (mo_byteAt_met _ Z I (0 : Int32) x2 v8 q_v8) (lw_V q1187 q1189 qs43 q88 q1190) mo_byteAt_hd ⟨rfl, rfl⟩ ⟨Nat.le_of_ble_eq_true rfl, Nat.le_of_ble_eq_true rfl⟩ ⟨Nat.le_refl _, Nat.le_refl _⟩ rfl hl.1 rfl (Nat.le_of_ble_eq_true rfl) dX6_readsDeeds_285 ?_
        refine lv_bipush (v := 59) hx hb dX6_readsDeeds_288 (by decide) ?_
        refine lv_icmp_eq (tgt := 295) hx hb dX6_readsDeeds_290 (by decide) (fun c9 => ?_) (fun c9 => ?_)
        · have h := ip_ c9 h
          refine lv_iinc (v := (x2 + 1)) (lv' := [(2, .int (x2 + 1)), (1, .int (x1 + 1)), (0, .ref (mH Z))]) hx hb dX6_readsDeeds_295 hl (k := 2) rfl rfl (by decide) rfl (fun ls hl => ?_)
          refine lv_goto (tgt := 9) hx hb dX6_readsDeeds_298 (by decide) ?_
          exact hk9 (x1 + 1) (x2 + 1) I _ _ ls hM (lv_sub hl [2, 1, 0] rfl) h
        · have h := in_ c9 h
          refine lv_iload_n hx hb dX6_readsDeeds_293 rfl (lv_at hl 2 rfl) ?_
          have h := so_ h
          subst h
          exact W.iret hx hb hr (fun t ht hW => ⟨rfl, ⟨by rw [ht]; exact hM.1, va_K.moved hW.alike hK⟩, hM.2.F ht⟩) hM.2.2.2 dX6_readsDeeds_294
      · have h := ip_ c7 h
        refine lv_aload_n hx hb dX6_readsDeeds_275 rfl (lv_at hl 1 rfl) ?_
        refine lv_iload_n hx hb dX6_readsDeeds_276 rfl (lv_at hl 0 rfl) ?_
        refine pm2 C hM dX6_readsDeeds_277 (fun H locs I10 e_I10 hM => ?_)
        have h := lt_i h e_I10
        refine lv_iconst (v := -1) hx hb dX6_readsDeeds_280 (by decide) ?_
        have h := so_ h
        subst h
        exact W.iret hx hb hr (fun t ht hW => ⟨rfl, ⟨by rw [ht]; exact hM.1, va_K.moved hW.alike hK⟩, hM.2.F ht⟩) hM.2.2.2 dX6_readsDeeds_281
    · have h := ip_ c5 h
      refine lv_iload_n hx hb dX6_readsDeeds_260 rfl (lv_at hl 2 rfl) ?_
      have h := so_ h
      subst h
      exact W.iret hx hb hr (fun t ht hW => ⟨rfl, ⟨by rw [ht]; exact hM.1, va_K.moved hW.alike hK⟩, hM.2.F ht⟩) hM.2.2.2 dX6_readsDeeds_261
  · have h := in_ c3 h
    refine lv_aload_n hx hb dX6_readsDeeds_205 rfl (lv_at hl 0 rfl) ?_
    refine lv_iconst (v := 0) hx hb dX6_readsDeeds_206 (by decide) ?_
    refine lv_iload_n hx hb dX6_readsDeeds_207 rfl (lv_at hl 2 rfl) ?_
    obtain ⟨v11, q_v11, h⟩ := bd_e h
    refine m_roI (As := [.int (0 : Int32), .int x2]) (rest := []) C hM.1 (mo_byteAt_met _ Z I (0 : Int32) x2 v11 q_v11) (lw_V q1187 q1189 qs43 q88 q1190) mo_byteAt_hd ⟨rfl, rfl⟩ ⟨Nat.le_of_ble_eq_true rfl, Nat.le_of_ble_eq_true rfl⟩ ⟨Nat.le_refl _, Nat.le_refl _⟩ rfl hl.1 rfl (Nat.le_of_ble_eq_true rfl) dX6_readsDeeds_208 ?_
    refine lv_bipush (v := 65) hx hb dX6_readsDeeds_211 (by decide) ?_
    refine lv_isub hx hb dX6_readsDeeds_213 ?_
    refine lv_topi (fun v12 e_v12 => ?_)
    have h := lt_i h e_v12
    refine lv_istore (lv' := [(4, .int v12), (0, .ref (mH Z)), (1, .int x1), (2, .int x2)]) hx hb dX6_readsDeeds_214 hl (by decide) rfl (fun ls hl => ?_)
    refine lv_aload_n hx hb dX6_readsDeeds_216 rfl (lv_at hl 1 rfl) ?_
    refine gm7 C hM.1 dX6_readsDeeds_217 ?_
    refine lv_iload_n hx hb dX6_readsDeeds_220 rfl (lv_at hl 2 rfl) ?_
    obtain ⟨i_v13, h⟩ := al_e h
    refine m_ald C hM.1 (pos := 6) (k := 7) rfl rfl i_v13 dX6_readsDeeds_221 (fun v13 e_v13 => ?_)
    have h := h v13 e_v13
    refine lv_iload hx hb dX6_readsDeeds_222 (lv_at hl 0 rfl) ?_
    obtain ⟨v14, q_v14, h⟩ := bd_e h
    refine s_roI (As := [.int v13, .int v12]) (rest := []) C.1 (mo_isIn_met _ v13 v12 v14 q_v14) (lw_S q1194 q1195 q88 q1196) mo_isIn_hd ⟨rfl, rfl⟩ ⟨Nat.le_of_ble_eq_true rfl, Nat.le_of_ble_eq_true rfl⟩ ⟨Nat.le_refl _, Nat.le_refl _⟩ rfl hl.1 rfl (Nat.le_of_ble_eq_true rfl) dX6_readsDeeds_224 ?_
    refine lv_if_eq (tgt := 232) hx hb dX6_readsDeeds_227 (by decide) (fun c15 => ?_) (fun c15 => ?_)
    · have h := ip_ c15 h
      refine lv_aload_n hx hb dX6_readsDeeds_232 rfl (lv_at hl 1 rfl) ?_
      refine gm7 C hM.1 dX6_readsDeeds_233 ?_
      refine lv_iload_n hx hb dX6_readsDeeds_236 rfl (lv_at hl 2 rfl) ?_
      refine lv_dup2_11 hx hb dX6_readsDeeds_237 rfl rfl ?_
      obtain ⟨i_v16, h⟩ := al_e h
      refine m_ald C hM.1 (pos := 6) (k := 7) rfl rfl i_v16 dX6_readsDeeds_238 (fun v16 e_v16 => ?_)
      have h := h v16 e_v16
      refine lv_iconst (v := 1) hx hb dX6_readsDeeds_239 (by decide) ?_
      refine lv_iload hx hb dX6_readsDeeds_240 (lv_at hl 0 rfl) ?_
      refine lv_ishl hx hb dX6_readsDeeds_242 ?_
      refine lv_ior hx hb dX6_readsDeeds_243 ?_
      obtain ⟨i_I17, h⟩ := as_e h
      refine m_ast C hM (pos := 6) (k := 7) rfl rfl i_I17 dX6_readsDeeds_244 (fun H locs I17 e_I17 hM => ?_)
      have h := h I17 e_I17
      refine lv_iinc (v := (x2 + 1)) (lv' := [(2, .int (x2 + 1)), (4, .int v12), (0, .ref (mH Z)), (1, .int x1)]) hx hb dX6_readsDeeds_245 hl (k := 3) rfl rfl (by decide) rfl (fun ls hl => ?_)
      refine lv_goto (tgt := 189) hx hb dX6_readsDeeds_248 (by decide) ?_
      exact hk189 x1 (x2 + 1) I17 _ _ ls hM (lv_sub hl [2, 3, 0] rfl) h
    · have h := in_ c15 h
      refine lv_iload_n hx hb dX6_readsDeeds_230 rfl (lv_at hl 3 rfl) ?_
      have h := so_ h
      subst h
      exact W.iret hx hb hr (fun t ht hW => ⟨rfl, ⟨by rw [ht]; exact hM.1, va_K.moved hW.alike hK⟩, hM.2.F ht⟩) hM.2.2.2 dX6_readsDeeds_231
def mo_readsDeeds_l189 (k9 : Int32 → Int32 → St → Option (Int32 × St)) (n : Nat) : Int32 → Int32 → St → Option (Int32 × St) := lp (fun _ _ _ => none) (mo_readsDeeds_b189 k9) n
theorem mo_readsDeeds_lw189 {p : Program} {l : Launch} {e : Env} {s : State} {m : MethodId} {args : Array Value} {below : List Frame} {meth : Method} {c : Code} {Z : MZ} (C : MCx p s m args meth c cX6_readsDeeds 5 (some .int) Z) {r : (Int32 × St)} {k9 : Int32 → Int32 → St → Option (Int32 × St)} (hk9 : mo_readsDeeds_P9 p l e s m args below meth c Z r k9) : ∀ n : Nat, mo_readsDeeds_P189 p l e s m args below meth c Z r (mo_readsDeeds_l189 k9 n) := by
  intro n
  induction n with
  | zero => intro x1 x2 I H locs ls hM hl h; exact no_ h
  | succ n ih => exact mo_readsDeeds_w189 C hk9 ih
def mo_readsDeeds_b161 (k9 : Int32 → Int32 → St → Option (Int32 × St)) (x1 : Int32) (x2 : Int32) (t0 : Int32) (t1 : Int32) (I : St) : Option (Int32 × St) :=
  as_ 9 5 I t1 t0 fun I1 =>
  bd_ (mo_byteAt I1 (0 : Int32) (x2 + (3 : Int32))) fun v2 =>
  as_ 9 6 I1 x1 (v2 - (48 : Int32)) fun I3 =>
  as_ 9 7 I3 x1 (0 : Int32) fun I4 =>
  mo_readsDeeds_l189 k9 FU x1 (x2 + 4) I4
theorem mo_readsDeeds_w161 {p : Program} {l : Launch} {e : Env} {s : State} {m : MethodId} {args : Array Value} {below : List Frame} {meth : Method} {c : Code} {Z : MZ} (C : MCx p s m args meth c cX6_readsDeeds 5 (some .int) Z) {r : (Int32 × St)} {k9 : Int32 → Int32 → St → Option (Int32 × St)} (hk9 : mo_readsDeeds_P9 p l e s m args below meth c Z r k9) : mo_readsDeeds_P161 p l e s m args below meth c Z r (mo_readsDeeds_b161 k9) := by
  intro x1 x2 t0 t1 I H locs ls hM hl h
  obtain ⟨⟨hx, hb, hr, hlocks, hml, hown, hts⟩, hK⟩ := id C
  unfold mo_readsDeeds_b161 at h
  obtain ⟨i_I1, h⟩ := as_e h
  refine m_ast C hM (pos := 4) (k := 5) rfl rfl i_I1 dX6_readsDeeds_161 (fun H locs I1 e_I1 hM => ?_)
  have h := h I1 e_I1
  refine lv_aload_n hx hb dX6_readsDeeds_162 rfl (lv_at hl 0 rfl) ?_
  refine gm6 C hM.1 dX6_readsDeeds_163 ?_
  refine lv_iload_n hx hb dX6_readsDeeds_166 rfl (lv_at hl 1 rfl) ?_
  refine lv_aload_n hx hb dX6_readsDeeds_167 rfl (lv_at hl 0 rfl) ?_
  refine lv_iconst (v := 0) hx hb dX6_readsDeeds_168 (by decide) ?_
  refine lv_iload_n hx hb dX6_readsDeeds_169 rfl (lv_at hl 2 rfl) ?_
  refine lv_iconst (v := 3) hx hb dX6_readsDeeds_170 (by decide) ?_
  refine lv_iadd hx hb dX6_readsDeeds_171 ?_
  obtain ⟨v2, q_v2, h⟩ := bd_e h
  refine m_roI (As := [.int (0 : Int32), .int (x2 + (3 : Int32))]) (rest := [.int x1, .ref (mAd Z 6)]) C hM.1 (mo_byteAt_met _ Z I1 (0 : Int32) (x2 + (3 : Int32)) v2 q_v2) (lw_V q1187 q1189 qs43 q88 q1190) mo_byteAt_hd ⟨rfl, rfl⟩ ⟨Nat.le_of_ble_eq_true rfl, Nat.le_of_ble_eq_true rfl⟩ ⟨Nat.le_refl _, Nat.le_refl _⟩ rfl hl.1 rfl (Nat.le_of_ble_eq_true rfl) dX6_readsDeeds_172 ?_
  refine lv_bipush (v := 48) hx hb dX6_readsDeeds_175 (by decide) ?_
  refine lv_isub hx hb dX6_readsDeeds_177 ?_
  obtain ⟨i_I3, h⟩ := as_e h
  refine m_ast C hM (pos := 5) (k := 6) rfl rfl i_I3 dX6_readsDeeds_178 (fun H locs I3 e_I3 hM => ?_)
  have h := h I3 e_I3
  refine lv_aload_n hx hb dX6_readsDeeds_179 rfl (lv_at hl 0 rfl) ?_
  refine gm7 C hM.1 dX6_readsDeeds_180 ?_
  refine lv_iload_n hx hb dX6_readsDeeds_183 rfl (lv_at hl 1 rfl) ?_
  refine lv_iconst (v := 0) hx hb dX6_readsDeeds_184 (by decide) ?_
  obtain ⟨i_I4, h⟩ := as_e h
  refine m_ast C hM (pos := 6) (k := 7) rfl rfl i_I4 dX6_readsDeeds_185 (fun H locs I4 e_I4 hM => ?_)
  have h := h I4 e_I4
  refine lv_iinc (v := (x2 + 4)) (lv' := [(2, .int (x2 + 4)), (0, .ref (mH Z)), (1, .int x1)]) hx hb dX6_readsDeeds_186 hl (k := 2) rfl rfl (by decide) rfl (fun ls hl => ?_)
  exact mo_readsDeeds_lw189 C hk9 FU x1 (x2 + 4) I4 _ _ ls hM (lv_sub hl [1, 2, 0] rfl) h
def mo_readsDeeds_b91 (k9 : Int32 → Int32 → St → Option (Int32 × St)) (x1 : Int32) (x2 : Int32) (x3 : Int32) (I : St) : Option (Int32 × St) :=
  bd_ (mo_byteAt I (0 : Int32) (x2 + (3 : Int32))) fun v1 =>
  bd_ (mo_in v1 (49 : Int32) (57 : Int32)) fun v2 =>
  if v2 = 0 then (some ((x2 + (3 : Int32)), I))
  else (bd_ (mo_byteAt I (0 : Int32) x2) fun v4 =>
    bd_ (mo_kindBy v4) fun v5 =>
    as_ 9 3 I x1 v5 fun I6 =>
    bd_ (mo_byteAt I6 (0 : Int32) (x2 + (1 : Int32))) fun v7 =>
    as_ 9 4 I6 x1 (v7 - (48 : Int32)) fun I8 =>
    if x3 = (114 : Int32) then (mo_readsDeeds_b161 k9 x1 x2 (1 : Int32) x1 I8)
    else (mo_readsDeeds_b161 k9 x1 x2 (0 : Int32) x1 I8))
theorem mo_readsDeeds_w91 {p : Program} {l : Launch} {e : Env} {s : State} {m : MethodId} {args : Array Value} {below : List Frame} {meth : Method} {c : Code} {Z : MZ} (C : MCx p s m args meth c cX6_readsDeeds 5 (some .int) Z) {r : (Int32 × St)} {k9 : Int32 → Int32 → St → Option (Int32 × St)} (hk9 : mo_readsDeeds_P9 p l e s m args below meth c Z r k9) : mo_readsDeeds_P91 p l e s m args below meth c Z r (mo_readsDeeds_b91 k9) := by
  intro x1 x2 x3 I H locs ls hM hl h
  obtain ⟨⟨hx, hb, hr, hlocks, hml, hown, hts⟩, hK⟩ := id C
  unfold mo_readsDeeds_b91 at h
  refine lv_aload_n hx hb dX6_readsDeeds_91 rfl (lv_at hl 0 rfl) ?_
  refine lv_iconst (v := 0) hx hb dX6_readsDeeds_92 (by decide) ?_
  refine lv_iload_n hx hb dX6_readsDeeds_93 rfl (lv_at hl 2 rfl) ?_
  refine lv_iconst (v := 3) hx hb dX6_readsDeeds_94 (by decide) ?_
  refine lv_iadd hx hb dX6_readsDeeds_95 ?_
  obtain ⟨v1, q_v1, h⟩ := bd_e h
  refine m_roI (As := [.int (0 : Int32), .int (x2 + (3 : Int32))]) (rest := []) C hM.1 (mo_byteAt_met _ Z I (0 : Int32) (x2 + (3 : Int32)) v1 q_v1) (lw_V q1187 q1189 qs43 q88 q1190) mo_byteAt_hd ⟨rfl, rfl⟩ ⟨Nat.le_of_ble_eq_true rfl, Nat.le_of_ble_eq_true rfl⟩ ⟨Nat.le_refl _, Nat.le_refl _⟩ rfl hl.1 rfl (Nat.le_of_ble_eq_true rfl) dX6_readsDeeds_96 ?_
  refine lv_bipush (v := 49) hx hb dX6_readsDeeds_99 (by decide) ?_
  refine lv_bipush (v := 57) hx hb dX6_readsDeeds_101 (by decide) ?_
  obtain ⟨v2, q_v2, h⟩ := bd_e h
  refine s_roI (As := [.int v1, .int (49 : Int32), .int (57 : Int32)]) (rest := []) C.1 (mo_in_met _ v1 (49 : Int32) (57 : Int32) v2 q_v2) (lw_S q1168 q1169 q88 q1170) mo_in_hd ⟨rfl, rfl⟩ ⟨Nat.le_of_ble_eq_true rfl, Nat.le_of_ble_eq_true rfl⟩ ⟨Nat.le_refl _, Nat.le_refl _⟩ rfl hl.1 rfl (Nat.le_of_ble_eq_true rfl) dX6_readsDeeds_103 ?_
  refine lv_if_ne (tgt := 113) hx hb dX6_readsDeeds_106 (by decide) (fun c3 => ?_) (fun c3 => ?_)
  · have h := in_ c3 h
    refine lv_aload_n hx hb dX6_readsDeeds_113 rfl (lv_at hl 0 rfl) ?_
    refine gm3 C hM.1 dX6_readsDeeds_114 ?_
    refine lv_iload_n hx hb dX6_readsDeeds_117 rfl (lv_at hl 1 rfl) ?_
    refine lv_aload_n hx hb dX6_readsDeeds_118 rfl (lv_at hl 0 rfl) ?_
    refine lv_iconst (v := 0) hx hb dX6_readsDeeds_119 (by decide) ?_
    refine lv_iload_n hx hb dX6_readsDeeds_120 rfl (lv_at hl 2 rfl) ?_
    obtain ⟨v4, q_v4, h⟩ := bd_e h
    refine m_roI (As := [.int (0 : Int32), .int x2]) (rest := [.int x1, .ref (mAd Z 3)]) C hM.1 (mo_byteAt_met _ Z I (0 : Int32) x2 v4 q_v4) (lw_V q1187 q1189 qs43 q88 q1190) mo_byteAt_hd ⟨rfl, rfl⟩ ⟨Nat.le_of_ble_eq_true rfl, Nat.le_of_ble_eq_true rfl⟩ ⟨Nat.le_refl _, Nat.le_refl _⟩ rfl hl.1 rfl (Nat.le_of_ble_eq_true rfl) dX6_readsDeeds_121 ?_
    obtain ⟨v5, q_v5, h⟩ := bd_e h
    refine s_roI (As := [.int v4]) (rest := [.int x1, .ref (mAd Z 3)]) C.1 (mo_kindBy_met _ v4 v5 q_v5) (lw_S q1191 q1192 q88 q1193) mo_kindBy_hd ⟨rfl, rfl⟩ ⟨Nat.le_of_ble_eq_true rfl, Nat.le_of_ble_eq_true rfl⟩ ⟨Nat.le_refl _, Nat.le_refl _⟩ rfl hl.1 rfl (Nat.le_of_ble_eq_true rfl) dX6_readsDeeds_124 ?_
    obtain ⟨i_I6, h⟩ := as_e h
    refine m_ast C hM (pos := 2) (k := 3) rfl rfl i_I6 dX6_readsDeeds_127 (fun H locs I6 e_I6 hM => ?_)
    have h := h I6 e_I6
    refine lv_aload_n hx hb dX6_readsDeeds_128 rfl (lv_at hl 0 rfl) ?_
    refine gm4 C hM.1 dX6_readsDeeds_129 ?_
    refine lv_iload_n hx hb dX6_readsDeeds_132 rfl (lv_at hl 1 rfl) ?_
    refine lv_aload_n hx hb dX6_readsDeeds_133 rfl (lv_at hl 0 rfl) ?_
    refine lv_iconst (v := 0) hx hb dX6_readsDeeds_134 (by decide) ?_
    refine lv_iload_n hx hb dX6_readsDeeds_135 rfl (lv_at hl 2 rfl) ?_
    refine lv_iconst (v := 1) hx hb dX6_readsDeeds_136 (by decide) ?_
    refine lv_iadd hx hb dX6_readsDeeds_137 ?_
    obtain ⟨v7, q_v7, h⟩ := bd_e h
    refine m_roI (As := [.int (0 : Int32), .int (x2 + (1 : Int32))]) (rest := [.int x1, .ref (mAd Z 4)]) C hM.1 (mo_byteAt_met _ Z I6 (0 : Int32) (x2 + (1 : Int32)) v7 q_v7) (lw_V q1187 q1189 qs43 q88 q1190) mo_byteAt_hd ⟨rfl, rfl⟩ ⟨Nat.le_of_ble_eq_true rfl, Nat.le_of_ble_eq_true rfl⟩ ⟨Nat.le_refl _, Nat.le_refl _⟩ rfl hl.1 rfl (Nat.le_of_ble_eq_true rfl) dX6_readsDeeds_138 ?_
    refine lv_bipush (v := 48) hx hb dX6_readsDeeds_141 (by decide) ?_
    refine lv_isub hx hb dX6_readsDeeds_143 ?_
    obtain ⟨i_I8, h⟩ := as_e h
    refine m_ast C hM (pos := 3) (k := 4) rfl rfl i_I8 dX6_readsDeeds_144 (fun H locs I8 e_I8 hM => ?_)
    have h := h I8 e_I8
    refine lv_aload_n hx hb dX6_readsDeeds_145 rfl (lv_at hl 0 rfl) ?_
    refine gm5 C hM.1 dX6_readsDeeds_146 ?_
    refine lv_iload_n hx hb dX6_readsDeeds_149 rfl (lv_at hl 1 rfl) ?_
    refine lv_iload_n hx hb dX6_readsDeeds_150 rfl (lv_at hl 3 rfl) ?_
    refine lv_bipush (v := 114) hx hb dX6_readsDeeds_151 (by decide) ?_
    refine lv_icmp_ne (tgt := 160) hx hb dX6_readsDeeds_153 (by decide) (fun c9 => ?_) (fun c9 => ?_)
    · have h := in_ c9 h
      refine lv_iconst (v := 0) hx hb dX6_readsDeeds_160 (by decide) ?_
      exact mo_readsDeeds_w161 C hk9 x1 x2 (0 : Int32) x1 I8 _ _ ls hM (lv_sub hl [0, 1, 2] rfl) h
    · have h := ip_ c9 h
      refine lv_iconst (v := 1) hx hb dX6_readsDeeds_156 (by decide) ?_
      refine lv_goto (tgt := 161) hx hb dX6_readsDeeds_157 (by decide) ?_
      exact mo_readsDeeds_w161 C hk9 x1 x2 (1 : Int32) x1 I8 _ _ ls hM (lv_sub hl [0, 1, 2] rfl) h
  · have h := ip_ c3 h
    refine lv_iload_n hx hb dX6_readsDeeds_109 rfl (lv_at hl 2 rfl) ?_
    refine lv_iconst (v := 3) hx hb dX6_readsDeeds_110 (by decide) ?_
    refine lv_iadd hx hb dX6_readsDeeds_111 ?_
    have h := so_ h
    subst h
    exact W.iret hx hb hr (fun t ht hW => ⟨rfl, ⟨by rw [ht]; exact hM.1, va_K.moved hW.alike hK⟩, hM.2.F ht⟩) hM.2.2.2 dX6_readsDeeds_112
def mo_readsDeeds_b23 (k9 : Int32 → Int32 → St → Option (Int32 × St)) (x1 : Int32) (x2 : Int32) (I : St) : Option (Int32 × St) :=
  if x1 = (8 : Int32) then (some (x2, I))
  else (bd_ (mo_byteAt I (0 : Int32) x2) fun v2 =>
    bd_ (mo_kindBy v2) fun v3 =>
    if v3 = (-1 : Int32) then (some (x2, I))
    else (bd_ (mo_byteAt I (0 : Int32) (x2 + (1 : Int32))) fun v5 =>
      bd_ (mo_in v5 (48 : Int32) (53 : Int32)) fun v6 =>
      if v6 = 0 then (some ((x2 + (1 : Int32)), I))
      else (bd_ (mo_byteAt I (0 : Int32) (x2 + (2 : Int32))) fun v8 =>
        if v8 = (114 : Int32) then (mo_readsDeeds_b91 k9 x1 x2 v8 I)
        else (if v8 = (100 : Int32) then (mo_readsDeeds_b91 k9 x1 x2 v8 I)
          else (some ((x2 + (2 : Int32)), I))))))
theorem mo_readsDeeds_w23 {p : Program} {l : Launch} {e : Env} {s : State} {m : MethodId} {args : Array Value} {below : List Frame} {meth : Method} {c : Code} {Z : MZ} (C : MCx p s m args meth c cX6_readsDeeds 5 (some .int) Z) {r : (Int32 × St)} {k9 : Int32 → Int32 → St → Option (Int32 × St)} (hk9 : mo_readsDeeds_P9 p l e s m args below meth c Z r k9) : mo_readsDeeds_P23 p l e s m args below meth c Z r (mo_readsDeeds_b23 k9) := by
  intro x1 x2 I H locs ls hM hl h
  obtain ⟨⟨hx, hb, hr, hlocks, hml, hown, hts⟩, hK⟩ := id C
  unfold mo_readsDeeds_b23 at h
  refine lv_iload_n hx hb dX6_readsDeeds_23 rfl (lv_at hl 1 rfl) ?_
  refine lv_bipush (v := 8) hx hb dX6_readsDeeds_24 (by decide) ?_
  refine lv_icmp_eq (tgt := 42) hx hb dX6_readsDeeds_26 (by decide) (fun c1 => ?_) (fun c1 => ?_)
  · have h := ip_ c1 h
    refine lv_iload_n hx hb dX6_readsDeeds_42 rfl (lv_at hl 2 rfl) ?_
    have h := so_ h
    subst h
    exact W.iret hx hb hr (fun t ht hW => ⟨rfl, ⟨by rw [ht]; exact hM.1, va_K.moved hW.alike hK⟩, hM.2.F ht⟩) hM.2.2.2 dX6_readsDeeds_43
  · have h := in_ c1 h
    refine lv_aload_n hx hb dX6_readsDeeds_29 rfl (lv_at hl 0 rfl) ?_
    refine lv_iconst (v := 0) hx hb dX6_readsDeeds_30 (by decide) ?_
    refine lv_iload_n hx hb dX6_readsDeeds_31 rfl (lv_at hl 2 rfl) ?_
    obtain ⟨v2, q_v2, h⟩ := bd_e h
    refine m_roI (As := [.int (0 : Int32), .int x2]) (rest := []) C hM.1 (mo_byteAt_met _ Z I (0 : Int32) x2 v2 q_v2) (lw_V q1187 q1189 qs43 q88 q1190) mo_byteAt_hd ⟨rfl, rfl⟩ ⟨Nat.le_of_ble_eq_true rfl, Nat.le_of_ble_eq_true rfl⟩ ⟨Nat.le_refl _, Nat.le_refl _⟩ rfl hl.1 rfl (Nat.le_of_ble_eq_true rfl) dX6_readsDeeds_32 ?_
    obtain ⟨v3, q_v3, h⟩ := bd_e h
    refine s_roI (As := [.int v2]) (rest := []) C.1 (mo_kindBy_met _ v2 v3 q_v3) (lw_S q1191 q1192 q88 q1193) mo_kindBy_hd ⟨rfl, rfl⟩ ⟨Nat.le_of_ble_eq_true rfl, Nat.le_of_ble_eq_true rfl⟩ ⟨Nat.le_refl _, Nat.le_refl _⟩ rfl hl.1 rfl (Nat.le_of_ble_eq_true rfl) dX6_readsDeeds_35 ?_
    refine lv_iconst (v := -1) hx hb dX6_readsDeeds_38 (by decide) ?_
    refine lv_icmp_ne (tgt := 44) hx hb dX6_readsDeeds_39 (by decide) (fun c4 => ?_) (fun c4 => ?_)
    · have h := in_ c4 h
      refine lv_aload_n hx hb dX6_readsDeeds_44 rfl (lv_at hl 0 rfl) ?_
      refine lv_iconst (v := 0) hx hb dX6_readsDeeds_45 (by decide) ?_
      refine lv_iload_n hx hb dX6_readsDeeds_46 rfl (lv_at hl 2 rfl) ?_
      refine lv_iconst (v := 1) hx hb dX6_readsDeeds_47 (by decide) ?_
      refine lv_iadd hx hb dX6_readsDeeds_48 ?_
      obtain ⟨v5, q_v5, h⟩ := bd_e h
      refine m_roI (As := [.int (0 : Int32), .int (x2 + (1 : Int32))]) (rest := []) C hM.1 (mo_byteAt_met _ Z I (0 : Int32) (x2 + (1 : Int32)) v5 q_v5) (lw_V q1187 q1189 qs43 q88 q1190) mo_byteAt_hd ⟨rfl, rfl⟩ ⟨Nat.le_of_ble_eq_true rfl, Nat.le_of_ble_eq_true rfl⟩ ⟨Nat.le_refl _, Nat.le_refl _⟩ rfl hl.1 rfl (Nat.le_of_ble_eq_true rfl) dX6_readsDeeds_49 ?_
      refine lv_bipush (v := 48) hx hb dX6_readsDeeds_52 (by decide) ?_
      refine lv_bipush (v := 53) hx hb dX6_readsDeeds_54 (by decide) ?_
      obtain ⟨v6, q_v6, h⟩ := bd_e h
      refine s_roI (As := [.int v5, .int (48 : Int32), .int (53 : Int32)]) (rest := []) C.1 (mo_in_met _ v5 (48 : Int32) (53 : Int32) v6 q_v6) (lw_S q1168 q1169 q88 q1170) mo_in_hd ⟨rfl, rfl⟩ ⟨Nat.le_of_ble_eq_true rfl, Nat.le_of_ble_eq_true rfl⟩ ⟨Nat.le_refl _, Nat.le_refl _⟩ rfl hl.1 rfl (Nat.le_of_ble_eq_true rfl) dX6_readsDeeds_56 ?_
      refine lv_if_ne (tgt := 66) hx hb dX6_readsDeeds_59 (by decide) (fun c7 => ?_) (fun c7 => ?_)
      · have h := in_ c7 h
        refine lv_aload_n hx hb dX6_readsDeeds_66 rfl (lv_at hl 0 rfl) ?_
        refine lv_iconst (v := 0) hx hb dX6_readsDeeds_67 (by decide) ?_
        refine lv_iload_n hx hb dX6_readsDeeds_68 rfl (lv_at hl 2 rfl) ?_
        refine lv_iconst (v := 2) hx hb dX6_readsDeeds_69 (by decide) ?_
        refine lv_iadd hx hb dX6_readsDeeds_70 ?_
        obtain ⟨v8, q_v8, h⟩ := bd_e h
        refine m_roI (As := [.int (0 : Int32), .int (x2 + (2 : Int32))]) (rest := []) C hM.1 (mo_byteAt_met _ Z I (0 : Int32) (x2 + (2 : Int32)) v8 q_v8) (lw_V q1187 q1189 qs43 q88 q1190) mo_byteAt_hd ⟨rfl, rfl⟩ ⟨Nat.le_of_ble_eq_true rfl, Nat.le_of_ble_eq_true rfl⟩ ⟨Nat.le_refl _, Nat.le_refl _⟩ rfl hl.1 rfl (Nat.le_of_ble_eq_true rfl) dX6_readsDeeds_71 ?_
        refine lv_istore_n (lv' := [(3, .int v8), (0, .ref (mH Z)), (1, .int x1), (2, .int x2)]) hx hb dX6_readsDeeds_74 rfl hl (by decide) rfl (fun ls hl => ?_)
        refine lv_iload_n hx hb dX6_readsDeeds_75 rfl (lv_at hl 0 rfl) ?_
        refine lv_bipush (v := 114) hx hb dX6_readsDeeds_76 (by decide) ?_
        refine lv_icmp_eq (tgt := 91) hx hb dX6_readsDeeds_78 (by decide) (fun c9 => ?_) (fun c9 => ?_)
        · have h := ip_ c9 h
          exact mo_readsDeeds_w91 C hk9 x1 x2 v8 I _ _ ls hM (lv_sub hl [1, 2, 3, 0] rfl) h
        · have h := in_ c9 h
          refine lv_iload_n hx hb dX6_readsDeeds_81 rfl (lv_at hl 0 rfl) ?_
          refine lv_bipush (v := 100) hx hb dX6_readsDeeds_82 (by decide) ?_
          refine lv_icmp_eq (tgt := 91) hx hb dX6_readsDeeds_84 (by decide) (fun c10 => ?_) (fun c10 => ?_)
          · have h := ip_ c10 h
            exact mo_readsDeeds_w91 C hk9 x1 x2 v8 I _ _ ls hM (lv_sub hl [1, 2, 3, 0] rfl) h
          · have h := in_ c10 h
            refine lv_iload_n hx hb dX6_readsDeeds_87 rfl (lv_at hl 3 rfl) ?_
            refine lv_iconst (v := 2) hx hb dX6_readsDeeds_88 (by decide) ?_
            refine lv_iadd hx hb dX6_readsDeeds_89 ?_
            have h := so_ h
            subst h
            exact W.iret hx hb hr (fun t ht hW => ⟨rfl, ⟨by rw [ht]; exact hM.1, va_K.moved hW.alike hK⟩, hM.2.F ht⟩) hM.2.2.2 dX6_readsDeeds_90
      · have h := ip_ c7 h
        refine lv_iload_n hx hb dX6_readsDeeds_62 rfl (lv_at hl 2 rfl) ?_
        refine lv_iconst (v := 1) hx hb dX6_readsDeeds_63 (by decide) ?_
        refine lv_iadd hx hb dX6_readsDeeds_64 ?_
        have h := so_ h
        subst h
        exact W.iret hx hb hr (fun t ht hW => ⟨rfl, ⟨by rw [ht]; exact hM.1, va_K.moved hW.alike hK⟩, hM.2.F ht⟩) hM.2.2.2 dX6_readsDeeds_65
    · have h := ip_ c4 h
      refine lv_iload_n hx hb dX6_readsDeeds_42 rfl (lv_at hl 2 rfl) ?_
      have h := so_ h
      subst h
      exact W.iret hx hb hr (fun t ht hW => ⟨rfl, ⟨by rw [ht]; exact hM.1, va_K.moved hW.alike hK⟩, hM.2.F ht⟩) hM.2.2.2 dX6_readsDeeds_43
def mo_readsDeeds_b9 (k9 : Int32 → Int32 → St → Option (Int32 × St)) (x1 : Int32) (x2 : Int32) (I : St) : Option (Int32 × St) :=
  al_ 2 (I 0) (0 : Int32) fun v1 =>
  if x2 < v1 then (mo_readsDeeds_b23 k9 x1 x2 I)
  else (if x2 ≤ 0 then (some ((-1 : Int32), I))
    else (mo_readsDeeds_b23 k9 x1 x2 I))
theorem mo_readsDeeds_w9 {p : Program} {l : Launch} {e : Env} {s : State} {m : MethodId} {args : Array Value} {below : List Frame} {meth : Method} {c : Code} {Z : MZ} (C : MCx p s m args meth c cX6_readsDeeds 5 (some .int) Z) {r : (Int32 × St)} {k9 : Int32 → Int32 → St → Option (Int32 × St)} (hk9 : mo_readsDeeds_P9 p l e s m args below meth c Z r k9) : mo_readsDeeds_P9 p l e s m args below meth c Z r (mo_readsDeeds_b9 k9) := by
  intro x1 x2 I H locs ls hM hl h
  obtain ⟨⟨hx, hb, hr, hlocks, hml, hown, hts⟩, hK⟩ := id C
  unfold mo_readsDeeds_b9 at h
  refine lv_iload_n hx hb dX6_readsDeeds_9 rfl (lv_at hl 2 rfl) ?_
  refine lv_aload_n hx hb dX6_readsDeeds_10 rfl (lv_at hl 0 rfl) ?_
  refine gm0 C hM.1 dX6_readsDeeds_11 ?_
  refine lv_iconst (v := 0) hx hb dX6_readsDeeds_14 (by decide) ?_
  obtain ⟨i_v1, h⟩ := al_e h
  refine m_ald C hM.1 (pos := 0) (k := 0) rfl rfl i_v1 dX6_readsDeeds_15 (fun v1 e_v1 => ?_)
  have h := h v1 e_v1
  refine lv_icmp_lt (tgt := 23) hx hb dX6_readsDeeds_16 (by decide) (fun c2 => ?_) (fun c2 => ?_)
  · have h := ip_ c2 h
    exact mo_readsDeeds_w23 C hk9 x1 x2 I _ _ ls hM (lv_sub hl [0, 1, 2] rfl) h
  · have h := in_ c2 h
    refine lv_iload_n hx hb dX6_readsDeeds_19 rfl (lv_at hl 2 rfl) ?_
    refine lv_if_le (tgt := 301) hx hb dX6_readsDeeds_20 (by decide) (fun c3 => ?_) (fun c3 => ?_)
    · have h := ip_ c3 h
      refine lv_iconst (v := -1) hx hb dX6_readsDeeds_301 (by decide) ?_
      have h := so_ h
      subst h
      exact W.iret hx hb hr (fun t ht hW => ⟨rfl, ⟨by rw [ht]; exact hM.1, va_K.moved hW.alike hK⟩, hM.2.F ht⟩) hM.2.2.2 dX6_readsDeeds_302
    · have h := in_ c3 h
      exact mo_readsDeeds_w23 C hk9 x1 x2 I _ _ ls hM (lv_sub hl [0, 1, 2] rfl) h
def mo_readsDeeds_l9 (n : Nat) : Int32 → Int32 → St → Option (Int32 × St) := lp (fun _ _ _ => none) (mo_readsDeeds_b9) n
theorem mo_readsDeeds_lw9 {p : Program} {l : Launch} {e : Env} {s : State} {m : MethodId} {args : Array Value} {below : List Frame} {meth : Method} {c : Code} {Z : MZ} (C : MCx p s m args meth c cX6_readsDeeds 5 (some .int) Z) {r : (Int32 × St)} : ∀ n : Nat, mo_readsDeeds_P9 p l e s m args below meth c Z r (mo_readsDeeds_l9 n) := by
  intro n
  induction n with
  | zero => intro x1 x2 I H locs ls hM hl h; exact no_ h
  | succ n ih => exact mo_readsDeeds_w9 C ih
def mo_readsDeeds (I : St) : Option (Int32 × St) :=
  lt_ (upd2 I 2 0 (0 : Int32)) fun I1 =>
  mo_readsDeeds_l9 FU (0 : Int32) (0 : Int32) I1
theorem mo_readsDeeds_w0 {p : Program} {l : Launch} {e : Env} {s : State} {m : MethodId} {args : Array Value} {below : List Frame} {meth : Method} {c : Code} {Z : MZ} (C : MCx p s m args meth c cX6_readsDeeds 5 (some .int) Z) {r : (Int32 × St)} : mo_readsDeeds_P0 p l e s m args below meth c Z r (mo_readsDeeds) := by
  intro I H locs ls hM hl h
  obtain ⟨⟨hx, hb, hr, hlocks, hml, hown, hts⟩, hK⟩ := id C
  unfold mo_readsDeeds at h
  refine lv_aload_n hx hb dX6_readsDeeds_0 rfl (lv_at hl 0 rfl) ?_
  refine lv_iconst (v := 0) hx hb dX6_readsDeeds_1 (by decide) ?_
  refine pm2 C hM dX6_readsDeeds_2 (fun H locs I1 e_I1 hM => ?_)
  have h := lt_i h e_I1
  refine lv_iconst (v := 0) hx hb dX6_readsDeeds_5 (by decide) ?_
  refine lv_istore_n (lv' := [(1, .int (0 : Int32)), (0, .ref (mH Z))]) hx hb dX6_readsDeeds_6 rfl hl (by decide) rfl (fun ls hl => ?_)
  refine lv_iconst (v := 0) hx hb dX6_readsDeeds_7 (by decide) ?_
  refine lv_istore_n (lv' := [(2, .int (0 : Int32)), (1, .int (0 : Int32)), (0, .ref (mH Z))]) hx hb dX6_readsDeeds_8 rfl hl (by decide) rfl (fun ls hl => ?_)
  exact mo_readsDeeds_lw9 C FU (0 : Int32) (0 : Int32) I1 _ _ ls hM (lv_sub hl [2, 1, 0] rfl) h
theorem mo_readsDeeds_hd : yX6_readsDeeds.cls = RX6 ∧ yX6_readsDeeds.cls ≠ "java/lang/invoke/MethodHandle" ∧ yX6_readsDeeds.cls ≠ "java/lang/invoke/VarHandle" ∧ (parseMethodDescriptor yX6_readsDeeds.desc).map (fun d => d.parameters.length) = some 0 := by decide +kernel
theorem mo_readsDeeds_met (l : Launch) (Z : MZ) (I : St) (r : (Int32 × St)) (h : mo_readsDeeds I = some r) : Met l yX6_readsDeeds (ws_ yX6_readsDeeds cX6_readsDeeds 5 (some .int)) mo_readsDeeds_rm (va_Pc [.ref (mH Z)] (mS Z I)) (Qwr (some (.int r.1)) (mS Z r.2) (mA Z)) 0 0 (mA Z) := by
  refine Met.ofW (cc := cX6_readsDeeds) (maxL := 5) (ret := some .int) (by decide) rfl ?_
  intro p e s m args below meth c s₁ B hml hv
  obtain ⟨rfl, hv⟩ := hv
  have hts := atoms_spec (ws := ws_ yX6_readsDeeds cX6_readsDeeds 5 (some .int)) B.pre
  have hts : ∀ w ∈ lw_all, w.before _ s = true := fun w h => hts w (List.mem_cons_of_mem _ h)
  have C : SCx p s m _ meth c cX6_readsDeeds 5 (some .int) RX6 := ⟨B.exec, B.bytes, B.returns, B.notSynchronized, hml, findClass_of_methodNamed B.named, hts⟩
  have hl := lv_entry [.ref (mH Z)] (n := 5) (Nat.le_of_ble_eq_true rfl)
  rw [lg_entry_eq]
  generalize (lg_sl [.ref (mH Z)] ++ List.replicate (5 - (lg_sl [.ref (mH Z)]).length) Slot.unset).toArray = ls at hl ⊢
  have C : MCx p s m _ meth c _ _ _ Z := ⟨C, hv.2⟩
  have hM : mIn Z s I s.heap [] := ⟨hv.1, va_S.rf⟩
  exact mo_readsDeeds_w0 C  I _ _ ls hM hl h

/-! SecondChancesModel.noRules()V -/
def mo_noRules_rm : Room := { frames := 0, cells := 0, slots := 0, locals := 0 }
def mo_noRules_P0 (p : Program) (l : Launch) (e : Env) (s : State) (m : MethodId) (args : Array Value) (below : List Frame) (meth : Method) (c : Code) (Z : MZ) (r : St) (f : St → Option St) : Prop := ∀ (I : St) (H : Heap) (locs : List Loc) (ls : Array Slot), mIn Z s I H locs → lv_has ls 2 [(0, .ref (mH Z))] → f  I = some r → W p l e mo_noRules_rm s m args below meth c H locs 0 0 (MQ below (Qwr (none) (mS Z r) (mA Z)) args s 0 0 (mA Z)) (F0 m 0 ls [])
def mo_noRules_P7 (p : Program) (l : Launch) (e : Env) (s : State) (m : MethodId) (args : Array Value) (below : List Frame) (meth : Method) (c : Code) (Z : MZ) (r : St) (f : Int32 → St → Option St) : Prop := ∀ (x1 : Int32) (I : St) (H : Heap) (locs : List Loc) (ls : Array Slot), mIn Z s I H locs → lv_has ls 2 [(0, .ref (mH Z)), (1, .int x1)] → f x1 I = some r → W p l e mo_noRules_rm s m args below meth c H locs 0 0 (MQ below (Qwr (none) (mS Z r) (mA Z)) args s 0 0 (mA Z)) (F0 m 7 ls [])
def mo_noRules_b7 (k7 : Int32 → St → Option St) (x1 : Int32) (I : St) : Option St :=
  if (4 : Int32) ≤ x1 then (some I)
  else (as_ 4 9 I x1 (0 : Int32) fun I2 =>
    as_ 4 10 I2 x1 (0 : Int32) fun I3 =>
    as_ 4 11 I3 x1 (0 : Int32) fun I4 =>
    k7 (x1 + 1) I4)
theorem mo_noRules_w7 {p : Program} {l : Launch} {e : Env} {s : State} {m : MethodId} {args : Array Value} {below : List Frame} {meth : Method} {c : Code} {Z : MZ} (C : MCx p s m args meth c cX6_noRules 2 (none) Z) {r : St} {k7 : Int32 → St → Option St} (hk7 : mo_noRules_P7 p l e s m args below meth c Z r k7) : mo_noRules_P7 p l e s m args below meth c Z r (mo_noRules_b7 k7) := by
  intro x1 I H locs ls hM hl h
  obtain ⟨⟨hx, hb, hr, hlocks, hml, hown, hts⟩, hK⟩ := id C
  unfold mo_noRules_b7 at h
  refine lv_iload_n hx hb dX6_noRules_7 rfl (lv_at hl 1 rfl) ?_
  refine lv_iconst (v := 4) hx hb dX6_noRules_8 (by decide) ?_
  refine lv_icmp_ge (tgt := 39) hx hb dX6_noRules_9 (by decide) (fun c1 => ?_) (fun c1 => ?_)
  · have h := ip_ c1 h
    have h := so_ h
    subst h
    exact W.vret hx hb hr (fun t ht hW => ⟨rfl, ⟨by rw [ht]; exact hM.1, va_K.moved hW.alike hK⟩, hM.2.F ht⟩) hM.2.2.2 dX6_noRules_39
  · have h := in_ c1 h
    refine lv_aload_n hx hb dX6_noRules_12 rfl (lv_at hl 0 rfl) ?_
    refine gm9 C hM.1 dX6_noRules_13 ?_
    refine lv_iload_n hx hb dX6_noRules_16 rfl (lv_at hl 1 rfl) ?_
    refine lv_iconst (v := 0) hx hb dX6_noRules_17 (by decide) ?_
    obtain ⟨i_I2, h⟩ := as_e h
    refine m_ast C hM (pos := 7) (k := 9) rfl rfl i_I2 dX6_noRules_18 (fun H locs I2 e_I2 hM => ?_)
    have h := h I2 e_I2
    refine lv_aload_n hx hb dX6_noRules_19 rfl (lv_at hl 0 rfl) ?_
    refine gm10 C hM.1 dX6_noRules_20 ?_
    refine lv_iload_n hx hb dX6_noRules_23 rfl (lv_at hl 1 rfl) ?_
    refine lv_iconst (v := 0) hx hb dX6_noRules_24 (by decide) ?_
    obtain ⟨i_I3, h⟩ := as_e h
    refine m_ast C hM (pos := 8) (k := 10) rfl rfl i_I3 dX6_noRules_25 (fun H locs I3 e_I3 hM => ?_)
    have h := h I3 e_I3
    refine lv_aload_n hx hb dX6_noRules_26 rfl (lv_at hl 0 rfl) ?_
    refine gm11 C hM.1 dX6_noRules_27 ?_
    refine lv_iload_n hx hb dX6_noRules_30 rfl (lv_at hl 1 rfl) ?_
    refine lv_iconst (v := 0) hx hb dX6_noRules_31 (by decide) ?_
    obtain ⟨i_I4, h⟩ := as_e h
    refine m_ast C hM (pos := 9) (k := 11) rfl rfl i_I4 dX6_noRules_32 (fun H locs I4 e_I4 hM => ?_)
    have h := h I4 e_I4
    refine lv_iinc (v := (x1 + 1)) (lv' := [(1, .int (x1 + 1)), (0, .ref (mH Z))]) hx hb dX6_noRules_33 hl (k := 1) rfl rfl (by decide) rfl (fun ls hl => ?_)
    refine lv_goto (tgt := 7) hx hb dX6_noRules_36 (by decide) ?_
    exact hk7 (x1 + 1) I4 _ _ ls hM (lv_sub hl [1, 0] rfl) h
def mo_noRules_l7 (n : Nat) : Int32 → St → Option St := lp (fun _ _ => none) (mo_noRules_b7) n
theorem mo_noRules_lw7 {p : Program} {l : Launch} {e : Env} {s : State} {m : MethodId} {args : Array Value} {below : List Frame} {meth : Method} {c : Code} {Z : MZ} (C : MCx p s m args meth c cX6_noRules 2 (none) Z) {r : St} : ∀ n : Nat, mo_noRules_P7 p l e s m args below meth c Z r (mo_noRules_l7 n) := by
  intro n
  induction n with
  | zero => intro x1 I H locs ls hM hl h; exact no_ h
  | succ n ih => exact mo_noRules_w7 C ih
def mo_noRules (I : St) : Option St :=
  lt_ (upd2 I 8 0 (0 : Int32)) fun I1 =>
  mo_noRules_l7 FU (0 : Int32) I1
theorem mo_noRules_w0 {p : Program} {l : Launch} {e : Env} {s : State} {m : MethodId} {args : Array Value} {below : List Frame} {meth : Method} {c : Code} {Z : MZ} (C : MCx p s m args meth c cX6_noRules 2 (none) Z) {r : St} : mo_noRules_P0 p l e s m args below meth c Z r (mo_noRules) := by
  intro I H locs ls hM hl h
  obtain ⟨⟨hx, hb, hr, hlocks, hml, hown, hts⟩, hK⟩ := id C
  unfold mo_noRules at h
  refine lv_aload_n hx hb dX6_noRules_0 rfl (lv_at hl 0 rfl) ?_
  refine lv_iconst (v := 0) hx hb dX6_noRules_1 (by decide) ?_
  refine pm8 C hM dX6_noRules_2 (fun H locs I1 e_I1 hM => ?_)
  have h := lt_i h e_I1
  refine lv_iconst (v := 0) hx hb dX6_noRules_5 (by decide) ?_
  refine lv_istore_n (lv' := [(1, .int (0 : Int32)), (0, .ref (mH Z))]) hx hb dX6_noRules_6 rfl hl (by decide) rfl (fun ls hl => ?_)
  exact mo_noRules_lw7 C FU (0 : Int32) I1 _ _ ls hM (lv_sub hl [1, 0] rfl) h
theorem mo_noRules_hd : yX6_noRules.cls = RX6 ∧ yX6_noRules.cls ≠ "java/lang/invoke/MethodHandle" ∧ yX6_noRules.cls ≠ "java/lang/invoke/VarHandle" ∧ (parseMethodDescriptor yX6_noRules.desc).map (fun d => d.parameters.length) = some 0 := by decide +kernel
theorem mo_noRules_met (l : Launch) (Z : MZ) (I : St) (r : St) (h : mo_noRules I = some r) : Met l yX6_noRules (ws_ yX6_noRules cX6_noRules 2 (none)) mo_noRules_rm (va_Pc [.ref (mH Z)] (mS Z I)) (Qwr (none) (mS Z r) (mA Z)) 0 0 (mA Z) := by
  refine Met.ofW (cc := cX6_noRules) (maxL := 2) (ret := none) (by decide) rfl ?_
  intro p e s m args below meth c s₁ B hml hv
  obtain ⟨rfl, hv⟩ := hv
  have hts := atoms_spec (ws := ws_ yX6_noRules cX6_noRules 2 (none)) B.pre
  have hts : ∀ w ∈ lw_all, w.before _ s = true := fun w h => hts w (List.mem_cons_of_mem _ h)
  have C : SCx p s m _ meth c cX6_noRules 2 (none) RX6 := ⟨B.exec, B.bytes, B.returns, B.notSynchronized, hml, findClass_of_methodNamed B.named, hts⟩
  have hl := lv_entry [.ref (mH Z)] (n := 2) (Nat.le_of_ble_eq_true rfl)
  rw [lg_entry_eq]
  generalize (lg_sl [.ref (mH Z)] ++ List.replicate (2 - (lg_sl [.ref (mH Z)]).length) Slot.unset).toArray = ls at hl ⊢
  have C : MCx p s m _ meth c _ _ _ Z := ⟨C, hv.2⟩
  have hM : mIn Z s I s.heap [] := ⟨hv.1, va_S.rf⟩
  exact mo_noRules_w0 C  I _ _ ls hM hl h

/-! SecondChancesModel.readsRules()I -/
def mo_readsRules_rm : Room := { frames := 1, cells := 0, slots := 0, locals := 22 }
def mo_readsRules_P0 (p : Program) (l : Launch) (e : Env) (s : State) (m : MethodId) (args : Array Value) (below : List Frame) (meth : Method) (c : Code) (Z : MZ) (r : (Int32 × St)) (f : St → Option (Int32 × St)) : Prop := ∀ (I : St) (H : Heap) (locs : List Loc) (ls : Array Slot), mIn Z s I H locs → lv_has ls 3 [(0, .ref (mH Z))] → f  I = some r → W p l e mo_readsRules_rm s m args below meth c H locs 0 0 (MQ below (Qwr (some (.int r.1)) (mS Z r.2) (mA Z)) args s 0 0 (mA Z)) (F0 m 0 ls [])
def mo_readsRules_P6 (p : Program) (l : Launch) (e : Env) (s : State) (m : MethodId) (args : Array Value) (below : List Frame) (meth : Method) (c : Code) (Z : MZ) (r : (Int32 × St)) (f : Int32 → St → Option (Int32 × St)) : Prop := ∀ (x1 : Int32) (I : St) (H : Heap) (locs : List Loc) (ls : Array Slot), mIn Z s I H locs → lv_has ls 3 [(0, .ref (mH Z)), (1, .int x1)] → f x1 I = some r → W p l e mo_readsRules_rm s m args below meth c H locs 0 0 (MQ below (Qwr (some (.int r.1)) (mS Z r.2) (mA Z)) args s 0 0 (mA Z)) (F0 m 6 ls [])
def mo_readsRules_P20 (p : Program) (l : Launch) (e : Env) (s : State) (m : MethodId) (args : Array Value) (below : List Frame) (meth : Method) (c : Code) (Z : MZ) (r : (Int32 × St)) (f : Int32 → St → Option (Int32 × St)) : Prop := ∀ (x1 : Int32) (I : St) (H : Heap) (locs : List Loc) (ls : Array Slot), mIn Z s I H locs → lv_has ls 3 [(0, .ref (mH Z)), (1, .int x1)] → f x1 I = some r → W p l e mo_readsRules_rm s m args below meth c H locs 0 0 (MQ below (Qwr (some (.int r.1)) (mS Z r.2) (mA Z)) args s 0 0 (mA Z)) (F0 m 20 ls [])
def mo_readsRules_P100 (p : Program) (l : Launch) (e : Env) (s : State) (m : MethodId) (args : Array Value) (below : List Frame) (meth : Method) (c : Code) (Z : MZ) (r : (Int32 × St)) (f : Int32 → Int32 → Int32 → Int32 → St → Option (Int32 × St)) : Prop := ∀ (x1 : Int32) (x2 : Int32) (t0 : Int32) (t1 : Int32) (I : St) (H : Heap) (locs : List Loc) (ls : Array Slot), mIn Z s I H locs → lv_has ls 3 [(0, .ref (mH Z)), (1, .int x1), (2, .int x2)] → f x1 x2 t0 t1 I = some r → W p l e mo_readsRules_rm s m args below meth c H locs 0 0 (MQ below (Qwr (some (.int r.1)) (mS Z r.2) (mA Z)) args s 0 0 (mA Z)) (F0 m 100 ls [.int t0, .int t1, .ref (mAd Z 10)])
def mo_readsRules_P131 (p : Program) (l : Launch) (e : Env) (s : State) (m : MethodId) (args : Array Value) (below : List Frame) (meth : Method) (c : Code) (Z : MZ) (r : (Int32 × St)) (f : Int32 → Int32 → Int32 → Int32 → St → Option (Int32 × St)) : Prop := ∀ (x1 : Int32) (x2 : Int32) (t0 : Int32) (t1 : Int32) (I : St) (H : Heap) (locs : List Loc) (ls : Array Slot), mIn Z s I H locs → lv_has ls 3 [(0, .ref (mH Z)), (1, .int x1), (2, .int x2)] → f x1 x2 t0 t1 I = some r → W p l e mo_readsRules_rm s m args below meth c H locs 0 0 (MQ below (Qwr (some (.int r.1)) (mS Z r.2) (mA Z)) args s 0 0 (mA Z)) (F0 m 131 ls [.int t0, .int t1, .ref (mAd Z 11)])
def mo_readsRules_b131 (k6 : Int32 → St → Option (Int32 × St)) (x1 : Int32) (x2 : Int32) (t0 : Int32) (t1 : Int32) (I : St) : Option (Int32 × St) :=
  as_ 4 11 I t1 t0 fun I1 =>
  al_ 4 (I1 11) x2 fun v2 =>
  lt_ (x1 + v2) fun v3 =>
  lt_ (upd2 I1 8 0 ((I1 8 0) + (1 : Int32))) fun I4 =>
  al_ 2 (I4 0) (1 : Int32) fun v5 =>
  if v3 = v5 then (some ((-1 : Int32), I4))
  else (bd_ (mo_byteAt I4 (1 : Int32) v3) fun v7 =>
    if v7 = (59 : Int32) then (k6 (v3 + 1) I4)
    else (some (v3, I4)))
theorem mo_readsRules_w131 {p : Program} {l : Launch} {e : Env} {s : State} {m : MethodId} {args : Array Value} {below : List Frame} {meth : Method} {c : Code} {Z : MZ} (C : MCx p s m args meth c cX6_readsRules 3 (some .int) Z) {r : (Int32 × St)} {k6 : Int32 → St → Option (Int32 × St)} (hk6 : mo_readsRules_P6 p l e s m args below meth c Z r k6) : mo_readsRules_P131 p l e s m args below meth c Z r (mo_readsRules_b131 k6) := by
  intro x1 x2 t0 t1 I H locs ls hM hl h
  obtain ⟨⟨hx, hb, hr, hlocks, hml, hown, hts⟩, hK⟩ := id C
  unfold mo_readsRules_b131 at h
  obtain ⟨i_I1, h⟩ := as_e h
  refine m_ast C hM (pos := 9) (k := 11) rfl rfl i_I1 dX6_readsRules_131 (fun H locs I1 e_I1 hM => ?_)
  have h := h I1 e_I1
  refine lv_iload_n hx hb dX6_readsRules_132 rfl (lv_at hl 1 rfl) ?_
  refine lv_aload_n hx hb dX6_readsRules_133 rfl (lv_at hl 0 rfl) ?_
  refine gm11 C hM.1 dX6_readsRules_134 ?_
  refine lv_iload_n hx hb dX6_readsRules_137 rfl (lv_at hl 2 rfl) ?_
  obtain ⟨i_v2, h⟩ := al_e h
  refine m_ald C hM.1 (pos := 9) (k := 11) rfl rfl i_v2 dX6_readsRules_138 (fun v2 e_v2 => ?_)
  have h := h v2 e_v2
  refine lv_iadd hx hb dX6_readsRules_139 ?_
  refine lv_topi (fun v3 e_v3 => ?_)
  have h := lt_i h e_v3
  refine lv_istore_n (lv' := [(1, .int v3), (0, .ref (mH Z)), (2, .int x2)]) hx hb dX6_readsRules_140 rfl hl (by decide) rfl (fun ls hl => ?_)
  refine lv_aload_n hx hb dX6_readsRules_141 rfl (lv_at hl 1 rfl) ?_
  refine lv_dup hx hb dX6_readsRules_142 rfl ?_
  refine gm8 C hM.1 dX6_readsRules_143 ?_
  refine lv_iconst (v := 1) hx hb dX6_readsRules_146 (by decide) ?_
  refine lv_iadd hx hb dX6_readsRules_147 ?_
  refine pm8 C hM dX6_readsRules_148 (fun H locs I4 e_I4 hM => ?_)
  have h := lt_i h e_I4
  refine lv_iload_n hx hb dX6_readsRules_151 rfl (lv_at hl 0 rfl) ?_
  refine lv_aload_n hx hb dX6_readsRules_152 rfl (lv_at hl 1 rfl) ?_
  refine gm0 C hM.1 dX6_readsRules_153 ?_
  refine lv_iconst (v := 1) hx hb dX6_readsRules_156 (by decide) ?_
  obtain ⟨i_v5, h⟩ := al_e h
  refine m_ald C hM.1 (pos := 0) (k := 0) rfl rfl i_v5 dX6_readsRules_157 (fun v5 e_v5 => ?_)
  have h := h v5 e_v5
  refine lv_icmp_ne (tgt := 163) hx hb dX6_readsRules_158 (by decide) (fun c6 => ?_) (fun c6 => ?_)
  · have h := in_ c6 h
    refine lv_aload_n hx hb dX6_readsRules_163 rfl (lv_at hl 1 rfl) ?_
    refine lv_iconst (v := 1) hx hb dX6_readsRules_164 (by decide) ?_
    refine lv_iload_n hx hb dX6_readsRules_165 rfl (lv_at hl 0 rfl) ?_
    obtain ⟨v7, q_v7, h⟩ := bd_e h
    refine m_roI (As := [.int (1 : Int32), .int v3]) (rest := []) C hM.1 (mo_byteAt_met _ Z I4 (1 : Int32) v3 v7 q_v7) (lw_V q1187 q1189 qs43 q88 q1190) mo_byteAt_hd ⟨rfl, rfl⟩ ⟨Nat.le_of_ble_eq_true rfl, Nat.le_of_ble_eq_true rfl⟩ ⟨Nat.le_refl _, Nat.le_refl _⟩ rfl hl.1 rfl (Nat.le_of_ble_eq_true rfl) dX6_readsRules_166 ?_
    refine lv_bipush (v := 59) hx hb dX6_readsRules_169 (by decide) ?_
    refine lv_icmp_eq (tgt := 176) hx hb dX6_readsRules_171 (by decide) (fun c8 => ?_) (fun c8 => ?_)
    · have h := ip_ c8 h
      refine lv_iinc (v := (v3 + 1)) (lv' := [(1, .int (v3 + 1)), (0, .ref (mH Z)), (2, .int x2)]) hx hb dX6_readsRules_176 hl (k := 0) rfl rfl (by decide) rfl (fun ls hl => ?_)
      refine lv_goto (tgt := 6) hx hb dX6_readsRules_179 (by decide) ?_
      exact hk6 (v3 + 1) I4 _ _ ls hM (lv_sub hl [1, 0] rfl) h
    · have h := in_ c8 h
      refine lv_iload_n hx hb dX6_readsRules_174 rfl (lv_at hl 0 rfl) ?_
      have h := so_ h
      subst h
      exact W.iret hx hb hr (fun t ht hW => ⟨rfl, ⟨by rw [ht]; exact hM.1, va_K.moved hW.alike hK⟩, hM.2.F ht⟩) hM.2.2.2 dX6_readsRules_175
  · have h := ip_ c6 h
    refine lv_iconst (v := -1) hx hb dX6_readsRules_161 (by decide) ?_
    have h := so_ h
    subst h
    exact W.iret hx hb hr (fun t ht hW => ⟨rfl, ⟨by rw [ht]; exact hM.1, va_K.moved hW.alike hK⟩, hM.2.F ht⟩) hM.2.2.2 dX6_readsRules_162
def mo_readsRules_b100 (k6 : Int32 → St → Option (Int32 × St)) (x1 : Int32) (x2 : Int32) (t0 : Int32) (t1 : Int32) (I : St) : Option (Int32 × St) :=
  as_ 4 10 I t1 t0 fun I1 =>
  al_ 4 (I1 10) x2 fun v2 =>
  lt_ (x1 + v2) fun v3 =>
  bd_ (mo_byteAt I1 (1 : Int32) v3) fun v4 =>
  if v4 = (104 : Int32) then (mo_readsRules_b131 k6 v3 x2 (1 : Int32) x2 I1)
  else (mo_readsRules_b131 k6 v3 x2 (0 : Int32) x2 I1)
theorem mo_readsRules_w100 {p : Program} {l : Launch} {e : Env} {s : State} {m : MethodId} {args : Array Value} {below : List Frame} {meth : Method} {c : Code} {Z : MZ} (C : MCx p s m args meth c cX6_readsRules 3 (some .int) Z) {r : (Int32 × St)} {k6 : Int32 → St → Option (Int32 × St)} (hk6 : mo_readsRules_P6 p l e s m args below meth c Z r k6) : mo_readsRules_P100 p l e s m args below meth c Z r (mo_readsRules_b100 k6) := by
  intro x1 x2 t0 t1 I H locs ls hM hl h
  obtain ⟨⟨hx, hb, hr, hlocks, hml, hown, hts⟩, hK⟩ := id C
  unfold mo_readsRules_b100 at h
  obtain ⟨i_I1, h⟩ := as_e h
  refine m_ast C hM (pos := 8) (k := 10) rfl rfl i_I1 dX6_readsRules_100 (fun H locs I1 e_I1 hM => ?_)
  have h := h I1 e_I1
  refine lv_iload_n hx hb dX6_readsRules_101 rfl (lv_at hl 1 rfl) ?_
  refine lv_aload_n hx hb dX6_readsRules_102 rfl (lv_at hl 0 rfl) ?_
  refine gm10 C hM.1 dX6_readsRules_103 ?_
  refine lv_iload_n hx hb dX6_readsRules_106 rfl (lv_at hl 2 rfl) ?_
  obtain ⟨i_v2, h⟩ := al_e h
  refine m_ald C hM.1 (pos := 8) (k := 10) rfl rfl i_v2 dX6_readsRules_107 (fun v2 e_v2 => ?_)
  have h := h v2 e_v2
  refine lv_iadd hx hb dX6_readsRules_108 ?_
  refine lv_topi (fun v3 e_v3 => ?_)
  have h := lt_i h e_v3
  refine lv_istore_n (lv' := [(1, .int v3), (0, .ref (mH Z)), (2, .int x2)]) hx hb dX6_readsRules_109 rfl hl (by decide) rfl (fun ls hl => ?_)
  refine lv_aload_n hx hb dX6_readsRules_110 rfl (lv_at hl 1 rfl) ?_
  refine gm11 C hM.1 dX6_readsRules_111 ?_
  refine lv_iload_n hx hb dX6_readsRules_114 rfl (lv_at hl 2 rfl) ?_
  refine lv_aload_n hx hb dX6_readsRules_115 rfl (lv_at hl 1 rfl) ?_
  refine lv_iconst (v := 1) hx hb dX6_readsRules_116 (by decide) ?_
  refine lv_iload_n hx hb dX6_readsRules_117 rfl (lv_at hl 0 rfl) ?_
  obtain ⟨v4, q_v4, h⟩ := bd_e h
  refine m_roI (As := [.int (1 : Int32), .int v3]) (rest := [.int x2, .ref (mAd Z 11)]) C hM.1 (mo_byteAt_met _ Z I1 (1 : Int32) v3 v4 q_v4) (lw_V q1187 q1189 qs43 q88 q1190) mo_byteAt_hd ⟨rfl, rfl⟩ ⟨Nat.le_of_ble_eq_true rfl, Nat.le_of_ble_eq_true rfl⟩ ⟨Nat.le_refl _, Nat.le_refl _⟩ rfl hl.1 rfl (Nat.le_of_ble_eq_true rfl) dX6_readsRules_118 ?_
  refine lv_bipush (v := 104) hx hb dX6_readsRules_121 (by decide) ?_
  refine lv_icmp_ne (tgt := 130) hx hb dX6_readsRules_123 (by decide) (fun c5 => ?_) (fun c5 => ?_)
  · have h := in_ c5 h
    refine lv_iconst (v := 0) hx hb dX6_readsRules_130 (by decide) ?_
    exact mo_readsRules_w131 C hk6 v3 x2 (0 : Int32) x2 I1 _ _ ls hM (lv_sub hl [1, 0, 2] rfl) h
  · have h := ip_ c5 h
    refine lv_iconst (v := 1) hx hb dX6_readsRules_126 (by decide) ?_
    refine lv_goto (tgt := 131) hx hb dX6_readsRules_127 (by decide) ?_
    exact mo_readsRules_w131 C hk6 v3 x2 (1 : Int32) x2 I1 _ _ ls hM (lv_sub hl [1, 0, 2] rfl) h
def mo_readsRules_b20 (k6 : Int32 → St → Option (Int32 × St)) (x1 : Int32) (I : St) : Option (Int32 × St) :=
  bd_ (mo_byteAt I (1 : Int32) x1) fun v1 =>
  bd_ (mo_kindBy v1) fun v2 =>
  if v2 = (-1 : Int32) then (some (x1, I))
  else (bd_ (mo_byteAt I (1 : Int32) (x1 + (1 : Int32))) fun v4 =>
    bd_ (mo_in v4 (48 : Int32) (52 : Int32)) fun v5 =>
    if v5 = 0 then (some ((x1 + (1 : Int32)), I))
    else (bd_ (mo_byteAt I (1 : Int32) (x1 + (1 : Int32))) fun v7 =>
      as_ 4 9 I v2 (v7 - (48 : Int32)) fun I8 =>
      bd_ (mo_byteAt I8 (1 : Int32) (x1 + 2)) fun v9 =>
      if v9 = (119 : Int32) then (mo_readsRules_b100 k6 (x1 + 2) v2 (1 : Int32) v2 I8)
      else (mo_readsRules_b100 k6 (x1 + 2) v2 (0 : Int32) v2 I8)))
theorem mo_readsRules_w20 {p : Program} {l : Launch} {e : Env} {s : State} {m : MethodId} {args : Array Value} {below : List Frame} {meth : Method} {c : Code} {Z : MZ} (C : MCx p s m args meth c cX6_readsRules 3 (some .int) Z) {r : (Int32 × St)} {k6 : Int32 → St → Option (Int32 × St)} (hk6 : mo_readsRules_P6 p l e s m args below meth c Z r k6) : mo_readsRules_P20 p l e s m args below meth c Z r (mo_readsRules_b20 k6) := by
  intro x1 I H locs ls hM hl h
  obtain ⟨⟨hx, hb, hr, hlocks, hml, hown, hts⟩, hK⟩ := id C
  unfold mo_readsRules_b20 at h
  refine lv_aload_n hx hb dX6_readsRules_20 rfl (lv_at hl 0 rfl) ?_
  refine lv_iconst (v := 1) hx hb dX6_readsRules_21 (by decide) ?_
  refine lv_iload_n hx hb dX6_readsRules_22 rfl (lv_at hl 1 rfl) ?_
  obtain ⟨v1, q_v1, h⟩ := bd_e h
  refine m_roI (As := [.int (1 : Int32), .int x1]) (rest := []) C hM.1 (mo_byteAt_met _ Z I (1 : Int32) x1 v1 q_v1) (lw_V q1187 q1189 qs43 q88 q1190) mo_byteAt_hd ⟨rfl, rfl⟩ ⟨Nat.le_of_ble_eq_true rfl, Nat.le_of_ble_eq_true rfl⟩ ⟨Nat.le_refl _, Nat.le_refl _⟩ rfl hl.1 rfl (Nat.le_of_ble_eq_true rfl) dX6_readsRules_23 ?_
  obtain ⟨v2, q_v2, h⟩ := bd_e h
  refine s_roI (As := [.int v1]) (rest := []) C.1 (mo_kindBy_met _ v1 v2 q_v2) (lw_S q1191 q1192 q88 q1193) mo_kindBy_hd ⟨rfl, rfl⟩ ⟨Nat.le_of_ble_eq_true rfl, Nat.le_of_ble_eq_true rfl⟩ ⟨Nat.le_refl _, Nat.le_refl _⟩ rfl hl.1 rfl (Nat.le_of_ble_eq_true rfl) dX6_readsRules_26 ?_
  refine lv_istore_n (lv' := [(2, .int v2), (0, .ref (mH Z)), (1, .int x1)]) hx hb dX6_readsRules_29 rfl hl (by decide) rfl (fun ls hl => ?_)
  refine lv_iload_n hx hb dX6_readsRules_30 rfl (lv_at hl 0 rfl) ?_
  refine lv_iconst (v := -1) hx hb dX6_readsRules_31 (by decide) ?_
  refine lv_icmp_ne (tgt := 37) hx hb dX6_readsRules_32 (by decide) (fun c3 => ?_) (fun c3 => ?_)
  · have h := in_ c3 h
    refine lv_aload_n hx hb dX6_readsRules_37 rfl (lv_at hl 1 rfl) ?_
    refine lv_iconst (v := 1) hx hb dX6_readsRules_38 (by decide) ?_
    refine lv_iload_n hx hb dX6_readsRules_39 rfl (lv_at hl 2 rfl) ?_
    refine lv_iconst (v := 1) hx hb dX6_readsRules_40 (by decide) ?_
    refine lv_iadd hx hb dX6_readsRules_41 ?_
    obtain ⟨v4, q_v4, h⟩ := bd_e h
    refine m_roI (As := [.int (1 : Int32), .int (x1 + (1 : Int32))]) (rest := []) C hM.1 (mo_byteAt_met _ Z I (1 : Int32) (x1 + (1 : Int32)) v4 q_v4) (lw_V q1187 q1189 qs43 q88 q1190) mo_byteAt_hd ⟨rfl, rfl⟩ ⟨Nat.le_of_ble_eq_true rfl, Nat.le_of_ble_eq_true rfl⟩ ⟨Nat.le_refl _, Nat.le_refl _⟩ rfl hl.1 rfl (Nat.le_of_ble_eq_true rfl) dX6_readsRules_42 ?_
    refine lv_bipush (v := 48) hx hb dX6_readsRules_45 (by decide) ?_
    refine lv_bipush (v := 52) hx hb dX6_readsRules_47 (by decide) ?_
    obtain ⟨v5, q_v5, h⟩ := bd_e h
    refine s_roI (As := [.int v4, .int (48 : Int32), .int (52 : Int32)]) (rest := []) C.1 (mo_in_met _ v4 (48 : Int32) (52 : Int32) v5 q_v5) (lw_S q1168 q1169 q88 q1170) mo_in_hd ⟨rfl, rfl⟩ ⟨Nat.le_of_ble_eq_true rfl, Nat.le_of_ble_eq_true rfl⟩ ⟨Nat.le_refl _, Nat.le_refl _⟩ rfl hl.1 rfl (Nat.le_of_ble_eq_true rfl) dX6_readsRules_49 ?_
    refine lv_if_ne (tgt := 59) hx hb dX6_readsRules_52 (by decide) (fun c6 => ?_) (fun c6 => ?_)
    · have h := in_ c6 h
      refine lv_aload_n hx hb dX6_readsRules_59 rfl (lv_at hl 1 rfl) ?_
      refine gm9 C hM.1 dX6_readsRules_60 ?_
      refine lv_iload_n hx hb dX6_readsRules_63 rfl (lv_at hl 0 rfl) ?_
      refine lv_aload_n hx hb dX6_readsRules_64 rfl (lv_at hl 1 rfl) ?_
      refine lv_iconst (v := 1) hx hb dX6_readsRules_65 (by decide) ?_
      refine lv_iload_n hx hb dX6_readsRules_66 rfl (lv_at hl 2 rfl) ?_
      refine lv_iconst (v := 1) hx hb dX6_readsRules_67 (by decide) ?_
      refine lv_iadd hx hb dX6_readsRules_68 ?_
      obtain ⟨v7, q_v7, h⟩ := bd_e h
      refine m_roI (As := [.int (1 : Int32), .int (x1 + (1 : Int32))]) (rest := [.int v2, .ref (mAd Z 9)]) C hM.1 (mo_byteAt_met _ Z I (1 : Int32) (x1 + (1 : Int32)) v7 q_v7) (lw_V q1187 q1189 qs43 q88 q1190) mo_byteAt_hd ⟨rfl, rfl⟩ ⟨Nat.le_of_ble_eq_true rfl, Nat.le_of_ble_eq_true rfl⟩ ⟨Nat.le_refl _, Nat.le_refl _⟩ rfl hl.1 rfl (Nat.le_of_ble_eq_true rfl) dX6_readsRules_69 ?_
      refine lv_bipush (v := 48) hx hb dX6_readsRules_72 (by decide) ?_
      refine lv_isub hx hb dX6_readsRules_74 ?_
      obtain ⟨i_I8, h⟩ := as_e h
      refine m_ast C hM (pos := 7) (k := 9) rfl rfl i_I8 dX6_readsRules_75 (fun H locs I8 e_I8 hM => ?_)
      have h := h I8 e_I8
      refine lv_iinc (v := (x1 + 2)) (lv' := [(1, .int (x1 + 2)), (2, .int v2), (0, .ref (mH Z))]) hx hb dX6_readsRules_76 hl (k := 2) rfl rfl (by decide) rfl (fun ls hl => ?_)
      refine lv_aload_n hx hb dX6_readsRules_79 rfl (lv_at hl 2 rfl) ?_
      refine gm10 C hM.1 dX6_readsRules_80 ?_
      refine lv_iload_n hx hb dX6_readsRules_83 rfl (lv_at hl 1 rfl) ?_
      refine lv_aload_n hx hb dX6_readsRules_84 rfl (lv_at hl 2 rfl) ?_
      refine lv_iconst (v := 1) hx hb dX6_readsRules_85 (by decide) ?_
      refine lv_iload_n hx hb dX6_readsRules_86 rfl (lv_at hl 0 rfl) ?_
      obtain ⟨v9, q_v9, h⟩ := bd_e h
      refine m_roI (As := [.int (1 : Int32), .int (x1 + 2)]) (rest := [.int v2, .ref (mAd Z 10)]) C hM.1 (mo_byteAt_met _ Z I8 (1 : Int32) (x1 + 2) v9 q_v9) (lw_V q1187 q1189 qs43 q88 q1190) mo_byteAt_hd ⟨rfl, rfl⟩ ⟨Nat.le_of_ble_eq_true rfl, Nat.le_of_ble_eq_true rfl⟩ ⟨Nat.le_refl _, Nat.le_refl _⟩ rfl hl.1 rfl (Nat.le_of_ble_eq_true rfl) dX6_readsRules_87 ?_
      refine lv_bipush (v := 119) hx hb dX6_readsRules_90 (by decide) ?_
      refine lv_icmp_ne (tgt := 99) hx hb dX6_readsRules_92 (by decide) (fun c10 => ?_) (fun c10 => ?_)
      · have h := in_ c10 h
        refine lv_iconst (v := 0) hx hb dX6_readsRules_99 (by decide) ?_
        exact mo_readsRules_w100 C hk6 (x1 + 2) v2 (0 : Int32) v2 I8 _ _ ls hM (lv_sub hl [2, 0, 1] rfl) h
      · have h := ip_ c10 h
        refine lv_iconst (v := 1) hx hb dX6_readsRules_95 (by decide) ?_
        refine lv_goto (tgt := 100) hx hb dX6_readsRules_96 (by decide) ?_
        exact mo_readsRules_w100 C hk6 (x1 + 2) v2 (1 : Int32) v2 I8 _ _ ls hM (lv_sub hl [2, 0, 1] rfl) h
    · have h := ip_ c6 h
      refine lv_iload_n hx hb dX6_readsRules_55 rfl (lv_at hl 2 rfl) ?_
      refine lv_iconst (v := 1) hx hb dX6_readsRules_56 (by decide) ?_
      refine lv_iadd hx hb dX6_readsRules_57 ?_
      have h := so_ h
      subst h
      exact W.iret hx hb hr (fun t ht hW => ⟨rfl, ⟨by rw [ht]; exact hM.1, va_K.moved hW.alike hK⟩, hM.2.F ht⟩) hM.2.2.2 dX6_readsRules_58
  · have h := ip_ c3 h
    refine lv_iload_n hx hb dX6_readsRules_35 rfl (lv_at hl 2 rfl) ?_
    have h := so_ h
    subst h
    exact W.iret hx hb hr (fun t ht hW => ⟨rfl, ⟨by rw [ht]; exact hM.1, va_K.moved hW.alike hK⟩, hM.2.F ht⟩) hM.2.2.2 dX6_readsRules_36
def mo_readsRules_b6 (k6 : Int32 → St → Option (Int32 × St)) (x1 : Int32) (I : St) : Option (Int32 × St) :=
  al_ 2 (I 0) (1 : Int32) fun v1 =>
  if x1 < v1 then (mo_readsRules_b20 k6 x1 I)
  else (if x1 ≤ 0 then (some ((-1 : Int32), I))
    else (mo_readsRules_b20 k6 x1 I))
theorem mo_readsRules_w6 {p : Program} {l : Launch} {e : Env} {s : State} {m : MethodId} {args : Array Value} {below : List Frame} {meth : Method} {c : Code} {Z : MZ} (C : MCx p s m args meth c cX6_readsRules 3 (some .int) Z) {r : (Int32 × St)} {k6 : Int32 → St → Option (Int32 × St)} (hk6 : mo_readsRules_P6 p l e s m args below meth c Z r k6) : mo_readsRules_P6 p l e s m args below meth c Z r (mo_readsRules_b6 k6) := by
  intro x1 I H locs ls hM hl h
  obtain ⟨⟨hx, hb, hr, hlocks, hml, hown, hts⟩, hK⟩ := id C
  unfold mo_readsRules_b6 at h
  refine lv_iload_n hx hb dX6_readsRules_6 rfl (lv_at hl 1 rfl) ?_
  refine lv_aload_n hx hb dX6_readsRules_7 rfl (lv_at hl 0 rfl) ?_
  refine gm0 C hM.1 dX6_readsRules_8 ?_
  refine lv_iconst (v := 1) hx hb dX6_readsRules_11 (by decide) ?_
  obtain ⟨i_v1, h⟩ := al_e h
  refine m_ald C hM.1 (pos := 0) (k := 0) rfl rfl i_v1 dX6_readsRules_12 (fun v1 e_v1 => ?_)
  have h := h v1 e_v1
  refine lv_icmp_lt (tgt := 20) hx hb dX6_readsRules_13 (by decide) (fun c2 => ?_) (fun c2 => ?_)
  · have h := ip_ c2 h
    exact mo_readsRules_w20 C hk6 x1 I _ _ ls hM (lv_sub hl [0, 1] rfl) h
  · have h := in_ c2 h
    refine lv_iload_n hx hb dX6_readsRules_16 rfl (lv_at hl 1 rfl) ?_
    refine lv_if_le (tgt := 182) hx hb dX6_readsRules_17 (by decide) (fun c3 => ?_) (fun c3 => ?_)
    · have h := ip_ c3 h
      refine lv_iconst (v := -1) hx hb dX6_readsRules_182 (by decide) ?_
      have h := so_ h
      subst h
      exact W.iret hx hb hr (fun t ht hW => ⟨rfl, ⟨by rw [ht]; exact hM.1, va_K.moved hW.alike hK⟩, hM.2.F ht⟩) hM.2.2.2 dX6_readsRules_183
    · have h := in_ c3 h
      exact mo_readsRules_w20 C hk6 x1 I _ _ ls hM (lv_sub hl [0, 1] rfl) h
def mo_readsRules_l6 (n : Nat) : Int32 → St → Option (Int32 × St) := lp (fun _ _ => none) (mo_readsRules_b6) n
theorem mo_readsRules_lw6 {p : Program} {l : Launch} {e : Env} {s : State} {m : MethodId} {args : Array Value} {below : List Frame} {meth : Method} {c : Code} {Z : MZ} (C : MCx p s m args meth c cX6_readsRules 3 (some .int) Z) {r : (Int32 × St)} : ∀ n : Nat, mo_readsRules_P6 p l e s m args below meth c Z r (mo_readsRules_l6 n) := by
  intro n
  induction n with
  | zero => intro x1 I H locs ls hM hl h; exact no_ h
  | succ n ih => exact mo_readsRules_w6 C ih
def mo_readsRules (I : St) : Option (Int32 × St) :=
  bd_ (mo_noRules  I) fun I1 =>
  mo_readsRules_l6 FU (0 : Int32) I1
theorem mo_readsRules_w0 {p : Program} {l : Launch} {e : Env} {s : State} {m : MethodId} {args : Array Value} {below : List Frame} {meth : Method} {c : Code} {Z : MZ} (C : MCx p s m args meth c cX6_readsRules 3 (some .int) Z) {r : (Int32 × St)} : mo_readsRules_P0 p l e s m args below meth c Z r (mo_readsRules) := by
  intro I H locs ls hM hl h
  obtain ⟨⟨hx, hb, hr, hlocks, hml, hown, hts⟩, hK⟩ := id C
  unfold mo_readsRules at h
  refine lv_aload_n hx hb dX6_readsRules_0 rfl (lv_at hl 0 rfl) ?_
  obtain ⟨I1, q_I1, h⟩ := bd_e h
  refine m_wrV (As := []) (rest := []) C hM (mo_noRules_met _ Z I  I1 q_I1) (lw_V q1201 q1203 qs45 q88 q1204) mo_noRules_hd ⟨rfl, rfl⟩ ⟨Nat.le_of_ble_eq_true rfl, Nat.le_of_ble_eq_true rfl⟩ ⟨Nat.le_refl _, Nat.le_refl _⟩ rfl hl.1 rfl (Nat.le_of_ble_eq_true rfl) dX6_readsRules_1 (fun H locs hM => ?_)
  refine lv_iconst (v := 0) hx hb dX6_readsRules_4 (by decide) ?_
  refine lv_istore_n (lv' := [(1, .int (0 : Int32)), (0, .ref (mH Z))]) hx hb dX6_readsRules_5 rfl hl (by decide) rfl (fun ls hl => ?_)
  exact mo_readsRules_lw6 C FU (0 : Int32) I1 _ _ ls hM (lv_sub hl [1, 0] rfl) h
theorem mo_readsRules_hd : yX6_readsRules.cls = RX6 ∧ yX6_readsRules.cls ≠ "java/lang/invoke/MethodHandle" ∧ yX6_readsRules.cls ≠ "java/lang/invoke/VarHandle" ∧ (parseMethodDescriptor yX6_readsRules.desc).map (fun d => d.parameters.length) = some 0 := by decide +kernel
theorem mo_readsRules_met (l : Launch) (Z : MZ) (I : St) (r : (Int32 × St)) (h : mo_readsRules I = some r) : Met l yX6_readsRules (ws_ yX6_readsRules cX6_readsRules 3 (some .int)) mo_readsRules_rm (va_Pc [.ref (mH Z)] (mS Z I)) (Qwr (some (.int r.1)) (mS Z r.2) (mA Z)) 0 0 (mA Z) := by
  refine Met.ofW (cc := cX6_readsRules) (maxL := 3) (ret := some .int) (by decide) rfl ?_
  intro p e s m args below meth c s₁ B hml hv
  obtain ⟨rfl, hv⟩ := hv
  have hts := atoms_spec (ws := ws_ yX6_readsRules cX6_readsRules 3 (some .int)) B.pre
  have hts : ∀ w ∈ lw_all, w.before _ s = true := fun w h => hts w (List.mem_cons_of_mem _ h)
  have C : SCx p s m _ meth c cX6_readsRules 3 (some .int) RX6 := ⟨B.exec, B.bytes, B.returns, B.notSynchronized, hml, findClass_of_methodNamed B.named, hts⟩
  have hl := lv_entry [.ref (mH Z)] (n := 3) (Nat.le_of_ble_eq_true rfl)
  rw [lg_entry_eq]
  generalize (lg_sl [.ref (mH Z)] ++ List.replicate (3 - (lg_sl [.ref (mH Z)]).length) Slot.unset).toArray = ls at hl ⊢
  have C : MCx p s m _ meth c _ _ _ Z := ⟨C, hv.2⟩
  have hM : mIn Z s I s.heap [] := ⟨hv.1, va_S.rf⟩
  exact mo_readsRules_w0 C  I _ _ ls hM hl h

/-! SecondChancesModel.faultOf(I)I -/
def mo_faultOf_rm : Room := { frames := 2, cells := 0, slots := 0, locals := 46 }
def mo_faultOf_P0 (p : Program) (l : Launch) (e : Env) (s : State) (m : MethodId) (args : Array Value) (below : List Frame) (meth : Method) (c : Code) (Z : MZ) (r : (Int32 × St)) (f : Int32 → St → Option (Int32 × St)) : Prop := ∀ (x1 : Int32) (I : St) (H : Heap) (locs : List Loc) (ls : Array Slot), mIn Z s I H locs → lv_has ls 3 [(0, .ref (mH Z)), (1, .int x1)] → f x1 I = some r → W p l e mo_faultOf_rm s m args below meth c H locs 0 0 (MQ below (Qwr (some (.int r.1)) (mS Z r.2) (mA Z)) args s 0 0 (mA Z)) (F0 m 0 ls [])
def mo_faultOf (x1 : Int32) (I : St) : Option (Int32 × St) :=
  if x1 = 0 then (bd2_ (mo_readsDeeds  I) fun v7 I6 =>
    some (v7, I6))
  else (bd2_ (mo_readsRules  I) fun v3 I2 =>
    if v3 = (-1 : Int32) then (some (v3, I2))
    else (bd_ (mo_noRules  I2) fun I5 =>
      some (v3, I5)))
theorem mo_faultOf_w0 {p : Program} {l : Launch} {e : Env} {s : State} {m : MethodId} {args : Array Value} {below : List Frame} {meth : Method} {c : Code} {Z : MZ} (C : MCx p s m args meth c cX6_faultOf 3 (some .int) Z) {r : (Int32 × St)} : mo_faultOf_P0 p l e s m args below meth c Z r (mo_faultOf) := by
  intro x1 I H locs ls hM hl h
  obtain ⟨⟨hx, hb, hr, hlocks, hml, hown, hts⟩, hK⟩ := id C
  unfold mo_faultOf at h
  refine lv_iload_n hx hb dX6_faultOf_0 rfl (lv_at hl 1 rfl) ?_
  refine lv_if_ne (tgt := 9) hx hb dX6_faultOf_1 (by decide) (fun c1 => ?_) (fun c1 => ?_)
  · have h := in_ c1 h
    refine lv_aload_n hx hb dX6_faultOf_9 rfl (lv_at hl 0 rfl) ?_
    obtain ⟨v3, I2, q_I2, h⟩ := bd2_e h
    refine m_wrI (As := []) (rest := []) C hM (mo_readsRules_met _ Z I  (v3, I2) q_I2) (lw_V q1197 q1199 qs44 q88 q1200) mo_readsRules_hd ⟨rfl, rfl⟩ ⟨Nat.le_of_ble_eq_true rfl, Nat.le_of_ble_eq_true rfl⟩ ⟨Nat.le_refl _, Nat.le_refl _⟩ rfl hl.1 rfl (Nat.le_of_ble_eq_true rfl) dX6_faultOf_10 (fun H locs hM => ?_)
    refine lv_istore_n (lv' := [(2, .int v3), (0, .ref (mH Z)), (1, .int x1)]) hx hb dX6_faultOf_13 rfl hl (by decide) rfl (fun ls hl => ?_)
    refine lv_iload_n hx hb dX6_faultOf_14 rfl (lv_at hl 0 rfl) ?_
    refine lv_iconst (v := -1) hx hb dX6_faultOf_15 (by decide) ?_
    refine lv_icmp_eq (tgt := 23) hx hb dX6_faultOf_16 (by decide) (fun c4 => ?_) (fun c4 => ?_)
    · have h := ip_ c4 h
      refine lv_iload_n hx hb dX6_faultOf_23 rfl (lv_at hl 0 rfl) ?_
      have h := so_ h
      subst h
      exact W.iret hx hb hr (fun t ht hW => ⟨rfl, ⟨by rw [ht]; exact hM.1, va_K.moved hW.alike hK⟩, hM.2.F ht⟩) hM.2.2.2 dX6_faultOf_24
    · have h := in_ c4 h
      refine lv_aload_n hx hb dX6_faultOf_19 rfl (lv_at hl 1 rfl) ?_
      obtain ⟨I5, q_I5, h⟩ := bd_e h
      refine m_wrV (As := []) (rest := []) C hM (mo_noRules_met _ Z I2  I5 q_I5) (lw_V q1201 q1203 qs45 q88 q1204) mo_noRules_hd ⟨rfl, rfl⟩ ⟨Nat.le_of_ble_eq_true rfl, Nat.le_of_ble_eq_true rfl⟩ ⟨Nat.le_refl _, Nat.le_refl _⟩ rfl hl.1 rfl (Nat.le_of_ble_eq_true rfl) dX6_faultOf_20 (fun H locs hM => ?_)
      refine lv_iload_n hx hb dX6_faultOf_23 rfl (lv_at hl 0 rfl) ?_
      have h := so_ h
      subst h
      exact W.iret hx hb hr (fun t ht hW => ⟨rfl, ⟨by rw [ht]; exact hM.1, va_K.moved hW.alike hK⟩, hM.2.F ht⟩) hM.2.2.2 dX6_faultOf_24
  · have h := ip_ c1 h
    refine lv_aload_n hx hb dX6_faultOf_4 rfl (lv_at hl 0 rfl) ?_
    obtain ⟨v7, I6, q_I6, h⟩ := bd2_e h
    refine m_wrI (As := []) (rest := []) C hM (mo_readsDeeds_met _ Z I  (v7, I6) q_I6) (lw_V q1183 q1185 qs42 q88 q1186) mo_readsDeeds_hd ⟨rfl, rfl⟩ ⟨Nat.le_of_ble_eq_true rfl, Nat.le_of_ble_eq_true rfl⟩ ⟨Nat.le_refl _, Nat.le_refl _⟩ rfl hl.1 rfl (Nat.le_of_ble_eq_true rfl) dX6_faultOf_5 (fun H locs hM => ?_)
    have h := so_ h
    subst h
    exact W.iret hx hb hr (fun t ht hW => ⟨rfl, ⟨by rw [ht]; exact hM.1, va_K.moved hW.alike hK⟩, hM.2.F ht⟩) hM.2.2.2 dX6_faultOf_8
theorem mo_faultOf_hd : yX6_faultOf.cls = RX6 ∧ yX6_faultOf.cls ≠ "java/lang/invoke/MethodHandle" ∧ yX6_faultOf.cls ≠ "java/lang/invoke/VarHandle" ∧ (parseMethodDescriptor yX6_faultOf.desc).map (fun d => d.parameters.length) = some 1 := by decide +kernel
theorem mo_faultOf_met (l : Launch) (Z : MZ) (I : St) (x1 : Int32) (r : (Int32 × St)) (h : mo_faultOf x1 I = some r) : Met l yX6_faultOf (ws_ yX6_faultOf cX6_faultOf 3 (some .int)) mo_faultOf_rm (va_Pc [.ref (mH Z), .int x1] (mS Z I)) (Qwr (some (.int r.1)) (mS Z r.2) (mA Z)) 0 0 (mA Z) := by
  refine Met.ofW (cc := cX6_faultOf) (maxL := 3) (ret := some .int) (by decide) rfl ?_
  intro p e s m args below meth c s₁ B hml hv
  obtain ⟨rfl, hv⟩ := hv
  have hts := atoms_spec (ws := ws_ yX6_faultOf cX6_faultOf 3 (some .int)) B.pre
  have hts : ∀ w ∈ lw_all, w.before _ s = true := fun w h => hts w (List.mem_cons_of_mem _ h)
  have C : SCx p s m _ meth c cX6_faultOf 3 (some .int) RX6 := ⟨B.exec, B.bytes, B.returns, B.notSynchronized, hml, findClass_of_methodNamed B.named, hts⟩
  have hl := lv_entry [.ref (mH Z), .int x1] (n := 3) (Nat.le_of_ble_eq_true rfl)
  rw [lg_entry_eq]
  generalize (lg_sl [.ref (mH Z), .int x1] ++ List.replicate (3 - (lg_sl [.ref (mH Z), .int x1]).length) Slot.unset).toArray = ls at hl ⊢
  have C : MCx p s m _ meth c _ _ _ Z := ⟨C, hv.2⟩
  have hM : mIn Z s I s.heap [] := ⟨hv.1, va_S.rf⟩
  exact mo_faultOf_w0 C x1 I _ _ ls hM hl h

/-! SecondChancesModel.reads()V -/
def mo_reads_rm : Room := { frames := 3, cells := 0, slots := 0, locals := 68 }
def mo_reads_P0 (p : Program) (l : Launch) (e : Env) (s : State) (m : MethodId) (args : Array Value) (below : List Frame) (meth : Method) (c : Code) (Z : MZ) (r : St) (f : St → Option St) : Prop := ∀ (I : St) (H : Heap) (locs : List Loc) (ls : Array Slot), mIn Z s I H locs → lv_has ls 2 [(0, .ref (mH Z))] → f  I = some r → W p l e mo_reads_rm s m args below meth c H locs 0 0 (MQ below (Qwr (none) (mS Z r) (mA Z)) args s 0 0 (mA Z)) (F0 m 0 ls [])
def mo_reads (I : St) : Option St :=
  bd2_ (mo_faultOf (0 : Int32) I) fun v2 I1 =>
  bd2_ (mo_faultOf (1 : Int32) I1) fun v4 I3 =>
  some I3
theorem mo_reads_w0 {p : Program} {l : Launch} {e : Env} {s : State} {m : MethodId} {args : Array Value} {below : List Frame} {meth : Method} {c : Code} {Z : MZ} (C : MCx p s m args meth c cX6_reads 2 (none) Z) {r : St} : mo_reads_P0 p l e s m args below meth c Z r (mo_reads) := by
  intro I H locs ls hM hl h
  obtain ⟨⟨hx, hb, hr, hlocks, hml, hown, hts⟩, hK⟩ := id C
  unfold mo_reads at h
  refine lv_aload_n hx hb dX6_reads_0 rfl (lv_at hl 0 rfl) ?_
  refine lv_iconst (v := 0) hx hb dX6_reads_1 (by decide) ?_
  obtain ⟨v2, I1, q_I1, h⟩ := bd2_e h
  refine m_wrI (As := [.int (0 : Int32)]) (rest := []) C hM (mo_faultOf_met _ Z I (0 : Int32) (v2, I1) q_I1) (lw_V q1179 q1181 qs41 q88 q1182) mo_faultOf_hd ⟨rfl, rfl⟩ ⟨Nat.le_of_ble_eq_true rfl, Nat.le_of_ble_eq_true rfl⟩ ⟨Nat.le_refl _, Nat.le_refl _⟩ rfl hl.1 rfl (Nat.le_of_ble_eq_true rfl) dX6_reads_2 (fun H locs hM => ?_)
  refine lv_istore_n (lv' := [(1, .int v2), (0, .ref (mH Z))]) hx hb dX6_reads_5 rfl hl (by decide) rfl (fun ls hl => ?_)
  refine lv_aload_n hx hb dX6_reads_6 rfl (lv_at hl 1 rfl) ?_
  refine lv_iconst (v := 1) hx hb dX6_reads_7 (by decide) ?_
  obtain ⟨v4, I3, q_I3, h⟩ := bd2_e h
  refine m_wrI (As := [.int (1 : Int32)]) (rest := []) C hM (mo_faultOf_met _ Z I1 (1 : Int32) (v4, I3) q_I3) (lw_V q1179 q1181 qs41 q88 q1182) mo_faultOf_hd ⟨rfl, rfl⟩ ⟨Nat.le_of_ble_eq_true rfl, Nat.le_of_ble_eq_true rfl⟩ ⟨Nat.le_refl _, Nat.le_refl _⟩ rfl hl.1 rfl (Nat.le_of_ble_eq_true rfl) dX6_reads_8 (fun H locs hM => ?_)
  refine lv_istore_n (lv' := [(1, .int v4), (0, .ref (mH Z))]) hx hb dX6_reads_11 rfl hl (by decide) rfl (fun ls hl => ?_)
  have h := so_ h
  subst h
  exact W.vret hx hb hr (fun t ht hW => ⟨rfl, ⟨by rw [ht]; exact hM.1, va_K.moved hW.alike hK⟩, hM.2.F ht⟩) hM.2.2.2 dX6_reads_12
theorem mo_reads_hd : yX6_reads.cls = RX6 ∧ yX6_reads.cls ≠ "java/lang/invoke/MethodHandle" ∧ yX6_reads.cls ≠ "java/lang/invoke/VarHandle" ∧ (parseMethodDescriptor yX6_reads.desc).map (fun d => d.parameters.length) = some 0 := by decide +kernel
theorem mo_reads_met (l : Launch) (Z : MZ) (I : St) (r : St) (h : mo_reads I = some r) : Met l yX6_reads (ws_ yX6_reads cX6_reads 2 (none)) mo_reads_rm (va_Pc [.ref (mH Z)] (mS Z I)) (Qwr (none) (mS Z r) (mA Z)) 0 0 (mA Z) := by
  refine Met.ofW (cc := cX6_reads) (maxL := 2) (ret := none) (by decide) rfl ?_
  intro p e s m args below meth c s₁ B hml hv
  obtain ⟨rfl, hv⟩ := hv
  have hts := atoms_spec (ws := ws_ yX6_reads cX6_reads 2 (none)) B.pre
  have hts : ∀ w ∈ lw_all, w.before _ s = true := fun w h => hts w (List.mem_cons_of_mem _ h)
  have C : SCx p s m _ meth c cX6_reads 2 (none) RX6 := ⟨B.exec, B.bytes, B.returns, B.notSynchronized, hml, findClass_of_methodNamed B.named, hts⟩
  have hl := lv_entry [.ref (mH Z)] (n := 2) (Nat.le_of_ble_eq_true rfl)
  rw [lg_entry_eq]
  generalize (lg_sl [.ref (mH Z)] ++ List.replicate (2 - (lg_sl [.ref (mH Z)]).length) Slot.unset).toArray = ls at hl ⊢
  have C : MCx p s m _ meth c _ _ _ Z := ⟨C, hv.2⟩
  have hM : mIn Z s I s.heap [] := ⟨hv.1, va_S.rf⟩
  exact mo_reads_w0 C  I _ _ ls hM hl h

/-! SecondChancesModel.fault(I)I -/
def mo_fault_rm : Room := { frames := 3, cells := 0, slots := 0, locals := 68 }
def mo_fault_P0 (p : Program) (l : Launch) (e : Env) (s : State) (m : MethodId) (args : Array Value) (below : List Frame) (meth : Method) (c : Code) (Z : MZ) (r : (Int32 × St)) (f : Int32 → St → Option (Int32 × St)) : Prop := ∀ (x1 : Int32) (I : St) (H : Heap) (locs : List Loc) (ls : Array Slot), mIn Z s I H locs → lv_has ls 2 [(0, .ref (mH Z)), (1, .int x1)] → f x1 I = some r → W p l e mo_fault_rm s m args below meth c H locs 0 0 (MQ below (Qwr (some (.int r.1)) (mS Z r.2) (mA Z)) args s 0 0 (mA Z)) (F0 m 0 ls [])
def mo_fault (x1 : Int32) (I : St) : Option (Int32 × St) :=
  bd_ (mo_in x1 (0 : Int32) (1 : Int32)) fun v1 =>
  if v1 = 0 then (some ((-2 : Int32), I))
  else (bd2_ (mo_faultOf x1 I) fun v4 I3 =>
    some (v4, I3))
theorem mo_fault_w0 {p : Program} {l : Launch} {e : Env} {s : State} {m : MethodId} {args : Array Value} {below : List Frame} {meth : Method} {c : Code} {Z : MZ} (C : MCx p s m args meth c cX6_fault 2 (some .int) Z) {r : (Int32 × St)} : mo_fault_P0 p l e s m args below meth c Z r (mo_fault) := by
  intro x1 I H locs ls hM hl h
  obtain ⟨⟨hx, hb, hr, hlocks, hml, hown, hts⟩, hK⟩ := id C
  unfold mo_fault at h
  refine lv_iload_n hx hb dX6_fault_0 rfl (lv_at hl 1 rfl) ?_
  refine lv_iconst (v := 0) hx hb dX6_fault_1 (by decide) ?_
  refine lv_iconst (v := 1) hx hb dX6_fault_2 (by decide) ?_
  obtain ⟨v1, q_v1, h⟩ := bd_e h
  refine s_roI (As := [.int x1, .int (0 : Int32), .int (1 : Int32)]) (rest := []) C.1 (mo_in_met _ x1 (0 : Int32) (1 : Int32) v1 q_v1) (lw_S q1168 q1169 q88 q1170) mo_in_hd ⟨rfl, rfl⟩ ⟨Nat.le_of_ble_eq_true rfl, Nat.le_of_ble_eq_true rfl⟩ ⟨Nat.le_refl _, Nat.le_refl _⟩ rfl hl.1 rfl (Nat.le_of_ble_eq_true rfl) dX6_fault_3 ?_
  refine lv_if_eq (tgt := 17) hx hb dX6_fault_6 (by decide) (fun c2 => ?_) (fun c2 => ?_)
  · have h := ip_ c2 h
    refine lv_bipush (v := -2) hx hb dX6_fault_17 (by decide) ?_
    have h := so_ h
    subst h
    exact W.iret hx hb hr (fun t ht hW => ⟨rfl, ⟨by rw [ht]; exact hM.1, va_K.moved hW.alike hK⟩, hM.2.F ht⟩) hM.2.2.2 dX6_fault_19
  · have h := in_ c2 h
    refine lv_aload_n hx hb dX6_fault_9 rfl (lv_at hl 0 rfl) ?_
    refine lv_iload_n hx hb dX6_fault_10 rfl (lv_at hl 1 rfl) ?_
    obtain ⟨v4, I3, q_I3, h⟩ := bd2_e h
    refine m_wrI (As := [.int x1]) (rest := []) C hM (mo_faultOf_met _ Z I x1 (v4, I3) q_I3) (lw_V q1179 q1181 qs41 q88 q1182) mo_faultOf_hd ⟨rfl, rfl⟩ ⟨Nat.le_of_ble_eq_true rfl, Nat.le_of_ble_eq_true rfl⟩ ⟨Nat.le_refl _, Nat.le_refl _⟩ rfl hl.1 rfl (Nat.le_of_ble_eq_true rfl) dX6_fault_11 (fun H locs hM => ?_)
    refine lv_goto (tgt := 19) hx hb dX6_fault_14 (by decide) ?_
    have h := so_ h
    subst h
    exact W.iret hx hb hr (fun t ht hW => ⟨rfl, ⟨by rw [ht]; exact hM.1, va_K.moved hW.alike hK⟩, hM.2.F ht⟩) hM.2.2.2 dX6_fault_19
theorem mo_fault_hd : yX6_fault.cls = RX6 ∧ yX6_fault.cls ≠ "java/lang/invoke/MethodHandle" ∧ yX6_fault.cls ≠ "java/lang/invoke/VarHandle" ∧ (parseMethodDescriptor yX6_fault.desc).map (fun d => d.parameters.length) = some 1 := by decide +kernel
theorem mo_fault_met (l : Launch) (Z : MZ) (I : St) (x1 : Int32) (r : (Int32 × St)) (h : mo_fault x1 I = some r) : Met l yX6_fault (ws_ yX6_fault cX6_fault 2 (some .int)) mo_fault_rm (va_Pc [.ref (mH Z), .int x1] (mS Z I)) (Qwr (some (.int r.1)) (mS Z r.2) (mA Z)) 0 0 (mA Z) := by
  refine Met.ofW (cc := cX6_fault) (maxL := 2) (ret := some .int) (by decide) rfl ?_
  intro p e s m args below meth c s₁ B hml hv
  obtain ⟨rfl, hv⟩ := hv
  have hts := atoms_spec (ws := ws_ yX6_fault cX6_fault 2 (some .int)) B.pre
  have hts : ∀ w ∈ lw_all, w.before _ s = true := fun w h => hts w (List.mem_cons_of_mem _ h)
  have C : SCx p s m _ meth c cX6_fault 2 (some .int) RX6 := ⟨B.exec, B.bytes, B.returns, B.notSynchronized, hml, findClass_of_methodNamed B.named, hts⟩
  have hl := lv_entry [.ref (mH Z), .int x1] (n := 2) (Nat.le_of_ble_eq_true rfl)
  rw [lg_entry_eq]
  generalize (lg_sl [.ref (mH Z), .int x1] ++ List.replicate (2 - (lg_sl [.ref (mH Z), .int x1]).length) Slot.unset).toArray = ls at hl ⊢
  have C : MCx p s m _ meth c _ _ _ Z := ⟨C, hv.2⟩
  have hM : mIn Z s I s.heap [] := ⟨hv.1, va_S.rf⟩
  exact mo_fault_w0 C x1 I _ _ ls hM hl h

/-! SecondChancesModel.isDeed(I)Z -/
def mo_isDeed_rm : Room := { frames := 4, cells := 0, slots := 0, locals := 89 }
def mo_isDeed_P0 (p : Program) (l : Launch) (e : Env) (s : State) (m : MethodId) (args : Array Value) (below : List Frame) (meth : Method) (c : Code) (Z : MZ) (r : (Int32 × St)) (f : Int32 → St → Option (Int32 × St)) : Prop := ∀ (x1 : Int32) (I : St) (H : Heap) (locs : List Loc) (ls : Array Slot), mIn Z s I H locs → lv_has ls 2 [(0, .ref (mH Z)), (1, .int x1)] → f x1 I = some r → W p l e mo_isDeed_rm s m args below meth c H locs 0 0 (MQ below (Qwr (some (.int r.1)) (mS Z r.2) (mA Z)) args s 0 0 (mA Z)) (F0 m 0 ls [])
def mo_isDeed (x1 : Int32) (I : St) : Option (Int32 × St) :=
  bd_ (mo_reads  I) fun I1 =>
  bd_ (mo_in x1 (0 : Int32) ((I1 2 0) - (1 : Int32))) fun v2 =>
  if zb v2 = true then some (v2, I1) else none
theorem mo_isDeed_w0 {p : Program} {l : Launch} {e : Env} {s : State} {m : MethodId} {args : Array Value} {below : List Frame} {meth : Method} {c : Code} {Z : MZ} (C : MCx p s m args meth c cX6_isDeed 2 (some .boolean) Z) {r : (Int32 × St)} : mo_isDeed_P0 p l e s m args below meth c Z r (mo_isDeed) := by
  intro x1 I H locs ls hM hl h
  obtain ⟨⟨hx, hb, hr, hlocks, hml, hown, hts⟩, hK⟩ := id C
  unfold mo_isDeed at h
  refine lv_aload_n hx hb dX6_isDeed_0 rfl (lv_at hl 0 rfl) ?_
  obtain ⟨I1, q_I1, h⟩ := bd_e h
  refine m_wrV (As := []) (rest := []) C hM (mo_reads_met _ Z I  I1 q_I1) (lw_V q1213 q1215 qs47 q88 q1216) mo_reads_hd ⟨rfl, rfl⟩ ⟨Nat.le_of_ble_eq_true rfl, Nat.le_of_ble_eq_true rfl⟩ ⟨Nat.le_refl _, Nat.le_refl _⟩ rfl hl.1 rfl (Nat.le_of_ble_eq_true rfl) dX6_isDeed_1 (fun H locs hM => ?_)
  refine lv_iload_n hx hb dX6_isDeed_4 rfl (lv_at hl 1 rfl) ?_
  refine lv_iconst (v := 0) hx hb dX6_isDeed_5 (by decide) ?_
  refine lv_aload_n hx hb dX6_isDeed_6 rfl (lv_at hl 0 rfl) ?_
  refine gm2 C hM.1 dX6_isDeed_7 ?_
  refine lv_iconst (v := 1) hx hb dX6_isDeed_10 (by decide) ?_
  refine lv_isub hx hb dX6_isDeed_11 ?_
  obtain ⟨v2, q_v2, h⟩ := bd_e h
  refine s_roI (As := [.int x1, .int (0 : Int32), .int ((I1 2 0) - (1 : Int32))]) (rest := []) C.1 (mo_in_met _ x1 (0 : Int32) ((I1 2 0) - (1 : Int32)) v2 q_v2) (lw_S q1168 q1169 q88 q1170) mo_in_hd ⟨rfl, rfl⟩ ⟨Nat.le_of_ble_eq_true rfl, Nat.le_of_ble_eq_true rfl⟩ ⟨Nat.le_refl _, Nat.le_refl _⟩ rfl hl.1 rfl (Nat.le_of_ble_eq_true rfl) dX6_isDeed_12 ?_
  by_cases c3 : zb v2 = true
  case neg => exact no_ (in_ c3 h)
  have h := ip_ c3 h
  have h := so_ h
  subst h
  exact W.zret hx hb hr (zb_n c3) (fun t ht hW => ⟨rfl, ⟨by rw [ht]; exact hM.1, va_K.moved hW.alike hK⟩, hM.2.F ht⟩) hM.2.2.2 dX6_isDeed_15
theorem mo_isDeed_hd : yX6_isDeed.cls = RX6 ∧ yX6_isDeed.cls ≠ "java/lang/invoke/MethodHandle" ∧ yX6_isDeed.cls ≠ "java/lang/invoke/VarHandle" ∧ (parseMethodDescriptor yX6_isDeed.desc).map (fun d => d.parameters.length) = some 1 := by decide +kernel
theorem mo_isDeed_met (l : Launch) (Z : MZ) (I : St) (x1 : Int32) (r : (Int32 × St)) (h : mo_isDeed x1 I = some r) : Met l yX6_isDeed (ws_ yX6_isDeed cX6_isDeed 2 (some .boolean)) mo_isDeed_rm (va_Pc [.ref (mH Z), .int x1] (mS Z I)) (Qwr (some (.int r.1)) (mS Z r.2) (mA Z)) 0 0 (mA Z) := by
  refine Met.ofW (cc := cX6_isDeed) (maxL := 2) (ret := some .boolean) (by decide) rfl ?_
  intro p e s m args below meth c s₁ B hml hv
  obtain ⟨rfl, hv⟩ := hv
  have hts := atoms_spec (ws := ws_ yX6_isDeed cX6_isDeed 2 (some .boolean)) B.pre
  have hts : ∀ w ∈ lw_all, w.before _ s = true := fun w h => hts w (List.mem_cons_of_mem _ h)
  have C : SCx p s m _ meth c cX6_isDeed 2 (some .boolean) RX6 := ⟨B.exec, B.bytes, B.returns, B.notSynchronized, hml, findClass_of_methodNamed B.named, hts⟩
  have hl := lv_entry [.ref (mH Z), .int x1] (n := 2) (Nat.le_of_ble_eq_true rfl)
  rw [lg_entry_eq]
  generalize (lg_sl [.ref (mH Z), .int x1] ++ List.replicate (2 - (lg_sl [.ref (mH Z), .int x1]).length) Slot.unset).toArray = ls at hl ⊢
  have C : MCx p s m _ meth c _ _ _ Z := ⟨C, hv.2⟩
  have hM : mIn Z s I s.heap [] := ⟨hv.1, va_S.rf⟩
  exact mo_isDeed_w0 C x1 I _ _ ls hM hl h

/-! SecondChancesModel.deedOf(II)I -/
def mo_deedOf_rm : Room := { frames := 0, cells := 0, slots := 0, locals := 0 }
def mo_deedOf_P0 (p : Program) (l : Launch) (e : Env) (s : State) (m : MethodId) (args : Array Value) (below : List Frame) (meth : Method) (c : Code) (Z : MZ) (r : Int32) (f : Int32 → Int32 → Option Int32) : Prop := ∀ (x1 : Int32) (x2 : Int32) (ls : Array Slot), lv_has ls 3 [(0, .ref (mH Z)), (1, .int x1), (2, .int x2)] → f x1 x2 = some r → W p l e mo_deedOf_rm s m args below meth c s.heap [] 0 0 (MQ below (Qro (some (.int r))) args s 0 0 (fun _ => False)) (F0 m 0 ls [])
def mo_deedOf (I : St) (x1 : Int32) (x2 : Int32) : Option Int32 :=
  if x2 = 0 then (al_ 9 (I 3) x1 fun v9 =>
    some v9)
  else (if x2 = (1 : Int32) then (al_ 9 (I 4) x1 fun v8 =>
      some v8)
    else (if x2 = (2 : Int32) then (al_ 9 (I 5) x1 fun v7 =>
        some v7)
      else (if x2 = (3 : Int32) then (al_ 9 (I 6) x1 fun v6 =>
          some v6)
        else (al_ 9 (I 7) x1 fun v5 =>
          some v5))))
theorem mo_deedOf_w0 {p : Program} {l : Launch} {e : Env} {s : State} {m : MethodId} {args : Array Value} {below : List Frame} {meth : Method} {c : Code} {Z : MZ} {I : St} (C : MCx p s m args meth c cX6_deedOf 3 (some .int) Z) (hM : mPD Z I s.heap) {r : Int32} : mo_deedOf_P0 p l e s m args below meth c Z r (mo_deedOf I) := by
  intro x1 x2 ls hl h
  obtain ⟨⟨hx, hb, hr, hlocks, hml, hown, hts⟩, hK⟩ := id C
  unfold mo_deedOf at h
  refine lv_iload_n hx hb dX6_deedOf_0 rfl (lv_at hl 2 rfl) ?_
  refine lv_if_ne (tgt := 13) hx hb dX6_deedOf_1 (by decide) (fun c1 => ?_) (fun c1 => ?_)
  · have h := in_ c1 h
    refine lv_iload_n hx hb dX6_deedOf_13 rfl (lv_at hl 2 rfl) ?_
    refine lv_iconst (v := 1) hx hb dX6_deedOf_14 (by decide) ?_
    refine lv_icmp_ne (tgt := 27) hx hb dX6_deedOf_15 (by decide) (fun c2 => ?_) (fun c2 => ?_)
    · have h := in_ c2 h
      refine lv_iload_n hx hb dX6_deedOf_27 rfl (lv_at hl 2 rfl) ?_
      refine lv_iconst (v := 2) hx hb dX6_deedOf_28 (by decide) ?_
      refine lv_icmp_ne (tgt := 41) hx hb dX6_deedOf_29 (by decide) (fun c3 => ?_) (fun c3 => ?_)
      · have h := in_ c3 h
        refine lv_iload_n hx hb dX6_deedOf_41 rfl (lv_at hl 2 rfl) ?_
        refine lv_iconst (v := 3) hx hb dX6_deedOf_42 (by decide) ?_
        refine lv_icmp_ne (tgt := 55) hx hb dX6_deedOf_43 (by decide) (fun c4 => ?_) (fun c4 => ?_)
        · have h := in_ c4 h
          refine lv_aload_n hx hb dX6_deedOf_55 rfl (lv_at hl 0 rfl) ?_
          refine gm7 C hM dX6_deedOf_56 ?_
          refine lv_iload_n hx hb dX6_deedOf_59 rfl (lv_at hl 1 rfl) ?_
          obtain ⟨i_v5, h⟩ := al_e h
          refine m_ald C hM (pos := 6) (k := 7) rfl rfl i_v5 dX6_deedOf_60 (fun v5 e_v5 => ?_)
          have h := h v5 e_v5
          have h := so_ h
          subst h
          exact W.iret hx hb hr (fun t ht hW => ⟨rfl, ht⟩) (fun q hq => by cases hq) dX6_deedOf_61
        · have h := ip_ c4 h
          refine lv_aload_n hx hb dX6_deedOf_46 rfl (lv_at hl 0 rfl) ?_
          refine gm6 C hM dX6_deedOf_47 ?_
          refine lv_iload_n hx hb dX6_deedOf_50 rfl (lv_at hl 1 rfl) ?_
          obtain ⟨i_v6, h⟩ := al_e h
          refine m_ald C hM (pos := 5) (k := 6) rfl rfl i_v6 dX6_deedOf_51 (fun v6 e_v6 => ?_)
          have h := h v6 e_v6
          refine lv_goto (tgt := 61) hx hb dX6_deedOf_52 (by decide) ?_
          have h := so_ h
          subst h
          exact W.iret hx hb hr (fun t ht hW => ⟨rfl, ht⟩) (fun q hq => by cases hq) dX6_deedOf_61
      · have h := ip_ c3 h
        refine lv_aload_n hx hb dX6_deedOf_32 rfl (lv_at hl 0 rfl) ?_
        refine gm5 C hM dX6_deedOf_33 ?_
        refine lv_iload_n hx hb dX6_deedOf_36 rfl (lv_at hl 1 rfl) ?_
        obtain ⟨i_v7, h⟩ := al_e h
        refine m_ald C hM (pos := 4) (k := 5) rfl rfl i_v7 dX6_deedOf_37 (fun v7 e_v7 => ?_)
        have h := h v7 e_v7
        refine lv_goto (tgt := 61) hx hb dX6_deedOf_38 (by decide) ?_
        have h := so_ h
        subst h
        exact W.iret hx hb hr (fun t ht hW => ⟨rfl, ht⟩) (fun q hq => by cases hq) dX6_deedOf_61
    · have h := ip_ c2 h
      refine lv_aload_n hx hb dX6_deedOf_18 rfl (lv_at hl 0 rfl) ?_
      refine gm4 C hM dX6_deedOf_19 ?_
      refine lv_iload_n hx hb dX6_deedOf_22 rfl (lv_at hl 1 rfl) ?_
      obtain ⟨i_v8, h⟩ := al_e h
      refine m_ald C hM (pos := 3) (k := 4) rfl rfl i_v8 dX6_deedOf_23 (fun v8 e_v8 => ?_)
      have h := h v8 e_v8
      refine lv_goto (tgt := 61) hx hb dX6_deedOf_24 (by decide) ?_
      have h := so_ h
      subst h
      exact W.iret hx hb hr (fun t ht hW => ⟨rfl, ht⟩) (fun q hq => by cases hq) dX6_deedOf_61
  · have h := ip_ c1 h
    refine lv_aload_n hx hb dX6_deedOf_4 rfl (lv_at hl 0 rfl) ?_
    refine gm3 C hM dX6_deedOf_5 ?_
    refine lv_iload_n hx hb dX6_deedOf_8 rfl (lv_at hl 1 rfl) ?_
    obtain ⟨i_v9, h⟩ := al_e h
    refine m_ald C hM (pos := 2) (k := 3) rfl rfl i_v9 dX6_deedOf_9 (fun v9 e_v9 => ?_)
    have h := h v9 e_v9
    refine lv_goto (tgt := 61) hx hb dX6_deedOf_10 (by decide) ?_
    have h := so_ h
    subst h
    exact W.iret hx hb hr (fun t ht hW => ⟨rfl, ht⟩) (fun q hq => by cases hq) dX6_deedOf_61
theorem mo_deedOf_hd : yX6_deedOf.cls = RX6 ∧ yX6_deedOf.cls ≠ "java/lang/invoke/MethodHandle" ∧ yX6_deedOf.cls ≠ "java/lang/invoke/VarHandle" ∧ (parseMethodDescriptor yX6_deedOf.desc).map (fun d => d.parameters.length) = some 2 := by decide +kernel
theorem mo_deedOf_met (l : Launch) (Z : MZ) (I : St) (x1 : Int32) (x2 : Int32) (r : Int32) (h : mo_deedOf I x1 x2 = some r) : Met l yX6_deedOf (ws_ yX6_deedOf cX6_deedOf 3 (some .int)) mo_deedOf_rm (va_Pc [.ref (mH Z), .int x1, .int x2] (mS Z I)) (Qro (some (.int r))) 0 0 (fun _ => False) := by
  refine Met.ofW (cc := cX6_deedOf) (maxL := 3) (ret := some .int) (by decide) rfl ?_
  intro p e s m args below meth c s₁ B hml hv
  obtain ⟨rfl, hv⟩ := hv
  have hts := atoms_spec (ws := ws_ yX6_deedOf cX6_deedOf 3 (some .int)) B.pre
  have hts : ∀ w ∈ lw_all, w.before _ s = true := fun w h => hts w (List.mem_cons_of_mem _ h)
  have C : SCx p s m _ meth c cX6_deedOf 3 (some .int) RX6 := ⟨B.exec, B.bytes, B.returns, B.notSynchronized, hml, findClass_of_methodNamed B.named, hts⟩
  have hl := lv_entry [.ref (mH Z), .int x1, .int x2] (n := 3) (Nat.le_of_ble_eq_true rfl)
  rw [lg_entry_eq]
  generalize (lg_sl [.ref (mH Z), .int x1, .int x2] ++ List.replicate (3 - (lg_sl [.ref (mH Z), .int x1, .int x2]).length) Slot.unset).toArray = ls at hl ⊢
  have C : MCx p s m _ meth c _ _ _ Z := ⟨C, hv.2⟩
  have hM := hv.1
  exact mo_deedOf_w0 C hM x1 x2 ls hl h

/-! SecondChancesModel.deed(II)I -/
def mo_deed_rm : Room := { frames := 5, cells := 0, slots := 0, locals := 110 }
def mo_deed_P0 (p : Program) (l : Launch) (e : Env) (s : State) (m : MethodId) (args : Array Value) (below : List Frame) (meth : Method) (c : Code) (Z : MZ) (r : (Int32 × St)) (f : Int32 → Int32 → St → Option (Int32 × St)) : Prop := ∀ (x1 : Int32) (x2 : Int32) (I : St) (H : Heap) (locs : List Loc) (ls : Array Slot), mIn Z s I H locs → lv_has ls 3 [(0, .ref (mH Z)), (1, .int x1), (2, .int x2)] → f x1 x2 I = some r → W p l e mo_deed_rm s m args below meth c H locs 0 0 (MQ below (Qwr (some (.int r.1)) (mS Z r.2) (mA Z)) args s 0 0 (mA Z)) (F0 m 0 ls [])
def mo_deed (x1 : Int32) (x2 : Int32) (I : St) : Option (Int32 × St) :=
  bd2_ (mo_isDeed x1 I) fun v2 I1 =>
  if v2 = 0 then (some ((-2 : Int32), I1))
  else (bd_ (mo_in x2 (0 : Int32) (4 : Int32)) fun v4 =>
    if v4 = 0 then (some ((-2 : Int32), I1))
    else (bd_ (mo_deedOf I1 x1 x2) fun v6 =>
      some (v6, I1)))
theorem mo_deed_w0 {p : Program} {l : Launch} {e : Env} {s : State} {m : MethodId} {args : Array Value} {below : List Frame} {meth : Method} {c : Code} {Z : MZ} (C : MCx p s m args meth c cX6_deed 3 (some .int) Z) {r : (Int32 × St)} : mo_deed_P0 p l e s m args below meth c Z r (mo_deed) := by
  intro x1 x2 I H locs ls hM hl h
  obtain ⟨⟨hx, hb, hr, hlocks, hml, hown, hts⟩, hK⟩ := id C
  unfold mo_deed at h
  refine lv_aload_n hx hb dX6_deed_0 rfl (lv_at hl 0 rfl) ?_
  refine lv_iload_n hx hb dX6_deed_1 rfl (lv_at hl 1 rfl) ?_
  obtain ⟨v2, I1, q_I1, h⟩ := bd2_e h
  refine m_wrI (As := [.int x1]) (rest := []) C hM (mo_isDeed_met _ Z I x1 (v2, I1) q_I1) (lw_V q1209 q1211 qs46 q88 q1212) mo_isDeed_hd ⟨rfl, rfl⟩ ⟨Nat.le_of_ble_eq_true rfl, Nat.le_of_ble_eq_true rfl⟩ ⟨Nat.le_refl _, Nat.le_refl _⟩ rfl hl.1 rfl (Nat.le_of_ble_eq_true rfl) dX6_deed_2 (fun H locs hM => ?_)
  refine lv_if_eq (tgt := 26) hx hb dX6_deed_5 (by decide) (fun c3 => ?_) (fun c3 => ?_)
  · have h := ip_ c3 h
    refine lv_bipush (v := -2) hx hb dX6_deed_26 (by decide) ?_
    have h := so_ h
    subst h
    exact W.iret hx hb hr (fun t ht hW => ⟨rfl, ⟨by rw [ht]; exact hM.1, va_K.moved hW.alike hK⟩, hM.2.F ht⟩) hM.2.2.2 dX6_deed_28
  · have h := in_ c3 h
    refine lv_iload_n hx hb dX6_deed_8 rfl (lv_at hl 2 rfl) ?_
    refine lv_iconst (v := 0) hx hb dX6_deed_9 (by decide) ?_
    refine lv_iconst (v := 4) hx hb dX6_deed_10 (by decide) ?_
    obtain ⟨v4, q_v4, h⟩ := bd_e h
    refine s_roI (As := [.int x2, .int (0 : Int32), .int (4 : Int32)]) (rest := []) C.1 (mo_in_met _ x2 (0 : Int32) (4 : Int32) v4 q_v4) (lw_S q1168 q1169 q88 q1170) mo_in_hd ⟨rfl, rfl⟩ ⟨Nat.le_of_ble_eq_true rfl, Nat.le_of_ble_eq_true rfl⟩ ⟨Nat.le_refl _, Nat.le_refl _⟩ rfl hl.1 rfl (Nat.le_of_ble_eq_true rfl) dX6_deed_11 ?_
    refine lv_if_eq (tgt := 26) hx hb dX6_deed_14 (by decide) (fun c5 => ?_) (fun c5 => ?_)
    · have h := ip_ c5 h
      refine lv_bipush (v := -2) hx hb dX6_deed_26 (by decide) ?_
      have h := so_ h
      subst h
      exact W.iret hx hb hr (fun t ht hW => ⟨rfl, ⟨by rw [ht]; exact hM.1, va_K.moved hW.alike hK⟩, hM.2.F ht⟩) hM.2.2.2 dX6_deed_28
    · have h := in_ c5 h
      refine lv_aload_n hx hb dX6_deed_17 rfl (lv_at hl 0 rfl) ?_
      refine lv_iload_n hx hb dX6_deed_18 rfl (lv_at hl 1 rfl) ?_
      refine lv_iload_n hx hb dX6_deed_19 rfl (lv_at hl 2 rfl) ?_
      obtain ⟨v6, q_v6, h⟩ := bd_e h
      refine m_roI (As := [.int x1, .int x2]) (rest := []) C hM.1 (mo_deedOf_met _ Z I1 x1 x2 v6 q_v6) (lw_V q1217 q1219 qs48 q88 q1220) mo_deedOf_hd ⟨rfl, rfl⟩ ⟨Nat.le_of_ble_eq_true rfl, Nat.le_of_ble_eq_true rfl⟩ ⟨Nat.le_refl _, Nat.le_refl _⟩ rfl hl.1 rfl (Nat.le_of_ble_eq_true rfl) dX6_deed_20 ?_
      refine lv_goto (tgt := 28) hx hb dX6_deed_23 (by decide) ?_
      have h := so_ h
      subst h
      exact W.iret hx hb hr (fun t ht hW => ⟨rfl, ⟨by rw [ht]; exact hM.1, va_K.moved hW.alike hK⟩, hM.2.F ht⟩) hM.2.2.2 dX6_deed_28
theorem mo_deed_hd : yX6_deed.cls = RX6 ∧ yX6_deed.cls ≠ "java/lang/invoke/MethodHandle" ∧ yX6_deed.cls ≠ "java/lang/invoke/VarHandle" ∧ (parseMethodDescriptor yX6_deed.desc).map (fun d => d.parameters.length) = some 2 := by decide +kernel
theorem mo_deed_met (l : Launch) (Z : MZ) (I : St) (x1 : Int32) (x2 : Int32) (r : (Int32 × St)) (h : mo_deed x1 x2 I = some r) : Met l yX6_deed (ws_ yX6_deed cX6_deed 3 (some .int)) mo_deed_rm (va_Pc [.ref (mH Z), .int x1, .int x2] (mS Z I)) (Qwr (some (.int r.1)) (mS Z r.2) (mA Z)) 0 0 (mA Z) := by
  refine Met.ofW (cc := cX6_deed) (maxL := 3) (ret := some .int) (by decide) rfl ?_
  intro p e s m args below meth c s₁ B hml hv
  obtain ⟨rfl, hv⟩ := hv
  have hts := atoms_spec (ws := ws_ yX6_deed cX6_deed 3 (some .int)) B.pre
  have hts : ∀ w ∈ lw_all, w.before _ s = true := fun w h => hts w (List.mem_cons_of_mem _ h)
  have C : SCx p s m _ meth c cX6_deed 3 (some .int) RX6 := ⟨B.exec, B.bytes, B.returns, B.notSynchronized, hml, findClass_of_methodNamed B.named, hts⟩
  have hl := lv_entry [.ref (mH Z), .int x1, .int x2] (n := 3) (Nat.le_of_ble_eq_true rfl)
  rw [lg_entry_eq]
  generalize (lg_sl [.ref (mH Z), .int x1, .int x2] ++ List.replicate (3 - (lg_sl [.ref (mH Z), .int x1, .int x2]).length) Slot.unset).toArray = ls at hl ⊢
  have C : MCx p s m _ meth c _ _ _ Z := ⟨C, hv.2⟩
  have hM : mIn Z s I s.heap [] := ⟨hv.1, va_S.rf⟩
  exact mo_deed_w0 C x1 x2 I _ _ ls hM hl h

/-! SecondChancesModel.ruleOf(II)I -/
def mo_ruleOf_rm : Room := { frames := 4, cells := 0, slots := 0, locals := 89 }
def mo_ruleOf_P0 (p : Program) (l : Launch) (e : Env) (s : State) (m : MethodId) (args : Array Value) (below : List Frame) (meth : Method) (c : Code) (Z : MZ) (r : (Int32 × St)) (f : Int32 → Int32 → St → Option (Int32 × St)) : Prop := ∀ (x1 : Int32) (x2 : Int32) (I : St) (H : Heap) (locs : List Loc) (ls : Array Slot), mIn Z s I H locs → lv_has ls 3 [(0, .ref (mH Z)), (1, .int x1), (2, .int x2)] → f x1 x2 I = some r → W p l e mo_ruleOf_rm s m args below meth c H locs 0 0 (MQ below (Qwr (some (.int r.1)) (mS Z r.2) (mA Z)) args s 0 0 (mA Z)) (F0 m 0 ls [])
def mo_ruleOf (x1 : Int32) (x2 : Int32) (I : St) : Option (Int32 × St) :=
  bd_ (mo_reads  I) fun I1 =>
  if x2 = 0 then (al_ 4 (I1 9) x1 fun v6 =>
    some (v6, I1))
  else (if x2 = (1 : Int32) then (al_ 4 (I1 10) x1 fun v5 =>
      some (v5, I1))
    else (al_ 4 (I1 11) x1 fun v4 =>
      some (v4, I1)))
theorem mo_ruleOf_w0 {p : Program} {l : Launch} {e : Env} {s : State} {m : MethodId} {args : Array Value} {below : List Frame} {meth : Method} {c : Code} {Z : MZ} (C : MCx p s m args meth c cX6_ruleOf 3 (some .int) Z) {r : (Int32 × St)} : mo_ruleOf_P0 p l e s m args below meth c Z r (mo_ruleOf) := by
  intro x1 x2 I H locs ls hM hl h
  obtain ⟨⟨hx, hb, hr, hlocks, hml, hown, hts⟩, hK⟩ := id C
  unfold mo_ruleOf at h
  refine lv_aload_n hx hb dX6_ruleOf_0 rfl (lv_at hl 0 rfl) ?_
  obtain ⟨I1, q_I1, h⟩ := bd_e h
  refine m_wrV (As := []) (rest := []) C hM (mo_reads_met _ Z I  I1 q_I1) (lw_V q1213 q1215 qs47 q88 q1216) mo_reads_hd ⟨rfl, rfl⟩ ⟨Nat.le_of_ble_eq_true rfl, Nat.le_of_ble_eq_true rfl⟩ ⟨Nat.le_refl _, Nat.le_refl _⟩ rfl hl.1 rfl (Nat.le_of_ble_eq_true rfl) dX6_ruleOf_1 (fun H locs hM => ?_)
  refine lv_iload_n hx hb dX6_ruleOf_4 rfl (lv_at hl 2 rfl) ?_
  refine lv_if_ne (tgt := 17) hx hb dX6_ruleOf_5 (by decide) (fun c2 => ?_) (fun c2 => ?_)
  · have h := in_ c2 h
    refine lv_iload_n hx hb dX6_ruleOf_17 rfl (lv_at hl 2 rfl) ?_
    refine lv_iconst (v := 1) hx hb dX6_ruleOf_18 (by decide) ?_
    refine lv_icmp_ne (tgt := 31) hx hb dX6_ruleOf_19 (by decide) (fun c3 => ?_) (fun c3 => ?_)
    · have h := in_ c3 h
      refine lv_aload_n hx hb dX6_ruleOf_31 rfl (lv_at hl 0 rfl) ?_
      refine gm11 C hM.1 dX6_ruleOf_32 ?_
      refine lv_iload_n hx hb dX6_ruleOf_35 rfl (lv_at hl 1 rfl) ?_
      obtain ⟨i_v4, h⟩ := al_e h
      refine m_ald C hM.1 (pos := 9) (k := 11) rfl rfl i_v4 dX6_ruleOf_36 (fun v4 e_v4 => ?_)
      have h := h v4 e_v4
      have h := so_ h
      subst h
      exact W.iret hx hb hr (fun t ht hW => ⟨rfl, ⟨by rw [ht]; exact hM.1, va_K.moved hW.alike hK⟩, hM.2.F ht⟩) hM.2.2.2 dX6_ruleOf_37
    · have h := ip_ c3 h
      refine lv_aload_n hx hb dX6_ruleOf_22 rfl (lv_at hl 0 rfl) ?_
      refine gm10 C hM.1 dX6_ruleOf_23 ?_
      refine lv_iload_n hx hb dX6_ruleOf_26 rfl (lv_at hl 1 rfl) ?_
      obtain ⟨i_v5, h⟩ := al_e h
      refine m_ald C hM.1 (pos := 8) (k := 10) rfl rfl i_v5 dX6_ruleOf_27 (fun v5 e_v5 => ?_)
      have h := h v5 e_v5
      refine lv_goto (tgt := 37) hx hb dX6_ruleOf_28 (by decide) ?_
      have h := so_ h
      subst h
      exact W.iret hx hb hr (fun t ht hW => ⟨rfl, ⟨by rw [ht]; exact hM.1, va_K.moved hW.alike hK⟩, hM.2.F ht⟩) hM.2.2.2 dX6_ruleOf_37
  · have h := ip_ c2 h
    refine lv_aload_n hx hb dX6_ruleOf_8 rfl (lv_at hl 0 rfl) ?_
    refine gm9 C hM.1 dX6_ruleOf_9 ?_
    refine lv_iload_n hx hb dX6_ruleOf_12 rfl (lv_at hl 1 rfl) ?_
    obtain ⟨i_v6, h⟩ := al_e h
    refine m_ald C hM.1 (pos := 7) (k := 9) rfl rfl i_v6 dX6_ruleOf_13 (fun v6 e_v6 => ?_)
    have h := h v6 e_v6
    refine lv_goto (tgt := 37) hx hb dX6_ruleOf_14 (by decide) ?_
    have h := so_ h
    subst h
    exact W.iret hx hb hr (fun t ht hW => ⟨rfl, ⟨by rw [ht]; exact hM.1, va_K.moved hW.alike hK⟩, hM.2.F ht⟩) hM.2.2.2 dX6_ruleOf_37
theorem mo_ruleOf_hd : yX6_ruleOf.cls = RX6 ∧ yX6_ruleOf.cls ≠ "java/lang/invoke/MethodHandle" ∧ yX6_ruleOf.cls ≠ "java/lang/invoke/VarHandle" ∧ (parseMethodDescriptor yX6_ruleOf.desc).map (fun d => d.parameters.length) = some 2 := by decide +kernel
theorem mo_ruleOf_met (l : Launch) (Z : MZ) (I : St) (x1 : Int32) (x2 : Int32) (r : (Int32 × St)) (h : mo_ruleOf x1 x2 I = some r) : Met l yX6_ruleOf (ws_ yX6_ruleOf cX6_ruleOf 3 (some .int)) mo_ruleOf_rm (va_Pc [.ref (mH Z), .int x1, .int x2] (mS Z I)) (Qwr (some (.int r.1)) (mS Z r.2) (mA Z)) 0 0 (mA Z) := by
  refine Met.ofW (cc := cX6_ruleOf) (maxL := 3) (ret := some .int) (by decide) rfl ?_
  intro p e s m args below meth c s₁ B hml hv
  obtain ⟨rfl, hv⟩ := hv
  have hts := atoms_spec (ws := ws_ yX6_ruleOf cX6_ruleOf 3 (some .int)) B.pre
  have hts : ∀ w ∈ lw_all, w.before _ s = true := fun w h => hts w (List.mem_cons_of_mem _ h)
  have C : SCx p s m _ meth c cX6_ruleOf 3 (some .int) RX6 := ⟨B.exec, B.bytes, B.returns, B.notSynchronized, hml, findClass_of_methodNamed B.named, hts⟩
  have hl := lv_entry [.ref (mH Z), .int x1, .int x2] (n := 3) (Nat.le_of_ble_eq_true rfl)
  rw [lg_entry_eq]
  generalize (lg_sl [.ref (mH Z), .int x1, .int x2] ++ List.replicate (3 - (lg_sl [.ref (mH Z), .int x1, .int x2]).length) Slot.unset).toArray = ls at hl ⊢
  have C : MCx p s m _ meth c _ _ _ Z := ⟨C, hv.2⟩
  have hM : mIn Z s I s.heap [] := ⟨hv.1, va_S.rf⟩
  exact mo_ruleOf_w0 C x1 x2 I _ _ ls hM hl h

/-! SecondChancesModel.rule(II)I -/
def mo_rule_rm : Room := { frames := 5, cells := 0, slots := 0, locals := 111 }
def mo_rule_P0 (p : Program) (l : Launch) (e : Env) (s : State) (m : MethodId) (args : Array Value) (below : List Frame) (meth : Method) (c : Code) (Z : MZ) (r : (Int32 × St)) (f : Int32 → Int32 → St → Option (Int32 × St)) : Prop := ∀ (x1 : Int32) (x2 : Int32) (I : St) (H : Heap) (locs : List Loc) (ls : Array Slot), mIn Z s I H locs → lv_has ls 3 [(0, .ref (mH Z)), (1, .int x1), (2, .int x2)] → f x1 x2 I = some r → W p l e mo_rule_rm s m args below meth c H locs 0 0 (MQ below (Qwr (some (.int r.1)) (mS Z r.2) (mA Z)) args s 0 0 (mA Z)) (F0 m 0 ls [])
def mo_rule (x1 : Int32) (x2 : Int32) (I : St) : Option (Int32 × St) :=
  bd_ (mo_in x1 (0 : Int32) (3 : Int32)) fun v1 =>
  if v1 = 0 then (some ((-2 : Int32), I))
  else (bd_ (mo_in x2 (0 : Int32) (2 : Int32)) fun v3 =>
    if v3 = 0 then (some ((-2 : Int32), I))
    else (bd2_ (mo_ruleOf x1 x2 I) fun v6 I5 =>
      some (v6, I5)))
theorem mo_rule_w0 {p : Program} {l : Launch} {e : Env} {s : State} {m : MethodId} {args : Array Value} {below : List Frame} {meth : Method} {c : Code} {Z : MZ} (C : MCx p s m args meth c cX6_rule 3 (some .int) Z) {r : (Int32 × St)} : mo_rule_P0 p l e s m args below meth c Z r (mo_rule) := by
  intro x1 x2 I H locs ls hM hl h
  obtain ⟨⟨hx, hb, hr, hlocks, hml, hown, hts⟩, hK⟩ := id C
  unfold mo_rule at h
  refine lv_iload_n hx hb dX6_rule_0 rfl (lv_at hl 1 rfl) ?_
  refine lv_iconst (v := 0) hx hb dX6_rule_1 (by decide) ?_
  refine lv_iconst (v := 3) hx hb dX6_rule_2 (by decide) ?_
  obtain ⟨v1, q_v1, h⟩ := bd_e h
  refine s_roI (As := [.int x1, .int (0 : Int32), .int (3 : Int32)]) (rest := []) C.1 (mo_in_met _ x1 (0 : Int32) (3 : Int32) v1 q_v1) (lw_S q1168 q1169 q88 q1170) mo_in_hd ⟨rfl, rfl⟩ ⟨Nat.le_of_ble_eq_true rfl, Nat.le_of_ble_eq_true rfl⟩ ⟨Nat.le_refl _, Nat.le_refl _⟩ rfl hl.1 rfl (Nat.le_of_ble_eq_true rfl) dX6_rule_3 ?_
  refine lv_if_eq (tgt := 27) hx hb dX6_rule_6 (by decide) (fun c2 => ?_) (fun c2 => ?_)
  · have h := ip_ c2 h
    refine lv_bipush (v := -2) hx hb dX6_rule_27 (by decide) ?_
    have h := so_ h
    subst h
    exact W.iret hx hb hr (fun t ht hW => ⟨rfl, ⟨by rw [ht]; exact hM.1, va_K.moved hW.alike hK⟩, hM.2.F ht⟩) hM.2.2.2 dX6_rule_29
  · have h := in_ c2 h
    refine lv_iload_n hx hb dX6_rule_9 rfl (lv_at hl 2 rfl) ?_
    refine lv_iconst (v := 0) hx hb dX6_rule_10 (by decide) ?_
    refine lv_iconst (v := 2) hx hb dX6_rule_11 (by decide) ?_
    obtain ⟨v3, q_v3, h⟩ := bd_e h
    refine s_roI (As := [.int x2, .int (0 : Int32), .int (2 : Int32)]) (rest := []) C.1 (mo_in_met _ x2 (0 : Int32) (2 : Int32) v3 q_v3) (lw_S q1168 q1169 q88 q1170) mo_in_hd ⟨rfl, rfl⟩ ⟨Nat.le_of_ble_eq_true rfl, Nat.le_of_ble_eq_true rfl⟩ ⟨Nat.le_refl _, Nat.le_refl _⟩ rfl hl.1 rfl (Nat.le_of_ble_eq_true rfl) dX6_rule_12 ?_
    refine lv_if_eq (tgt := 27) hx hb dX6_rule_15 (by decide) (fun c4 => ?_) (fun c4 => ?_)
    · have h := ip_ c4 h
      refine lv_bipush (v := -2) hx hb dX6_rule_27 (by decide) ?_
      have h := so_ h
      subst h
      exact W.iret hx hb hr (fun t ht hW => ⟨rfl, ⟨by rw [ht]; exact hM.1, va_K.moved hW.alike hK⟩, hM.2.F ht⟩) hM.2.2.2 dX6_rule_29
    · have h := in_ c4 h
      refine lv_aload_n hx hb dX6_rule_18 rfl (lv_at hl 0 rfl) ?_
      refine lv_iload_n hx hb dX6_rule_19 rfl (lv_at hl 1 rfl) ?_
      refine lv_iload_n hx hb dX6_rule_20 rfl (lv_at hl 2 rfl) ?_
      obtain ⟨v6, I5, q_I5, h⟩ := bd2_e h
      refine m_wrI (As := [.int x1, .int x2]) (rest := []) C hM (mo_ruleOf_met _ Z I x1 x2 (v6, I5) q_I5) (lw_V q1225 q1227 qs49 q88 q1228) mo_ruleOf_hd ⟨rfl, rfl⟩ ⟨Nat.le_of_ble_eq_true rfl, Nat.le_of_ble_eq_true rfl⟩ ⟨Nat.le_refl _, Nat.le_refl _⟩ rfl hl.1 rfl (Nat.le_of_ble_eq_true rfl) dX6_rule_21 (fun H locs hM => ?_)
      refine lv_goto (tgt := 29) hx hb dX6_rule_24 (by decide) ?_
      have h := so_ h
      subst h
      exact W.iret hx hb hr (fun t ht hW => ⟨rfl, ⟨by rw [ht]; exact hM.1, va_K.moved hW.alike hK⟩, hM.2.F ht⟩) hM.2.2.2 dX6_rule_29
theorem mo_rule_hd : yX6_rule.cls = RX6 ∧ yX6_rule.cls ≠ "java/lang/invoke/MethodHandle" ∧ yX6_rule.cls ≠ "java/lang/invoke/VarHandle" ∧ (parseMethodDescriptor yX6_rule.desc).map (fun d => d.parameters.length) = some 2 := by decide +kernel
theorem mo_rule_met (l : Launch) (Z : MZ) (I : St) (x1 : Int32) (x2 : Int32) (r : (Int32 × St)) (h : mo_rule x1 x2 I = some r) : Met l yX6_rule (ws_ yX6_rule cX6_rule 3 (some .int)) mo_rule_rm (va_Pc [.ref (mH Z), .int x1, .int x2] (mS Z I)) (Qwr (some (.int r.1)) (mS Z r.2) (mA Z)) 0 0 (mA Z) := by
  refine Met.ofW (cc := cX6_rule) (maxL := 3) (ret := some .int) (by decide) rfl ?_
  intro p e s m args below meth c s₁ B hml hv
  obtain ⟨rfl, hv⟩ := hv
  have hts := atoms_spec (ws := ws_ yX6_rule cX6_rule 3 (some .int)) B.pre
  have hts : ∀ w ∈ lw_all, w.before _ s = true := fun w h => hts w (List.mem_cons_of_mem _ h)
  have C : SCx p s m _ meth c cX6_rule 3 (some .int) RX6 := ⟨B.exec, B.bytes, B.returns, B.notSynchronized, hml, findClass_of_methodNamed B.named, hts⟩
  have hl := lv_entry [.ref (mH Z), .int x1, .int x2] (n := 3) (Nat.le_of_ble_eq_true rfl)
  rw [lg_entry_eq]
  generalize (lg_sl [.ref (mH Z), .int x1, .int x2] ++ List.replicate (3 - (lg_sl [.ref (mH Z), .int x1, .int x2]).length) Slot.unset).toArray = ls at hl ⊢
  have C : MCx p s m _ meth c _ _ _ Z := ⟨C, hv.2⟩
  have hM : mIn Z s I s.heap [] := ⟨hv.1, va_S.rf⟩
  exact mo_rule_w0 C x1 x2 I _ _ ls hM hl h

/-! SecondChancesModel.isPerson(I)Z -/
def mo_isPerson_rm : Room := { frames := 1, cells := 0, slots := 0, locals := 22 }
def mo_isPerson_P0 (p : Program) (l : Launch) (e : Env) (s : State) (m : MethodId) (args : Array Value) (below : List Frame) (meth : Method) (c : Code) (r : Int32) (f : Int32 → Option Int32) : Prop := ∀ (x0 : Int32) (ls : Array Slot), lv_has ls 1 [(0, .int x0)] → f x0 = some r → W p l e mo_isPerson_rm s m args below meth c s.heap [] 0 0 (MQ below (Qro (some (.int r))) args s 0 0 (fun _ => False)) (F0 m 0 ls [])
def mo_isPerson (x0 : Int32) : Option Int32 :=
  bd_ (mo_in x0 (0 : Int32) (7 : Int32)) fun v1 =>
  if zb v1 = true then some v1 else none
theorem mo_isPerson_w0 {p : Program} {l : Launch} {e : Env} {s : State} {m : MethodId} {args : Array Value} {below : List Frame} {meth : Method} {c : Code} (C : SCx p s m args meth c cX6_isPerson 1 (some .boolean) RX6) {r : Int32} : mo_isPerson_P0 p l e s m args below meth c r (mo_isPerson) := by
  intro x0 ls hl h
  obtain ⟨hx, hb, hr, hlocks, hml, hown, hts⟩ := id C
  unfold mo_isPerson at h
  refine lv_iload_n hx hb dX6_isPerson_0 rfl (lv_at hl 0 rfl) ?_
  refine lv_iconst (v := 0) hx hb dX6_isPerson_1 (by decide) ?_
  refine lv_bipush (v := 7) hx hb dX6_isPerson_2 (by decide) ?_
  obtain ⟨v1, q_v1, h⟩ := bd_e h
  refine s_roI (As := [.int x0, .int (0 : Int32), .int (7 : Int32)]) (rest := []) C (mo_in_met _ x0 (0 : Int32) (7 : Int32) v1 q_v1) (lw_S q1168 q1169 q88 q1170) mo_in_hd ⟨rfl, rfl⟩ ⟨Nat.le_of_ble_eq_true rfl, Nat.le_of_ble_eq_true rfl⟩ ⟨Nat.le_refl _, Nat.le_refl _⟩ rfl hl.1 rfl (Nat.le_of_ble_eq_true rfl) dX6_isPerson_4 ?_
  by_cases c2 : zb v1 = true
  case neg => exact no_ (in_ c2 h)
  have h := ip_ c2 h
  have h := so_ h
  subst h
  exact W.zret hx hb hr (zb_n c2) (fun t ht hW => ⟨rfl, ht⟩) (fun q hq => by cases hq) dX6_isPerson_7
theorem mo_isPerson_hd : yX6_isPerson.cls ≠ "java/lang/invoke/MethodHandle" ∧ yX6_isPerson.cls ≠ "java/lang/invoke/VarHandle" ∧ (parseMethodDescriptor yX6_isPerson.desc).map (fun d => d.parameters.length) = some 1 := by decide +kernel
theorem mo_isPerson_met (l : Launch) (x0 : Int32) (r : Int32) (h : mo_isPerson x0 = some r) : Met l yX6_isPerson (ws_ yX6_isPerson cX6_isPerson 1 (some .boolean)) mo_isPerson_rm (va_Pc [.int x0] (fun _ => True)) (Qro (some (.int r))) 0 0 (fun _ => False) := by
  refine Met.ofW (cc := cX6_isPerson) (maxL := 1) (ret := some .boolean) (by decide) rfl ?_
  intro p e s m args below meth c s₁ B hml hv
  obtain ⟨rfl, hv⟩ := hv
  have hts := atoms_spec (ws := ws_ yX6_isPerson cX6_isPerson 1 (some .boolean)) B.pre
  have hts : ∀ w ∈ lw_all, w.before _ s = true := fun w h => hts w (List.mem_cons_of_mem _ h)
  have C : SCx p s m _ meth c cX6_isPerson 1 (some .boolean) RX6 := ⟨B.exec, B.bytes, B.returns, B.notSynchronized, hml, findClass_of_methodNamed B.named, hts⟩
  have hl := lv_entry [.int x0] (n := 1) (Nat.le_of_ble_eq_true rfl)
  rw [lg_entry_eq]
  generalize (lg_sl [.int x0] ++ List.replicate (1 - (lg_sl [.int x0]).length) Slot.unset).toArray = ls at hl ⊢
  exact mo_isPerson_w0 C x0 ls hl h

/-! SecondChancesModel.isHour(I)Z -/
def mo_isHour_rm : Room := { frames := 1, cells := 0, slots := 0, locals := 22 }
def mo_isHour_P0 (p : Program) (l : Launch) (e : Env) (s : State) (m : MethodId) (args : Array Value) (below : List Frame) (meth : Method) (c : Code) (r : Int32) (f : Int32 → Option Int32) : Prop := ∀ (x0 : Int32) (ls : Array Slot), lv_has ls 1 [(0, .int x0)] → f x0 = some r → W p l e mo_isHour_rm s m args below meth c s.heap [] 0 0 (MQ below (Qro (some (.int r))) args s 0 0 (fun _ => False)) (F0 m 0 ls [])
def mo_isHour (x0 : Int32) : Option Int32 :=
  bd_ (mo_in x0 (0 : Int32) (7 : Int32)) fun v1 =>
  if zb v1 = true then some v1 else none
theorem mo_isHour_w0 {p : Program} {l : Launch} {e : Env} {s : State} {m : MethodId} {args : Array Value} {below : List Frame} {meth : Method} {c : Code} (C : SCx p s m args meth c cX6_isHour 1 (some .boolean) RX6) {r : Int32} : mo_isHour_P0 p l e s m args below meth c r (mo_isHour) := by
  intro x0 ls hl h
  obtain ⟨hx, hb, hr, hlocks, hml, hown, hts⟩ := id C
  unfold mo_isHour at h
  refine lv_iload_n hx hb dX6_isHour_0 rfl (lv_at hl 0 rfl) ?_
  refine lv_iconst (v := 0) hx hb dX6_isHour_1 (by decide) ?_
  refine lv_bipush (v := 7) hx hb dX6_isHour_2 (by decide) ?_
  obtain ⟨v1, q_v1, h⟩ := bd_e h
  refine s_roI (As := [.int x0, .int (0 : Int32), .int (7 : Int32)]) (rest := []) C (mo_in_met _ x0 (0 : Int32) (7 : Int32) v1 q_v1) (lw_S q1168 q1169 q88 q1170) mo_in_hd ⟨rfl, rfl⟩ ⟨Nat.le_of_ble_eq_true rfl, Nat.le_of_ble_eq_true rfl⟩ ⟨Nat.le_refl _, Nat.le_refl _⟩ rfl hl.1 rfl (Nat.le_of_ble_eq_true rfl) dX6_isHour_4 ?_
  by_cases c2 : zb v1 = true
  case neg => exact no_ (in_ c2 h)
  have h := ip_ c2 h
  have h := so_ h
  subst h
  exact W.zret hx hb hr (zb_n c2) (fun t ht hW => ⟨rfl, ht⟩) (fun q hq => by cases hq) dX6_isHour_7
theorem mo_isHour_hd : yX6_isHour.cls ≠ "java/lang/invoke/MethodHandle" ∧ yX6_isHour.cls ≠ "java/lang/invoke/VarHandle" ∧ (parseMethodDescriptor yX6_isHour.desc).map (fun d => d.parameters.length) = some 1 := by decide +kernel
theorem mo_isHour_met (l : Launch) (x0 : Int32) (r : Int32) (h : mo_isHour x0 = some r) : Met l yX6_isHour (ws_ yX6_isHour cX6_isHour 1 (some .boolean)) mo_isHour_rm (va_Pc [.int x0] (fun _ => True)) (Qro (some (.int r))) 0 0 (fun _ => False) := by
  refine Met.ofW (cc := cX6_isHour) (maxL := 1) (ret := some .boolean) (by decide) rfl ?_
  intro p e s m args below meth c s₁ B hml hv
  obtain ⟨rfl, hv⟩ := hv
  have hts := atoms_spec (ws := ws_ yX6_isHour cX6_isHour 1 (some .boolean)) B.pre
  have hts : ∀ w ∈ lw_all, w.before _ s = true := fun w h => hts w (List.mem_cons_of_mem _ h)
  have C : SCx p s m _ meth c cX6_isHour 1 (some .boolean) RX6 := ⟨B.exec, B.bytes, B.returns, B.notSynchronized, hml, findClass_of_methodNamed B.named, hts⟩
  have hl := lv_entry [.int x0] (n := 1) (Nat.le_of_ble_eq_true rfl)
  rw [lg_entry_eq]
  generalize (lg_sl [.int x0] ++ List.replicate (1 - (lg_sl [.int x0]).length) Slot.unset).toArray = ls at hl ⊢
  exact mo_isHour_w0 C x0 ls hl h

