set_option maxRecDepth 100000
/-! SecondChances.in(JJJ)Z -/
def cf_in_rm : Room := { frames := 0, cells := 0, slots := 0, locals := 0 }
def cf_in_P0 (p : Program) (l : Launch) (e : Env) (s : State) (m : MethodId) (args : Array Value) (below : List Frame) (meth : Method) (c : Code) (r : Int32) (f : Int64 → Int64 → Int64 → Option Int32) : Prop := ∀ (x0 : Int64) (x2 : Int64) (x4 : Int64) (ls : Array Slot), lv_has ls 6 [(0, .long x0), (2, .long x2), (4, .long x4)] → f x0 x2 x4 = some r → W p l e cf_in_rm s m args below meth c s.heap [] 0 0 (MQ below (Qro (some (.int r))) args s 0 0 (fun _ => False)) (F0 m 0 ls [])
def cf_in (x0 : Int64) (x2 : Int64) (x4 : Int64) : Option Int32 :=
  if (lg_cmp x0 x2) < 0 then (some (0 : Int32))
  else (if 0 < (lg_cmp x0 x4) then (some (0 : Int32))
    else (some (1 : Int32)))
theorem cf_in_w0 {p : Program} {l : Launch} {e : Env} {s : State} {m : MethodId} {args : Array Value} {below : List Frame} {meth : Method} {c : Code} (C : SCx p s m args meth c cX0_in 6 (some .boolean) RX0) {r : Int32} : cf_in_P0 p l e s m args below meth c r (cf_in) := by
  intro x0 x2 x4 ls hl h
  obtain ⟨hx, hb, hr, hlocks, hml, hown, hts⟩ := id C
  unfold cf_in at h
  refine lv_lload_n hx hb dX0_in_0 rfl (lv_at hl 0 rfl) ?_
  refine lv_lload_n hx hb dX0_in_1 rfl (lv_at hl 1 rfl) ?_
  refine W.lcmp hx hb dX0_in_2 ?_
  refine lv_if_lt (tgt := 17) hx hb dX0_in_3 (by decide) (fun c1 => ?_) (fun c1 => ?_)
  · have h := ip_ c1 h
    refine lv_iconst (v := 0) hx hb dX0_in_17 (by decide) ?_
    have h := so_ h
    subst h
    exact W.zret hx hb hr rfl (fun t ht hW => ⟨rfl, ht⟩) (fun q hq => by cases hq) dX0_in_18
  · have h := in_ c1 h
    refine lv_lload_n hx hb dX0_in_6 rfl (lv_at hl 0 rfl) ?_
    refine lv_lload hx hb dX0_in_7 (lv_at hl 2 rfl) ?_
    refine W.lcmp hx hb dX0_in_9 ?_
    refine lv_if_gt (tgt := 17) hx hb dX0_in_10 (by decide) (fun c2 => ?_) (fun c2 => ?_)
    · have h := ip_ c2 h
      refine lv_iconst (v := 0) hx hb dX0_in_17 (by decide) ?_
      have h := so_ h
      subst h
      exact W.zret hx hb hr rfl (fun t ht hW => ⟨rfl, ht⟩) (fun q hq => by cases hq) dX0_in_18
    · have h := in_ c2 h
      refine lv_iconst (v := 1) hx hb dX0_in_13 (by decide) ?_
      refine lv_goto (tgt := 18) hx hb dX0_in_14 (by decide) ?_
      have h := so_ h
      subst h
      exact W.zret hx hb hr rfl (fun t ht hW => ⟨rfl, ht⟩) (fun q hq => by cases hq) dX0_in_18
theorem cf_in_hd : yX0_in.cls ≠ "java/lang/invoke/MethodHandle" ∧ yX0_in.cls ≠ "java/lang/invoke/VarHandle" ∧ (parseMethodDescriptor yX0_in.desc).map (fun d => d.parameters.length) = some 3 := by decide +kernel
theorem cf_in_met (l : Launch) (x0 : Int64) (x2 : Int64) (x4 : Int64) (r : Int32) (h : cf_in x0 x2 x4 = some r) : Met l yX0_in (ws_ yX0_in cX0_in 6 (some .boolean)) cf_in_rm (va_Pc [.long x0, .long x2, .long x4] (fun _ => True)) (Qro (some (.int r))) 0 0 (fun _ => False) := by
  refine Met.ofW (cc := cX0_in) (maxL := 6) (ret := some .boolean) (by decide) rfl ?_
  intro p e s m args below meth c s₁ B hml hv
  obtain ⟨rfl, hv⟩ := hv
  have hts := atoms_spec (ws := ws_ yX0_in cX0_in 6 (some .boolean)) B.pre
  have hts : ∀ w ∈ lw_all, w.before _ s = true := fun w h => hts w (List.mem_cons_of_mem _ h)
  have C : SCx p s m _ meth c cX0_in 6 (some .boolean) RX0 := ⟨B.exec, B.bytes, B.returns, B.notSynchronized, hml, findClass_of_methodNamed B.named, hts⟩
  have hl := lv_entry [.long x0, .long x2, .long x4] (n := 6) (Nat.le_of_ble_eq_true rfl)
  rw [lg_entry_eq]
  generalize (lg_sl [.long x0, .long x2, .long x4] ++ List.replicate (6 - (lg_sl [.long x0, .long x2, .long x4]).length) Slot.unset).toArray = ls at hl ⊢
  exact cf_in_w0 C x0 x2 x4 ls hl h

/-! SecondChances.no(I)J -/
def cf_no_rm : Room := { frames := 0, cells := 0, slots := 0, locals := 0 }
def cf_no_P0 (p : Program) (l : Launch) (e : Env) (s : State) (m : MethodId) (args : Array Value) (below : List Frame) (meth : Method) (c : Code) (r : Int64) (f : Int32 → Option Int64) : Prop := ∀ (x0 : Int32) (ls : Array Slot), lv_has ls 1 [(0, .int x0)] → f x0 = some r → W p l e cf_no_rm s m args below meth c s.heap [] 0 0 (MQ below (Qro (some (.long r))) args s 0 0 (fun _ => False)) (F0 m 0 ls [])
def cf_no (x0 : Int32) : Option Int64 :=
  some ((-9223372036854775808 : Int64) - (x0.toInt64))
theorem cf_no_w0 {p : Program} {l : Launch} {e : Env} {s : State} {m : MethodId} {args : Array Value} {below : List Frame} {meth : Method} {c : Code} (C : SCx p s m args meth c cX0_no 1 (some .long) RX0) {r : Int64} : cf_no_P0 p l e s m args below meth c r (cf_no) := by
  intro x0 ls hl h
  obtain ⟨hx, hb, hr, hlocks, hml, hown, hts⟩ := id C
  unfold cf_no at h
  refine lv_ldc2 (v := -9223372036854775808) hx hb hown (hts _ q825) dX0_no_0 ?_
  refine lv_iload_n hx hb dX0_no_3 rfl (lv_at hl 0 rfl) ?_
  refine lv_i2l hx hb dX0_no_4 rfl ?_
  refine lv_lsub hx hb dX0_no_5 ?_
  have h := so_ h
  subst h
  exact W.lret hx hb hr (fun t ht hW => ⟨rfl, ht⟩) (fun q hq => by cases hq) dX0_no_6
theorem cf_no_hd : yX0_no.cls ≠ "java/lang/invoke/MethodHandle" ∧ yX0_no.cls ≠ "java/lang/invoke/VarHandle" ∧ (parseMethodDescriptor yX0_no.desc).map (fun d => d.parameters.length) = some 1 := by decide +kernel
theorem cf_no_met (l : Launch) (x0 : Int32) (r : Int64) (h : cf_no x0 = some r) : Met l yX0_no (ws_ yX0_no cX0_no 1 (some .long)) cf_no_rm (va_Pc [.int x0] (fun _ => True)) (Qro (some (.long r))) 0 0 (fun _ => False) := by
  refine Met.ofW (cc := cX0_no) (maxL := 1) (ret := some .long) (by decide) rfl ?_
  intro p e s m args below meth c s₁ B hml hv
  obtain ⟨rfl, hv⟩ := hv
  have hts := atoms_spec (ws := ws_ yX0_no cX0_no 1 (some .long)) B.pre
  have hts : ∀ w ∈ lw_all, w.before _ s = true := fun w h => hts w (List.mem_cons_of_mem _ h)
  have C : SCx p s m _ meth c cX0_no 1 (some .long) RX0 := ⟨B.exec, B.bytes, B.returns, B.notSynchronized, hml, findClass_of_methodNamed B.named, hts⟩
  have hl := lv_entry [.int x0] (n := 1) (Nat.le_of_ble_eq_true rfl)
  rw [lg_entry_eq]
  generalize (lg_sl [.int x0] ++ List.replicate (1 - (lg_sl [.int x0]).length) Slot.unset).toArray = ls at hl ⊢
  exact cf_no_w0 C x0 ls hl h

/-! SecondChances.isTwo(I)Z -/
def cf_isTwo_rm : Room := { frames := 1, cells := 0, slots := 0, locals := 25 }
def cf_isTwo_P0 (p : Program) (l : Launch) (e : Env) (s : State) (m : MethodId) (args : Array Value) (below : List Frame) (meth : Method) (c : Code) (r : Int32) (f : Int32 → Option Int32) : Prop := ∀ (x0 : Int32) (ls : Array Slot), lv_has ls 1 [(0, .int x0)] → f x0 = some r → W p l e cf_isTwo_rm s m args below meth c s.heap [] 0 0 (MQ below (Qro (some (.int r))) args s 0 0 (fun _ => False)) (F0 m 0 ls [])
def cf_isTwo (x0 : Int32) : Option Int32 :=
  bd_ (cf_in (x0.toInt64) (0 : Int64) (1 : Int64)) fun v1 =>
  if zb v1 = true then some v1 else none
theorem cf_isTwo_w0 {p : Program} {l : Launch} {e : Env} {s : State} {m : MethodId} {args : Array Value} {below : List Frame} {meth : Method} {c : Code} (C : SCx p s m args meth c cX0_isTwo 1 (some .boolean) RX0) {r : Int32} : cf_isTwo_P0 p l e s m args below meth c r (cf_isTwo) := by
  intro x0 ls hl h
  obtain ⟨hx, hb, hr, hlocks, hml, hown, hts⟩ := id C
  unfold cf_isTwo at h
  refine lv_iload_n hx hb dX0_isTwo_0 rfl (lv_at hl 0 rfl) ?_
  refine lv_i2l hx hb dX0_isTwo_1 rfl ?_
  refine lv_lconst (v := 0) hx hb dX0_isTwo_2 (by decide) ?_
  refine lv_lconst (v := 1) hx hb dX0_isTwo_3 (by decide) ?_
  obtain ⟨v1, q_v1, h⟩ := bd_e h
  refine s_roI (As := [.long (x0.toInt64), .long (0 : Int64), .long (1 : Int64)]) (rest := []) C (cf_in_met _ (x0.toInt64) (0 : Int64) (1 : Int64) v1 q_v1) (lw_S q298 q299 q79 q300) cf_in_hd ⟨rfl, rfl⟩ ⟨Nat.le_of_ble_eq_true rfl, Nat.le_of_ble_eq_true rfl⟩ ⟨Nat.le_refl _, Nat.le_refl _⟩ rfl hl.1 rfl (Nat.le_of_ble_eq_true rfl) dX0_isTwo_4 ?_
  by_cases c2 : zb v1 = true
  case neg => exact no_ (in_ c2 h)
  have h := ip_ c2 h
  have h := so_ h
  subst h
  exact W.zret hx hb hr (zb_n c2) (fun t ht hW => ⟨rfl, ht⟩) (fun q hq => by cases hq) dX0_isTwo_7
theorem cf_isTwo_hd : yX0_isTwo.cls ≠ "java/lang/invoke/MethodHandle" ∧ yX0_isTwo.cls ≠ "java/lang/invoke/VarHandle" ∧ (parseMethodDescriptor yX0_isTwo.desc).map (fun d => d.parameters.length) = some 1 := by decide +kernel
theorem cf_isTwo_met (l : Launch) (x0 : Int32) (r : Int32) (h : cf_isTwo x0 = some r) : Met l yX0_isTwo (ws_ yX0_isTwo cX0_isTwo 1 (some .boolean)) cf_isTwo_rm (va_Pc [.int x0] (fun _ => True)) (Qro (some (.int r))) 0 0 (fun _ => False) := by
  refine Met.ofW (cc := cX0_isTwo) (maxL := 1) (ret := some .boolean) (by decide) rfl ?_
  intro p e s m args below meth c s₁ B hml hv
  obtain ⟨rfl, hv⟩ := hv
  have hts := atoms_spec (ws := ws_ yX0_isTwo cX0_isTwo 1 (some .boolean)) B.pre
  have hts : ∀ w ∈ lw_all, w.before _ s = true := fun w h => hts w (List.mem_cons_of_mem _ h)
  have C : SCx p s m _ meth c cX0_isTwo 1 (some .boolean) RX0 := ⟨B.exec, B.bytes, B.returns, B.notSynchronized, hml, findClass_of_methodNamed B.named, hts⟩
  have hl := lv_entry [.int x0] (n := 1) (Nat.le_of_ble_eq_true rfl)
  rw [lg_entry_eq]
  generalize (lg_sl [.int x0] ++ List.replicate (1 - (lg_sl [.int x0]).length) Slot.unset).toArray = ls at hl ⊢
  exact cf_isTwo_w0 C x0 ls hl h

/-! SecondChances.isIn(II)Z -/
def cf_isIn_rm : Room := { frames := 0, cells := 0, slots := 0, locals := 0 }
def cf_isIn_P0 (p : Program) (l : Launch) (e : Env) (s : State) (m : MethodId) (args : Array Value) (below : List Frame) (meth : Method) (c : Code) (r : Int32) (f : Int32 → Int32 → Option Int32) : Prop := ∀ (x0 : Int32) (x1 : Int32) (ls : Array Slot), lv_has ls 2 [(0, .int x0), (1, .int x1)] → f x0 x1 = some r → W p l e cf_isIn_rm s m args below meth c s.heap [] 0 0 (MQ below (Qro (some (.int r))) args s 0 0 (fun _ => False)) (F0 m 0 ls [])
def cf_isIn (x0 : Int32) (x1 : Int32) : Option Int32 :=
  if ((x0 >>> (x1 &&& 31)) &&& (1 : Int32)) = (1 : Int32) then (some (1 : Int32))
  else (some (0 : Int32))
theorem cf_isIn_w0 {p : Program} {l : Launch} {e : Env} {s : State} {m : MethodId} {args : Array Value} {below : List Frame} {meth : Method} {c : Code} (C : SCx p s m args meth c cX0_isIn 2 (some .boolean) RX0) {r : Int32} : cf_isIn_P0 p l e s m args below meth c r (cf_isIn) := by
  intro x0 x1 ls hl h
  obtain ⟨hx, hb, hr, hlocks, hml, hown, hts⟩ := id C
  unfold cf_isIn at h
  refine lv_iload_n hx hb dX0_isIn_0 rfl (lv_at hl 0 rfl) ?_
  refine lv_iload_n hx hb dX0_isIn_1 rfl (lv_at hl 1 rfl) ?_
  refine lv_ishr hx hb dX0_isIn_2 ?_
  refine lv_iconst (v := 1) hx hb dX0_isIn_3 (by decide) ?_
  refine lv_iand hx hb dX0_isIn_4 ?_
  refine lv_iconst (v := 1) hx hb dX0_isIn_5 (by decide) ?_
  refine lv_icmp_ne (tgt := 13) hx hb dX0_isIn_6 (by decide) (fun c1 => ?_) (fun c1 => ?_)
  · have h := in_ c1 h
    refine lv_iconst (v := 0) hx hb dX0_isIn_13 (by decide) ?_
    have h := so_ h
    subst h
    exact W.zret hx hb hr rfl (fun t ht hW => ⟨rfl, ht⟩) (fun q hq => by cases hq) dX0_isIn_14
  · have h := ip_ c1 h
    refine lv_iconst (v := 1) hx hb dX0_isIn_9 (by decide) ?_
    refine lv_goto (tgt := 14) hx hb dX0_isIn_10 (by decide) ?_
    have h := so_ h
    subst h
    exact W.zret hx hb hr rfl (fun t ht hW => ⟨rfl, ht⟩) (fun q hq => by cases hq) dX0_isIn_14
theorem cf_isIn_hd : yX0_isIn.cls ≠ "java/lang/invoke/MethodHandle" ∧ yX0_isIn.cls ≠ "java/lang/invoke/VarHandle" ∧ (parseMethodDescriptor yX0_isIn.desc).map (fun d => d.parameters.length) = some 2 := by decide +kernel
theorem cf_isIn_met (l : Launch) (x0 : Int32) (x1 : Int32) (r : Int32) (h : cf_isIn x0 x1 = some r) : Met l yX0_isIn (ws_ yX0_isIn cX0_isIn 2 (some .boolean)) cf_isIn_rm (va_Pc [.int x0, .int x1] (fun _ => True)) (Qro (some (.int r))) 0 0 (fun _ => False) := by
  refine Met.ofW (cc := cX0_isIn) (maxL := 2) (ret := some .boolean) (by decide) rfl ?_
  intro p e s m args below meth c s₁ B hml hv
  obtain ⟨rfl, hv⟩ := hv
  have hts := atoms_spec (ws := ws_ yX0_isIn cX0_isIn 2 (some .boolean)) B.pre
  have hts : ∀ w ∈ lw_all, w.before _ s = true := fun w h => hts w (List.mem_cons_of_mem _ h)
  have C : SCx p s m _ meth c cX0_isIn 2 (some .boolean) RX0 := ⟨B.exec, B.bytes, B.returns, B.notSynchronized, hml, findClass_of_methodNamed B.named, hts⟩
  have hl := lv_entry [.int x0, .int x1] (n := 2) (Nat.le_of_ble_eq_true rfl)
  rw [lg_entry_eq]
  generalize (lg_sl [.int x0, .int x1] ++ List.replicate (2 - (lg_sl [.int x0, .int x1]).length) Slot.unset).toArray = ls at hl ⊢
  exact cf_isIn_w0 C x0 x1 ls hl h

/-! SecondChances.isHour(I)Z -/
def cf_isHour_rm : Room := { frames := 1, cells := 0, slots := 0, locals := 25 }
def cf_isHour_P0 (p : Program) (l : Launch) (e : Env) (s : State) (m : MethodId) (args : Array Value) (below : List Frame) (meth : Method) (c : Code) (r : Int32) (f : Int32 → Option Int32) : Prop := ∀ (x0 : Int32) (ls : Array Slot), lv_has ls 1 [(0, .int x0)] → f x0 = some r → W p l e cf_isHour_rm s m args below meth c s.heap [] 0 0 (MQ below (Qro (some (.int r))) args s 0 0 (fun _ => False)) (F0 m 0 ls [])
def cf_isHour (x0 : Int32) : Option Int32 :=
  bd_ (cf_in (x0.toInt64) (0 : Int64) (7 : Int64)) fun v1 =>
  if zb v1 = true then some v1 else none
theorem cf_isHour_w0 {p : Program} {l : Launch} {e : Env} {s : State} {m : MethodId} {args : Array Value} {below : List Frame} {meth : Method} {c : Code} (C : SCx p s m args meth c cX0_isHour 1 (some .boolean) RX0) {r : Int32} : cf_isHour_P0 p l e s m args below meth c r (cf_isHour) := by
  intro x0 ls hl h
  obtain ⟨hx, hb, hr, hlocks, hml, hown, hts⟩ := id C
  unfold cf_isHour at h
  refine lv_iload_n hx hb dX0_isHour_0 rfl (lv_at hl 0 rfl) ?_
  refine lv_i2l hx hb dX0_isHour_1 rfl ?_
  refine lv_lconst (v := 0) hx hb dX0_isHour_2 (by decide) ?_
  refine lv_ldc2 (v := 7) hx hb hown (hts _ q297) dX0_isHour_3 ?_
  obtain ⟨v1, q_v1, h⟩ := bd_e h
  refine s_roI (As := [.long (x0.toInt64), .long (0 : Int64), .long (7 : Int64)]) (rest := []) C (cf_in_met _ (x0.toInt64) (0 : Int64) (7 : Int64) v1 q_v1) (lw_S q298 q299 q79 q300) cf_in_hd ⟨rfl, rfl⟩ ⟨Nat.le_of_ble_eq_true rfl, Nat.le_of_ble_eq_true rfl⟩ ⟨Nat.le_refl _, Nat.le_refl _⟩ rfl hl.1 rfl (Nat.le_of_ble_eq_true rfl) dX0_isHour_6 ?_
  by_cases c2 : zb v1 = true
  case neg => exact no_ (in_ c2 h)
  have h := ip_ c2 h
  have h := so_ h
  subst h
  exact W.zret hx hb hr (zb_n c2) (fun t ht hW => ⟨rfl, ht⟩) (fun q hq => by cases hq) dX0_isHour_9
theorem cf_isHour_hd : yX0_isHour.cls ≠ "java/lang/invoke/MethodHandle" ∧ yX0_isHour.cls ≠ "java/lang/invoke/VarHandle" ∧ (parseMethodDescriptor yX0_isHour.desc).map (fun d => d.parameters.length) = some 1 := by decide +kernel
theorem cf_isHour_met (l : Launch) (x0 : Int32) (r : Int32) (h : cf_isHour x0 = some r) : Met l yX0_isHour (ws_ yX0_isHour cX0_isHour 1 (some .boolean)) cf_isHour_rm (va_Pc [.int x0] (fun _ => True)) (Qro (some (.int r))) 0 0 (fun _ => False) := by
  refine Met.ofW (cc := cX0_isHour) (maxL := 1) (ret := some .boolean) (by decide) rfl ?_
  intro p e s m args below meth c s₁ B hml hv
  obtain ⟨rfl, hv⟩ := hv
  have hts := atoms_spec (ws := ws_ yX0_isHour cX0_isHour 1 (some .boolean)) B.pre
  have hts : ∀ w ∈ lw_all, w.before _ s = true := fun w h => hts w (List.mem_cons_of_mem _ h)
  have C : SCx p s m _ meth c cX0_isHour 1 (some .boolean) RX0 := ⟨B.exec, B.bytes, B.returns, B.notSynchronized, hml, findClass_of_methodNamed B.named, hts⟩
  have hl := lv_entry [.int x0] (n := 1) (Nat.le_of_ble_eq_true rfl)
  rw [lg_entry_eq]
  generalize (lg_sl [.int x0] ++ List.replicate (1 - (lg_sl [.int x0]).length) Slot.unset).toArray = ls at hl ⊢
  exact cf_isHour_w0 C x0 ls hl h

/-! SecondChances.isPerson(I)Z -/
def cf_isPerson_rm : Room := { frames := 1, cells := 0, slots := 0, locals := 25 }
def cf_isPerson_P0 (p : Program) (l : Launch) (e : Env) (s : State) (m : MethodId) (args : Array Value) (below : List Frame) (meth : Method) (c : Code) (r : Int32) (f : Int32 → Option Int32) : Prop := ∀ (x0 : Int32) (ls : Array Slot), lv_has ls 1 [(0, .int x0)] → f x0 = some r → W p l e cf_isPerson_rm s m args below meth c s.heap [] 0 0 (MQ below (Qro (some (.int r))) args s 0 0 (fun _ => False)) (F0 m 0 ls [])
def cf_isPerson (x0 : Int32) : Option Int32 :=
  bd_ (cf_in (x0.toInt64) (0 : Int64) (7 : Int64)) fun v1 =>
  if zb v1 = true then some v1 else none
theorem cf_isPerson_w0 {p : Program} {l : Launch} {e : Env} {s : State} {m : MethodId} {args : Array Value} {below : List Frame} {meth : Method} {c : Code} (C : SCx p s m args meth c cX0_isPerson 1 (some .boolean) RX0) {r : Int32} : cf_isPerson_P0 p l e s m args below meth c r (cf_isPerson) := by
  intro x0 ls hl h
  obtain ⟨hx, hb, hr, hlocks, hml, hown, hts⟩ := id C
  unfold cf_isPerson at h
  refine lv_iload_n hx hb dX0_isPerson_0 rfl (lv_at hl 0 rfl) ?_
  refine lv_i2l hx hb dX0_isPerson_1 rfl ?_
  refine lv_lconst (v := 0) hx hb dX0_isPerson_2 (by decide) ?_
  refine lv_ldc2 (v := 7) hx hb hown (hts _ q297) dX0_isPerson_3 ?_
  obtain ⟨v1, q_v1, h⟩ := bd_e h
  refine s_roI (As := [.long (x0.toInt64), .long (0 : Int64), .long (7 : Int64)]) (rest := []) C (cf_in_met _ (x0.toInt64) (0 : Int64) (7 : Int64) v1 q_v1) (lw_S q298 q299 q79 q300) cf_in_hd ⟨rfl, rfl⟩ ⟨Nat.le_of_ble_eq_true rfl, Nat.le_of_ble_eq_true rfl⟩ ⟨Nat.le_refl _, Nat.le_refl _⟩ rfl hl.1 rfl (Nat.le_of_ble_eq_true rfl) dX0_isPerson_6 ?_
  by_cases c2 : zb v1 = true
  case neg => exact no_ (in_ c2 h)
  have h := ip_ c2 h
  have h := so_ h
  subst h
  exact W.zret hx hb hr (zb_n c2) (fun t ht hW => ⟨rfl, ht⟩) (fun q hq => by cases hq) dX0_isPerson_9
theorem cf_isPerson_hd : yX0_isPerson.cls ≠ "java/lang/invoke/MethodHandle" ∧ yX0_isPerson.cls ≠ "java/lang/invoke/VarHandle" ∧ (parseMethodDescriptor yX0_isPerson.desc).map (fun d => d.parameters.length) = some 1 := by decide +kernel
theorem cf_isPerson_met (l : Launch) (x0 : Int32) (r : Int32) (h : cf_isPerson x0 = some r) : Met l yX0_isPerson (ws_ yX0_isPerson cX0_isPerson 1 (some .boolean)) cf_isPerson_rm (va_Pc [.int x0] (fun _ => True)) (Qro (some (.int r))) 0 0 (fun _ => False) := by
  refine Met.ofW (cc := cX0_isPerson) (maxL := 1) (ret := some .boolean) (by decide) rfl ?_
  intro p e s m args below meth c s₁ B hml hv
  obtain ⟨rfl, hv⟩ := hv
  have hts := atoms_spec (ws := ws_ yX0_isPerson cX0_isPerson 1 (some .boolean)) B.pre
  have hts : ∀ w ∈ lw_all, w.before _ s = true := fun w h => hts w (List.mem_cons_of_mem _ h)
  have C : SCx p s m _ meth c cX0_isPerson 1 (some .boolean) RX0 := ⟨B.exec, B.bytes, B.returns, B.notSynchronized, hml, findClass_of_methodNamed B.named, hts⟩
  have hl := lv_entry [.int x0] (n := 1) (Nat.le_of_ble_eq_true rfl)
  rw [lg_entry_eq]
  generalize (lg_sl [.int x0] ++ List.replicate (1 - (lg_sl [.int x0]).length) Slot.unset).toArray = ls at hl ⊢
  exact cf_isPerson_w0 C x0 ls hl h

/-! SecondChances.isAnyDeed(I)Z -/
def cf_isAnyDeed_rm : Room := { frames := 1, cells := 0, slots := 0, locals := 25 }
def cf_isAnyDeed_P0 (p : Program) (l : Launch) (e : Env) (s : State) (m : MethodId) (args : Array Value) (below : List Frame) (meth : Method) (c : Code) (r : Int32) (f : Int32 → Option Int32) : Prop := ∀ (x0 : Int32) (ls : Array Slot), lv_has ls 1 [(0, .int x0)] → f x0 = some r → W p l e cf_isAnyDeed_rm s m args below meth c s.heap [] 0 0 (MQ below (Qro (some (.int r))) args s 0 0 (fun _ => False)) (F0 m 0 ls [])
def cf_isAnyDeed (x0 : Int32) : Option Int32 :=
  bd_ (cf_in (x0.toInt64) (0 : Int64) (7 : Int64)) fun v1 =>
  if zb v1 = true then some v1 else none
theorem cf_isAnyDeed_w0 {p : Program} {l : Launch} {e : Env} {s : State} {m : MethodId} {args : Array Value} {below : List Frame} {meth : Method} {c : Code} (C : SCx p s m args meth c cX0_isAnyDeed 1 (some .boolean) RX0) {r : Int32} : cf_isAnyDeed_P0 p l e s m args below meth c r (cf_isAnyDeed) := by
  intro x0 ls hl h
  obtain ⟨hx, hb, hr, hlocks, hml, hown, hts⟩ := id C
  unfold cf_isAnyDeed at h
  refine lv_iload_n hx hb dX0_isAnyDeed_0 rfl (lv_at hl 0 rfl) ?_
  refine lv_i2l hx hb dX0_isAnyDeed_1 rfl ?_
  refine lv_lconst (v := 0) hx hb dX0_isAnyDeed_2 (by decide) ?_
  refine lv_ldc2 (v := 7) hx hb hown (hts _ q297) dX0_isAnyDeed_3 ?_
  obtain ⟨v1, q_v1, h⟩ := bd_e h
  refine s_roI (As := [.long (x0.toInt64), .long (0 : Int64), .long (7 : Int64)]) (rest := []) C (cf_in_met _ (x0.toInt64) (0 : Int64) (7 : Int64) v1 q_v1) (lw_S q298 q299 q79 q300) cf_in_hd ⟨rfl, rfl⟩ ⟨Nat.le_of_ble_eq_true rfl, Nat.le_of_ble_eq_true rfl⟩ ⟨Nat.le_refl _, Nat.le_refl _⟩ rfl hl.1 rfl (Nat.le_of_ble_eq_true rfl) dX0_isAnyDeed_6 ?_
  by_cases c2 : zb v1 = true
  case neg => exact no_ (in_ c2 h)
  have h := ip_ c2 h
  have h := so_ h
  subst h
  exact W.zret hx hb hr (zb_n c2) (fun t ht hW => ⟨rfl, ht⟩) (fun q hq => by cases hq) dX0_isAnyDeed_9
theorem cf_isAnyDeed_hd : yX0_isAnyDeed.cls ≠ "java/lang/invoke/MethodHandle" ∧ yX0_isAnyDeed.cls ≠ "java/lang/invoke/VarHandle" ∧ (parseMethodDescriptor yX0_isAnyDeed.desc).map (fun d => d.parameters.length) = some 1 := by decide +kernel
theorem cf_isAnyDeed_met (l : Launch) (x0 : Int32) (r : Int32) (h : cf_isAnyDeed x0 = some r) : Met l yX0_isAnyDeed (ws_ yX0_isAnyDeed cX0_isAnyDeed 1 (some .boolean)) cf_isAnyDeed_rm (va_Pc [.int x0] (fun _ => True)) (Qro (some (.int r))) 0 0 (fun _ => False) := by
  refine Met.ofW (cc := cX0_isAnyDeed) (maxL := 1) (ret := some .boolean) (by decide) rfl ?_
  intro p e s m args below meth c s₁ B hml hv
  obtain ⟨rfl, hv⟩ := hv
  have hts := atoms_spec (ws := ws_ yX0_isAnyDeed cX0_isAnyDeed 1 (some .boolean)) B.pre
  have hts : ∀ w ∈ lw_all, w.before _ s = true := fun w h => hts w (List.mem_cons_of_mem _ h)
  have C : SCx p s m _ meth c cX0_isAnyDeed 1 (some .boolean) RX0 := ⟨B.exec, B.bytes, B.returns, B.notSynchronized, hml, findClass_of_methodNamed B.named, hts⟩
  have hl := lv_entry [.int x0] (n := 1) (Nat.le_of_ble_eq_true rfl)
  rw [lg_entry_eq]
  generalize (lg_sl [.int x0] ++ List.replicate (1 - (lg_sl [.int x0]).length) Slot.unset).toArray = ls at hl ⊢
  exact cf_isAnyDeed_w0 C x0 ls hl h

/-! SecondChances.choices(II)J -/
def cf_choices_rm : Room := { frames := 0, cells := 0, slots := 0, locals := 0 }
def cf_choices_P0 (p : Program) (l : Launch) (e : Env) (s : State) (m : MethodId) (args : Array Value) (below : List Frame) (meth : Method) (c : Code) (r : Int64) (f : Int32 → Int32 → Option Int64) : Prop := ∀ (x0 : Int32) (x1 : Int32) (ls : Array Slot), lv_has ls 5 [(0, .int x0), (1, .int x1)] → f x0 x1 = some r → W p l e cf_choices_rm s m args below meth c s.heap [] 0 0 (MQ below (Qro (some (.long r))) args s 0 0 (fun _ => False)) (F0 m 0 ls [])
def cf_choices_P10 (p : Program) (l : Launch) (e : Env) (s : State) (m : MethodId) (args : Array Value) (below : List Frame) (meth : Method) (c : Code) (r : Int64) (f : Int32 → Int32 → Int64 → Option Int64) : Prop := ∀ (x0 : Int32) (x1 : Int32) (t0 : Int64) (ls : Array Slot), lv_has ls 5 [(0, .int x0), (1, .int x1)] → f x0 x1 t0 = some r → W p l e cf_choices_rm s m args below meth c s.heap [] 0 0 (MQ below (Qro (some (.long r))) args s 0 0 (fun _ => False)) (F0 m 10 ls [.long t0])
def cf_choices_P14 (p : Program) (l : Launch) (e : Env) (s : State) (m : MethodId) (args : Array Value) (below : List Frame) (meth : Method) (c : Code) (r : Int64) (f : Int32 → Int32 → Int64 → Int32 → Option Int64) : Prop := ∀ (x0 : Int32) (x1 : Int32) (x2 : Int64) (x4 : Int32) (ls : Array Slot), lv_has ls 5 [(0, .int x0), (1, .int x1), (2, .long x2), (4, .int x4)] → f x0 x1 x2 x4 = some r → W p l e cf_choices_rm s m args below meth c s.heap [] 0 0 (MQ below (Qro (some (.long r))) args s 0 0 (fun _ => False)) (F0 m 14 ls [])
def cf_choices_b14 (k14 : Int32 → Int32 → Int64 → Int32 → Option Int64) (x0 : Int32) (x1 : Int32) (x2 : Int64) (x4 : Int32) : Option Int64 :=
  if x1 < x4 then (some x2)
  else (if x0 < x1 then (some x2)
    else (if (x4.toInt64) = 0 then none else
      lt_ ((x2 * (((x0 - x1) + x4).toInt64)) / (x4.toInt64)) fun v4 =>
      k14 x0 x1 v4 (x4 + 1)))
theorem cf_choices_w14 {p : Program} {l : Launch} {e : Env} {s : State} {m : MethodId} {args : Array Value} {below : List Frame} {meth : Method} {c : Code} (C : SCx p s m args meth c cX0_choices 5 (some .long) RX0) {r : Int64} {k14 : Int32 → Int32 → Int64 → Int32 → Option Int64} (hk14 : cf_choices_P14 p l e s m args below meth c r k14) : cf_choices_P14 p l e s m args below meth c r (cf_choices_b14 k14) := by
  intro x0 x1 x2 x4 ls hl h
  obtain ⟨hx, hb, hr, hlocks, hml, hown, hts⟩ := id C
  unfold cf_choices_b14 at h
  refine lv_iload hx hb dX0_choices_14 (lv_at hl 3 rfl) ?_
  refine lv_iload_n hx hb dX0_choices_16 rfl (lv_at hl 1 rfl) ?_
  refine lv_icmp_gt (tgt := 45) hx hb dX0_choices_17 (by decide) (fun c1 => ?_) (fun c1 => ?_)
  · have h := ip_ c1 h
    refine lv_lload_n hx hb dX0_choices_45 rfl (lv_at hl 2 rfl) ?_
    have h := so_ h
    subst h
    exact W.lret hx hb hr (fun t ht hW => ⟨rfl, ht⟩) (fun q hq => by cases hq) dX0_choices_46
  · have h := in_ c1 h
    refine lv_iload_n hx hb dX0_choices_20 rfl (lv_at hl 1 rfl) ?_
    refine lv_iload_n hx hb dX0_choices_21 rfl (lv_at hl 0 rfl) ?_
    refine lv_icmp_gt (tgt := 45) hx hb dX0_choices_22 (by decide) (fun c2 => ?_) (fun c2 => ?_)
    · have h := ip_ c2 h
      refine lv_lload_n hx hb dX0_choices_45 rfl (lv_at hl 2 rfl) ?_
      have h := so_ h
      subst h
      exact W.lret hx hb hr (fun t ht hW => ⟨rfl, ht⟩) (fun q hq => by cases hq) dX0_choices_46
    · have h := in_ c2 h
      refine lv_lload_n hx hb dX0_choices_25 rfl (lv_at hl 2 rfl) ?_
      refine lv_iload_n hx hb dX0_choices_26 rfl (lv_at hl 0 rfl) ?_
      refine lv_iload_n hx hb dX0_choices_27 rfl (lv_at hl 1 rfl) ?_
      refine lv_isub hx hb dX0_choices_28 ?_
      refine lv_iload hx hb dX0_choices_29 (lv_at hl 3 rfl) ?_
      refine lv_iadd hx hb dX0_choices_31 ?_
      refine lv_i2l hx hb dX0_choices_32 rfl ?_
      refine lv_lmul hx hb dX0_choices_33 ?_
      refine lv_iload hx hb dX0_choices_34 (lv_at hl 3 rfl) ?_
      refine lv_i2l hx hb dX0_choices_36 rfl ?_
      by_cases c3 : (x4.toInt64) = 0
      · exact no_ (ip_ c3 h)
      have h := in_ c3 h
      refine lv_ldiv hx hb dX0_choices_37 c3 ?_
      refine lv_topl (fun v4 e_v4 => ?_)
      have h := lt_i h e_v4
      refine lv_lstore_n (lv' := [(2, .long v4), (0, .int x0), (1, .int x1), (4, .int x4)]) hx hb dX0_choices_38 rfl hl (by decide) rfl (fun ls hl => ?_)
      refine lv_iinc (v := (x4 + 1)) (lv' := [(4, .int (x4 + 1)), (2, .long v4), (0, .int x0), (1, .int x1)]) hx hb dX0_choices_39 hl (k := 3) rfl rfl (by decide) rfl (fun ls hl => ?_)
      refine lv_goto (tgt := 14) hx hb dX0_choices_42 (by decide) ?_
      exact hk14 x0 x1 v4 (x4 + 1) ls (lv_sub hl [2, 3, 1, 0] rfl) h
def cf_choices_l14 (n : Nat) : Int32 → Int32 → Int64 → Int32 → Option Int64 := lp (fun _ _ _ _ => none) (cf_choices_b14) n
theorem cf_choices_lw14 {p : Program} {l : Launch} {e : Env} {s : State} {m : MethodId} {args : Array Value} {below : List Frame} {meth : Method} {c : Code} (C : SCx p s m args meth c cX0_choices 5 (some .long) RX0) {r : Int64} : ∀ n : Nat, cf_choices_P14 p l e s m args below meth c r (cf_choices_l14 n) := by
  intro n
  induction n with
  | zero => intro x0 x1 x2 x4 ls hl h; exact no_ h
  | succ n ih => exact cf_choices_w14 C ih
def cf_choices_b10 (x0 : Int32) (x1 : Int32) (t0 : Int64) : Option Int64 :=
  cf_choices_l14 FU x0 x1 t0 (1 : Int32)
theorem cf_choices_w10 {p : Program} {l : Launch} {e : Env} {s : State} {m : MethodId} {args : Array Value} {below : List Frame} {meth : Method} {c : Code} (C : SCx p s m args meth c cX0_choices 5 (some .long) RX0) {r : Int64} : cf_choices_P10 p l e s m args below meth c r (cf_choices_b10) := by
  intro x0 x1 t0 ls hl h
  obtain ⟨hx, hb, hr, hlocks, hml, hown, hts⟩ := id C
  unfold cf_choices_b10 at h
  refine lv_lstore_n (lv' := [(2, .long t0), (0, .int x0), (1, .int x1)]) hx hb dX0_choices_10 rfl hl (by decide) rfl (fun ls hl => ?_)
  refine lv_iconst (v := 1) hx hb dX0_choices_11 (by decide) ?_
  refine lv_istore (lv' := [(4, .int (1 : Int32)), (2, .long t0), (0, .int x0), (1, .int x1)]) hx hb dX0_choices_12 hl (by decide) rfl (fun ls hl => ?_)
  exact cf_choices_lw14 C FU x0 x1 t0 (1 : Int32) ls (lv_sub hl [2, 3, 1, 0] rfl) h
def cf_choices (x0 : Int32) (x1 : Int32) : Option Int64 :=
  if x1 ≤ x0 then (cf_choices_b10 x0 x1 (1 : Int64))
  else (cf_choices_b10 x0 x1 (0 : Int64))
theorem cf_choices_w0 {p : Program} {l : Launch} {e : Env} {s : State} {m : MethodId} {args : Array Value} {below : List Frame} {meth : Method} {c : Code} (C : SCx p s m args meth c cX0_choices 5 (some .long) RX0) {r : Int64} : cf_choices_P0 p l e s m args below meth c r (cf_choices) := by
  intro x0 x1 ls hl h
  obtain ⟨hx, hb, hr, hlocks, hml, hown, hts⟩ := id C
  unfold cf_choices at h
  refine lv_iload_n hx hb dX0_choices_0 rfl (lv_at hl 1 rfl) ?_
  refine lv_iload_n hx hb dX0_choices_1 rfl (lv_at hl 0 rfl) ?_
  refine lv_icmp_le (tgt := 9) hx hb dX0_choices_2 (by decide) (fun c1 => ?_) (fun c1 => ?_)
  · have h := ip_ c1 h
    refine lv_lconst (v := 1) hx hb dX0_choices_9 (by decide) ?_
    exact cf_choices_w10 C x0 x1 (1 : Int64) ls (lv_sub hl [0, 1] rfl) h
  · have h := in_ c1 h
    refine lv_lconst (v := 0) hx hb dX0_choices_5 (by decide) ?_
    refine lv_goto (tgt := 10) hx hb dX0_choices_6 (by decide) ?_
    exact cf_choices_w10 C x0 x1 (0 : Int64) ls (lv_sub hl [0, 1] rfl) h
theorem cf_choices_hd : yX0_choices.cls ≠ "java/lang/invoke/MethodHandle" ∧ yX0_choices.cls ≠ "java/lang/invoke/VarHandle" ∧ (parseMethodDescriptor yX0_choices.desc).map (fun d => d.parameters.length) = some 2 := by decide +kernel
theorem cf_choices_met (l : Launch) (x0 : Int32) (x1 : Int32) (r : Int64) (h : cf_choices x0 x1 = some r) : Met l yX0_choices (ws_ yX0_choices cX0_choices 5 (some .long)) cf_choices_rm (va_Pc [.int x0, .int x1] (fun _ => True)) (Qro (some (.long r))) 0 0 (fun _ => False) := by
  refine Met.ofW (cc := cX0_choices) (maxL := 5) (ret := some .long) (by decide) rfl ?_
  intro p e s m args below meth c s₁ B hml hv
  obtain ⟨rfl, hv⟩ := hv
  have hts := atoms_spec (ws := ws_ yX0_choices cX0_choices 5 (some .long)) B.pre
  have hts : ∀ w ∈ lw_all, w.before _ s = true := fun w h => hts w (List.mem_cons_of_mem _ h)
  have C : SCx p s m _ meth c cX0_choices 5 (some .long) RX0 := ⟨B.exec, B.bytes, B.returns, B.notSynchronized, hml, findClass_of_methodNamed B.named, hts⟩
  have hl := lv_entry [.int x0, .int x1] (n := 5) (Nat.le_of_ble_eq_true rfl)
  rw [lg_entry_eq]
  generalize (lg_sl [.int x0, .int x1] ++ List.replicate (5 - (lg_sl [.int x0, .int x1]).length) Slot.unset).toArray = ls at hl ⊢
  exact cf_choices_w0 C x0 x1 ls hl h

/-! SecondChances.isSheet(I)Z -/
def cf_isSheet_rm : Room := { frames := 1, cells := 0, slots := 0, locals := 25 }
def cf_isSheet_P0 (p : Program) (l : Launch) (e : Env) (s : State) (m : MethodId) (args : Array Value) (below : List Frame) (meth : Method) (c : Code) (r : Int32) (f : Int32 → Option Int32) : Prop := ∀ (x0 : Int32) (ls : Array Slot), lv_has ls 1 [(0, .int x0)] → f x0 = some r → W p l e cf_isSheet_rm s m args below meth c s.heap [] 0 0 (MQ below (Qro (some (.int r))) args s 0 0 (fun _ => False)) (F0 m 0 ls [])
def cf_isSheet (x0 : Int32) : Option Int32 :=
  bd_ (cf_in (x0.toInt64) (0 : Int64) (3 : Int64)) fun v1 =>
  if zb v1 = true then some v1 else none
theorem cf_isSheet_w0 {p : Program} {l : Launch} {e : Env} {s : State} {m : MethodId} {args : Array Value} {below : List Frame} {meth : Method} {c : Code} (C : SCx p s m args meth c cX0_isSheet 1 (some .boolean) RX0) {r : Int32} : cf_isSheet_P0 p l e s m args below meth c r (cf_isSheet) := by
  intro x0 ls hl h
  obtain ⟨hx, hb, hr, hlocks, hml, hown, hts⟩ := id C
  unfold cf_isSheet at h
  refine lv_iload_n hx hb dX0_isSheet_0 rfl (lv_at hl 0 rfl) ?_
  refine lv_i2l hx hb dX0_isSheet_1 rfl ?_
  refine lv_lconst (v := 0) hx hb dX0_isSheet_2 (by decide) ?_
  refine lv_ldc2 (v := 3) hx hb hown (hts _ q301) dX0_isSheet_3 ?_
  obtain ⟨v1, q_v1, h⟩ := bd_e h
  refine s_roI (As := [.long (x0.toInt64), .long (0 : Int64), .long (3 : Int64)]) (rest := []) C (cf_in_met _ (x0.toInt64) (0 : Int64) (3 : Int64) v1 q_v1) (lw_S q298 q299 q79 q300) cf_in_hd ⟨rfl, rfl⟩ ⟨Nat.le_of_ble_eq_true rfl, Nat.le_of_ble_eq_true rfl⟩ ⟨Nat.le_refl _, Nat.le_refl _⟩ rfl hl.1 rfl (Nat.le_of_ble_eq_true rfl) dX0_isSheet_6 ?_
  by_cases c2 : zb v1 = true
  case neg => exact no_ (in_ c2 h)
  have h := ip_ c2 h
  have h := so_ h
  subst h
  exact W.zret hx hb hr (zb_n c2) (fun t ht hW => ⟨rfl, ht⟩) (fun q hq => by cases hq) dX0_isSheet_9
theorem cf_isSheet_hd : yX0_isSheet.cls ≠ "java/lang/invoke/MethodHandle" ∧ yX0_isSheet.cls ≠ "java/lang/invoke/VarHandle" ∧ (parseMethodDescriptor yX0_isSheet.desc).map (fun d => d.parameters.length) = some 1 := by decide +kernel
theorem cf_isSheet_met (l : Launch) (x0 : Int32) (r : Int32) (h : cf_isSheet x0 = some r) : Met l yX0_isSheet (ws_ yX0_isSheet cX0_isSheet 1 (some .boolean)) cf_isSheet_rm (va_Pc [.int x0] (fun _ => True)) (Qro (some (.int r))) 0 0 (fun _ => False) := by
  refine Met.ofW (cc := cX0_isSheet) (maxL := 1) (ret := some .boolean) (by decide) rfl ?_
  intro p e s m args below meth c s₁ B hml hv
  obtain ⟨rfl, hv⟩ := hv
  have hts := atoms_spec (ws := ws_ yX0_isSheet cX0_isSheet 1 (some .boolean)) B.pre
  have hts : ∀ w ∈ lw_all, w.before _ s = true := fun w h => hts w (List.mem_cons_of_mem _ h)
  have C : SCx p s m _ meth c cX0_isSheet 1 (some .boolean) RX0 := ⟨B.exec, B.bytes, B.returns, B.notSynchronized, hml, findClass_of_methodNamed B.named, hts⟩
  have hl := lv_entry [.int x0] (n := 1) (Nat.le_of_ble_eq_true rfl)
  rw [lg_entry_eq]
  generalize (lg_sl [.int x0] ++ List.replicate (1 - (lg_sl [.int x0]).length) Slot.unset).toArray = ls at hl ⊢
  exact cf_isSheet_w0 C x0 ls hl h

/-! java/lang/Integer.bitCount(I)I -/
def cj_bitCount_rm : Room := { frames := 0, cells := 0, slots := 0, locals := 0 }
def cj_bitCount_P0 (p : Program) (l : Launch) (e : Env) (s : State) (m : MethodId) (args : Array Value) (below : List Frame) (meth : Method) (c : Code) (r : Int32) (f : Int32 → Option Int32) : Prop := ∀ (x0 : Int32) (ls : Array Slot), lv_has ls 1 [(0, .int x0)] → f x0 = some r → W p l e cj_bitCount_rm s m args below meth c s.heap [] 0 0 (MQ below (Qro (some (.int r))) args s 0 0 (fun _ => False)) (F0 m 0 ls [])
def cj_bitCount (x0 : Int32) : Option Int32 :=
  lt_ (x0 - (((x0.toUInt32 >>> ((1 : Int32).toUInt32 &&& Int32.toUInt32 31)).toInt32) &&& (1431655765 : Int32))) fun v1 =>
  lt_ ((v1 &&& (858993459 : Int32)) + (((v1.toUInt32 >>> ((2 : Int32).toUInt32 &&& Int32.toUInt32 31)).toInt32) &&& (858993459 : Int32))) fun v2 =>
  lt_ ((v2 + ((v2.toUInt32 >>> ((4 : Int32).toUInt32 &&& Int32.toUInt32 31)).toInt32)) &&& (252645135 : Int32)) fun v3 =>
  lt_ (v3 + ((v3.toUInt32 >>> ((8 : Int32).toUInt32 &&& Int32.toUInt32 31)).toInt32)) fun v4 =>
  lt_ (v4 + ((v4.toUInt32 >>> ((16 : Int32).toUInt32 &&& Int32.toUInt32 31)).toInt32)) fun v5 =>
  some (v5 &&& (63 : Int32))
theorem cj_bitCount_w0 {p : Program} {l : Launch} {e : Env} {s : State} {m : MethodId} {args : Array Value} {below : List Frame} {meth : Method} {c : Code} (C : SCx p s m args meth c cJ10_bitCount 1 (some .int) RJ10) {r : Int32} : cj_bitCount_P0 p l e s m args below meth c r (cj_bitCount) := by
  intro x0 ls hl h
  obtain ⟨hx, hb, hr, hlocks, hml, hown, hts⟩ := id C
  unfold cj_bitCount at h
  refine lv_iload_n hx hb dJ10_bitCount_0 rfl (lv_at hl 0 rfl) ?_
  refine lv_iload_n hx hb dJ10_bitCount_1 rfl (lv_at hl 0 rfl) ?_
  refine lv_iconst (v := 1) hx hb dJ10_bitCount_2 (by decide) ?_
  refine lv_iushr hx hb dJ10_bitCount_3 rfl ?_
  refine lv_ldcw (v := 1431655765) hx hb hown (hts _ q694) dJ10_bitCount_4 ?_
  refine lv_iand hx hb dJ10_bitCount_7 ?_
  refine lv_isub hx hb dJ10_bitCount_8 ?_
  refine lv_topi (fun v1 e_v1 => ?_)
  have h := lt_i h e_v1
  refine lv_istore_n (lv' := [(0, .int v1)]) hx hb dJ10_bitCount_9 rfl hl (by decide) rfl (fun ls hl => ?_)
  refine lv_iload_n hx hb dJ10_bitCount_10 rfl (lv_at hl 0 rfl) ?_
  refine lv_ldcw (v := 858993459) hx hb hown (hts _ q695) dJ10_bitCount_11 ?_
  refine lv_iand hx hb dJ10_bitCount_14 ?_
  refine lv_iload_n hx hb dJ10_bitCount_15 rfl (lv_at hl 0 rfl) ?_
  refine lv_iconst (v := 2) hx hb dJ10_bitCount_16 (by decide) ?_
  refine lv_iushr hx hb dJ10_bitCount_17 rfl ?_
  refine lv_ldcw (v := 858993459) hx hb hown (hts _ q695) dJ10_bitCount_18 ?_
  refine lv_iand hx hb dJ10_bitCount_21 ?_
  refine lv_iadd hx hb dJ10_bitCount_22 ?_
  refine lv_topi (fun v2 e_v2 => ?_)
  have h := lt_i h e_v2
  refine lv_istore_n (lv' := [(0, .int v2)]) hx hb dJ10_bitCount_23 rfl hl (by decide) rfl (fun ls hl => ?_)
  refine lv_iload_n hx hb dJ10_bitCount_24 rfl (lv_at hl 0 rfl) ?_
  refine lv_iload_n hx hb dJ10_bitCount_25 rfl (lv_at hl 0 rfl) ?_
  refine lv_iconst (v := 4) hx hb dJ10_bitCount_26 (by decide) ?_
  refine lv_iushr hx hb dJ10_bitCount_27 rfl ?_
  refine lv_iadd hx hb dJ10_bitCount_28 ?_
  refine lv_ldcw (v := 252645135) hx hb hown (hts _ q696) dJ10_bitCount_29 ?_
  refine lv_iand hx hb dJ10_bitCount_32 ?_
  refine lv_topi (fun v3 e_v3 => ?_)
  have h := lt_i h e_v3
  refine lv_istore_n (lv' := [(0, .int v3)]) hx hb dJ10_bitCount_33 rfl hl (by decide) rfl (fun ls hl => ?_)
  refine lv_iload_n hx hb dJ10_bitCount_34 rfl (lv_at hl 0 rfl) ?_
  refine lv_iload_n hx hb dJ10_bitCount_35 rfl (lv_at hl 0 rfl) ?_
  refine lv_bipush (v := 8) hx hb dJ10_bitCount_36 (by decide) ?_
  refine lv_iushr hx hb dJ10_bitCount_38 rfl ?_
  refine lv_iadd hx hb dJ10_bitCount_39 ?_
  refine lv_topi (fun v4 e_v4 => ?_)
  have h := lt_i h e_v4
  refine lv_istore_n (lv' := [(0, .int v4)]) hx hb dJ10_bitCount_40 rfl hl (by decide) rfl (fun ls hl => ?_)
  refine lv_iload_n hx hb dJ10_bitCount_41 rfl (lv_at hl 0 rfl) ?_
  refine lv_iload_n hx hb dJ10_bitCount_42 rfl (lv_at hl 0 rfl) ?_
  refine lv_bipush (v := 16) hx hb dJ10_bitCount_43 (by decide) ?_
  refine lv_iushr hx hb dJ10_bitCount_45 rfl ?_
  refine lv_iadd hx hb dJ10_bitCount_46 ?_
  refine lv_topi (fun v5 e_v5 => ?_)
  have h := lt_i h e_v5
  refine lv_istore_n (lv' := [(0, .int v5)]) hx hb dJ10_bitCount_47 rfl hl (by decide) rfl (fun ls hl => ?_)
  refine lv_iload_n hx hb dJ10_bitCount_48 rfl (lv_at hl 0 rfl) ?_
  refine lv_bipush (v := 63) hx hb dJ10_bitCount_49 (by decide) ?_
  refine lv_iand hx hb dJ10_bitCount_51 ?_
  have h := so_ h
  subst h
  exact W.iret hx hb hr (fun t ht hW => ⟨rfl, ht⟩) (fun q hq => by cases hq) dJ10_bitCount_52
theorem cj_bitCount_hd : yJ10_bitCount.cls ≠ "java/lang/invoke/MethodHandle" ∧ yJ10_bitCount.cls ≠ "java/lang/invoke/VarHandle" ∧ (parseMethodDescriptor yJ10_bitCount.desc).map (fun d => d.parameters.length) = some 1 := by decide +kernel
theorem cj_bitCount_met (l : Launch) (x0 : Int32) (r : Int32) (h : cj_bitCount x0 = some r) : Met l yJ10_bitCount (ws_ yJ10_bitCount cJ10_bitCount 1 (some .int)) cj_bitCount_rm (va_Pc [.int x0] (fun _ => True)) (Qro (some (.int r))) 0 0 (fun _ => False) := by
  refine Met.ofW (cc := cJ10_bitCount) (maxL := 1) (ret := some .int) (by decide) rfl ?_
  intro p e s m args below meth c s₁ B hml hv
  obtain ⟨rfl, hv⟩ := hv
  have hts := atoms_spec (ws := ws_ yJ10_bitCount cJ10_bitCount 1 (some .int)) B.pre
  have hts : ∀ w ∈ lw_all, w.before _ s = true := fun w h => hts w (List.mem_cons_of_mem _ h)
  have C : SCx p s m _ meth c cJ10_bitCount 1 (some .int) RJ10 := ⟨B.exec, B.bytes, B.returns, B.notSynchronized, hml, findClass_of_methodNamed B.named, hts⟩
  have hl := lv_entry [.int x0] (n := 1) (Nat.le_of_ble_eq_true rfl)
  rw [lg_entry_eq]
  generalize (lg_sl [.int x0] ++ List.replicate (1 - (lg_sl [.int x0]).length) Slot.unset).toArray = ls at hl ⊢
  exact cj_bitCount_w0 C x0 ls hl h

/-! jdk/internal/util/Preconditions.checkIndex(IILjava/util/function/BiFunction;)I -/
def cjp_checkIndex_rm : Room := { frames := 0, cells := 0, slots := 0, locals := 0 }
def cjp_checkIndex_P0 (p : Program) (l : Launch) (e : Env) (s : State) (m : MethodId) (args : Array Value) (below : List Frame) (meth : Method) (c : Code) (r : Int32) (f : Int32 → Int32 → Option Int32) : Prop := ∀ (x0 : Int32) (x1 : Int32) (ls : Array Slot), lv_has ls 3 [(0, .int x0), (1, .int x1), (2, .null)] → f x0 x1 = some r → W p l e cjp_checkIndex_rm s m args below meth c s.heap [] 0 0 (MQ below (Qro (some (.int r))) args s 0 0 (fun _ => False)) (F0 m 0 ls [])
def cjp_checkIndex (x0 : Int32) (x1 : Int32) : Option Int32 :=
  if x0 < 0 then (none)
  else (if x0 < x1 then (some x0)
    else (none))
theorem cjp_checkIndex_w0 {p : Program} {l : Launch} {e : Env} {s : State} {m : MethodId} {args : Array Value} {below : List Frame} {meth : Method} {c : Code} (C : SCx p s m args meth c cJ9_checkIndex 3 (some .int) RJ9) {r : Int32} : cjp_checkIndex_P0 p l e s m args below meth c r (cjp_checkIndex) := by
  intro x0 x1 ls hl h
  obtain ⟨hx, hb, hr, hlocks, hml, hown, hts⟩ := id C
  unfold cjp_checkIndex at h
  refine lv_iload_n hx hb dJ9_checkIndex_0 rfl (lv_at hl 0 rfl) ?_
  refine lv_if_lt (tgt := 9) hx hb dJ9_checkIndex_1 (by decide) (fun c1 => ?_) (fun c1 => ?_)
  · have h := ip_ c1 h
    exact no_ h
  · have h := in_ c1 h
    refine lv_iload_n hx hb dJ9_checkIndex_4 rfl (lv_at hl 0 rfl) ?_
    refine lv_iload_n hx hb dJ9_checkIndex_5 rfl (lv_at hl 1 rfl) ?_
    refine lv_icmp_lt (tgt := 16) hx hb dJ9_checkIndex_6 (by decide) (fun c2 => ?_) (fun c2 => ?_)
    · have h := ip_ c2 h
      refine lv_iload_n hx hb dJ9_checkIndex_16 rfl (lv_at hl 0 rfl) ?_
      have h := so_ h
      subst h
      exact W.iret hx hb hr (fun t ht hW => ⟨rfl, ht⟩) (fun q hq => by cases hq) dJ9_checkIndex_17
    · have h := in_ c2 h
      exact no_ h
theorem cjp_checkIndex_hd : yJ9_checkIndex.cls ≠ "java/lang/invoke/MethodHandle" ∧ yJ9_checkIndex.cls ≠ "java/lang/invoke/VarHandle" ∧ (parseMethodDescriptor yJ9_checkIndex.desc).map (fun d => d.parameters.length) = some 3 := by decide +kernel
theorem cjp_checkIndex_met (l : Launch) (x0 : Int32) (x1 : Int32) (r : Int32) (h : cjp_checkIndex x0 x1 = some r) : Met l yJ9_checkIndex (ws_ yJ9_checkIndex cJ9_checkIndex 3 (some .int)) cjp_checkIndex_rm (va_Pc [.int x0, .int x1, .null] (fun _ => True)) (Qro (some (.int r))) 0 0 (fun _ => False) := by
  refine Met.ofW (cc := cJ9_checkIndex) (maxL := 3) (ret := some .int) (by decide) rfl ?_
  intro p e s m args below meth c s₁ B hml hv
  obtain ⟨rfl, hv⟩ := hv
  have hts := atoms_spec (ws := ws_ yJ9_checkIndex cJ9_checkIndex 3 (some .int)) B.pre
  have hts : ∀ w ∈ lw_all, w.before _ s = true := fun w h => hts w (List.mem_cons_of_mem _ h)
  have C : SCx p s m _ meth c cJ9_checkIndex 3 (some .int) RJ9 := ⟨B.exec, B.bytes, B.returns, B.notSynchronized, hml, findClass_of_methodNamed B.named, hts⟩
  have hl := lv_entry [.int x0, .int x1, .null] (n := 3) (Nat.le_of_ble_eq_true rfl)
  rw [lg_entry_eq]
  generalize (lg_sl [.int x0, .int x1, .null] ++ List.replicate (3 - (lg_sl [.int x0, .int x1, .null]).length) Slot.unset).toArray = ls at hl ⊢
  exact cjp_checkIndex_w0 C x0 x1 ls hl h

/-! java/util/Objects.checkIndex(II)I -/
def cjo_checkIndex_rm : Room := { frames := 1, cells := 0, slots := 0, locals := 22 }
def cjo_checkIndex_P0 (p : Program) (l : Launch) (e : Env) (s : State) (m : MethodId) (args : Array Value) (below : List Frame) (meth : Method) (c : Code) (r : Int32) (f : Int32 → Int32 → Option Int32) : Prop := ∀ (x0 : Int32) (x1 : Int32) (ls : Array Slot), lv_has ls 2 [(0, .int x0), (1, .int x1)] → f x0 x1 = some r → W p l e cjo_checkIndex_rm s m args below meth c s.heap [] 0 0 (MQ below (Qro (some (.int r))) args s 0 0 (fun _ => False)) (F0 m 0 ls [])
def cjo_checkIndex (x0 : Int32) (x1 : Int32) : Option Int32 :=
  bd_ (cjp_checkIndex x0 x1) fun v1 =>
  some v1
theorem cjo_checkIndex_w0 {p : Program} {l : Launch} {e : Env} {s : State} {m : MethodId} {args : Array Value} {below : List Frame} {meth : Method} {c : Code} (C : SCx p s m args meth c cJ8_checkIndex 2 (some .int) RJ8) {r : Int32} : cjo_checkIndex_P0 p l e s m args below meth c r (cjo_checkIndex) := by
  intro x0 x1 ls hl h
  obtain ⟨hx, hb, hr, hlocks, hml, hown, hts⟩ := id C
  unfold cjo_checkIndex at h
  refine lv_iload_n hx hb dJ8_checkIndex_0 rfl (lv_at hl 0 rfl) ?_
  refine lv_iload_n hx hb dJ8_checkIndex_1 rfl (lv_at hl 1 rfl) ?_
  refine lv_null hx hb dJ8_checkIndex_2 ?_
  obtain ⟨v1, q_v1, h⟩ := bd_e h
  refine s_roI (As := [.int x0, .int x1, .null]) (rest := []) C (cjp_checkIndex_met _ x0 x1 v1 q_v1) (lw_S q658 q659 q98 q660) cjp_checkIndex_hd ⟨rfl, rfl⟩ ⟨Nat.le_of_ble_eq_true rfl, Nat.le_of_ble_eq_true rfl⟩ ⟨Nat.le_refl _, Nat.le_refl _⟩ rfl hl.1 rfl (Nat.le_of_ble_eq_true rfl) dJ8_checkIndex_3 ?_
  have h := so_ h
  subst h
  exact W.iret hx hb hr (fun t ht hW => ⟨rfl, ht⟩) (fun q hq => by cases hq) dJ8_checkIndex_6
theorem cjo_checkIndex_hd : yJ8_checkIndex.cls ≠ "java/lang/invoke/MethodHandle" ∧ yJ8_checkIndex.cls ≠ "java/lang/invoke/VarHandle" ∧ (parseMethodDescriptor yJ8_checkIndex.desc).map (fun d => d.parameters.length) = some 2 := by decide +kernel
theorem cjo_checkIndex_met (l : Launch) (x0 : Int32) (x1 : Int32) (r : Int32) (h : cjo_checkIndex x0 x1 = some r) : Met l yJ8_checkIndex (ws_ yJ8_checkIndex cJ8_checkIndex 2 (some .int)) cjo_checkIndex_rm (va_Pc [.int x0, .int x1] (fun _ => True)) (Qro (some (.int r))) 0 0 (fun _ => False) := by
  refine Met.ofW (cc := cJ8_checkIndex) (maxL := 2) (ret := some .int) (by decide) rfl ?_
  intro p e s m args below meth c s₁ B hml hv
  obtain ⟨rfl, hv⟩ := hv
  have hts := atoms_spec (ws := ws_ yJ8_checkIndex cJ8_checkIndex 2 (some .int)) B.pre
  have hts : ∀ w ∈ lw_all, w.before _ s = true := fun w h => hts w (List.mem_cons_of_mem _ h)
  have C : SCx p s m _ meth c cJ8_checkIndex 2 (some .int) RJ8 := ⟨B.exec, B.bytes, B.returns, B.notSynchronized, hml, findClass_of_methodNamed B.named, hts⟩
  have hl := lv_entry [.int x0, .int x1] (n := 2) (Nat.le_of_ble_eq_true rfl)
  rw [lg_entry_eq]
  generalize (lg_sl [.int x0, .int x1] ++ List.replicate (2 - (lg_sl [.int x0, .int x1]).length) Slot.unset).toArray = ls at hl ⊢
  exact cjo_checkIndex_w0 C x0 x1 ls hl h

/-! java/util/ArrayList.size()I -/
def cfL_size_rm : Room := { frames := 0, cells := 0, slots := 0, locals := 0 }
def cfL_size_P0 (p : Program) (l : Launch) (e : Env) (R : Room) (s : State) (m : MethodId) (args : Array Value) (below : List Frame) (meth : Method) (c : Code) (Z : CZ) (Y : CY) (H : Heap) (cells slots : Nat) (Qc : Array Value → State → Outcome → State → Prop) (free : Addr → Prop) (r : Int32) (f : Nat → Option Int32) : Prop := ∀ (x0 : Nat) (locs : List Loc) (ls : Array Slot), (∀ q ∈ locs, free q.base) → lv_has ls 1 [(0, .ref (cSa Z (50 + x0)))] → f x0 = some r → W p l e R s m args below meth c H locs cells slots (MQ below Qc args s cells slots free) (F0 m 0 ls [])
def cfL_size (C : St) (x0 : Nat) : Option Int32 :=
  gd_ (x0 < 3) <|
  some (C (50 + x0) 2)
theorem cfL_size_w0 {p : Program} {l : Launch} {e : Env} {R : Room} {s : State} {m : MethodId} {args : Array Value} {below : List Frame} {meth : Method} {c : Code} {Z : CZ} {Y : CY} {A : Nat → Prop} {C : St} {H : Heap} {cells slots : Nat} {Qc : Array Value → State → Outcome → State → Prop} {free : Addr → Prop} (X : CCx p s m args meth c cJ2_size 1 (some .int) RJ2 Z) (hM : cPD Z Y A C H) (hR : cfL_size_rm.frames ≤ R.frames ∧ cfL_size_rm.locals ≤ R.locals ∧ cells ≤ R.cells ∧ slots ≤ R.slots) (hF : ∀ q, cFr Z q → free q) {r : Int32} (hQ : ∀ t : State, t.heap = H → s.WarmedH t.vm → Qc args s (.returned (some (.int r))) t) : cfL_size_P0 p l e R s m args below meth c Z Y H cells slots Qc free r (cfL_size C) := by
  intro x0 locs ls hL hl h
  obtain ⟨⟨hx, hb, hr, hlocks, hml, hown, hts⟩, hK⟩ := id X
  unfold cfL_size at h
  refine lv_aload_n hx hb dJ2_size_0 rfl (lv_at hl 0 rfl) ?_
  obtain ⟨b1, h⟩ := gd_e h
  refine gl2 X hM b1 dJ2_size_1 ?_
  have h := so_ h
  subst h
  exact W.iret hx hb hr (fun t ht hW => hQ t ht hW) hL dJ2_size_4
theorem cfL_size_hd : yJ2_size.cls = RJ2 ∧ yJ2_size.cls ≠ "java/lang/invoke/MethodHandle" ∧ yJ2_size.cls ≠ "java/lang/invoke/VarHandle" ∧ (parseMethodDescriptor yJ2_size.desc).map (fun d => d.parameters.length) = some 0 := by decide +kernel
theorem cfL_size_met (l : Launch) (Z : CZ) (Y : CY) (A : Nat → Prop) (C : St) (x0 : Nat) (r : Int32) (h : cfL_size C x0 = some r) : Met l yJ2_size (ws_ yJ2_size cJ2_size 1 (some .int)) cfL_size_rm (va_Pc [.ref (cSa Z (50 + x0))] (cS Z Y A C)) (Qro (some (.int r))) 0 0 (cFr Z) := by
  refine Met.ofW (cc := cJ2_size) (maxL := 1) (ret := some .int) (by decide) rfl ?_
  intro p e s m args below meth c s₁ B hml hv
  obtain ⟨rfl, hv⟩ := hv
  have hts := atoms_spec (ws := ws_ yJ2_size cJ2_size 1 (some .int)) B.pre
  have hts : ∀ w ∈ lw_all, w.before _ s = true := fun w h => hts w (List.mem_cons_of_mem _ h)
  have X : CCx p s m _ meth c cJ2_size 1 (some .int) RJ2 Z := ⟨⟨B.exec, B.bytes, B.returns, B.notSynchronized, hml, findClass_of_methodNamed B.named, hts⟩, hv.2⟩
  have hl := lv_entry [.ref (cSa Z (50 + x0))] (n := 1) (Nat.le_of_ble_eq_true rfl)
  rw [lg_entry_eq]
  generalize (lg_sl [.ref (cSa Z (50 + x0))] ++ List.replicate (1 - (lg_sl [.ref (cSa Z (50 + x0))]).length) Slot.unset).toArray = ls at hl ⊢
  exact cfL_size_w0 X hv.1 ⟨Nat.le_refl _, Nat.le_refl _, Nat.le_refl _, Nat.le_refl _⟩ (fun _ h => h) (fun t ht _ => ⟨rfl, ht⟩) x0 [] ls (fun q hq => by cases hq) hl h

/-! java/util/ArrayList.elementData(I)Ljava/lang/Object; -/
def cfL_elementData_rm : Room := { frames := 0, cells := 0, slots := 0, locals := 0 }
def cfL_elementData_P0 (p : Program) (l : Launch) (e : Env) (R : Room) (s : State) (m : MethodId) (args : Array Value) (below : List Frame) (meth : Method) (c : Code) (Z : CZ) (Y : CY) (H : Heap) (cells slots : Nat) (Qc : Array Value → State → Outcome → State → Prop) (free : Addr → Prop) (r : Nat) (f : Nat → Int32 → Option Nat) : Prop := ∀ (x0 : Nat) (x1 : Int32) (locs : List Loc) (ls : Array Slot), (∀ q ∈ locs, free q.base) → lv_has ls 2 [(0, .ref (cSa Z (50 + x0))), (1, .int x1)] → f x0 x1 = some r → W p l e R s m args below meth c H locs cells slots (MQ below Qc args s cells slots free) (F0 m 0 ls [])
def cfL_elementData (C : St) (x0 : Nat) (x1 : Int32) : Option Nat :=
  gd_ (x0 < 3) <|
  ix_ (cNn C x0) x1 fun q2 =>
  some q2
theorem cfL_elementData_w0 {p : Program} {l : Launch} {e : Env} {R : Room} {s : State} {m : MethodId} {args : Array Value} {below : List Frame} {meth : Method} {c : Code} {Z : CZ} {Y : CY} {A : Nat → Prop} {C : St} {H : Heap} {cells slots : Nat} {Qc : Array Value → State → Outcome → State → Prop} {free : Addr → Prop} (X : CCx p s m args meth c cJ2_elementData 2 (some (.object "java/lang/Object")) RJ2 Z) (hM : cPD Z Y A C H) (hR : cfL_elementData_rm.frames ≤ R.frames ∧ cfL_elementData_rm.locals ≤ R.locals ∧ cells ≤ R.cells ∧ slots ≤ R.slots) (hF : ∀ q, cFr Z q → free q) {r : Nat} (x0 : Nat) (hQ : ∀ t : State, t.heap = H → s.WarmedH t.vm → Qc args s (.returned (some (.ref (cDa Y (100 * (x0 + 1) + r))))) t) (x1 : Int32) (locs : List Loc) (ls : Array Slot) (hL : ∀ q ∈ locs, free q.base) (hl : lv_has ls 2 [(0, .ref (cSa Z (50 + x0))), (1, .int x1)]) (h : cfL_elementData C x0 x1 = some r) : W p l e R s m args below meth c H locs cells slots (MQ below Qc args s cells slots free) (F0 m 0 ls []) := by
  obtain ⟨⟨hx, hb, hr, hlocks, hml, hown, hts⟩, hK⟩ := id X
  unfold cfL_elementData at h
  refine lv_aload_n hx hb dJ2_elementData_0 rfl (lv_at hl 0 rfl) ?_
  obtain ⟨b1, h⟩ := gd_e h
  refine gl1 X hM b1 dJ2_elementData_1 ?_
  refine lv_iload_n hx hb dJ2_elementData_4 rfl (lv_at hl 1 rfl) ?_
  obtain ⟨i_q2, b_q2, h⟩ := ix_e h
  refine c_elem X hM b1 i_q2 dJ2_elementData_5 (fun q2 e_q2 => ?_)
  have h := h q2 e_q2
  have h := so_ h
  subst h
  exact W.aret hx hb hr (Or.inl ⟨_, rfl⟩) (Or.inr ⟨_, rfl⟩) (fun t ht hW => hQ t ht hW) hL dJ2_elementData_6
theorem cfL_elementData_hd : yJ2_elementData.cls = RJ2 ∧ yJ2_elementData.cls ≠ "java/lang/invoke/MethodHandle" ∧ yJ2_elementData.cls ≠ "java/lang/invoke/VarHandle" ∧ (parseMethodDescriptor yJ2_elementData.desc).map (fun d => d.parameters.length) = some 1 := by decide +kernel
theorem cfL_elementData_met (l : Launch) (Z : CZ) (Y : CY) (A : Nat → Prop) (C : St) (x0 : Nat) (x1 : Int32) (r : Nat) (h : cfL_elementData C x0 x1 = some r) : Met l yJ2_elementData (ws_ yJ2_elementData cJ2_elementData 2 (some (.object "java/lang/Object"))) cfL_elementData_rm (va_Pc [.ref (cSa Z (50 + x0)), .int x1] (cS Z Y A C)) (Qro (some (.ref (cDa Y (100 * (x0 + 1) + r))))) 0 0 (cFr Z) := by
  refine Met.ofW (cc := cJ2_elementData) (maxL := 2) (ret := some (.object "java/lang/Object")) (by decide) rfl ?_
  intro p e s m args below meth c s₁ B hml hv
  obtain ⟨rfl, hv⟩ := hv
  have hts := atoms_spec (ws := ws_ yJ2_elementData cJ2_elementData 2 (some (.object "java/lang/Object"))) B.pre
  have hts : ∀ w ∈ lw_all, w.before _ s = true := fun w h => hts w (List.mem_cons_of_mem _ h)
  have X : CCx p s m _ meth c cJ2_elementData 2 (some (.object "java/lang/Object")) RJ2 Z := ⟨⟨B.exec, B.bytes, B.returns, B.notSynchronized, hml, findClass_of_methodNamed B.named, hts⟩, hv.2⟩
  have hl := lv_entry [.ref (cSa Z (50 + x0)), .int x1] (n := 2) (Nat.le_of_ble_eq_true rfl)
  rw [lg_entry_eq]
  generalize (lg_sl [.ref (cSa Z (50 + x0)), .int x1] ++ List.replicate (2 - (lg_sl [.ref (cSa Z (50 + x0)), .int x1]).length) Slot.unset).toArray = ls at hl ⊢
  exact cfL_elementData_w0 X hv.1 ⟨Nat.le_refl _, Nat.le_refl _, Nat.le_refl _, Nat.le_refl _⟩ (fun _ h => h) x0 (fun t ht _ => ⟨rfl, ht⟩) x1 [] ls (fun q hq => by cases hq) hl h

/-! java/util/ArrayList.get(I)Ljava/lang/Object; -/
def cfL_get_rm : Room := { frames := 2, cells := 0, slots := 0, locals := 43 }
def cfL_get_P0 (p : Program) (l : Launch) (e : Env) (R : Room) (s : State) (m : MethodId) (args : Array Value) (below : List Frame) (meth : Method) (c : Code) (Z : CZ) (Y : CY) (H : Heap) (cells slots : Nat) (Qc : Array Value → State → Outcome → State → Prop) (free : Addr → Prop) (r : Nat) (f : Nat → Int32 → Option Nat) : Prop := ∀ (x0 : Nat) (x1 : Int32) (locs : List Loc) (ls : Array Slot), (∀ q ∈ locs, free q.base) → lv_has ls 2 [(0, .ref (cSa Z (50 + x0))), (1, .int x1)] → f x0 x1 = some r → W p l e R s m args below meth c H locs cells slots (MQ below Qc args s cells slots free) (F0 m 0 ls [])
def cfL_get (C : St) (x0 : Nat) (x1 : Int32) : Option Nat :=
  gd_ (x0 < 3) <|
  bd_ (cjo_checkIndex x1 (C (50 + x0) 2)) fun v2 =>
  bd_ (cfL_elementData C x0 x1) fun v3 =>
  some v3
theorem cfL_get_w0 {p : Program} {l : Launch} {e : Env} {R : Room} {s : State} {m : MethodId} {args : Array Value} {below : List Frame} {meth : Method} {c : Code} {Z : CZ} {Y : CY} {A : Nat → Prop} {C : St} {H : Heap} {cells slots : Nat} {Qc : Array Value → State → Outcome → State → Prop} {free : Addr → Prop} (X : CCx p s m args meth c cJ2_get 2 (some (.object "java/lang/Object")) RJ2 Z) (hM : cPD Z Y A C H) (hR : cfL_get_rm.frames ≤ R.frames ∧ cfL_get_rm.locals ≤ R.locals ∧ cells ≤ R.cells ∧ slots ≤ R.slots) (hF : ∀ q, cFr Z q → free q) {r : Nat} (x0 : Nat) (hQ : ∀ t : State, t.heap = H → s.WarmedH t.vm → Qc args s (.returned (some (.ref (cDa Y (100 * (x0 + 1) + r))))) t) (x1 : Int32) (locs : List Loc) (ls : Array Slot) (hL : ∀ q ∈ locs, free q.base) (hl : lv_has ls 2 [(0, .ref (cSa Z (50 + x0))), (1, .int x1)]) (h : cfL_get C x0 x1 = some r) : W p l e R s m args below meth c H locs cells slots (MQ below Qc args s cells slots free) (F0 m 0 ls []) := by
  obtain ⟨⟨hx, hb, hr, hlocks, hml, hown, hts⟩, hK⟩ := id X
  unfold cfL_get at h
  refine lv_iload_n hx hb dJ2_get_0 rfl (lv_at hl 1 rfl) ?_
  refine lv_aload_n hx hb dJ2_get_1 rfl (lv_at hl 0 rfl) ?_
  obtain ⟨b1, h⟩ := gd_e h
  refine gl2 X hM b1 dJ2_get_2 ?_
  obtain ⟨v2, q_v2, h⟩ := bd_e h
  refine s_roI (As := [.int x1, .int (C (50 + x0) 2)]) (rest := []) X.1 (cjo_checkIndex_met _ x1 (C (50 + x0) 2) v2 q_v2) (lw_S q655 q656 q97 q657) cjo_checkIndex_hd ⟨rfl, rfl⟩ ⟨Nat.le_trans (m := cfL_get_rm.frames) (Nat.le_of_ble_eq_true rfl) hR.1, Nat.le_trans (m := cfL_get_rm.locals) (Nat.le_of_ble_eq_true rfl) hR.2.1⟩ ⟨hR.2.2.1, hR.2.2.2⟩ rfl hl.1 rfl (Nat.le_of_ble_eq_true rfl) dJ2_get_5 ?_
  refine lv_pop hx hb dJ2_get_8 rfl ?_
  refine lv_aload_n hx hb dJ2_get_9 rfl (lv_at hl 0 rfl) ?_
  refine lv_iload_n hx hb dJ2_get_10 rfl (lv_at hl 1 rfl) ?_
  obtain ⟨v3, q_v3, h⟩ := bd_e h
  refine f_roR (As := [.int x1]) (rest := []) X hM (c_recvL (j := x0) X hM b1) hL hF (cfL_elementData_met _ Z Y A C x0 x1 v3 q_v3) (lw_V q661 q662 q663 q85 q664) cfL_elementData_hd ⟨rfl, rfl⟩ ⟨Nat.le_trans (m := cfL_get_rm.frames) (Nat.le_of_ble_eq_true rfl) hR.1, Nat.le_trans (m := cfL_get_rm.locals) (Nat.le_of_ble_eq_true rfl) hR.2.1⟩ ⟨hR.2.2.1, hR.2.2.2⟩ rfl hl.1 rfl (Nat.le_of_ble_eq_true rfl) dJ2_get_11 (fun locs hL => ?_)
  have h := so_ h
  subst h
  exact W.aret hx hb hr (Or.inl ⟨_, rfl⟩) (Or.inr ⟨_, rfl⟩) (fun t ht hW => hQ t ht hW) hL dJ2_get_14
theorem cfL_get_hd : yJ2_get.cls = RJ2 ∧ yJ2_get.cls ≠ "java/lang/invoke/MethodHandle" ∧ yJ2_get.cls ≠ "java/lang/invoke/VarHandle" ∧ (parseMethodDescriptor yJ2_get.desc).map (fun d => d.parameters.length) = some 1 := by decide +kernel
theorem cfL_get_met (l : Launch) (Z : CZ) (Y : CY) (A : Nat → Prop) (C : St) (x0 : Nat) (x1 : Int32) (r : Nat) (h : cfL_get C x0 x1 = some r) : Met l yJ2_get (ws_ yJ2_get cJ2_get 2 (some (.object "java/lang/Object"))) cfL_get_rm (va_Pc [.ref (cSa Z (50 + x0)), .int x1] (cS Z Y A C)) (Qro (some (.ref (cDa Y (100 * (x0 + 1) + r))))) 0 0 (cFr Z) := by
  refine Met.ofW (cc := cJ2_get) (maxL := 2) (ret := some (.object "java/lang/Object")) (by decide) rfl ?_
  intro p e s m args below meth c s₁ B hml hv
  obtain ⟨rfl, hv⟩ := hv
  have hts := atoms_spec (ws := ws_ yJ2_get cJ2_get 2 (some (.object "java/lang/Object"))) B.pre
  have hts : ∀ w ∈ lw_all, w.before _ s = true := fun w h => hts w (List.mem_cons_of_mem _ h)
  have X : CCx p s m _ meth c cJ2_get 2 (some (.object "java/lang/Object")) RJ2 Z := ⟨⟨B.exec, B.bytes, B.returns, B.notSynchronized, hml, findClass_of_methodNamed B.named, hts⟩, hv.2⟩
  have hl := lv_entry [.ref (cSa Z (50 + x0)), .int x1] (n := 2) (Nat.le_of_ble_eq_true rfl)
  rw [lg_entry_eq]
  generalize (lg_sl [.ref (cSa Z (50 + x0)), .int x1] ++ List.replicate (2 - (lg_sl [.ref (cSa Z (50 + x0)), .int x1]).length) Slot.unset).toArray = ls at hl ⊢
  exact cfL_get_w0 X hv.1 ⟨Nat.le_refl _, Nat.le_refl _, Nat.le_refl _, Nat.le_refl _⟩ (fun _ h => h) x0 (fun t ht _ => ⟨rfl, ht⟩) x1 [] ls (fun q hq => by cases hq) hl h

/-! SecondChances$Person.comes(I)Z -/
def cfP_comes_rm : Room := { frames := 0, cells := 0, slots := 0, locals := 0 }
def cfP_comes_P0 (p : Program) (l : Launch) (e : Env) (R : Room) (s : State) (m : MethodId) (args : Array Value) (below : List Frame) (meth : Method) (c : Code) (Z : CZ) (Y : CY) (H : Heap) (cells slots : Nat) (Qc : Array Value → State → Outcome → State → Prop) (free : Addr → Prop) (r : Int32) (f : Nat → Int32 → Option Int32) : Prop := ∀ (x0 : Nat) (x1 : Int32) (locs : List Loc) (ls : Array Slot), (∀ q ∈ locs, free q.base) → lv_has ls 2 [(0, .ref (cSa Z (80 + x0))), (1, .int x1)] → f x0 x1 = some r → W p l e R s m args below meth c H locs cells slots (MQ below Qc args s cells slots free) (F0 m 0 ls [])
def cfP_comes (C : St) (x0 : Nat) (x1 : Int32) : Option Int32 :=
  gd_ (x0 < 8) <|
  al_ 4 (C (20 + x0)) (0 : Int32) fun v2 =>
  if x1 < v2 then (some (0 : Int32))
  else (al_ 4 (C (20 + x0)) (1 : Int32) fun v4 =>
    if v4 ≤ x1 then (some (0 : Int32))
    else (some (1 : Int32)))
theorem cfP_comes_w0 {p : Program} {l : Launch} {e : Env} {R : Room} {s : State} {m : MethodId} {args : Array Value} {below : List Frame} {meth : Method} {c : Code} {Z : CZ} {Y : CY} {A : Nat → Prop} {C : St} {H : Heap} {cells slots : Nat} {Qc : Array Value → State → Outcome → State → Prop} {free : Addr → Prop} (X : CCx p s m args meth c cX1_comes 2 (some .boolean) RX1 Z) (hM : cPD Z Y A C H) (hR : cfP_comes_rm.frames ≤ R.frames ∧ cfP_comes_rm.locals ≤ R.locals ∧ cells ≤ R.cells ∧ slots ≤ R.slots) (hF : ∀ q, cFr Z q → free q) {r : Int32} (hQ : ∀ t : State, t.heap = H → s.WarmedH t.vm → Qc args s (.returned (some (.int r))) t) : cfP_comes_P0 p l e R s m args below meth c Z Y H cells slots Qc free r (cfP_comes C) := by
  intro x0 x1 locs ls hL hl h
  obtain ⟨⟨hx, hb, hr, hlocks, hml, hown, hts⟩, hK⟩ := id X
  unfold cfP_comes at h
  refine lv_iload_n hx hb dX1_comes_0 rfl (lv_at hl 1 rfl) ?_
  refine lv_aload_n hx hb dX1_comes_1 rfl (lv_at hl 0 rfl) ?_
  obtain ⟨b1, h⟩ := gd_e h
  refine gpp X hM b1 dX1_comes_2 ?_
  refine lv_iconst (v := 0) hx hb dX1_comes_5 (by decide) ?_
  obtain ⟨i_v2, h⟩ := al_e h
  refine c_ald X hM (k := (20 + x0)) (cHs_S (cS_f b1)) (cArr_f b1) (cAr_s (by omega)) i_v2 dX1_comes_6 (fun v2 e_v2 => ?_)
  have h := h v2 e_v2
  refine lv_icmp_lt (tgt := 24) hx hb dX1_comes_7 (by decide) (fun c3 => ?_) (fun c3 => ?_)
  · have h := ip_ c3 h
    refine lv_iconst (v := 0) hx hb dX1_comes_24 (by decide) ?_
    have h := so_ h
    subst h
    exact W.zret hx hb hr rfl (fun t ht hW => hQ t ht hW) hL dX1_comes_25
  · have h := in_ c3 h
    refine lv_iload_n hx hb dX1_comes_10 rfl (lv_at hl 1 rfl) ?_
    refine lv_aload_n hx hb dX1_comes_11 rfl (lv_at hl 0 rfl) ?_
    refine gpp X hM b1 dX1_comes_12 ?_
    refine lv_iconst (v := 1) hx hb dX1_comes_15 (by decide) ?_
    obtain ⟨i_v4, h⟩ := al_e h
    refine c_ald X hM (k := (20 + x0)) (cHs_S (cS_f b1)) (cArr_f b1) (cAr_s (by omega)) i_v4 dX1_comes_16 (fun v4 e_v4 => ?_)
    have h := h v4 e_v4
    refine lv_icmp_ge (tgt := 24) hx hb dX1_comes_17 (by decide) (fun c5 => ?_) (fun c5 => ?_)
    · have h := ip_ c5 h
      refine lv_iconst (v := 0) hx hb dX1_comes_24 (by decide) ?_
      have h := so_ h
      subst h
      exact W.zret hx hb hr rfl (fun t ht hW => hQ t ht hW) hL dX1_comes_25
    · have h := in_ c5 h
      refine lv_iconst (v := 1) hx hb dX1_comes_20 (by decide) ?_
      refine lv_goto (tgt := 25) hx hb dX1_comes_21 (by decide) ?_
      have h := so_ h
      subst h
      exact W.zret hx hb hr rfl (fun t ht hW => hQ t ht hW) hL dX1_comes_25
theorem cfP_comes_hd : yX1_comes.cls = RX1 ∧ yX1_comes.cls ≠ "java/lang/invoke/MethodHandle" ∧ yX1_comes.cls ≠ "java/lang/invoke/VarHandle" ∧ (parseMethodDescriptor yX1_comes.desc).map (fun d => d.parameters.length) = some 1 := by decide +kernel
theorem cfP_comes_met (l : Launch) (Z : CZ) (Y : CY) (A : Nat → Prop) (C : St) (x0 : Nat) (x1 : Int32) (r : Int32) (h : cfP_comes C x0 x1 = some r) : Met l yX1_comes (ws_ yX1_comes cX1_comes 2 (some .boolean)) cfP_comes_rm (va_Pc [.ref (cSa Z (80 + x0)), .int x1] (cS Z Y A C)) (Qro (some (.int r))) 0 0 (cFr Z) := by
  refine Met.ofW (cc := cX1_comes) (maxL := 2) (ret := some .boolean) (by decide) rfl ?_
  intro p e s m args below meth c s₁ B hml hv
  obtain ⟨rfl, hv⟩ := hv
  have hts := atoms_spec (ws := ws_ yX1_comes cX1_comes 2 (some .boolean)) B.pre
  have hts : ∀ w ∈ lw_all, w.before _ s = true := fun w h => hts w (List.mem_cons_of_mem _ h)
  have X : CCx p s m _ meth c cX1_comes 2 (some .boolean) RX1 Z := ⟨⟨B.exec, B.bytes, B.returns, B.notSynchronized, hml, findClass_of_methodNamed B.named, hts⟩, hv.2⟩
  have hl := lv_entry [.ref (cSa Z (80 + x0)), .int x1] (n := 2) (Nat.le_of_ble_eq_true rfl)
  rw [lg_entry_eq]
  generalize (lg_sl [.ref (cSa Z (80 + x0)), .int x1] ++ List.replicate (2 - (lg_sl [.ref (cSa Z (80 + x0)), .int x1]).length) Slot.unset).toArray = ls at hl ⊢
  exact cfP_comes_w0 X hv.1 ⟨Nat.le_refl _, Nat.le_refl _, Nat.le_refl _, Nat.le_refl _⟩ (fun _ h => h) (fun t ht _ => ⟨rfl, ht⟩) x0 x1 [] ls (fun q hq => by cases hq) hl h

/-! SecondChances$Sight.isFalse(LSecondChances$Sight;)Z -/
def cfG_isFalse_rm : Room := { frames := 1, cells := 0, slots := 0, locals := 21 }
def cfG_isFalse_P45 (p : Program) (l : Launch) (e : Env) (R : Room) (s : State) (m : MethodId) (args : Array Value) (below : List Frame) (meth : Method) (c : Code) (Z : CZ) (Y : CY) (H : Heap) (cells slots : Nat) (Qc : Array Value → State → Outcome → State → Prop) (free : Addr → Prop) (r : Int32) (f : Int32 → Int32 → Option Int32) : Prop := ∀ (x2 : Int32) (x3 : Int32) (locs : List Loc) (ls : Array Slot), (∀ q ∈ locs, free q.base) → lv_has ls 4 [(2, .int x2), (3, .int x3)] → f x2 x3 = some r → W p l e R s m args below meth c H locs cells slots (MQ below Qc args s cells slots free) (F0 m 45 ls [])
def cfG_isFalse_P0 (p : Program) (l : Launch) (e : Env) (R : Room) (s : State) (m : MethodId) (args : Array Value) (below : List Frame) (meth : Method) (c : Code) (Z : CZ) (Y : CY) (H : Heap) (cells slots : Nat) (Qc : Array Value → State → Outcome → State → Prop) (free : Addr → Prop) (r : Int32) (f : Nat → Nat → Option Int32) : Prop := ∀ (x0 : Nat) (x1 : Nat) (locs : List Loc) (ls : Array Slot), (∀ q ∈ locs, free q.base) → lv_has ls 4 [(0, .ref (cDa Y (200 + x0))), (1, .ref (cDa Y (200 + x1)))] → f x0 x1 = some r → W p l e R s m args below meth c H locs cells slots (MQ below Qc args s cells slots free) (F0 m 0 ls [])
def cfG_isFalse_b45 (C : St) (x2 : Int32) (x3 : Int32) : Option Int32 :=
  if x2 = (1 : Int32) then (if x3 ≤ (2 : Int32) then (some (0 : Int32))
    else (some (1 : Int32)))
  else (some (0 : Int32))
theorem cfG_isFalse_w45 {p : Program} {l : Launch} {e : Env} {R : Room} {s : State} {m : MethodId} {args : Array Value} {below : List Frame} {meth : Method} {c : Code} {Z : CZ} {Y : CY} {A : Nat → Prop} {C : St} {H : Heap} {cells slots : Nat} {Qc : Array Value → State → Outcome → State → Prop} {free : Addr → Prop} (X : CCx p s m args meth c cX9_isFalse 4 (some .boolean) RX9 Z) (hM : cPD Z Y A C H) (hR : cfG_isFalse_rm.frames ≤ R.frames ∧ cfG_isFalse_rm.locals ≤ R.locals ∧ cells ≤ R.cells ∧ slots ≤ R.slots) (hF : ∀ q, cFr Z q → free q) {r : Int32} (hQ : ∀ t : State, t.heap = H → s.WarmedH t.vm → Qc args s (.returned (some (.int r))) t) : cfG_isFalse_P45 p l e R s m args below meth c Z Y H cells slots Qc free r (cfG_isFalse_b45 C) := by
  intro x2 x3 locs ls hL hl h
  obtain ⟨⟨hx, hb, hr, hlocks, hml, hown, hts⟩, hK⟩ := id X
  unfold cfG_isFalse_b45 at h
  refine lv_iload_n hx hb dX9_isFalse_45 rfl (lv_at hl 0 rfl) ?_
  refine lv_iconst (v := 1) hx hb dX9_isFalse_46 (by decide) ?_
  refine lv_icmp_ne (tgt := 59) hx hb dX9_isFalse_47 (by decide) (fun c1 => ?_) (fun c1 => ?_)
  · have h := in_ c1 h
    refine lv_iconst (v := 0) hx hb dX9_isFalse_59 (by decide) ?_
    have h := so_ h
    subst h
    exact W.zret hx hb hr rfl (fun t ht hW => hQ t ht hW) hL dX9_isFalse_60
  · have h := ip_ c1 h
    refine lv_iload_n hx hb dX9_isFalse_50 rfl (lv_at hl 1 rfl) ?_
    refine lv_iconst (v := 2) hx hb dX9_isFalse_51 (by decide) ?_
    refine lv_icmp_le (tgt := 59) hx hb dX9_isFalse_52 (by decide) (fun c2 => ?_) (fun c2 => ?_)
    · have h := ip_ c2 h
      refine lv_iconst (v := 0) hx hb dX9_isFalse_59 (by decide) ?_
      have h := so_ h
      subst h
      exact W.zret hx hb hr rfl (fun t ht hW => hQ t ht hW) hL dX9_isFalse_60
    · have h := in_ c2 h
      refine lv_iconst (v := 1) hx hb dX9_isFalse_55 (by decide) ?_
      refine lv_goto (tgt := 60) hx hb dX9_isFalse_56 (by decide) ?_
      have h := so_ h
      subst h
      exact W.zret hx hb hr rfl (fun t ht hW => hQ t ht hW) hL dX9_isFalse_60
def cfG_isFalse (C : St) (x0 : Nat) (x1 : Nat) : Option Int32 :=
  fx_ (cNn C 1) x0 (C (200 + x0) 2) fun v1 =>
  fx_ (cNn C 1) x1 (C (200 + x1) 2) fun v2 =>
  lt_ (if 0 ≤ (v1 - v2) then (v1 - v2) else 0 - (v1 - v2)) fun v3 =>
  fx_ (cNn C 1) x0 (C (200 + x0) 1) fun v4 =>
  fx_ (cNn C 1) x1 (C (200 + x1) 1) fun v5 =>
  lt_ (if 0 ≤ (v4 - v5) then (v4 - v5) else 0 - (v4 - v5)) fun v6 =>
  fx_ (cNn C 1) x0 (C (200 + x0) 0) fun v7 =>
  fx_ (cNn C 1) x1 (C (200 + x1) 0) fun v8 =>
  if v7 = v8 then (if v3 = 0 then (if 0 < v6 then (some (1 : Int32))
      else (cfG_isFalse_b45 C v3 v6))
    else (cfG_isFalse_b45 C v3 v6))
  else (some (0 : Int32))
theorem cfG_isFalse_w0 {p : Program} {l : Launch} {e : Env} {R : Room} {s : State} {m : MethodId} {args : Array Value} {below : List Frame} {meth : Method} {c : Code} {Z : CZ} {Y : CY} {A : Nat → Prop} {C : St} {H : Heap} {cells slots : Nat} {Qc : Array Value → State → Outcome → State → Prop} {free : Addr → Prop} (X : CCx p s m args meth c cX9_isFalse 4 (some .boolean) RX9 Z) (hM : cPD Z Y A C H) (hR : cfG_isFalse_rm.frames ≤ R.frames ∧ cfG_isFalse_rm.locals ≤ R.locals ∧ cells ≤ R.cells ∧ slots ≤ R.slots) (hF : ∀ q, cFr Z q → free q) {r : Int32} (hQ : ∀ t : State, t.heap = H → s.WarmedH t.vm → Qc args s (.returned (some (.int r))) t) : cfG_isFalse_P0 p l e R s m args below meth c Z Y H cells slots Qc free r (cfG_isFalse C) := by
  intro x0 x1 locs ls hL hl h
  obtain ⟨⟨hx, hb, hr, hlocks, hml, hown, hts⟩, hK⟩ := id X
  unfold cfG_isFalse at h
  refine lv_aload_n hx hb dX9_isFalse_0 rfl (lv_at hl 0 rfl) ?_
  obtain ⟨b_v1, h⟩ := fx_e h
  refine gg2 X hM b_v1 dX9_isFalse_1 ?_
  refine lv_topi (fun v1 e_v1 => ?_)
  have h := h v1 e_v1
  refine lv_aload_n hx hb dX9_isFalse_4 rfl (lv_at hl 1 rfl) ?_
  obtain ⟨b_v2, h⟩ := fx_e h
  refine gg2 X hM b_v2 dX9_isFalse_5 ?_
  refine lv_topi (fun v2 e_v2 => ?_)
  have h := h v2 e_v2
  refine lv_isub hx hb dX9_isFalse_8 ?_
  refine va_mabs (rest := []) hx hb (hml.trans hl.1.symm) hown (hts _ q867) (hts _ q868) (hts _ q94) (hts _ q869) (Nat.le_trans (m := cfG_isFalse_rm.frames) (Nat.le_of_ble_eq_true rfl) hR.1) (Nat.le_trans (m := cfG_isFalse_rm.locals) (Nat.le_of_ble_eq_true rfl) hR.2.1) hR.2.2.1 hR.2.2.2 dX9_isFalse_9 ?_
  refine lv_topi (fun v3 e_v3 => ?_)
  have h := lt_i h e_v3
  refine lv_istore_n (lv' := [(2, .int v3), (0, .ref (cDa Y (200 + x0))), (1, .ref (cDa Y (200 + x1)))]) hx hb dX9_isFalse_12 rfl hl (by decide) rfl (fun ls hl => ?_)
  refine lv_aload_n hx hb dX9_isFalse_13 rfl (lv_at hl 1 rfl) ?_
  obtain ⟨b_v4, h⟩ := fx_e h
  refine gg1 X hM b_v4 dX9_isFalse_14 ?_
  refine lv_topi (fun v4 e_v4 => ?_)
  have h := h v4 e_v4
  refine lv_aload_n hx hb dX9_isFalse_17 rfl (lv_at hl 2 rfl) ?_
  obtain ⟨b_v5, h⟩ := fx_e h
  refine gg1 X hM b_v5 dX9_isFalse_18 ?_
  refine lv_topi (fun v5 e_v5 => ?_)
  have h := h v5 e_v5
  refine lv_isub hx hb dX9_isFalse_21 ?_
  refine va_mabs (rest := []) hx hb (hml.trans hl.1.symm) hown (hts _ q867) (hts _ q868) (hts _ q94) (hts _ q869) (Nat.le_trans (m := cfG_isFalse_rm.frames) (Nat.le_of_ble_eq_true rfl) hR.1) (Nat.le_trans (m := cfG_isFalse_rm.locals) (Nat.le_of_ble_eq_true rfl) hR.2.1) hR.2.2.1 hR.2.2.2 dX9_isFalse_22 ?_
  refine lv_topi (fun v6 e_v6 => ?_)
  have h := lt_i h e_v6
  refine lv_istore_n (lv' := [(3, .int v6), (2, .int v3), (0, .ref (cDa Y (200 + x0))), (1, .ref (cDa Y (200 + x1)))]) hx hb dX9_isFalse_25 rfl hl (by decide) rfl (fun ls hl => ?_)
  refine lv_aload_n hx hb dX9_isFalse_26 rfl (lv_at hl 2 rfl) ?_
  obtain ⟨b_v7, h⟩ := fx_e h
  refine gg0 X hM b_v7 dX9_isFalse_27 ?_
  refine lv_topi (fun v7 e_v7 => ?_)
  have h := h v7 e_v7
  refine lv_aload_n hx hb dX9_isFalse_30 rfl (lv_at hl 3 rfl) ?_
  obtain ⟨b_v8, h⟩ := fx_e h
  refine gg0 X hM b_v8 dX9_isFalse_31 ?_
  refine lv_topi (fun v8 e_v8 => ?_)
  have h := h v8 e_v8
  refine lv_icmp_ne (tgt := 59) hx hb dX9_isFalse_34 (by decide) (fun c9 => ?_) (fun c9 => ?_)
  · have h := in_ c9 h
    refine lv_iconst (v := 0) hx hb dX9_isFalse_59 (by decide) ?_
    have h := so_ h
    subst h
    exact W.zret hx hb hr rfl (fun t ht hW => hQ t ht hW) hL dX9_isFalse_60
  · have h := ip_ c9 h
    refine lv_iload_n hx hb dX9_isFalse_37 rfl (lv_at hl 1 rfl) ?_
    refine lv_if_ne (tgt := 45) hx hb dX9_isFalse_38 (by decide) (fun c10 => ?_) (fun c10 => ?_)
    · have h := in_ c10 h
      exact cfG_isFalse_w45 X hM hR hF hQ v3 v6 _ ls hL (lv_sub hl [1, 0] rfl) h
    · have h := ip_ c10 h
      refine lv_iload_n hx hb dX9_isFalse_41 rfl (lv_at hl 0 rfl) ?_
      refine lv_if_gt (tgt := 55) hx hb dX9_isFalse_42 (by decide) (fun c11 => ?_) (fun c11 => ?_)
      · have h := ip_ c11 h
        refine lv_iconst (v := 1) hx hb dX9_isFalse_55 (by decide) ?_
        refine lv_goto (tgt := 60) hx hb dX9_isFalse_56 (by decide) ?_
        have h := so_ h
        subst h
        exact W.zret hx hb hr rfl (fun t ht hW => hQ t ht hW) hL dX9_isFalse_60
      · have h := in_ c11 h
        exact cfG_isFalse_w45 X hM hR hF hQ v3 v6 _ ls hL (lv_sub hl [1, 0] rfl) h
theorem cfG_isFalse_hd : yX9_isFalse.cls = RX9 ∧ yX9_isFalse.cls ≠ "java/lang/invoke/MethodHandle" ∧ yX9_isFalse.cls ≠ "java/lang/invoke/VarHandle" ∧ (parseMethodDescriptor yX9_isFalse.desc).map (fun d => d.parameters.length) = some 1 := by decide +kernel
theorem cfG_isFalse_met (l : Launch) (Z : CZ) (Y : CY) (A : Nat → Prop) (C : St) (x0 : Nat) (x1 : Nat) (r : Int32) (h : cfG_isFalse C x0 x1 = some r) : Met l yX9_isFalse (ws_ yX9_isFalse cX9_isFalse 4 (some .boolean)) cfG_isFalse_rm (va_Pc [.ref (cDa Y (200 + x0)), .ref (cDa Y (200 + x1))] (cS Z Y A C)) (Qro (some (.int r))) 0 0 (cFr Z) := by
  refine Met.ofW (cc := cX9_isFalse) (maxL := 4) (ret := some .boolean) (by decide) rfl ?_
  intro p e s m args below meth c s₁ B hml hv
  obtain ⟨rfl, hv⟩ := hv
  have hts := atoms_spec (ws := ws_ yX9_isFalse cX9_isFalse 4 (some .boolean)) B.pre
  have hts : ∀ w ∈ lw_all, w.before _ s = true := fun w h => hts w (List.mem_cons_of_mem _ h)
  have X : CCx p s m _ meth c cX9_isFalse 4 (some .boolean) RX9 Z := ⟨⟨B.exec, B.bytes, B.returns, B.notSynchronized, hml, findClass_of_methodNamed B.named, hts⟩, hv.2⟩
  have hl := lv_entry [.ref (cDa Y (200 + x0)), .ref (cDa Y (200 + x1))] (n := 4) (Nat.le_of_ble_eq_true rfl)
  rw [lg_entry_eq]
  generalize (lg_sl [.ref (cDa Y (200 + x0)), .ref (cDa Y (200 + x1))] ++ List.replicate (4 - (lg_sl [.ref (cDa Y (200 + x0)), .ref (cDa Y (200 + x1))]).length) Slot.unset).toArray = ls at hl ⊢
  exact cfG_isFalse_w0 X hv.1 ⟨Nat.le_refl _, Nat.le_refl _, Nat.le_refl _, Nat.le_refl _⟩ (fun _ h => h) (fun t ht _ => ⟨rfl, ht⟩) x0 x1 [] ls (fun q hq => by cases hq) hl h

/-! SecondChances.deed(I)LSecondChances$Deed; -/
def cf_deed_2_rm : Room := { frames := 3, cells := 0, slots := 0, locals := 64 }
def cf_deed_2_P0 (p : Program) (l : Launch) (e : Env) (R : Room) (s : State) (m : MethodId) (args : Array Value) (below : List Frame) (meth : Method) (c : Code) (Z : CZ) (Y : CY) (H : Heap) (cells slots : Nat) (Qc : Array Value → State → Outcome → State → Prop) (free : Addr → Prop) (r : Nat) (f : Int32 → Option Nat) : Prop := ∀ (x1 : Int32) (locs : List Loc) (ls : Array Slot), (∀ q ∈ locs, free q.base) → lv_has ls 2 [(0, .ref (cSa Z 0)), (1, .int x1)] → f x1 = some r → W p l e R s m args below meth c H locs cells slots (MQ below Qc args s cells slots free) (F0 m 0 ls [])
def cf_deed_2 (C : St) (x1 : Int32) : Option Nat :=
  bd_ (cfL_get C 0 x1) fun v1 =>
  gd_ (v1 < cNn C 0) <|
  some v1
theorem cf_deed_2_w0 {p : Program} {l : Launch} {e : Env} {R : Room} {s : State} {m : MethodId} {args : Array Value} {below : List Frame} {meth : Method} {c : Code} {Z : CZ} {Y : CY} {A : Nat → Prop} {C : St} {H : Heap} {cells slots : Nat} {Qc : Array Value → State → Outcome → State → Prop} {free : Addr → Prop} (X : CCx p s m args meth c cX0_deed_2 2 (some (.object "SecondChances$Deed")) RX0 Z) (hM : cPD Z Y A C H) (hR : cf_deed_2_rm.frames ≤ R.frames ∧ cf_deed_2_rm.locals ≤ R.locals ∧ cells ≤ R.cells ∧ slots ≤ R.slots) (hF : ∀ q, cFr Z q → free q) {r : Nat} (hQ : ∀ t : State, t.heap = H → s.WarmedH t.vm → Qc args s (.returned (some (.ref (cDa Y (100 + r))))) t) : cf_deed_2_P0 p l e R s m args below meth c Z Y H cells slots Qc free r (cf_deed_2 C) := by
  intro x1 locs ls hL hl h
  obtain ⟨⟨hx, hb, hr, hlocks, hml, hown, hts⟩, hK⟩ := id X
  unfold cf_deed_2 at h
  refine lv_aload_n hx hb dX0_deed_2_0 rfl (lv_at hl 0 rfl) ?_
  refine gc5 X hM dX0_deed_2_1 ?_
  refine gd5 X hM dX0_deed_2_4 ?_
  refine lv_iload_n hx hb dX0_deed_2_7 rfl (lv_at hl 1 rfl) ?_
  obtain ⟨v1, q_v1, h⟩ := bd_e h
  refine f_roR (As := [.int x1]) (rest := []) X hM (c_recvL (j := 0) X hM (by decide)) hL hF (cfL_get_met _ Z Y A C 0 x1 v1 q_v1) (lw_V q651 q652 q653 q85 q654) cfL_get_hd ⟨rfl, rfl⟩ ⟨Nat.le_trans (m := cf_deed_2_rm.frames) (Nat.le_of_ble_eq_true rfl) hR.1, Nat.le_trans (m := cf_deed_2_rm.locals) (Nat.le_of_ble_eq_true rfl) hR.2.1⟩ ⟨hR.2.2.1, hR.2.2.2⟩ rfl hl.1 rfl (Nat.le_of_ble_eq_true rfl) dX0_deed_2_8 (fun locs hL => ?_)
  obtain ⟨b2, h⟩ := gd_e h
  refine c_castD X hM b2 (hts _ q665) dX0_deed_2_11 ?_
  have h := so_ h
  subst h
  exact W.aret hx hb hr (Or.inl ⟨_, rfl⟩) (Or.inr ⟨_, rfl⟩) (fun t ht hW => hQ t ht hW) hL dX0_deed_2_14
theorem cf_deed_2_hd : yX0_deed_2.cls = RX0 ∧ yX0_deed_2.cls ≠ "java/lang/invoke/MethodHandle" ∧ yX0_deed_2.cls ≠ "java/lang/invoke/VarHandle" ∧ (parseMethodDescriptor yX0_deed_2.desc).map (fun d => d.parameters.length) = some 1 := by decide +kernel
theorem cf_deed_2_met (l : Launch) (Z : CZ) (Y : CY) (A : Nat → Prop) (C : St) (x1 : Int32) (r : Nat) (h : cf_deed_2 C x1 = some r) : Met l yX0_deed_2 (ws_ yX0_deed_2 cX0_deed_2 2 (some (.object "SecondChances$Deed"))) cf_deed_2_rm (va_Pc [.ref (cSa Z 0), .int x1] (cS Z Y A C)) (Qro (some (.ref (cDa Y (100 + r))))) 0 0 (cFr Z) := by
  refine Met.ofW (cc := cX0_deed_2) (maxL := 2) (ret := some (.object "SecondChances$Deed")) (by decide) rfl ?_
  intro p e s m args below meth c s₁ B hml hv
  obtain ⟨rfl, hv⟩ := hv
  have hts := atoms_spec (ws := ws_ yX0_deed_2 cX0_deed_2 2 (some (.object "SecondChances$Deed"))) B.pre
  have hts : ∀ w ∈ lw_all, w.before _ s = true := fun w h => hts w (List.mem_cons_of_mem _ h)
  have X : CCx p s m _ meth c cX0_deed_2 2 (some (.object "SecondChances$Deed")) RX0 Z := ⟨⟨B.exec, B.bytes, B.returns, B.notSynchronized, hml, findClass_of_methodNamed B.named, hts⟩, hv.2⟩
  have hl := lv_entry [.ref (cSa Z 0), .int x1] (n := 2) (Nat.le_of_ble_eq_true rfl)
  rw [lg_entry_eq]
  generalize (lg_sl [.ref (cSa Z 0), .int x1] ++ List.replicate (2 - (lg_sl [.ref (cSa Z 0), .int x1]).length) Slot.unset).toArray = ls at hl ⊢
  exact cf_deed_2_w0 X hv.1 ⟨Nat.le_refl _, Nat.le_refl _, Nat.le_refl _, Nat.le_refl _⟩ (fun _ h => h) (fun t ht _ => ⟨rfl, ht⟩) x1 [] ls (fun q hq => by cases hq) hl h

/-! SecondChances.deedBy(II)I -/
def cf_deedBy_rm : Room := { frames := 4, cells := 0, slots := 0, locals := 85 }
def cf_deedBy_P0 (p : Program) (l : Launch) (e : Env) (R : Room) (s : State) (m : MethodId) (args : Array Value) (below : List Frame) (meth : Method) (c : Code) (Z : CZ) (Y : CY) (H : Heap) (cells slots : Nat) (Qc : Array Value → State → Outcome → State → Prop) (free : Addr → Prop) (r : Int32) (f : Int32 → Int32 → Option Int32) : Prop := ∀ (x1 : Int32) (x2 : Int32) (locs : List Loc) (ls : Array Slot), (∀ q ∈ locs, free q.base) → lv_has ls 4 [(0, .ref (cSa Z 0)), (1, .int x1), (2, .int x2)] → f x1 x2 = some r → W p l e R s m args below meth c H locs cells slots (MQ below Qc args s cells slots free) (F0 m 0 ls [])
def cf_deedBy (C : St) (x1 : Int32) (x2 : Int32) : Option Int32 :=
  bd_ (cf_deed_2 C x1) fun v1 =>
  if x2 = 0 then (fx_ (cNn C 0) v1 (C (100 + v1) 0) fun v3 =>
    some v3)
  else (if x2 = 1 then (fx_ (cNn C 0) v1 (C (100 + v1) 1) fun v5 =>
      some v5)
    else (if x2 = 2 then (fx_ (cNn C 0) v1 (C (100 + v1) 2) fun v7 =>
        some v7)
      else (if x2 = 3 then (fx_ (cNn C 0) v1 (C (100 + v1) 3) fun v9 =>
          some v9)
        else (fx_ (cNn C 0) v1 (C (100 + v1) 4) fun v10 =>
          some v10))))
theorem cf_deedBy_w0 {p : Program} {l : Launch} {e : Env} {R : Room} {s : State} {m : MethodId} {args : Array Value} {below : List Frame} {meth : Method} {c : Code} {Z : CZ} {Y : CY} {A : Nat → Prop} {C : St} {H : Heap} {cells slots : Nat} {Qc : Array Value → State → Outcome → State → Prop} {free : Addr → Prop} (X : CCx p s m args meth c cX0_deedBy 4 (some .int) RX0 Z) (hM : cPD Z Y A C H) (hR : cf_deedBy_rm.frames ≤ R.frames ∧ cf_deedBy_rm.locals ≤ R.locals ∧ cells ≤ R.cells ∧ slots ≤ R.slots) (hF : ∀ q, cFr Z q → free q) {r : Int32} (hQ : ∀ t : State, t.heap = H → s.WarmedH t.vm → Qc args s (.returned (some (.int r))) t) : cf_deedBy_P0 p l e R s m args below meth c Z Y H cells slots Qc free r (cf_deedBy C) := by
  intro x1 x2 locs ls hL hl h
  obtain ⟨⟨hx, hb, hr, hlocks, hml, hown, hts⟩, hK⟩ := id X
  unfold cf_deedBy at h
  refine lv_aload_n hx hb dX0_deedBy_0 rfl (lv_at hl 0 rfl) ?_
  refine lv_iload_n hx hb dX0_deedBy_1 rfl (lv_at hl 1 rfl) ?_
  obtain ⟨v1, q_v1, h⟩ := bd_e h
  refine f_roR (As := [.int x1]) (rest := []) X hM (c_recv0 X hM) hL hF (cf_deed_2_met _ Z Y A C x1 v1 q_v1) (lw_V q647 q649 qs9 q79 q650) cf_deed_2_hd ⟨rfl, rfl⟩ ⟨Nat.le_trans (m := cf_deedBy_rm.frames) (Nat.le_of_ble_eq_true rfl) hR.1, Nat.le_trans (m := cf_deedBy_rm.locals) (Nat.le_of_ble_eq_true rfl) hR.2.1⟩ ⟨hR.2.2.1, hR.2.2.2⟩ rfl hl.1 rfl (Nat.le_of_ble_eq_true rfl) dX0_deedBy_2 (fun locs hL => ?_)
  refine lv_astore_n (lv' := [(3, .ref (cDa Y (100 + v1))), (0, .ref (cSa Z 0)), (1, .int x1), (2, .int x2)]) hx hb dX0_deedBy_5 rfl hl (by decide) rfl (fun ls hl => ?_)
  refine lv_iload_n hx hb dX0_deedBy_6 rfl (lv_at hl 3 rfl) ?_
  by_cases c2 : x2 = 0
  · have h := ip_ c2 h
    refine lv_tableIn (tgt := 36) hx hb dX0_deedBy_7 (by rw [c2]; decide) (by rw [c2]; decide) (by rw [c2]; rfl) (by decide) ?_
    refine lv_aload_n hx hb dX0_deedBy_36 rfl (lv_at hl 0 rfl) ?_
    obtain ⟨b_v3, h⟩ := fx_e h
    refine gq0 X hM b_v3 dX0_deedBy_37 ?_
    refine lv_topi (fun v3 e_v3 => ?_)
    have h := h v3 e_v3
    have h := so_ h
    subst h
    exact W.iret hx hb hr (fun t ht hW => hQ t ht hW) hL dX0_deedBy_40
  have h := in_ c2 h
  by_cases c4 : x2 = 1
  · have h := ip_ c4 h
    refine lv_tableIn (tgt := 41) hx hb dX0_deedBy_7 (by rw [c4]; decide) (by rw [c4]; decide) (by rw [c4]; rfl) (by decide) ?_
    refine lv_aload_n hx hb dX0_deedBy_41 rfl (lv_at hl 0 rfl) ?_
    obtain ⟨b_v5, h⟩ := fx_e h
    refine gq1 X hM b_v5 dX0_deedBy_42 ?_
    refine lv_topi (fun v5 e_v5 => ?_)
    have h := h v5 e_v5
    have h := so_ h
    subst h
    exact W.iret hx hb hr (fun t ht hW => hQ t ht hW) hL dX0_deedBy_45
  have h := in_ c4 h
  by_cases c6 : x2 = 2
  · have h := ip_ c6 h
    refine lv_tableIn (tgt := 46) hx hb dX0_deedBy_7 (by rw [c6]; decide) (by rw [c6]; decide) (by rw [c6]; rfl) (by decide) ?_
    refine lv_aload_n hx hb dX0_deedBy_46 rfl (lv_at hl 0 rfl) ?_
    obtain ⟨b_v7, h⟩ := fx_e h
    refine gq2 X hM b_v7 dX0_deedBy_47 ?_
    refine lv_topi (fun v7 e_v7 => ?_)
    have h := h v7 e_v7
    have h := so_ h
    subst h
    exact W.iret hx hb hr (fun t ht hW => hQ t ht hW) hL dX0_deedBy_50
  have h := in_ c6 h
  by_cases c8 : x2 = 3
  · have h := ip_ c8 h
    refine lv_tableIn (tgt := 51) hx hb dX0_deedBy_7 (by rw [c8]; decide) (by rw [c8]; decide) (by rw [c8]; rfl) (by decide) ?_
    refine lv_aload_n hx hb dX0_deedBy_51 rfl (lv_at hl 0 rfl) ?_
    obtain ⟨b_v9, h⟩ := fx_e h
    refine gq3 X hM b_v9 dX0_deedBy_52 ?_
    refine lv_topi (fun v9 e_v9 => ?_)
    have h := h v9 e_v9
    have h := so_ h
    subst h
    exact W.iret hx hb hr (fun t ht hW => hQ t ht hW) hL dX0_deedBy_55
  have h := in_ c8 h
  refine lv_tableOut (tgt := 56) hx hb dX0_deedBy_7 (by have c2_ := lv_neT c2 (show (0 : Int32).toInt = 0 from rfl); have c4_ := lv_neT c4 (show (1 : Int32).toInt = 1 from rfl); have c6_ := lv_neT c6 (show (2 : Int32).toInt = 2 from rfl); have c8_ := lv_neT c8 (show (3 : Int32).toInt = 3 from rfl); omega) (by decide) ?_
  refine lv_aload_n hx hb dX0_deedBy_56 rfl (lv_at hl 0 rfl) ?_
  obtain ⟨b_v10, h⟩ := fx_e h
  refine gq4 X hM b_v10 dX0_deedBy_57 ?_
  refine lv_topi (fun v10 e_v10 => ?_)
  have h := h v10 e_v10
  have h := so_ h
  subst h
  exact W.iret hx hb hr (fun t ht hW => hQ t ht hW) hL dX0_deedBy_60
theorem cf_deedBy_hd : yX0_deedBy.cls = RX0 ∧ yX0_deedBy.cls ≠ "java/lang/invoke/MethodHandle" ∧ yX0_deedBy.cls ≠ "java/lang/invoke/VarHandle" ∧ (parseMethodDescriptor yX0_deedBy.desc).map (fun d => d.parameters.length) = some 2 := by decide +kernel
theorem cf_deedBy_met (l : Launch) (Z : CZ) (Y : CY) (A : Nat → Prop) (C : St) (x1 : Int32) (x2 : Int32) (r : Int32) (h : cf_deedBy C x1 x2 = some r) : Met l yX0_deedBy (ws_ yX0_deedBy cX0_deedBy 4 (some .int)) cf_deedBy_rm (va_Pc [.ref (cSa Z 0), .int x1, .int x2] (cS Z Y A C)) (Qro (some (.int r))) 0 0 (cFr Z) := by
  refine Met.ofW (cc := cX0_deedBy) (maxL := 4) (ret := some .int) (by decide) rfl ?_
  intro p e s m args below meth c s₁ B hml hv
  obtain ⟨rfl, hv⟩ := hv
  have hts := atoms_spec (ws := ws_ yX0_deedBy cX0_deedBy 4 (some .int)) B.pre
  have hts : ∀ w ∈ lw_all, w.before _ s = true := fun w h => hts w (List.mem_cons_of_mem _ h)
  have X : CCx p s m _ meth c cX0_deedBy 4 (some .int) RX0 Z := ⟨⟨B.exec, B.bytes, B.returns, B.notSynchronized, hml, findClass_of_methodNamed B.named, hts⟩, hv.2⟩
  have hl := lv_entry [.ref (cSa Z 0), .int x1, .int x2] (n := 4) (Nat.le_of_ble_eq_true rfl)
  rw [lg_entry_eq]
  generalize (lg_sl [.ref (cSa Z 0), .int x1, .int x2] ++ List.replicate (4 - (lg_sl [.ref (cSa Z 0), .int x1, .int x2]).length) Slot.unset).toArray = ls at hl ⊢
  exact cf_deedBy_w0 X hv.1 ⟨Nat.le_refl _, Nat.le_refl _, Nat.le_refl _, Nat.le_refl _⟩ (fun _ h => h) (fun t ht _ => ⟨rfl, ht⟩) x1 x2 [] ls (fun q hq => by cases hq) hl h

/-! SecondChances.asksWeather(LSecondChances$Deed;)Z -/
def cf_asksWeather_rm : Room := { frames := 0, cells := 0, slots := 0, locals := 0 }
def cf_asksWeather_P0 (p : Program) (l : Launch) (e : Env) (R : Room) (s : State) (m : MethodId) (args : Array Value) (below : List Frame) (meth : Method) (c : Code) (Z : CZ) (Y : CY) (H : Heap) (cells slots : Nat) (Qc : Array Value → State → Outcome → State → Prop) (free : Addr → Prop) (r : Int32) (f : Nat → Option Int32) : Prop := ∀ (x1 : Nat) (locs : List Loc) (ls : Array Slot), (∀ q ∈ locs, free q.base) → lv_has ls 2 [(0, .ref (cSa Z 0)), (1, .ref (cDa Y (100 + x1)))] → f x1 = some r → W p l e R s m args below meth c H locs cells slots (MQ below Qc args s cells slots free) (F0 m 0 ls [])
def cf_asksWeather (C : St) (x1 : Nat) : Option Int32 :=
  fx_ (cNn C 0) x1 (C (100 + x1) 0) fun v1 =>
  al_ 4 (C 45) v1 fun v2 =>
  if zb v2 = true then some v2 else none
theorem cf_asksWeather_w0 {p : Program} {l : Launch} {e : Env} {R : Room} {s : State} {m : MethodId} {args : Array Value} {below : List Frame} {meth : Method} {c : Code} {Z : CZ} {Y : CY} {A : Nat → Prop} {C : St} {H : Heap} {cells slots : Nat} {Qc : Array Value → State → Outcome → State → Prop} {free : Addr → Prop} (X : CCx p s m args meth c cX0_asksWeather 2 (some .boolean) RX0 Z) (hM : cPD Z Y A C H) (hR : cf_asksWeather_rm.frames ≤ R.frames ∧ cf_asksWeather_rm.locals ≤ R.locals ∧ cells ≤ R.cells ∧ slots ≤ R.slots) (hF : ∀ q, cFr Z q → free q) {r : Int32} (hQ : ∀ t : State, t.heap = H → s.WarmedH t.vm → Qc args s (.returned (some (.int r))) t) : cf_asksWeather_P0 p l e R s m args below meth c Z Y H cells slots Qc free r (cf_asksWeather C) := by
  intro x1 locs ls hL hl h
  obtain ⟨⟨hx, hb, hr, hlocks, hml, hown, hts⟩, hK⟩ := id X
  unfold cf_asksWeather at h
  refine lv_aload_n hx hb dX0_asksWeather_0 rfl (lv_at hl 0 rfl) ?_
  refine gc6 X hM dX0_asksWeather_1 ?_
  refine gr6 X hM dX0_asksWeather_4 ?_
  refine lv_aload_n hx hb dX0_asksWeather_7 rfl (lv_at hl 1 rfl) ?_
  obtain ⟨b_v1, h⟩ := fx_e h
  refine gq0 X hM b_v1 dX0_asksWeather_8 ?_
  refine lv_topi (fun v1 e_v1 => ?_)
  have h := h v1 e_v1
  obtain ⟨i_v2, h⟩ := al_e h
  refine c_zald X hM (k := 45) (cHs_S (by decide)) (fun _ _ _ => rfl) (cAr_s (by decide)) i_v2 dX0_asksWeather_11 (fun v2 e_v2 => ?_)
  have h := h v2 e_v2
  by_cases c3 : zb v2 = true
  case neg => exact no_ (in_ c3 h)
  have h := ip_ c3 h
  have h := so_ h
  subst h
  exact W.zret hx hb hr (zb_n c3) (fun t ht hW => hQ t ht hW) hL dX0_asksWeather_12
theorem cf_asksWeather_hd : yX0_asksWeather.cls = RX0 ∧ yX0_asksWeather.cls ≠ "java/lang/invoke/MethodHandle" ∧ yX0_asksWeather.cls ≠ "java/lang/invoke/VarHandle" ∧ (parseMethodDescriptor yX0_asksWeather.desc).map (fun d => d.parameters.length) = some 1 := by decide +kernel
theorem cf_asksWeather_met (l : Launch) (Z : CZ) (Y : CY) (A : Nat → Prop) (C : St) (x1 : Nat) (r : Int32) (h : cf_asksWeather C x1 = some r) : Met l yX0_asksWeather (ws_ yX0_asksWeather cX0_asksWeather 2 (some .boolean)) cf_asksWeather_rm (va_Pc [.ref (cSa Z 0), .ref (cDa Y (100 + x1))] (cS Z Y A C)) (Qro (some (.int r))) 0 0 (cFr Z) := by
  refine Met.ofW (cc := cX0_asksWeather) (maxL := 2) (ret := some .boolean) (by decide) rfl ?_
  intro p e s m args below meth c s₁ B hml hv
  obtain ⟨rfl, hv⟩ := hv
  have hts := atoms_spec (ws := ws_ yX0_asksWeather cX0_asksWeather 2 (some .boolean)) B.pre
  have hts : ∀ w ∈ lw_all, w.before _ s = true := fun w h => hts w (List.mem_cons_of_mem _ h)
  have X : CCx p s m _ meth c cX0_asksWeather 2 (some .boolean) RX0 Z := ⟨⟨B.exec, B.bytes, B.returns, B.notSynchronized, hml, findClass_of_methodNamed B.named, hts⟩, hv.2⟩
  have hl := lv_entry [.ref (cSa Z 0), .ref (cDa Y (100 + x1))] (n := 2) (Nat.le_of_ble_eq_true rfl)
  rw [lg_entry_eq]
  generalize (lg_sl [.ref (cSa Z 0), .ref (cDa Y (100 + x1))] ++ List.replicate (2 - (lg_sl [.ref (cSa Z 0), .ref (cDa Y (100 + x1))]).length) Slot.unset).toArray = ls at hl ⊢
  exact cf_asksWeather_w0 X hv.1 ⟨Nat.le_refl _, Nat.le_refl _, Nat.le_refl _, Nat.le_refl _⟩ (fun _ h => h) (fun t ht _ => ⟨rfl, ht⟩) x1 [] ls (fun q hq => by cases hq) hl h

/-! SecondChances.asksPlace(LSecondChances$Deed;)Z -/
def cf_asksPlace_rm : Room := { frames := 0, cells := 0, slots := 0, locals := 0 }
def cf_asksPlace_P0 (p : Program) (l : Launch) (e : Env) (R : Room) (s : State) (m : MethodId) (args : Array Value) (below : List Frame) (meth : Method) (c : Code) (Z : CZ) (Y : CY) (H : Heap) (cells slots : Nat) (Qc : Array Value → State → Outcome → State → Prop) (free : Addr → Prop) (r : Int32) (f : Nat → Option Int32) : Prop := ∀ (x1 : Nat) (locs : List Loc) (ls : Array Slot), (∀ q ∈ locs, free q.base) → lv_has ls 2 [(0, .ref (cSa Z 0)), (1, .ref (cDa Y (100 + x1)))] → f x1 = some r → W p l e R s m args below meth c H locs cells slots (MQ below Qc args s cells slots free) (F0 m 0 ls [])
def cf_asksPlace (C : St) (x1 : Nat) : Option Int32 :=
  fx_ (cNn C 0) x1 (C (100 + x1) 0) fun v1 =>
  al_ 4 (C 46) v1 fun v2 =>
  if zb v2 = true then some v2 else none
theorem cf_asksPlace_w0 {p : Program} {l : Launch} {e : Env} {R : Room} {s : State} {m : MethodId} {args : Array Value} {below : List Frame} {meth : Method} {c : Code} {Z : CZ} {Y : CY} {A : Nat → Prop} {C : St} {H : Heap} {cells slots : Nat} {Qc : Array Value → State → Outcome → State → Prop} {free : Addr → Prop} (X : CCx p s m args meth c cX0_asksPlace 2 (some .boolean) RX0 Z) (hM : cPD Z Y A C H) (hR : cf_asksPlace_rm.frames ≤ R.frames ∧ cf_asksPlace_rm.locals ≤ R.locals ∧ cells ≤ R.cells ∧ slots ≤ R.slots) (hF : ∀ q, cFr Z q → free q) {r : Int32} (hQ : ∀ t : State, t.heap = H → s.WarmedH t.vm → Qc args s (.returned (some (.int r))) t) : cf_asksPlace_P0 p l e R s m args below meth c Z Y H cells slots Qc free r (cf_asksPlace C) := by
  intro x1 locs ls hL hl h
  obtain ⟨⟨hx, hb, hr, hlocks, hml, hown, hts⟩, hK⟩ := id X
  unfold cf_asksPlace at h
  refine lv_aload_n hx hb dX0_asksPlace_0 rfl (lv_at hl 0 rfl) ?_
  refine gc6 X hM dX0_asksPlace_1 ?_
  refine gr7 X hM dX0_asksPlace_4 ?_
  refine lv_aload_n hx hb dX0_asksPlace_7 rfl (lv_at hl 1 rfl) ?_
  obtain ⟨b_v1, h⟩ := fx_e h
  refine gq0 X hM b_v1 dX0_asksPlace_8 ?_
  refine lv_topi (fun v1 e_v1 => ?_)
  have h := h v1 e_v1
  obtain ⟨i_v2, h⟩ := al_e h
  refine c_zald X hM (k := 46) (cHs_S (by decide)) (fun _ _ _ => rfl) (cAr_s (by decide)) i_v2 dX0_asksPlace_11 (fun v2 e_v2 => ?_)
  have h := h v2 e_v2
  by_cases c3 : zb v2 = true
  case neg => exact no_ (in_ c3 h)
  have h := ip_ c3 h
  have h := so_ h
  subst h
  exact W.zret hx hb hr (zb_n c3) (fun t ht hW => hQ t ht hW) hL dX0_asksPlace_12
theorem cf_asksPlace_hd : yX0_asksPlace.cls = RX0 ∧ yX0_asksPlace.cls ≠ "java/lang/invoke/MethodHandle" ∧ yX0_asksPlace.cls ≠ "java/lang/invoke/VarHandle" ∧ (parseMethodDescriptor yX0_asksPlace.desc).map (fun d => d.parameters.length) = some 1 := by decide +kernel
theorem cf_asksPlace_met (l : Launch) (Z : CZ) (Y : CY) (A : Nat → Prop) (C : St) (x1 : Nat) (r : Int32) (h : cf_asksPlace C x1 = some r) : Met l yX0_asksPlace (ws_ yX0_asksPlace cX0_asksPlace 2 (some .boolean)) cf_asksPlace_rm (va_Pc [.ref (cSa Z 0), .ref (cDa Y (100 + x1))] (cS Z Y A C)) (Qro (some (.int r))) 0 0 (cFr Z) := by
  refine Met.ofW (cc := cX0_asksPlace) (maxL := 2) (ret := some .boolean) (by decide) rfl ?_
  intro p e s m args below meth c s₁ B hml hv
  obtain ⟨rfl, hv⟩ := hv
  have hts := atoms_spec (ws := ws_ yX0_asksPlace cX0_asksPlace 2 (some .boolean)) B.pre
  have hts : ∀ w ∈ lw_all, w.before _ s = true := fun w h => hts w (List.mem_cons_of_mem _ h)
  have X : CCx p s m _ meth c cX0_asksPlace 2 (some .boolean) RX0 Z := ⟨⟨B.exec, B.bytes, B.returns, B.notSynchronized, hml, findClass_of_methodNamed B.named, hts⟩, hv.2⟩
  have hl := lv_entry [.ref (cSa Z 0), .ref (cDa Y (100 + x1))] (n := 2) (Nat.le_of_ble_eq_true rfl)
  rw [lg_entry_eq]
  generalize (lg_sl [.ref (cSa Z 0), .ref (cDa Y (100 + x1))] ++ List.replicate (2 - (lg_sl [.ref (cSa Z 0), .ref (cDa Y (100 + x1))]).length) Slot.unset).toArray = ls at hl ⊢
  exact cf_asksPlace_w0 X hv.1 ⟨Nat.le_refl _, Nat.le_refl _, Nat.le_refl _, Nat.le_refl _⟩ (fun _ h => h) (fun t ht _ => ⟨rfl, ht⟩) x1 [] ls (fun q hq => by cases hq) hl h

/-! SecondChances.isTurned(LSecondChances$Deed;I)Z -/
def cf_isTurned_rm : Room := { frames := 1, cells := 0, slots := 0, locals := 21 }
def cf_isTurned_P0 (p : Program) (l : Launch) (e : Env) (R : Room) (s : State) (m : MethodId) (args : Array Value) (below : List Frame) (meth : Method) (c : Code) (Z : CZ) (Y : CY) (H : Heap) (cells slots : Nat) (Qc : Array Value → State → Outcome → State → Prop) (free : Addr → Prop) (r : Int32) (f : Nat → Int32 → Option Int32) : Prop := ∀ (x1 : Nat) (x2 : Int32) (locs : List Loc) (ls : Array Slot), (∀ q ∈ locs, free q.base) → lv_has ls 3 [(0, .ref (cSa Z 0)), (1, .ref (cDa Y (100 + x1))), (2, .int x2)] → f x1 x2 = some r → W p l e R s m args below meth c H locs cells slots (MQ below Qc args s cells slots free) (F0 m 0 ls [])
def cf_isTurned (C : St) (x1 : Nat) (x2 : Int32) : Option Int32 :=
  bd_ (cf_asksWeather C x1) fun v1 =>
  if v1 = 0 then (some (0 : Int32))
  else (al_ 8 (C 2) x2 fun v3 =>
    fx_ (cNn C 0) x1 (C (100 + x1) 2) fun v4 =>
    if v3 = v4 then (some (0 : Int32))
    else (some (1 : Int32)))
theorem cf_isTurned_w0 {p : Program} {l : Launch} {e : Env} {R : Room} {s : State} {m : MethodId} {args : Array Value} {below : List Frame} {meth : Method} {c : Code} {Z : CZ} {Y : CY} {A : Nat → Prop} {C : St} {H : Heap} {cells slots : Nat} {Qc : Array Value → State → Outcome → State → Prop} {free : Addr → Prop} (X : CCx p s m args meth c cX0_isTurned 3 (some .boolean) RX0 Z) (hM : cPD Z Y A C H) (hR : cf_isTurned_rm.frames ≤ R.frames ∧ cf_isTurned_rm.locals ≤ R.locals ∧ cells ≤ R.cells ∧ slots ≤ R.slots) (hF : ∀ q, cFr Z q → free q) {r : Int32} (hQ : ∀ t : State, t.heap = H → s.WarmedH t.vm → Qc args s (.returned (some (.int r))) t) : cf_isTurned_P0 p l e R s m args below meth c Z Y H cells slots Qc free r (cf_isTurned C) := by
  intro x1 x2 locs ls hL hl h
  obtain ⟨⟨hx, hb, hr, hlocks, hml, hown, hts⟩, hK⟩ := id X
  unfold cf_isTurned at h
  refine lv_aload_n hx hb dX0_isTurned_0 rfl (lv_at hl 0 rfl) ?_
  refine lv_aload_n hx hb dX0_isTurned_1 rfl (lv_at hl 1 rfl) ?_
  obtain ⟨v1, q_v1, h⟩ := bd_e h
  refine f_roI (As := [.ref (cDa Y (100 + x1))]) (rest := []) X hM (c_recv0 X hM) hL hF (cf_asksWeather_met _ Z Y A C x1 v1 q_v1) (lw_V q707 q709 qs15 q79 q710) cf_asksWeather_hd ⟨rfl, rfl⟩ ⟨Nat.le_trans (m := cf_isTurned_rm.frames) (Nat.le_of_ble_eq_true rfl) hR.1, Nat.le_trans (m := cf_isTurned_rm.locals) (Nat.le_of_ble_eq_true rfl) hR.2.1⟩ ⟨hR.2.2.1, hR.2.2.2⟩ rfl hl.1 rfl (Nat.le_of_ble_eq_true rfl) dX0_isTurned_2 (fun locs hL => ?_)
  refine lv_if_eq (tgt := 25) hx hb dX0_isTurned_5 (by decide) (fun c2 => ?_) (fun c2 => ?_)
  · have h := ip_ c2 h
    refine lv_iconst (v := 0) hx hb dX0_isTurned_25 (by decide) ?_
    have h := so_ h
    subst h
    exact W.zret hx hb hr rfl (fun t ht hW => hQ t ht hW) hL dX0_isTurned_26
  · have h := in_ c2 h
    refine lv_aload_n hx hb dX0_isTurned_8 rfl (lv_at hl 0 rfl) ?_
    refine gc2 X hM dX0_isTurned_9 ?_
    refine lv_iload_n hx hb dX0_isTurned_12 rfl (lv_at hl 2 rfl) ?_
    obtain ⟨i_v3, h⟩ := al_e h
    refine c_ald X hM (k := 2) (cHs_S (by decide)) (fun _ _ _ => rfl) (cAr_s (by decide)) i_v3 dX0_isTurned_13 (fun v3 e_v3 => ?_)
    have h := h v3 e_v3
    refine lv_aload_n hx hb dX0_isTurned_14 rfl (lv_at hl 1 rfl) ?_
    obtain ⟨b_v4, h⟩ := fx_e h
    refine gq2 X hM b_v4 dX0_isTurned_15 ?_
    refine lv_topi (fun v4 e_v4 => ?_)
    have h := h v4 e_v4
    refine lv_icmp_eq (tgt := 25) hx hb dX0_isTurned_18 (by decide) (fun c5 => ?_) (fun c5 => ?_)
    · have h := ip_ c5 h
      refine lv_iconst (v := 0) hx hb dX0_isTurned_25 (by decide) ?_
      have h := so_ h
      subst h
      exact W.zret hx hb hr rfl (fun t ht hW => hQ t ht hW) hL dX0_isTurned_26
    · have h := in_ c5 h
      refine lv_iconst (v := 1) hx hb dX0_isTurned_21 (by decide) ?_
      refine lv_goto (tgt := 26) hx hb dX0_isTurned_22 (by decide) ?_
      have h := so_ h
      subst h
      exact W.zret hx hb hr rfl (fun t ht hW => hQ t ht hW) hL dX0_isTurned_26
theorem cf_isTurned_hd : yX0_isTurned.cls = RX0 ∧ yX0_isTurned.cls ≠ "java/lang/invoke/MethodHandle" ∧ yX0_isTurned.cls ≠ "java/lang/invoke/VarHandle" ∧ (parseMethodDescriptor yX0_isTurned.desc).map (fun d => d.parameters.length) = some 2 := by decide +kernel
theorem cf_isTurned_met (l : Launch) (Z : CZ) (Y : CY) (A : Nat → Prop) (C : St) (x1 : Nat) (x2 : Int32) (r : Int32) (h : cf_isTurned C x1 x2 = some r) : Met l yX0_isTurned (ws_ yX0_isTurned cX0_isTurned 3 (some .boolean)) cf_isTurned_rm (va_Pc [.ref (cSa Z 0), .ref (cDa Y (100 + x1)), .int x2] (cS Z Y A C)) (Qro (some (.int r))) 0 0 (cFr Z) := by
  refine Met.ofW (cc := cX0_isTurned) (maxL := 3) (ret := some .boolean) (by decide) rfl ?_
  intro p e s m args below meth c s₁ B hml hv
  obtain ⟨rfl, hv⟩ := hv
  have hts := atoms_spec (ws := ws_ yX0_isTurned cX0_isTurned 3 (some .boolean)) B.pre
  have hts : ∀ w ∈ lw_all, w.before _ s = true := fun w h => hts w (List.mem_cons_of_mem _ h)
  have X : CCx p s m _ meth c cX0_isTurned 3 (some .boolean) RX0 Z := ⟨⟨B.exec, B.bytes, B.returns, B.notSynchronized, hml, findClass_of_methodNamed B.named, hts⟩, hv.2⟩
  have hl := lv_entry [.ref (cSa Z 0), .ref (cDa Y (100 + x1)), .int x2] (n := 3) (Nat.le_of_ble_eq_true rfl)
  rw [lg_entry_eq]
  generalize (lg_sl [.ref (cSa Z 0), .ref (cDa Y (100 + x1)), .int x2] ++ List.replicate (3 - (lg_sl [.ref (cSa Z 0), .ref (cDa Y (100 + x1)), .int x2]).length) Slot.unset).toArray = ls at hl ⊢
  exact cf_isTurned_w0 X hv.1 ⟨Nat.le_refl _, Nat.le_refl _, Nat.le_refl _, Nat.le_refl _⟩ (fun _ h => h) (fun t ht _ => ⟨rfl, ht⟩) x1 x2 [] ls (fun q hq => by cases hq) hl h

/-! SecondChances.needed(LSecondChances$Deed;)I -/
def cf_needed_rm : Room := { frames := 1, cells := 0, slots := 0, locals := 21 }
def cf_needed_P0 (p : Program) (l : Launch) (e : Env) (R : Room) (s : State) (m : MethodId) (args : Array Value) (below : List Frame) (meth : Method) (c : Code) (Z : CZ) (Y : CY) (H : Heap) (cells slots : Nat) (Qc : Array Value → State → Outcome → State → Prop) (free : Addr → Prop) (r : Int32) (f : Nat → Option Int32) : Prop := ∀ (x1 : Nat) (locs : List Loc) (ls : Array Slot), (∀ q ∈ locs, free q.base) → lv_has ls 2 [(0, .ref (cSa Z 0)), (1, .ref (cDa Y (100 + x1)))] → f x1 = some r → W p l e R s m args below meth c H locs cells slots (MQ below Qc args s cells slots free) (F0 m 0 ls [])
def cf_needed (C : St) (x1 : Nat) : Option Int32 :=
  fx_ (cNn C 0) x1 (C (100 + x1) 0) fun v1 =>
  al_ 4 (C 44) v1 fun v2 =>
  fx_ (cNn C 0) x1 (C (100 + x1) 4) fun v3 =>
  bd_ (cj_bitCount v3) fun v4 =>
  lt_ (if v4 < v2 then v4 else v2) fun v5 =>
  some v5
theorem cf_needed_w0 {p : Program} {l : Launch} {e : Env} {R : Room} {s : State} {m : MethodId} {args : Array Value} {below : List Frame} {meth : Method} {c : Code} {Z : CZ} {Y : CY} {A : Nat → Prop} {C : St} {H : Heap} {cells slots : Nat} {Qc : Array Value → State → Outcome → State → Prop} {free : Addr → Prop} (X : CCx p s m args meth c cX0_needed 2 (some .int) RX0 Z) (hM : cPD Z Y A C H) (hR : cf_needed_rm.frames ≤ R.frames ∧ cf_needed_rm.locals ≤ R.locals ∧ cells ≤ R.cells ∧ slots ≤ R.slots) (hF : ∀ q, cFr Z q → free q) {r : Int32} (hQ : ∀ t : State, t.heap = H → s.WarmedH t.vm → Qc args s (.returned (some (.int r))) t) : cf_needed_P0 p l e R s m args below meth c Z Y H cells slots Qc free r (cf_needed C) := by
  intro x1 locs ls hL hl h
  obtain ⟨⟨hx, hb, hr, hlocks, hml, hown, hts⟩, hK⟩ := id X
  unfold cf_needed at h
  refine lv_aload_n hx hb dX0_needed_0 rfl (lv_at hl 0 rfl) ?_
  refine gc6 X hM dX0_needed_1 ?_
  refine gr5 X hM dX0_needed_4 ?_
  refine lv_aload_n hx hb dX0_needed_7 rfl (lv_at hl 1 rfl) ?_
  obtain ⟨b_v1, h⟩ := fx_e h
  refine gq0 X hM b_v1 dX0_needed_8 ?_
  refine lv_topi (fun v1 e_v1 => ?_)
  have h := h v1 e_v1
  obtain ⟨i_v2, h⟩ := al_e h
  refine c_ald X hM (k := 44) (cHs_S (by decide)) (fun _ _ _ => rfl) (cAr_s (by decide)) i_v2 dX0_needed_11 (fun v2 e_v2 => ?_)
  have h := h v2 e_v2
  refine lv_aload_n hx hb dX0_needed_12 rfl (lv_at hl 1 rfl) ?_
  obtain ⟨b_v3, h⟩ := fx_e h
  refine gq4 X hM b_v3 dX0_needed_13 ?_
  refine lv_topi (fun v3 e_v3 => ?_)
  have h := h v3 e_v3
  obtain ⟨v4, q_v4, h⟩ := bd_e h
  refine s_roI (As := [.int v3]) (rest := [.int v2]) X.1 (cj_bitCount_met _ v3 v4 q_v4) (lw_S q691 q692 q99 q693) cj_bitCount_hd ⟨rfl, rfl⟩ ⟨Nat.le_trans (m := cf_needed_rm.frames) (Nat.le_of_ble_eq_true rfl) hR.1, Nat.le_trans (m := cf_needed_rm.locals) (Nat.le_of_ble_eq_true rfl) hR.2.1⟩ ⟨hR.2.2.1, hR.2.2.2⟩ rfl hl.1 rfl (Nat.le_of_ble_eq_true rfl) dX0_needed_16 ?_
  refine va_mmin (rest := []) hx hb (hml.trans hl.1.symm) hown (hts _ q697) (hts _ q605) (hts _ q94) (hts _ q606) (Nat.le_trans (m := cf_needed_rm.frames) (Nat.le_of_ble_eq_true rfl) hR.1) (Nat.le_trans (m := cf_needed_rm.locals) (Nat.le_of_ble_eq_true rfl) hR.2.1) hR.2.2.1 hR.2.2.2 dX0_needed_19 ?_
  refine lv_topi (fun v5 e_v5 => ?_)
  have h := lt_i h e_v5
  have h := so_ h
  subst h
  exact W.iret hx hb hr (fun t ht hW => hQ t ht hW) hL dX0_needed_22
theorem cf_needed_hd : yX0_needed.cls = RX0 ∧ yX0_needed.cls ≠ "java/lang/invoke/MethodHandle" ∧ yX0_needed.cls ≠ "java/lang/invoke/VarHandle" ∧ (parseMethodDescriptor yX0_needed.desc).map (fun d => d.parameters.length) = some 1 := by decide +kernel
theorem cf_needed_met (l : Launch) (Z : CZ) (Y : CY) (A : Nat → Prop) (C : St) (x1 : Nat) (r : Int32) (h : cf_needed C x1 = some r) : Met l yX0_needed (ws_ yX0_needed cX0_needed 2 (some .int)) cf_needed_rm (va_Pc [.ref (cSa Z 0), .ref (cDa Y (100 + x1))] (cS Z Y A C)) (Qro (some (.int r))) 0 0 (cFr Z) := by
  refine Met.ofW (cc := cX0_needed) (maxL := 2) (ret := some .int) (by decide) rfl ?_
  intro p e s m args below meth c s₁ B hml hv
  obtain ⟨rfl, hv⟩ := hv
  have hts := atoms_spec (ws := ws_ yX0_needed cX0_needed 2 (some .int)) B.pre
  have hts : ∀ w ∈ lw_all, w.before _ s = true := fun w h => hts w (List.mem_cons_of_mem _ h)
  have X : CCx p s m _ meth c cX0_needed 2 (some .int) RX0 Z := ⟨⟨B.exec, B.bytes, B.returns, B.notSynchronized, hml, findClass_of_methodNamed B.named, hts⟩, hv.2⟩
  have hl := lv_entry [.ref (cSa Z 0), .ref (cDa Y (100 + x1))] (n := 2) (Nat.le_of_ble_eq_true rfl)
  rw [lg_entry_eq]
  generalize (lg_sl [.ref (cSa Z 0), .ref (cDa Y (100 + x1))] ++ List.replicate (2 - (lg_sl [.ref (cSa Z 0), .ref (cDa Y (100 + x1))]).length) Slot.unset).toArray = ls at hl ⊢
  exact cf_needed_w0 X hv.1 ⟨Nat.le_refl _, Nat.le_refl _, Nat.le_refl _, Nat.le_refl _⟩ (fun _ h => h) (fun t ht _ => ⟨rfl, ht⟩) x1 [] ls (fun q hq => by cases hq) hl h

/-! SecondChances.comers(LSecondChances$Deed;I)I -/
def cf_comers_rm : Room := { frames := 2, cells := 0, slots := 0, locals := 42 }
def cf_comers_P132 (p : Program) (l : Launch) (e : Env) (R : Room) (s : State) (m : MethodId) (args : Array Value) (below : List Frame) (meth : Method) (c : Code) (Z : CZ) (Y : CY) (H : Heap) (cells slots : Nat) (Qc : Array Value → State → Outcome → State → Prop) (free : Addr → Prop) (r : Int32) (f : Nat → Int32 → Int32 → Int32 → Int32 → Option Int32) : Prop := ∀ (x1 : Nat) (x2 : Int32) (x4 : Int32) (t0 : Int32) (t1 : Int32) (locs : List Loc) (ls : Array Slot), (∀ q ∈ locs, free q.base) → lv_has ls 8 [(0, .ref (cSa Z 0)), (1, .ref (cDa Y (100 + x1))), (2, .int x2), (4, .int x4)] → f x1 x2 x4 t0 t1 = some r → W p l e R s m args below meth c H locs cells slots (MQ below Qc args s cells slots free) (F0 m 132 ls [.int t0, .int t1])
def cf_comers_P111 (p : Program) (l : Launch) (e : Env) (R : Room) (s : State) (m : MethodId) (args : Array Value) (below : List Frame) (meth : Method) (c : Code) (Z : CZ) (Y : CY) (H : Heap) (cells slots : Nat) (Qc : Array Value → State → Outcome → State → Prop) (free : Addr → Prop) (r : Int32) (f : Nat → Int32 → Int32 → Int32 → Int32 → Int32 → Option Int32) : Prop := ∀ (x1 : Nat) (x2 : Int32) (x3 : Int32) (x4 : Int32) (x5 : Int32) (x6 : Int32) (locs : List Loc) (ls : Array Slot), (∀ q ∈ locs, free q.base) → lv_has ls 8 [(0, .ref (cSa Z 0)), (1, .ref (cDa Y (100 + x1))), (2, .int x2), (3, .int x3), (4, .int x4), (5, .int x5), (6, .int x6)] → f x1 x2 x3 x4 x5 x6 = some r → W p l e R s m args below meth c H locs cells slots (MQ below Qc args s cells slots free) (F0 m 111 ls [])
def cf_comers_P107 (p : Program) (l : Launch) (e : Env) (R : Room) (s : State) (m : MethodId) (args : Array Value) (below : List Frame) (meth : Method) (c : Code) (Z : CZ) (Y : CY) (H : Heap) (cells slots : Nat) (Qc : Array Value → State → Outcome → State → Prop) (free : Addr → Prop) (r : Int32) (f : Nat → Int32 → Int32 → Int32 → Int32 → Option Int32) : Prop := ∀ (x1 : Nat) (x2 : Int32) (x3 : Int32) (x4 : Int32) (x6 : Int32) (locs : List Loc) (ls : Array Slot), (∀ q ∈ locs, free q.base) → lv_has ls 8 [(0, .ref (cSa Z 0)), (1, .ref (cDa Y (100 + x1))), (2, .int x2), (3, .int x3), (4, .int x4), (6, .int x6)] → f x1 x2 x3 x4 x6 = some r → W p l e R s m args below meth c H locs cells slots (MQ below Qc args s cells slots free) (F0 m 107 ls [])
def cf_comers_P67 (p : Program) (l : Launch) (e : Env) (R : Room) (s : State) (m : MethodId) (args : Array Value) (below : List Frame) (meth : Method) (c : Code) (Z : CZ) (Y : CY) (H : Heap) (cells slots : Nat) (Qc : Array Value → State → Outcome → State → Prop) (free : Addr → Prop) (r : Int32) (f : Nat → Int32 → Int32 → Int32 → Int32 → Int32 → Int32 → Option Int32) : Prop := ∀ (x1 : Nat) (x2 : Int32) (x3 : Int32) (x4 : Int32) (x5 : Int32) (x6 : Int32) (t0 : Int32) (locs : List Loc) (ls : Array Slot), (∀ q ∈ locs, free q.base) → lv_has ls 8 [(0, .ref (cSa Z 0)), (1, .ref (cDa Y (100 + x1))), (2, .int x2), (3, .int x3), (4, .int x4), (5, .int x5), (6, .int x6)] → f x1 x2 x3 x4 x5 x6 t0 = some r → W p l e R s m args below meth c H locs cells slots (MQ below Qc args s cells slots free) (F0 m 67 ls [.int t0])
def cf_comers_P20 (p : Program) (l : Launch) (e : Env) (R : Room) (s : State) (m : MethodId) (args : Array Value) (below : List Frame) (meth : Method) (c : Code) (Z : CZ) (Y : CY) (H : Heap) (cells slots : Nat) (Qc : Array Value → State → Outcome → State → Prop) (free : Addr → Prop) (r : Int32) (f : Nat → Int32 → Int32 → Int32 → Int32 → Int32 → Option Int32) : Prop := ∀ (x1 : Nat) (x2 : Int32) (x3 : Int32) (x4 : Int32) (x5 : Int32) (x6 : Int32) (locs : List Loc) (ls : Array Slot), (∀ q ∈ locs, free q.base) → lv_has ls 8 [(0, .ref (cSa Z 0)), (1, .ref (cDa Y (100 + x1))), (2, .int x2), (3, .int x3), (4, .int x4), (5, .int x5), (6, .int x6)] → f x1 x2 x3 x4 x5 x6 = some r → W p l e R s m args below meth c H locs cells slots (MQ below Qc args s cells slots free) (F0 m 20 ls [])
def cf_comers_P9 (p : Program) (l : Launch) (e : Env) (R : Room) (s : State) (m : MethodId) (args : Array Value) (below : List Frame) (meth : Method) (c : Code) (Z : CZ) (Y : CY) (H : Heap) (cells slots : Nat) (Qc : Array Value → State → Outcome → State → Prop) (free : Addr → Prop) (r : Int32) (f : Nat → Int32 → Int32 → Int32 → Option Int32) : Prop := ∀ (x1 : Nat) (x2 : Int32) (x3 : Int32) (x4 : Int32) (locs : List Loc) (ls : Array Slot), (∀ q ∈ locs, free q.base) → lv_has ls 8 [(0, .ref (cSa Z 0)), (1, .ref (cDa Y (100 + x1))), (2, .int x2), (3, .int x3), (4, .int x4)] → f x1 x2 x3 x4 = some r → W p l e R s m args below meth c H locs cells slots (MQ below Qc args s cells slots free) (F0 m 9 ls [])
def cf_comers_P0 (p : Program) (l : Launch) (e : Env) (R : Room) (s : State) (m : MethodId) (args : Array Value) (below : List Frame) (meth : Method) (c : Code) (Z : CZ) (Y : CY) (H : Heap) (cells slots : Nat) (Qc : Array Value → State → Outcome → State → Prop) (free : Addr → Prop) (r : Int32) (f : Nat → Int32 → Option Int32) : Prop := ∀ (x1 : Nat) (x2 : Int32) (locs : List Loc) (ls : Array Slot), (∀ q ∈ locs, free q.base) → lv_has ls 8 [(0, .ref (cSa Z 0)), (1, .ref (cDa Y (100 + x1))), (2, .int x2)] → f x1 x2 = some r → W p l e R s m args below meth c H locs cells slots (MQ below Qc args s cells slots free) (F0 m 0 ls [])
def cf_comers_b132 (C : St) (k9 : Nat → Int32 → Int32 → Int32 → Option Int32) (x1 : Nat) (x2 : Int32) (x4 : Int32) (t0 : Int32) (t1 : Int32) : Option Int32 :=
  lt_ (t1 ||| t0) fun v1 =>
  k9 x1 x2 v1 (x4 + (-1))
theorem cf_comers_w132 {p : Program} {l : Launch} {e : Env} {R : Room} {s : State} {m : MethodId} {args : Array Value} {below : List Frame} {meth : Method} {c : Code} {Z : CZ} {Y : CY} {A : Nat → Prop} {C : St} {H : Heap} {cells slots : Nat} {Qc : Array Value → State → Outcome → State → Prop} {free : Addr → Prop} (X : CCx p s m args meth c cX0_comers 8 (some .int) RX0 Z) (hM : cPD Z Y A C H) (hR : cf_comers_rm.frames ≤ R.frames ∧ cf_comers_rm.locals ≤ R.locals ∧ cells ≤ R.cells ∧ slots ≤ R.slots) (hF : ∀ q, cFr Z q → free q) {r : Int32} (hQ : ∀ t : State, t.heap = H → s.WarmedH t.vm → Qc args s (.returned (some (.int r))) t) {k9 : Nat → Int32 → Int32 → Int32 → Option Int32} (hk9 : cf_comers_P9 p l e R s m args below meth c Z Y H cells slots Qc free r k9) : cf_comers_P132 p l e R s m args below meth c Z Y H cells slots Qc free r (cf_comers_b132 C k9) := by
  intro x1 x2 x4 t0 t1 locs ls hL hl h
  obtain ⟨⟨hx, hb, hr, hlocks, hml, hown, hts⟩, hK⟩ := id X
  unfold cf_comers_b132 at h
  refine lv_ior hx hb dX0_comers_132 ?_
  refine lv_topi (fun v1 e_v1 => ?_)
  have h := lt_i h e_v1
  refine lv_istore_n (lv' := [(3, .int v1), (0, .ref (cSa Z 0)), (1, .ref (cDa Y (100 + x1))), (2, .int x2), (4, .int x4)]) hx hb dX0_comers_133 rfl hl (by decide) rfl (fun ls hl => ?_)
  refine lv_iinc (v := (x4 + (-1))) (lv' := [(4, .int (x4 + (-1))), (3, .int v1), (0, .ref (cSa Z 0)), (1, .ref (cDa Y (100 + x1))), (2, .int x2)]) hx hb dX0_comers_134 hl (k := 4) rfl rfl (by decide) rfl (fun ls hl => ?_)
  refine lv_goto (tgt := 9) hx hb dX0_comers_137 (by decide) ?_
  exact hk9 x1 x2 v1 (x4 + (-1)) _ ls hL (lv_sub hl [2, 3, 4, 1, 0] rfl) h
def cf_comers_b111 (C : St) (k9 : Nat → Int32 → Int32 → Int32 → Option Int32) (k20 : Nat → Int32 → Int32 → Int32 → Int32 → Int32 → Option Int32) (x1 : Nat) (x2 : Int32) (x3 : Int32) (x4 : Int32) (x5 : Int32) (x6 : Int32) : Option Int32 :=
  k20 x1 x2 x3 x4 x5 (x6 + 1)
theorem cf_comers_w111 {p : Program} {l : Launch} {e : Env} {R : Room} {s : State} {m : MethodId} {args : Array Value} {below : List Frame} {meth : Method} {c : Code} {Z : CZ} {Y : CY} {A : Nat → Prop} {C : St} {H : Heap} {cells slots : Nat} {Qc : Array Value → State → Outcome → State → Prop} {free : Addr → Prop} (X : CCx p s m args meth c cX0_comers 8 (some .int) RX0 Z) (hM : cPD Z Y A C H) (hR : cf_comers_rm.frames ≤ R.frames ∧ cf_comers_rm.locals ≤ R.locals ∧ cells ≤ R.cells ∧ slots ≤ R.slots) (hF : ∀ q, cFr Z q → free q) {r : Int32} (hQ : ∀ t : State, t.heap = H → s.WarmedH t.vm → Qc args s (.returned (some (.int r))) t) {k9 : Nat → Int32 → Int32 → Int32 → Option Int32} (hk9 : cf_comers_P9 p l e R s m args below meth c Z Y H cells slots Qc free r k9) {k20 : Nat → Int32 → Int32 → Int32 → Int32 → Int32 → Option Int32} (hk20 : cf_comers_P20 p l e R s m args below meth c Z Y H cells slots Qc free r k20) : cf_comers_P111 p l e R s m args below meth c Z Y H cells slots Qc free r (cf_comers_b111 C k9 k20) := by
  intro x1 x2 x3 x4 x5 x6 locs ls hL hl h
  obtain ⟨⟨hx, hb, hr, hlocks, hml, hown, hts⟩, hK⟩ := id X
  unfold cf_comers_b111 at h
  refine lv_iinc (v := (x6 + 1)) (lv' := [(6, .int (x6 + 1)), (0, .ref (cSa Z 0)), (1, .ref (cDa Y (100 + x1))), (2, .int x2), (3, .int x3), (4, .int x4), (5, .int x5)]) hx hb dX0_comers_111 hl (k := 6) rfl rfl (by decide) rfl (fun ls hl => ?_)
  refine lv_goto (tgt := 20) hx hb dX0_comers_114 (by decide) ?_
  exact hk20 x1 x2 x3 x4 x5 (x6 + 1) _ ls hL (lv_sub hl [1, 2, 3, 4, 5, 6, 0] rfl) h
def cf_comers_b107 (C : St) (k9 : Nat → Int32 → Int32 → Int32 → Option Int32) (k20 : Nat → Int32 → Int32 → Int32 → Int32 → Int32 → Option Int32) (x1 : Nat) (x2 : Int32) (x3 : Int32) (x4 : Int32) (x6 : Int32) : Option Int32 :=
  cf_comers_b111 C k9 k20 x1 x2 x3 x4 x6 x6
theorem cf_comers_w107 {p : Program} {l : Launch} {e : Env} {R : Room} {s : State} {m : MethodId} {args : Array Value} {below : List Frame} {meth : Method} {c : Code} {Z : CZ} {Y : CY} {A : Nat → Prop} {C : St} {H : Heap} {cells slots : Nat} {Qc : Array Value → State → Outcome → State → Prop} {free : Addr → Prop} (X : CCx p s m args meth c cX0_comers 8 (some .int) RX0 Z) (hM : cPD Z Y A C H) (hR : cf_comers_rm.frames ≤ R.frames ∧ cf_comers_rm.locals ≤ R.locals ∧ cells ≤ R.cells ∧ slots ≤ R.slots) (hF : ∀ q, cFr Z q → free q) {r : Int32} (hQ : ∀ t : State, t.heap = H → s.WarmedH t.vm → Qc args s (.returned (some (.int r))) t) {k9 : Nat → Int32 → Int32 → Int32 → Option Int32} (hk9 : cf_comers_P9 p l e R s m args below meth c Z Y H cells slots Qc free r k9) {k20 : Nat → Int32 → Int32 → Int32 → Int32 → Int32 → Option Int32} (hk20 : cf_comers_P20 p l e R s m args below meth c Z Y H cells slots Qc free r k20) : cf_comers_P107 p l e R s m args below meth c Z Y H cells slots Qc free r (cf_comers_b107 C k9 k20) := by
  intro x1 x2 x3 x4 x6 locs ls hL hl h
  obtain ⟨⟨hx, hb, hr, hlocks, hml, hown, hts⟩, hK⟩ := id X
  unfold cf_comers_b107 at h
  refine lv_iload hx hb dX0_comers_107 (lv_at hl 5 rfl) ?_
  refine lv_istore (lv' := [(5, .int x6), (0, .ref (cSa Z 0)), (1, .ref (cDa Y (100 + x1))), (2, .int x2), (3, .int x3), (4, .int x4), (6, .int x6)]) hx hb dX0_comers_109 hl (by decide) rfl (fun ls hl => ?_)
  exact cf_comers_w111 X hM hR hF hQ hk9 hk20 x1 x2 x3 x4 x6 x6 _ ls hL (lv_sub hl [1, 2, 3, 4, 5, 0, 6] rfl) h
def cf_comers_b67 (C : St) (k9 : Nat → Int32 → Int32 → Int32 → Option Int32) (k20 : Nat → Int32 → Int32 → Int32 → Int32 → Int32 → Option Int32) (x1 : Nat) (x2 : Int32) (x3 : Int32) (x4 : Int32) (x5 : Int32) (x6 : Int32) (t0 : Int32) : Option Int32 :=
  if t0 = 0 then (cf_comers_b111 C k9 k20 x1 x2 x3 x4 x5 x6)
  else (if x5 = (-1 : Int32) then (cf_comers_b107 C k9 k20 x1 x2 x3 x4 x6)
    else (ix_ 8 x6 fun q3 =>
      al_ 4 (C (20 + q3)) (2 : Int32) fun v4 =>
      ix_ 8 x5 fun q5 =>
      al_ 4 (C (20 + q5)) (2 : Int32) fun v6 =>
      if v6 ≤ v4 then (cf_comers_b111 C k9 k20 x1 x2 x3 x4 x5 x6)
      else (cf_comers_b107 C k9 k20 x1 x2 x3 x4 x6)))
theorem cf_comers_w67 {p : Program} {l : Launch} {e : Env} {R : Room} {s : State} {m : MethodId} {args : Array Value} {below : List Frame} {meth : Method} {c : Code} {Z : CZ} {Y : CY} {A : Nat → Prop} {C : St} {H : Heap} {cells slots : Nat} {Qc : Array Value → State → Outcome → State → Prop} {free : Addr → Prop} (X : CCx p s m args meth c cX0_comers 8 (some .int) RX0 Z) (hM : cPD Z Y A C H) (hR : cf_comers_rm.frames ≤ R.frames ∧ cf_comers_rm.locals ≤ R.locals ∧ cells ≤ R.cells ∧ slots ≤ R.slots) (hF : ∀ q, cFr Z q → free q) {r : Int32} (hQ : ∀ t : State, t.heap = H → s.WarmedH t.vm → Qc args s (.returned (some (.int r))) t) {k9 : Nat → Int32 → Int32 → Int32 → Option Int32} (hk9 : cf_comers_P9 p l e R s m args below meth c Z Y H cells slots Qc free r k9) {k20 : Nat → Int32 → Int32 → Int32 → Int32 → Int32 → Option Int32} (hk20 : cf_comers_P20 p l e R s m args below meth c Z Y H cells slots Qc free r k20) : cf_comers_P67 p l e R s m args below meth c Z Y H cells slots Qc free r (cf_comers_b67 C k9 k20) := by
  intro x1 x2 x3 x4 x5 x6 t0 locs ls hL hl h
  obtain ⟨⟨hx, hb, hr, hlocks, hml, hown, hts⟩, hK⟩ := id X
  unfold cf_comers_b67 at h
  refine lv_istore (lv' := [(7, .int t0), (0, .ref (cSa Z 0)), (1, .ref (cDa Y (100 + x1))), (2, .int x2), (3, .int x3), (4, .int x4), (5, .int x5), (6, .int x6)]) hx hb dX0_comers_67 hl (by decide) rfl (fun ls hl => ?_)
  refine lv_iload hx hb dX0_comers_69 (lv_at hl 0 rfl) ?_
  refine lv_if_eq (tgt := 111) hx hb dX0_comers_71 (by decide) (fun c1 => ?_) (fun c1 => ?_)
  · have h := ip_ c1 h
    exact cf_comers_w111 X hM hR hF hQ hk9 hk20 x1 x2 x3 x4 x5 x6 _ ls hL (lv_sub hl [1, 2, 3, 4, 5, 6, 7] rfl) h
  · have h := in_ c1 h
    refine lv_iload hx hb dX0_comers_74 (lv_at hl 6 rfl) ?_
    refine lv_iconst (v := -1) hx hb dX0_comers_76 (by decide) ?_
    refine lv_icmp_eq (tgt := 107) hx hb dX0_comers_77 (by decide) (fun c2 => ?_) (fun c2 => ?_)
    · have h := ip_ c2 h
      exact cf_comers_w107 X hM hR hF hQ hk9 hk20 x1 x2 x3 x4 x6 _ ls hL (lv_sub hl [1, 2, 3, 4, 5, 7] rfl) h
    · have h := in_ c2 h
      refine lv_aload_n hx hb dX0_comers_80 rfl (lv_at hl 1 rfl) ?_
      refine gc1 X hM dX0_comers_81 ?_
      refine lv_iload hx hb dX0_comers_84 (lv_at hl 7 rfl) ?_
      obtain ⟨i_q3, b_q3, h⟩ := ix_e h
      refine c_aldP X hM i_q3 dX0_comers_86 (fun q3 e_q3 => ?_)
      have h := h q3 e_q3
      rw [← e_q3] at b_q3
      refine gpf X hM b_q3 dX0_comers_87 ?_
      refine lv_iconst (v := 2) hx hb dX0_comers_90 (by decide) ?_
      obtain ⟨i_v4, h⟩ := al_e h
      refine c_ald X hM (k := (20 + q3)) (cHs_S (cS_f b_q3)) (cArr_f b_q3) (cAr_s (by omega)) i_v4 dX0_comers_91 (fun v4 e_v4 => ?_)
      have h := h v4 e_v4
      refine lv_aload_n hx hb dX0_comers_92 rfl (lv_at hl 1 rfl) ?_
      refine gc1 X hM dX0_comers_93 ?_
      refine lv_iload hx hb dX0_comers_96 (lv_at hl 6 rfl) ?_
      obtain ⟨i_q5, b_q5, h⟩ := ix_e h
      refine c_aldP X hM i_q5 dX0_comers_98 (fun q5 e_q5 => ?_)
      have h := h q5 e_q5
      rw [← e_q5] at b_q5
      refine gpf X hM b_q5 dX0_comers_99 ?_
      refine lv_iconst (v := 2) hx hb dX0_comers_102 (by decide) ?_
      obtain ⟨i_v6, h⟩ := al_e h
      refine c_ald X hM (k := (20 + q5)) (cHs_S (cS_f b_q5)) (cArr_f b_q5) (cAr_s (by omega)) i_v6 dX0_comers_103 (fun v6 e_v6 => ?_)
      have h := h v6 e_v6
      refine lv_icmp_ge (tgt := 111) hx hb dX0_comers_104 (by decide) (fun c7 => ?_) (fun c7 => ?_)
      · have h := ip_ c7 h
        exact cf_comers_w111 X hM hR hF hQ hk9 hk20 x1 x2 x3 x4 x5 x6 _ ls hL (lv_sub hl [1, 2, 3, 4, 5, 6, 7] rfl) h
      · have h := in_ c7 h
        exact cf_comers_w107 X hM hR hF hQ hk9 hk20 x1 x2 x3 x4 x6 _ ls hL (lv_sub hl [1, 2, 3, 4, 5, 7] rfl) h
def cf_comers_b20 (C : St) (k9 : Nat → Int32 → Int32 → Int32 → Option Int32) (k20 : Nat → Int32 → Int32 → Int32 → Int32 → Int32 → Option Int32) (x1 : Nat) (x2 : Int32) (x3 : Int32) (x4 : Int32) (x5 : Int32) (x6 : Int32) : Option Int32 :=
  if (8 : Int32) ≤ x6 then (if x5 = (-1 : Int32) then (cf_comers_b132 C k9 x1 x2 x4 (0 : Int32) x3)
    else (cf_comers_b132 C k9 x1 x2 x4 ((1 : Int32) <<< (x5 &&& 31)) x3))
  else (fx_ (cNn C 0) x1 (C (100 + x1) 4) fun v3 =>
    bd_ (cf_isIn v3 x6) fun v4 =>
    if v4 = 0 then (cf_comers_b67 C k9 k20 x1 x2 x3 x4 x5 x6 (0 : Int32))
    else (bd_ (cf_isIn x3 x6) fun v6 =>
      if v6 = 0 then (ix_ 8 x6 fun q8 =>
        bd_ (cfP_comes C q8 x2) fun v9 =>
        if v9 = 0 then (cf_comers_b67 C k9 k20 x1 x2 x3 x4 x5 x6 (0 : Int32))
        else (cf_comers_b67 C k9 k20 x1 x2 x3 x4 x5 x6 (1 : Int32)))
      else (cf_comers_b67 C k9 k20 x1 x2 x3 x4 x5 x6 (0 : Int32))))
theorem cf_comers_w20 {p : Program} {l : Launch} {e : Env} {R : Room} {s : State} {m : MethodId} {args : Array Value} {below : List Frame} {meth : Method} {c : Code} {Z : CZ} {Y : CY} {A : Nat → Prop} {C : St} {H : Heap} {cells slots : Nat} {Qc : Array Value → State → Outcome → State → Prop} {free : Addr → Prop} (X : CCx p s m args meth c cX0_comers 8 (some .int) RX0 Z) (hM : cPD Z Y A C H) (hR : cf_comers_rm.frames ≤ R.frames ∧ cf_comers_rm.locals ≤ R.locals ∧ cells ≤ R.cells ∧ slots ≤ R.slots) (hF : ∀ q, cFr Z q → free q) {r : Int32} (hQ : ∀ t : State, t.heap = H → s.WarmedH t.vm → Qc args s (.returned (some (.int r))) t) {k9 : Nat → Int32 → Int32 → Int32 → Option Int32} (hk9 : cf_comers_P9 p l e R s m args below meth c Z Y H cells slots Qc free r k9) {k20 : Nat → Int32 → Int32 → Int32 → Int32 → Int32 → Option Int32} (hk20 : cf_comers_P20 p l e R s m args below meth c Z Y H cells slots Qc free r k20) : cf_comers_P20 p l e R s m args below meth c Z Y H cells slots Qc free r (cf_comers_b20 C k9 k20) := by
  intro x1 x2 x3 x4 x5 x6 locs ls hL hl h
  obtain ⟨⟨hx, hb, hr, hlocks, hml, hown, hts⟩, hK⟩ := id X
  unfold cf_comers_b20 at h
  refine lv_iload hx hb dX0_comers_20 (lv_at hl 6 rfl) ?_
  refine lv_bipush (v := 8) hx hb dX0_comers_22 (by decide) ?_
  refine lv_icmp_ge (tgt := 117) hx hb dX0_comers_24 (by decide) (fun c1 => ?_) (fun c1 => ?_)
  · have h := ip_ c1 h
    refine lv_iload_n hx hb dX0_comers_117 rfl (lv_at hl 3 rfl) ?_
    refine lv_iload hx hb dX0_comers_118 (lv_at hl 5 rfl) ?_
    refine lv_iconst (v := -1) hx hb dX0_comers_120 (by decide) ?_
    refine lv_icmp_ne (tgt := 128) hx hb dX0_comers_121 (by decide) (fun c2 => ?_) (fun c2 => ?_)
    · have h := in_ c2 h
      refine lv_iconst (v := 1) hx hb dX0_comers_128 (by decide) ?_
      refine lv_iload hx hb dX0_comers_129 (lv_at hl 5 rfl) ?_
      refine lv_ishl hx hb dX0_comers_131 ?_
      exact cf_comers_w132 X hM hR hF hQ hk9 x1 x2 x4 ((1 : Int32) <<< (x5 &&& 31)) x3 _ ls hL (lv_sub hl [0, 1, 2, 4] rfl) h
    · have h := ip_ c2 h
      refine lv_iconst (v := 0) hx hb dX0_comers_124 (by decide) ?_
      refine lv_goto (tgt := 132) hx hb dX0_comers_125 (by decide) ?_
      exact cf_comers_w132 X hM hR hF hQ hk9 x1 x2 x4 (0 : Int32) x3 _ ls hL (lv_sub hl [0, 1, 2, 4] rfl) h
  · have h := in_ c1 h
    refine lv_aload_n hx hb dX0_comers_27 rfl (lv_at hl 1 rfl) ?_
    obtain ⟨b_v3, h⟩ := fx_e h
    refine gq4 X hM b_v3 dX0_comers_28 ?_
    refine lv_topi (fun v3 e_v3 => ?_)
    have h := h v3 e_v3
    refine lv_iload hx hb dX0_comers_31 (lv_at hl 6 rfl) ?_
    obtain ⟨v4, q_v4, h⟩ := bd_e h
    refine s_roI (As := [.int v3, .int x6]) (rest := []) X.1 (cf_isIn_met _ v3 x6 v4 q_v4) (lw_S q698 q550 q79 q551) cf_isIn_hd ⟨rfl, rfl⟩ ⟨Nat.le_trans (m := cf_comers_rm.frames) (Nat.le_of_ble_eq_true rfl) hR.1, Nat.le_trans (m := cf_comers_rm.locals) (Nat.le_of_ble_eq_true rfl) hR.2.1⟩ ⟨hR.2.2.1, hR.2.2.2⟩ rfl hl.1 rfl (Nat.le_of_ble_eq_true rfl) dX0_comers_33 ?_
    refine lv_if_eq (tgt := 66) hx hb dX0_comers_36 (by decide) (fun c5 => ?_) (fun c5 => ?_)
    · have h := ip_ c5 h
      refine lv_iconst (v := 0) hx hb dX0_comers_66 (by decide) ?_
      exact cf_comers_w67 X hM hR hF hQ hk9 hk20 x1 x2 x3 x4 x5 x6 (0 : Int32) _ ls hL (lv_sub hl [0, 1, 2, 3, 4, 5, 6] rfl) h
    · have h := in_ c5 h
      refine lv_iload_n hx hb dX0_comers_39 rfl (lv_at hl 3 rfl) ?_
      refine lv_iload hx hb dX0_comers_40 (lv_at hl 6 rfl) ?_
      obtain ⟨v6, q_v6, h⟩ := bd_e h
      refine s_roI (As := [.int x3, .int x6]) (rest := []) X.1 (cf_isIn_met _ x3 x6 v6 q_v6) (lw_S q698 q550 q79 q551) cf_isIn_hd ⟨rfl, rfl⟩ ⟨Nat.le_trans (m := cf_comers_rm.frames) (Nat.le_of_ble_eq_true rfl) hR.1, Nat.le_trans (m := cf_comers_rm.locals) (Nat.le_of_ble_eq_true rfl) hR.2.1⟩ ⟨hR.2.2.1, hR.2.2.2⟩ rfl hl.1 rfl (Nat.le_of_ble_eq_true rfl) dX0_comers_42 ?_
      refine lv_if_ne (tgt := 66) hx hb dX0_comers_45 (by decide) (fun c7 => ?_) (fun c7 => ?_)
      · have h := in_ c7 h
        refine lv_iconst (v := 0) hx hb dX0_comers_66 (by decide) ?_
        exact cf_comers_w67 X hM hR hF hQ hk9 hk20 x1 x2 x3 x4 x5 x6 (0 : Int32) _ ls hL (lv_sub hl [0, 1, 2, 3, 4, 5, 6] rfl) h
      · have h := ip_ c7 h
        refine lv_aload_n hx hb dX0_comers_48 rfl (lv_at hl 0 rfl) ?_
        refine gc1 X hM dX0_comers_49 ?_
        refine lv_iload hx hb dX0_comers_52 (lv_at hl 6 rfl) ?_
        obtain ⟨i_q8, b_q8, h⟩ := ix_e h
        refine c_aldP X hM i_q8 dX0_comers_54 (fun q8 e_q8 => ?_)
        have h := h q8 e_q8
        rw [← e_q8] at b_q8
        refine lv_iload_n hx hb dX0_comers_55 rfl (lv_at hl 2 rfl) ?_
        obtain ⟨v9, q_v9, h⟩ := bd_e h
        refine f_roI (As := [.int x2]) (rest := []) X hM (c_recvP X hM b_q8) hL hF (cfP_comes_met _ Z Y A C q8 x2 v9 q_v9) (lw_V q699 q700 q701 q80 q702) cfP_comes_hd ⟨rfl, rfl⟩ ⟨Nat.le_trans (m := cf_comers_rm.frames) (Nat.le_of_ble_eq_true rfl) hR.1, Nat.le_trans (m := cf_comers_rm.locals) (Nat.le_of_ble_eq_true rfl) hR.2.1⟩ ⟨hR.2.2.1, hR.2.2.2⟩ rfl hl.1 rfl (Nat.le_of_ble_eq_true rfl) dX0_comers_56 (fun locs hL => ?_)
        refine lv_if_eq (tgt := 66) hx hb dX0_comers_59 (by decide) (fun c10 => ?_) (fun c10 => ?_)
        · have h := ip_ c10 h
          refine lv_iconst (v := 0) hx hb dX0_comers_66 (by decide) ?_
          exact cf_comers_w67 X hM hR hF hQ hk9 hk20 x1 x2 x3 x4 x5 x6 (0 : Int32) _ ls hL (lv_sub hl [0, 1, 2, 3, 4, 5, 6] rfl) h
        · have h := in_ c10 h
          refine lv_iconst (v := 1) hx hb dX0_comers_62 (by decide) ?_
          refine lv_goto (tgt := 67) hx hb dX0_comers_63 (by decide) ?_
          exact cf_comers_w67 X hM hR hF hQ hk9 hk20 x1 x2 x3 x4 x5 x6 (1 : Int32) _ ls hL (lv_sub hl [0, 1, 2, 3, 4, 5, 6] rfl) h
def cf_comers_l20 (C : St) (k9 : Nat → Int32 → Int32 → Int32 → Option Int32) (n : Nat) : Nat → Int32 → Int32 → Int32 → Int32 → Int32 → Option Int32 := lp (fun _ _ _ _ _ _ => none) (cf_comers_b20 C k9) n
theorem cf_comers_lw20 {p : Program} {l : Launch} {e : Env} {R : Room} {s : State} {m : MethodId} {args : Array Value} {below : List Frame} {meth : Method} {c : Code} {Z : CZ} {Y : CY} {A : Nat → Prop} {C : St} {H : Heap} {cells slots : Nat} {Qc : Array Value → State → Outcome → State → Prop} {free : Addr → Prop} (X : CCx p s m args meth c cX0_comers 8 (some .int) RX0 Z) (hM : cPD Z Y A C H) (hR : cf_comers_rm.frames ≤ R.frames ∧ cf_comers_rm.locals ≤ R.locals ∧ cells ≤ R.cells ∧ slots ≤ R.slots) (hF : ∀ q, cFr Z q → free q) {r : Int32} (hQ : ∀ t : State, t.heap = H → s.WarmedH t.vm → Qc args s (.returned (some (.int r))) t) {k9 : Nat → Int32 → Int32 → Int32 → Option Int32} (hk9 : cf_comers_P9 p l e R s m args below meth c Z Y H cells slots Qc free r k9) : ∀ n : Nat, cf_comers_P20 p l e R s m args below meth c Z Y H cells slots Qc free r (cf_comers_l20 C k9 n) := by
  intro n
  induction n with
  | zero => intro x1 x2 x3 x4 x5 x6 locs ls hL hl h; exact no_ h
  | succ n ih => exact cf_comers_w20 X hM hR hF hQ hk9 ih
def cf_comers_b9 (C : St) (k9 : Nat → Int32 → Int32 → Int32 → Option Int32) (x1 : Nat) (x2 : Int32) (x3 : Int32) (x4 : Int32) : Option Int32 :=
  if x4 ≤ 0 then (some x3)
  else (cf_comers_l20 C k9 FU x1 x2 x3 x4 (-1 : Int32) (0 : Int32))
theorem cf_comers_w9 {p : Program} {l : Launch} {e : Env} {R : Room} {s : State} {m : MethodId} {args : Array Value} {below : List Frame} {meth : Method} {c : Code} {Z : CZ} {Y : CY} {A : Nat → Prop} {C : St} {H : Heap} {cells slots : Nat} {Qc : Array Value → State → Outcome → State → Prop} {free : Addr → Prop} (X : CCx p s m args meth c cX0_comers 8 (some .int) RX0 Z) (hM : cPD Z Y A C H) (hR : cf_comers_rm.frames ≤ R.frames ∧ cf_comers_rm.locals ≤ R.locals ∧ cells ≤ R.cells ∧ slots ≤ R.slots) (hF : ∀ q, cFr Z q → free q) {r : Int32} (hQ : ∀ t : State, t.heap = H → s.WarmedH t.vm → Qc args s (.returned (some (.int r))) t) {k9 : Nat → Int32 → Int32 → Int32 → Option Int32} (hk9 : cf_comers_P9 p l e R s m args below meth c Z Y H cells slots Qc free r k9) : cf_comers_P9 p l e R s m args below meth c Z Y H cells slots Qc free r (cf_comers_b9 C k9) := by
  intro x1 x2 x3 x4 locs ls hL hl h
  obtain ⟨⟨hx, hb, hr, hlocks, hml, hown, hts⟩, hK⟩ := id X
  unfold cf_comers_b9 at h
  refine lv_iload hx hb dX0_comers_9 (lv_at hl 4 rfl) ?_
  refine lv_if_le (tgt := 140) hx hb dX0_comers_11 (by decide) (fun c1 => ?_) (fun c1 => ?_)
  · have h := ip_ c1 h
    refine lv_iload_n hx hb dX0_comers_140 rfl (lv_at hl 3 rfl) ?_
    have h := so_ h
    subst h
    exact W.iret hx hb hr (fun t ht hW => hQ t ht hW) hL dX0_comers_141
  · have h := in_ c1 h
    refine lv_iconst (v := -1) hx hb dX0_comers_14 (by decide) ?_
    refine lv_istore (lv' := [(5, .int (-1 : Int32)), (0, .ref (cSa Z 0)), (1, .ref (cDa Y (100 + x1))), (2, .int x2), (3, .int x3), (4, .int x4)]) hx hb dX0_comers_15 hl (by decide) rfl (fun ls hl => ?_)
    refine lv_iconst (v := 0) hx hb dX0_comers_17 (by decide) ?_
    refine lv_istore (lv' := [(6, .int (0 : Int32)), (5, .int (-1 : Int32)), (0, .ref (cSa Z 0)), (1, .ref (cDa Y (100 + x1))), (2, .int x2), (3, .int x3), (4, .int x4)]) hx hb dX0_comers_18 hl (by decide) rfl (fun ls hl => ?_)
    exact cf_comers_lw20 X hM hR hF hQ hk9 FU x1 x2 x3 x4 (-1 : Int32) (0 : Int32) _ ls hL (lv_sub hl [2, 3, 4, 5, 6, 1, 0] rfl) h
def cf_comers_l9 (C : St) (n : Nat) : Nat → Int32 → Int32 → Int32 → Option Int32 := lp (fun _ _ _ _ => none) (cf_comers_b9 C) n
theorem cf_comers_lw9 {p : Program} {l : Launch} {e : Env} {R : Room} {s : State} {m : MethodId} {args : Array Value} {below : List Frame} {meth : Method} {c : Code} {Z : CZ} {Y : CY} {A : Nat → Prop} {C : St} {H : Heap} {cells slots : Nat} {Qc : Array Value → State → Outcome → State → Prop} {free : Addr → Prop} (X : CCx p s m args meth c cX0_comers 8 (some .int) RX0 Z) (hM : cPD Z Y A C H) (hR : cf_comers_rm.frames ≤ R.frames ∧ cf_comers_rm.locals ≤ R.locals ∧ cells ≤ R.cells ∧ slots ≤ R.slots) (hF : ∀ q, cFr Z q → free q) {r : Int32} (hQ : ∀ t : State, t.heap = H → s.WarmedH t.vm → Qc args s (.returned (some (.int r))) t) : ∀ n : Nat, cf_comers_P9 p l e R s m args below meth c Z Y H cells slots Qc free r (cf_comers_l9 C n) := by
  intro n
  induction n with
  | zero => intro x1 x2 x3 x4 locs ls hL hl h; exact no_ h
  | succ n ih => exact cf_comers_w9 X hM hR hF hQ ih
def cf_comers (C : St) (x1 : Nat) (x2 : Int32) : Option Int32 :=
  bd_ (cf_needed C x1) fun v1 =>
  cf_comers_l9 C FU x1 x2 (0 : Int32) v1
theorem cf_comers_w0 {p : Program} {l : Launch} {e : Env} {R : Room} {s : State} {m : MethodId} {args : Array Value} {below : List Frame} {meth : Method} {c : Code} {Z : CZ} {Y : CY} {A : Nat → Prop} {C : St} {H : Heap} {cells slots : Nat} {Qc : Array Value → State → Outcome → State → Prop} {free : Addr → Prop} (X : CCx p s m args meth c cX0_comers 8 (some .int) RX0 Z) (hM : cPD Z Y A C H) (hR : cf_comers_rm.frames ≤ R.frames ∧ cf_comers_rm.locals ≤ R.locals ∧ cells ≤ R.cells ∧ slots ≤ R.slots) (hF : ∀ q, cFr Z q → free q) {r : Int32} (hQ : ∀ t : State, t.heap = H → s.WarmedH t.vm → Qc args s (.returned (some (.int r))) t) : cf_comers_P0 p l e R s m args below meth c Z Y H cells slots Qc free r (cf_comers C) := by
  intro x1 x2 locs ls hL hl h
  obtain ⟨⟨hx, hb, hr, hlocks, hml, hown, hts⟩, hK⟩ := id X
  unfold cf_comers at h
  refine lv_iconst (v := 0) hx hb dX0_comers_0 (by decide) ?_
  refine lv_istore_n (lv' := [(3, .int (0 : Int32)), (0, .ref (cSa Z 0)), (1, .ref (cDa Y (100 + x1))), (2, .int x2)]) hx hb dX0_comers_1 rfl hl (by decide) rfl (fun ls hl => ?_)
  refine lv_aload_n hx hb dX0_comers_2 rfl (lv_at hl 1 rfl) ?_
  refine lv_aload_n hx hb dX0_comers_3 rfl (lv_at hl 2 rfl) ?_
  obtain ⟨v1, q_v1, h⟩ := bd_e h
  refine f_roI (As := [.ref (cDa Y (100 + x1))]) (rest := []) X hM (c_recv0 X hM) hL hF (cf_needed_met _ Z Y A C x1 v1 q_v1) (lw_V q687 q689 qs13 q79 q690) cf_needed_hd ⟨rfl, rfl⟩ ⟨Nat.le_trans (m := cf_comers_rm.frames) (Nat.le_of_ble_eq_true rfl) hR.1, Nat.le_trans (m := cf_comers_rm.locals) (Nat.le_of_ble_eq_true rfl) hR.2.1⟩ ⟨hR.2.2.1, hR.2.2.2⟩ rfl hl.1 rfl (Nat.le_of_ble_eq_true rfl) dX0_comers_4 (fun locs hL => ?_)
  refine lv_istore (lv' := [(4, .int v1), (3, .int (0 : Int32)), (0, .ref (cSa Z 0)), (1, .ref (cDa Y (100 + x1))), (2, .int x2)]) hx hb dX0_comers_7 hl (by decide) rfl (fun ls hl => ?_)
  exact cf_comers_lw9 X hM hR hF hQ FU x1 x2 (0 : Int32) v1 _ ls hL (lv_sub hl [2, 3, 4, 1, 0] rfl) h
theorem cf_comers_hd : yX0_comers.cls = RX0 ∧ yX0_comers.cls ≠ "java/lang/invoke/MethodHandle" ∧ yX0_comers.cls ≠ "java/lang/invoke/VarHandle" ∧ (parseMethodDescriptor yX0_comers.desc).map (fun d => d.parameters.length) = some 2 := by decide +kernel
theorem cf_comers_met (l : Launch) (Z : CZ) (Y : CY) (A : Nat → Prop) (C : St) (x1 : Nat) (x2 : Int32) (r : Int32) (h : cf_comers C x1 x2 = some r) : Met l yX0_comers (ws_ yX0_comers cX0_comers 8 (some .int)) cf_comers_rm (va_Pc [.ref (cSa Z 0), .ref (cDa Y (100 + x1)), .int x2] (cS Z Y A C)) (Qro (some (.int r))) 0 0 (cFr Z) := by
  refine Met.ofW (cc := cX0_comers) (maxL := 8) (ret := some .int) (by decide) rfl ?_
  intro p e s m args below meth c s₁ B hml hv
  obtain ⟨rfl, hv⟩ := hv
  have hts := atoms_spec (ws := ws_ yX0_comers cX0_comers 8 (some .int)) B.pre
  have hts : ∀ w ∈ lw_all, w.before _ s = true := fun w h => hts w (List.mem_cons_of_mem _ h)
  have X : CCx p s m _ meth c cX0_comers 8 (some .int) RX0 Z := ⟨⟨B.exec, B.bytes, B.returns, B.notSynchronized, hml, findClass_of_methodNamed B.named, hts⟩, hv.2⟩
  have hl := lv_entry [.ref (cSa Z 0), .ref (cDa Y (100 + x1)), .int x2] (n := 8) (Nat.le_of_ble_eq_true rfl)
  rw [lg_entry_eq]
  generalize (lg_sl [.ref (cSa Z 0), .ref (cDa Y (100 + x1)), .int x2] ++ List.replicate (8 - (lg_sl [.ref (cSa Z 0), .ref (cDa Y (100 + x1)), .int x2]).length) Slot.unset).toArray = ls at hl ⊢
  exact cf_comers_w0 X hv.1 ⟨Nat.le_refl _, Nat.le_refl _, Nat.le_refl _, Nat.le_refl _⟩ (fun _ h => h) (fun t ht _ => ⟨rfl, ht⟩) x1 x2 [] ls (fun q hq => by cases hq) hl h

/-! SecondChances.canBe(LSecondChances$Deed;I)Z -/
def cf_canBe_rm : Room := { frames := 3, cells := 0, slots := 0, locals := 69 }
def cf_canBe_P0 (p : Program) (l : Launch) (e : Env) (R : Room) (s : State) (m : MethodId) (args : Array Value) (below : List Frame) (meth : Method) (c : Code) (Z : CZ) (Y : CY) (H : Heap) (cells slots : Nat) (Qc : Array Value → State → Outcome → State → Prop) (free : Addr → Prop) (r : Int32) (f : Nat → Int32 → Option Int32) : Prop := ∀ (x1 : Nat) (x2 : Int32) (locs : List Loc) (ls : Array Slot), (∀ q ∈ locs, free q.base) → lv_has ls 3 [(0, .ref (cSa Z 0)), (1, .ref (cDa Y (100 + x1))), (2, .int x2)] → f x1 x2 = some r → W p l e R s m args below meth c H locs cells slots (MQ below Qc args s cells slots free) (F0 m 0 ls [])
def cf_canBe (C : St) (x1 : Nat) (x2 : Int32) : Option Int32 :=
  bd_ (cf_comers C x1 x2) fun v1 =>
  bd_ (cj_bitCount v1) fun v2 =>
  bd_ (cf_needed C x1) fun v3 =>
  if v2 = v3 then (bd_ (cf_isTurned C x1 x2) fun v5 =>
    if v5 = 0 then (some (1 : Int32))
    else (al_ 4 (C 3) (1 : Int32) fun v7 =>
      if v7 = (1 : Int32) then (some (1 : Int32))
      else (some (0 : Int32))))
  else (some (0 : Int32))
theorem cf_canBe_w0 {p : Program} {l : Launch} {e : Env} {R : Room} {s : State} {m : MethodId} {args : Array Value} {below : List Frame} {meth : Method} {c : Code} {Z : CZ} {Y : CY} {A : Nat → Prop} {C : St} {H : Heap} {cells slots : Nat} {Qc : Array Value → State → Outcome → State → Prop} {free : Addr → Prop} (X : CCx p s m args meth c cX0_canBe 3 (some .boolean) RX0 Z) (hM : cPD Z Y A C H) (hR : cf_canBe_rm.frames ≤ R.frames ∧ cf_canBe_rm.locals ≤ R.locals ∧ cells ≤ R.cells ∧ slots ≤ R.slots) (hF : ∀ q, cFr Z q → free q) {r : Int32} (hQ : ∀ t : State, t.heap = H → s.WarmedH t.vm → Qc args s (.returned (some (.int r))) t) : cf_canBe_P0 p l e R s m args below meth c Z Y H cells slots Qc free r (cf_canBe C) := by
  intro x1 x2 locs ls hL hl h
  obtain ⟨⟨hx, hb, hr, hlocks, hml, hown, hts⟩, hK⟩ := id X
  unfold cf_canBe at h
  refine lv_aload_n hx hb dX0_canBe_0 rfl (lv_at hl 0 rfl) ?_
  refine lv_aload_n hx hb dX0_canBe_1 rfl (lv_at hl 1 rfl) ?_
  refine lv_iload_n hx hb dX0_canBe_2 rfl (lv_at hl 2 rfl) ?_
  obtain ⟨v1, q_v1, h⟩ := bd_e h
  refine f_roI (As := [.ref (cDa Y (100 + x1)), .int x2]) (rest := []) X hM (c_recv0 X hM) hL hF (cf_comers_met _ Z Y A C x1 x2 v1 q_v1) (lw_V q683 q685 qs12 q79 q686) cf_comers_hd ⟨rfl, rfl⟩ ⟨Nat.le_trans (m := cf_canBe_rm.frames) (Nat.le_of_ble_eq_true rfl) hR.1, Nat.le_trans (m := cf_canBe_rm.locals) (Nat.le_of_ble_eq_true rfl) hR.2.1⟩ ⟨hR.2.2.1, hR.2.2.2⟩ rfl hl.1 rfl (Nat.le_of_ble_eq_true rfl) dX0_canBe_3 (fun locs hL => ?_)
  obtain ⟨v2, q_v2, h⟩ := bd_e h
  refine s_roI (As := [.int v1]) (rest := []) X.1 (cj_bitCount_met _ v1 v2 q_v2) (lw_S q691 q692 q99 q693) cj_bitCount_hd ⟨rfl, rfl⟩ ⟨Nat.le_trans (m := cf_canBe_rm.frames) (Nat.le_of_ble_eq_true rfl) hR.1, Nat.le_trans (m := cf_canBe_rm.locals) (Nat.le_of_ble_eq_true rfl) hR.2.1⟩ ⟨hR.2.2.1, hR.2.2.2⟩ rfl hl.1 rfl (Nat.le_of_ble_eq_true rfl) dX0_canBe_6 ?_
  refine lv_aload_n hx hb dX0_canBe_9 rfl (lv_at hl 0 rfl) ?_
  refine lv_aload_n hx hb dX0_canBe_10 rfl (lv_at hl 1 rfl) ?_
  obtain ⟨v3, q_v3, h⟩ := bd_e h
  refine f_roI (As := [.ref (cDa Y (100 + x1))]) (rest := [.int v2]) X hM (c_recv0 X hM) hL hF (cf_needed_met _ Z Y A C x1 v3 q_v3) (lw_V q687 q689 qs13 q79 q690) cf_needed_hd ⟨rfl, rfl⟩ ⟨Nat.le_trans (m := cf_canBe_rm.frames) (Nat.le_of_ble_eq_true rfl) hR.1, Nat.le_trans (m := cf_canBe_rm.locals) (Nat.le_of_ble_eq_true rfl) hR.2.1⟩ ⟨hR.2.2.1, hR.2.2.2⟩ rfl hl.1 rfl (Nat.le_of_ble_eq_true rfl) dX0_canBe_11 (fun locs hL => ?_)
  refine lv_icmp_ne (tgt := 40) hx hb dX0_canBe_14 (by decide) (fun c4 => ?_) (fun c4 => ?_)
  · have h := in_ c4 h
    refine lv_iconst (v := 0) hx hb dX0_canBe_40 (by decide) ?_
    have h := so_ h
    subst h
    exact W.zret hx hb hr rfl (fun t ht hW => hQ t ht hW) hL dX0_canBe_41
  · have h := ip_ c4 h
    refine lv_aload_n hx hb dX0_canBe_17 rfl (lv_at hl 0 rfl) ?_
    refine lv_aload_n hx hb dX0_canBe_18 rfl (lv_at hl 1 rfl) ?_
    refine lv_iload_n hx hb dX0_canBe_19 rfl (lv_at hl 2 rfl) ?_
    obtain ⟨v5, q_v5, h⟩ := bd_e h
    refine f_roI (As := [.ref (cDa Y (100 + x1)), .int x2]) (rest := []) X hM (c_recv0 X hM) hL hF (cf_isTurned_met _ Z Y A C x1 x2 v5 q_v5) (lw_V q703 q705 qs14 q79 q706) cf_isTurned_hd ⟨rfl, rfl⟩ ⟨Nat.le_trans (m := cf_canBe_rm.frames) (Nat.le_of_ble_eq_true rfl) hR.1, Nat.le_trans (m := cf_canBe_rm.locals) (Nat.le_of_ble_eq_true rfl) hR.2.1⟩ ⟨hR.2.2.1, hR.2.2.2⟩ rfl hl.1 rfl (Nat.le_of_ble_eq_true rfl) dX0_canBe_20 (fun locs hL => ?_)
    refine lv_if_eq (tgt := 36) hx hb dX0_canBe_23 (by decide) (fun c6 => ?_) (fun c6 => ?_)
    · have h := ip_ c6 h
      refine lv_iconst (v := 1) hx hb dX0_canBe_36 (by decide) ?_
      refine lv_goto (tgt := 41) hx hb dX0_canBe_37 (by decide) ?_
      have h := so_ h
      subst h
      exact W.zret hx hb hr rfl (fun t ht hW => hQ t ht hW) hL dX0_canBe_41
    · have h := in_ c6 h
      refine lv_aload_n hx hb dX0_canBe_26 rfl (lv_at hl 0 rfl) ?_
      refine gc3 X hM dX0_canBe_27 ?_
      refine lv_iconst (v := 1) hx hb dX0_canBe_30 (by decide) ?_
      obtain ⟨i_v7, h⟩ := al_e h
      refine c_ald X hM (k := 3) (cHs_S (by decide)) (fun _ _ _ => rfl) (cAr_s (by decide)) i_v7 dX0_canBe_31 (fun v7 e_v7 => ?_)
      have h := h v7 e_v7
      refine lv_iconst (v := 1) hx hb dX0_canBe_32 (by decide) ?_
      refine lv_icmp_ne (tgt := 40) hx hb dX0_canBe_33 (by decide) (fun c8 => ?_) (fun c8 => ?_)
      · have h := in_ c8 h
        refine lv_iconst (v := 0) hx hb dX0_canBe_40 (by decide) ?_
        have h := so_ h
        subst h
        exact W.zret hx hb hr rfl (fun t ht hW => hQ t ht hW) hL dX0_canBe_41
      · have h := ip_ c8 h
        refine lv_iconst (v := 1) hx hb dX0_canBe_36 (by decide) ?_
        refine lv_goto (tgt := 41) hx hb dX0_canBe_37 (by decide) ?_
        have h := so_ h
        subst h
        exact W.zret hx hb hr rfl (fun t ht hW => hQ t ht hW) hL dX0_canBe_41
theorem cf_canBe_hd : yX0_canBe.cls = RX0 ∧ yX0_canBe.cls ≠ "java/lang/invoke/MethodHandle" ∧ yX0_canBe.cls ≠ "java/lang/invoke/VarHandle" ∧ (parseMethodDescriptor yX0_canBe.desc).map (fun d => d.parameters.length) = some 2 := by decide +kernel
theorem cf_canBe_met (l : Launch) (Z : CZ) (Y : CY) (A : Nat → Prop) (C : St) (x1 : Nat) (x2 : Int32) (r : Int32) (h : cf_canBe C x1 x2 = some r) : Met l yX0_canBe (ws_ yX0_canBe cX0_canBe 3 (some .boolean)) cf_canBe_rm (va_Pc [.ref (cSa Z 0), .ref (cDa Y (100 + x1)), .int x2] (cS Z Y A C)) (Qro (some (.int r))) 0 0 (cFr Z) := by
  refine Met.ofW (cc := cX0_canBe) (maxL := 3) (ret := some .boolean) (by decide) rfl ?_
  intro p e s m args below meth c s₁ B hml hv
  obtain ⟨rfl, hv⟩ := hv
  have hts := atoms_spec (ws := ws_ yX0_canBe cX0_canBe 3 (some .boolean)) B.pre
  have hts : ∀ w ∈ lw_all, w.before _ s = true := fun w h => hts w (List.mem_cons_of_mem _ h)
  have X : CCx p s m _ meth c cX0_canBe 3 (some .boolean) RX0 Z := ⟨⟨B.exec, B.bytes, B.returns, B.notSynchronized, hml, findClass_of_methodNamed B.named, hts⟩, hv.2⟩
  have hl := lv_entry [.ref (cSa Z 0), .ref (cDa Y (100 + x1)), .int x2] (n := 3) (Nat.le_of_ble_eq_true rfl)
  rw [lg_entry_eq]
  generalize (lg_sl [.ref (cSa Z 0), .ref (cDa Y (100 + x1)), .int x2] ++ List.replicate (3 - (lg_sl [.ref (cSa Z 0), .ref (cDa Y (100 + x1)), .int x2]).length) Slot.unset).toArray = ls at hl ⊢
  exact cf_canBe_w0 X hv.1 ⟨Nat.le_refl _, Nat.le_refl _, Nat.le_refl _, Nat.le_refl _⟩ (fun _ h => h) (fun t ht _ => ⟨rfl, ht⟩) x1 x2 [] ls (fun q hq => by cases hq) hl h

/-! SecondChances.prices(I)I -/
def cf_prices_rm : Room := { frames := 1, cells := 0, slots := 0, locals := 21 }
def cf_prices_P34 (p : Program) (l : Launch) (e : Env) (R : Room) (s : State) (m : MethodId) (args : Array Value) (below : List Frame) (meth : Method) (c : Code) (Z : CZ) (Y : CY) (H : Heap) (cells slots : Nat) (Qc : Array Value → State → Outcome → State → Prop) (free : Addr → Prop) (r : Int32) (f : Int32 → Int32 → Int32 → Int32 → Option Int32) : Prop := ∀ (x1 : Int32) (x3 : Int32) (t0 : Int32) (t1 : Int32) (locs : List Loc) (ls : Array Slot), (∀ q ∈ locs, free q.base) → lv_has ls 4 [(0, .ref (cSa Z 0)), (1, .int x1), (3, .int x3)] → f x1 x3 t0 t1 = some r → W p l e R s m args below meth c H locs cells slots (MQ below Qc args s cells slots free) (F0 m 34 ls [.int t0, .int t1])
def cf_prices_P4 (p : Program) (l : Launch) (e : Env) (R : Room) (s : State) (m : MethodId) (args : Array Value) (below : List Frame) (meth : Method) (c : Code) (Z : CZ) (Y : CY) (H : Heap) (cells slots : Nat) (Qc : Array Value → State → Outcome → State → Prop) (free : Addr → Prop) (r : Int32) (f : Int32 → Int32 → Int32 → Option Int32) : Prop := ∀ (x1 : Int32) (x2 : Int32) (x3 : Int32) (locs : List Loc) (ls : Array Slot), (∀ q ∈ locs, free q.base) → lv_has ls 4 [(0, .ref (cSa Z 0)), (1, .int x1), (2, .int x2), (3, .int x3)] → f x1 x2 x3 = some r → W p l e R s m args below meth c H locs cells slots (MQ below Qc args s cells slots free) (F0 m 4 ls [])
def cf_prices_P0 (p : Program) (l : Launch) (e : Env) (R : Room) (s : State) (m : MethodId) (args : Array Value) (below : List Frame) (meth : Method) (c : Code) (Z : CZ) (Y : CY) (H : Heap) (cells slots : Nat) (Qc : Array Value → State → Outcome → State → Prop) (free : Addr → Prop) (r : Int32) (f : Int32 → Option Int32) : Prop := ∀ (x1 : Int32) (locs : List Loc) (ls : Array Slot), (∀ q ∈ locs, free q.base) → lv_has ls 4 [(0, .ref (cSa Z 0)), (1, .int x1)] → f x1 = some r → W p l e R s m args below meth c H locs cells slots (MQ below Qc args s cells slots free) (F0 m 0 ls [])
def cf_prices_b34 (C : St) (k4 : Int32 → Int32 → Int32 → Option Int32) (x1 : Int32) (x3 : Int32) (t0 : Int32) (t1 : Int32) : Option Int32 :=
  lt_ (t1 + t0) fun v1 =>
  k4 x1 v1 (x3 + 1)
theorem cf_prices_w34 {p : Program} {l : Launch} {e : Env} {R : Room} {s : State} {m : MethodId} {args : Array Value} {below : List Frame} {meth : Method} {c : Code} {Z : CZ} {Y : CY} {A : Nat → Prop} {C : St} {H : Heap} {cells slots : Nat} {Qc : Array Value → State → Outcome → State → Prop} {free : Addr → Prop} (X : CCx p s m args meth c cX0_prices 4 (some .int) RX0 Z) (hM : cPD Z Y A C H) (hR : cf_prices_rm.frames ≤ R.frames ∧ cf_prices_rm.locals ≤ R.locals ∧ cells ≤ R.cells ∧ slots ≤ R.slots) (hF : ∀ q, cFr Z q → free q) {r : Int32} (hQ : ∀ t : State, t.heap = H → s.WarmedH t.vm → Qc args s (.returned (some (.int r))) t) {k4 : Int32 → Int32 → Int32 → Option Int32} (hk4 : cf_prices_P4 p l e R s m args below meth c Z Y H cells slots Qc free r k4) : cf_prices_P34 p l e R s m args below meth c Z Y H cells slots Qc free r (cf_prices_b34 C k4) := by
  intro x1 x3 t0 t1 locs ls hL hl h
  obtain ⟨⟨hx, hb, hr, hlocks, hml, hown, hts⟩, hK⟩ := id X
  unfold cf_prices_b34 at h
  refine lv_iadd hx hb dX0_prices_34 ?_
  refine lv_topi (fun v1 e_v1 => ?_)
  have h := lt_i h e_v1
  refine lv_istore_n (lv' := [(2, .int v1), (0, .ref (cSa Z 0)), (1, .int x1), (3, .int x3)]) hx hb dX0_prices_35 rfl hl (by decide) rfl (fun ls hl => ?_)
  refine lv_iinc (v := (x3 + 1)) (lv' := [(3, .int (x3 + 1)), (2, .int v1), (0, .ref (cSa Z 0)), (1, .int x1)]) hx hb dX0_prices_36 hl (k := 3) rfl rfl (by decide) rfl (fun ls hl => ?_)
  refine lv_goto (tgt := 4) hx hb dX0_prices_39 (by decide) ?_
  exact hk4 x1 v1 (x3 + 1) _ ls hL (lv_sub hl [2, 3, 1, 0] rfl) h
def cf_prices_b4 (C : St) (k4 : Int32 → Int32 → Int32 → Option Int32) (x1 : Int32) (x2 : Int32) (x3 : Int32) : Option Int32 :=
  if (8 : Int32) ≤ x3 then (some x2)
  else (bd_ (cf_isIn x1 x3) fun v2 =>
    if v2 = 0 then (cf_prices_b34 C k4 x1 x3 (0 : Int32) x2)
    else (ix_ 8 x3 fun q4 =>
      al_ 4 (C (20 + q4)) (2 : Int32) fun v5 =>
      cf_prices_b34 C k4 x1 x3 v5 x2))
theorem cf_prices_w4 {p : Program} {l : Launch} {e : Env} {R : Room} {s : State} {m : MethodId} {args : Array Value} {below : List Frame} {meth : Method} {c : Code} {Z : CZ} {Y : CY} {A : Nat → Prop} {C : St} {H : Heap} {cells slots : Nat} {Qc : Array Value → State → Outcome → State → Prop} {free : Addr → Prop} (X : CCx p s m args meth c cX0_prices 4 (some .int) RX0 Z) (hM : cPD Z Y A C H) (hR : cf_prices_rm.frames ≤ R.frames ∧ cf_prices_rm.locals ≤ R.locals ∧ cells ≤ R.cells ∧ slots ≤ R.slots) (hF : ∀ q, cFr Z q → free q) {r : Int32} (hQ : ∀ t : State, t.heap = H → s.WarmedH t.vm → Qc args s (.returned (some (.int r))) t) {k4 : Int32 → Int32 → Int32 → Option Int32} (hk4 : cf_prices_P4 p l e R s m args below meth c Z Y H cells slots Qc free r k4) : cf_prices_P4 p l e R s m args below meth c Z Y H cells slots Qc free r (cf_prices_b4 C k4) := by
  intro x1 x2 x3 locs ls hL hl h
  obtain ⟨⟨hx, hb, hr, hlocks, hml, hown, hts⟩, hK⟩ := id X
  unfold cf_prices_b4 at h
  refine lv_iload_n hx hb dX0_prices_4 rfl (lv_at hl 3 rfl) ?_
  refine lv_bipush (v := 8) hx hb dX0_prices_5 (by decide) ?_
  refine lv_icmp_ge (tgt := 42) hx hb dX0_prices_7 (by decide) (fun c1 => ?_) (fun c1 => ?_)
  · have h := ip_ c1 h
    refine lv_iload_n hx hb dX0_prices_42 rfl (lv_at hl 2 rfl) ?_
    have h := so_ h
    subst h
    exact W.iret hx hb hr (fun t ht hW => hQ t ht hW) hL dX0_prices_43
  · have h := in_ c1 h
    refine lv_iload_n hx hb dX0_prices_10 rfl (lv_at hl 2 rfl) ?_
    refine lv_iload_n hx hb dX0_prices_11 rfl (lv_at hl 1 rfl) ?_
    refine lv_iload_n hx hb dX0_prices_12 rfl (lv_at hl 3 rfl) ?_
    obtain ⟨v2, q_v2, h⟩ := bd_e h
    refine s_roI (As := [.int x1, .int x3]) (rest := [.int x2]) X.1 (cf_isIn_met _ x1 x3 v2 q_v2) (lw_S q698 q550 q79 q551) cf_isIn_hd ⟨rfl, rfl⟩ ⟨Nat.le_trans (m := cf_prices_rm.frames) (Nat.le_of_ble_eq_true rfl) hR.1, Nat.le_trans (m := cf_prices_rm.locals) (Nat.le_of_ble_eq_true rfl) hR.2.1⟩ ⟨hR.2.2.1, hR.2.2.2⟩ rfl hl.1 rfl (Nat.le_of_ble_eq_true rfl) dX0_prices_13 ?_
    refine lv_if_eq (tgt := 33) hx hb dX0_prices_16 (by decide) (fun c3 => ?_) (fun c3 => ?_)
    · have h := ip_ c3 h
      refine lv_iconst (v := 0) hx hb dX0_prices_33 (by decide) ?_
      exact cf_prices_w34 X hM hR hF hQ hk4 x1 x3 (0 : Int32) x2 _ ls hL (lv_sub hl [0, 1, 3] rfl) h
    · have h := in_ c3 h
      refine lv_aload_n hx hb dX0_prices_19 rfl (lv_at hl 0 rfl) ?_
      refine gc1 X hM dX0_prices_20 ?_
      refine lv_iload_n hx hb dX0_prices_23 rfl (lv_at hl 3 rfl) ?_
      obtain ⟨i_q4, b_q4, h⟩ := ix_e h
      refine c_aldP X hM i_q4 dX0_prices_24 (fun q4 e_q4 => ?_)
      have h := h q4 e_q4
      rw [← e_q4] at b_q4
      refine gpf X hM b_q4 dX0_prices_25 ?_
      refine lv_iconst (v := 2) hx hb dX0_prices_28 (by decide) ?_
      obtain ⟨i_v5, h⟩ := al_e h
      refine c_ald X hM (k := (20 + q4)) (cHs_S (cS_f b_q4)) (cArr_f b_q4) (cAr_s (by omega)) i_v5 dX0_prices_29 (fun v5 e_v5 => ?_)
      have h := h v5 e_v5
      refine lv_goto (tgt := 34) hx hb dX0_prices_30 (by decide) ?_
      exact cf_prices_w34 X hM hR hF hQ hk4 x1 x3 v5 x2 _ ls hL (lv_sub hl [0, 1, 3] rfl) h
def cf_prices_l4 (C : St) (n : Nat) : Int32 → Int32 → Int32 → Option Int32 := lp (fun _ _ _ => none) (cf_prices_b4 C) n
theorem cf_prices_lw4 {p : Program} {l : Launch} {e : Env} {R : Room} {s : State} {m : MethodId} {args : Array Value} {below : List Frame} {meth : Method} {c : Code} {Z : CZ} {Y : CY} {A : Nat → Prop} {C : St} {H : Heap} {cells slots : Nat} {Qc : Array Value → State → Outcome → State → Prop} {free : Addr → Prop} (X : CCx p s m args meth c cX0_prices 4 (some .int) RX0 Z) (hM : cPD Z Y A C H) (hR : cf_prices_rm.frames ≤ R.frames ∧ cf_prices_rm.locals ≤ R.locals ∧ cells ≤ R.cells ∧ slots ≤ R.slots) (hF : ∀ q, cFr Z q → free q) {r : Int32} (hQ : ∀ t : State, t.heap = H → s.WarmedH t.vm → Qc args s (.returned (some (.int r))) t) : ∀ n : Nat, cf_prices_P4 p l e R s m args below meth c Z Y H cells slots Qc free r (cf_prices_l4 C n) := by
  intro n
  induction n with
  | zero => intro x1 x2 x3 locs ls hL hl h; exact no_ h
  | succ n ih => exact cf_prices_w4 X hM hR hF hQ ih
def cf_prices (C : St) (x1 : Int32) : Option Int32 :=
  cf_prices_l4 C FU x1 (0 : Int32) (0 : Int32)
theorem cf_prices_w0 {p : Program} {l : Launch} {e : Env} {R : Room} {s : State} {m : MethodId} {args : Array Value} {below : List Frame} {meth : Method} {c : Code} {Z : CZ} {Y : CY} {A : Nat → Prop} {C : St} {H : Heap} {cells slots : Nat} {Qc : Array Value → State → Outcome → State → Prop} {free : Addr → Prop} (X : CCx p s m args meth c cX0_prices 4 (some .int) RX0 Z) (hM : cPD Z Y A C H) (hR : cf_prices_rm.frames ≤ R.frames ∧ cf_prices_rm.locals ≤ R.locals ∧ cells ≤ R.cells ∧ slots ≤ R.slots) (hF : ∀ q, cFr Z q → free q) {r : Int32} (hQ : ∀ t : State, t.heap = H → s.WarmedH t.vm → Qc args s (.returned (some (.int r))) t) : cf_prices_P0 p l e R s m args below meth c Z Y H cells slots Qc free r (cf_prices C) := by
  intro x1 locs ls hL hl h
  obtain ⟨⟨hx, hb, hr, hlocks, hml, hown, hts⟩, hK⟩ := id X
  unfold cf_prices at h
  refine lv_iconst (v := 0) hx hb dX0_prices_0 (by decide) ?_
  refine lv_istore_n (lv' := [(2, .int (0 : Int32)), (0, .ref (cSa Z 0)), (1, .int x1)]) hx hb dX0_prices_1 rfl hl (by decide) rfl (fun ls hl => ?_)
  refine lv_iconst (v := 0) hx hb dX0_prices_2 (by decide) ?_
  refine lv_istore_n (lv' := [(3, .int (0 : Int32)), (2, .int (0 : Int32)), (0, .ref (cSa Z 0)), (1, .int x1)]) hx hb dX0_prices_3 rfl hl (by decide) rfl (fun ls hl => ?_)
  exact cf_prices_lw4 X hM hR hF hQ FU x1 (0 : Int32) (0 : Int32) _ ls hL (lv_sub hl [2, 3, 1, 0] rfl) h
theorem cf_prices_hd : yX0_prices.cls = RX0 ∧ yX0_prices.cls ≠ "java/lang/invoke/MethodHandle" ∧ yX0_prices.cls ≠ "java/lang/invoke/VarHandle" ∧ (parseMethodDescriptor yX0_prices.desc).map (fun d => d.parameters.length) = some 1 := by decide +kernel
theorem cf_prices_met (l : Launch) (Z : CZ) (Y : CY) (A : Nat → Prop) (C : St) (x1 : Int32) (r : Int32) (h : cf_prices C x1 = some r) : Met l yX0_prices (ws_ yX0_prices cX0_prices 4 (some .int)) cf_prices_rm (va_Pc [.ref (cSa Z 0), .int x1] (cS Z Y A C)) (Qro (some (.int r))) 0 0 (cFr Z) := by
  refine Met.ofW (cc := cX0_prices) (maxL := 4) (ret := some .int) (by decide) rfl ?_
  intro p e s m args below meth c s₁ B hml hv
  obtain ⟨rfl, hv⟩ := hv
  have hts := atoms_spec (ws := ws_ yX0_prices cX0_prices 4 (some .int)) B.pre
  have hts : ∀ w ∈ lw_all, w.before _ s = true := fun w h => hts w (List.mem_cons_of_mem _ h)
  have X : CCx p s m _ meth c cX0_prices 4 (some .int) RX0 Z := ⟨⟨B.exec, B.bytes, B.returns, B.notSynchronized, hml, findClass_of_methodNamed B.named, hts⟩, hv.2⟩
  have hl := lv_entry [.ref (cSa Z 0), .int x1] (n := 4) (Nat.le_of_ble_eq_true rfl)
  rw [lg_entry_eq]
  generalize (lg_sl [.ref (cSa Z 0), .int x1] ++ List.replicate (4 - (lg_sl [.ref (cSa Z 0), .int x1]).length) Slot.unset).toArray = ls at hl ⊢
  exact cf_prices_w0 X hv.1 ⟨Nat.le_refl _, Nat.le_refl _, Nat.le_refl _, Nat.le_refl _⟩ (fun _ h => h) (fun t ht _ => ⟨rfl, ht⟩) x1 [] ls (fun q hq => by cases hq) hl h

/-! SecondChances.hoursOf(I)I -/
def cf_hoursOf_rm : Room := { frames := 4, cells := 0, slots := 0, locals := 91 }
def cf_hoursOf_P31 (p : Program) (l : Launch) (e : Env) (R : Room) (s : State) (m : MethodId) (args : Array Value) (below : List Frame) (meth : Method) (c : Code) (Z : CZ) (Y : CY) (H : Heap) (cells slots : Nat) (Qc : Array Value → State → Outcome → State → Prop) (free : Addr → Prop) (r : Int32) (f : Int32 → Int32 → Int32 → Int32 → Option Int32) : Prop := ∀ (x1 : Int32) (x3 : Int32) (t0 : Int32) (t1 : Int32) (locs : List Loc) (ls : Array Slot), (∀ q ∈ locs, free q.base) → lv_has ls 4 [(0, .ref (cSa Z 0)), (1, .int x1), (3, .int x3)] → f x1 x3 t0 t1 = some r → W p l e R s m args below meth c H locs cells slots (MQ below Qc args s cells slots free) (F0 m 31 ls [.int t0, .int t1])
def cf_hoursOf_P4 (p : Program) (l : Launch) (e : Env) (R : Room) (s : State) (m : MethodId) (args : Array Value) (below : List Frame) (meth : Method) (c : Code) (Z : CZ) (Y : CY) (H : Heap) (cells slots : Nat) (Qc : Array Value → State → Outcome → State → Prop) (free : Addr → Prop) (r : Int32) (f : Int32 → Int32 → Int32 → Option Int32) : Prop := ∀ (x1 : Int32) (x2 : Int32) (x3 : Int32) (locs : List Loc) (ls : Array Slot), (∀ q ∈ locs, free q.base) → lv_has ls 4 [(0, .ref (cSa Z 0)), (1, .int x1), (2, .int x2), (3, .int x3)] → f x1 x2 x3 = some r → W p l e R s m args below meth c H locs cells slots (MQ below Qc args s cells slots free) (F0 m 4 ls [])
def cf_hoursOf_P0 (p : Program) (l : Launch) (e : Env) (R : Room) (s : State) (m : MethodId) (args : Array Value) (below : List Frame) (meth : Method) (c : Code) (Z : CZ) (Y : CY) (H : Heap) (cells slots : Nat) (Qc : Array Value → State → Outcome → State → Prop) (free : Addr → Prop) (r : Int32) (f : Int32 → Option Int32) : Prop := ∀ (x1 : Int32) (locs : List Loc) (ls : Array Slot), (∀ q ∈ locs, free q.base) → lv_has ls 4 [(0, .ref (cSa Z 0)), (1, .int x1)] → f x1 = some r → W p l e R s m args below meth c H locs cells slots (MQ below Qc args s cells slots free) (F0 m 0 ls [])
def cf_hoursOf_b31 (C : St) (k4 : Int32 → Int32 → Int32 → Option Int32) (x1 : Int32) (x3 : Int32) (t0 : Int32) (t1 : Int32) : Option Int32 :=
  lt_ (t1 ||| t0) fun v1 =>
  k4 x1 v1 (x3 + 1)
theorem cf_hoursOf_w31 {p : Program} {l : Launch} {e : Env} {R : Room} {s : State} {m : MethodId} {args : Array Value} {below : List Frame} {meth : Method} {c : Code} {Z : CZ} {Y : CY} {A : Nat → Prop} {C : St} {H : Heap} {cells slots : Nat} {Qc : Array Value → State → Outcome → State → Prop} {free : Addr → Prop} (X : CCx p s m args meth c cX0_hoursOf 4 (some .int) RX0 Z) (hM : cPD Z Y A C H) (hR : cf_hoursOf_rm.frames ≤ R.frames ∧ cf_hoursOf_rm.locals ≤ R.locals ∧ cells ≤ R.cells ∧ slots ≤ R.slots) (hF : ∀ q, cFr Z q → free q) {r : Int32} (hQ : ∀ t : State, t.heap = H → s.WarmedH t.vm → Qc args s (.returned (some (.int r))) t) {k4 : Int32 → Int32 → Int32 → Option Int32} (hk4 : cf_hoursOf_P4 p l e R s m args below meth c Z Y H cells slots Qc free r k4) : cf_hoursOf_P31 p l e R s m args below meth c Z Y H cells slots Qc free r (cf_hoursOf_b31 C k4) := by
  intro x1 x3 t0 t1 locs ls hL hl h
  obtain ⟨⟨hx, hb, hr, hlocks, hml, hown, hts⟩, hK⟩ := id X
  unfold cf_hoursOf_b31 at h
  refine lv_ior hx hb dX0_hoursOf_31 ?_
  refine lv_topi (fun v1 e_v1 => ?_)
  have h := lt_i h e_v1
  refine lv_istore_n (lv' := [(2, .int v1), (0, .ref (cSa Z 0)), (1, .int x1), (3, .int x3)]) hx hb dX0_hoursOf_32 rfl hl (by decide) rfl (fun ls hl => ?_)
  refine lv_iinc (v := (x3 + 1)) (lv' := [(3, .int (x3 + 1)), (2, .int v1), (0, .ref (cSa Z 0)), (1, .int x1)]) hx hb dX0_hoursOf_33 hl (k := 3) rfl rfl (by decide) rfl (fun ls hl => ?_)
  refine lv_goto (tgt := 4) hx hb dX0_hoursOf_36 (by decide) ?_
  exact hk4 x1 v1 (x3 + 1) _ ls hL (lv_sub hl [2, 3, 1, 0] rfl) h
def cf_hoursOf_b4 (C : St) (k4 : Int32 → Int32 → Int32 → Option Int32) (x1 : Int32) (x2 : Int32) (x3 : Int32) : Option Int32 :=
  if (8 : Int32) ≤ x3 then (some x2)
  else (bd_ (cf_deed_2 C x1) fun v2 =>
    bd_ (cf_canBe C v2 x3) fun v3 =>
    if v3 = 0 then (cf_hoursOf_b31 C k4 x1 x3 (0 : Int32) x2)
    else (cf_hoursOf_b31 C k4 x1 x3 ((1 : Int32) <<< (x3 &&& 31)) x2))
theorem cf_hoursOf_w4 {p : Program} {l : Launch} {e : Env} {R : Room} {s : State} {m : MethodId} {args : Array Value} {below : List Frame} {meth : Method} {c : Code} {Z : CZ} {Y : CY} {A : Nat → Prop} {C : St} {H : Heap} {cells slots : Nat} {Qc : Array Value → State → Outcome → State → Prop} {free : Addr → Prop} (X : CCx p s m args meth c cX0_hoursOf 4 (some .int) RX0 Z) (hM : cPD Z Y A C H) (hR : cf_hoursOf_rm.frames ≤ R.frames ∧ cf_hoursOf_rm.locals ≤ R.locals ∧ cells ≤ R.cells ∧ slots ≤ R.slots) (hF : ∀ q, cFr Z q → free q) {r : Int32} (hQ : ∀ t : State, t.heap = H → s.WarmedH t.vm → Qc args s (.returned (some (.int r))) t) {k4 : Int32 → Int32 → Int32 → Option Int32} (hk4 : cf_hoursOf_P4 p l e R s m args below meth c Z Y H cells slots Qc free r k4) : cf_hoursOf_P4 p l e R s m args below meth c Z Y H cells slots Qc free r (cf_hoursOf_b4 C k4) := by
  intro x1 x2 x3 locs ls hL hl h
  obtain ⟨⟨hx, hb, hr, hlocks, hml, hown, hts⟩, hK⟩ := id X
  unfold cf_hoursOf_b4 at h
  refine lv_iload_n hx hb dX0_hoursOf_4 rfl (lv_at hl 3 rfl) ?_
  refine lv_bipush (v := 8) hx hb dX0_hoursOf_5 (by decide) ?_
  refine lv_icmp_ge (tgt := 39) hx hb dX0_hoursOf_7 (by decide) (fun c1 => ?_) (fun c1 => ?_)
  · have h := ip_ c1 h
    refine lv_iload_n hx hb dX0_hoursOf_39 rfl (lv_at hl 2 rfl) ?_
    have h := so_ h
    subst h
    exact W.iret hx hb hr (fun t ht hW => hQ t ht hW) hL dX0_hoursOf_40
  · have h := in_ c1 h
    refine lv_iload_n hx hb dX0_hoursOf_10 rfl (lv_at hl 2 rfl) ?_
    refine lv_aload_n hx hb dX0_hoursOf_11 rfl (lv_at hl 0 rfl) ?_
    refine lv_aload_n hx hb dX0_hoursOf_12 rfl (lv_at hl 0 rfl) ?_
    refine lv_iload_n hx hb dX0_hoursOf_13 rfl (lv_at hl 1 rfl) ?_
    obtain ⟨v2, q_v2, h⟩ := bd_e h
    refine f_roR (As := [.int x1]) (rest := [.ref (cSa Z 0), .int x2]) X hM (c_recv0 X hM) hL hF (cf_deed_2_met _ Z Y A C x1 v2 q_v2) (lw_V q647 q649 qs9 q79 q650) cf_deed_2_hd ⟨rfl, rfl⟩ ⟨Nat.le_trans (m := cf_hoursOf_rm.frames) (Nat.le_of_ble_eq_true rfl) hR.1, Nat.le_trans (m := cf_hoursOf_rm.locals) (Nat.le_of_ble_eq_true rfl) hR.2.1⟩ ⟨hR.2.2.1, hR.2.2.2⟩ rfl hl.1 rfl (Nat.le_of_ble_eq_true rfl) dX0_hoursOf_14 (fun locs hL => ?_)
    refine lv_iload_n hx hb dX0_hoursOf_17 rfl (lv_at hl 3 rfl) ?_
    obtain ⟨v3, q_v3, h⟩ := bd_e h
    refine f_roI (As := [.ref (cDa Y (100 + v2)), .int x3]) (rest := [.int x2]) X hM (c_recv0 X hM) hL hF (cf_canBe_met _ Z Y A C v2 x3 v3 q_v3) (lw_V q679 q681 qs11 q79 q682) cf_canBe_hd ⟨rfl, rfl⟩ ⟨Nat.le_trans (m := cf_hoursOf_rm.frames) (Nat.le_of_ble_eq_true rfl) hR.1, Nat.le_trans (m := cf_hoursOf_rm.locals) (Nat.le_of_ble_eq_true rfl) hR.2.1⟩ ⟨hR.2.2.1, hR.2.2.2⟩ rfl hl.1 rfl (Nat.le_of_ble_eq_true rfl) dX0_hoursOf_18 (fun locs hL => ?_)
    refine lv_if_eq (tgt := 30) hx hb dX0_hoursOf_21 (by decide) (fun c4 => ?_) (fun c4 => ?_)
    · have h := ip_ c4 h
      refine lv_iconst (v := 0) hx hb dX0_hoursOf_30 (by decide) ?_
      exact cf_hoursOf_w31 X hM hR hF hQ hk4 x1 x3 (0 : Int32) x2 _ ls hL (lv_sub hl [0, 1, 3] rfl) h
    · have h := in_ c4 h
      refine lv_iconst (v := 1) hx hb dX0_hoursOf_24 (by decide) ?_
      refine lv_iload_n hx hb dX0_hoursOf_25 rfl (lv_at hl 3 rfl) ?_
      refine lv_ishl hx hb dX0_hoursOf_26 ?_
      refine lv_goto (tgt := 31) hx hb dX0_hoursOf_27 (by decide) ?_
      exact cf_hoursOf_w31 X hM hR hF hQ hk4 x1 x3 ((1 : Int32) <<< (x3 &&& 31)) x2 _ ls hL (lv_sub hl [0, 1, 3] rfl) h
def cf_hoursOf_l4 (C : St) (n : Nat) : Int32 → Int32 → Int32 → Option Int32 := lp (fun _ _ _ => none) (cf_hoursOf_b4 C) n
theorem cf_hoursOf_lw4 {p : Program} {l : Launch} {e : Env} {R : Room} {s : State} {m : MethodId} {args : Array Value} {below : List Frame} {meth : Method} {c : Code} {Z : CZ} {Y : CY} {A : Nat → Prop} {C : St} {H : Heap} {cells slots : Nat} {Qc : Array Value → State → Outcome → State → Prop} {free : Addr → Prop} (X : CCx p s m args meth c cX0_hoursOf 4 (some .int) RX0 Z) (hM : cPD Z Y A C H) (hR : cf_hoursOf_rm.frames ≤ R.frames ∧ cf_hoursOf_rm.locals ≤ R.locals ∧ cells ≤ R.cells ∧ slots ≤ R.slots) (hF : ∀ q, cFr Z q → free q) {r : Int32} (hQ : ∀ t : State, t.heap = H → s.WarmedH t.vm → Qc args s (.returned (some (.int r))) t) : ∀ n : Nat, cf_hoursOf_P4 p l e R s m args below meth c Z Y H cells slots Qc free r (cf_hoursOf_l4 C n) := by
  intro n
  induction n with
  | zero => intro x1 x2 x3 locs ls hL hl h; exact no_ h
  | succ n ih => exact cf_hoursOf_w4 X hM hR hF hQ ih
def cf_hoursOf (C : St) (x1 : Int32) : Option Int32 :=
  cf_hoursOf_l4 C FU x1 (0 : Int32) (0 : Int32)
theorem cf_hoursOf_w0 {p : Program} {l : Launch} {e : Env} {R : Room} {s : State} {m : MethodId} {args : Array Value} {below : List Frame} {meth : Method} {c : Code} {Z : CZ} {Y : CY} {A : Nat → Prop} {C : St} {H : Heap} {cells slots : Nat} {Qc : Array Value → State → Outcome → State → Prop} {free : Addr → Prop} (X : CCx p s m args meth c cX0_hoursOf 4 (some .int) RX0 Z) (hM : cPD Z Y A C H) (hR : cf_hoursOf_rm.frames ≤ R.frames ∧ cf_hoursOf_rm.locals ≤ R.locals ∧ cells ≤ R.cells ∧ slots ≤ R.slots) (hF : ∀ q, cFr Z q → free q) {r : Int32} (hQ : ∀ t : State, t.heap = H → s.WarmedH t.vm → Qc args s (.returned (some (.int r))) t) : cf_hoursOf_P0 p l e R s m args below meth c Z Y H cells slots Qc free r (cf_hoursOf C) := by
  intro x1 locs ls hL hl h
  obtain ⟨⟨hx, hb, hr, hlocks, hml, hown, hts⟩, hK⟩ := id X
  unfold cf_hoursOf at h
  refine lv_iconst (v := 0) hx hb dX0_hoursOf_0 (by decide) ?_
  refine lv_istore_n (lv' := [(2, .int (0 : Int32)), (0, .ref (cSa Z 0)), (1, .int x1)]) hx hb dX0_hoursOf_1 rfl hl (by decide) rfl (fun ls hl => ?_)
  refine lv_iconst (v := 0) hx hb dX0_hoursOf_2 (by decide) ?_
  refine lv_istore_n (lv' := [(3, .int (0 : Int32)), (2, .int (0 : Int32)), (0, .ref (cSa Z 0)), (1, .int x1)]) hx hb dX0_hoursOf_3 rfl hl (by decide) rfl (fun ls hl => ?_)
  exact cf_hoursOf_lw4 X hM hR hF hQ FU x1 (0 : Int32) (0 : Int32) _ ls hL (lv_sub hl [2, 3, 1, 0] rfl) h
theorem cf_hoursOf_hd : yX0_hoursOf.cls = RX0 ∧ yX0_hoursOf.cls ≠ "java/lang/invoke/MethodHandle" ∧ yX0_hoursOf.cls ≠ "java/lang/invoke/VarHandle" ∧ (parseMethodDescriptor yX0_hoursOf.desc).map (fun d => d.parameters.length) = some 1 := by decide +kernel
theorem cf_hoursOf_met (l : Launch) (Z : CZ) (Y : CY) (A : Nat → Prop) (C : St) (x1 : Int32) (r : Int32) (h : cf_hoursOf C x1 = some r) : Met l yX0_hoursOf (ws_ yX0_hoursOf cX0_hoursOf 4 (some .int)) cf_hoursOf_rm (va_Pc [.ref (cSa Z 0), .int x1] (cS Z Y A C)) (Qro (some (.int r))) 0 0 (cFr Z) := by
  refine Met.ofW (cc := cX0_hoursOf) (maxL := 4) (ret := some .int) (by decide) rfl ?_
  intro p e s m args below meth c s₁ B hml hv
  obtain ⟨rfl, hv⟩ := hv
  have hts := atoms_spec (ws := ws_ yX0_hoursOf cX0_hoursOf 4 (some .int)) B.pre
  have hts : ∀ w ∈ lw_all, w.before _ s = true := fun w h => hts w (List.mem_cons_of_mem _ h)
  have X : CCx p s m _ meth c cX0_hoursOf 4 (some .int) RX0 Z := ⟨⟨B.exec, B.bytes, B.returns, B.notSynchronized, hml, findClass_of_methodNamed B.named, hts⟩, hv.2⟩
  have hl := lv_entry [.ref (cSa Z 0), .int x1] (n := 4) (Nat.le_of_ble_eq_true rfl)
  rw [lg_entry_eq]
  generalize (lg_sl [.ref (cSa Z 0), .int x1] ++ List.replicate (4 - (lg_sl [.ref (cSa Z 0), .int x1]).length) Slot.unset).toArray = ls at hl ⊢
  exact cf_hoursOf_w0 X hv.1 ⟨Nat.le_refl _, Nat.le_refl _, Nat.le_refl _, Nat.le_refl _⟩ (fun _ h => h) (fun t ht _ => ⟨rfl, ht⟩) x1 [] ls (fun q hq => by cases hq) hl h

/-! SecondChances.costsOf(II)I -/
def cf_costsOf_rm : Room := { frames := 4, cells := 0, slots := 0, locals := 91 }
def cf_costsOf_P44 (p : Program) (l : Launch) (e : Env) (R : Room) (s : State) (m : MethodId) (args : Array Value) (below : List Frame) (meth : Method) (c : Code) (Z : CZ) (Y : CY) (H : Heap) (cells slots : Nat) (Qc : Array Value → State → Outcome → State → Prop) (free : Addr → Prop) (r : Int32) (f : Int32 → Int32 → Option Int32) : Prop := ∀ (t0 : Int32) (t1 : Int32) (locs : List Loc) (ls : Array Slot), (∀ q ∈ locs, free q.base) → lv_has ls 4 [] → f t0 t1 = some r → W p l e R s m args below meth c H locs cells slots (MQ below Qc args s cells slots free) (F0 m 44 ls [.int t0, .int t1])
def cf_costsOf_P0 (p : Program) (l : Launch) (e : Env) (R : Room) (s : State) (m : MethodId) (args : Array Value) (below : List Frame) (meth : Method) (c : Code) (Z : CZ) (Y : CY) (H : Heap) (cells slots : Nat) (Qc : Array Value → State → Outcome → State → Prop) (free : Addr → Prop) (r : Int32) (f : Int32 → Int32 → Option Int32) : Prop := ∀ (x1 : Int32) (x2 : Int32) (locs : List Loc) (ls : Array Slot), (∀ q ∈ locs, free q.base) → lv_has ls 4 [(0, .ref (cSa Z 0)), (1, .int x1), (2, .int x2)] → f x1 x2 = some r → W p l e R s m args below meth c H locs cells slots (MQ below Qc args s cells slots free) (F0 m 0 ls [])
def cf_costsOf_b44 (C : St) (t0 : Int32) (t1 : Int32) : Option Int32 :=
  some (t1 + t0)
theorem cf_costsOf_w44 {p : Program} {l : Launch} {e : Env} {R : Room} {s : State} {m : MethodId} {args : Array Value} {below : List Frame} {meth : Method} {c : Code} {Z : CZ} {Y : CY} {A : Nat → Prop} {C : St} {H : Heap} {cells slots : Nat} {Qc : Array Value → State → Outcome → State → Prop} {free : Addr → Prop} (X : CCx p s m args meth c cX0_costsOf 4 (some .int) RX0 Z) (hM : cPD Z Y A C H) (hR : cf_costsOf_rm.frames ≤ R.frames ∧ cf_costsOf_rm.locals ≤ R.locals ∧ cells ≤ R.cells ∧ slots ≤ R.slots) (hF : ∀ q, cFr Z q → free q) {r : Int32} (hQ : ∀ t : State, t.heap = H → s.WarmedH t.vm → Qc args s (.returned (some (.int r))) t) : cf_costsOf_P44 p l e R s m args below meth c Z Y H cells slots Qc free r (cf_costsOf_b44 C) := by
  intro t0 t1 locs ls hL hl h
  obtain ⟨⟨hx, hb, hr, hlocks, hml, hown, hts⟩, hK⟩ := id X
  unfold cf_costsOf_b44 at h
  refine lv_iadd hx hb dX0_costsOf_44 ?_
  refine lv_goto (tgt := 50) hx hb dX0_costsOf_45 (by decide) ?_
  have h := so_ h
  subst h
  exact W.iret hx hb hr (fun t ht hW => hQ t ht hW) hL dX0_costsOf_50
def cf_costsOf (C : St) (x1 : Int32) (x2 : Int32) : Option Int32 :=
  bd_ (cf_deed_2 C x1) fun v1 =>
  bd_ (cf_canBe C v1 x2) fun v2 =>
  if v2 = 0 then (some (-3 : Int32))
  else (bd_ (cf_comers C v1 x2) fun v4 =>
    bd_ (cf_prices C v4) fun v5 =>
    bd_ (cf_isTurned C v1 x2) fun v6 =>
    if v6 = 0 then (cf_costsOf_b44 C (0 : Int32) v5)
    else (al_ 4 (C 3) (0 : Int32) fun v8 =>
      cf_costsOf_b44 C v8 v5))
theorem cf_costsOf_w0 {p : Program} {l : Launch} {e : Env} {R : Room} {s : State} {m : MethodId} {args : Array Value} {below : List Frame} {meth : Method} {c : Code} {Z : CZ} {Y : CY} {A : Nat → Prop} {C : St} {H : Heap} {cells slots : Nat} {Qc : Array Value → State → Outcome → State → Prop} {free : Addr → Prop} (X : CCx p s m args meth c cX0_costsOf 4 (some .int) RX0 Z) (hM : cPD Z Y A C H) (hR : cf_costsOf_rm.frames ≤ R.frames ∧ cf_costsOf_rm.locals ≤ R.locals ∧ cells ≤ R.cells ∧ slots ≤ R.slots) (hF : ∀ q, cFr Z q → free q) {r : Int32} (hQ : ∀ t : State, t.heap = H → s.WarmedH t.vm → Qc args s (.returned (some (.int r))) t) : cf_costsOf_P0 p l e R s m args below meth c Z Y H cells slots Qc free r (cf_costsOf C) := by
  intro x1 x2 locs ls hL hl h
  obtain ⟨⟨hx, hb, hr, hlocks, hml, hown, hts⟩, hK⟩ := id X
  unfold cf_costsOf at h
  refine lv_aload_n hx hb dX0_costsOf_0 rfl (lv_at hl 0 rfl) ?_
  refine lv_iload_n hx hb dX0_costsOf_1 rfl (lv_at hl 1 rfl) ?_
  obtain ⟨v1, q_v1, h⟩ := bd_e h
  refine f_roR (As := [.int x1]) (rest := []) X hM (c_recv0 X hM) hL hF (cf_deed_2_met _ Z Y A C x1 v1 q_v1) (lw_V q647 q649 qs9 q79 q650) cf_deed_2_hd ⟨rfl, rfl⟩ ⟨Nat.le_trans (m := cf_costsOf_rm.frames) (Nat.le_of_ble_eq_true rfl) hR.1, Nat.le_trans (m := cf_costsOf_rm.locals) (Nat.le_of_ble_eq_true rfl) hR.2.1⟩ ⟨hR.2.2.1, hR.2.2.2⟩ rfl hl.1 rfl (Nat.le_of_ble_eq_true rfl) dX0_costsOf_2 (fun locs hL => ?_)
  refine lv_astore_n (lv' := [(3, .ref (cDa Y (100 + v1))), (0, .ref (cSa Z 0)), (1, .int x1), (2, .int x2)]) hx hb dX0_costsOf_5 rfl hl (by decide) rfl (fun ls hl => ?_)
  refine lv_aload_n hx hb dX0_costsOf_6 rfl (lv_at hl 1 rfl) ?_
  refine lv_aload_n hx hb dX0_costsOf_7 rfl (lv_at hl 0 rfl) ?_
  refine lv_iload_n hx hb dX0_costsOf_8 rfl (lv_at hl 3 rfl) ?_
  obtain ⟨v2, q_v2, h⟩ := bd_e h
  refine f_roI (As := [.ref (cDa Y (100 + v1)), .int x2]) (rest := []) X hM (c_recv0 X hM) hL hF (cf_canBe_met _ Z Y A C v1 x2 v2 q_v2) (lw_V q679 q681 qs11 q79 q682) cf_canBe_hd ⟨rfl, rfl⟩ ⟨Nat.le_trans (m := cf_costsOf_rm.frames) (Nat.le_of_ble_eq_true rfl) hR.1, Nat.le_trans (m := cf_costsOf_rm.locals) (Nat.le_of_ble_eq_true rfl) hR.2.1⟩ ⟨hR.2.2.1, hR.2.2.2⟩ rfl hl.1 rfl (Nat.le_of_ble_eq_true rfl) dX0_costsOf_9 (fun locs hL => ?_)
  refine lv_if_eq (tgt := 48) hx hb dX0_costsOf_12 (by decide) (fun c3 => ?_) (fun c3 => ?_)
  · have h := ip_ c3 h
    refine lv_bipush (v := -3) hx hb dX0_costsOf_48 (by decide) ?_
    have h := so_ h
    subst h
    exact W.iret hx hb hr (fun t ht hW => hQ t ht hW) hL dX0_costsOf_50
  · have h := in_ c3 h
    refine lv_aload_n hx hb dX0_costsOf_15 rfl (lv_at hl 1 rfl) ?_
    refine lv_aload_n hx hb dX0_costsOf_16 rfl (lv_at hl 1 rfl) ?_
    refine lv_aload_n hx hb dX0_costsOf_17 rfl (lv_at hl 0 rfl) ?_
    refine lv_iload_n hx hb dX0_costsOf_18 rfl (lv_at hl 3 rfl) ?_
    obtain ⟨v4, q_v4, h⟩ := bd_e h
    refine f_roI (As := [.ref (cDa Y (100 + v1)), .int x2]) (rest := [.ref (cSa Z 0)]) X hM (c_recv0 X hM) hL hF (cf_comers_met _ Z Y A C v1 x2 v4 q_v4) (lw_V q683 q685 qs12 q79 q686) cf_comers_hd ⟨rfl, rfl⟩ ⟨Nat.le_trans (m := cf_costsOf_rm.frames) (Nat.le_of_ble_eq_true rfl) hR.1, Nat.le_trans (m := cf_costsOf_rm.locals) (Nat.le_of_ble_eq_true rfl) hR.2.1⟩ ⟨hR.2.2.1, hR.2.2.2⟩ rfl hl.1 rfl (Nat.le_of_ble_eq_true rfl) dX0_costsOf_19 (fun locs hL => ?_)
    obtain ⟨v5, q_v5, h⟩ := bd_e h
    refine f_roI (As := [.int v4]) (rest := []) X hM (c_recv0 X hM) hL hF (cf_prices_met _ Z Y A C v4 v5 q_v5) (lw_V q731 q733 qs18 q79 q734) cf_prices_hd ⟨rfl, rfl⟩ ⟨Nat.le_trans (m := cf_costsOf_rm.frames) (Nat.le_of_ble_eq_true rfl) hR.1, Nat.le_trans (m := cf_costsOf_rm.locals) (Nat.le_of_ble_eq_true rfl) hR.2.1⟩ ⟨hR.2.2.1, hR.2.2.2⟩ rfl hl.1 rfl (Nat.le_of_ble_eq_true rfl) dX0_costsOf_22 (fun locs hL => ?_)
    refine lv_aload_n hx hb dX0_costsOf_25 rfl (lv_at hl 1 rfl) ?_
    refine lv_aload_n hx hb dX0_costsOf_26 rfl (lv_at hl 0 rfl) ?_
    refine lv_iload_n hx hb dX0_costsOf_27 rfl (lv_at hl 3 rfl) ?_
    obtain ⟨v6, q_v6, h⟩ := bd_e h
    refine f_roI (As := [.ref (cDa Y (100 + v1)), .int x2]) (rest := [.int v5]) X hM (c_recv0 X hM) hL hF (cf_isTurned_met _ Z Y A C v1 x2 v6 q_v6) (lw_V q703 q705 qs14 q79 q706) cf_isTurned_hd ⟨rfl, rfl⟩ ⟨Nat.le_trans (m := cf_costsOf_rm.frames) (Nat.le_of_ble_eq_true rfl) hR.1, Nat.le_trans (m := cf_costsOf_rm.locals) (Nat.le_of_ble_eq_true rfl) hR.2.1⟩ ⟨hR.2.2.1, hR.2.2.2⟩ rfl hl.1 rfl (Nat.le_of_ble_eq_true rfl) dX0_costsOf_28 (fun locs hL => ?_)
    refine lv_if_eq (tgt := 43) hx hb dX0_costsOf_31 (by decide) (fun c7 => ?_) (fun c7 => ?_)
    · have h := ip_ c7 h
      refine lv_iconst (v := 0) hx hb dX0_costsOf_43 (by decide) ?_
      exact cf_costsOf_w44 X hM hR hF hQ (0 : Int32) v5 _ ls hL (lv_sub hl [] rfl) h
    · have h := in_ c7 h
      refine lv_aload_n hx hb dX0_costsOf_34 rfl (lv_at hl 1 rfl) ?_
      refine gc3 X hM dX0_costsOf_35 ?_
      refine lv_iconst (v := 0) hx hb dX0_costsOf_38 (by decide) ?_
      obtain ⟨i_v8, h⟩ := al_e h
      refine c_ald X hM (k := 3) (cHs_S (by decide)) (fun _ _ _ => rfl) (cAr_s (by decide)) i_v8 dX0_costsOf_39 (fun v8 e_v8 => ?_)
      have h := h v8 e_v8
      refine lv_goto (tgt := 44) hx hb dX0_costsOf_40 (by decide) ?_
      exact cf_costsOf_w44 X hM hR hF hQ v8 v5 _ ls hL (lv_sub hl [] rfl) h
theorem cf_costsOf_hd : yX0_costsOf.cls = RX0 ∧ yX0_costsOf.cls ≠ "java/lang/invoke/MethodHandle" ∧ yX0_costsOf.cls ≠ "java/lang/invoke/VarHandle" ∧ (parseMethodDescriptor yX0_costsOf.desc).map (fun d => d.parameters.length) = some 2 := by decide +kernel
theorem cf_costsOf_met (l : Launch) (Z : CZ) (Y : CY) (A : Nat → Prop) (C : St) (x1 : Int32) (x2 : Int32) (r : Int32) (h : cf_costsOf C x1 x2 = some r) : Met l yX0_costsOf (ws_ yX0_costsOf cX0_costsOf 4 (some .int)) cf_costsOf_rm (va_Pc [.ref (cSa Z 0), .int x1, .int x2] (cS Z Y A C)) (Qro (some (.int r))) 0 0 (cFr Z) := by
  refine Met.ofW (cc := cX0_costsOf) (maxL := 4) (ret := some .int) (by decide) rfl ?_
  intro p e s m args below meth c s₁ B hml hv
  obtain ⟨rfl, hv⟩ := hv
  have hts := atoms_spec (ws := ws_ yX0_costsOf cX0_costsOf 4 (some .int)) B.pre
  have hts : ∀ w ∈ lw_all, w.before _ s = true := fun w h => hts w (List.mem_cons_of_mem _ h)
  have X : CCx p s m _ meth c cX0_costsOf 4 (some .int) RX0 Z := ⟨⟨B.exec, B.bytes, B.returns, B.notSynchronized, hml, findClass_of_methodNamed B.named, hts⟩, hv.2⟩
  have hl := lv_entry [.ref (cSa Z 0), .int x1, .int x2] (n := 4) (Nat.le_of_ble_eq_true rfl)
  rw [lg_entry_eq]
  generalize (lg_sl [.ref (cSa Z 0), .int x1, .int x2] ++ List.replicate (4 - (lg_sl [.ref (cSa Z 0), .int x1, .int x2]).length) Slot.unset).toArray = ls at hl ⊢
  exact cf_costsOf_w0 X hv.1 ⟨Nat.le_refl _, Nat.le_refl _, Nat.le_refl _, Nat.le_refl _⟩ (fun _ h => h) (fun t ht _ => ⟨rfl, ht⟩) x1 x2 [] ls (fun q hq => by cases hq) hl h

/-! SecondChances.goTogether(LSecondChances$Deed;LSecondChances$Deed;I)Z -/
def cf_goTogether_rm : Room := { frames := 3, cells := 0, slots := 0, locals := 69 }
def cf_goTogether_P89 (p : Program) (l : Launch) (e : Env) (R : Room) (s : State) (m : MethodId) (args : Array Value) (below : List Frame) (meth : Method) (c : Code) (Z : CZ) (Y : CY) (H : Heap) (cells slots : Nat) (Qc : Array Value → State → Outcome → State → Prop) (free : Addr → Prop) (r : Int32) (f : Int32 → Int32 → Int32 → Option Int32) : Prop := ∀ (x4 : Int32) (x5 : Int32) (t0 : Int32) (locs : List Loc) (ls : Array Slot), (∀ q ∈ locs, free q.base) → lv_has ls 7 [(4, .int x4), (5, .int x5)] → f x4 x5 t0 = some r → W p l e R s m args below meth c H locs cells slots (MQ below Qc args s cells slots free) (F0 m 89 ls [.int t0])
def cf_goTogether_P55 (p : Program) (l : Launch) (e : Env) (R : Room) (s : State) (m : MethodId) (args : Array Value) (below : List Frame) (meth : Method) (c : Code) (Z : CZ) (Y : CY) (H : Heap) (cells slots : Nat) (Qc : Array Value → State → Outcome → State → Prop) (free : Addr → Prop) (r : Int32) (f : Nat → Nat → Int32 → Int32 → Option Int32) : Prop := ∀ (x1 : Nat) (x2 : Nat) (x4 : Int32) (t0 : Int32) (locs : List Loc) (ls : Array Slot), (∀ q ∈ locs, free q.base) → lv_has ls 7 [(0, .ref (cSa Z 0)), (1, .ref (cDa Y (100 + x1))), (2, .ref (cDa Y (100 + x2))), (4, .int x4)] → f x1 x2 x4 t0 = some r → W p l e R s m args below meth c H locs cells slots (MQ below Qc args s cells slots free) (F0 m 55 ls [.int t0])
def cf_goTogether_P21 (p : Program) (l : Launch) (e : Env) (R : Room) (s : State) (m : MethodId) (args : Array Value) (below : List Frame) (meth : Method) (c : Code) (Z : CZ) (Y : CY) (H : Heap) (cells slots : Nat) (Qc : Array Value → State → Outcome → State → Prop) (free : Addr → Prop) (r : Int32) (f : Nat → Nat → Int32 → Option Int32) : Prop := ∀ (x1 : Nat) (x2 : Nat) (t0 : Int32) (locs : List Loc) (ls : Array Slot), (∀ q ∈ locs, free q.base) → lv_has ls 7 [(0, .ref (cSa Z 0)), (1, .ref (cDa Y (100 + x1))), (2, .ref (cDa Y (100 + x2)))] → f x1 x2 t0 = some r → W p l e R s m args below meth c H locs cells slots (MQ below Qc args s cells slots free) (F0 m 21 ls [.int t0])
def cf_goTogether_P0 (p : Program) (l : Launch) (e : Env) (R : Room) (s : State) (m : MethodId) (args : Array Value) (below : List Frame) (meth : Method) (c : Code) (Z : CZ) (Y : CY) (H : Heap) (cells slots : Nat) (Qc : Array Value → State → Outcome → State → Prop) (free : Addr → Prop) (r : Int32) (f : Nat → Nat → Int32 → Option Int32) : Prop := ∀ (x1 : Nat) (x2 : Nat) (x3 : Int32) (locs : List Loc) (ls : Array Slot), (∀ q ∈ locs, free q.base) → lv_has ls 7 [(0, .ref (cSa Z 0)), (1, .ref (cDa Y (100 + x1))), (2, .ref (cDa Y (100 + x2))), (3, .int x3)] → f x1 x2 x3 = some r → W p l e R s m args below meth c H locs cells slots (MQ below Qc args s cells slots free) (F0 m 0 ls [])
def cf_goTogether_b89 (C : St) (x4 : Int32) (x5 : Int32) (t0 : Int32) : Option Int32 :=
  if x4 = 0 then (some (0 : Int32))
  else (if x5 = 0 then (if t0 = 0 then (some (1 : Int32))
      else (some (0 : Int32)))
    else (some (0 : Int32)))
theorem cf_goTogether_w89 {p : Program} {l : Launch} {e : Env} {R : Room} {s : State} {m : MethodId} {args : Array Value} {below : List Frame} {meth : Method} {c : Code} {Z : CZ} {Y : CY} {A : Nat → Prop} {C : St} {H : Heap} {cells slots : Nat} {Qc : Array Value → State → Outcome → State → Prop} {free : Addr → Prop} (X : CCx p s m args meth c cX0_goTogether 7 (some .boolean) RX0 Z) (hM : cPD Z Y A C H) (hR : cf_goTogether_rm.frames ≤ R.frames ∧ cf_goTogether_rm.locals ≤ R.locals ∧ cells ≤ R.cells ∧ slots ≤ R.slots) (hF : ∀ q, cFr Z q → free q) {r : Int32} (hQ : ∀ t : State, t.heap = H → s.WarmedH t.vm → Qc args s (.returned (some (.int r))) t) : cf_goTogether_P89 p l e R s m args below meth c Z Y H cells slots Qc free r (cf_goTogether_b89 C) := by
  intro x4 x5 t0 locs ls hL hl h
  obtain ⟨⟨hx, hb, hr, hlocks, hml, hown, hts⟩, hK⟩ := id X
  unfold cf_goTogether_b89 at h
  refine lv_istore (lv' := [(6, .int t0), (4, .int x4), (5, .int x5)]) hx hb dX0_goTogether_89 hl (by decide) rfl (fun ls hl => ?_)
  refine lv_iload hx hb dX0_goTogether_91 (lv_at hl 1 rfl) ?_
  refine lv_if_eq (tgt := 110) hx hb dX0_goTogether_93 (by decide) (fun c1 => ?_) (fun c1 => ?_)
  · have h := ip_ c1 h
    refine lv_iconst (v := 0) hx hb dX0_goTogether_110 (by decide) ?_
    have h := so_ h
    subst h
    exact W.zret hx hb hr rfl (fun t ht hW => hQ t ht hW) hL dX0_goTogether_111
  · have h := in_ c1 h
    refine lv_iload hx hb dX0_goTogether_96 (lv_at hl 2 rfl) ?_
    refine lv_if_ne (tgt := 110) hx hb dX0_goTogether_98 (by decide) (fun c2 => ?_) (fun c2 => ?_)
    · have h := in_ c2 h
      refine lv_iconst (v := 0) hx hb dX0_goTogether_110 (by decide) ?_
      have h := so_ h
      subst h
      exact W.zret hx hb hr rfl (fun t ht hW => hQ t ht hW) hL dX0_goTogether_111
    · have h := ip_ c2 h
      refine lv_iload hx hb dX0_goTogether_101 (lv_at hl 0 rfl) ?_
      refine lv_if_ne (tgt := 110) hx hb dX0_goTogether_103 (by decide) (fun c3 => ?_) (fun c3 => ?_)
      · have h := in_ c3 h
        refine lv_iconst (v := 0) hx hb dX0_goTogether_110 (by decide) ?_
        have h := so_ h
        subst h
        exact W.zret hx hb hr rfl (fun t ht hW => hQ t ht hW) hL dX0_goTogether_111
      · have h := ip_ c3 h
        refine lv_iconst (v := 1) hx hb dX0_goTogether_106 (by decide) ?_
        refine lv_goto (tgt := 111) hx hb dX0_goTogether_107 (by decide) ?_
        have h := so_ h
        subst h
        exact W.zret hx hb hr rfl (fun t ht hW => hQ t ht hW) hL dX0_goTogether_111
def cf_goTogether_b55 (C : St) (x1 : Nat) (x2 : Nat) (x4 : Int32) (t0 : Int32) : Option Int32 :=
  bd_ (cf_asksWeather C x1) fun v1 =>
  if v1 = 0 then (cf_goTogether_b89 C x4 t0 (0 : Int32))
  else (bd_ (cf_asksWeather C x2) fun v3 =>
    if v3 = 0 then (cf_goTogether_b89 C x4 t0 (0 : Int32))
    else (fx_ (cNn C 0) x1 (C (100 + x1) 2) fun v5 =>
      fx_ (cNn C 0) x2 (C (100 + x2) 2) fun v6 =>
      if v5 = v6 then (cf_goTogether_b89 C x4 t0 (0 : Int32))
      else (cf_goTogether_b89 C x4 t0 (1 : Int32))))
theorem cf_goTogether_w55 {p : Program} {l : Launch} {e : Env} {R : Room} {s : State} {m : MethodId} {args : Array Value} {below : List Frame} {meth : Method} {c : Code} {Z : CZ} {Y : CY} {A : Nat → Prop} {C : St} {H : Heap} {cells slots : Nat} {Qc : Array Value → State → Outcome → State → Prop} {free : Addr → Prop} (X : CCx p s m args meth c cX0_goTogether 7 (some .boolean) RX0 Z) (hM : cPD Z Y A C H) (hR : cf_goTogether_rm.frames ≤ R.frames ∧ cf_goTogether_rm.locals ≤ R.locals ∧ cells ≤ R.cells ∧ slots ≤ R.slots) (hF : ∀ q, cFr Z q → free q) {r : Int32} (hQ : ∀ t : State, t.heap = H → s.WarmedH t.vm → Qc args s (.returned (some (.int r))) t) : cf_goTogether_P55 p l e R s m args below meth c Z Y H cells slots Qc free r (cf_goTogether_b55 C) := by
  intro x1 x2 x4 t0 locs ls hL hl h
  obtain ⟨⟨hx, hb, hr, hlocks, hml, hown, hts⟩, hK⟩ := id X
  unfold cf_goTogether_b55 at h
  refine lv_istore (lv' := [(5, .int t0), (0, .ref (cSa Z 0)), (1, .ref (cDa Y (100 + x1))), (2, .ref (cDa Y (100 + x2))), (4, .int x4)]) hx hb dX0_goTogether_55 hl (by decide) rfl (fun ls hl => ?_)
  refine lv_aload_n hx hb dX0_goTogether_57 rfl (lv_at hl 1 rfl) ?_
  refine lv_aload_n hx hb dX0_goTogether_58 rfl (lv_at hl 2 rfl) ?_
  obtain ⟨v1, q_v1, h⟩ := bd_e h
  refine f_roI (As := [.ref (cDa Y (100 + x1))]) (rest := []) X hM (c_recv0 X hM) hL hF (cf_asksWeather_met _ Z Y A C x1 v1 q_v1) (lw_V q707 q709 qs15 q79 q710) cf_asksWeather_hd ⟨rfl, rfl⟩ ⟨Nat.le_trans (m := cf_goTogether_rm.frames) (Nat.le_of_ble_eq_true rfl) hR.1, Nat.le_trans (m := cf_goTogether_rm.locals) (Nat.le_of_ble_eq_true rfl) hR.2.1⟩ ⟨hR.2.2.1, hR.2.2.2⟩ rfl hl.1 rfl (Nat.le_of_ble_eq_true rfl) dX0_goTogether_59 (fun locs hL => ?_)
  refine lv_if_eq (tgt := 88) hx hb dX0_goTogether_62 (by decide) (fun c2 => ?_) (fun c2 => ?_)
  · have h := ip_ c2 h
    refine lv_iconst (v := 0) hx hb dX0_goTogether_88 (by decide) ?_
    exact cf_goTogether_w89 X hM hR hF hQ x4 t0 (0 : Int32) _ ls hL (lv_sub hl [4, 0] rfl) h
  · have h := in_ c2 h
    refine lv_aload_n hx hb dX0_goTogether_65 rfl (lv_at hl 1 rfl) ?_
    refine lv_aload_n hx hb dX0_goTogether_66 rfl (lv_at hl 3 rfl) ?_
    obtain ⟨v3, q_v3, h⟩ := bd_e h
    refine f_roI (As := [.ref (cDa Y (100 + x2))]) (rest := []) X hM (c_recv0 X hM) hL hF (cf_asksWeather_met _ Z Y A C x2 v3 q_v3) (lw_V q707 q709 qs15 q79 q710) cf_asksWeather_hd ⟨rfl, rfl⟩ ⟨Nat.le_trans (m := cf_goTogether_rm.frames) (Nat.le_of_ble_eq_true rfl) hR.1, Nat.le_trans (m := cf_goTogether_rm.locals) (Nat.le_of_ble_eq_true rfl) hR.2.1⟩ ⟨hR.2.2.1, hR.2.2.2⟩ rfl hl.1 rfl (Nat.le_of_ble_eq_true rfl) dX0_goTogether_67 (fun locs hL => ?_)
    refine lv_if_eq (tgt := 88) hx hb dX0_goTogether_70 (by decide) (fun c4 => ?_) (fun c4 => ?_)
    · have h := ip_ c4 h
      refine lv_iconst (v := 0) hx hb dX0_goTogether_88 (by decide) ?_
      exact cf_goTogether_w89 X hM hR hF hQ x4 t0 (0 : Int32) _ ls hL (lv_sub hl [4, 0] rfl) h
    · have h := in_ c4 h
      refine lv_aload_n hx hb dX0_goTogether_73 rfl (lv_at hl 2 rfl) ?_
      obtain ⟨b_v5, h⟩ := fx_e h
      refine gq2 X hM b_v5 dX0_goTogether_74 ?_
      refine lv_topi (fun v5 e_v5 => ?_)
      have h := h v5 e_v5
      refine lv_aload_n hx hb dX0_goTogether_77 rfl (lv_at hl 3 rfl) ?_
      obtain ⟨b_v6, h⟩ := fx_e h
      refine gq2 X hM b_v6 dX0_goTogether_78 ?_
      refine lv_topi (fun v6 e_v6 => ?_)
      have h := h v6 e_v6
      refine lv_icmp_eq (tgt := 88) hx hb dX0_goTogether_81 (by decide) (fun c7 => ?_) (fun c7 => ?_)
      · have h := ip_ c7 h
        refine lv_iconst (v := 0) hx hb dX0_goTogether_88 (by decide) ?_
        exact cf_goTogether_w89 X hM hR hF hQ x4 t0 (0 : Int32) _ ls hL (lv_sub hl [4, 0] rfl) h
      · have h := in_ c7 h
        refine lv_iconst (v := 1) hx hb dX0_goTogether_84 (by decide) ?_
        refine lv_goto (tgt := 89) hx hb dX0_goTogether_85 (by decide) ?_
        exact cf_goTogether_w89 X hM hR hF hQ x4 t0 (1 : Int32) _ ls hL (lv_sub hl [4, 0] rfl) h
def cf_goTogether_b21 (C : St) (x1 : Nat) (x2 : Nat) (t0 : Int32) : Option Int32 :=
  bd_ (cf_asksPlace C x1) fun v1 =>
  if v1 = 0 then (cf_goTogether_b55 C x1 x2 t0 (0 : Int32))
  else (bd_ (cf_asksPlace C x2) fun v3 =>
    if v3 = 0 then (cf_goTogether_b55 C x1 x2 t0 (0 : Int32))
    else (fx_ (cNn C 0) x1 (C (100 + x1) 1) fun v5 =>
      fx_ (cNn C 0) x2 (C (100 + x2) 1) fun v6 =>
      if v5 = v6 then (cf_goTogether_b55 C x1 x2 t0 (1 : Int32))
      else (cf_goTogether_b55 C x1 x2 t0 (0 : Int32))))
theorem cf_goTogether_w21 {p : Program} {l : Launch} {e : Env} {R : Room} {s : State} {m : MethodId} {args : Array Value} {below : List Frame} {meth : Method} {c : Code} {Z : CZ} {Y : CY} {A : Nat → Prop} {C : St} {H : Heap} {cells slots : Nat} {Qc : Array Value → State → Outcome → State → Prop} {free : Addr → Prop} (X : CCx p s m args meth c cX0_goTogether 7 (some .boolean) RX0 Z) (hM : cPD Z Y A C H) (hR : cf_goTogether_rm.frames ≤ R.frames ∧ cf_goTogether_rm.locals ≤ R.locals ∧ cells ≤ R.cells ∧ slots ≤ R.slots) (hF : ∀ q, cFr Z q → free q) {r : Int32} (hQ : ∀ t : State, t.heap = H → s.WarmedH t.vm → Qc args s (.returned (some (.int r))) t) : cf_goTogether_P21 p l e R s m args below meth c Z Y H cells slots Qc free r (cf_goTogether_b21 C) := by
  intro x1 x2 t0 locs ls hL hl h
  obtain ⟨⟨hx, hb, hr, hlocks, hml, hown, hts⟩, hK⟩ := id X
  unfold cf_goTogether_b21 at h
  refine lv_istore (lv' := [(4, .int t0), (0, .ref (cSa Z 0)), (1, .ref (cDa Y (100 + x1))), (2, .ref (cDa Y (100 + x2)))]) hx hb dX0_goTogether_21 hl (by decide) rfl (fun ls hl => ?_)
  refine lv_aload_n hx hb dX0_goTogether_23 rfl (lv_at hl 1 rfl) ?_
  refine lv_aload_n hx hb dX0_goTogether_24 rfl (lv_at hl 2 rfl) ?_
  obtain ⟨v1, q_v1, h⟩ := bd_e h
  refine f_roI (As := [.ref (cDa Y (100 + x1))]) (rest := []) X hM (c_recv0 X hM) hL hF (cf_asksPlace_met _ Z Y A C x1 v1 q_v1) (lw_V q760 q762 qs24 q79 q763) cf_asksPlace_hd ⟨rfl, rfl⟩ ⟨Nat.le_trans (m := cf_goTogether_rm.frames) (Nat.le_of_ble_eq_true rfl) hR.1, Nat.le_trans (m := cf_goTogether_rm.locals) (Nat.le_of_ble_eq_true rfl) hR.2.1⟩ ⟨hR.2.2.1, hR.2.2.2⟩ rfl hl.1 rfl (Nat.le_of_ble_eq_true rfl) dX0_goTogether_25 (fun locs hL => ?_)
  refine lv_if_eq (tgt := 54) hx hb dX0_goTogether_28 (by decide) (fun c2 => ?_) (fun c2 => ?_)
  · have h := ip_ c2 h
    refine lv_iconst (v := 0) hx hb dX0_goTogether_54 (by decide) ?_
    exact cf_goTogether_w55 X hM hR hF hQ x1 x2 t0 (0 : Int32) _ ls hL (lv_sub hl [1, 2, 3, 0] rfl) h
  · have h := in_ c2 h
    refine lv_aload_n hx hb dX0_goTogether_31 rfl (lv_at hl 1 rfl) ?_
    refine lv_aload_n hx hb dX0_goTogether_32 rfl (lv_at hl 3 rfl) ?_
    obtain ⟨v3, q_v3, h⟩ := bd_e h
    refine f_roI (As := [.ref (cDa Y (100 + x2))]) (rest := []) X hM (c_recv0 X hM) hL hF (cf_asksPlace_met _ Z Y A C x2 v3 q_v3) (lw_V q760 q762 qs24 q79 q763) cf_asksPlace_hd ⟨rfl, rfl⟩ ⟨Nat.le_trans (m := cf_goTogether_rm.frames) (Nat.le_of_ble_eq_true rfl) hR.1, Nat.le_trans (m := cf_goTogether_rm.locals) (Nat.le_of_ble_eq_true rfl) hR.2.1⟩ ⟨hR.2.2.1, hR.2.2.2⟩ rfl hl.1 rfl (Nat.le_of_ble_eq_true rfl) dX0_goTogether_33 (fun locs hL => ?_)
    refine lv_if_eq (tgt := 54) hx hb dX0_goTogether_36 (by decide) (fun c4 => ?_) (fun c4 => ?_)
    · have h := ip_ c4 h
      refine lv_iconst (v := 0) hx hb dX0_goTogether_54 (by decide) ?_
      exact cf_goTogether_w55 X hM hR hF hQ x1 x2 t0 (0 : Int32) _ ls hL (lv_sub hl [1, 2, 3, 0] rfl) h
    · have h := in_ c4 h
      refine lv_aload_n hx hb dX0_goTogether_39 rfl (lv_at hl 2 rfl) ?_
      obtain ⟨b_v5, h⟩ := fx_e h
      refine gq1 X hM b_v5 dX0_goTogether_40 ?_
      refine lv_topi (fun v5 e_v5 => ?_)
      have h := h v5 e_v5
      refine lv_aload_n hx hb dX0_goTogether_43 rfl (lv_at hl 3 rfl) ?_
      obtain ⟨b_v6, h⟩ := fx_e h
      refine gq1 X hM b_v6 dX0_goTogether_44 ?_
      refine lv_topi (fun v6 e_v6 => ?_)
      have h := h v6 e_v6
      refine lv_icmp_ne (tgt := 54) hx hb dX0_goTogether_47 (by decide) (fun c7 => ?_) (fun c7 => ?_)
      · have h := in_ c7 h
        refine lv_iconst (v := 0) hx hb dX0_goTogether_54 (by decide) ?_
        exact cf_goTogether_w55 X hM hR hF hQ x1 x2 t0 (0 : Int32) _ ls hL (lv_sub hl [1, 2, 3, 0] rfl) h
      · have h := ip_ c7 h
        refine lv_iconst (v := 1) hx hb dX0_goTogether_50 (by decide) ?_
        refine lv_goto (tgt := 55) hx hb dX0_goTogether_51 (by decide) ?_
        exact cf_goTogether_w55 X hM hR hF hQ x1 x2 t0 (1 : Int32) _ ls hL (lv_sub hl [1, 2, 3, 0] rfl) h
def cf_goTogether (C : St) (x1 : Nat) (x2 : Nat) (x3 : Int32) : Option Int32 :=
  bd_ (cf_comers C x1 x3) fun v1 =>
  bd_ (cf_comers C x2 x3) fun v2 =>
  if (v1 &&& v2) = 0 then (cf_goTogether_b21 C x1 x2 (1 : Int32))
  else (cf_goTogether_b21 C x1 x2 (0 : Int32))
theorem cf_goTogether_w0 {p : Program} {l : Launch} {e : Env} {R : Room} {s : State} {m : MethodId} {args : Array Value} {below : List Frame} {meth : Method} {c : Code} {Z : CZ} {Y : CY} {A : Nat → Prop} {C : St} {H : Heap} {cells slots : Nat} {Qc : Array Value → State → Outcome → State → Prop} {free : Addr → Prop} (X : CCx p s m args meth c cX0_goTogether 7 (some .boolean) RX0 Z) (hM : cPD Z Y A C H) (hR : cf_goTogether_rm.frames ≤ R.frames ∧ cf_goTogether_rm.locals ≤ R.locals ∧ cells ≤ R.cells ∧ slots ≤ R.slots) (hF : ∀ q, cFr Z q → free q) {r : Int32} (hQ : ∀ t : State, t.heap = H → s.WarmedH t.vm → Qc args s (.returned (some (.int r))) t) : cf_goTogether_P0 p l e R s m args below meth c Z Y H cells slots Qc free r (cf_goTogether C) := by
  intro x1 x2 x3 locs ls hL hl h
  obtain ⟨⟨hx, hb, hr, hlocks, hml, hown, hts⟩, hK⟩ := id X
  unfold cf_goTogether at h
  refine lv_aload_n hx hb dX0_goTogether_0 rfl (lv_at hl 0 rfl) ?_
  refine lv_aload_n hx hb dX0_goTogether_1 rfl (lv_at hl 1 rfl) ?_
  refine lv_iload_n hx hb dX0_goTogether_2 rfl (lv_at hl 3 rfl) ?_
  obtain ⟨v1, q_v1, h⟩ := bd_e h
  refine f_roI (As := [.ref (cDa Y (100 + x1)), .int x3]) (rest := []) X hM (c_recv0 X hM) hL hF (cf_comers_met _ Z Y A C x1 x3 v1 q_v1) (lw_V q683 q685 qs12 q79 q686) cf_comers_hd ⟨rfl, rfl⟩ ⟨Nat.le_trans (m := cf_goTogether_rm.frames) (Nat.le_of_ble_eq_true rfl) hR.1, Nat.le_trans (m := cf_goTogether_rm.locals) (Nat.le_of_ble_eq_true rfl) hR.2.1⟩ ⟨hR.2.2.1, hR.2.2.2⟩ rfl hl.1 rfl (Nat.le_of_ble_eq_true rfl) dX0_goTogether_3 (fun locs hL => ?_)
  refine lv_aload_n hx hb dX0_goTogether_6 rfl (lv_at hl 0 rfl) ?_
  refine lv_aload_n hx hb dX0_goTogether_7 rfl (lv_at hl 2 rfl) ?_
  refine lv_iload_n hx hb dX0_goTogether_8 rfl (lv_at hl 3 rfl) ?_
  obtain ⟨v2, q_v2, h⟩ := bd_e h
  refine f_roI (As := [.ref (cDa Y (100 + x2)), .int x3]) (rest := [.int v1]) X hM (c_recv0 X hM) hL hF (cf_comers_met _ Z Y A C x2 x3 v2 q_v2) (lw_V q683 q685 qs12 q79 q686) cf_comers_hd ⟨rfl, rfl⟩ ⟨Nat.le_trans (m := cf_goTogether_rm.frames) (Nat.le_of_ble_eq_true rfl) hR.1, Nat.le_trans (m := cf_goTogether_rm.locals) (Nat.le_of_ble_eq_true rfl) hR.2.1⟩ ⟨hR.2.2.1, hR.2.2.2⟩ rfl hl.1 rfl (Nat.le_of_ble_eq_true rfl) dX0_goTogether_9 (fun locs hL => ?_)
  refine lv_iand hx hb dX0_goTogether_12 ?_
  refine lv_if_ne (tgt := 20) hx hb dX0_goTogether_13 (by decide) (fun c3 => ?_) (fun c3 => ?_)
  · have h := in_ c3 h
    refine lv_iconst (v := 0) hx hb dX0_goTogether_20 (by decide) ?_
    exact cf_goTogether_w21 X hM hR hF hQ x1 x2 (0 : Int32) _ ls hL (lv_sub hl [0, 1, 2] rfl) h
  · have h := ip_ c3 h
    refine lv_iconst (v := 1) hx hb dX0_goTogether_16 (by decide) ?_
    refine lv_goto (tgt := 21) hx hb dX0_goTogether_17 (by decide) ?_
    exact cf_goTogether_w21 X hM hR hF hQ x1 x2 (1 : Int32) _ ls hL (lv_sub hl [0, 1, 2] rfl) h
theorem cf_goTogether_hd : yX0_goTogether.cls = RX0 ∧ yX0_goTogether.cls ≠ "java/lang/invoke/MethodHandle" ∧ yX0_goTogether.cls ≠ "java/lang/invoke/VarHandle" ∧ (parseMethodDescriptor yX0_goTogether.desc).map (fun d => d.parameters.length) = some 3 := by decide +kernel
theorem cf_goTogether_met (l : Launch) (Z : CZ) (Y : CY) (A : Nat → Prop) (C : St) (x1 : Nat) (x2 : Nat) (x3 : Int32) (r : Int32) (h : cf_goTogether C x1 x2 x3 = some r) : Met l yX0_goTogether (ws_ yX0_goTogether cX0_goTogether 7 (some .boolean)) cf_goTogether_rm (va_Pc [.ref (cSa Z 0), .ref (cDa Y (100 + x1)), .ref (cDa Y (100 + x2)), .int x3] (cS Z Y A C)) (Qro (some (.int r))) 0 0 (cFr Z) := by
  refine Met.ofW (cc := cX0_goTogether) (maxL := 7) (ret := some .boolean) (by decide) rfl ?_
  intro p e s m args below meth c s₁ B hml hv
  obtain ⟨rfl, hv⟩ := hv
  have hts := atoms_spec (ws := ws_ yX0_goTogether cX0_goTogether 7 (some .boolean)) B.pre
  have hts : ∀ w ∈ lw_all, w.before _ s = true := fun w h => hts w (List.mem_cons_of_mem _ h)
  have X : CCx p s m _ meth c cX0_goTogether 7 (some .boolean) RX0 Z := ⟨⟨B.exec, B.bytes, B.returns, B.notSynchronized, hml, findClass_of_methodNamed B.named, hts⟩, hv.2⟩
  have hl := lv_entry [.ref (cSa Z 0), .ref (cDa Y (100 + x1)), .ref (cDa Y (100 + x2)), .int x3] (n := 7) (Nat.le_of_ble_eq_true rfl)
  rw [lg_entry_eq]
  generalize (lg_sl [.ref (cSa Z 0), .ref (cDa Y (100 + x1)), .ref (cDa Y (100 + x2)), .int x3] ++ List.replicate (7 - (lg_sl [.ref (cSa Z 0), .ref (cDa Y (100 + x1)), .ref (cDa Y (100 + x2)), .int x3]).length) Slot.unset).toArray = ls at hl ⊢
  exact cf_goTogether_w0 X hv.1 ⟨Nat.le_refl _, Nat.le_refl _, Nat.le_refl _, Nat.le_refl _⟩ (fun _ h => h) (fun t ht _ => ⟨rfl, ht⟩) x1 x2 x3 [] ls (fun q hq => by cases hq) hl h

/-! SecondChances.likenessOf(II)I -/
def cf_likenessOf_rm : Room := { frames := 4, cells := 0, slots := 0, locals := 91 }
def cf_likenessOf_P69 (p : Program) (l : Launch) (e : Env) (R : Room) (s : State) (m : MethodId) (args : Array Value) (below : List Frame) (meth : Method) (c : Code) (Z : CZ) (Y : CY) (H : Heap) (cells slots : Nat) (Qc : Array Value → State → Outcome → State → Prop) (free : Addr → Prop) (r : Int32) (f : Nat → Int32 → Int32 → Option Int32) : Prop := ∀ (x3 : Nat) (t0 : Int32) (t1 : Int32) (locs : List Loc) (ls : Array Slot), (∀ q ∈ locs, free q.base) → lv_has ls 5 [(0, .ref (cSa Z 0)), (3, .ref (cDa Y (100 + x3)))] → f x3 t0 t1 = some r → W p l e R s m args below meth c H locs cells slots (MQ below Qc args s cells slots free) (F0 m 69 ls [.int t0, .int t1])
def cf_likenessOf_P59 (p : Program) (l : Launch) (e : Env) (R : Room) (s : State) (m : MethodId) (args : Array Value) (below : List Frame) (meth : Method) (c : Code) (Z : CZ) (Y : CY) (H : Heap) (cells slots : Nat) (Qc : Array Value → State → Outcome → State → Prop) (free : Addr → Prop) (r : Int32) (f : Nat → Int32 → Int32 → Option Int32) : Prop := ∀ (x3 : Nat) (x4 : Int32) (t0 : Int32) (locs : List Loc) (ls : Array Slot), (∀ q ∈ locs, free q.base) → lv_has ls 5 [(0, .ref (cSa Z 0)), (3, .ref (cDa Y (100 + x3))), (4, .int x4)] → f x3 x4 t0 = some r → W p l e R s m args below meth c H locs cells slots (MQ below Qc args s cells slots free) (F0 m 59 ls [.int t0])
def cf_likenessOf_P44 (p : Program) (l : Launch) (e : Env) (R : Room) (s : State) (m : MethodId) (args : Array Value) (below : List Frame) (meth : Method) (c : Code) (Z : CZ) (Y : CY) (H : Heap) (cells slots : Nat) (Qc : Array Value → State → Outcome → State → Prop) (free : Addr → Prop) (r : Int32) (f : Nat → Int32 → Option Int32) : Prop := ∀ (x3 : Nat) (t0 : Int32) (locs : List Loc) (ls : Array Slot), (∀ q ∈ locs, free q.base) → lv_has ls 5 [(0, .ref (cSa Z 0)), (3, .ref (cDa Y (100 + x3)))] → f x3 t0 = some r → W p l e R s m args below meth c H locs cells slots (MQ below Qc args s cells slots free) (F0 m 44 ls [.int t0])
def cf_likenessOf_P0 (p : Program) (l : Launch) (e : Env) (R : Room) (s : State) (m : MethodId) (args : Array Value) (below : List Frame) (meth : Method) (c : Code) (Z : CZ) (Y : CY) (H : Heap) (cells slots : Nat) (Qc : Array Value → State → Outcome → State → Prop) (free : Addr → Prop) (r : Int32) (f : Int32 → Int32 → Option Int32) : Prop := ∀ (x1 : Int32) (x2 : Int32) (locs : List Loc) (ls : Array Slot), (∀ q ∈ locs, free q.base) → lv_has ls 5 [(0, .ref (cSa Z 0)), (1, .int x1), (2, .int x2)] → f x1 x2 = some r → W p l e R s m args below meth c H locs cells slots (MQ below Qc args s cells slots free) (F0 m 0 ls [])
def cf_likenessOf_b69 (C : St) (x3 : Nat) (t0 : Int32) (t1 : Int32) : Option Int32 :=
  bd_ (cf_needed C x3) fun v1 =>
  fx_ (cNn C 0) x3 (C (100 + x3) 4) fun v2 =>
  bd_ (cj_bitCount v2) fun v3 =>
  if v3 = 0 then none else
  some ((t1 + t0) + (((3 : Int32) * v1) / v3))
theorem cf_likenessOf_w69 {p : Program} {l : Launch} {e : Env} {R : Room} {s : State} {m : MethodId} {args : Array Value} {below : List Frame} {meth : Method} {c : Code} {Z : CZ} {Y : CY} {A : Nat → Prop} {C : St} {H : Heap} {cells slots : Nat} {Qc : Array Value → State → Outcome → State → Prop} {free : Addr → Prop} (X : CCx p s m args meth c cX0_likenessOf 5 (some .int) RX0 Z) (hM : cPD Z Y A C H) (hR : cf_likenessOf_rm.frames ≤ R.frames ∧ cf_likenessOf_rm.locals ≤ R.locals ∧ cells ≤ R.cells ∧ slots ≤ R.slots) (hF : ∀ q, cFr Z q → free q) {r : Int32} (hQ : ∀ t : State, t.heap = H → s.WarmedH t.vm → Qc args s (.returned (some (.int r))) t) : cf_likenessOf_P69 p l e R s m args below meth c Z Y H cells slots Qc free r (cf_likenessOf_b69 C) := by
  intro x3 t0 t1 locs ls hL hl h
  obtain ⟨⟨hx, hb, hr, hlocks, hml, hown, hts⟩, hK⟩ := id X
  unfold cf_likenessOf_b69 at h
  refine lv_iadd hx hb dX0_likenessOf_69 ?_
  refine lv_iconst (v := 3) hx hb dX0_likenessOf_70 (by decide) ?_
  refine lv_aload_n hx hb dX0_likenessOf_71 rfl (lv_at hl 0 rfl) ?_
  refine lv_aload_n hx hb dX0_likenessOf_72 rfl (lv_at hl 1 rfl) ?_
  obtain ⟨v1, q_v1, h⟩ := bd_e h
  refine f_roI (As := [.ref (cDa Y (100 + x3))]) (rest := [.int (3 : Int32), .int (t1 + t0)]) X hM (c_recv0 X hM) hL hF (cf_needed_met _ Z Y A C x3 v1 q_v1) (lw_V q687 q689 qs13 q79 q690) cf_needed_hd ⟨rfl, rfl⟩ ⟨Nat.le_trans (m := cf_likenessOf_rm.frames) (Nat.le_of_ble_eq_true rfl) hR.1, Nat.le_trans (m := cf_likenessOf_rm.locals) (Nat.le_of_ble_eq_true rfl) hR.2.1⟩ ⟨hR.2.2.1, hR.2.2.2⟩ rfl hl.1 rfl (Nat.le_of_ble_eq_true rfl) dX0_likenessOf_73 (fun locs hL => ?_)
  refine lv_imul hx hb dX0_likenessOf_76 ?_
  refine lv_aload_n hx hb dX0_likenessOf_77 rfl (lv_at hl 1 rfl) ?_
  obtain ⟨b_v2, h⟩ := fx_e h
  refine gq4 X hM b_v2 dX0_likenessOf_78 ?_
  refine lv_topi (fun v2 e_v2 => ?_)
  have h := h v2 e_v2
  obtain ⟨v3, q_v3, h⟩ := bd_e h
  refine s_roI (As := [.int v2]) (rest := [.int ((3 : Int32) * v1), .int (t1 + t0)]) X.1 (cj_bitCount_met _ v2 v3 q_v3) (lw_S q691 q692 q99 q693) cj_bitCount_hd ⟨rfl, rfl⟩ ⟨Nat.le_trans (m := cf_likenessOf_rm.frames) (Nat.le_of_ble_eq_true rfl) hR.1, Nat.le_trans (m := cf_likenessOf_rm.locals) (Nat.le_of_ble_eq_true rfl) hR.2.1⟩ ⟨hR.2.2.1, hR.2.2.2⟩ rfl hl.1 rfl (Nat.le_of_ble_eq_true rfl) dX0_likenessOf_81 ?_
  by_cases c4 : v3 = 0
  · exact no_ (ip_ c4 h)
  have h := in_ c4 h
  refine lv_idiv hx hb dX0_likenessOf_84 c4 ?_
  refine lv_iadd hx hb dX0_likenessOf_85 ?_
  have h := so_ h
  subst h
  exact W.iret hx hb hr (fun t ht hW => hQ t ht hW) hL dX0_likenessOf_86
def cf_likenessOf_b59 (C : St) (x3 : Nat) (x4 : Int32) (t0 : Int32) : Option Int32 :=
  if x4 = 0 then (cf_likenessOf_b69 C x3 (0 : Int32) t0)
  else (cf_likenessOf_b69 C x3 (3 : Int32) t0)
theorem cf_likenessOf_w59 {p : Program} {l : Launch} {e : Env} {R : Room} {s : State} {m : MethodId} {args : Array Value} {below : List Frame} {meth : Method} {c : Code} {Z : CZ} {Y : CY} {A : Nat → Prop} {C : St} {H : Heap} {cells slots : Nat} {Qc : Array Value → State → Outcome → State → Prop} {free : Addr → Prop} (X : CCx p s m args meth c cX0_likenessOf 5 (some .int) RX0 Z) (hM : cPD Z Y A C H) (hR : cf_likenessOf_rm.frames ≤ R.frames ∧ cf_likenessOf_rm.locals ≤ R.locals ∧ cells ≤ R.cells ∧ slots ≤ R.slots) (hF : ∀ q, cFr Z q → free q) {r : Int32} (hQ : ∀ t : State, t.heap = H → s.WarmedH t.vm → Qc args s (.returned (some (.int r))) t) : cf_likenessOf_P59 p l e R s m args below meth c Z Y H cells slots Qc free r (cf_likenessOf_b59 C) := by
  intro x3 x4 t0 locs ls hL hl h
  obtain ⟨⟨hx, hb, hr, hlocks, hml, hown, hts⟩, hK⟩ := id X
  unfold cf_likenessOf_b59 at h
  refine lv_iload hx hb dX0_likenessOf_59 (lv_at hl 2 rfl) ?_
  refine lv_if_eq (tgt := 68) hx hb dX0_likenessOf_61 (by decide) (fun c1 => ?_) (fun c1 => ?_)
  · have h := ip_ c1 h
    refine lv_iconst (v := 0) hx hb dX0_likenessOf_68 (by decide) ?_
    exact cf_likenessOf_w69 X hM hR hF hQ x3 (0 : Int32) t0 _ ls hL (lv_sub hl [0, 1] rfl) h
  · have h := in_ c1 h
    refine lv_iconst (v := 3) hx hb dX0_likenessOf_64 (by decide) ?_
    refine lv_goto (tgt := 69) hx hb dX0_likenessOf_65 (by decide) ?_
    exact cf_likenessOf_w69 X hM hR hF hQ x3 (3 : Int32) t0 _ ls hL (lv_sub hl [0, 1] rfl) h
def cf_likenessOf_b44 (C : St) (x3 : Nat) (t0 : Int32) : Option Int32 :=
  bd_ (cf_asksPlace C x3) fun v1 =>
  if v1 = 0 then (cf_likenessOf_b59 C x3 t0 (0 : Int32))
  else (cf_likenessOf_b59 C x3 t0 (4 : Int32))
theorem cf_likenessOf_w44 {p : Program} {l : Launch} {e : Env} {R : Room} {s : State} {m : MethodId} {args : Array Value} {below : List Frame} {meth : Method} {c : Code} {Z : CZ} {Y : CY} {A : Nat → Prop} {C : St} {H : Heap} {cells slots : Nat} {Qc : Array Value → State → Outcome → State → Prop} {free : Addr → Prop} (X : CCx p s m args meth c cX0_likenessOf 5 (some .int) RX0 Z) (hM : cPD Z Y A C H) (hR : cf_likenessOf_rm.frames ≤ R.frames ∧ cf_likenessOf_rm.locals ≤ R.locals ∧ cells ≤ R.cells ∧ slots ≤ R.slots) (hF : ∀ q, cFr Z q → free q) {r : Int32} (hQ : ∀ t : State, t.heap = H → s.WarmedH t.vm → Qc args s (.returned (some (.int r))) t) : cf_likenessOf_P44 p l e R s m args below meth c Z Y H cells slots Qc free r (cf_likenessOf_b44 C) := by
  intro x3 t0 locs ls hL hl h
  obtain ⟨⟨hx, hb, hr, hlocks, hml, hown, hts⟩, hK⟩ := id X
  unfold cf_likenessOf_b44 at h
  refine lv_istore (lv' := [(4, .int t0), (0, .ref (cSa Z 0)), (3, .ref (cDa Y (100 + x3)))]) hx hb dX0_likenessOf_44 hl (by decide) rfl (fun ls hl => ?_)
  refine lv_aload_n hx hb dX0_likenessOf_46 rfl (lv_at hl 1 rfl) ?_
  refine lv_aload_n hx hb dX0_likenessOf_47 rfl (lv_at hl 2 rfl) ?_
  obtain ⟨v1, q_v1, h⟩ := bd_e h
  refine f_roI (As := [.ref (cDa Y (100 + x3))]) (rest := []) X hM (c_recv0 X hM) hL hF (cf_asksPlace_met _ Z Y A C x3 v1 q_v1) (lw_V q760 q762 qs24 q79 q763) cf_asksPlace_hd ⟨rfl, rfl⟩ ⟨Nat.le_trans (m := cf_likenessOf_rm.frames) (Nat.le_of_ble_eq_true rfl) hR.1, Nat.le_trans (m := cf_likenessOf_rm.locals) (Nat.le_of_ble_eq_true rfl) hR.2.1⟩ ⟨hR.2.2.1, hR.2.2.2⟩ rfl hl.1 rfl (Nat.le_of_ble_eq_true rfl) dX0_likenessOf_48 (fun locs hL => ?_)
  refine lv_if_eq (tgt := 58) hx hb dX0_likenessOf_51 (by decide) (fun c2 => ?_) (fun c2 => ?_)
  · have h := ip_ c2 h
    refine lv_iconst (v := 0) hx hb dX0_likenessOf_58 (by decide) ?_
    exact cf_likenessOf_w59 X hM hR hF hQ x3 t0 (0 : Int32) _ ls hL (lv_sub hl [1, 2, 0] rfl) h
  · have h := in_ c2 h
    refine lv_iconst (v := 4) hx hb dX0_likenessOf_54 (by decide) ?_
    refine lv_goto (tgt := 59) hx hb dX0_likenessOf_55 (by decide) ?_
    exact cf_likenessOf_w59 X hM hR hF hQ x3 t0 (4 : Int32) _ ls hL (lv_sub hl [1, 2, 0] rfl) h
def cf_likenessOf (C : St) (x1 : Int32) (x2 : Int32) : Option Int32 :=
  bd_ (cf_deed_2 C x1) fun v1 =>
  bd_ (cf_canBe C v1 x2) fun v2 =>
  if v2 = 0 then (some (-3 : Int32))
  else (bd_ (cf_asksWeather C v1) fun v4 =>
    if v4 = 0 then (al_ 8 (C 2) x2 fun v6 =>
      fx_ (cNn C 0) v1 (C (100 + v1) 2) fun v7 =>
      if v6 = v7 then (cf_likenessOf_b44 C v1 (1 : Int32))
      else (cf_likenessOf_b44 C v1 (0 : Int32)))
    else (cf_likenessOf_b44 C v1 (1 : Int32)))
theorem cf_likenessOf_w0 {p : Program} {l : Launch} {e : Env} {R : Room} {s : State} {m : MethodId} {args : Array Value} {below : List Frame} {meth : Method} {c : Code} {Z : CZ} {Y : CY} {A : Nat → Prop} {C : St} {H : Heap} {cells slots : Nat} {Qc : Array Value → State → Outcome → State → Prop} {free : Addr → Prop} (X : CCx p s m args meth c cX0_likenessOf 5 (some .int) RX0 Z) (hM : cPD Z Y A C H) (hR : cf_likenessOf_rm.frames ≤ R.frames ∧ cf_likenessOf_rm.locals ≤ R.locals ∧ cells ≤ R.cells ∧ slots ≤ R.slots) (hF : ∀ q, cFr Z q → free q) {r : Int32} (hQ : ∀ t : State, t.heap = H → s.WarmedH t.vm → Qc args s (.returned (some (.int r))) t) : cf_likenessOf_P0 p l e R s m args below meth c Z Y H cells slots Qc free r (cf_likenessOf C) := by
  intro x1 x2 locs ls hL hl h
  obtain ⟨⟨hx, hb, hr, hlocks, hml, hown, hts⟩, hK⟩ := id X
  unfold cf_likenessOf at h
  refine lv_aload_n hx hb dX0_likenessOf_0 rfl (lv_at hl 0 rfl) ?_
  refine lv_iload_n hx hb dX0_likenessOf_1 rfl (lv_at hl 1 rfl) ?_
  obtain ⟨v1, q_v1, h⟩ := bd_e h
  refine f_roR (As := [.int x1]) (rest := []) X hM (c_recv0 X hM) hL hF (cf_deed_2_met _ Z Y A C x1 v1 q_v1) (lw_V q647 q649 qs9 q79 q650) cf_deed_2_hd ⟨rfl, rfl⟩ ⟨Nat.le_trans (m := cf_likenessOf_rm.frames) (Nat.le_of_ble_eq_true rfl) hR.1, Nat.le_trans (m := cf_likenessOf_rm.locals) (Nat.le_of_ble_eq_true rfl) hR.2.1⟩ ⟨hR.2.2.1, hR.2.2.2⟩ rfl hl.1 rfl (Nat.le_of_ble_eq_true rfl) dX0_likenessOf_2 (fun locs hL => ?_)
  refine lv_astore_n (lv' := [(3, .ref (cDa Y (100 + v1))), (0, .ref (cSa Z 0)), (1, .int x1), (2, .int x2)]) hx hb dX0_likenessOf_5 rfl hl (by decide) rfl (fun ls hl => ?_)
  refine lv_aload_n hx hb dX0_likenessOf_6 rfl (lv_at hl 1 rfl) ?_
  refine lv_aload_n hx hb dX0_likenessOf_7 rfl (lv_at hl 0 rfl) ?_
  refine lv_iload_n hx hb dX0_likenessOf_8 rfl (lv_at hl 3 rfl) ?_
  obtain ⟨v2, q_v2, h⟩ := bd_e h
  refine f_roI (As := [.ref (cDa Y (100 + v1)), .int x2]) (rest := []) X hM (c_recv0 X hM) hL hF (cf_canBe_met _ Z Y A C v1 x2 v2 q_v2) (lw_V q679 q681 qs11 q79 q682) cf_canBe_hd ⟨rfl, rfl⟩ ⟨Nat.le_trans (m := cf_likenessOf_rm.frames) (Nat.le_of_ble_eq_true rfl) hR.1, Nat.le_trans (m := cf_likenessOf_rm.locals) (Nat.le_of_ble_eq_true rfl) hR.2.1⟩ ⟨hR.2.2.1, hR.2.2.2⟩ rfl hl.1 rfl (Nat.le_of_ble_eq_true rfl) dX0_likenessOf_9 (fun locs hL => ?_)
  refine lv_if_ne (tgt := 18) hx hb dX0_likenessOf_12 (by decide) (fun c3 => ?_) (fun c3 => ?_)
  · have h := in_ c3 h
    refine lv_aload_n hx hb dX0_likenessOf_18 rfl (lv_at hl 1 rfl) ?_
    refine lv_aload_n hx hb dX0_likenessOf_19 rfl (lv_at hl 0 rfl) ?_
    obtain ⟨v4, q_v4, h⟩ := bd_e h
    refine f_roI (As := [.ref (cDa Y (100 + v1))]) (rest := []) X hM (c_recv0 X hM) hL hF (cf_asksWeather_met _ Z Y A C v1 v4 q_v4) (lw_V q707 q709 qs15 q79 q710) cf_asksWeather_hd ⟨rfl, rfl⟩ ⟨Nat.le_trans (m := cf_likenessOf_rm.frames) (Nat.le_of_ble_eq_true rfl) hR.1, Nat.le_trans (m := cf_likenessOf_rm.locals) (Nat.le_of_ble_eq_true rfl) hR.2.1⟩ ⟨hR.2.2.1, hR.2.2.2⟩ rfl hl.1 rfl (Nat.le_of_ble_eq_true rfl) dX0_likenessOf_20 (fun locs hL => ?_)
    refine lv_if_ne (tgt := 39) hx hb dX0_likenessOf_23 (by decide) (fun c5 => ?_) (fun c5 => ?_)
    · have h := in_ c5 h
      refine lv_iconst (v := 1) hx hb dX0_likenessOf_39 (by decide) ?_
      refine lv_goto (tgt := 44) hx hb dX0_likenessOf_40 (by decide) ?_
      exact cf_likenessOf_w44 X hM hR hF hQ v1 (1 : Int32) _ ls hL (lv_sub hl [1, 0] rfl) h
    · have h := ip_ c5 h
      refine lv_aload_n hx hb dX0_likenessOf_26 rfl (lv_at hl 1 rfl) ?_
      refine gc2 X hM dX0_likenessOf_27 ?_
      refine lv_iload_n hx hb dX0_likenessOf_30 rfl (lv_at hl 3 rfl) ?_
      obtain ⟨i_v6, h⟩ := al_e h
      refine c_ald X hM (k := 2) (cHs_S (by decide)) (fun _ _ _ => rfl) (cAr_s (by decide)) i_v6 dX0_likenessOf_31 (fun v6 e_v6 => ?_)
      have h := h v6 e_v6
      refine lv_aload_n hx hb dX0_likenessOf_32 rfl (lv_at hl 0 rfl) ?_
      obtain ⟨b_v7, h⟩ := fx_e h
      refine gq2 X hM b_v7 dX0_likenessOf_33 ?_
      refine lv_topi (fun v7 e_v7 => ?_)
      have h := h v7 e_v7
      refine lv_icmp_ne (tgt := 43) hx hb dX0_likenessOf_36 (by decide) (fun c8 => ?_) (fun c8 => ?_)
      · have h := in_ c8 h
        refine lv_iconst (v := 0) hx hb dX0_likenessOf_43 (by decide) ?_
        exact cf_likenessOf_w44 X hM hR hF hQ v1 (0 : Int32) _ ls hL (lv_sub hl [1, 0] rfl) h
      · have h := ip_ c8 h
        refine lv_iconst (v := 1) hx hb dX0_likenessOf_39 (by decide) ?_
        refine lv_goto (tgt := 44) hx hb dX0_likenessOf_40 (by decide) ?_
        exact cf_likenessOf_w44 X hM hR hF hQ v1 (1 : Int32) _ ls hL (lv_sub hl [1, 0] rfl) h
  · have h := ip_ c3 h
    refine lv_bipush (v := -3) hx hb dX0_likenessOf_15 (by decide) ?_
    have h := so_ h
    subst h
    exact W.iret hx hb hr (fun t ht hW => hQ t ht hW) hL dX0_likenessOf_17
theorem cf_likenessOf_hd : yX0_likenessOf.cls = RX0 ∧ yX0_likenessOf.cls ≠ "java/lang/invoke/MethodHandle" ∧ yX0_likenessOf.cls ≠ "java/lang/invoke/VarHandle" ∧ (parseMethodDescriptor yX0_likenessOf.desc).map (fun d => d.parameters.length) = some 2 := by decide +kernel
theorem cf_likenessOf_met (l : Launch) (Z : CZ) (Y : CY) (A : Nat → Prop) (C : St) (x1 : Int32) (x2 : Int32) (r : Int32) (h : cf_likenessOf C x1 x2 = some r) : Met l yX0_likenessOf (ws_ yX0_likenessOf cX0_likenessOf 5 (some .int)) cf_likenessOf_rm (va_Pc [.ref (cSa Z 0), .int x1, .int x2] (cS Z Y A C)) (Qro (some (.int r))) 0 0 (cFr Z) := by
  refine Met.ofW (cc := cX0_likenessOf) (maxL := 5) (ret := some .int) (by decide) rfl ?_
  intro p e s m args below meth c s₁ B hml hv
  obtain ⟨rfl, hv⟩ := hv
  have hts := atoms_spec (ws := ws_ yX0_likenessOf cX0_likenessOf 5 (some .int)) B.pre
  have hts : ∀ w ∈ lw_all, w.before _ s = true := fun w h => hts w (List.mem_cons_of_mem _ h)
  have X : CCx p s m _ meth c cX0_likenessOf 5 (some .int) RX0 Z := ⟨⟨B.exec, B.bytes, B.returns, B.notSynchronized, hml, findClass_of_methodNamed B.named, hts⟩, hv.2⟩
  have hl := lv_entry [.ref (cSa Z 0), .int x1, .int x2] (n := 5) (Nat.le_of_ble_eq_true rfl)
  rw [lg_entry_eq]
  generalize (lg_sl [.ref (cSa Z 0), .int x1, .int x2] ++ List.replicate (5 - (lg_sl [.ref (cSa Z 0), .int x1, .int x2]).length) Slot.unset).toArray = ls at hl ⊢
  exact cf_likenessOf_w0 X hv.1 ⟨Nat.le_refl _, Nat.le_refl _, Nat.le_refl _, Nat.le_refl _⟩ (fun _ h => h) (fun t ht _ => ⟨rfl, ht⟩) x1 x2 [] ls (fun q hq => by cases hq) hl h

/-! SecondChances.isSight(I)Z -/
def cf_isSight_rm : Room := { frames := 1, cells := 0, slots := 0, locals := 25 }
def cf_isSight_P0 (p : Program) (l : Launch) (e : Env) (R : Room) (s : State) (m : MethodId) (args : Array Value) (below : List Frame) (meth : Method) (c : Code) (Z : CZ) (Y : CY) (H : Heap) (cells slots : Nat) (Qc : Array Value → State → Outcome → State → Prop) (free : Addr → Prop) (r : Int32) (f : Int32 → Option Int32) : Prop := ∀ (x1 : Int32) (locs : List Loc) (ls : Array Slot), (∀ q ∈ locs, free q.base) → lv_has ls 2 [(0, .ref (cSa Z 0)), (1, .int x1)] → f x1 = some r → W p l e R s m args below meth c H locs cells slots (MQ below Qc args s cells slots free) (F0 m 0 ls [])
def cf_isSight (C : St) (x1 : Int32) : Option Int32 :=
  bd_ (cfL_size C 1 ) fun v1 =>
  bd_ (cf_in (x1.toInt64) (0 : Int64) ((v1 - (1 : Int32)).toInt64)) fun v2 =>
  if zb v2 = true then some v2 else none
theorem cf_isSight_w0 {p : Program} {l : Launch} {e : Env} {R : Room} {s : State} {m : MethodId} {args : Array Value} {below : List Frame} {meth : Method} {c : Code} {Z : CZ} {Y : CY} {A : Nat → Prop} {C : St} {H : Heap} {cells slots : Nat} {Qc : Array Value → State → Outcome → State → Prop} {free : Addr → Prop} (X : CCx p s m args meth c cX0_isSight 2 (some .boolean) RX0 Z) (hM : cPD Z Y A C H) (hR : cf_isSight_rm.frames ≤ R.frames ∧ cf_isSight_rm.locals ≤ R.locals ∧ cells ≤ R.cells ∧ slots ≤ R.slots) (hF : ∀ q, cFr Z q → free q) {r : Int32} (hQ : ∀ t : State, t.heap = H → s.WarmedH t.vm → Qc args s (.returned (some (.int r))) t) : cf_isSight_P0 p l e R s m args below meth c Z Y H cells slots Qc free r (cf_isSight C) := by
  intro x1 locs ls hL hl h
  obtain ⟨⟨hx, hb, hr, hlocks, hml, hown, hts⟩, hK⟩ := id X
  unfold cf_isSight at h
  refine lv_iload_n hx hb dX0_isSight_0 rfl (lv_at hl 1 rfl) ?_
  refine lv_i2l hx hb dX0_isSight_1 rfl ?_
  refine lv_lconst (v := 0) hx hb dX0_isSight_2 (by decide) ?_
  refine lv_aload_n hx hb dX0_isSight_3 rfl (lv_at hl 0 rfl) ?_
  refine gc17 X hM dX0_isSight_4 ?_
  obtain ⟨v1, q_v1, h⟩ := bd_e h
  refine f_roI (As := []) (rest := [.long (0 : Int64), .long (x1.toInt64)]) X hM (c_recvL (j := 1) X hM (by decide)) hL hF (cfL_size_met _ Z Y A C 1  v1 q_v1) (lw_V q641 q418 q419 q85 q420) cfL_size_hd ⟨rfl, rfl⟩ ⟨Nat.le_trans (m := cf_isSight_rm.frames) (Nat.le_of_ble_eq_true rfl) hR.1, Nat.le_trans (m := cf_isSight_rm.locals) (Nat.le_of_ble_eq_true rfl) hR.2.1⟩ ⟨hR.2.2.1, hR.2.2.2⟩ rfl hl.1 rfl (Nat.le_of_ble_eq_true rfl) dX0_isSight_7 (fun locs hL => ?_)
  refine lv_iconst (v := 1) hx hb dX0_isSight_10 (by decide) ?_
  refine lv_isub hx hb dX0_isSight_11 ?_
  refine lv_i2l hx hb dX0_isSight_12 rfl ?_
  obtain ⟨v2, q_v2, h⟩ := bd_e h
  refine s_roI (As := [.long (x1.toInt64), .long (0 : Int64), .long ((v1 - (1 : Int32)).toInt64)]) (rest := []) X.1 (cf_in_met _ (x1.toInt64) (0 : Int64) ((v1 - (1 : Int32)).toInt64) v2 q_v2) (lw_S q298 q299 q79 q300) cf_in_hd ⟨rfl, rfl⟩ ⟨Nat.le_trans (m := cf_isSight_rm.frames) (Nat.le_of_ble_eq_true rfl) hR.1, Nat.le_trans (m := cf_isSight_rm.locals) (Nat.le_of_ble_eq_true rfl) hR.2.1⟩ ⟨hR.2.2.1, hR.2.2.2⟩ rfl hl.1 rfl (Nat.le_of_ble_eq_true rfl) dX0_isSight_13 ?_
  by_cases c3 : zb v2 = true
  case neg => exact no_ (in_ c3 h)
  have h := ip_ c3 h
  have h := so_ h
  subst h
  exact W.zret hx hb hr (zb_n c3) (fun t ht hW => hQ t ht hW) hL dX0_isSight_16
theorem cf_isSight_hd : yX0_isSight.cls = RX0 ∧ yX0_isSight.cls ≠ "java/lang/invoke/MethodHandle" ∧ yX0_isSight.cls ≠ "java/lang/invoke/VarHandle" ∧ (parseMethodDescriptor yX0_isSight.desc).map (fun d => d.parameters.length) = some 1 := by decide +kernel
theorem cf_isSight_met (l : Launch) (Z : CZ) (Y : CY) (A : Nat → Prop) (C : St) (x1 : Int32) (r : Int32) (h : cf_isSight C x1 = some r) : Met l yX0_isSight (ws_ yX0_isSight cX0_isSight 2 (some .boolean)) cf_isSight_rm (va_Pc [.ref (cSa Z 0), .int x1] (cS Z Y A C)) (Qro (some (.int r))) 0 0 (cFr Z) := by
  refine Met.ofW (cc := cX0_isSight) (maxL := 2) (ret := some .boolean) (by decide) rfl ?_
  intro p e s m args below meth c s₁ B hml hv
  obtain ⟨rfl, hv⟩ := hv
  have hts := atoms_spec (ws := ws_ yX0_isSight cX0_isSight 2 (some .boolean)) B.pre
  have hts : ∀ w ∈ lw_all, w.before _ s = true := fun w h => hts w (List.mem_cons_of_mem _ h)
  have X : CCx p s m _ meth c cX0_isSight 2 (some .boolean) RX0 Z := ⟨⟨B.exec, B.bytes, B.returns, B.notSynchronized, hml, findClass_of_methodNamed B.named, hts⟩, hv.2⟩
  have hl := lv_entry [.ref (cSa Z 0), .int x1] (n := 2) (Nat.le_of_ble_eq_true rfl)
  rw [lg_entry_eq]
  generalize (lg_sl [.ref (cSa Z 0), .int x1] ++ List.replicate (2 - (lg_sl [.ref (cSa Z 0), .int x1]).length) Slot.unset).toArray = ls at hl ⊢
  exact cf_isSight_w0 X hv.1 ⟨Nat.le_refl _, Nat.le_refl _, Nat.le_refl _, Nat.le_refl _⟩ (fun _ h => h) (fun t ht _ => ⟨rfl, ht⟩) x1 [] ls (fun q hq => by cases hq) hl h

/-! SecondChances.isFalse(II)I -/
def cf_isFalse_rm : Room := { frames := 3, cells := 0, slots := 0, locals := 64 }
def cf_isFalse_P0 (p : Program) (l : Launch) (e : Env) (R : Room) (s : State) (m : MethodId) (args : Array Value) (below : List Frame) (meth : Method) (c : Code) (Z : CZ) (Y : CY) (H : Heap) (cells slots : Nat) (Qc : Array Value → State → Outcome → State → Prop) (free : Addr → Prop) (r : Int32) (f : Int32 → Int32 → Option Int32) : Prop := ∀ (x1 : Int32) (x2 : Int32) (locs : List Loc) (ls : Array Slot), (∀ q ∈ locs, free q.base) → lv_has ls 3 [(0, .ref (cSa Z 0)), (1, .int x1), (2, .int x2)] → f x1 x2 = some r → W p l e R s m args below meth c H locs cells slots (MQ below Qc args s cells slots free) (F0 m 0 ls [])
def cf_isFalse (C : St) (x1 : Int32) (x2 : Int32) : Option Int32 :=
  bd_ (cf_isSight C x1) fun v1 =>
  if v1 = 0 then (some (-2 : Int32))
  else (bd_ (cf_isSight C x2) fun v3 =>
    if v3 = 0 then (some (-2 : Int32))
    else (if x1 = x2 then (some (-2 : Int32))
      else (bd_ (cfL_get C 1 x1) fun v6 =>
        gd_ (v6 < cNn C 1) <|
        bd_ (cfL_get C 1 x2) fun v8 =>
        gd_ (v8 < cNn C 1) <|
        gd_ (v6 < cNn C 1) <|
        bd_ (cfG_isFalse C v6 v8) fun v11 =>
        if v11 = 0 then (some (0 : Int32))
        else (some (1 : Int32)))))
theorem cf_isFalse_w0 {p : Program} {l : Launch} {e : Env} {R : Room} {s : State} {m : MethodId} {args : Array Value} {below : List Frame} {meth : Method} {c : Code} {Z : CZ} {Y : CY} {A : Nat → Prop} {C : St} {H : Heap} {cells slots : Nat} {Qc : Array Value → State → Outcome → State → Prop} {free : Addr → Prop} (X : CCx p s m args meth c cX0_isFalse 3 (some .int) RX0 Z) (hM : cPD Z Y A C H) (hR : cf_isFalse_rm.frames ≤ R.frames ∧ cf_isFalse_rm.locals ≤ R.locals ∧ cells ≤ R.cells ∧ slots ≤ R.slots) (hF : ∀ q, cFr Z q → free q) {r : Int32} (hQ : ∀ t : State, t.heap = H → s.WarmedH t.vm → Qc args s (.returned (some (.int r))) t) : cf_isFalse_P0 p l e R s m args below meth c Z Y H cells slots Qc free r (cf_isFalse C) := by
  intro x1 x2 locs ls hL hl h
  obtain ⟨⟨hx, hb, hr, hlocks, hml, hown, hts⟩, hK⟩ := id X
  unfold cf_isFalse at h
  refine lv_aload_n hx hb dX0_isFalse_0 rfl (lv_at hl 0 rfl) ?_
  refine lv_iload_n hx hb dX0_isFalse_1 rfl (lv_at hl 1 rfl) ?_
  obtain ⟨v1, q_v1, h⟩ := bd_e h
  refine f_roI (As := [.int x1]) (rest := []) X hM (c_recv0 X hM) hL hF (cf_isSight_met _ Z Y A C x1 v1 q_v1) (lw_V q859 q861 qs33 q79 q862) cf_isSight_hd ⟨rfl, rfl⟩ ⟨Nat.le_trans (m := cf_isFalse_rm.frames) (Nat.le_of_ble_eq_true rfl) hR.1, Nat.le_trans (m := cf_isFalse_rm.locals) (Nat.le_of_ble_eq_true rfl) hR.2.1⟩ ⟨hR.2.2.1, hR.2.2.2⟩ rfl hl.1 rfl (Nat.le_of_ble_eq_true rfl) dX0_isFalse_2 (fun locs hL => ?_)
  refine lv_if_eq (tgt := 57) hx hb dX0_isFalse_5 (by decide) (fun c2 => ?_) (fun c2 => ?_)
  · have h := ip_ c2 h
    refine lv_bipush (v := -2) hx hb dX0_isFalse_57 (by decide) ?_
    have h := so_ h
    subst h
    exact W.iret hx hb hr (fun t ht hW => hQ t ht hW) hL dX0_isFalse_59
  · have h := in_ c2 h
    refine lv_aload_n hx hb dX0_isFalse_8 rfl (lv_at hl 0 rfl) ?_
    refine lv_iload_n hx hb dX0_isFalse_9 rfl (lv_at hl 2 rfl) ?_
    obtain ⟨v3, q_v3, h⟩ := bd_e h
    refine f_roI (As := [.int x2]) (rest := []) X hM (c_recv0 X hM) hL hF (cf_isSight_met _ Z Y A C x2 v3 q_v3) (lw_V q859 q861 qs33 q79 q862) cf_isSight_hd ⟨rfl, rfl⟩ ⟨Nat.le_trans (m := cf_isFalse_rm.frames) (Nat.le_of_ble_eq_true rfl) hR.1, Nat.le_trans (m := cf_isFalse_rm.locals) (Nat.le_of_ble_eq_true rfl) hR.2.1⟩ ⟨hR.2.2.1, hR.2.2.2⟩ rfl hl.1 rfl (Nat.le_of_ble_eq_true rfl) dX0_isFalse_10 (fun locs hL => ?_)
    refine lv_if_eq (tgt := 57) hx hb dX0_isFalse_13 (by decide) (fun c4 => ?_) (fun c4 => ?_)
    · have h := ip_ c4 h
      refine lv_bipush (v := -2) hx hb dX0_isFalse_57 (by decide) ?_
      have h := so_ h
      subst h
      exact W.iret hx hb hr (fun t ht hW => hQ t ht hW) hL dX0_isFalse_59
    · have h := in_ c4 h
      refine lv_iload_n hx hb dX0_isFalse_16 rfl (lv_at hl 1 rfl) ?_
      refine lv_iload_n hx hb dX0_isFalse_17 rfl (lv_at hl 2 rfl) ?_
      refine lv_icmp_eq (tgt := 57) hx hb dX0_isFalse_18 (by decide) (fun c5 => ?_) (fun c5 => ?_)
      · have h := ip_ c5 h
        refine lv_bipush (v := -2) hx hb dX0_isFalse_57 (by decide) ?_
        have h := so_ h
        subst h
        exact W.iret hx hb hr (fun t ht hW => hQ t ht hW) hL dX0_isFalse_59
      · have h := in_ c5 h
        refine lv_aload_n hx hb dX0_isFalse_21 rfl (lv_at hl 0 rfl) ?_
        refine gc17 X hM dX0_isFalse_22 ?_
        refine lv_iload_n hx hb dX0_isFalse_25 rfl (lv_at hl 1 rfl) ?_
        obtain ⟨v6, q_v6, h⟩ := bd_e h
        refine f_roR (As := [.int x1]) (rest := []) X hM (c_recvL (j := 1) X hM (by decide)) hL hF (cfL_get_met _ Z Y A C 1 x1 v6 q_v6) (lw_V q651 q652 q653 q85 q654) cfL_get_hd ⟨rfl, rfl⟩ ⟨Nat.le_trans (m := cf_isFalse_rm.frames) (Nat.le_of_ble_eq_true rfl) hR.1, Nat.le_trans (m := cf_isFalse_rm.locals) (Nat.le_of_ble_eq_true rfl) hR.2.1⟩ ⟨hR.2.2.1, hR.2.2.2⟩ rfl hl.1 rfl (Nat.le_of_ble_eq_true rfl) dX0_isFalse_26 (fun locs hL => ?_)
        obtain ⟨b7, h⟩ := gd_e h
        refine c_castG X hM b7 (hts _ q838) dX0_isFalse_29 ?_
        refine lv_aload_n hx hb dX0_isFalse_32 rfl (lv_at hl 0 rfl) ?_
        refine gc17 X hM dX0_isFalse_33 ?_
        refine lv_iload_n hx hb dX0_isFalse_36 rfl (lv_at hl 2 rfl) ?_
        obtain ⟨v8, q_v8, h⟩ := bd_e h
        refine f_roR (As := [.int x2]) (rest := [.ref (cDa Y (200 + v6))]) X hM (c_recvL (j := 1) X hM (by decide)) hL hF (cfL_get_met _ Z Y A C 1 x2 v8 q_v8) (lw_V q651 q652 q653 q85 q654) cfL_get_hd ⟨rfl, rfl⟩ ⟨Nat.le_trans (m := cf_isFalse_rm.frames) (Nat.le_of_ble_eq_true rfl) hR.1, Nat.le_trans (m := cf_isFalse_rm.locals) (Nat.le_of_ble_eq_true rfl) hR.2.1⟩ ⟨hR.2.2.1, hR.2.2.2⟩ rfl hl.1 rfl (Nat.le_of_ble_eq_true rfl) dX0_isFalse_37 (fun locs hL => ?_)
        obtain ⟨b9, h⟩ := gd_e h
        refine c_castG X hM b9 (hts _ q838) dX0_isFalse_40 ?_
        obtain ⟨b10, h⟩ := gd_e h
        obtain ⟨v11, q_v11, h⟩ := bd_e h
        refine f_roI (As := [.ref (cDa Y (200 + v8))]) (rest := []) X hM (c_recvG X hM b10) hL hF (cfG_isFalse_met _ Z Y A C v6 v8 v11 q_v11) (lw_V q863 q864 q865 q100 q866) cfG_isFalse_hd ⟨rfl, rfl⟩ ⟨Nat.le_trans (m := cf_isFalse_rm.frames) (Nat.le_of_ble_eq_true rfl) hR.1, Nat.le_trans (m := cf_isFalse_rm.locals) (Nat.le_of_ble_eq_true rfl) hR.2.1⟩ ⟨hR.2.2.1, hR.2.2.2⟩ rfl hl.1 rfl (Nat.le_of_ble_eq_true rfl) dX0_isFalse_43 (fun locs hL => ?_)
        refine lv_if_eq (tgt := 53) hx hb dX0_isFalse_46 (by decide) (fun c12 => ?_) (fun c12 => ?_)
        · have h := ip_ c12 h
          refine lv_iconst (v := 0) hx hb dX0_isFalse_53 (by decide) ?_
          refine lv_goto (tgt := 59) hx hb dX0_isFalse_54 (by decide) ?_
          have h := so_ h
          subst h
          exact W.iret hx hb hr (fun t ht hW => hQ t ht hW) hL dX0_isFalse_59
        · have h := in_ c12 h
          refine lv_iconst (v := 1) hx hb dX0_isFalse_49 (by decide) ?_
          refine lv_goto (tgt := 59) hx hb dX0_isFalse_50 (by decide) ?_
          have h := so_ h
          subst h
          exact W.iret hx hb hr (fun t ht hW => hQ t ht hW) hL dX0_isFalse_59
theorem cf_isFalse_hd : yX0_isFalse.cls = RX0 ∧ yX0_isFalse.cls ≠ "java/lang/invoke/MethodHandle" ∧ yX0_isFalse.cls ≠ "java/lang/invoke/VarHandle" ∧ (parseMethodDescriptor yX0_isFalse.desc).map (fun d => d.parameters.length) = some 2 := by decide +kernel
theorem cf_isFalse_met (l : Launch) (Z : CZ) (Y : CY) (A : Nat → Prop) (C : St) (x1 : Int32) (x2 : Int32) (r : Int32) (h : cf_isFalse C x1 x2 = some r) : Met l yX0_isFalse (ws_ yX0_isFalse cX0_isFalse 3 (some .int)) cf_isFalse_rm (va_Pc [.ref (cSa Z 0), .int x1, .int x2] (cS Z Y A C)) (Qro (some (.int r))) 0 0 (cFr Z) := by
  refine Met.ofW (cc := cX0_isFalse) (maxL := 3) (ret := some .int) (by decide) rfl ?_
  intro p e s m args below meth c s₁ B hml hv
  obtain ⟨rfl, hv⟩ := hv
  have hts := atoms_spec (ws := ws_ yX0_isFalse cX0_isFalse 3 (some .int)) B.pre
  have hts : ∀ w ∈ lw_all, w.before _ s = true := fun w h => hts w (List.mem_cons_of_mem _ h)
  have X : CCx p s m _ meth c cX0_isFalse 3 (some .int) RX0 Z := ⟨⟨B.exec, B.bytes, B.returns, B.notSynchronized, hml, findClass_of_methodNamed B.named, hts⟩, hv.2⟩
  have hl := lv_entry [.ref (cSa Z 0), .int x1, .int x2] (n := 3) (Nat.le_of_ble_eq_true rfl)
  rw [lg_entry_eq]
  generalize (lg_sl [.ref (cSa Z 0), .int x1, .int x2] ++ List.replicate (3 - (lg_sl [.ref (cSa Z 0), .int x1, .int x2]).length) Slot.unset).toArray = ls at hl ⊢
  exact cf_isFalse_w0 X hv.1 ⟨Nat.le_refl _, Nat.le_refl _, Nat.le_refl _, Nat.le_refl _⟩ (fun _ h => h) (fun t ht _ => ⟨rfl, ht⟩) x1 x2 [] ls (fun q hq => by cases hq) hl h

/-! SecondChances.isClean(I)Z -/
def cf_isClean_rm : Room := { frames := 3, cells := 0, slots := 0, locals := 64 }
def cf_isClean_P76 (p : Program) (l : Launch) (e : Env) (R : Room) (s : State) (m : MethodId) (args : Array Value) (below : List Frame) (meth : Method) (c : Code) (Z : CZ) (Y : CY) (H : Heap) (cells slots : Nat) (Qc : Array Value → State → Outcome → State → Prop) (free : Addr → Prop) (r : Int32) (f : Int32 → Int32 → Int32 → Int32 → Int32 → Option Int32) : Prop := ∀ (x1 : Int32) (x3 : Int32) (x4 : Int32) (t0 : Int32) (t1 : Int32) (locs : List Loc) (ls : Array Slot), (∀ q ∈ locs, free q.base) → lv_has ls 5 [(0, .ref (cSa Z 0)), (1, .int x1), (3, .int x3), (4, .int x4)] → f x1 x3 x4 t0 t1 = some r → W p l e R s m args below meth c H locs cells slots (MQ below Qc args s cells slots free) (F0 m 76 ls [.int t0, .int t1])
def cf_isClean_P18 (p : Program) (l : Launch) (e : Env) (R : Room) (s : State) (m : MethodId) (args : Array Value) (below : List Frame) (meth : Method) (c : Code) (Z : CZ) (Y : CY) (H : Heap) (cells slots : Nat) (Qc : Array Value → State → Outcome → State → Prop) (free : Addr → Prop) (r : Int32) (f : Int32 → Int32 → Int32 → Int32 → Option Int32) : Prop := ∀ (x1 : Int32) (x2 : Int32) (x3 : Int32) (x4 : Int32) (locs : List Loc) (ls : Array Slot), (∀ q ∈ locs, free q.base) → lv_has ls 5 [(0, .ref (cSa Z 0)), (1, .int x1), (2, .int x2), (3, .int x3), (4, .int x4)] → f x1 x2 x3 x4 = some r → W p l e R s m args below meth c H locs cells slots (MQ below Qc args s cells slots free) (F0 m 18 ls [])
def cf_isClean_P4 (p : Program) (l : Launch) (e : Env) (R : Room) (s : State) (m : MethodId) (args : Array Value) (below : List Frame) (meth : Method) (c : Code) (Z : CZ) (Y : CY) (H : Heap) (cells slots : Nat) (Qc : Array Value → State → Outcome → State → Prop) (free : Addr → Prop) (r : Int32) (f : Int32 → Int32 → Int32 → Option Int32) : Prop := ∀ (x1 : Int32) (x2 : Int32) (x3 : Int32) (locs : List Loc) (ls : Array Slot), (∀ q ∈ locs, free q.base) → lv_has ls 5 [(0, .ref (cSa Z 0)), (1, .int x1), (2, .int x2), (3, .int x3)] → f x1 x2 x3 = some r → W p l e R s m args below meth c H locs cells slots (MQ below Qc args s cells slots free) (F0 m 4 ls [])
def cf_isClean_P0 (p : Program) (l : Launch) (e : Env) (R : Room) (s : State) (m : MethodId) (args : Array Value) (below : List Frame) (meth : Method) (c : Code) (Z : CZ) (Y : CY) (H : Heap) (cells slots : Nat) (Qc : Array Value → State → Outcome → State → Prop) (free : Addr → Prop) (r : Int32) (f : Int32 → Option Int32) : Prop := ∀ (x1 : Int32) (locs : List Loc) (ls : Array Slot), (∀ q ∈ locs, free q.base) → lv_has ls 5 [(0, .ref (cSa Z 0)), (1, .int x1)] → f x1 = some r → W p l e R s m args below meth c H locs cells slots (MQ below Qc args s cells slots free) (F0 m 0 ls [])
def cf_isClean_b76 (C : St) (k4 : Int32 → Int32 → Int32 → Option Int32) (k18 : Int32 → Int32 → Int32 → Int32 → Option Int32) (x1 : Int32) (x3 : Int32) (x4 : Int32) (t0 : Int32) (t1 : Int32) : Option Int32 :=
  lt_ (t1 &&& t0) fun v1 =>
  k18 x1 v1 x3 (x4 + 1)
theorem cf_isClean_w76 {p : Program} {l : Launch} {e : Env} {R : Room} {s : State} {m : MethodId} {args : Array Value} {below : List Frame} {meth : Method} {c : Code} {Z : CZ} {Y : CY} {A : Nat → Prop} {C : St} {H : Heap} {cells slots : Nat} {Qc : Array Value → State → Outcome → State → Prop} {free : Addr → Prop} (X : CCx p s m args meth c cX0_isClean 5 (some .boolean) RX0 Z) (hM : cPD Z Y A C H) (hR : cf_isClean_rm.frames ≤ R.frames ∧ cf_isClean_rm.locals ≤ R.locals ∧ cells ≤ R.cells ∧ slots ≤ R.slots) (hF : ∀ q, cFr Z q → free q) {r : Int32} (hQ : ∀ t : State, t.heap = H → s.WarmedH t.vm → Qc args s (.returned (some (.int r))) t) {k4 : Int32 → Int32 → Int32 → Option Int32} (hk4 : cf_isClean_P4 p l e R s m args below meth c Z Y H cells slots Qc free r k4) {k18 : Int32 → Int32 → Int32 → Int32 → Option Int32} (hk18 : cf_isClean_P18 p l e R s m args below meth c Z Y H cells slots Qc free r k18) : cf_isClean_P76 p l e R s m args below meth c Z Y H cells slots Qc free r (cf_isClean_b76 C k4 k18) := by
  intro x1 x3 x4 t0 t1 locs ls hL hl h
  obtain ⟨⟨hx, hb, hr, hlocks, hml, hown, hts⟩, hK⟩ := id X
  unfold cf_isClean_b76 at h
  refine lv_iand hx hb dX0_isClean_76 ?_
  refine lv_topi (fun v1 e_v1 => ?_)
  have h := lt_i h e_v1
  refine lv_istore_n (lv' := [(2, .int v1), (0, .ref (cSa Z 0)), (1, .int x1), (3, .int x3), (4, .int x4)]) hx hb dX0_isClean_77 rfl hl (by decide) rfl (fun ls hl => ?_)
  refine lv_iinc (v := (x4 + 1)) (lv' := [(4, .int (x4 + 1)), (2, .int v1), (0, .ref (cSa Z 0)), (1, .int x1), (3, .int x3)]) hx hb dX0_isClean_78 hl (k := 4) rfl rfl (by decide) rfl (fun ls hl => ?_)
  refine lv_goto (tgt := 18) hx hb dX0_isClean_81 (by decide) ?_
  exact hk18 x1 v1 x3 (x4 + 1) _ ls hL (lv_sub hl [2, 3, 1, 4, 0] rfl) h
def cf_isClean_b18 (C : St) (k4 : Int32 → Int32 → Int32 → Option Int32) (k18 : Int32 → Int32 → Int32 → Int32 → Option Int32) (x1 : Int32) (x2 : Int32) (x3 : Int32) (x4 : Int32) : Option Int32 :=
  if x3 ≤ x4 then (k4 x1 x2 (x3 + 1))
  else (bd_ (cf_isIn x1 x3) fun v2 =>
    if v2 = 0 then (bd_ (cf_isIn x1 x4) fun v4 =>
      if v4 = 0 then (bd_ (cfL_get C 1 x3) fun v6 =>
        gd_ (v6 < cNn C 1) <|
        bd_ (cfL_get C 1 x4) fun v8 =>
        gd_ (v8 < cNn C 1) <|
        gd_ (v6 < cNn C 1) <|
        bd_ (cfG_isFalse C v6 v8) fun v11 =>
        if v11 = 0 then (cf_isClean_b76 C k4 k18 x1 x3 x4 (1 : Int32) x2)
        else (cf_isClean_b76 C k4 k18 x1 x3 x4 (0 : Int32) x2))
      else (cf_isClean_b76 C k4 k18 x1 x3 x4 (1 : Int32) x2))
    else (cf_isClean_b76 C k4 k18 x1 x3 x4 (1 : Int32) x2))
theorem cf_isClean_w18 {p : Program} {l : Launch} {e : Env} {R : Room} {s : State} {m : MethodId} {args : Array Value} {below : List Frame} {meth : Method} {c : Code} {Z : CZ} {Y : CY} {A : Nat → Prop} {C : St} {H : Heap} {cells slots : Nat} {Qc : Array Value → State → Outcome → State → Prop} {free : Addr → Prop} (X : CCx p s m args meth c cX0_isClean 5 (some .boolean) RX0 Z) (hM : cPD Z Y A C H) (hR : cf_isClean_rm.frames ≤ R.frames ∧ cf_isClean_rm.locals ≤ R.locals ∧ cells ≤ R.cells ∧ slots ≤ R.slots) (hF : ∀ q, cFr Z q → free q) {r : Int32} (hQ : ∀ t : State, t.heap = H → s.WarmedH t.vm → Qc args s (.returned (some (.int r))) t) {k4 : Int32 → Int32 → Int32 → Option Int32} (hk4 : cf_isClean_P4 p l e R s m args below meth c Z Y H cells slots Qc free r k4) {k18 : Int32 → Int32 → Int32 → Int32 → Option Int32} (hk18 : cf_isClean_P18 p l e R s m args below meth c Z Y H cells slots Qc free r k18) : cf_isClean_P18 p l e R s m args below meth c Z Y H cells slots Qc free r (cf_isClean_b18 C k4 k18) := by
  intro x1 x2 x3 x4 locs ls hL hl h
  obtain ⟨⟨hx, hb, hr, hlocks, hml, hown, hts⟩, hK⟩ := id X
  unfold cf_isClean_b18 at h
  refine lv_iload hx hb dX0_isClean_18 (lv_at hl 4 rfl) ?_
  refine lv_iload_n hx hb dX0_isClean_20 rfl (lv_at hl 3 rfl) ?_
  refine lv_icmp_ge (tgt := 84) hx hb dX0_isClean_21 (by decide) (fun c1 => ?_) (fun c1 => ?_)
  · have h := ip_ c1 h
    refine lv_iinc (v := (x3 + 1)) (lv' := [(3, .int (x3 + 1)), (0, .ref (cSa Z 0)), (1, .int x1), (2, .int x2), (4, .int x4)]) hx hb dX0_isClean_84 hl (k := 3) rfl rfl (by decide) rfl (fun ls hl => ?_)
    refine lv_goto (tgt := 4) hx hb dX0_isClean_87 (by decide) ?_
    exact hk4 x1 x2 (x3 + 1) _ ls hL (lv_sub hl [1, 2, 3, 0] rfl) h
  · have h := in_ c1 h
    refine lv_iload_n hx hb dX0_isClean_24 rfl (lv_at hl 2 rfl) ?_
    refine lv_iload_n hx hb dX0_isClean_25 rfl (lv_at hl 1 rfl) ?_
    refine lv_iload_n hx hb dX0_isClean_26 rfl (lv_at hl 3 rfl) ?_
    obtain ⟨v2, q_v2, h⟩ := bd_e h
    refine s_roI (As := [.int x1, .int x3]) (rest := [.int x2]) X.1 (cf_isIn_met _ x1 x3 v2 q_v2) (lw_S q698 q550 q79 q551) cf_isIn_hd ⟨rfl, rfl⟩ ⟨Nat.le_trans (m := cf_isClean_rm.frames) (Nat.le_of_ble_eq_true rfl) hR.1, Nat.le_trans (m := cf_isClean_rm.locals) (Nat.le_of_ble_eq_true rfl) hR.2.1⟩ ⟨hR.2.2.1, hR.2.2.2⟩ rfl hl.1 rfl (Nat.le_of_ble_eq_true rfl) dX0_isClean_27 ?_
    refine lv_if_ne (tgt := 71) hx hb dX0_isClean_30 (by decide) (fun c3 => ?_) (fun c3 => ?_)
    · have h := in_ c3 h
      refine lv_iconst (v := 1) hx hb dX0_isClean_71 (by decide) ?_
      refine lv_goto (tgt := 76) hx hb dX0_isClean_72 (by decide) ?_
      exact cf_isClean_w76 X hM hR hF hQ hk4 hk18 x1 x3 x4 (1 : Int32) x2 _ ls hL (lv_sub hl [0, 1, 3, 4] rfl) h
    · have h := ip_ c3 h
      refine lv_iload_n hx hb dX0_isClean_33 rfl (lv_at hl 1 rfl) ?_
      refine lv_iload hx hb dX0_isClean_34 (lv_at hl 4 rfl) ?_
      obtain ⟨v4, q_v4, h⟩ := bd_e h
      refine s_roI (As := [.int x1, .int x4]) (rest := [.int x2]) X.1 (cf_isIn_met _ x1 x4 v4 q_v4) (lw_S q698 q550 q79 q551) cf_isIn_hd ⟨rfl, rfl⟩ ⟨Nat.le_trans (m := cf_isClean_rm.frames) (Nat.le_of_ble_eq_true rfl) hR.1, Nat.le_trans (m := cf_isClean_rm.locals) (Nat.le_of_ble_eq_true rfl) hR.2.1⟩ ⟨hR.2.2.1, hR.2.2.2⟩ rfl hl.1 rfl (Nat.le_of_ble_eq_true rfl) dX0_isClean_36 ?_
      refine lv_if_ne (tgt := 71) hx hb dX0_isClean_39 (by decide) (fun c5 => ?_) (fun c5 => ?_)
      · have h := in_ c5 h
        refine lv_iconst (v := 1) hx hb dX0_isClean_71 (by decide) ?_
        refine lv_goto (tgt := 76) hx hb dX0_isClean_72 (by decide) ?_
        exact cf_isClean_w76 X hM hR hF hQ hk4 hk18 x1 x3 x4 (1 : Int32) x2 _ ls hL (lv_sub hl [0, 1, 3, 4] rfl) h
      · have h := ip_ c5 h
        refine lv_aload_n hx hb dX0_isClean_42 rfl (lv_at hl 0 rfl) ?_
        refine gc17 X hM dX0_isClean_43 ?_
        refine lv_iload_n hx hb dX0_isClean_46 rfl (lv_at hl 3 rfl) ?_
        obtain ⟨v6, q_v6, h⟩ := bd_e h
        refine f_roR (As := [.int x3]) (rest := [.int x2]) X hM (c_recvL (j := 1) X hM (by decide)) hL hF (cfL_get_met _ Z Y A C 1 x3 v6 q_v6) (lw_V q651 q652 q653 q85 q654) cfL_get_hd ⟨rfl, rfl⟩ ⟨Nat.le_trans (m := cf_isClean_rm.frames) (Nat.le_of_ble_eq_true rfl) hR.1, Nat.le_trans (m := cf_isClean_rm.locals) (Nat.le_of_ble_eq_true rfl) hR.2.1⟩ ⟨hR.2.2.1, hR.2.2.2⟩ rfl hl.1 rfl (Nat.le_of_ble_eq_true rfl) dX0_isClean_47 (fun locs hL => ?_)
        obtain ⟨b7, h⟩ := gd_e h
        refine c_castG X hM b7 (hts _ q838) dX0_isClean_50 ?_
        refine lv_aload_n hx hb dX0_isClean_53 rfl (lv_at hl 0 rfl) ?_
        refine gc17 X hM dX0_isClean_54 ?_
        refine lv_iload hx hb dX0_isClean_57 (lv_at hl 4 rfl) ?_
        obtain ⟨v8, q_v8, h⟩ := bd_e h
        refine f_roR (As := [.int x4]) (rest := [.ref (cDa Y (200 + v6)), .int x2]) X hM (c_recvL (j := 1) X hM (by decide)) hL hF (cfL_get_met _ Z Y A C 1 x4 v8 q_v8) (lw_V q651 q652 q653 q85 q654) cfL_get_hd ⟨rfl, rfl⟩ ⟨Nat.le_trans (m := cf_isClean_rm.frames) (Nat.le_of_ble_eq_true rfl) hR.1, Nat.le_trans (m := cf_isClean_rm.locals) (Nat.le_of_ble_eq_true rfl) hR.2.1⟩ ⟨hR.2.2.1, hR.2.2.2⟩ rfl hl.1 rfl (Nat.le_of_ble_eq_true rfl) dX0_isClean_59 (fun locs hL => ?_)
        obtain ⟨b9, h⟩ := gd_e h
        refine c_castG X hM b9 (hts _ q838) dX0_isClean_62 ?_
        obtain ⟨b10, h⟩ := gd_e h
        obtain ⟨v11, q_v11, h⟩ := bd_e h
        refine f_roI (As := [.ref (cDa Y (200 + v8))]) (rest := [.int x2]) X hM (c_recvG X hM b10) hL hF (cfG_isFalse_met _ Z Y A C v6 v8 v11 q_v11) (lw_V q863 q864 q865 q100 q866) cfG_isFalse_hd ⟨rfl, rfl⟩ ⟨Nat.le_trans (m := cf_isClean_rm.frames) (Nat.le_of_ble_eq_true rfl) hR.1, Nat.le_trans (m := cf_isClean_rm.locals) (Nat.le_of_ble_eq_true rfl) hR.2.1⟩ ⟨hR.2.2.1, hR.2.2.2⟩ rfl hl.1 rfl (Nat.le_of_ble_eq_true rfl) dX0_isClean_65 (fun locs hL => ?_)
        refine lv_if_ne (tgt := 75) hx hb dX0_isClean_68 (by decide) (fun c12 => ?_) (fun c12 => ?_)
        · have h := in_ c12 h
          refine lv_iconst (v := 0) hx hb dX0_isClean_75 (by decide) ?_
          exact cf_isClean_w76 X hM hR hF hQ hk4 hk18 x1 x3 x4 (0 : Int32) x2 _ ls hL (lv_sub hl [0, 1, 3, 4] rfl) h
        · have h := ip_ c12 h
          refine lv_iconst (v := 1) hx hb dX0_isClean_71 (by decide) ?_
          refine lv_goto (tgt := 76) hx hb dX0_isClean_72 (by decide) ?_
          exact cf_isClean_w76 X hM hR hF hQ hk4 hk18 x1 x3 x4 (1 : Int32) x2 _ ls hL (lv_sub hl [0, 1, 3, 4] rfl) h
def cf_isClean_l18 (C : St) (k4 : Int32 → Int32 → Int32 → Option Int32) (n : Nat) : Int32 → Int32 → Int32 → Int32 → Option Int32 := lp (fun _ _ _ _ => none) (cf_isClean_b18 C k4) n
theorem cf_isClean_lw18 {p : Program} {l : Launch} {e : Env} {R : Room} {s : State} {m : MethodId} {args : Array Value} {below : List Frame} {meth : Method} {c : Code} {Z : CZ} {Y : CY} {A : Nat → Prop} {C : St} {H : Heap} {cells slots : Nat} {Qc : Array Value → State → Outcome → State → Prop} {free : Addr → Prop} (X : CCx p s m args meth c cX0_isClean 5 (some .boolean) RX0 Z) (hM : cPD Z Y A C H) (hR : cf_isClean_rm.frames ≤ R.frames ∧ cf_isClean_rm.locals ≤ R.locals ∧ cells ≤ R.cells ∧ slots ≤ R.slots) (hF : ∀ q, cFr Z q → free q) {r : Int32} (hQ : ∀ t : State, t.heap = H → s.WarmedH t.vm → Qc args s (.returned (some (.int r))) t) {k4 : Int32 → Int32 → Int32 → Option Int32} (hk4 : cf_isClean_P4 p l e R s m args below meth c Z Y H cells slots Qc free r k4) : ∀ n : Nat, cf_isClean_P18 p l e R s m args below meth c Z Y H cells slots Qc free r (cf_isClean_l18 C k4 n) := by
  intro n
  induction n with
  | zero => intro x1 x2 x3 x4 locs ls hL hl h; exact no_ h
  | succ n ih => exact cf_isClean_w18 X hM hR hF hQ hk4 ih
def cf_isClean_b4 (C : St) (k4 : Int32 → Int32 → Int32 → Option Int32) (x1 : Int32) (x2 : Int32) (x3 : Int32) : Option Int32 :=
  bd_ (cfL_size C 1 ) fun v1 =>
  if v1 ≤ x3 then (if zb x2 = true then some x2 else none)
  else (cf_isClean_l18 C k4 FU x1 x2 x3 (0 : Int32))
theorem cf_isClean_w4 {p : Program} {l : Launch} {e : Env} {R : Room} {s : State} {m : MethodId} {args : Array Value} {below : List Frame} {meth : Method} {c : Code} {Z : CZ} {Y : CY} {A : Nat → Prop} {C : St} {H : Heap} {cells slots : Nat} {Qc : Array Value → State → Outcome → State → Prop} {free : Addr → Prop} (X : CCx p s m args meth c cX0_isClean 5 (some .boolean) RX0 Z) (hM : cPD Z Y A C H) (hR : cf_isClean_rm.frames ≤ R.frames ∧ cf_isClean_rm.locals ≤ R.locals ∧ cells ≤ R.cells ∧ slots ≤ R.slots) (hF : ∀ q, cFr Z q → free q) {r : Int32} (hQ : ∀ t : State, t.heap = H → s.WarmedH t.vm → Qc args s (.returned (some (.int r))) t) {k4 : Int32 → Int32 → Int32 → Option Int32} (hk4 : cf_isClean_P4 p l e R s m args below meth c Z Y H cells slots Qc free r k4) : cf_isClean_P4 p l e R s m args below meth c Z Y H cells slots Qc free r (cf_isClean_b4 C k4) := by
  intro x1 x2 x3 locs ls hL hl h
  obtain ⟨⟨hx, hb, hr, hlocks, hml, hown, hts⟩, hK⟩ := id X
  unfold cf_isClean_b4 at h
  refine lv_iload_n hx hb dX0_isClean_4 rfl (lv_at hl 3 rfl) ?_
  refine lv_aload_n hx hb dX0_isClean_5 rfl (lv_at hl 0 rfl) ?_
  refine gc17 X hM dX0_isClean_6 ?_
  obtain ⟨v1, q_v1, h⟩ := bd_e h
  refine f_roI (As := []) (rest := [.int x3]) X hM (c_recvL (j := 1) X hM (by decide)) hL hF (cfL_size_met _ Z Y A C 1  v1 q_v1) (lw_V q641 q418 q419 q85 q420) cfL_size_hd ⟨rfl, rfl⟩ ⟨Nat.le_trans (m := cf_isClean_rm.frames) (Nat.le_of_ble_eq_true rfl) hR.1, Nat.le_trans (m := cf_isClean_rm.locals) (Nat.le_of_ble_eq_true rfl) hR.2.1⟩ ⟨hR.2.2.1, hR.2.2.2⟩ rfl hl.1 rfl (Nat.le_of_ble_eq_true rfl) dX0_isClean_9 (fun locs hL => ?_)
  refine lv_icmp_ge (tgt := 90) hx hb dX0_isClean_12 (by decide) (fun c2 => ?_) (fun c2 => ?_)
  · have h := ip_ c2 h
    refine lv_iload_n hx hb dX0_isClean_90 rfl (lv_at hl 2 rfl) ?_
    by_cases c3 : zb x2 = true
    case neg => exact no_ (in_ c3 h)
    have h := ip_ c3 h
    have h := so_ h
    subst h
    exact W.zret hx hb hr (zb_n c3) (fun t ht hW => hQ t ht hW) hL dX0_isClean_91
  · have h := in_ c2 h
    refine lv_iconst (v := 0) hx hb dX0_isClean_15 (by decide) ?_
    refine lv_istore (lv' := [(4, .int (0 : Int32)), (0, .ref (cSa Z 0)), (1, .int x1), (2, .int x2), (3, .int x3)]) hx hb dX0_isClean_16 hl (by decide) rfl (fun ls hl => ?_)
    exact cf_isClean_lw18 X hM hR hF hQ hk4 FU x1 x2 x3 (0 : Int32) _ ls hL (lv_sub hl [1, 2, 3, 4, 0] rfl) h
def cf_isClean_l4 (C : St) (n : Nat) : Int32 → Int32 → Int32 → Option Int32 := lp (fun _ _ _ => none) (cf_isClean_b4 C) n
theorem cf_isClean_lw4 {p : Program} {l : Launch} {e : Env} {R : Room} {s : State} {m : MethodId} {args : Array Value} {below : List Frame} {meth : Method} {c : Code} {Z : CZ} {Y : CY} {A : Nat → Prop} {C : St} {H : Heap} {cells slots : Nat} {Qc : Array Value → State → Outcome → State → Prop} {free : Addr → Prop} (X : CCx p s m args meth c cX0_isClean 5 (some .boolean) RX0 Z) (hM : cPD Z Y A C H) (hR : cf_isClean_rm.frames ≤ R.frames ∧ cf_isClean_rm.locals ≤ R.locals ∧ cells ≤ R.cells ∧ slots ≤ R.slots) (hF : ∀ q, cFr Z q → free q) {r : Int32} (hQ : ∀ t : State, t.heap = H → s.WarmedH t.vm → Qc args s (.returned (some (.int r))) t) : ∀ n : Nat, cf_isClean_P4 p l e R s m args below meth c Z Y H cells slots Qc free r (cf_isClean_l4 C n) := by
  intro n
  induction n with
  | zero => intro x1 x2 x3 locs ls hL hl h; exact no_ h
  | succ n ih => exact cf_isClean_w4 X hM hR hF hQ ih
def cf_isClean (C : St) (x1 : Int32) : Option Int32 :=
  cf_isClean_l4 C FU x1 (1 : Int32) (0 : Int32)
theorem cf_isClean_w0 {p : Program} {l : Launch} {e : Env} {R : Room} {s : State} {m : MethodId} {args : Array Value} {below : List Frame} {meth : Method} {c : Code} {Z : CZ} {Y : CY} {A : Nat → Prop} {C : St} {H : Heap} {cells slots : Nat} {Qc : Array Value → State → Outcome → State → Prop} {free : Addr → Prop} (X : CCx p s m args meth c cX0_isClean 5 (some .boolean) RX0 Z) (hM : cPD Z Y A C H) (hR : cf_isClean_rm.frames ≤ R.frames ∧ cf_isClean_rm.locals ≤ R.locals ∧ cells ≤ R.cells ∧ slots ≤ R.slots) (hF : ∀ q, cFr Z q → free q) {r : Int32} (hQ : ∀ t : State, t.heap = H → s.WarmedH t.vm → Qc args s (.returned (some (.int r))) t) : cf_isClean_P0 p l e R s m args below meth c Z Y H cells slots Qc free r (cf_isClean C) := by
  intro x1 locs ls hL hl h
  obtain ⟨⟨hx, hb, hr, hlocks, hml, hown, hts⟩, hK⟩ := id X
  unfold cf_isClean at h
  refine lv_iconst (v := 1) hx hb dX0_isClean_0 (by decide) ?_
  refine lv_istore_n (lv' := [(2, .int (1 : Int32)), (0, .ref (cSa Z 0)), (1, .int x1)]) hx hb dX0_isClean_1 rfl hl (by decide) rfl (fun ls hl => ?_)
  refine lv_iconst (v := 0) hx hb dX0_isClean_2 (by decide) ?_
  refine lv_istore_n (lv' := [(3, .int (0 : Int32)), (2, .int (1 : Int32)), (0, .ref (cSa Z 0)), (1, .int x1)]) hx hb dX0_isClean_3 rfl hl (by decide) rfl (fun ls hl => ?_)
  exact cf_isClean_lw4 X hM hR hF hQ FU x1 (1 : Int32) (0 : Int32) _ ls hL (lv_sub hl [2, 3, 1, 0] rfl) h
theorem cf_isClean_hd : yX0_isClean.cls = RX0 ∧ yX0_isClean.cls ≠ "java/lang/invoke/MethodHandle" ∧ yX0_isClean.cls ≠ "java/lang/invoke/VarHandle" ∧ (parseMethodDescriptor yX0_isClean.desc).map (fun d => d.parameters.length) = some 1 := by decide +kernel
theorem cf_isClean_met (l : Launch) (Z : CZ) (Y : CY) (A : Nat → Prop) (C : St) (x1 : Int32) (r : Int32) (h : cf_isClean C x1 = some r) : Met l yX0_isClean (ws_ yX0_isClean cX0_isClean 5 (some .boolean)) cf_isClean_rm (va_Pc [.ref (cSa Z 0), .int x1] (cS Z Y A C)) (Qro (some (.int r))) 0 0 (cFr Z) := by
  refine Met.ofW (cc := cX0_isClean) (maxL := 5) (ret := some .boolean) (by decide) rfl ?_
  intro p e s m args below meth c s₁ B hml hv
  obtain ⟨rfl, hv⟩ := hv
  have hts := atoms_spec (ws := ws_ yX0_isClean cX0_isClean 5 (some .boolean)) B.pre
  have hts : ∀ w ∈ lw_all, w.before _ s = true := fun w h => hts w (List.mem_cons_of_mem _ h)
  have X : CCx p s m _ meth c cX0_isClean 5 (some .boolean) RX0 Z := ⟨⟨B.exec, B.bytes, B.returns, B.notSynchronized, hml, findClass_of_methodNamed B.named, hts⟩, hv.2⟩
  have hl := lv_entry [.ref (cSa Z 0), .int x1] (n := 5) (Nat.le_of_ble_eq_true rfl)
  rw [lg_entry_eq]
  generalize (lg_sl [.ref (cSa Z 0), .int x1] ++ List.replicate (5 - (lg_sl [.ref (cSa Z 0), .int x1]).length) Slot.unset).toArray = ls at hl ⊢
  exact cf_isClean_w0 X hv.1 ⟨Nat.le_refl _, Nat.le_refl _, Nat.le_refl _, Nat.le_refl _⟩ (fun _ h => h) (fun t ht _ => ⟨rfl, ht⟩) x1 [] ls (fun q hq => by cases hq) hl h

/-! SecondChances.hatsOf(I)I -/
def cf_hatsOf_rm : Room := { frames := 4, cells := 0, slots := 0, locals := 88 }
def cf_hatsOf_P58 (p : Program) (l : Launch) (e : Env) (R : Room) (s : State) (m : MethodId) (args : Array Value) (below : List Frame) (meth : Method) (c : Code) (Z : CZ) (Y : CY) (H : Heap) (cells slots : Nat) (Qc : Array Value → State → Outcome → State → Prop) (free : Addr → Prop) (r : Int32) (f : Int32 → Int32 → Int32 → Option Int32) : Prop := ∀ (x1 : Int32) (x3 : Int32) (t0 : Int32) (locs : List Loc) (ls : Array Slot), (∀ q ∈ locs, free q.base) → lv_has ls 5 [(0, .ref (cSa Z 0)), (1, .int x1), (3, .int x3)] → f x1 x3 t0 = some r → W p l e R s m args below meth c H locs cells slots (MQ below Qc args s cells slots free) (F0 m 58 ls [.int t0])
def cf_hatsOf_P38 (p : Program) (l : Launch) (e : Env) (R : Room) (s : State) (m : MethodId) (args : Array Value) (below : List Frame) (meth : Method) (c : Code) (Z : CZ) (Y : CY) (H : Heap) (cells slots : Nat) (Qc : Array Value → State → Outcome → State → Prop) (free : Addr → Prop) (r : Int32) (f : Int32 → Int32 → Int32 → Int32 → Option Int32) : Prop := ∀ (x1 : Int32) (x2 : Int32) (x3 : Int32) (t0 : Int32) (locs : List Loc) (ls : Array Slot), (∀ q ∈ locs, free q.base) → lv_has ls 5 [(0, .ref (cSa Z 0)), (1, .int x1), (2, .int x2), (3, .int x3)] → f x1 x2 x3 t0 = some r → W p l e R s m args below meth c H locs cells slots (MQ below Qc args s cells slots free) (F0 m 38 ls [.int t0])
def cf_hatsOf_P4 (p : Program) (l : Launch) (e : Env) (R : Room) (s : State) (m : MethodId) (args : Array Value) (below : List Frame) (meth : Method) (c : Code) (Z : CZ) (Y : CY) (H : Heap) (cells slots : Nat) (Qc : Array Value → State → Outcome → State → Prop) (free : Addr → Prop) (r : Int32) (f : Int32 → Int32 → Int32 → Option Int32) : Prop := ∀ (x1 : Int32) (x2 : Int32) (x3 : Int32) (locs : List Loc) (ls : Array Slot), (∀ q ∈ locs, free q.base) → lv_has ls 5 [(0, .ref (cSa Z 0)), (1, .int x1), (2, .int x2), (3, .int x3)] → f x1 x2 x3 = some r → W p l e R s m args below meth c H locs cells slots (MQ below Qc args s cells slots free) (F0 m 4 ls [])
def cf_hatsOf_P0 (p : Program) (l : Launch) (e : Env) (R : Room) (s : State) (m : MethodId) (args : Array Value) (below : List Frame) (meth : Method) (c : Code) (Z : CZ) (Y : CY) (H : Heap) (cells slots : Nat) (Qc : Array Value → State → Outcome → State → Prop) (free : Addr → Prop) (r : Int32) (f : Int32 → Option Int32) : Prop := ∀ (x1 : Int32) (locs : List Loc) (ls : Array Slot), (∀ q ∈ locs, free q.base) → lv_has ls 5 [(0, .ref (cSa Z 0)), (1, .int x1)] → f x1 = some r → W p l e R s m args below meth c H locs cells slots (MQ below Qc args s cells slots free) (F0 m 0 ls [])
def cf_hatsOf_b58 (C : St) (k4 : Int32 → Int32 → Int32 → Option Int32) (x1 : Int32) (x3 : Int32) (t0 : Int32) : Option Int32 :=
  k4 x1 t0 (x3 + 1)
theorem cf_hatsOf_w58 {p : Program} {l : Launch} {e : Env} {R : Room} {s : State} {m : MethodId} {args : Array Value} {below : List Frame} {meth : Method} {c : Code} {Z : CZ} {Y : CY} {A : Nat → Prop} {C : St} {H : Heap} {cells slots : Nat} {Qc : Array Value → State → Outcome → State → Prop} {free : Addr → Prop} (X : CCx p s m args meth c cX0_hatsOf 5 (some .int) RX0 Z) (hM : cPD Z Y A C H) (hR : cf_hatsOf_rm.frames ≤ R.frames ∧ cf_hatsOf_rm.locals ≤ R.locals ∧ cells ≤ R.cells ∧ slots ≤ R.slots) (hF : ∀ q, cFr Z q → free q) {r : Int32} (hQ : ∀ t : State, t.heap = H → s.WarmedH t.vm → Qc args s (.returned (some (.int r))) t) {k4 : Int32 → Int32 → Int32 → Option Int32} (hk4 : cf_hatsOf_P4 p l e R s m args below meth c Z Y H cells slots Qc free r k4) : cf_hatsOf_P58 p l e R s m args below meth c Z Y H cells slots Qc free r (cf_hatsOf_b58 C k4) := by
  intro x1 x3 t0 locs ls hL hl h
  obtain ⟨⟨hx, hb, hr, hlocks, hml, hown, hts⟩, hK⟩ := id X
  unfold cf_hatsOf_b58 at h
  refine lv_istore_n (lv' := [(2, .int t0), (0, .ref (cSa Z 0)), (1, .int x1), (3, .int x3)]) hx hb dX0_hatsOf_58 rfl hl (by decide) rfl (fun ls hl => ?_)
  refine lv_iinc (v := (x3 + 1)) (lv' := [(3, .int (x3 + 1)), (2, .int t0), (0, .ref (cSa Z 0)), (1, .int x1)]) hx hb dX0_hatsOf_59 hl (k := 3) rfl rfl (by decide) rfl (fun ls hl => ?_)
  refine lv_goto (tgt := 4) hx hb dX0_hatsOf_62 (by decide) ?_
  exact hk4 x1 t0 (x3 + 1) _ ls hL (lv_sub hl [2, 3, 1, 0] rfl) h
def cf_hatsOf_b38 (C : St) (k4 : Int32 → Int32 → Int32 → Option Int32) (x1 : Int32) (x2 : Int32) (x3 : Int32) (t0 : Int32) : Option Int32 :=
  if t0 = 0 then (cf_hatsOf_b58 C k4 x1 x3 x2)
  else (bd_ (cf_isClean C x3) fun v2 =>
    if v2 = 0 then (cf_hatsOf_b58 C k4 x1 x3 x2)
    else (cf_hatsOf_b58 C k4 x1 x3 x3))
theorem cf_hatsOf_w38 {p : Program} {l : Launch} {e : Env} {R : Room} {s : State} {m : MethodId} {args : Array Value} {below : List Frame} {meth : Method} {c : Code} {Z : CZ} {Y : CY} {A : Nat → Prop} {C : St} {H : Heap} {cells slots : Nat} {Qc : Array Value → State → Outcome → State → Prop} {free : Addr → Prop} (X : CCx p s m args meth c cX0_hatsOf 5 (some .int) RX0 Z) (hM : cPD Z Y A C H) (hR : cf_hatsOf_rm.frames ≤ R.frames ∧ cf_hatsOf_rm.locals ≤ R.locals ∧ cells ≤ R.cells ∧ slots ≤ R.slots) (hF : ∀ q, cFr Z q → free q) {r : Int32} (hQ : ∀ t : State, t.heap = H → s.WarmedH t.vm → Qc args s (.returned (some (.int r))) t) {k4 : Int32 → Int32 → Int32 → Option Int32} (hk4 : cf_hatsOf_P4 p l e R s m args below meth c Z Y H cells slots Qc free r k4) : cf_hatsOf_P38 p l e R s m args below meth c Z Y H cells slots Qc free r (cf_hatsOf_b38 C k4) := by
  intro x1 x2 x3 t0 locs ls hL hl h
  obtain ⟨⟨hx, hb, hr, hlocks, hml, hown, hts⟩, hK⟩ := id X
  unfold cf_hatsOf_b38 at h
  refine lv_istore (lv' := [(4, .int t0), (0, .ref (cSa Z 0)), (1, .int x1), (2, .int x2), (3, .int x3)]) hx hb dX0_hatsOf_38 hl (by decide) rfl (fun ls hl => ?_)
  refine lv_iload hx hb dX0_hatsOf_40 (lv_at hl 0 rfl) ?_
  refine lv_if_eq (tgt := 57) hx hb dX0_hatsOf_42 (by decide) (fun c1 => ?_) (fun c1 => ?_)
  · have h := ip_ c1 h
    refine lv_iload_n hx hb dX0_hatsOf_57 rfl (lv_at hl 3 rfl) ?_
    exact cf_hatsOf_w58 X hM hR hF hQ hk4 x1 x3 x2 _ ls hL (lv_sub hl [1, 2, 4] rfl) h
  · have h := in_ c1 h
    refine lv_aload_n hx hb dX0_hatsOf_45 rfl (lv_at hl 1 rfl) ?_
    refine lv_iload_n hx hb dX0_hatsOf_46 rfl (lv_at hl 4 rfl) ?_
    obtain ⟨v2, q_v2, h⟩ := bd_e h
    refine f_roI (As := [.int x3]) (rest := []) X hM (c_recv0 X hM) hL hF (cf_isClean_met _ Z Y A C x3 v2 q_v2) (lw_V q878 q880 qs35 q79 q881) cf_isClean_hd ⟨rfl, rfl⟩ ⟨Nat.le_trans (m := cf_hatsOf_rm.frames) (Nat.le_of_ble_eq_true rfl) hR.1, Nat.le_trans (m := cf_hatsOf_rm.locals) (Nat.le_of_ble_eq_true rfl) hR.2.1⟩ ⟨hR.2.2.1, hR.2.2.2⟩ rfl hl.1 rfl (Nat.le_of_ble_eq_true rfl) dX0_hatsOf_47 (fun locs hL => ?_)
    refine lv_if_eq (tgt := 57) hx hb dX0_hatsOf_50 (by decide) (fun c3 => ?_) (fun c3 => ?_)
    · have h := ip_ c3 h
      refine lv_iload_n hx hb dX0_hatsOf_57 rfl (lv_at hl 3 rfl) ?_
      exact cf_hatsOf_w58 X hM hR hF hQ hk4 x1 x3 x2 _ ls hL (lv_sub hl [1, 2, 4] rfl) h
    · have h := in_ c3 h
      refine lv_iload_n hx hb dX0_hatsOf_53 rfl (lv_at hl 4 rfl) ?_
      refine lv_goto (tgt := 58) hx hb dX0_hatsOf_54 (by decide) ?_
      exact cf_hatsOf_w58 X hM hR hF hQ hk4 x1 x3 x3 _ ls hL (lv_sub hl [1, 2, 4] rfl) h
def cf_hatsOf_b4 (C : St) (k4 : Int32 → Int32 → Int32 → Option Int32) (x1 : Int32) (x2 : Int32) (x3 : Int32) : Option Int32 :=
  bd_ (cfL_size C 1 ) fun v1 =>
  if ((1 : Int32) <<< (v1 &&& 31)) ≤ x3 then (if x1 = 0 then (bd_ (cj_bitCount x2) fun v4 =>
      some v4)
    else (some x2))
  else (if x2 = (-1 : Int32) then (cf_hatsOf_b38 C k4 x1 x2 x3 (1 : Int32))
    else (bd_ (cj_bitCount x3) fun v6 =>
      bd_ (cj_bitCount x2) fun v7 =>
      if v7 ≤ v6 then (cf_hatsOf_b38 C k4 x1 x2 x3 (0 : Int32))
      else (cf_hatsOf_b38 C k4 x1 x2 x3 (1 : Int32))))
theorem cf_hatsOf_w4 {p : Program} {l : Launch} {e : Env} {R : Room} {s : State} {m : MethodId} {args : Array Value} {below : List Frame} {meth : Method} {c : Code} {Z : CZ} {Y : CY} {A : Nat → Prop} {C : St} {H : Heap} {cells slots : Nat} {Qc : Array Value → State → Outcome → State → Prop} {free : Addr → Prop} (X : CCx p s m args meth c cX0_hatsOf 5 (some .int) RX0 Z) (hM : cPD Z Y A C H) (hR : cf_hatsOf_rm.frames ≤ R.frames ∧ cf_hatsOf_rm.locals ≤ R.locals ∧ cells ≤ R.cells ∧ slots ≤ R.slots) (hF : ∀ q, cFr Z q → free q) {r : Int32} (hQ : ∀ t : State, t.heap = H → s.WarmedH t.vm → Qc args s (.returned (some (.int r))) t) {k4 : Int32 → Int32 → Int32 → Option Int32} (hk4 : cf_hatsOf_P4 p l e R s m args below meth c Z Y H cells slots Qc free r k4) : cf_hatsOf_P4 p l e R s m args below meth c Z Y H cells slots Qc free r (cf_hatsOf_b4 C k4) := by
  intro x1 x2 x3 locs ls hL hl h
  obtain ⟨⟨hx, hb, hr, hlocks, hml, hown, hts⟩, hK⟩ := id X
  unfold cf_hatsOf_b4 at h
  refine lv_iload_n hx hb dX0_hatsOf_4 rfl (lv_at hl 3 rfl) ?_
  refine lv_iconst (v := 1) hx hb dX0_hatsOf_5 (by decide) ?_
  refine lv_aload_n hx hb dX0_hatsOf_6 rfl (lv_at hl 0 rfl) ?_
  refine gc17 X hM dX0_hatsOf_7 ?_
  obtain ⟨v1, q_v1, h⟩ := bd_e h
  refine f_roI (As := []) (rest := [.int (1 : Int32), .int x3]) X hM (c_recvL (j := 1) X hM (by decide)) hL hF (cfL_size_met _ Z Y A C 1  v1 q_v1) (lw_V q641 q418 q419 q85 q420) cfL_size_hd ⟨rfl, rfl⟩ ⟨Nat.le_trans (m := cf_hatsOf_rm.frames) (Nat.le_of_ble_eq_true rfl) hR.1, Nat.le_trans (m := cf_hatsOf_rm.locals) (Nat.le_of_ble_eq_true rfl) hR.2.1⟩ ⟨hR.2.2.1, hR.2.2.2⟩ rfl hl.1 rfl (Nat.le_of_ble_eq_true rfl) dX0_hatsOf_10 (fun locs hL => ?_)
  refine lv_ishl hx hb dX0_hatsOf_13 ?_
  refine lv_icmp_ge (tgt := 65) hx hb dX0_hatsOf_14 (by decide) (fun c2 => ?_) (fun c2 => ?_)
  · have h := ip_ c2 h
    refine lv_iload_n hx hb dX0_hatsOf_65 rfl (lv_at hl 1 rfl) ?_
    refine lv_if_ne (tgt := 76) hx hb dX0_hatsOf_66 (by decide) (fun c3 => ?_) (fun c3 => ?_)
    · have h := in_ c3 h
      refine lv_iload_n hx hb dX0_hatsOf_76 rfl (lv_at hl 2 rfl) ?_
      have h := so_ h
      subst h
      exact W.iret hx hb hr (fun t ht hW => hQ t ht hW) hL dX0_hatsOf_77
    · have h := ip_ c3 h
      refine lv_iload_n hx hb dX0_hatsOf_69 rfl (lv_at hl 2 rfl) ?_
      obtain ⟨v4, q_v4, h⟩ := bd_e h
      refine s_roI (As := [.int x2]) (rest := []) X.1 (cj_bitCount_met _ x2 v4 q_v4) (lw_S q691 q692 q99 q693) cj_bitCount_hd ⟨rfl, rfl⟩ ⟨Nat.le_trans (m := cf_hatsOf_rm.frames) (Nat.le_of_ble_eq_true rfl) hR.1, Nat.le_trans (m := cf_hatsOf_rm.locals) (Nat.le_of_ble_eq_true rfl) hR.2.1⟩ ⟨hR.2.2.1, hR.2.2.2⟩ rfl hl.1 rfl (Nat.le_of_ble_eq_true rfl) dX0_hatsOf_70 ?_
      refine lv_goto (tgt := 77) hx hb dX0_hatsOf_73 (by decide) ?_
      have h := so_ h
      subst h
      exact W.iret hx hb hr (fun t ht hW => hQ t ht hW) hL dX0_hatsOf_77
  · have h := in_ c2 h
    refine lv_iload_n hx hb dX0_hatsOf_17 rfl (lv_at hl 2 rfl) ?_
    refine lv_iconst (v := -1) hx hb dX0_hatsOf_18 (by decide) ?_
    refine lv_icmp_eq (tgt := 33) hx hb dX0_hatsOf_19 (by decide) (fun c5 => ?_) (fun c5 => ?_)
    · have h := ip_ c5 h
      refine lv_iconst (v := 1) hx hb dX0_hatsOf_33 (by decide) ?_
      refine lv_goto (tgt := 38) hx hb dX0_hatsOf_34 (by decide) ?_
      exact cf_hatsOf_w38 X hM hR hF hQ hk4 x1 x2 x3 (1 : Int32) _ ls hL (lv_sub hl [0, 1, 2, 3] rfl) h
    · have h := in_ c5 h
      refine lv_iload_n hx hb dX0_hatsOf_22 rfl (lv_at hl 3 rfl) ?_
      obtain ⟨v6, q_v6, h⟩ := bd_e h
      refine s_roI (As := [.int x3]) (rest := []) X.1 (cj_bitCount_met _ x3 v6 q_v6) (lw_S q691 q692 q99 q693) cj_bitCount_hd ⟨rfl, rfl⟩ ⟨Nat.le_trans (m := cf_hatsOf_rm.frames) (Nat.le_of_ble_eq_true rfl) hR.1, Nat.le_trans (m := cf_hatsOf_rm.locals) (Nat.le_of_ble_eq_true rfl) hR.2.1⟩ ⟨hR.2.2.1, hR.2.2.2⟩ rfl hl.1 rfl (Nat.le_of_ble_eq_true rfl) dX0_hatsOf_23 ?_
      refine lv_iload_n hx hb dX0_hatsOf_26 rfl (lv_at hl 2 rfl) ?_
      obtain ⟨v7, q_v7, h⟩ := bd_e h
      refine s_roI (As := [.int x2]) (rest := [.int v6]) X.1 (cj_bitCount_met _ x2 v7 q_v7) (lw_S q691 q692 q99 q693) cj_bitCount_hd ⟨rfl, rfl⟩ ⟨Nat.le_trans (m := cf_hatsOf_rm.frames) (Nat.le_of_ble_eq_true rfl) hR.1, Nat.le_trans (m := cf_hatsOf_rm.locals) (Nat.le_of_ble_eq_true rfl) hR.2.1⟩ ⟨hR.2.2.1, hR.2.2.2⟩ rfl hl.1 rfl (Nat.le_of_ble_eq_true rfl) dX0_hatsOf_27 ?_
      refine lv_icmp_ge (tgt := 37) hx hb dX0_hatsOf_30 (by decide) (fun c8 => ?_) (fun c8 => ?_)
      · have h := ip_ c8 h
        refine lv_iconst (v := 0) hx hb dX0_hatsOf_37 (by decide) ?_
        exact cf_hatsOf_w38 X hM hR hF hQ hk4 x1 x2 x3 (0 : Int32) _ ls hL (lv_sub hl [0, 1, 2, 3] rfl) h
      · have h := in_ c8 h
        refine lv_iconst (v := 1) hx hb dX0_hatsOf_33 (by decide) ?_
        refine lv_goto (tgt := 38) hx hb dX0_hatsOf_34 (by decide) ?_
        exact cf_hatsOf_w38 X hM hR hF hQ hk4 x1 x2 x3 (1 : Int32) _ ls hL (lv_sub hl [0, 1, 2, 3] rfl) h
def cf_hatsOf_l4 (C : St) (n : Nat) : Int32 → Int32 → Int32 → Option Int32 := lp (fun _ _ _ => none) (cf_hatsOf_b4 C) n
theorem cf_hatsOf_lw4 {p : Program} {l : Launch} {e : Env} {R : Room} {s : State} {m : MethodId} {args : Array Value} {below : List Frame} {meth : Method} {c : Code} {Z : CZ} {Y : CY} {A : Nat → Prop} {C : St} {H : Heap} {cells slots : Nat} {Qc : Array Value → State → Outcome → State → Prop} {free : Addr → Prop} (X : CCx p s m args meth c cX0_hatsOf 5 (some .int) RX0 Z) (hM : cPD Z Y A C H) (hR : cf_hatsOf_rm.frames ≤ R.frames ∧ cf_hatsOf_rm.locals ≤ R.locals ∧ cells ≤ R.cells ∧ slots ≤ R.slots) (hF : ∀ q, cFr Z q → free q) {r : Int32} (hQ : ∀ t : State, t.heap = H → s.WarmedH t.vm → Qc args s (.returned (some (.int r))) t) : ∀ n : Nat, cf_hatsOf_P4 p l e R s m args below meth c Z Y H cells slots Qc free r (cf_hatsOf_l4 C n) := by
  intro n
  induction n with
  | zero => intro x1 x2 x3 locs ls hL hl h; exact no_ h
  | succ n ih => exact cf_hatsOf_w4 X hM hR hF hQ ih
def cf_hatsOf (C : St) (x1 : Int32) : Option Int32 :=
  cf_hatsOf_l4 C FU x1 (-1 : Int32) (0 : Int32)
theorem cf_hatsOf_w0 {p : Program} {l : Launch} {e : Env} {R : Room} {s : State} {m : MethodId} {args : Array Value} {below : List Frame} {meth : Method} {c : Code} {Z : CZ} {Y : CY} {A : Nat → Prop} {C : St} {H : Heap} {cells slots : Nat} {Qc : Array Value → State → Outcome → State → Prop} {free : Addr → Prop} (X : CCx p s m args meth c cX0_hatsOf 5 (some .int) RX0 Z) (hM : cPD Z Y A C H) (hR : cf_hatsOf_rm.frames ≤ R.frames ∧ cf_hatsOf_rm.locals ≤ R.locals ∧ cells ≤ R.cells ∧ slots ≤ R.slots) (hF : ∀ q, cFr Z q → free q) {r : Int32} (hQ : ∀ t : State, t.heap = H → s.WarmedH t.vm → Qc args s (.returned (some (.int r))) t) : cf_hatsOf_P0 p l e R s m args below meth c Z Y H cells slots Qc free r (cf_hatsOf C) := by
  intro x1 locs ls hL hl h
  obtain ⟨⟨hx, hb, hr, hlocks, hml, hown, hts⟩, hK⟩ := id X
  unfold cf_hatsOf at h
  refine lv_iconst (v := -1) hx hb dX0_hatsOf_0 (by decide) ?_
  refine lv_istore_n (lv' := [(2, .int (-1 : Int32)), (0, .ref (cSa Z 0)), (1, .int x1)]) hx hb dX0_hatsOf_1 rfl hl (by decide) rfl (fun ls hl => ?_)
  refine lv_iconst (v := 0) hx hb dX0_hatsOf_2 (by decide) ?_
  refine lv_istore_n (lv' := [(3, .int (0 : Int32)), (2, .int (-1 : Int32)), (0, .ref (cSa Z 0)), (1, .int x1)]) hx hb dX0_hatsOf_3 rfl hl (by decide) rfl (fun ls hl => ?_)
  exact cf_hatsOf_lw4 X hM hR hF hQ FU x1 (-1 : Int32) (0 : Int32) _ ls hL (lv_sub hl [2, 3, 1, 0] rfl) h
theorem cf_hatsOf_hd : yX0_hatsOf.cls = RX0 ∧ yX0_hatsOf.cls ≠ "java/lang/invoke/MethodHandle" ∧ yX0_hatsOf.cls ≠ "java/lang/invoke/VarHandle" ∧ (parseMethodDescriptor yX0_hatsOf.desc).map (fun d => d.parameters.length) = some 1 := by decide +kernel
theorem cf_hatsOf_met (l : Launch) (Z : CZ) (Y : CY) (A : Nat → Prop) (C : St) (x1 : Int32) (r : Int32) (h : cf_hatsOf C x1 = some r) : Met l yX0_hatsOf (ws_ yX0_hatsOf cX0_hatsOf 5 (some .int)) cf_hatsOf_rm (va_Pc [.ref (cSa Z 0), .int x1] (cS Z Y A C)) (Qro (some (.int r))) 0 0 (cFr Z) := by
  refine Met.ofW (cc := cX0_hatsOf) (maxL := 5) (ret := some .int) (by decide) rfl ?_
  intro p e s m args below meth c s₁ B hml hv
  obtain ⟨rfl, hv⟩ := hv
  have hts := atoms_spec (ws := ws_ yX0_hatsOf cX0_hatsOf 5 (some .int)) B.pre
  have hts : ∀ w ∈ lw_all, w.before _ s = true := fun w h => hts w (List.mem_cons_of_mem _ h)
  have X : CCx p s m _ meth c cX0_hatsOf 5 (some .int) RX0 Z := ⟨⟨B.exec, B.bytes, B.returns, B.notSynchronized, hml, findClass_of_methodNamed B.named, hts⟩, hv.2⟩
  have hl := lv_entry [.ref (cSa Z 0), .int x1] (n := 5) (Nat.le_of_ble_eq_true rfl)
  rw [lg_entry_eq]
  generalize (lg_sl [.ref (cSa Z 0), .int x1] ++ List.replicate (5 - (lg_sl [.ref (cSa Z 0), .int x1]).length) Slot.unset).toArray = ls at hl ⊢
  exact cf_hatsOf_w0 X hv.1 ⟨Nat.le_refl _, Nat.le_refl _, Nat.le_refl _, Nat.le_refl _⟩ (fun _ h => h) (fun t ht _ => ⟨rfl, ht⟩) x1 [] ls (fun q hq => by cases hq) hl h

/-! SecondChances.hats(I)I -/
def cf_hats_rm : Room := { frames := 5, cells := 0, slots := 0, locals := 112 }
def cf_hats_P0 (p : Program) (l : Launch) (e : Env) (R : Room) (s : State) (m : MethodId) (args : Array Value) (below : List Frame) (meth : Method) (c : Code) (Z : CZ) (Y : CY) (H : Heap) (cells slots : Nat) (Qc : Array Value → State → Outcome → State → Prop) (free : Addr → Prop) (r : Int32) (f : Int32 → Option Int32) : Prop := ∀ (x1 : Int32) (locs : List Loc) (ls : Array Slot), (∀ q ∈ locs, free q.base) → lv_has ls 2 [(0, .ref (cSa Z 0)), (1, .int x1)] → f x1 = some r → W p l e R s m args below meth c H locs cells slots (MQ below Qc args s cells slots free) (F0 m 0 ls [])
def cf_hats (C : St) (x1 : Int32) : Option Int32 :=
  bd_ (cf_isTwo x1) fun v1 =>
  if v1 = 0 then (some (-2 : Int32))
  else (bd_ (cf_hatsOf C x1) fun v3 =>
    some v3)
theorem cf_hats_w0 {p : Program} {l : Launch} {e : Env} {R : Room} {s : State} {m : MethodId} {args : Array Value} {below : List Frame} {meth : Method} {c : Code} {Z : CZ} {Y : CY} {A : Nat → Prop} {C : St} {H : Heap} {cells slots : Nat} {Qc : Array Value → State → Outcome → State → Prop} {free : Addr → Prop} (X : CCx p s m args meth c cX0_hats 2 (some .int) RX0 Z) (hM : cPD Z Y A C H) (hR : cf_hats_rm.frames ≤ R.frames ∧ cf_hats_rm.locals ≤ R.locals ∧ cells ≤ R.cells ∧ slots ≤ R.slots) (hF : ∀ q, cFr Z q → free q) {r : Int32} (hQ : ∀ t : State, t.heap = H → s.WarmedH t.vm → Qc args s (.returned (some (.int r))) t) : cf_hats_P0 p l e R s m args below meth c Z Y H cells slots Qc free r (cf_hats C) := by
  intro x1 locs ls hL hl h
  obtain ⟨⟨hx, hb, hr, hlocks, hml, hown, hts⟩, hK⟩ := id X
  unfold cf_hats at h
  refine lv_iload_n hx hb dX0_hats_0 rfl (lv_at hl 1 rfl) ?_
  obtain ⟨v1, q_v1, h⟩ := bd_e h
  refine s_roI (As := [.int x1]) (rest := []) X.1 (cf_isTwo_met _ x1 v1 q_v1) (lw_S q311 q312 q79 q313) cf_isTwo_hd ⟨rfl, rfl⟩ ⟨Nat.le_trans (m := cf_hats_rm.frames) (Nat.le_of_ble_eq_true rfl) hR.1, Nat.le_trans (m := cf_hats_rm.locals) (Nat.le_of_ble_eq_true rfl) hR.2.1⟩ ⟨hR.2.2.1, hR.2.2.2⟩ rfl hl.1 rfl (Nat.le_of_ble_eq_true rfl) dX0_hats_1 ?_
  refine lv_if_eq (tgt := 15) hx hb dX0_hats_4 (by decide) (fun c2 => ?_) (fun c2 => ?_)
  · have h := ip_ c2 h
    refine lv_bipush (v := -2) hx hb dX0_hats_15 (by decide) ?_
    have h := so_ h
    subst h
    exact W.iret hx hb hr (fun t ht hW => hQ t ht hW) hL dX0_hats_17
  · have h := in_ c2 h
    refine lv_aload_n hx hb dX0_hats_7 rfl (lv_at hl 0 rfl) ?_
    refine lv_iload_n hx hb dX0_hats_8 rfl (lv_at hl 1 rfl) ?_
    obtain ⟨v3, q_v3, h⟩ := bd_e h
    refine f_roI (As := [.int x1]) (rest := []) X hM (c_recv0 X hM) hL hF (cf_hatsOf_met _ Z Y A C x1 v3 q_v3) (lw_V q874 q876 qs34 q79 q877) cf_hatsOf_hd ⟨rfl, rfl⟩ ⟨Nat.le_trans (m := cf_hats_rm.frames) (Nat.le_of_ble_eq_true rfl) hR.1, Nat.le_trans (m := cf_hats_rm.locals) (Nat.le_of_ble_eq_true rfl) hR.2.1⟩ ⟨hR.2.2.1, hR.2.2.2⟩ rfl hl.1 rfl (Nat.le_of_ble_eq_true rfl) dX0_hats_9 (fun locs hL => ?_)
    refine lv_goto (tgt := 17) hx hb dX0_hats_12 (by decide) ?_
    have h := so_ h
    subst h
    exact W.iret hx hb hr (fun t ht hW => hQ t ht hW) hL dX0_hats_17
theorem cf_hats_hd : yX0_hats.cls = RX0 ∧ yX0_hats.cls ≠ "java/lang/invoke/MethodHandle" ∧ yX0_hats.cls ≠ "java/lang/invoke/VarHandle" ∧ (parseMethodDescriptor yX0_hats.desc).map (fun d => d.parameters.length) = some 1 := by decide +kernel
theorem cf_hats_met (l : Launch) (Z : CZ) (Y : CY) (A : Nat → Prop) (C : St) (x1 : Int32) (r : Int32) (h : cf_hats C x1 = some r) : Met l yX0_hats (ws_ yX0_hats cX0_hats 2 (some .int)) cf_hats_rm (va_Pc [.ref (cSa Z 0), .int x1] (cS Z Y A C)) (Qro (some (.int r))) 0 0 (cFr Z) := by
  refine Met.ofW (cc := cX0_hats) (maxL := 2) (ret := some .int) (by decide) rfl ?_
  intro p e s m args below meth c s₁ B hml hv
  obtain ⟨rfl, hv⟩ := hv
  have hts := atoms_spec (ws := ws_ yX0_hats cX0_hats 2 (some .int)) B.pre
  have hts : ∀ w ∈ lw_all, w.before _ s = true := fun w h => hts w (List.mem_cons_of_mem _ h)
  have X : CCx p s m _ meth c cX0_hats 2 (some .int) RX0 Z := ⟨⟨B.exec, B.bytes, B.returns, B.notSynchronized, hml, findClass_of_methodNamed B.named, hts⟩, hv.2⟩
  have hl := lv_entry [.ref (cSa Z 0), .int x1] (n := 2) (Nat.le_of_ble_eq_true rfl)
  rw [lg_entry_eq]
  generalize (lg_sl [.ref (cSa Z 0), .int x1] ++ List.replicate (2 - (lg_sl [.ref (cSa Z 0), .int x1]).length) Slot.unset).toArray = ls at hl ⊢
  exact cf_hats_w0 X hv.1 ⟨Nat.le_refl _, Nat.le_refl _, Nat.le_refl _, Nat.le_refl _⟩ (fun _ h => h) (fun t ht _ => ⟨rfl, ht⟩) x1 [] ls (fun q hq => by cases hq) hl h
