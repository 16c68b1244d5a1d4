set_option maxRecDepth 100000
/-! SecondChances$Text.figure(II)I -/
def cfT_figure_rm : Room := { frames := 1, cells := 0, slots := 0, locals := 25 }
def cfT_figure_P0 (p : Program) (l : Launch) (e : Env) (R : Room) (s : State) (m : MethodId) (args : Array Value) (below : List Frame) (meth : Method) (c : Code) (Z : CZ) (A : Nat → Prop) (cells slots : Nat) (Qc : Array Value → State → Outcome → State → Prop) (r : (Int32 × St)) (f : Nat → Int32 → Int32 → St → Option (Int32 × St)) : Prop := ∀ (x0 : Nat) (x1 : Int32) (x2 : Int32) (Y : CY) (C : St) (H : Heap) (locs : List Loc) (ls : Array Slot), cPD Z Y A C H → va_S A s.heap H locs → lv_has ls 4 [(0, .ref (cSa Z (40 + x0))), (1, .int x1), (2, .int x2)] → f x0 x1 x2 C = some r → W p l e R s m args below meth c H locs cells slots (MQ below Qc args s cells slots A) (F0 m 0 ls [])
def cfT_figure (x0 : Nat) (x1 : Int32) (x2 : Int32) (C : St) : Option (Int32 × St) :=
  gd_ (x0 < 2) <|
  bd_ (cfT_here C x0) fun v2 =>
  lt_ (v2 - (48 : Int32)) fun v3 =>
  bd_ (cf_in (v3.toInt64) (x1.toInt64) (x2.toInt64)) fun v4 =>
  if v4 = 0 then (none)
  else (lt_ (upd2 C (40 + x0) 2 ((C (40 + x0) 2) + (1 : Int32))) fun C6 =>
    some (v3, C6))
theorem cfT_figure_w0 {p : Program} {l : Launch} {e : Env} {R : Room} {s : State} {m : MethodId} {args : Array Value} {below : List Frame} {meth : Method} {c : Code} {Z : CZ} {A : Nat → Prop} {cells slots : Nat} {Qc : Array Value → State → Outcome → State → Prop} (X : CCx p s m args meth c cX2_figure 4 (some .int) RX2 Z) (hR : cfT_figure_rm.frames ≤ R.frames ∧ cfT_figure_rm.locals ≤ R.locals ∧ cells ≤ R.cells ∧ slots ≤ R.slots) (hA : ∀ q, s.heap.size ≤ q → A q) {r : (Int32 × St)} (hQ : ∀ (Y : CY) (H : Heap) (locs : List Loc) (t : State), cPD Z Y A r.2 H → va_S A s.heap H locs → t.heap = H → s.WarmedH t.vm → Qc args s (.returned (some (.int r.1))) t) : cfT_figure_P0 p l e R s m args below meth c Z A cells slots Qc r (cfT_figure) := by
  intro x0 x1 x2 Y C H locs ls hM hS hl h
  obtain ⟨⟨hx, hb, hr, hlocks, hml, hown, hts⟩, hK⟩ := id X
  unfold cfT_figure at h
  refine lv_aload_n hx hb dX2_figure_0 rfl (lv_at hl 0 rfl) ?_
  obtain ⟨b1, h⟩ := gd_e h
  obtain ⟨v2, q_v2, h⟩ := bd_e h
  refine f_roXI (As := []) (rest := []) (owner := RX2) (x := ⟨RX2, "here", "()I"⟩) X hM b1 hS.2.2 (cPD.fr hM) (cfT_here_met _ Z Y A C x0 v2 q_v2) (lw_U q405 q407 q408 q406 q81 q410) (lw_U q405 q407 q409 q406 q81 q410) rfl (by decide +kernel) ⟨rfl, rfl⟩ ⟨Nat.le_trans (m := cfT_figure_rm.frames) (Nat.le_of_ble_eq_true rfl) hR.1, Nat.le_trans (m := cfT_figure_rm.locals) (Nat.le_of_ble_eq_true rfl) hR.2.1⟩ ⟨hR.2.2.1, hR.2.2.2⟩ rfl hl.1 rfl (Nat.le_of_ble_eq_true rfl) dX2_figure_1 (fun locs hL => ?_)
  have hS : va_S A s.heap _ locs := ⟨hS.1, hS.2.1, hL⟩
  refine lv_bipush (v := 48) hx hb dX2_figure_4 (by decide) ?_
  refine lv_isub hx hb dX2_figure_6 ?_
  refine lv_topi (fun v3 e_v3 => ?_)
  have h := lt_i h e_v3
  refine lv_istore_n (lv' := [(3, .int v3), (0, .ref (cSa Z (40 + x0))), (1, .int x1), (2, .int x2)]) hx hb dX2_figure_7 rfl hl (by decide) rfl (fun ls hl => ?_)
  refine lv_iload_n hx hb dX2_figure_8 rfl (lv_at hl 0 rfl) ?_
  refine lv_i2l hx hb dX2_figure_9 rfl ?_
  refine lv_iload_n hx hb dX2_figure_10 rfl (lv_at hl 2 rfl) ?_
  refine lv_i2l hx hb dX2_figure_11 rfl ?_
  refine lv_iload_n hx hb dX2_figure_12 rfl (lv_at hl 3 rfl) ?_
  refine lv_i2l hx hb dX2_figure_13 rfl ?_
  obtain ⟨v4, q_v4, h⟩ := bd_e h
  refine s_roNI (As := [.long (v3.toInt64), .long (x1.toInt64), .long (x2.toInt64)]) (rest := []) (host := "SecondChances") X (cf_in_met _ (v3.toInt64) (x1.toInt64) (x2.toInt64) v4 q_v4) (X.2.2 _ (List.mem_of_getElem? (i := 16) rfl)) (lw_meth q300) q299 q79 cf_in_hd ⟨rfl, rfl⟩ ⟨Nat.le_trans (m := cfT_figure_rm.frames) (Nat.le_of_ble_eq_true rfl) hR.1, Nat.le_trans (m := cfT_figure_rm.locals) (Nat.le_of_ble_eq_true rfl) hR.2.1⟩ ⟨hR.2.2.1, hR.2.2.2⟩ rfl hl.1 rfl (Nat.le_of_ble_eq_true rfl) dX2_figure_14 ?_
  refine lv_if_ne (tgt := 25) hx hb dX2_figure_17 (by decide) (fun c5 => ?_) (fun c5 => ?_)
  · have h := in_ c5 h
    refine lv_aload_n hx hb dX2_figure_25 rfl (lv_at hl 1 rfl) ?_
    refine lv_dup hx hb dX2_figure_26 rfl ?_
    refine gt2 X hM b1 dX2_figure_27 ?_
    refine lv_iconst (v := 1) hx hb dX2_figure_30 (by decide) ?_
    refine lv_iadd hx hb dX2_figure_31 ?_
    refine pt2 X hM hS b1 dX2_figure_32 (fun H locs C6 e_C6 hM hS => ?_)
    have h := lt_i h e_C6
    refine lv_iload_n hx hb dX2_figure_35 rfl (lv_at hl 0 rfl) ?_
    have h := so_ h
    subst h
    exact W.iret hx hb hr (fun t ht hW => hQ _ _ _ t hM hS ht hW) hS.2.2 dX2_figure_36
  · have h := ip_ c5 h
    exact no_ h
theorem cfT_figure_hd : yX2_figure.cls = RX2 ∧ yX2_figure.cls ≠ "java/lang/invoke/MethodHandle" ∧ yX2_figure.cls ≠ "java/lang/invoke/VarHandle" ∧ (parseMethodDescriptor yX2_figure.desc).map (fun d => d.parameters.length) = some 2 := by decide +kernel
theorem cfT_figure_met (l : Launch) (Z : CZ) (Y : CY) (C : St) (sz : Nat) (x0 : Nat) (x1 : Int32) (x2 : Int32) (r : (Int32 × St)) (h : cfT_figure x0 x1 x2 C = some r) : Met l yX2_figure (ws_ yX2_figure cX2_figure 4 (some .int)) cfT_figure_rm (va_Pc [.ref (cSa Z (40 + x0)), .int x1, .int x2] (cSw Z Y C sz)) (Qcw (some (.int r.1)) Z (va_A (cWs Z Y C) sz) r.2) 0 0 (va_A (cWs Z Y C) sz) := by
  refine Met.ofW (cc := cX2_figure) (maxL := 4) (ret := some .int) (by decide) rfl ?_
  intro p e s m args below meth c s₁ B hml hv
  obtain ⟨rfl, hsz, hv⟩ := hv
  subst hsz
  have hts := atoms_spec (ws := ws_ yX2_figure cX2_figure 4 (some .int)) B.pre
  have hts : ∀ w ∈ lw_all, w.before _ s = true := fun w h => hts w (List.mem_cons_of_mem _ h)
  have X : CCx p s m _ meth c cX2_figure 4 (some .int) RX2 Z := ⟨⟨B.exec, B.bytes, B.returns, B.notSynchronized, hml, findClass_of_methodNamed B.named, hts⟩, hv.2⟩
  have hl := lv_entry [.ref (cSa Z (40 + x0)), .int x1, .int x2] (n := 4) (Nat.le_of_ble_eq_true rfl)
  rw [lg_entry_eq]
  generalize (lg_sl [.ref (cSa Z (40 + x0)), .int x1, .int x2] ++ List.replicate (4 - (lg_sl [.ref (cSa Z (40 + x0)), .int x1, .int x2]).length) Slot.unset).toArray = ls at hl ⊢
  exact cfT_figure_w0 X ⟨Nat.le_refl _, Nat.le_refl _, Nat.le_refl _, Nat.le_refl _⟩ (fun q h => Or.inr h) (fun Y H locs t hM hS ht hW => ⟨rfl, ⟨Y, by rw [ht]; exact hM, cKs.warm hW X.2⟩, hS.F ht⟩) x0 x1 x2 Y C _ _ ls (cPD.self hv.1) va_S.rf hl h

/-! SecondChances$Rules.part(I)V -/
def cfR_part_rm : Room := { frames := 2, cells := 0, slots := 0, locals := 48 }
def cfR_part_P0 (p : Program) (l : Launch) (e : Env) (R : Room) (s : State) (m : MethodId) (args : Array Value) (below : List Frame) (meth : Method) (c : Code) (Z : CZ) (A : Nat → Prop) (cells slots : Nat) (Qc : Array Value → State → Outcome → State → Prop) (r : St) (f : Int32 → St → Option St) : Prop := ∀ (x1 : Int32) (Y : CY) (C : St) (H : Heap) (locs : List Loc) (ls : Array Slot), cPD Z Y A C H → va_S A s.heap H locs → lv_has ls 2 [(0, .ref (cSa Z 41)), (1, .int x1)] → f x1 C = some r → W p l e R s m args below meth c H locs cells slots (MQ below Qc args s cells slots A) (F0 m 0 ls [])
def cfR_part (x1 : Int32) (C : St) : Option St :=
  bd2_ (cfT_figure 1 (0 : Int32) (4 : Int32) C) fun v2 C1 =>
  as_ 4 44 C1 x1 v2 fun C3 =>
  bd2_ (cfT_passes 1 (119 : Int32) C3) fun v5 C4 =>
  as_ 4 45 C4 x1 (v5 &&& 1) fun C6 =>
  bd2_ (cfT_passes 1 (104 : Int32) C6) fun v8 C7 =>
  as_ 4 46 C7 x1 (v8 &&& 1) fun C9 =>
  lt_ (upd2 C9 41 8 ((C9 41 8) + (1 : Int32))) fun C10 =>
  some C10
theorem cfR_part_w0 {p : Program} {l : Launch} {e : Env} {R : Room} {s : State} {m : MethodId} {args : Array Value} {below : List Frame} {meth : Method} {c : Code} {Z : CZ} {A : Nat → Prop} {cells slots : Nat} {Qc : Array Value → State → Outcome → State → Prop} (X : CCx p s m args meth c cX4_part 2 (none) RX4 Z) (hR : cfR_part_rm.frames ≤ R.frames ∧ cfR_part_rm.locals ≤ R.locals ∧ cells ≤ R.cells ∧ slots ≤ R.slots) (hA : ∀ q, s.heap.size ≤ q → A q) {r : St} (hQ : ∀ (Y : CY) (H : Heap) (locs : List Loc) (t : State), cPD Z Y A r H → va_S A s.heap H locs → t.heap = H → s.WarmedH t.vm → Qc args s (.returned (none)) t) : cfR_part_P0 p l e R s m args below meth c Z A cells slots Qc r (cfR_part) := by
  intro x1 Y C H locs ls hM hS hl h
  obtain ⟨⟨hx, hb, hr, hlocks, hml, hown, hts⟩, hK⟩ := id X
  unfold cfR_part at h
  refine lv_aload_n hx hb dX4_part_0 rfl (lv_at hl 0 rfl) ?_
  refine grr5 X hM dX4_part_1 ?_
  refine lv_iload_n hx hb dX4_part_4 rfl (lv_at hl 1 rfl) ?_
  refine lv_aload_n hx hb dX4_part_5 rfl (lv_at hl 0 rfl) ?_
  refine lv_iconst (v := 0) hx hb dX4_part_6 (by decide) ?_
  refine lv_iconst (v := 4) hx hb dX4_part_7 (by decide) ?_
  obtain ⟨v2, C1, q_C1, h⟩ := bd2_e h
  refine w_wrUI (As := [.int (0 : Int32), .int (4 : Int32)]) (rest := [.int x1, .ref (cSa Z 44)]) (owner := RX2) (x := ⟨RX4, "figure", "(II)I"⟩) X hM hS hA (c_recvX1 X hM) (cfT_figure_met _ Z _ C _ 1 (0 : Int32) (4 : Int32) (v2, C1) q_C1) (lw_U q615 q616 q617 q504 q81 q505) rfl (by decide +kernel) ⟨rfl, rfl⟩ ⟨Nat.le_trans (m := cfR_part_rm.frames) (Nat.le_of_ble_eq_true rfl) hR.1, Nat.le_trans (m := cfR_part_rm.locals) (Nat.le_of_ble_eq_true rfl) hR.2.1⟩ ⟨hR.2.2.1, hR.2.2.2⟩ rfl hl.1 rfl (Nat.le_of_ble_eq_true rfl) dX4_part_8 (fun Y H locs hM hS => ?_)
  obtain ⟨i_C3, h⟩ := as_e h
  refine c_ast X hM hS (k := 44) (by decide) (cHs_S (by decide)) (fun _ _ _ => rfl) (cAr_s (by decide)) i_C3 dX4_part_11 (fun H locs C3 e_C3 hM hS => ?_)
  have h := h C3 e_C3
  refine lv_aload_n hx hb dX4_part_12 rfl (lv_at hl 0 rfl) ?_
  refine grr6 X hM dX4_part_13 ?_
  refine lv_iload_n hx hb dX4_part_16 rfl (lv_at hl 1 rfl) ?_
  refine lv_aload_n hx hb dX4_part_17 rfl (lv_at hl 0 rfl) ?_
  refine lv_bipush (v := 119) hx hb dX4_part_18 (by decide) ?_
  obtain ⟨v5, C4, q_C4, h⟩ := bd2_e h
  refine w_wrUI (As := [.int (119 : Int32)]) (rest := [.int x1, .ref (cSa Z 45)]) (owner := RX2) (x := ⟨RX4, "passes", "(I)Z"⟩) X hM hS hA (c_recvX1 X hM) (cfT_passes_met _ Z _ C3 _ 1 (119 : Int32) (v5, C4) q_C4) (lw_U q618 q619 q620 q511 q81 q512) rfl (by decide +kernel) ⟨rfl, rfl⟩ ⟨Nat.le_trans (m := cfR_part_rm.frames) (Nat.le_of_ble_eq_true rfl) hR.1, Nat.le_trans (m := cfR_part_rm.locals) (Nat.le_of_ble_eq_true rfl) hR.2.1⟩ ⟨hR.2.2.1, hR.2.2.2⟩ rfl hl.1 rfl (Nat.le_of_ble_eq_true rfl) dX4_part_20 (fun Y H locs hM hS => ?_)
  obtain ⟨i_C6, h⟩ := as_e h
  refine c_zast X hM hS (k := 45) (by decide) (cHs_S (by decide)) (fun _ _ _ => rfl) (cAr_s (by decide)) i_C6 dX4_part_23 (fun H locs C6 e_C6 hM hS => ?_)
  have h := h C6 e_C6
  refine lv_aload_n hx hb dX4_part_24 rfl (lv_at hl 0 rfl) ?_
  refine grr7 X hM dX4_part_25 ?_
  refine lv_iload_n hx hb dX4_part_28 rfl (lv_at hl 1 rfl) ?_
  refine lv_aload_n hx hb dX4_part_29 rfl (lv_at hl 0 rfl) ?_
  refine lv_bipush (v := 104) hx hb dX4_part_30 (by decide) ?_
  obtain ⟨v8, C7, q_C7, h⟩ := bd2_e h
  refine w_wrUI (As := [.int (104 : Int32)]) (rest := [.int x1, .ref (cSa Z 46)]) (owner := RX2) (x := ⟨RX4, "passes", "(I)Z"⟩) X hM hS hA (c_recvX1 X hM) (cfT_passes_met _ Z _ C6 _ 1 (104 : Int32) (v8, C7) q_C7) (lw_U q618 q619 q620 q511 q81 q512) rfl (by decide +kernel) ⟨rfl, rfl⟩ ⟨Nat.le_trans (m := cfR_part_rm.frames) (Nat.le_of_ble_eq_true rfl) hR.1, Nat.le_trans (m := cfR_part_rm.locals) (Nat.le_of_ble_eq_true rfl) hR.2.1⟩ ⟨hR.2.2.1, hR.2.2.2⟩ rfl hl.1 rfl (Nat.le_of_ble_eq_true rfl) dX4_part_32 (fun Y H locs hM hS => ?_)
  obtain ⟨i_C9, h⟩ := as_e h
  refine c_zast X hM hS (k := 46) (by decide) (cHs_S (by decide)) (fun _ _ _ => rfl) (cAr_s (by decide)) i_C9 dX4_part_35 (fun H locs C9 e_C9 hM hS => ?_)
  have h := h C9 e_C9
  refine lv_aload_n hx hb dX4_part_36 rfl (lv_at hl 0 rfl) ?_
  refine lv_dup hx hb dX4_part_37 rfl ?_
  refine grr8 X hM dX4_part_38 ?_
  refine lv_iconst (v := 1) hx hb dX4_part_41 (by decide) ?_
  refine lv_iadd hx hb dX4_part_42 ?_
  refine prr8 X hM hS dX4_part_43 (fun H locs C10 e_C10 hM hS => ?_)
  have h := lt_i h e_C10
  have h := so_ h
  subst h
  exact W.vret hx hb hr (fun t ht hW => hQ _ _ _ t hM hS ht hW) hS.2.2 dX4_part_46
theorem cfR_part_hd : yX4_part.cls = RX4 ∧ yX4_part.cls ≠ "java/lang/invoke/MethodHandle" ∧ yX4_part.cls ≠ "java/lang/invoke/VarHandle" ∧ (parseMethodDescriptor yX4_part.desc).map (fun d => d.parameters.length) = some 1 := by decide +kernel
theorem cfR_part_met (l : Launch) (Z : CZ) (Y : CY) (C : St) (sz : Nat) (x1 : Int32) (r : St) (h : cfR_part x1 C = some r) : Met l yX4_part (ws_ yX4_part cX4_part 2 (none)) cfR_part_rm (va_Pc [.ref (cSa Z 41), .int x1] (cSw Z Y C sz)) (Qcw (none) Z (va_A (cWs Z Y C) sz) r) 0 0 (va_A (cWs Z Y C) sz) := by
  refine Met.ofW (cc := cX4_part) (maxL := 2) (ret := none) (by decide) rfl ?_
  intro p e s m args below meth c s₁ B hml hv
  obtain ⟨rfl, hsz, hv⟩ := hv
  subst hsz
  have hts := atoms_spec (ws := ws_ yX4_part cX4_part 2 (none)) B.pre
  have hts : ∀ w ∈ lw_all, w.before _ s = true := fun w h => hts w (List.mem_cons_of_mem _ h)
  have X : CCx p s m _ meth c cX4_part 2 (none) RX4 Z := ⟨⟨B.exec, B.bytes, B.returns, B.notSynchronized, hml, findClass_of_methodNamed B.named, hts⟩, hv.2⟩
  have hl := lv_entry [.ref (cSa Z 41), .int x1] (n := 2) (Nat.le_of_ble_eq_true rfl)
  rw [lg_entry_eq]
  generalize (lg_sl [.ref (cSa Z 41), .int x1] ++ List.replicate (2 - (lg_sl [.ref (cSa Z 41), .int x1]).length) Slot.unset).toArray = ls at hl ⊢
  exact cfR_part_w0 X ⟨Nat.le_refl _, Nat.le_refl _, Nat.le_refl _, Nat.le_refl _⟩ (fun q h => Or.inr h) (fun Y H locs t hM hS ht hW => ⟨rfl, ⟨Y, by rw [ht]; exact hM, cKs.warm hW X.2⟩, hS.F ht⟩) x1 Y C _ _ ls (cPD.self hv.1) va_S.rf hl h
