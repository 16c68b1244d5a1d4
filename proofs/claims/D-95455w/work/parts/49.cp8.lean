set_option maxRecDepth 100000
/-! SecondChances$Sheet.size()I -/
def cfS_size_rm : Room := { frames := 1, cells := 0, slots := 0, locals := 20 }
def cfS_size_P0 (p : Program) (l : Launch) (e : Env) (R : Room) (s : State) (m : MethodId) (args : Array Value) (below : List Frame) (meth : Method) (c : Code) (Z : CZ) (Y : CY) (H : Heap) (cells slots : Nat) (Qc : Array Value → State → Outcome → State → Prop) (free : Addr → Prop) (r : Int32) (f : Nat → Option Int32) : Prop := ∀ (x0 : Nat) (locs : List Loc) (ls : Array Slot), (∀ q ∈ locs, free q.base) → lv_has ls 1 [(0, .ref (cSa Z (90 + x0)))] → f x0 = some r → W p l e R s m args below meth c H locs cells slots (MQ below Qc args s cells slots free) (F0 m 0 ls [])
def cfS_size (C : St) (x0 : Nat) : Option Int32 :=
  gd_ (x0 < 4) <|
  bd_ (cfS_type C x0 ) fun v2 =>
  if v2 = 0 then (gd_ (C (60 + x0) 0 = 1) <|
    gd_ (cRt (C (60 + x0) 1) = 2) <|
    lt_ (Int32.ofNat (C (60 + x0) 2).toNatClampNeg) fun v6 =>
    some v6)
  else (if v2 = 1 then (gd_ (C (60 + x0) 0 = 1) <|
      gd_ (cRt (C (60 + x0) 1) = 3) <|
      lt_ (Int32.ofNat (C (60 + x0) 2).toNatClampNeg) fun v10 =>
      some v10)
    else (gd_ (C (60 + x0) 0 = 1) <|
      gd_ (cRt (C (60 + x0) 1) = 0) <|
      lt_ (Int32.ofNat (C (60 + x0) 2).toNatClampNeg) fun v13 =>
      some v13))
theorem cfS_size_w0 {p : Program} {l : Launch} {e : Env} {R : Room} {s : State} {m : MethodId} {args : Array Value} {below : List Frame} {meth : Method} {c : Code} {Z : CZ} {Y : CY} {A : Nat → Prop} {C : St} {H : Heap} {cells slots : Nat} {Qc : Array Value → State → Outcome → State → Prop} {free : Addr → Prop} (X : CCx p s m args meth c cX5_size 1 (some .int) RX5 Z) (hM : cPD Z Y A C H) (hR : cfS_size_rm.frames ≤ R.frames ∧ cfS_size_rm.locals ≤ R.locals ∧ cells ≤ R.cells ∧ slots ≤ R.slots) (hF : ∀ q, cFr Z q → free q) {r : Int32} (hQ : ∀ t : State, t.heap = H → s.WarmedH t.vm → Qc args s (.returned (some (.int r))) t) : cfS_size_P0 p l e R s m args below meth c Z Y H cells slots Qc free r (cfS_size C) := by
  intro x0 locs ls hL hl h
  obtain ⟨⟨hx, hb, hr, hlocks, hml, hown, hts⟩, hK⟩ := id X
  unfold cfS_size at h
  refine lv_aload_n hx hb dX5_size_0 rfl (lv_at hl 0 rfl) ?_
  obtain ⟨b1, h⟩ := gd_e h
  obtain ⟨v2, q_v2, h⟩ := bd_e h
  refine f_roI (As := []) (rest := []) X hM (c_recvH (q := x0) X hM b1) hL hF (cfS_type_met _ Z Y A C x0  v2 q_v2) (lw_V q335 q336 q337 q87 q338) cfS_type_hd ⟨rfl, rfl⟩ ⟨Nat.le_trans (m := cfS_size_rm.frames) (Nat.le_of_ble_eq_true rfl) hR.1, Nat.le_trans (m := cfS_size_rm.locals) (Nat.le_of_ble_eq_true rfl) hR.2.1⟩ ⟨hR.2.2.1, hR.2.2.2⟩ rfl hl.1 rfl (Nat.le_of_ble_eq_true rfl) dX5_size_1 (fun locs hL => ?_)
  by_cases c3 : v2 = 0
  · have h := ip_ c3 h
    refine lv_lookup (off := 28) (tgt := 32) hx hb dX5_size_4 (by decide) (by first | (rw [c3]; done) | (rw [c3]; rfl)) (by decide) ?_
    refine lv_aload_n hx hb dX5_size_32 rfl (lv_at hl 0 rfl) ?_
    obtain ⟨e4, h⟩ := gd_e h
    refine gs7 X hM b1 e4 dX5_size_33 ?_
    obtain ⟨f5, h⟩ := gd_e h
    refine sh_cast X hM b1 e4 (nm := "[B") (by rw [f5]; rfl) (hts _ q339) dX5_size_36 ?_
    refine sh_len X hM b1 e4 dX5_size_39 ?_
    refine lv_topi (fun v6 e_v6 => ?_)
    have h := lt_i h e_v6
    have h := so_ h
    subst h
    exact W.iret hx hb hr (fun t ht hW => hQ t ht hW) hL dX5_size_40
  have h := in_ c3 h
  by_cases c7 : v2 = 1
  · have h := ip_ c7 h
    refine lv_lookup (off := 37) (tgt := 41) hx hb dX5_size_4 (by decide) (by first | (rw [c7]; done) | (rw [c7]; rfl)) (by decide) ?_
    refine lv_aload_n hx hb dX5_size_41 rfl (lv_at hl 0 rfl) ?_
    obtain ⟨e8, h⟩ := gd_e h
    refine gs7 X hM b1 e8 dX5_size_42 ?_
    obtain ⟨f9, h⟩ := gd_e h
    refine sh_cast X hM b1 e8 (nm := "[S") (by rw [f9]; rfl) (hts _ q340) dX5_size_45 ?_
    refine sh_len X hM b1 e8 dX5_size_48 ?_
    refine lv_topi (fun v10 e_v10 => ?_)
    have h := lt_i h e_v10
    have h := so_ h
    subst h
    exact W.iret hx hb hr (fun t ht hW => hQ t ht hW) hL dX5_size_49
  have h := in_ c7 h
  refine lv_lookup (off := 46) (tgt := 50) hx hb dX5_size_4 (by decide) ((lv_osw (a := 0) (o := 28) (d := 46) (r := [(1, 37)]) c3 rfl).trans ((lv_osw (a := 1) (o := 37) (d := 46) (r := []) c7 rfl).trans rfl)) (by decide) ?_
  refine lv_aload_n hx hb dX5_size_50 rfl (lv_at hl 0 rfl) ?_
  obtain ⟨e11, h⟩ := gd_e h
  refine gs7 X hM b1 e11 dX5_size_51 ?_
  obtain ⟨f12, h⟩ := gd_e h
  refine sh_cast X hM b1 e11 (nm := "[I") (by rw [f12]; rfl) (hts _ q341) dX5_size_54 ?_
  refine sh_len X hM b1 e11 dX5_size_57 ?_
  refine lv_topi (fun v13 e_v13 => ?_)
  have h := lt_i h e_v13
  have h := so_ h
  subst h
  exact W.iret hx hb hr (fun t ht hW => hQ t ht hW) hL dX5_size_58
theorem cfS_size_hd : yX5_size.cls = RX5 ∧ yX5_size.cls ≠ "java/lang/invoke/MethodHandle" ∧ yX5_size.cls ≠ "java/lang/invoke/VarHandle" ∧ (parseMethodDescriptor yX5_size.desc).map (fun d => d.parameters.length) = some 0 := by decide +kernel
theorem cfS_size_met (l : Launch) (Z : CZ) (Y : CY) (A : Nat → Prop) (C : St) (x0 : Nat) (r : Int32) (h : cfS_size C x0 = some r) : Met l yX5_size (ws_ yX5_size cX5_size 1 (some .int)) cfS_size_rm (va_Pc [.ref (cSa Z (90 + x0))] (cS Z Y A C)) (Qro (some (.int r))) 0 0 (cFr Z) := by
  refine Met.ofW (cc := cX5_size) (maxL := 1) (ret := some .int) (by decide) rfl ?_
  intro p e s m args below meth c s₁ B hml hv
  obtain ⟨rfl, hv⟩ := hv
  have hts := atoms_spec (ws := ws_ yX5_size cX5_size 1 (some .int)) B.pre
  have hts : ∀ w ∈ lw_all, w.before _ s = true := fun w h => hts w (List.mem_cons_of_mem _ h)
  have X : CCx p s m _ meth c cX5_size 1 (some .int) RX5 Z := ⟨⟨B.exec, B.bytes, B.returns, B.notSynchronized, hml, findClass_of_methodNamed B.named, hts⟩, hv.2⟩
  have hl := lv_entry [.ref (cSa Z (90 + x0))] (n := 1) (Nat.le_of_ble_eq_true rfl)
  rw [lg_entry_eq]
  generalize (lg_sl [.ref (cSa Z (90 + x0))] ++ List.replicate (1 - (lg_sl [.ref (cSa Z (90 + x0))]).length) Slot.unset).toArray = ls at hl ⊢
  exact cfS_size_w0 X hv.1 ⟨Nat.le_refl _, Nat.le_refl _, Nat.le_refl _, Nat.le_refl _⟩ (fun _ h => h) (fun t ht _ => ⟨rfl, ht⟩) x0 [] ls (fun q hq => by cases hq) hl h

/-! SecondChances$Sheet.item(II)I -/
def cfS_item_rm : Room := { frames := 0, cells := 0, slots := 0, locals := 0 }
def cfS_item_P0 (p : Program) (l : Launch) (e : Env) (R : Room) (s : State) (m : MethodId) (args : Array Value) (below : List Frame) (meth : Method) (c : Code) (Z : CZ) (Y : CY) (H : Heap) (cells slots : Nat) (Qc : Array Value → State → Outcome → State → Prop) (free : Addr → Prop) (r : Int32) (f : Nat → Int32 → Int32 → Option Int32) : Prop := ∀ (x0 : Nat) (x1 : Int32) (x2 : Int32) (locs : List Loc) (ls : Array Slot), (∀ q ∈ locs, free q.base) → lv_has ls 3 [(0, .ref (cSa Z (90 + x0))), (1, .int x1), (2, .int x2)] → f x0 x1 x2 = some r → W p l e R s m args below meth c H locs cells slots (MQ below Qc args s cells slots free) (F0 m 0 ls [])
def cfS_item (C : St) (x0 : Nat) (x1 : Int32) (x2 : Int32) : Option Int32 :=
  if x1 = 0 then (gd_ (x0 < 4) <|
    gd_ (C (60 + x0) 0 = 1) <|
    gd_ (cRt (C (60 + x0) 1) = 2) <|
    al_ ((C (60 + x0) 2).toNatClampNeg) (C (70 + x0)) x2 fun v5 =>
    some v5)
  else (if x1 = 1 then (gd_ (x0 < 4) <|
      gd_ (C (60 + x0) 0 = 1) <|
      gd_ (cRt (C (60 + x0) 1) = 3) <|
      al_ ((C (60 + x0) 2).toNatClampNeg) (C (70 + x0)) x2 fun v10 =>
      some v10)
    else (gd_ (x0 < 4) <|
      gd_ (C (60 + x0) 0 = 1) <|
      gd_ (cRt (C (60 + x0) 1) = 0) <|
      al_ ((C (60 + x0) 2).toNatClampNeg) (C (70 + x0)) x2 fun v14 =>
      some v14))
theorem cfS_item_w0 {p : Program} {l : Launch} {e : Env} {R : Room} {s : State} {m : MethodId} {args : Array Value} {below : List Frame} {meth : Method} {c : Code} {Z : CZ} {Y : CY} {A : Nat → Prop} {C : St} {H : Heap} {cells slots : Nat} {Qc : Array Value → State → Outcome → State → Prop} {free : Addr → Prop} (X : CCx p s m args meth c cX5_item 3 (some .int) RX5 Z) (hM : cPD Z Y A C H) (hR : cfS_item_rm.frames ≤ R.frames ∧ cfS_item_rm.locals ≤ R.locals ∧ cells ≤ R.cells ∧ slots ≤ R.slots) (hF : ∀ q, cFr Z q → free q) {r : Int32} (hQ : ∀ t : State, t.heap = H → s.WarmedH t.vm → Qc args s (.returned (some (.int r))) t) : cfS_item_P0 p l e R s m args below meth c Z Y H cells slots Qc free r (cfS_item C) := by
  intro x0 x1 x2 locs ls hL hl h
  obtain ⟨⟨hx, hb, hr, hlocks, hml, hown, hts⟩, hK⟩ := id X
  unfold cfS_item at h
  refine lv_iload_n hx hb dX5_item_0 rfl (lv_at hl 1 rfl) ?_
  by_cases c1 : x1 = 0
  · have h := ip_ c1 h
    refine lv_lookup (off := 27) (tgt := 28) hx hb dX5_item_1 (by decide) (by first | (rw [c1]; done) | (rw [c1]; rfl)) (by decide) ?_
    refine lv_aload_n hx hb dX5_item_28 rfl (lv_at hl 0 rfl) ?_
    obtain ⟨b2, h⟩ := gd_e h
    obtain ⟨e3, h⟩ := gd_e h
    refine gs7 X hM b2 e3 dX5_item_29 ?_
    obtain ⟨f4, h⟩ := gd_e h
    refine sh_cast X hM b2 e3 (nm := "[B") (by rw [f4]; rfl) (hts _ q339) dX5_item_32 ?_
    refine lv_iload_n hx hb dX5_item_35 rfl (lv_at hl 2 rfl) ?_
    obtain ⟨i_v5, h⟩ := al_e h
    refine sh_ald2 X hM b2 e3 f4 i_v5 dX5_item_36 (fun v5 e_v5 => ?_)
    have h := h v5 e_v5
    have h := so_ h
    subst h
    exact W.iret hx hb hr (fun t ht hW => hQ t ht hW) hL dX5_item_37
  have h := in_ c1 h
  by_cases c6 : x1 = 1
  · have h := ip_ c6 h
    refine lv_lookup (off := 37) (tgt := 38) hx hb dX5_item_1 (by decide) (by first | (rw [c6]; done) | (rw [c6]; rfl)) (by decide) ?_
    refine lv_aload_n hx hb dX5_item_38 rfl (lv_at hl 0 rfl) ?_
    obtain ⟨b7, h⟩ := gd_e h
    obtain ⟨e8, h⟩ := gd_e h
    refine gs7 X hM b7 e8 dX5_item_39 ?_
    obtain ⟨f9, h⟩ := gd_e h
    refine sh_cast X hM b7 e8 (nm := "[S") (by rw [f9]; rfl) (hts _ q340) dX5_item_42 ?_
    refine lv_iload_n hx hb dX5_item_45 rfl (lv_at hl 2 rfl) ?_
    obtain ⟨i_v10, h⟩ := al_e h
    refine sh_ald3 X hM b7 e8 f9 i_v10 dX5_item_46 (fun v10 e_v10 => ?_)
    have h := h v10 e_v10
    have h := so_ h
    subst h
    exact W.iret hx hb hr (fun t ht hW => hQ t ht hW) hL dX5_item_47
  have h := in_ c6 h
  refine lv_lookup (off := 47) (tgt := 48) hx hb dX5_item_1 (by decide) ((lv_osw (a := 0) (o := 27) (d := 47) (r := [(1, 37)]) c1 rfl).trans ((lv_osw (a := 1) (o := 37) (d := 47) (r := []) c6 rfl).trans rfl)) (by decide) ?_
  refine lv_aload_n hx hb dX5_item_48 rfl (lv_at hl 0 rfl) ?_
  obtain ⟨b11, h⟩ := gd_e h
  obtain ⟨e12, h⟩ := gd_e h
  refine gs7 X hM b11 e12 dX5_item_49 ?_
  obtain ⟨f13, h⟩ := gd_e h
  refine sh_cast X hM b11 e12 (nm := "[I") (by rw [f13]; rfl) (hts _ q341) dX5_item_52 ?_
  refine lv_iload_n hx hb dX5_item_55 rfl (lv_at hl 2 rfl) ?_
  obtain ⟨i_v14, h⟩ := al_e h
  refine sh_ald0 X hM b11 e12 f13 i_v14 dX5_item_56 (fun v14 e_v14 => ?_)
  have h := h v14 e_v14
  have h := so_ h
  subst h
  exact W.iret hx hb hr (fun t ht hW => hQ t ht hW) hL dX5_item_57
theorem cfS_item_hd : yX5_item.cls = RX5 ∧ yX5_item.cls ≠ "java/lang/invoke/MethodHandle" ∧ yX5_item.cls ≠ "java/lang/invoke/VarHandle" ∧ (parseMethodDescriptor yX5_item.desc).map (fun d => d.parameters.length) = some 2 := by decide +kernel
theorem cfS_item_met (l : Launch) (Z : CZ) (Y : CY) (A : Nat → Prop) (C : St) (x0 : Nat) (x1 : Int32) (x2 : Int32) (r : Int32) (h : cfS_item C x0 x1 x2 = some r) : Met l yX5_item (ws_ yX5_item cX5_item 3 (some .int)) cfS_item_rm (va_Pc [.ref (cSa Z (90 + x0)), .int x1, .int x2] (cS Z Y A C)) (Qro (some (.int r))) 0 0 (cFr Z) := by
  refine Met.ofW (cc := cX5_item) (maxL := 3) (ret := some .int) (by decide) rfl ?_
  intro p e s m args below meth c s₁ B hml hv
  obtain ⟨rfl, hv⟩ := hv
  have hts := atoms_spec (ws := ws_ yX5_item cX5_item 3 (some .int)) B.pre
  have hts : ∀ w ∈ lw_all, w.before _ s = true := fun w h => hts w (List.mem_cons_of_mem _ h)
  have X : CCx p s m _ meth c cX5_item 3 (some .int) RX5 Z := ⟨⟨B.exec, B.bytes, B.returns, B.notSynchronized, hml, findClass_of_methodNamed B.named, hts⟩, hv.2⟩
  have hl := lv_entry [.ref (cSa Z (90 + x0)), .int x1, .int x2] (n := 3) (Nat.le_of_ble_eq_true rfl)
  rw [lg_entry_eq]
  generalize (lg_sl [.ref (cSa Z (90 + x0)), .int x1, .int x2] ++ List.replicate (3 - (lg_sl [.ref (cSa Z (90 + x0)), .int x1, .int x2]).length) Slot.unset).toArray = ls at hl ⊢
  exact cfS_item_w0 X hv.1 ⟨Nat.le_refl _, Nat.le_refl _, Nat.le_refl _, Nat.le_refl _⟩ (fun _ h => h) (fun t ht _ => ⟨rfl, ht⟩) x0 x1 x2 [] ls (fun q hq => by cases hq) hl h

/-! SecondChances$Sheet.lay(III)V -/
def cfS_lay_rm : Room := { frames := 0, cells := 0, slots := 0, locals := 0 }
def cfS_lay_P0 (p : Program) (l : Launch) (e : Env) (R : Room) (s : State) (m : MethodId) (args : Array Value) (below : List Frame) (meth : Method) (c : Code) (Z : CZ) (A : Nat → Prop) (cells slots : Nat) (Qc : Array Value → State → Outcome → State → Prop) (r : St) (f : Nat → Int32 → Int32 → Int32 → St → Option St) : Prop := ∀ (x0 : Nat) (x1 : Int32) (x2 : Int32) (x3 : Int32) (Y : CY) (C : St) (H : Heap) (locs : List Loc) (ls : Array Slot), cPD Z Y A C H → va_S A s.heap H locs → lv_has ls 4 [(0, .ref (cSa Z (90 + x0))), (1, .int x1), (2, .int x2), (3, .int x3)] → f x0 x1 x2 x3 C = some r → W p l e R s m args below meth c H locs cells slots (MQ below Qc args s cells slots A) (F0 m 0 ls [])
def cfS_lay (x0 : Nat) (x1 : Int32) (x2 : Int32) (x3 : Int32) (C : St) : Option St :=
  if x1 = 0 then (gd_ (x0 < 4) <|
    gd_ (C (60 + x0) 0 = 1) <|
    gd_ (cRt (C (60 + x0) 1) = 2) <|
    as_ ((C (60 + x0) 2).toNatClampNeg) (70 + x0) C x2 (vp_nar .byte (x3.toInt8.toInt32)) fun C5 =>
    some C5)
  else (if x1 = 1 then (gd_ (x0 < 4) <|
      gd_ (C (60 + x0) 0 = 1) <|
      gd_ (cRt (C (60 + x0) 1) = 3) <|
      as_ ((C (60 + x0) 2).toNatClampNeg) (70 + x0) C x2 (vp_nar .short (x3.toInt16.toInt32)) fun C10 =>
      some C10)
    else (gd_ (x0 < 4) <|
      gd_ (C (60 + x0) 0 = 1) <|
      gd_ (cRt (C (60 + x0) 1) = 0) <|
      as_ ((C (60 + x0) 2).toNatClampNeg) (70 + x0) C x2 x3 fun C14 =>
      some C14))
theorem cfS_lay_w0 {p : Program} {l : Launch} {e : Env} {R : Room} {s : State} {m : MethodId} {args : Array Value} {below : List Frame} {meth : Method} {c : Code} {Z : CZ} {A : Nat → Prop} {cells slots : Nat} {Qc : Array Value → State → Outcome → State → Prop} (X : CCx p s m args meth c cX5_lay 4 (none) RX5 Z) (hR : cfS_lay_rm.frames ≤ R.frames ∧ cfS_lay_rm.locals ≤ R.locals ∧ cells ≤ R.cells ∧ slots ≤ R.slots) (hA : ∀ q, s.heap.size ≤ q → A q) {r : St} (hQ : ∀ (Y : CY) (H : Heap) (locs : List Loc) (t : State), cPD Z Y A r H → va_S A s.heap H locs → t.heap = H → s.WarmedH t.vm → Qc args s (.returned (none)) t) : cfS_lay_P0 p l e R s m args below meth c Z A cells slots Qc r (cfS_lay) := by
  intro x0 x1 x2 x3 Y C H locs ls hM hS hl h
  obtain ⟨⟨hx, hb, hr, hlocks, hml, hown, hts⟩, hK⟩ := id X
  unfold cfS_lay at h
  refine lv_iload_n hx hb dX5_lay_0 rfl (lv_at hl 1 rfl) ?_
  by_cases c1 : x1 = 0
  · have h := ip_ c1 h
    refine lv_lookup (off := 27) (tgt := 28) hx hb dX5_lay_1 (by decide) (by first | (rw [c1]; done) | (rw [c1]; rfl)) (by decide) ?_
    refine lv_aload_n hx hb dX5_lay_28 rfl (lv_at hl 0 rfl) ?_
    obtain ⟨b2, h⟩ := gd_e h
    obtain ⟨e3, h⟩ := gd_e h
    refine gs7 X hM b2 e3 dX5_lay_29 ?_
    obtain ⟨f4, h⟩ := gd_e h
    refine sh_cast X hM b2 e3 (nm := "[B") (by rw [f4]; rfl) (hts _ q339) dX5_lay_32 ?_
    refine lv_iload_n hx hb dX5_lay_35 rfl (lv_at hl 2 rfl) ?_
    refine lv_iload_n hx hb dX5_lay_36 rfl (lv_at hl 3 rfl) ?_
    refine lv_i2b hx hb dX5_lay_37 rfl ?_
    obtain ⟨i_C5, h⟩ := as_e h
    refine sh_ast2 X hM hS b2 e3 f4 i_C5 dX5_lay_38 (fun H locs C5 e_C5 hM hS => ?_)
    have h := h C5 e_C5
    refine lv_goto (tgt := 66) hx hb dX5_lay_39 (by decide) ?_
    have h := so_ h
    subst h
    exact W.vret hx hb hr (fun t ht hW => hQ _ _ _ t hM hS ht hW) hS.2.2 dX5_lay_66
  have h := in_ c1 h
  by_cases c6 : x1 = 1
  · have h := ip_ c6 h
    refine lv_lookup (off := 41) (tgt := 42) hx hb dX5_lay_1 (by decide) (by first | (rw [c6]; done) | (rw [c6]; rfl)) (by decide) ?_
    refine lv_aload_n hx hb dX5_lay_42 rfl (lv_at hl 0 rfl) ?_
    obtain ⟨b7, h⟩ := gd_e h
    obtain ⟨e8, h⟩ := gd_e h
    refine gs7 X hM b7 e8 dX5_lay_43 ?_
    obtain ⟨f9, h⟩ := gd_e h
    refine sh_cast X hM b7 e8 (nm := "[S") (by rw [f9]; rfl) (hts _ q340) dX5_lay_46 ?_
    refine lv_iload_n hx hb dX5_lay_49 rfl (lv_at hl 2 rfl) ?_
    refine lv_iload_n hx hb dX5_lay_50 rfl (lv_at hl 3 rfl) ?_
    refine lv_i2s hx hb dX5_lay_51 rfl ?_
    obtain ⟨i_C10, h⟩ := as_e h
    refine sh_ast3 X hM hS b7 e8 f9 i_C10 dX5_lay_52 (fun H locs C10 e_C10 hM hS => ?_)
    have h := h C10 e_C10
    refine lv_goto (tgt := 66) hx hb dX5_lay_53 (by decide) ?_
    have h := so_ h
    subst h
    exact W.vret hx hb hr (fun t ht hW => hQ _ _ _ t hM hS ht hW) hS.2.2 dX5_lay_66
  have h := in_ c6 h
  refine lv_lookup (off := 55) (tgt := 56) hx hb dX5_lay_1 (by decide) ((lv_osw (a := 0) (o := 27) (d := 55) (r := [(1, 41)]) c1 rfl).trans ((lv_osw (a := 1) (o := 41) (d := 55) (r := []) c6 rfl).trans rfl)) (by decide) ?_
  refine lv_aload_n hx hb dX5_lay_56 rfl (lv_at hl 0 rfl) ?_
  obtain ⟨b11, h⟩ := gd_e h
  obtain ⟨e12, h⟩ := gd_e h
  refine gs7 X hM b11 e12 dX5_lay_57 ?_
  obtain ⟨f13, h⟩ := gd_e h
  refine sh_cast X hM b11 e12 (nm := "[I") (by rw [f13]; rfl) (hts _ q341) dX5_lay_60 ?_
  refine lv_iload_n hx hb dX5_lay_63 rfl (lv_at hl 2 rfl) ?_
  refine lv_iload_n hx hb dX5_lay_64 rfl (lv_at hl 3 rfl) ?_
  obtain ⟨i_C14, h⟩ := as_e h
  refine sh_ast0 X hM hS b11 e12 f13 i_C14 dX5_lay_65 (fun H locs C14 e_C14 hM hS => ?_)
  have h := h C14 e_C14
  have h := so_ h
  subst h
  exact W.vret hx hb hr (fun t ht hW => hQ _ _ _ t hM hS ht hW) hS.2.2 dX5_lay_66
theorem cfS_lay_hd : yX5_lay.cls = RX5 ∧ yX5_lay.cls ≠ "java/lang/invoke/MethodHandle" ∧ yX5_lay.cls ≠ "java/lang/invoke/VarHandle" ∧ (parseMethodDescriptor yX5_lay.desc).map (fun d => d.parameters.length) = some 3 := by decide +kernel
theorem cfS_lay_met (l : Launch) (Z : CZ) (Y : CY) (C : St) (sz : Nat) (x0 : Nat) (x1 : Int32) (x2 : Int32) (x3 : Int32) (r : St) (h : cfS_lay x0 x1 x2 x3 C = some r) : Met l yX5_lay (ws_ yX5_lay cX5_lay 4 (none)) cfS_lay_rm (va_Pc [.ref (cSa Z (90 + x0)), .int x1, .int x2, .int x3] (cSw Z Y C sz)) (Qcw (none) Z (va_A (cWs Z Y C) sz) r) 0 0 (va_A (cWs Z Y C) sz) := by
  refine Met.ofW (cc := cX5_lay) (maxL := 4) (ret := none) (by decide) rfl ?_
  intro p e s m args below meth c s₁ B hml hv
  obtain ⟨rfl, hsz, hv⟩ := hv
  subst hsz
  have hts := atoms_spec (ws := ws_ yX5_lay cX5_lay 4 (none)) B.pre
  have hts : ∀ w ∈ lw_all, w.before _ s = true := fun w h => hts w (List.mem_cons_of_mem _ h)
  have X : CCx p s m _ meth c cX5_lay 4 (none) RX5 Z := ⟨⟨B.exec, B.bytes, B.returns, B.notSynchronized, hml, findClass_of_methodNamed B.named, hts⟩, hv.2⟩
  have hl := lv_entry [.ref (cSa Z (90 + x0)), .int x1, .int x2, .int x3] (n := 4) (Nat.le_of_ble_eq_true rfl)
  rw [lg_entry_eq]
  generalize (lg_sl [.ref (cSa Z (90 + x0)), .int x1, .int x2, .int x3] ++ List.replicate (4 - (lg_sl [.ref (cSa Z (90 + x0)), .int x1, .int x2, .int x3]).length) Slot.unset).toArray = ls at hl ⊢
  exact cfS_lay_w0 X ⟨Nat.le_refl _, Nat.le_refl _, Nat.le_refl _, Nat.le_refl _⟩ (fun q h => Or.inr h) (fun Y H locs t hM hS ht hW => ⟨rfl, ⟨Y, by rw [ht]; exact hM, cKs.warm hW X.2⟩, hS.F ht⟩) x0 x1 x2 x3 Y C _ _ ls (cPD.self hv.1) va_S.rf hl h

/-! SecondChances.costBy(LSecondChances$Sheet;)I -/
def cf_costBy_rm : Room := { frames := 5, cells := 0, slots := 0, locals := 121 }
def cf_costBy_P90 (p : Program) (l : Launch) (e : Env) (R : Room) (s : State) (m : MethodId) (args : Array Value) (below : List Frame) (meth : Method) (c : Code) (Z : CZ) (Y : CY) (H : Heap) (cells slots : Nat) (Qc : Array Value → State → Outcome → State → Prop) (free : Addr → Prop) (r : Int32) (f : Nat → Int32 → Int32 → Int32 → Int32 → Int32 → Option Int32) : Prop := ∀ (x1 : Nat) (x2 : Int32) (x3 : Int32) (x5 : Int32) (t0 : Int32) (t1 : Int32) (locs : List Loc) (ls : Array Slot), (∀ q ∈ locs, free q.base) → lv_has ls 6 [(0, .ref (cSa Z 0)), (1, .ref (cSa Z (90 + x1))), (2, .int x2), (3, .int x3), (5, .int x5)] → f x1 x2 x3 x5 t0 t1 = some r → W p l e R s m args below meth c H locs cells slots (MQ below Qc args s cells slots free) (F0 m 90 ls [.int t0, .int t1])
def cf_costBy_P57 (p : Program) (l : Launch) (e : Env) (R : Room) (s : State) (m : MethodId) (args : Array Value) (below : List Frame) (meth : Method) (c : Code) (Z : CZ) (Y : CY) (H : Heap) (cells slots : Nat) (Qc : Array Value → State → Outcome → State → Prop) (free : Addr → Prop) (r : Int32) (f : Nat → Int32 → Int32 → Int32 → Int32 → Option Int32) : Prop := ∀ (x1 : Nat) (x2 : Int32) (x3 : Int32) (x4 : Int32) (x5 : Int32) (locs : List Loc) (ls : Array Slot), (∀ q ∈ locs, free q.base) → lv_has ls 6 [(0, .ref (cSa Z 0)), (1, .ref (cSa Z (90 + x1))), (2, .int x2), (3, .int x3), (4, .int x4), (5, .int x5)] → f x1 x2 x3 x4 x5 = some r → W p l e R s m args below meth c H locs cells slots (MQ below Qc args s cells slots free) (F0 m 57 ls [])
def cf_costBy_P45 (p : Program) (l : Launch) (e : Env) (R : Room) (s : State) (m : MethodId) (args : Array Value) (below : List Frame) (meth : Method) (c : Code) (Z : CZ) (Y : CY) (H : Heap) (cells slots : Nat) (Qc : Array Value → State → Outcome → State → Prop) (free : Addr → Prop) (r : Int32) (f : Nat → Int32 → Int32 → Option Int32) : Prop := ∀ (x1 : Nat) (x2 : Int32) (x3 : Int32) (locs : List Loc) (ls : Array Slot), (∀ q ∈ locs, free q.base) → lv_has ls 6 [(0, .ref (cSa Z 0)), (1, .ref (cSa Z (90 + x1))), (2, .int x2), (3, .int x3)] → f x1 x2 x3 = some r → W p l e R s m args below meth c H locs cells slots (MQ below Qc args s cells slots free) (F0 m 45 ls [])
def cf_costBy_P4 (p : Program) (l : Launch) (e : Env) (R : Room) (s : State) (m : MethodId) (args : Array Value) (below : List Frame) (meth : Method) (c : Code) (Z : CZ) (Y : CY) (H : Heap) (cells slots : Nat) (Qc : Array Value → State → Outcome → State → Prop) (free : Addr → Prop) (r : Int32) (f : Nat → Int32 → Int32 → Option Int32) : Prop := ∀ (x1 : Nat) (x2 : Int32) (x3 : Int32) (locs : List Loc) (ls : Array Slot), (∀ q ∈ locs, free q.base) → lv_has ls 6 [(0, .ref (cSa Z 0)), (1, .ref (cSa Z (90 + x1))), (2, .int x2), (3, .int x3)] → f x1 x2 x3 = some r → W p l e R s m args below meth c H locs cells slots (MQ below Qc args s cells slots free) (F0 m 4 ls [])
def cf_costBy_P0 (p : Program) (l : Launch) (e : Env) (R : Room) (s : State) (m : MethodId) (args : Array Value) (below : List Frame) (meth : Method) (c : Code) (Z : CZ) (Y : CY) (H : Heap) (cells slots : Nat) (Qc : Array Value → State → Outcome → State → Prop) (free : Addr → Prop) (r : Int32) (f : Nat → Option Int32) : Prop := ∀ (x1 : Nat) (locs : List Loc) (ls : Array Slot), (∀ q ∈ locs, free q.base) → lv_has ls 6 [(0, .ref (cSa Z 0)), (1, .ref (cSa Z (90 + x1)))] → f x1 = some r → W p l e R s m args below meth c H locs cells slots (MQ below Qc args s cells slots free) (F0 m 0 ls [])
def cf_costBy_b90 (C : St) (k45 : Nat → Int32 → Int32 → Option Int32) (k57 : Nat → Int32 → Int32 → Int32 → Int32 → Option Int32) (x1 : Nat) (x2 : Int32) (x3 : Int32) (x5 : Int32) (t0 : Int32) (t1 : Int32) : Option Int32 :=
  lt_ (t1 ||| t0) fun v1 =>
  k57 x1 x2 x3 v1 (x5 + 1)
theorem cf_costBy_w90 {p : Program} {l : Launch} {e : Env} {R : Room} {s : State} {m : MethodId} {args : Array Value} {below : List Frame} {meth : Method} {c : Code} {Z : CZ} {Y : CY} {A : Nat → Prop} {C : St} {H : Heap} {cells slots : Nat} {Qc : Array Value → State → Outcome → State → Prop} {free : Addr → Prop} (X : CCx p s m args meth c cX0_costBy 6 (some .int) RX0 Z) (hM : cPD Z Y A C H) (hR : cf_costBy_rm.frames ≤ R.frames ∧ cf_costBy_rm.locals ≤ R.locals ∧ cells ≤ R.cells ∧ slots ≤ R.slots) (hF : ∀ q, cFr Z q → free q) {r : Int32} (hQ : ∀ t : State, t.heap = H → s.WarmedH t.vm → Qc args s (.returned (some (.int r))) t) {k45 : Nat → Int32 → Int32 → Option Int32} (hk45 : cf_costBy_P45 p l e R s m args below meth c Z Y H cells slots Qc free r k45) {k57 : Nat → Int32 → Int32 → Int32 → Int32 → Option Int32} (hk57 : cf_costBy_P57 p l e R s m args below meth c Z Y H cells slots Qc free r k57) : cf_costBy_P90 p l e R s m args below meth c Z Y H cells slots Qc free r (cf_costBy_b90 C k45 k57) := by
  intro x1 x2 x3 x5 t0 t1 locs ls hL hl h
  obtain ⟨⟨hx, hb, hr, hlocks, hml, hown, hts⟩, hK⟩ := id X
  unfold cf_costBy_b90 at h
  refine lv_ior hx hb dX0_costBy_90 ?_
  refine lv_topi (fun v1 e_v1 => ?_)
  have h := lt_i h e_v1
  refine lv_istore (lv' := [(4, .int v1), (0, .ref (cSa Z 0)), (1, .ref (cSa Z (90 + x1))), (2, .int x2), (3, .int x3), (5, .int x5)]) hx hb dX0_costBy_91 hl (by decide) rfl (fun ls hl => ?_)
  refine lv_iinc (v := (x5 + 1)) (lv' := [(5, .int (x5 + 1)), (4, .int v1), (0, .ref (cSa Z 0)), (1, .ref (cSa Z (90 + x1))), (2, .int x2), (3, .int x3)]) hx hb dX0_costBy_93 hl (k := 5) rfl rfl (by decide) rfl (fun ls hl => ?_)
  refine lv_goto (tgt := 57) hx hb dX0_costBy_96 (by decide) ?_
  exact hk57 x1 x2 x3 v1 (x5 + 1) _ ls hL (lv_sub hl [2, 3, 4, 5, 1, 0] rfl) h
def cf_costBy_b57 (C : St) (k45 : Nat → Int32 → Int32 → Option Int32) (k57 : Nat → Int32 → Int32 → Int32 → Int32 → Option Int32) (x1 : Nat) (x2 : Int32) (x3 : Int32) (x4 : Int32) (x5 : Int32) : Option Int32 :=
  bd_ (cf_deeds C ) fun v1 =>
  if v1 ≤ x5 then (bd_ (cf_costOf C x4 x3) fun v3 =>
    if v3 = (1000000 : Int32) then (some (-3 : Int32))
    else (lt_ (x2 + v3) fun v5 =>
      k45 x1 v5 (x3 + 1)))
  else (gd_ (x1 < 4) <|
    bd_ (cfS_type C x1 ) fun v7 =>
    bd_ (cfS_item C x1 v7 x5) fun v8 =>
    if v8 = x3 then (cf_costBy_b90 C k45 k57 x1 x2 x3 x5 ((1 : Int32) <<< (x5 &&& 31)) x4)
    else (cf_costBy_b90 C k45 k57 x1 x2 x3 x5 (0 : Int32) x4))
theorem cf_costBy_w57 {p : Program} {l : Launch} {e : Env} {R : Room} {s : State} {m : MethodId} {args : Array Value} {below : List Frame} {meth : Method} {c : Code} {Z : CZ} {Y : CY} {A : Nat → Prop} {C : St} {H : Heap} {cells slots : Nat} {Qc : Array Value → State → Outcome → State → Prop} {free : Addr → Prop} (X : CCx p s m args meth c cX0_costBy 6 (some .int) RX0 Z) (hM : cPD Z Y A C H) (hR : cf_costBy_rm.frames ≤ R.frames ∧ cf_costBy_rm.locals ≤ R.locals ∧ cells ≤ R.cells ∧ slots ≤ R.slots) (hF : ∀ q, cFr Z q → free q) {r : Int32} (hQ : ∀ t : State, t.heap = H → s.WarmedH t.vm → Qc args s (.returned (some (.int r))) t) {k45 : Nat → Int32 → Int32 → Option Int32} (hk45 : cf_costBy_P45 p l e R s m args below meth c Z Y H cells slots Qc free r k45) {k57 : Nat → Int32 → Int32 → Int32 → Int32 → Option Int32} (hk57 : cf_costBy_P57 p l e R s m args below meth c Z Y H cells slots Qc free r k57) : cf_costBy_P57 p l e R s m args below meth c Z Y H cells slots Qc free r (cf_costBy_b57 C k45 k57) := by
  intro x1 x2 x3 x4 x5 locs ls hL hl h
  obtain ⟨⟨hx, hb, hr, hlocks, hml, hown, hts⟩, hK⟩ := id X
  unfold cf_costBy_b57 at h
  refine lv_iload hx hb dX0_costBy_57 (lv_at hl 5 rfl) ?_
  refine lv_aload_n hx hb dX0_costBy_59 rfl (lv_at hl 0 rfl) ?_
  obtain ⟨v1, q_v1, h⟩ := bd_e h
  refine f_roI (As := []) (rest := [.int x5]) X hM (c_recv0 X hM) hL hF (cf_deeds_met _ Z Y A C  v1 q_v1) (lw_V q630 q632 qs7 q79 q633) cf_deeds_hd ⟨rfl, rfl⟩ ⟨Nat.le_trans (m := cf_costBy_rm.frames) (Nat.le_of_ble_eq_true rfl) hR.1, Nat.le_trans (m := cf_costBy_rm.locals) (Nat.le_of_ble_eq_true rfl) hR.2.1⟩ ⟨hR.2.2.1, hR.2.2.2⟩ rfl hl.1 rfl (Nat.le_of_ble_eq_true rfl) dX0_costBy_60 (fun locs hL => ?_)
  refine lv_icmp_ge (tgt := 99) hx hb dX0_costBy_63 (by decide) (fun c2 => ?_) (fun c2 => ?_)
  · have h := ip_ c2 h
    refine lv_aload_n hx hb dX0_costBy_99 rfl (lv_at hl 0 rfl) ?_
    refine lv_iload hx hb dX0_costBy_100 (lv_at hl 4 rfl) ?_
    refine lv_iload_n hx hb dX0_costBy_102 rfl (lv_at hl 3 rfl) ?_
    obtain ⟨v3, q_v3, h⟩ := bd_e h
    refine f_roI (As := [.int x4, .int x3]) (rest := []) X hM (c_recv0 X hM) hL hF (cf_costOf_met _ Z Y A C x4 x3 v3 q_v3) (lw_V q751 q753 qs22 q79 q754) cf_costOf_hd ⟨rfl, rfl⟩ ⟨Nat.le_trans (m := cf_costBy_rm.frames) (Nat.le_of_ble_eq_true rfl) hR.1, Nat.le_trans (m := cf_costBy_rm.locals) (Nat.le_of_ble_eq_true rfl) hR.2.1⟩ ⟨hR.2.2.1, hR.2.2.2⟩ rfl hl.1 rfl (Nat.le_of_ble_eq_true rfl) dX0_costBy_103 (fun locs hL => ?_)
    refine lv_istore (lv' := [(5, .int v3), (0, .ref (cSa Z 0)), (1, .ref (cSa Z (90 + x1))), (2, .int x2), (3, .int x3), (4, .int x4)]) hx hb dX0_costBy_106 hl (by decide) rfl (fun ls hl => ?_)
    refine lv_iload hx hb dX0_costBy_108 (lv_at hl 0 rfl) ?_
    refine lv_ldc (v := 1000000) hx hb hown (hts _ q755) dX0_costBy_110 ?_
    refine lv_icmp_ne (tgt := 118) hx hb dX0_costBy_112 (by decide) (fun c4 => ?_) (fun c4 => ?_)
    · have h := in_ c4 h
      refine lv_iload_n hx hb dX0_costBy_118 rfl (lv_at hl 3 rfl) ?_
      refine lv_iload hx hb dX0_costBy_119 (lv_at hl 0 rfl) ?_
      refine lv_iadd hx hb dX0_costBy_121 ?_
      refine lv_topi (fun v5 e_v5 => ?_)
      have h := lt_i h e_v5
      refine lv_istore_n (lv' := [(2, .int v5), (5, .int v3), (0, .ref (cSa Z 0)), (1, .ref (cSa Z (90 + x1))), (3, .int x3), (4, .int x4)]) hx hb dX0_costBy_122 rfl hl (by decide) rfl (fun ls hl => ?_)
      refine lv_iinc (v := (x3 + 1)) (lv' := [(3, .int (x3 + 1)), (2, .int v5), (5, .int v3), (0, .ref (cSa Z 0)), (1, .ref (cSa Z (90 + x1))), (4, .int x4)]) hx hb dX0_costBy_123 hl (k := 4) rfl rfl (by decide) rfl (fun ls hl => ?_)
      refine lv_goto (tgt := 45) hx hb dX0_costBy_126 (by decide) ?_
      exact hk45 x1 v5 (x3 + 1) _ ls hL (lv_sub hl [3, 4, 1, 0] rfl) h
    · have h := ip_ c4 h
      refine lv_bipush (v := -3) hx hb dX0_costBy_115 (by decide) ?_
      have h := so_ h
      subst h
      exact W.iret hx hb hr (fun t ht hW => hQ t ht hW) hL dX0_costBy_117
  · have h := in_ c2 h
    refine lv_iload hx hb dX0_costBy_66 (lv_at hl 4 rfl) ?_
    refine lv_aload_n hx hb dX0_costBy_68 rfl (lv_at hl 1 rfl) ?_
    refine lv_aload_n hx hb dX0_costBy_69 rfl (lv_at hl 1 rfl) ?_
    obtain ⟨b6, h⟩ := gd_e h
    obtain ⟨v7, q_v7, h⟩ := bd_e h
    refine f_roI (As := []) (rest := [.ref (cSa Z (90 + x1)), .int x4]) X hM (c_recvH (q := x1) X hM b6) hL hF (cfS_type_met _ Z Y A C x1  v7 q_v7) (lw_V q342 q336 q337 q87 q338) cfS_type_hd ⟨rfl, rfl⟩ ⟨Nat.le_trans (m := cf_costBy_rm.frames) (Nat.le_of_ble_eq_true rfl) hR.1, Nat.le_trans (m := cf_costBy_rm.locals) (Nat.le_of_ble_eq_true rfl) hR.2.1⟩ ⟨hR.2.2.1, hR.2.2.2⟩ rfl hl.1 rfl (Nat.le_of_ble_eq_true rfl) dX0_costBy_70 (fun locs hL => ?_)
    refine lv_iload hx hb dX0_costBy_73 (lv_at hl 5 rfl) ?_
    obtain ⟨v8, q_v8, h⟩ := bd_e h
    refine f_roI (As := [.int v7, .int x5]) (rest := [.int x4]) X hM (c_recvH (q := x1) X hM b6) hL hF (cfS_item_met _ Z Y A C x1 v7 x5 v8 q_v8) (lw_V q343 q344 q345 q87 q346) cfS_item_hd ⟨rfl, rfl⟩ ⟨Nat.le_trans (m := cf_costBy_rm.frames) (Nat.le_of_ble_eq_true rfl) hR.1, Nat.le_trans (m := cf_costBy_rm.locals) (Nat.le_of_ble_eq_true rfl) hR.2.1⟩ ⟨hR.2.2.1, hR.2.2.2⟩ rfl hl.1 rfl (Nat.le_of_ble_eq_true rfl) dX0_costBy_75 (fun locs hL => ?_)
    refine lv_iload_n hx hb dX0_costBy_78 rfl (lv_at hl 3 rfl) ?_
    refine lv_icmp_ne (tgt := 89) hx hb dX0_costBy_79 (by decide) (fun c9 => ?_) (fun c9 => ?_)
    · have h := in_ c9 h
      refine lv_iconst (v := 0) hx hb dX0_costBy_89 (by decide) ?_
      exact cf_costBy_w90 X hM hR hF hQ hk45 hk57 x1 x2 x3 x5 (0 : Int32) x4 _ ls hL (lv_sub hl [0, 1, 2, 3, 5] rfl) h
    · have h := ip_ c9 h
      refine lv_iconst (v := 1) hx hb dX0_costBy_82 (by decide) ?_
      refine lv_iload hx hb dX0_costBy_83 (lv_at hl 5 rfl) ?_
      refine lv_ishl hx hb dX0_costBy_85 ?_
      refine lv_goto (tgt := 90) hx hb dX0_costBy_86 (by decide) ?_
      exact cf_costBy_w90 X hM hR hF hQ hk45 hk57 x1 x2 x3 x5 ((1 : Int32) <<< (x5 &&& 31)) x4 _ ls hL (lv_sub hl [0, 1, 2, 3, 5] rfl) h
def cf_costBy_l57 (C : St) (k45 : Nat → Int32 → Int32 → Option Int32) (n : Nat) : Nat → Int32 → Int32 → Int32 → Int32 → Option Int32 := lp (fun _ _ _ _ _ => none) (cf_costBy_b57 C k45) n
theorem cf_costBy_lw57 {p : Program} {l : Launch} {e : Env} {R : Room} {s : State} {m : MethodId} {args : Array Value} {below : List Frame} {meth : Method} {c : Code} {Z : CZ} {Y : CY} {A : Nat → Prop} {C : St} {H : Heap} {cells slots : Nat} {Qc : Array Value → State → Outcome → State → Prop} {free : Addr → Prop} (X : CCx p s m args meth c cX0_costBy 6 (some .int) RX0 Z) (hM : cPD Z Y A C H) (hR : cf_costBy_rm.frames ≤ R.frames ∧ cf_costBy_rm.locals ≤ R.locals ∧ cells ≤ R.cells ∧ slots ≤ R.slots) (hF : ∀ q, cFr Z q → free q) {r : Int32} (hQ : ∀ t : State, t.heap = H → s.WarmedH t.vm → Qc args s (.returned (some (.int r))) t) {k45 : Nat → Int32 → Int32 → Option Int32} (hk45 : cf_costBy_P45 p l e R s m args below meth c Z Y H cells slots Qc free r k45) : ∀ n : Nat, cf_costBy_P57 p l e R s m args below meth c Z Y H cells slots Qc free r (cf_costBy_l57 C k45 n) := by
  intro n
  induction n with
  | zero => intro x1 x2 x3 x4 x5 locs ls hL hl h; exact no_ h
  | succ n ih => exact cf_costBy_w57 X hM hR hF hQ hk45 ih
def cf_costBy_b45 (C : St) (k45 : Nat → Int32 → Int32 → Option Int32) (x1 : Nat) (x2 : Int32) (x3 : Int32) : Option Int32 :=
  if (8 : Int32) ≤ x3 then (some x2)
  else (cf_costBy_l57 C k45 FU x1 x2 x3 (0 : Int32) (0 : Int32))
theorem cf_costBy_w45 {p : Program} {l : Launch} {e : Env} {R : Room} {s : State} {m : MethodId} {args : Array Value} {below : List Frame} {meth : Method} {c : Code} {Z : CZ} {Y : CY} {A : Nat → Prop} {C : St} {H : Heap} {cells slots : Nat} {Qc : Array Value → State → Outcome → State → Prop} {free : Addr → Prop} (X : CCx p s m args meth c cX0_costBy 6 (some .int) RX0 Z) (hM : cPD Z Y A C H) (hR : cf_costBy_rm.frames ≤ R.frames ∧ cf_costBy_rm.locals ≤ R.locals ∧ cells ≤ R.cells ∧ slots ≤ R.slots) (hF : ∀ q, cFr Z q → free q) {r : Int32} (hQ : ∀ t : State, t.heap = H → s.WarmedH t.vm → Qc args s (.returned (some (.int r))) t) {k45 : Nat → Int32 → Int32 → Option Int32} (hk45 : cf_costBy_P45 p l e R s m args below meth c Z Y H cells slots Qc free r k45) : cf_costBy_P45 p l e R s m args below meth c Z Y H cells slots Qc free r (cf_costBy_b45 C k45) := by
  intro x1 x2 x3 locs ls hL hl h
  obtain ⟨⟨hx, hb, hr, hlocks, hml, hown, hts⟩, hK⟩ := id X
  unfold cf_costBy_b45 at h
  refine lv_iload_n hx hb dX0_costBy_45 rfl (lv_at hl 3 rfl) ?_
  refine lv_bipush (v := 8) hx hb dX0_costBy_46 (by decide) ?_
  refine lv_icmp_ge (tgt := 129) hx hb dX0_costBy_48 (by decide) (fun c1 => ?_) (fun c1 => ?_)
  · have h := ip_ c1 h
    refine lv_iload_n hx hb dX0_costBy_129 rfl (lv_at hl 2 rfl) ?_
    have h := so_ h
    subst h
    exact W.iret hx hb hr (fun t ht hW => hQ t ht hW) hL dX0_costBy_130
  · have h := in_ c1 h
    refine lv_iconst (v := 0) hx hb dX0_costBy_51 (by decide) ?_
    refine lv_istore (lv' := [(4, .int (0 : Int32)), (0, .ref (cSa Z 0)), (1, .ref (cSa Z (90 + x1))), (2, .int x2), (3, .int x3)]) hx hb dX0_costBy_52 hl (by decide) rfl (fun ls hl => ?_)
    refine lv_iconst (v := 0) hx hb dX0_costBy_54 (by decide) ?_
    refine lv_istore (lv' := [(5, .int (0 : Int32)), (4, .int (0 : Int32)), (0, .ref (cSa Z 0)), (1, .ref (cSa Z (90 + x1))), (2, .int x2), (3, .int x3)]) hx hb dX0_costBy_55 hl (by decide) rfl (fun ls hl => ?_)
    exact cf_costBy_lw57 X hM hR hF hQ hk45 FU x1 x2 x3 (0 : Int32) (0 : Int32) _ ls hL (lv_sub hl [2, 3, 4, 5, 1, 0] rfl) h
def cf_costBy_l45 (C : St) (n : Nat) : Nat → Int32 → Int32 → Option Int32 := lp (fun _ _ _ => none) (cf_costBy_b45 C) n
theorem cf_costBy_lw45 {p : Program} {l : Launch} {e : Env} {R : Room} {s : State} {m : MethodId} {args : Array Value} {below : List Frame} {meth : Method} {c : Code} {Z : CZ} {Y : CY} {A : Nat → Prop} {C : St} {H : Heap} {cells slots : Nat} {Qc : Array Value → State → Outcome → State → Prop} {free : Addr → Prop} (X : CCx p s m args meth c cX0_costBy 6 (some .int) RX0 Z) (hM : cPD Z Y A C H) (hR : cf_costBy_rm.frames ≤ R.frames ∧ cf_costBy_rm.locals ≤ R.locals ∧ cells ≤ R.cells ∧ slots ≤ R.slots) (hF : ∀ q, cFr Z q → free q) {r : Int32} (hQ : ∀ t : State, t.heap = H → s.WarmedH t.vm → Qc args s (.returned (some (.int r))) t) : ∀ n : Nat, cf_costBy_P45 p l e R s m args below meth c Z Y H cells slots Qc free r (cf_costBy_l45 C n) := by
  intro n
  induction n with
  | zero => intro x1 x2 x3 locs ls hL hl h; exact no_ h
  | succ n ih => exact cf_costBy_w45 X hM hR hF hQ ih
def cf_costBy_b4 (C : St) (k4 : Nat → Int32 → Int32 → Option Int32) (x1 : Nat) (x2 : Int32) (x3 : Int32) : Option Int32 :=
  bd_ (cf_deeds C ) fun v1 =>
  if v1 ≤ x3 then (cf_costBy_l45 C FU x1 x2 (0 : Int32))
  else (gd_ (x1 < 4) <|
    bd_ (cfS_type C x1 ) fun v4 =>
    bd_ (cfS_item C x1 v4 x3) fun v5 =>
    bd_ (cf_in (v5.toInt64) (-1 : Int64) (7 : Int64)) fun v6 =>
    if v6 = 0 then (some (-3 : Int32))
    else (k4 x1 x2 (x3 + 1)))
theorem cf_costBy_w4 {p : Program} {l : Launch} {e : Env} {R : Room} {s : State} {m : MethodId} {args : Array Value} {below : List Frame} {meth : Method} {c : Code} {Z : CZ} {Y : CY} {A : Nat → Prop} {C : St} {H : Heap} {cells slots : Nat} {Qc : Array Value → State → Outcome → State → Prop} {free : Addr → Prop} (X : CCx p s m args meth c cX0_costBy 6 (some .int) RX0 Z) (hM : cPD Z Y A C H) (hR : cf_costBy_rm.frames ≤ R.frames ∧ cf_costBy_rm.locals ≤ R.locals ∧ cells ≤ R.cells ∧ slots ≤ R.slots) (hF : ∀ q, cFr Z q → free q) {r : Int32} (hQ : ∀ t : State, t.heap = H → s.WarmedH t.vm → Qc args s (.returned (some (.int r))) t) {k4 : Nat → Int32 → Int32 → Option Int32} (hk4 : cf_costBy_P4 p l e R s m args below meth c Z Y H cells slots Qc free r k4) : cf_costBy_P4 p l e R s m args below meth c Z Y H cells slots Qc free r (cf_costBy_b4 C k4) := by
  intro x1 x2 x3 locs ls hL hl h
  obtain ⟨⟨hx, hb, hr, hlocks, hml, hown, hts⟩, hK⟩ := id X
  unfold cf_costBy_b4 at h
  refine lv_iload_n hx hb dX0_costBy_4 rfl (lv_at hl 3 rfl) ?_
  refine lv_aload_n hx hb dX0_costBy_5 rfl (lv_at hl 0 rfl) ?_
  obtain ⟨v1, q_v1, h⟩ := bd_e h
  refine f_roI (As := []) (rest := [.int x3]) X hM (c_recv0 X hM) hL hF (cf_deeds_met _ Z Y A C  v1 q_v1) (lw_V q630 q632 qs7 q79 q633) cf_deeds_hd ⟨rfl, rfl⟩ ⟨Nat.le_trans (m := cf_costBy_rm.frames) (Nat.le_of_ble_eq_true rfl) hR.1, Nat.le_trans (m := cf_costBy_rm.locals) (Nat.le_of_ble_eq_true rfl) hR.2.1⟩ ⟨hR.2.2.1, hR.2.2.2⟩ rfl hl.1 rfl (Nat.le_of_ble_eq_true rfl) dX0_costBy_6 (fun locs hL => ?_)
  refine lv_icmp_ge (tgt := 43) hx hb dX0_costBy_9 (by decide) (fun c2 => ?_) (fun c2 => ?_)
  · have h := ip_ c2 h
    refine lv_iconst (v := 0) hx hb dX0_costBy_43 (by decide) ?_
    refine lv_istore_n (lv' := [(3, .int (0 : Int32)), (0, .ref (cSa Z 0)), (1, .ref (cSa Z (90 + x1))), (2, .int x2)]) hx hb dX0_costBy_44 rfl hl (by decide) rfl (fun ls hl => ?_)
    exact cf_costBy_lw45 X hM hR hF hQ FU x1 x2 (0 : Int32) _ ls hL (lv_sub hl [1, 2, 3, 0] rfl) h
  · have h := in_ c2 h
    refine lv_aload_n hx hb dX0_costBy_12 rfl (lv_at hl 1 rfl) ?_
    refine lv_aload_n hx hb dX0_costBy_13 rfl (lv_at hl 1 rfl) ?_
    obtain ⟨b3, h⟩ := gd_e h
    obtain ⟨v4, q_v4, h⟩ := bd_e h
    refine f_roI (As := []) (rest := [.ref (cSa Z (90 + x1))]) X hM (c_recvH (q := x1) X hM b3) hL hF (cfS_type_met _ Z Y A C x1  v4 q_v4) (lw_V q342 q336 q337 q87 q338) cfS_type_hd ⟨rfl, rfl⟩ ⟨Nat.le_trans (m := cf_costBy_rm.frames) (Nat.le_of_ble_eq_true rfl) hR.1, Nat.le_trans (m := cf_costBy_rm.locals) (Nat.le_of_ble_eq_true rfl) hR.2.1⟩ ⟨hR.2.2.1, hR.2.2.2⟩ rfl hl.1 rfl (Nat.le_of_ble_eq_true rfl) dX0_costBy_14 (fun locs hL => ?_)
    refine lv_iload_n hx hb dX0_costBy_17 rfl (lv_at hl 3 rfl) ?_
    obtain ⟨v5, q_v5, h⟩ := bd_e h
    refine f_roI (As := [.int v4, .int x3]) (rest := []) X hM (c_recvH (q := x1) X hM b3) hL hF (cfS_item_met _ Z Y A C x1 v4 x3 v5 q_v5) (lw_V q343 q344 q345 q87 q346) cfS_item_hd ⟨rfl, rfl⟩ ⟨Nat.le_trans (m := cf_costBy_rm.frames) (Nat.le_of_ble_eq_true rfl) hR.1, Nat.le_trans (m := cf_costBy_rm.locals) (Nat.le_of_ble_eq_true rfl) hR.2.1⟩ ⟨hR.2.2.1, hR.2.2.2⟩ rfl hl.1 rfl (Nat.le_of_ble_eq_true rfl) dX0_costBy_18 (fun locs hL => ?_)
    refine lv_i2l hx hb dX0_costBy_21 rfl ?_
    refine lv_ldc2 (v := -1) hx hb hown (hts _ q785) dX0_costBy_22 ?_
    refine lv_ldc2 (v := 7) hx hb hown (hts _ q297) dX0_costBy_25 ?_
    obtain ⟨v6, q_v6, h⟩ := bd_e h
    refine s_roI (As := [.long (v5.toInt64), .long (-1 : Int64), .long (7 : Int64)]) (rest := []) X.1 (cf_in_met _ (v5.toInt64) (-1 : Int64) (7 : Int64) v6 q_v6) (lw_S q298 q299 q79 q300) cf_in_hd ⟨rfl, rfl⟩ ⟨Nat.le_trans (m := cf_costBy_rm.frames) (Nat.le_of_ble_eq_true rfl) hR.1, Nat.le_trans (m := cf_costBy_rm.locals) (Nat.le_of_ble_eq_true rfl) hR.2.1⟩ ⟨hR.2.2.1, hR.2.2.2⟩ rfl hl.1 rfl (Nat.le_of_ble_eq_true rfl) dX0_costBy_28 ?_
    refine lv_if_ne (tgt := 37) hx hb dX0_costBy_31 (by decide) (fun c7 => ?_) (fun c7 => ?_)
    · have h := in_ c7 h
      refine lv_iinc (v := (x3 + 1)) (lv' := [(3, .int (x3 + 1)), (0, .ref (cSa Z 0)), (1, .ref (cSa Z (90 + x1))), (2, .int x2)]) hx hb dX0_costBy_37 hl (k := 3) rfl rfl (by decide) rfl (fun ls hl => ?_)
      refine lv_goto (tgt := 4) hx hb dX0_costBy_40 (by decide) ?_
      exact hk4 x1 x2 (x3 + 1) _ ls hL (lv_sub hl [1, 2, 3, 0] rfl) h
    · have h := ip_ c7 h
      refine lv_bipush (v := -3) hx hb dX0_costBy_34 (by decide) ?_
      have h := so_ h
      subst h
      exact W.iret hx hb hr (fun t ht hW => hQ t ht hW) hL dX0_costBy_36
def cf_costBy_l4 (C : St) (n : Nat) : Nat → Int32 → Int32 → Option Int32 := lp (fun _ _ _ => none) (cf_costBy_b4 C) n
theorem cf_costBy_lw4 {p : Program} {l : Launch} {e : Env} {R : Room} {s : State} {m : MethodId} {args : Array Value} {below : List Frame} {meth : Method} {c : Code} {Z : CZ} {Y : CY} {A : Nat → Prop} {C : St} {H : Heap} {cells slots : Nat} {Qc : Array Value → State → Outcome → State → Prop} {free : Addr → Prop} (X : CCx p s m args meth c cX0_costBy 6 (some .int) RX0 Z) (hM : cPD Z Y A C H) (hR : cf_costBy_rm.frames ≤ R.frames ∧ cf_costBy_rm.locals ≤ R.locals ∧ cells ≤ R.cells ∧ slots ≤ R.slots) (hF : ∀ q, cFr Z q → free q) {r : Int32} (hQ : ∀ t : State, t.heap = H → s.WarmedH t.vm → Qc args s (.returned (some (.int r))) t) : ∀ n : Nat, cf_costBy_P4 p l e R s m args below meth c Z Y H cells slots Qc free r (cf_costBy_l4 C n) := by
  intro n
  induction n with
  | zero => intro x1 x2 x3 locs ls hL hl h; exact no_ h
  | succ n ih => exact cf_costBy_w4 X hM hR hF hQ ih
def cf_costBy (C : St) (x1 : Nat) : Option Int32 :=
  cf_costBy_l4 C FU x1 (0 : Int32) (0 : Int32)
theorem cf_costBy_w0 {p : Program} {l : Launch} {e : Env} {R : Room} {s : State} {m : MethodId} {args : Array Value} {below : List Frame} {meth : Method} {c : Code} {Z : CZ} {Y : CY} {A : Nat → Prop} {C : St} {H : Heap} {cells slots : Nat} {Qc : Array Value → State → Outcome → State → Prop} {free : Addr → Prop} (X : CCx p s m args meth c cX0_costBy 6 (some .int) RX0 Z) (hM : cPD Z Y A C H) (hR : cf_costBy_rm.frames ≤ R.frames ∧ cf_costBy_rm.locals ≤ R.locals ∧ cells ≤ R.cells ∧ slots ≤ R.slots) (hF : ∀ q, cFr Z q → free q) {r : Int32} (hQ : ∀ t : State, t.heap = H → s.WarmedH t.vm → Qc args s (.returned (some (.int r))) t) : cf_costBy_P0 p l e R s m args below meth c Z Y H cells slots Qc free r (cf_costBy C) := by
  intro x1 locs ls hL hl h
  obtain ⟨⟨hx, hb, hr, hlocks, hml, hown, hts⟩, hK⟩ := id X
  unfold cf_costBy at h
  refine lv_iconst (v := 0) hx hb dX0_costBy_0 (by decide) ?_
  refine lv_istore_n (lv' := [(2, .int (0 : Int32)), (0, .ref (cSa Z 0)), (1, .ref (cSa Z (90 + x1)))]) hx hb dX0_costBy_1 rfl hl (by decide) rfl (fun ls hl => ?_)
  refine lv_iconst (v := 0) hx hb dX0_costBy_2 (by decide) ?_
  refine lv_istore_n (lv' := [(3, .int (0 : Int32)), (2, .int (0 : Int32)), (0, .ref (cSa Z 0)), (1, .ref (cSa Z (90 + x1)))]) hx hb dX0_costBy_3 rfl hl (by decide) rfl (fun ls hl => ?_)
  exact cf_costBy_lw4 X hM hR hF hQ FU x1 (0 : Int32) (0 : Int32) _ ls hL (lv_sub hl [2, 3, 1, 0] rfl) h
theorem cf_costBy_hd : yX0_costBy.cls = RX0 ∧ yX0_costBy.cls ≠ "java/lang/invoke/MethodHandle" ∧ yX0_costBy.cls ≠ "java/lang/invoke/VarHandle" ∧ (parseMethodDescriptor yX0_costBy.desc).map (fun d => d.parameters.length) = some 1 := by decide +kernel
theorem cf_costBy_met (l : Launch) (Z : CZ) (Y : CY) (A : Nat → Prop) (C : St) (x1 : Nat) (r : Int32) (h : cf_costBy C x1 = some r) : Met l yX0_costBy (ws_ yX0_costBy cX0_costBy 6 (some .int)) cf_costBy_rm (va_Pc [.ref (cSa Z 0), .ref (cSa Z (90 + x1))] (cS Z Y A C)) (Qro (some (.int r))) 0 0 (cFr Z) := by
  refine Met.ofW (cc := cX0_costBy) (maxL := 6) (ret := some .int) (by decide) rfl ?_
  intro p e s m args below meth c s₁ B hml hv
  obtain ⟨rfl, hv⟩ := hv
  have hts := atoms_spec (ws := ws_ yX0_costBy cX0_costBy 6 (some .int)) B.pre
  have hts : ∀ w ∈ lw_all, w.before _ s = true := fun w h => hts w (List.mem_cons_of_mem _ h)
  have X : CCx p s m _ meth c cX0_costBy 6 (some .int) RX0 Z := ⟨⟨B.exec, B.bytes, B.returns, B.notSynchronized, hml, findClass_of_methodNamed B.named, hts⟩, hv.2⟩
  have hl := lv_entry [.ref (cSa Z 0), .ref (cSa Z (90 + x1))] (n := 6) (Nat.le_of_ble_eq_true rfl)
  rw [lg_entry_eq]
  generalize (lg_sl [.ref (cSa Z 0), .ref (cSa Z (90 + x1))] ++ List.replicate (6 - (lg_sl [.ref (cSa Z 0), .ref (cSa Z (90 + x1))]).length) Slot.unset).toArray = ls at hl ⊢
  exact cf_costBy_w0 X hv.1 ⟨Nat.le_refl _, Nat.le_refl _, Nat.le_refl _, Nat.le_refl _⟩ (fun _ h => h) (fun t ht _ => ⟨rfl, ht⟩) x1 [] ls (fun q hq => by cases hq) hl h

/-! SecondChances.worthBy(LSecondChances$Sheet;)I -/
def cf_worthBy_rm : Room := { frames := 5, cells := 0, slots := 0, locals := 108 }
def cf_worthBy_P33 (p : Program) (l : Launch) (e : Env) (R : Room) (s : State) (m : MethodId) (args : Array Value) (below : List Frame) (meth : Method) (c : Code) (Z : CZ) (Y : CY) (H : Heap) (cells slots : Nat) (Qc : Array Value → State → Outcome → State → Prop) (free : Addr → Prop) (r : Int32) (f : Nat → Int32 → Int32 → Int32 → Option Int32) : Prop := ∀ (x1 : Nat) (x3 : Int32) (t0 : Int32) (t1 : Int32) (locs : List Loc) (ls : Array Slot), (∀ q ∈ locs, free q.base) → lv_has ls 4 [(0, .ref (cSa Z 0)), (1, .ref (cSa Z (90 + x1))), (3, .int x3)] → f x1 x3 t0 t1 = some r → W p l e R s m args below meth c H locs cells slots (MQ below Qc args s cells slots free) (F0 m 33 ls [.int t0, .int t1])
def cf_worthBy_P4 (p : Program) (l : Launch) (e : Env) (R : Room) (s : State) (m : MethodId) (args : Array Value) (below : List Frame) (meth : Method) (c : Code) (Z : CZ) (Y : CY) (H : Heap) (cells slots : Nat) (Qc : Array Value → State → Outcome → State → Prop) (free : Addr → Prop) (r : Int32) (f : Nat → Int32 → Int32 → Option Int32) : Prop := ∀ (x1 : Nat) (x2 : Int32) (x3 : Int32) (locs : List Loc) (ls : Array Slot), (∀ q ∈ locs, free q.base) → lv_has ls 4 [(0, .ref (cSa Z 0)), (1, .ref (cSa Z (90 + x1))), (2, .int x2), (3, .int x3)] → f x1 x2 x3 = some r → W p l e R s m args below meth c H locs cells slots (MQ below Qc args s cells slots free) (F0 m 4 ls [])
def cf_worthBy_P0 (p : Program) (l : Launch) (e : Env) (R : Room) (s : State) (m : MethodId) (args : Array Value) (below : List Frame) (meth : Method) (c : Code) (Z : CZ) (Y : CY) (H : Heap) (cells slots : Nat) (Qc : Array Value → State → Outcome → State → Prop) (free : Addr → Prop) (r : Int32) (f : Nat → Option Int32) : Prop := ∀ (x1 : Nat) (locs : List Loc) (ls : Array Slot), (∀ q ∈ locs, free q.base) → lv_has ls 4 [(0, .ref (cSa Z 0)), (1, .ref (cSa Z (90 + x1)))] → f x1 = some r → W p l e R s m args below meth c H locs cells slots (MQ below Qc args s cells slots free) (F0 m 0 ls [])
def cf_worthBy_b33 (C : St) (k4 : Nat → Int32 → Int32 → Option Int32) (x1 : Nat) (x3 : Int32) (t0 : Int32) (t1 : Int32) : Option Int32 :=
  lt_ (t1 ||| t0) fun v1 =>
  k4 x1 v1 (x3 + 1)
theorem cf_worthBy_w33 {p : Program} {l : Launch} {e : Env} {R : Room} {s : State} {m : MethodId} {args : Array Value} {below : List Frame} {meth : Method} {c : Code} {Z : CZ} {Y : CY} {A : Nat → Prop} {C : St} {H : Heap} {cells slots : Nat} {Qc : Array Value → State → Outcome → State → Prop} {free : Addr → Prop} (X : CCx p s m args meth c cX0_worthBy 4 (some .int) RX0 Z) (hM : cPD Z Y A C H) (hR : cf_worthBy_rm.frames ≤ R.frames ∧ cf_worthBy_rm.locals ≤ R.locals ∧ cells ≤ R.cells ∧ slots ≤ R.slots) (hF : ∀ q, cFr Z q → free q) {r : Int32} (hQ : ∀ t : State, t.heap = H → s.WarmedH t.vm → Qc args s (.returned (some (.int r))) t) {k4 : Nat → Int32 → Int32 → Option Int32} (hk4 : cf_worthBy_P4 p l e R s m args below meth c Z Y H cells slots Qc free r k4) : cf_worthBy_P33 p l e R s m args below meth c Z Y H cells slots Qc free r (cf_worthBy_b33 C k4) := by
  intro x1 x3 t0 t1 locs ls hL hl h
  obtain ⟨⟨hx, hb, hr, hlocks, hml, hown, hts⟩, hK⟩ := id X
  unfold cf_worthBy_b33 at h
  refine lv_ior hx hb dX0_worthBy_33 ?_
  refine lv_topi (fun v1 e_v1 => ?_)
  have h := lt_i h e_v1
  refine lv_istore_n (lv' := [(2, .int v1), (0, .ref (cSa Z 0)), (1, .ref (cSa Z (90 + x1))), (3, .int x3)]) hx hb dX0_worthBy_34 rfl hl (by decide) rfl (fun ls hl => ?_)
  refine lv_iinc (v := (x3 + 1)) (lv' := [(3, .int (x3 + 1)), (2, .int v1), (0, .ref (cSa Z 0)), (1, .ref (cSa Z (90 + x1)))]) hx hb dX0_worthBy_35 hl (k := 3) rfl rfl (by decide) rfl (fun ls hl => ?_)
  refine lv_goto (tgt := 4) hx hb dX0_worthBy_38 (by decide) ?_
  exact hk4 x1 v1 (x3 + 1) _ ls hL (lv_sub hl [2, 3, 1, 0] rfl) h
def cf_worthBy_b4 (C : St) (k4 : Nat → Int32 → Int32 → Option Int32) (x1 : Nat) (x2 : Int32) (x3 : Int32) : Option Int32 :=
  bd_ (cf_deeds C ) fun v1 =>
  if v1 ≤ x3 then (bd_ (cf_worthOf C x2) fun v3 =>
    some v3)
  else (gd_ (x1 < 4) <|
    bd_ (cfS_type C x1 ) fun v5 =>
    bd_ (cfS_item C x1 v5 x3) fun v6 =>
    if v6 = (-1 : Int32) then (cf_worthBy_b33 C k4 x1 x3 (0 : Int32) x2)
    else (cf_worthBy_b33 C k4 x1 x3 ((1 : Int32) <<< (x3 &&& 31)) x2))
theorem cf_worthBy_w4 {p : Program} {l : Launch} {e : Env} {R : Room} {s : State} {m : MethodId} {args : Array Value} {below : List Frame} {meth : Method} {c : Code} {Z : CZ} {Y : CY} {A : Nat → Prop} {C : St} {H : Heap} {cells slots : Nat} {Qc : Array Value → State → Outcome → State → Prop} {free : Addr → Prop} (X : CCx p s m args meth c cX0_worthBy 4 (some .int) RX0 Z) (hM : cPD Z Y A C H) (hR : cf_worthBy_rm.frames ≤ R.frames ∧ cf_worthBy_rm.locals ≤ R.locals ∧ cells ≤ R.cells ∧ slots ≤ R.slots) (hF : ∀ q, cFr Z q → free q) {r : Int32} (hQ : ∀ t : State, t.heap = H → s.WarmedH t.vm → Qc args s (.returned (some (.int r))) t) {k4 : Nat → Int32 → Int32 → Option Int32} (hk4 : cf_worthBy_P4 p l e R s m args below meth c Z Y H cells slots Qc free r k4) : cf_worthBy_P4 p l e R s m args below meth c Z Y H cells slots Qc free r (cf_worthBy_b4 C k4) := by
  intro x1 x2 x3 locs ls hL hl h
  obtain ⟨⟨hx, hb, hr, hlocks, hml, hown, hts⟩, hK⟩ := id X
  unfold cf_worthBy_b4 at h
  refine lv_iload_n hx hb dX0_worthBy_4 rfl (lv_at hl 3 rfl) ?_
  refine lv_aload_n hx hb dX0_worthBy_5 rfl (lv_at hl 0 rfl) ?_
  obtain ⟨v1, q_v1, h⟩ := bd_e h
  refine f_roI (As := []) (rest := [.int x3]) X hM (c_recv0 X hM) hL hF (cf_deeds_met _ Z Y A C  v1 q_v1) (lw_V q630 q632 qs7 q79 q633) cf_deeds_hd ⟨rfl, rfl⟩ ⟨Nat.le_trans (m := cf_worthBy_rm.frames) (Nat.le_of_ble_eq_true rfl) hR.1, Nat.le_trans (m := cf_worthBy_rm.locals) (Nat.le_of_ble_eq_true rfl) hR.2.1⟩ ⟨hR.2.2.1, hR.2.2.2⟩ rfl hl.1 rfl (Nat.le_of_ble_eq_true rfl) dX0_worthBy_6 (fun locs hL => ?_)
  refine lv_icmp_ge (tgt := 41) hx hb dX0_worthBy_9 (by decide) (fun c2 => ?_) (fun c2 => ?_)
  · have h := ip_ c2 h
    refine lv_aload_n hx hb dX0_worthBy_41 rfl (lv_at hl 0 rfl) ?_
    refine lv_iload_n hx hb dX0_worthBy_42 rfl (lv_at hl 2 rfl) ?_
    obtain ⟨v3, q_v3, h⟩ := bd_e h
    refine f_roI (As := [.int x2]) (rest := []) X hM (c_recv0 X hM) hL hF (cf_worthOf_met _ Z Y A C x2 v3 q_v3) (lw_V q747 q749 qs21 q79 q750) cf_worthOf_hd ⟨rfl, rfl⟩ ⟨Nat.le_trans (m := cf_worthBy_rm.frames) (Nat.le_of_ble_eq_true rfl) hR.1, Nat.le_trans (m := cf_worthBy_rm.locals) (Nat.le_of_ble_eq_true rfl) hR.2.1⟩ ⟨hR.2.2.1, hR.2.2.2⟩ rfl hl.1 rfl (Nat.le_of_ble_eq_true rfl) dX0_worthBy_43 (fun locs hL => ?_)
    have h := so_ h
    subst h
    exact W.iret hx hb hr (fun t ht hW => hQ t ht hW) hL dX0_worthBy_46
  · have h := in_ c2 h
    refine lv_iload_n hx hb dX0_worthBy_12 rfl (lv_at hl 2 rfl) ?_
    refine lv_aload_n hx hb dX0_worthBy_13 rfl (lv_at hl 1 rfl) ?_
    refine lv_aload_n hx hb dX0_worthBy_14 rfl (lv_at hl 1 rfl) ?_
    obtain ⟨b4, h⟩ := gd_e h
    obtain ⟨v5, q_v5, h⟩ := bd_e h
    refine f_roI (As := []) (rest := [.ref (cSa Z (90 + x1)), .int x2]) X hM (c_recvH (q := x1) X hM b4) hL hF (cfS_type_met _ Z Y A C x1  v5 q_v5) (lw_V q342 q336 q337 q87 q338) cfS_type_hd ⟨rfl, rfl⟩ ⟨Nat.le_trans (m := cf_worthBy_rm.frames) (Nat.le_of_ble_eq_true rfl) hR.1, Nat.le_trans (m := cf_worthBy_rm.locals) (Nat.le_of_ble_eq_true rfl) hR.2.1⟩ ⟨hR.2.2.1, hR.2.2.2⟩ rfl hl.1 rfl (Nat.le_of_ble_eq_true rfl) dX0_worthBy_15 (fun locs hL => ?_)
    refine lv_iload_n hx hb dX0_worthBy_18 rfl (lv_at hl 3 rfl) ?_
    obtain ⟨v6, q_v6, h⟩ := bd_e h
    refine f_roI (As := [.int v5, .int x3]) (rest := [.int x2]) X hM (c_recvH (q := x1) X hM b4) hL hF (cfS_item_met _ Z Y A C x1 v5 x3 v6 q_v6) (lw_V q343 q344 q345 q87 q346) cfS_item_hd ⟨rfl, rfl⟩ ⟨Nat.le_trans (m := cf_worthBy_rm.frames) (Nat.le_of_ble_eq_true rfl) hR.1, Nat.le_trans (m := cf_worthBy_rm.locals) (Nat.le_of_ble_eq_true rfl) hR.2.1⟩ ⟨hR.2.2.1, hR.2.2.2⟩ rfl hl.1 rfl (Nat.le_of_ble_eq_true rfl) dX0_worthBy_19 (fun locs hL => ?_)
    refine lv_iconst (v := -1) hx hb dX0_worthBy_22 (by decide) ?_
    refine lv_icmp_ne (tgt := 30) hx hb dX0_worthBy_23 (by decide) (fun c7 => ?_) (fun c7 => ?_)
    · have h := in_ c7 h
      refine lv_iconst (v := 1) hx hb dX0_worthBy_30 (by decide) ?_
      refine lv_iload_n hx hb dX0_worthBy_31 rfl (lv_at hl 3 rfl) ?_
      refine lv_ishl hx hb dX0_worthBy_32 ?_
      exact cf_worthBy_w33 X hM hR hF hQ hk4 x1 x3 ((1 : Int32) <<< (x3 &&& 31)) x2 _ ls hL (lv_sub hl [0, 1, 3] rfl) h
    · have h := ip_ c7 h
      refine lv_iconst (v := 0) hx hb dX0_worthBy_26 (by decide) ?_
      refine lv_goto (tgt := 33) hx hb dX0_worthBy_27 (by decide) ?_
      exact cf_worthBy_w33 X hM hR hF hQ hk4 x1 x3 (0 : Int32) x2 _ ls hL (lv_sub hl [0, 1, 3] rfl) h
def cf_worthBy_l4 (C : St) (n : Nat) : Nat → Int32 → Int32 → Option Int32 := lp (fun _ _ _ => none) (cf_worthBy_b4 C) n
theorem cf_worthBy_lw4 {p : Program} {l : Launch} {e : Env} {R : Room} {s : State} {m : MethodId} {args : Array Value} {below : List Frame} {meth : Method} {c : Code} {Z : CZ} {Y : CY} {A : Nat → Prop} {C : St} {H : Heap} {cells slots : Nat} {Qc : Array Value → State → Outcome → State → Prop} {free : Addr → Prop} (X : CCx p s m args meth c cX0_worthBy 4 (some .int) RX0 Z) (hM : cPD Z Y A C H) (hR : cf_worthBy_rm.frames ≤ R.frames ∧ cf_worthBy_rm.locals ≤ R.locals ∧ cells ≤ R.cells ∧ slots ≤ R.slots) (hF : ∀ q, cFr Z q → free q) {r : Int32} (hQ : ∀ t : State, t.heap = H → s.WarmedH t.vm → Qc args s (.returned (some (.int r))) t) : ∀ n : Nat, cf_worthBy_P4 p l e R s m args below meth c Z Y H cells slots Qc free r (cf_worthBy_l4 C n) := by
  intro n
  induction n with
  | zero => intro x1 x2 x3 locs ls hL hl h; exact no_ h
  | succ n ih => exact cf_worthBy_w4 X hM hR hF hQ ih
def cf_worthBy (C : St) (x1 : Nat) : Option Int32 :=
  cf_worthBy_l4 C FU x1 (0 : Int32) (0 : Int32)
theorem cf_worthBy_w0 {p : Program} {l : Launch} {e : Env} {R : Room} {s : State} {m : MethodId} {args : Array Value} {below : List Frame} {meth : Method} {c : Code} {Z : CZ} {Y : CY} {A : Nat → Prop} {C : St} {H : Heap} {cells slots : Nat} {Qc : Array Value → State → Outcome → State → Prop} {free : Addr → Prop} (X : CCx p s m args meth c cX0_worthBy 4 (some .int) RX0 Z) (hM : cPD Z Y A C H) (hR : cf_worthBy_rm.frames ≤ R.frames ∧ cf_worthBy_rm.locals ≤ R.locals ∧ cells ≤ R.cells ∧ slots ≤ R.slots) (hF : ∀ q, cFr Z q → free q) {r : Int32} (hQ : ∀ t : State, t.heap = H → s.WarmedH t.vm → Qc args s (.returned (some (.int r))) t) : cf_worthBy_P0 p l e R s m args below meth c Z Y H cells slots Qc free r (cf_worthBy C) := by
  intro x1 locs ls hL hl h
  obtain ⟨⟨hx, hb, hr, hlocks, hml, hown, hts⟩, hK⟩ := id X
  unfold cf_worthBy at h
  refine lv_iconst (v := 0) hx hb dX0_worthBy_0 (by decide) ?_
  refine lv_istore_n (lv' := [(2, .int (0 : Int32)), (0, .ref (cSa Z 0)), (1, .ref (cSa Z (90 + x1)))]) hx hb dX0_worthBy_1 rfl hl (by decide) rfl (fun ls hl => ?_)
  refine lv_iconst (v := 0) hx hb dX0_worthBy_2 (by decide) ?_
  refine lv_istore_n (lv' := [(3, .int (0 : Int32)), (2, .int (0 : Int32)), (0, .ref (cSa Z 0)), (1, .ref (cSa Z (90 + x1)))]) hx hb dX0_worthBy_3 rfl hl (by decide) rfl (fun ls hl => ?_)
  exact cf_worthBy_lw4 X hM hR hF hQ FU x1 (0 : Int32) (0 : Int32) _ ls hL (lv_sub hl [2, 3, 1, 0] rfl) h
theorem cf_worthBy_hd : yX0_worthBy.cls = RX0 ∧ yX0_worthBy.cls ≠ "java/lang/invoke/MethodHandle" ∧ yX0_worthBy.cls ≠ "java/lang/invoke/VarHandle" ∧ (parseMethodDescriptor yX0_worthBy.desc).map (fun d => d.parameters.length) = some 1 := by decide +kernel
theorem cf_worthBy_met (l : Launch) (Z : CZ) (Y : CY) (A : Nat → Prop) (C : St) (x1 : Nat) (r : Int32) (h : cf_worthBy C x1 = some r) : Met l yX0_worthBy (ws_ yX0_worthBy cX0_worthBy 4 (some .int)) cf_worthBy_rm (va_Pc [.ref (cSa Z 0), .ref (cSa Z (90 + x1))] (cS Z Y A C)) (Qro (some (.int r))) 0 0 (cFr Z) := by
  refine Met.ofW (cc := cX0_worthBy) (maxL := 4) (ret := some .int) (by decide) rfl ?_
  intro p e s m args below meth c s₁ B hml hv
  obtain ⟨rfl, hv⟩ := hv
  have hts := atoms_spec (ws := ws_ yX0_worthBy cX0_worthBy 4 (some .int)) B.pre
  have hts : ∀ w ∈ lw_all, w.before _ s = true := fun w h => hts w (List.mem_cons_of_mem _ h)
  have X : CCx p s m _ meth c cX0_worthBy 4 (some .int) RX0 Z := ⟨⟨B.exec, B.bytes, B.returns, B.notSynchronized, hml, findClass_of_methodNamed B.named, hts⟩, hv.2⟩
  have hl := lv_entry [.ref (cSa Z 0), .ref (cSa Z (90 + x1))] (n := 4) (Nat.le_of_ble_eq_true rfl)
  rw [lg_entry_eq]
  generalize (lg_sl [.ref (cSa Z 0), .ref (cSa Z (90 + x1))] ++ List.replicate (4 - (lg_sl [.ref (cSa Z 0), .ref (cSa Z (90 + x1))]).length) Slot.unset).toArray = ls at hl ⊢
  exact cf_worthBy_w0 X hv.1 ⟨Nat.le_refl _, Nat.le_refl _, Nat.le_refl _, Nat.le_refl _⟩ (fun _ h => h) (fun t ht _ => ⟨rfl, ht⟩) x1 [] ls (fun q hq => by cases hq) hl h

/-! SecondChances.plan(II)I -/
def cf_plan_rm : Room := { frames := 6, cells := 0, slots := 0, locals := 146 }
def cf_plan_P0 (p : Program) (l : Launch) (e : Env) (R : Room) (s : State) (m : MethodId) (args : Array Value) (below : List Frame) (meth : Method) (c : Code) (Z : CZ) (A : Nat → Prop) (cells slots : Nat) (Qc : Array Value → State → Outcome → State → Prop) (r : (Int32 × St)) (f : Int32 → Int32 → St → Option (Int32 × St)) : Prop := ∀ (x1 : Int32) (x2 : Int32) (Y : CY) (C : St) (H : Heap) (locs : List Loc) (ls : Array Slot), cPD Z Y A C H → va_S A s.heap H locs → lv_has ls 5 [(0, .ref (cSa Z 0)), (1, .int x1), (2, .int x2)] → f x1 x2 C = some r → W p l e R s m args below meth c H locs cells slots (MQ below Qc args s cells slots A) (F0 m 0 ls [])
def cf_plan (x1 : Int32) (x2 : Int32) (C : St) : Option (Int32 × St) :=
  bd_ (cf_isSheet x1) fun v1 =>
  if v1 = 0 then (some ((-2 : Int32), C))
  else (bd_ (cf_in (x2.toInt64) (0 : Int64) (2 : Int64)) fun v3 =>
    if v3 = 0 then (some ((-2 : Int32), C))
    else (ix_ 4 x1 fun q5 =>
      if C (60 + q5) 0 = 1 then (bd_ (cfS_size C q5 ) fun v7 =>
        bd_ (cf_deeds C ) fun v8 =>
        if v8 ≤ v7 then (bd_ (cf_costBy C q5) fun v10 =>
          if x2 = 0 then (if v10 = (-3 : Int32) then (some ((0 : Int32), C))
            else (some ((1 : Int32), C)))
          else (if v10 = (-3 : Int32) then (some (v10, C))
            else (if x2 = (2 : Int32) then (some (v10, C))
              else (bd_ (cf_worthBy C q5) fun v14 =>
                some (v14, C)))))
        else (some ((-3 : Int32), C)))
      else (bd2_ (cf_met (1 : Int32) C) fun v17 C16 =>
        some (v17, C16))))
theorem cf_plan_w0 {p : Program} {l : Launch} {e : Env} {R : Room} {s : State} {m : MethodId} {args : Array Value} {below : List Frame} {meth : Method} {c : Code} {Z : CZ} {A : Nat → Prop} {cells slots : Nat} {Qc : Array Value → State → Outcome → State → Prop} (X : CCx p s m args meth c cX0_plan 5 (some .int) RX0 Z) (hR : cf_plan_rm.frames ≤ R.frames ∧ cf_plan_rm.locals ≤ R.locals ∧ cells ≤ R.cells ∧ slots ≤ R.slots) (hA : ∀ q, s.heap.size ≤ q → A q) {r : (Int32 × St)} (hQ : ∀ (Y : CY) (H : Heap) (locs : List Loc) (t : State), cPD Z Y A r.2 H → va_S A s.heap H locs → t.heap = H → s.WarmedH t.vm → Qc args s (.returned (some (.int r.1))) t) : cf_plan_P0 p l e R s m args below meth c Z A cells slots Qc r (cf_plan) := by
  intro x1 x2 Y C H locs ls hM hS hl h
  obtain ⟨⟨hx, hb, hr, hlocks, hml, hown, hts⟩, hK⟩ := id X
  unfold cf_plan at h
  refine lv_iload_n hx hb dX0_plan_0 rfl (lv_at hl 1 rfl) ?_
  obtain ⟨v1, q_v1, h⟩ := bd_e h
  refine s_roI (As := [.int x1]) (rest := []) X.1 (cf_isSheet_met _ x1 v1 q_v1) (lw_S q324 q325 q79 q326) cf_isSheet_hd ⟨rfl, rfl⟩ ⟨Nat.le_trans (m := cf_plan_rm.frames) (Nat.le_of_ble_eq_true rfl) hR.1, Nat.le_trans (m := cf_plan_rm.locals) (Nat.le_of_ble_eq_true rfl) hR.2.1⟩ ⟨hR.2.2.1, hR.2.2.2⟩ rfl hl.1 rfl (Nat.le_of_ble_eq_true rfl) dX0_plan_1 ?_
  refine lv_if_eq (tgt := 19) hx hb dX0_plan_4 (by decide) (fun c2 => ?_) (fun c2 => ?_)
  · have h := ip_ c2 h
    refine lv_bipush (v := -2) hx hb dX0_plan_19 (by decide) ?_
    have h := so_ h
    subst h
    exact W.iret hx hb hr (fun t ht hW => hQ _ _ _ t hM hS ht hW) hS.2.2 dX0_plan_21
  · have h := in_ c2 h
    refine lv_iload_n hx hb dX0_plan_7 rfl (lv_at hl 2 rfl) ?_
    refine lv_i2l hx hb dX0_plan_8 rfl ?_
    refine lv_lconst (v := 0) hx hb dX0_plan_9 (by decide) ?_
    refine lv_ldc2 (v := 2) hx hb hown (hts _ q670) dX0_plan_10 ?_
    obtain ⟨v3, q_v3, h⟩ := bd_e h
    refine s_roI (As := [.long (x2.toInt64), .long (0 : Int64), .long (2 : Int64)]) (rest := []) X.1 (cf_in_met _ (x2.toInt64) (0 : Int64) (2 : Int64) v3 q_v3) (lw_S q298 q299 q79 q300) cf_in_hd ⟨rfl, rfl⟩ ⟨Nat.le_trans (m := cf_plan_rm.frames) (Nat.le_of_ble_eq_true rfl) hR.1, Nat.le_trans (m := cf_plan_rm.locals) (Nat.le_of_ble_eq_true rfl) hR.2.1⟩ ⟨hR.2.2.1, hR.2.2.2⟩ rfl hl.1 rfl (Nat.le_of_ble_eq_true rfl) dX0_plan_13 ?_
    refine lv_if_ne (tgt := 22) hx hb dX0_plan_16 (by decide) (fun c4 => ?_) (fun c4 => ?_)
    · have h := in_ c4 h
      refine lv_aload_n hx hb dX0_plan_22 rfl (lv_at hl 0 rfl) ?_
      refine gc19 X hM dX0_plan_23 ?_
      refine lv_iload_n hx hb dX0_plan_26 rfl (lv_at hl 1 rfl) ?_
      obtain ⟨i_q5, b_q5, h⟩ := ix_e h
      refine c_aldH X hM i_q5 dX0_plan_27 (fun q5 e_q5 => ?_)
      have h := h q5 e_q5
      rw [← e_q5] at b_q5
      refine lv_astore_n (lv' := [(3, .ref (cSa Z (90 + q5))), (0, .ref (cSa Z 0)), (1, .int x1), (2, .int x2)]) hx hb dX0_plan_28 rfl hl (by decide) rfl (fun ls hl => ?_)
      refine lv_aload_n hx hb dX0_plan_29 rfl (lv_at hl 0 rfl) ?_
      by_cases c6 : C (60 + q5) 0 = 1
      · have h := ip_ c6 h
        refine gsY X hM b_q5 c6 dX0_plan_30 ?_
        refine lv_ifnonnull (tgt := 42) hx hb dX0_plan_33 (by decide) ?_
        refine lv_aload_n hx hb dX0_plan_42 rfl (lv_at hl 0 rfl) ?_
        obtain ⟨v7, q_v7, h⟩ := bd_e h
        refine f_roI (As := []) (rest := []) X hM (c_recvH (q := q5) X hM b_q5) hS.2.2 (cPD.fr hM) (cfS_size_met _ Z Y A C q5  v7 q_v7) (lw_V q331 q332 q333 q87 q334) cfS_size_hd ⟨rfl, rfl⟩ ⟨Nat.le_trans (m := cf_plan_rm.frames) (Nat.le_of_ble_eq_true rfl) hR.1, Nat.le_trans (m := cf_plan_rm.locals) (Nat.le_of_ble_eq_true rfl) hR.2.1⟩ ⟨hR.2.2.1, hR.2.2.2⟩ rfl hl.1 rfl (Nat.le_of_ble_eq_true rfl) dX0_plan_43 (fun locs hL => ?_)
        have hS : va_S A s.heap _ locs := ⟨hS.1, hS.2.1, hL⟩
        refine lv_aload_n hx hb dX0_plan_46 rfl (lv_at hl 1 rfl) ?_
        obtain ⟨v8, q_v8, h⟩ := bd_e h
        refine f_roI (As := []) (rest := [.int v7]) X hM (c_recv0 X hM) hS.2.2 (cPD.fr hM) (cf_deeds_met _ Z Y A C  v8 q_v8) (lw_V q630 q632 qs7 q79 q633) cf_deeds_hd ⟨rfl, rfl⟩ ⟨Nat.le_trans (m := cf_plan_rm.frames) (Nat.le_of_ble_eq_true rfl) hR.1, Nat.le_trans (m := cf_plan_rm.locals) (Nat.le_of_ble_eq_true rfl) hR.2.1⟩ ⟨hR.2.2.1, hR.2.2.2⟩ rfl hl.1 rfl (Nat.le_of_ble_eq_true rfl) dX0_plan_47 (fun locs hL => ?_)
        have hS : va_S A s.heap _ locs := ⟨hS.1, hS.2.1, hL⟩
        refine lv_icmp_ge (tgt := 56) hx hb dX0_plan_50 (by decide) (fun c9 => ?_) (fun c9 => ?_)
        · have h := ip_ c9 h
          refine lv_aload_n hx hb dX0_plan_56 rfl (lv_at hl 1 rfl) ?_
          refine lv_aload_n hx hb dX0_plan_57 rfl (lv_at hl 0 rfl) ?_
          obtain ⟨v10, q_v10, h⟩ := bd_e h
          refine f_roI (As := [.ref (cSa Z (90 + q5))]) (rest := []) X hM (c_recv0 X hM) hS.2.2 (cPD.fr hM) (cf_costBy_met _ Z Y A C q5 v10 q_v10) (lw_V q781 q783 qs27 q79 q784) cf_costBy_hd ⟨rfl, rfl⟩ ⟨Nat.le_trans (m := cf_plan_rm.frames) (Nat.le_of_ble_eq_true rfl) hR.1, Nat.le_trans (m := cf_plan_rm.locals) (Nat.le_of_ble_eq_true rfl) hR.2.1⟩ ⟨hR.2.2.1, hR.2.2.2⟩ rfl hl.1 rfl (Nat.le_of_ble_eq_true rfl) dX0_plan_58 (fun locs hL => ?_)
          have hS : va_S A s.heap _ locs := ⟨hS.1, hS.2.1, hL⟩
          refine lv_istore (lv' := [(4, .int v10), (3, .ref (cSa Z (90 + q5))), (0, .ref (cSa Z 0)), (1, .int x1), (2, .int x2)]) hx hb dX0_plan_61 hl (by decide) rfl (fun ls hl => ?_)
          refine lv_iload_n hx hb dX0_plan_63 rfl (lv_at hl 4 rfl) ?_
          refine lv_if_ne (tgt := 82) hx hb dX0_plan_64 (by decide) (fun c11 => ?_) (fun c11 => ?_)
          · have h := in_ c11 h
            refine lv_iload hx hb dX0_plan_82 (lv_at hl 0 rfl) ?_
            refine lv_bipush (v := -3) hx hb dX0_plan_84 (by decide) ?_
            refine lv_icmp_eq (tgt := 94) hx hb dX0_plan_86 (by decide) (fun c12 => ?_) (fun c12 => ?_)
            · have h := ip_ c12 h
              refine lv_iload hx hb dX0_plan_94 (lv_at hl 0 rfl) ?_
              refine lv_goto (tgt := 104) hx hb dX0_plan_96 (by decide) ?_
              have h := so_ h
              subst h
              exact W.iret hx hb hr (fun t ht hW => hQ _ _ _ t hM hS ht hW) hS.2.2 dX0_plan_104
            · have h := in_ c12 h
              refine lv_iload_n hx hb dX0_plan_89 rfl (lv_at hl 4 rfl) ?_
              refine lv_iconst (v := 2) hx hb dX0_plan_90 (by decide) ?_
              refine lv_icmp_ne (tgt := 99) hx hb dX0_plan_91 (by decide) (fun c13 => ?_) (fun c13 => ?_)
              · have h := in_ c13 h
                refine lv_aload_n hx hb dX0_plan_99 rfl (lv_at hl 2 rfl) ?_
                refine lv_aload_n hx hb dX0_plan_100 rfl (lv_at hl 1 rfl) ?_
                obtain ⟨v14, q_v14, h⟩ := bd_e h
                refine f_roI (As := [.ref (cSa Z (90 + q5))]) (rest := []) X hM (c_recv0 X hM) hS.2.2 (cPD.fr hM) (cf_worthBy_met _ Z Y A C q5 v14 q_v14) (lw_V q786 q788 qs28 q79 q789) cf_worthBy_hd ⟨rfl, rfl⟩ ⟨Nat.le_trans (m := cf_plan_rm.frames) (Nat.le_of_ble_eq_true rfl) hR.1, Nat.le_trans (m := cf_plan_rm.locals) (Nat.le_of_ble_eq_true rfl) hR.2.1⟩ ⟨hR.2.2.1, hR.2.2.2⟩ rfl hl.1 rfl (Nat.le_of_ble_eq_true rfl) dX0_plan_101 (fun locs hL => ?_)
                have hS : va_S A s.heap _ locs := ⟨hS.1, hS.2.1, hL⟩
                have h := so_ h
                subst h
                exact W.iret hx hb hr (fun t ht hW => hQ _ _ _ t hM hS ht hW) hS.2.2 dX0_plan_104
              · have h := ip_ c13 h
                refine lv_iload hx hb dX0_plan_94 (lv_at hl 0 rfl) ?_
                refine lv_goto (tgt := 104) hx hb dX0_plan_96 (by decide) ?_
                have h := so_ h
                subst h
                exact W.iret hx hb hr (fun t ht hW => hQ _ _ _ t hM hS ht hW) hS.2.2 dX0_plan_104
          · have h := ip_ c11 h
            refine lv_iload hx hb dX0_plan_67 (lv_at hl 0 rfl) ?_
            refine lv_bipush (v := -3) hx hb dX0_plan_69 (by decide) ?_
            refine lv_icmp_ne (tgt := 78) hx hb dX0_plan_71 (by decide) (fun c15 => ?_) (fun c15 => ?_)
            · have h := in_ c15 h
              refine lv_iconst (v := 1) hx hb dX0_plan_78 (by decide) ?_
              refine lv_goto (tgt := 104) hx hb dX0_plan_79 (by decide) ?_
              have h := so_ h
              subst h
              exact W.iret hx hb hr (fun t ht hW => hQ _ _ _ t hM hS ht hW) hS.2.2 dX0_plan_104
            · have h := ip_ c15 h
              refine lv_iconst (v := 0) hx hb dX0_plan_74 (by decide) ?_
              refine lv_goto (tgt := 104) hx hb dX0_plan_75 (by decide) ?_
              have h := so_ h
              subst h
              exact W.iret hx hb hr (fun t ht hW => hQ _ _ _ t hM hS ht hW) hS.2.2 dX0_plan_104
        · have h := in_ c9 h
          refine lv_bipush (v := -3) hx hb dX0_plan_53 (by decide) ?_
          have h := so_ h
          subst h
          exact W.iret hx hb hr (fun t ht hW => hQ _ _ _ t hM hS ht hW) hS.2.2 dX0_plan_55
      · have h := in_ c6 h
        refine gsN X hM b_q5 c6 dX0_plan_30 ?_
        refine lv_ifnonnullN hx hb dX0_plan_33 ?_
        refine lv_aload_n hx hb dX0_plan_36 rfl (lv_at hl 1 rfl) ?_
        refine lv_iconst (v := 1) hx hb dX0_plan_37 (by decide) ?_
        obtain ⟨v17, C16, q_C16, h⟩ := bd2_e h
        refine w_wrI (As := [.int (1 : Int32)]) (rest := []) X hM hS hA (c_recv0 X hM) (cf_met_met _ Z _ C _ (1 : Int32) (v17, C16) q_C16) (lw_V q327 q329 qs0 q79 q330) cf_met_hd ⟨rfl, rfl⟩ ⟨Nat.le_trans (m := cf_plan_rm.frames) (Nat.le_of_ble_eq_true rfl) hR.1, Nat.le_trans (m := cf_plan_rm.locals) (Nat.le_of_ble_eq_true rfl) hR.2.1⟩ ⟨hR.2.2.1, hR.2.2.2⟩ rfl hl.1 rfl (Nat.le_of_ble_eq_true rfl) dX0_plan_38 (fun Y H locs hM hS => ?_)
        have h := so_ h
        subst h
        exact W.iret hx hb hr (fun t ht hW => hQ _ _ _ t hM hS ht hW) hS.2.2 dX0_plan_41
    · have h := ip_ c4 h
      refine lv_bipush (v := -2) hx hb dX0_plan_19 (by decide) ?_
      have h := so_ h
      subst h
      exact W.iret hx hb hr (fun t ht hW => hQ _ _ _ t hM hS ht hW) hS.2.2 dX0_plan_21
theorem cf_plan_hd : yX0_plan.cls = RX0 ∧ yX0_plan.cls ≠ "java/lang/invoke/MethodHandle" ∧ yX0_plan.cls ≠ "java/lang/invoke/VarHandle" ∧ (parseMethodDescriptor yX0_plan.desc).map (fun d => d.parameters.length) = some 2 := by decide +kernel
theorem cf_plan_met (l : Launch) (Z : CZ) (Y : CY) (C : St) (sz : Nat) (x1 : Int32) (x2 : Int32) (r : (Int32 × St)) (h : cf_plan x1 x2 C = some r) : Met l yX0_plan (ws_ yX0_plan cX0_plan 5 (some .int)) cf_plan_rm (va_Pc [.ref (cSa Z 0), .int x1, .int x2] (cSw Z Y C sz)) (Qcw (some (.int r.1)) Z (va_A (cWs Z Y C) sz) r.2) 0 0 (va_A (cWs Z Y C) sz) := by
  refine Met.ofW (cc := cX0_plan) (maxL := 5) (ret := some .int) (by decide) rfl ?_
  intro p e s m args below meth c s₁ B hml hv
  obtain ⟨rfl, hsz, hv⟩ := hv
  subst hsz
  have hts := atoms_spec (ws := ws_ yX0_plan cX0_plan 5 (some .int)) B.pre
  have hts : ∀ w ∈ lw_all, w.before _ s = true := fun w h => hts w (List.mem_cons_of_mem _ h)
  have X : CCx p s m _ meth c cX0_plan 5 (some .int) RX0 Z := ⟨⟨B.exec, B.bytes, B.returns, B.notSynchronized, hml, findClass_of_methodNamed B.named, hts⟩, hv.2⟩
  have hl := lv_entry [.ref (cSa Z 0), .int x1, .int x2] (n := 5) (Nat.le_of_ble_eq_true rfl)
  rw [lg_entry_eq]
  generalize (lg_sl [.ref (cSa Z 0), .int x1, .int x2] ++ List.replicate (5 - (lg_sl [.ref (cSa Z 0), .int x1, .int x2]).length) Slot.unset).toArray = ls at hl ⊢
  exact cf_plan_w0 X ⟨Nat.le_refl _, Nat.le_refl _, Nat.le_refl _, Nat.le_refl _⟩ (fun q h => Or.inr h) (fun Y H locs t hM hS ht hW => ⟨rfl, ⟨Y, by rw [ht]; exact hM, cKs.warm hW X.2⟩, hS.F ht⟩) x1 x2 Y C _ _ ls (cPD.self hv.1) va_S.rf hl h

/-! SecondChances.write(I)I -/
def cf_write_rm : Room := { frames := 7, cells := 0, slots := 0, locals := 164 }
def cf_write_P45 (p : Program) (l : Launch) (e : Env) (R : Room) (s : State) (m : MethodId) (args : Array Value) (below : List Frame) (meth : Method) (c : Code) (Z : CZ) (A : Nat → Prop) (cells slots : Nat) (Qc : Array Value → State → Outcome → State → Prop) (r : (Int32 × St)) (f : Nat → Int32 → Int32 → St → Option (Int32 × St)) : Prop := ∀ (x2 : Nat) (x3 : Int32) (x4 : Int32) (Y : CY) (C : St) (H : Heap) (locs : List Loc) (ls : Array Slot), cPD Z Y A C H → va_S A s.heap H locs → lv_has ls 5 [(0, .ref (cSa Z 0)), (2, .ref (cSa Z (90 + x2))), (3, .int x3), (4, .int x4)] → f x2 x3 x4 C = some r → W p l e R s m args below meth c H locs cells slots (MQ below Qc args s cells slots A) (F0 m 45 ls [])
def cf_write_P0 (p : Program) (l : Launch) (e : Env) (R : Room) (s : State) (m : MethodId) (args : Array Value) (below : List Frame) (meth : Method) (c : Code) (Z : CZ) (A : Nat → Prop) (cells slots : Nat) (Qc : Array Value → State → Outcome → State → Prop) (r : (Int32 × St)) (f : Int32 → St → Option (Int32 × St)) : Prop := ∀ (x1 : Int32) (Y : CY) (C : St) (H : Heap) (locs : List Loc) (ls : Array Slot), cPD Z Y A C H → va_S A s.heap H locs → lv_has ls 5 [(0, .ref (cSa Z 0)), (1, .int x1)] → f x1 C = some r → W p l e R s m args below meth c H locs cells slots (MQ below Qc args s cells slots A) (F0 m 0 ls [])
def cf_write_b45 (k45 : Nat → Int32 → Int32 → St → Option (Int32 × St)) (x2 : Nat) (x3 : Int32) (x4 : Int32) (C : St) : Option (Int32 × St) :=
  if x3 ≤ x4 then (some (x3, C))
  else (gd_ (x2 < 4) <|
    bd_ (cfS_type C x2 ) fun v3 =>
    bd_ (cf_planned  C) fun C4 =>
    al_ 8 (C4 16) x4 fun v5 =>
    bd_ (cfS_lay x2 v3 x4 v5 C4) fun C6 =>
    k45 x2 x3 (x4 + 1) C6)
theorem cf_write_w45 {p : Program} {l : Launch} {e : Env} {R : Room} {s : State} {m : MethodId} {args : Array Value} {below : List Frame} {meth : Method} {c : Code} {Z : CZ} {A : Nat → Prop} {cells slots : Nat} {Qc : Array Value → State → Outcome → State → Prop} (X : CCx p s m args meth c cX0_write 5 (some .int) RX0 Z) (hR : cf_write_rm.frames ≤ R.frames ∧ cf_write_rm.locals ≤ R.locals ∧ cells ≤ R.cells ∧ slots ≤ R.slots) (hA : ∀ q, s.heap.size ≤ q → A q) {r : (Int32 × St)} (hQ : ∀ (Y : CY) (H : Heap) (locs : List Loc) (t : State), cPD Z Y A r.2 H → va_S A s.heap H locs → t.heap = H → s.WarmedH t.vm → Qc args s (.returned (some (.int r.1))) t) {k45 : Nat → Int32 → Int32 → St → Option (Int32 × St)} (hk45 : cf_write_P45 p l e R s m args below meth c Z A cells slots Qc r k45) : cf_write_P45 p l e R s m args below meth c Z A cells slots Qc r (cf_write_b45 k45) := by
  intro x2 x3 x4 Y C H locs ls hM hS hl h
  obtain ⟨⟨hx, hb, hr, hlocks, hml, hown, hts⟩, hK⟩ := id X
  unfold cf_write_b45 at h
  refine lv_iload hx hb dX0_write_45 (lv_at hl 3 rfl) ?_
  refine lv_iload_n hx hb dX0_write_47 rfl (lv_at hl 2 rfl) ?_
  refine lv_icmp_ge (tgt := 77) hx hb dX0_write_48 (by decide) (fun c1 => ?_) (fun c1 => ?_)
  · have h := ip_ c1 h
    refine lv_iload_n hx hb dX0_write_77 rfl (lv_at hl 2 rfl) ?_
    have h := so_ h
    subst h
    exact W.iret hx hb hr (fun t ht hW => hQ _ _ _ t hM hS ht hW) hS.2.2 dX0_write_78
  · have h := in_ c1 h
    refine lv_aload_n hx hb dX0_write_51 rfl (lv_at hl 1 rfl) ?_
    refine lv_aload_n hx hb dX0_write_52 rfl (lv_at hl 1 rfl) ?_
    obtain ⟨b2, h⟩ := gd_e h
    obtain ⟨v3, q_v3, h⟩ := bd_e h
    refine f_roI (As := []) (rest := [.ref (cSa Z (90 + x2))]) X hM (c_recvH (q := x2) X hM b2) hS.2.2 (cPD.fr hM) (cfS_type_met _ Z Y A C x2  v3 q_v3) (lw_V q342 q336 q337 q87 q338) cfS_type_hd ⟨rfl, rfl⟩ ⟨Nat.le_trans (m := cf_write_rm.frames) (Nat.le_of_ble_eq_true rfl) hR.1, Nat.le_trans (m := cf_write_rm.locals) (Nat.le_of_ble_eq_true rfl) hR.2.1⟩ ⟨hR.2.2.1, hR.2.2.2⟩ rfl hl.1 rfl (Nat.le_of_ble_eq_true rfl) dX0_write_53 (fun locs hL => ?_)
    have hS : va_S A s.heap _ locs := ⟨hS.1, hS.2.1, hL⟩
    refine lv_iload hx hb dX0_write_56 (lv_at hl 3 rfl) ?_
    refine lv_aload_n hx hb dX0_write_58 rfl (lv_at hl 0 rfl) ?_
    obtain ⟨C4, q_C4, h⟩ := bd_e h
    refine w_wrR (As := []) (rest := [.int x4, .int v3, .ref (cSa Z (90 + x2))]) X hM hS hA (c_recv0 X hM) (cf_planned_met _ Z _ C _  C4 q_C4) (lw_V q739 q741 qs19 q79 q742) cf_planned_hd ⟨rfl, rfl⟩ ⟨Nat.le_trans (m := cf_write_rm.frames) (Nat.le_of_ble_eq_true rfl) hR.1, Nat.le_trans (m := cf_write_rm.locals) (Nat.le_of_ble_eq_true rfl) hR.2.1⟩ ⟨hR.2.2.1, hR.2.2.2⟩ rfl hl.1 rfl (Nat.le_of_ble_eq_true rfl) dX0_write_59 (fun Y H locs hM hS => ?_)
    refine gc16 X hM dX0_write_62 ?_
    refine lv_iload hx hb dX0_write_65 (lv_at hl 3 rfl) ?_
    obtain ⟨i_v5, h⟩ := al_e h
    refine c_ald X hM (k := 16) (cHs_S (by decide)) (fun _ _ _ => rfl) (cAr_s (by decide)) i_v5 dX0_write_67 (fun v5 e_v5 => ?_)
    have h := h v5 e_v5
    obtain ⟨C6, q_C6, h⟩ := bd_e h
    refine w_wrV (As := [.int v3, .int x4, .int v5]) (rest := []) X hM hS hA (c_recvH (q := x2) X hM b2) (cfS_lay_met _ Z _ C4 _ x2 v3 x4 v5 C6 q_C6) (lw_V q1007 q1008 q1009 q87 q1010) cfS_lay_hd ⟨rfl, rfl⟩ ⟨Nat.le_trans (m := cf_write_rm.frames) (Nat.le_of_ble_eq_true rfl) hR.1, Nat.le_trans (m := cf_write_rm.locals) (Nat.le_of_ble_eq_true rfl) hR.2.1⟩ ⟨hR.2.2.1, hR.2.2.2⟩ rfl hl.1 rfl (Nat.le_of_ble_eq_true rfl) dX0_write_68 (fun Y H locs hM hS => ?_)
    refine lv_iinc (v := (x4 + 1)) (lv' := [(4, .int (x4 + 1)), (0, .ref (cSa Z 0)), (2, .ref (cSa Z (90 + x2))), (3, .int x3)]) hx hb dX0_write_71 hl (k := 3) rfl rfl (by decide) rfl (fun ls hl => ?_)
    refine lv_goto (tgt := 45) hx hb dX0_write_74 (by decide) ?_
    exact hk45 x2 x3 (x4 + 1) _ C6 _ _ ls hM hS (lv_sub hl [1, 2, 3, 0] rfl) h
def cf_write_l45 (n : Nat) : Nat → Int32 → Int32 → St → Option (Int32 × St) := lp (fun _ _ _ _ => none) (cf_write_b45) n
theorem cf_write_lw45 {p : Program} {l : Launch} {e : Env} {R : Room} {s : State} {m : MethodId} {args : Array Value} {below : List Frame} {meth : Method} {c : Code} {Z : CZ} {A : Nat → Prop} {cells slots : Nat} {Qc : Array Value → State → Outcome → State → Prop} (X : CCx p s m args meth c cX0_write 5 (some .int) RX0 Z) (hR : cf_write_rm.frames ≤ R.frames ∧ cf_write_rm.locals ≤ R.locals ∧ cells ≤ R.cells ∧ slots ≤ R.slots) (hA : ∀ q, s.heap.size ≤ q → A q) {r : (Int32 × St)} (hQ : ∀ (Y : CY) (H : Heap) (locs : List Loc) (t : State), cPD Z Y A r.2 H → va_S A s.heap H locs → t.heap = H → s.WarmedH t.vm → Qc args s (.returned (some (.int r.1))) t) : ∀ n : Nat, cf_write_P45 p l e R s m args below meth c Z A cells slots Qc r (cf_write_l45 n) := by
  intro n
  induction n with
  | zero => intro x2 x3 x4 Y C H locs ls hM hS hl h; exact no_ h
  | succ n ih => exact cf_write_w45 X hR hA hQ ih
def cf_write (x1 : Int32) (C : St) : Option (Int32 × St) :=
  bd_ (cf_isSheet x1) fun v1 =>
  if v1 = 0 then (some ((-2 : Int32), C))
  else (ix_ 4 x1 fun q3 =>
    if C (60 + q3) 0 = 1 then (bd_ (cf_deeds C ) fun v5 =>
      bd_ (cfS_size C q3 ) fun v6 =>
      lt_ (if v6 < v5 then v6 else v5) fun v7 =>
      cf_write_l45 FU q3 v7 (0 : Int32) C)
    else (bd2_ (cf_met (1 : Int32) C) fun v9 C8 =>
      some (v9, C8)))
theorem cf_write_w0 {p : Program} {l : Launch} {e : Env} {R : Room} {s : State} {m : MethodId} {args : Array Value} {below : List Frame} {meth : Method} {c : Code} {Z : CZ} {A : Nat → Prop} {cells slots : Nat} {Qc : Array Value → State → Outcome → State → Prop} (X : CCx p s m args meth c cX0_write 5 (some .int) RX0 Z) (hR : cf_write_rm.frames ≤ R.frames ∧ cf_write_rm.locals ≤ R.locals ∧ cells ≤ R.cells ∧ slots ≤ R.slots) (hA : ∀ q, s.heap.size ≤ q → A q) {r : (Int32 × St)} (hQ : ∀ (Y : CY) (H : Heap) (locs : List Loc) (t : State), cPD Z Y A r.2 H → va_S A s.heap H locs → t.heap = H → s.WarmedH t.vm → Qc args s (.returned (some (.int r.1))) t) : cf_write_P0 p l e R s m args below meth c Z A cells slots Qc r (cf_write) := by
  intro x1 Y C H locs ls hM hS hl h
  obtain ⟨⟨hx, hb, hr, hlocks, hml, hown, hts⟩, hK⟩ := id X
  unfold cf_write at h
  refine lv_iload_n hx hb dX0_write_0 rfl (lv_at hl 1 rfl) ?_
  obtain ⟨v1, q_v1, h⟩ := bd_e h
  refine s_roI (As := [.int x1]) (rest := []) X.1 (cf_isSheet_met _ x1 v1 q_v1) (lw_S q324 q325 q79 q326) cf_isSheet_hd ⟨rfl, rfl⟩ ⟨Nat.le_trans (m := cf_write_rm.frames) (Nat.le_of_ble_eq_true rfl) hR.1, Nat.le_trans (m := cf_write_rm.locals) (Nat.le_of_ble_eq_true rfl) hR.2.1⟩ ⟨hR.2.2.1, hR.2.2.2⟩ rfl hl.1 rfl (Nat.le_of_ble_eq_true rfl) dX0_write_1 ?_
  refine lv_if_ne (tgt := 10) hx hb dX0_write_4 (by decide) (fun c2 => ?_) (fun c2 => ?_)
  · have h := in_ c2 h
    refine lv_aload_n hx hb dX0_write_10 rfl (lv_at hl 0 rfl) ?_
    refine gc19 X hM dX0_write_11 ?_
    refine lv_iload_n hx hb dX0_write_14 rfl (lv_at hl 1 rfl) ?_
    obtain ⟨i_q3, b_q3, h⟩ := ix_e h
    refine c_aldH X hM i_q3 dX0_write_15 (fun q3 e_q3 => ?_)
    have h := h q3 e_q3
    rw [← e_q3] at b_q3
    refine lv_astore_n (lv' := [(2, .ref (cSa Z (90 + q3))), (0, .ref (cSa Z 0)), (1, .int x1)]) hx hb dX0_write_16 rfl hl (by decide) rfl (fun ls hl => ?_)
    refine lv_aload_n hx hb dX0_write_17 rfl (lv_at hl 0 rfl) ?_
    by_cases c4 : C (60 + q3) 0 = 1
    · have h := ip_ c4 h
      refine gsY X hM b_q3 c4 dX0_write_18 ?_
      refine lv_ifnonnull (tgt := 30) hx hb dX0_write_21 (by decide) ?_
      refine lv_aload_n hx hb dX0_write_30 rfl (lv_at hl 1 rfl) ?_
      obtain ⟨v5, q_v5, h⟩ := bd_e h
      refine f_roI (As := []) (rest := []) X hM (c_recv0 X hM) hS.2.2 (cPD.fr hM) (cf_deeds_met _ Z Y A C  v5 q_v5) (lw_V q630 q632 qs7 q79 q633) cf_deeds_hd ⟨rfl, rfl⟩ ⟨Nat.le_trans (m := cf_write_rm.frames) (Nat.le_of_ble_eq_true rfl) hR.1, Nat.le_trans (m := cf_write_rm.locals) (Nat.le_of_ble_eq_true rfl) hR.2.1⟩ ⟨hR.2.2.1, hR.2.2.2⟩ rfl hl.1 rfl (Nat.le_of_ble_eq_true rfl) dX0_write_31 (fun locs hL => ?_)
      have hS : va_S A s.heap _ locs := ⟨hS.1, hS.2.1, hL⟩
      refine lv_aload_n hx hb dX0_write_34 rfl (lv_at hl 0 rfl) ?_
      obtain ⟨v6, q_v6, h⟩ := bd_e h
      refine f_roI (As := []) (rest := [.int v5]) X hM (c_recvH (q := q3) X hM b_q3) hS.2.2 (cPD.fr hM) (cfS_size_met _ Z Y A C q3  v6 q_v6) (lw_V q331 q332 q333 q87 q334) cfS_size_hd ⟨rfl, rfl⟩ ⟨Nat.le_trans (m := cf_write_rm.frames) (Nat.le_of_ble_eq_true rfl) hR.1, Nat.le_trans (m := cf_write_rm.locals) (Nat.le_of_ble_eq_true rfl) hR.2.1⟩ ⟨hR.2.2.1, hR.2.2.2⟩ rfl hl.1 rfl (Nat.le_of_ble_eq_true rfl) dX0_write_35 (fun locs hL => ?_)
      have hS : va_S A s.heap _ locs := ⟨hS.1, hS.2.1, hL⟩
      refine va_mmin (rest := []) hx hb (hml.trans hl.1.symm) hown (hts _ q697) (hts _ q605) (hts _ q94) (hts _ q606) (Nat.le_trans (m := cf_write_rm.frames) (Nat.le_of_ble_eq_true rfl) hR.1) (Nat.le_trans (m := cf_write_rm.locals) (Nat.le_of_ble_eq_true rfl) hR.2.1) hR.2.2.1 hR.2.2.2 dX0_write_38 ?_
      refine lv_topi (fun v7 e_v7 => ?_)
      have h := lt_i h e_v7
      refine lv_istore_n (lv' := [(3, .int v7), (2, .ref (cSa Z (90 + q3))), (0, .ref (cSa Z 0)), (1, .int x1)]) hx hb dX0_write_41 rfl hl (by decide) rfl (fun ls hl => ?_)
      refine lv_iconst (v := 0) hx hb dX0_write_42 (by decide) ?_
      refine lv_istore (lv' := [(4, .int (0 : Int32)), (3, .int v7), (2, .ref (cSa Z (90 + q3))), (0, .ref (cSa Z 0)), (1, .int x1)]) hx hb dX0_write_43 hl (by decide) rfl (fun ls hl => ?_)
      exact cf_write_lw45 X hR hA hQ FU q3 v7 (0 : Int32) _ C _ _ ls hM hS (lv_sub hl [3, 2, 1, 0] rfl) h
    · have h := in_ c4 h
      refine gsN X hM b_q3 c4 dX0_write_18 ?_
      refine lv_ifnonnullN hx hb dX0_write_21 ?_
      refine lv_aload_n hx hb dX0_write_24 rfl (lv_at hl 1 rfl) ?_
      refine lv_iconst (v := 1) hx hb dX0_write_25 (by decide) ?_
      obtain ⟨v9, C8, q_C8, h⟩ := bd2_e h
      refine w_wrI (As := [.int (1 : Int32)]) (rest := []) X hM hS hA (c_recv0 X hM) (cf_met_met _ Z _ C _ (1 : Int32) (v9, C8) q_C8) (lw_V q327 q329 qs0 q79 q330) cf_met_hd ⟨rfl, rfl⟩ ⟨Nat.le_trans (m := cf_write_rm.frames) (Nat.le_of_ble_eq_true rfl) hR.1, Nat.le_trans (m := cf_write_rm.locals) (Nat.le_of_ble_eq_true rfl) hR.2.1⟩ ⟨hR.2.2.1, hR.2.2.2⟩ rfl hl.1 rfl (Nat.le_of_ble_eq_true rfl) dX0_write_26 (fun Y H locs hM hS => ?_)
      have h := so_ h
      subst h
      exact W.iret hx hb hr (fun t ht hW => hQ _ _ _ t hM hS ht hW) hS.2.2 dX0_write_29
  · have h := ip_ c2 h
    refine lv_bipush (v := -2) hx hb dX0_write_7 (by decide) ?_
    have h := so_ h
    subst h
    exact W.iret hx hb hr (fun t ht hW => hQ _ _ _ t hM hS ht hW) hS.2.2 dX0_write_9
theorem cf_write_hd : yX0_write.cls = RX0 ∧ yX0_write.cls ≠ "java/lang/invoke/MethodHandle" ∧ yX0_write.cls ≠ "java/lang/invoke/VarHandle" ∧ (parseMethodDescriptor yX0_write.desc).map (fun d => d.parameters.length) = some 1 := by decide +kernel
theorem cf_write_met (l : Launch) (Z : CZ) (Y : CY) (C : St) (sz : Nat) (x1 : Int32) (r : (Int32 × St)) (h : cf_write x1 C = some r) : Met l yX0_write (ws_ yX0_write cX0_write 5 (some .int)) cf_write_rm (va_Pc [.ref (cSa Z 0), .int x1] (cSw Z Y C sz)) (Qcw (some (.int r.1)) Z (va_A (cWs Z Y C) sz) r.2) 0 0 (va_A (cWs Z Y C) sz) := by
  refine Met.ofW (cc := cX0_write) (maxL := 5) (ret := some .int) (by decide) rfl ?_
  intro p e s m args below meth c s₁ B hml hv
  obtain ⟨rfl, hsz, hv⟩ := hv
  subst hsz
  have hts := atoms_spec (ws := ws_ yX0_write cX0_write 5 (some .int)) B.pre
  have hts : ∀ w ∈ lw_all, w.before _ s = true := fun w h => hts w (List.mem_cons_of_mem _ h)
  have X : CCx p s m _ meth c cX0_write 5 (some .int) RX0 Z := ⟨⟨B.exec, B.bytes, B.returns, B.notSynchronized, hml, findClass_of_methodNamed B.named, hts⟩, hv.2⟩
  have hl := lv_entry [.ref (cSa Z 0), .int x1] (n := 5) (Nat.le_of_ble_eq_true rfl)
  rw [lg_entry_eq]
  generalize (lg_sl [.ref (cSa Z 0), .int x1] ++ List.replicate (5 - (lg_sl [.ref (cSa Z 0), .int x1]).length) Slot.unset).toArray = ls at hl ⊢
  exact cf_write_w0 X ⟨Nat.le_refl _, Nat.le_refl _, Nat.le_refl _, Nat.le_refl _⟩ (fun q h => Or.inr h) (fun Y H locs t hM hS ht hW => ⟨rfl, ⟨Y, by rw [ht]; exact hM, cKs.warm hW X.2⟩, hS.F ht⟩) x1 Y C _ _ ls (cPD.self hv.1) va_S.rf hl h

/-! SecondChances.read(I)I -/
def cf_read_rm : Room := { frames := 3, cells := 0, slots := 0, locals := 68 }
def cf_read_P32 (p : Program) (l : Launch) (e : Env) (R : Room) (s : State) (m : MethodId) (args : Array Value) (below : List Frame) (meth : Method) (c : Code) (Z : CZ) (A : Nat → Prop) (cells slots : Nat) (Qc : Array Value → State → Outcome → State → Prop) (r : (Int32 × St)) (f : Nat → Int32 → St → Option (Int32 × St)) : Prop := ∀ (x2 : Nat) (x3 : Int32) (Y : CY) (C : St) (H : Heap) (locs : List Loc) (ls : Array Slot), cPD Z Y A C H → va_S A s.heap H locs → lv_has ls 4 [(0, .ref (cSa Z 0)), (2, .ref (cSa Z (90 + x2))), (3, .int x3)] → f x2 x3 C = some r → W p l e R s m args below meth c H locs cells slots (MQ below Qc args s cells slots A) (F0 m 32 ls [])
def cf_read_P0 (p : Program) (l : Launch) (e : Env) (R : Room) (s : State) (m : MethodId) (args : Array Value) (below : List Frame) (meth : Method) (c : Code) (Z : CZ) (A : Nat → Prop) (cells slots : Nat) (Qc : Array Value → State → Outcome → State → Prop) (r : (Int32 × St)) (f : Int32 → St → Option (Int32 × St)) : Prop := ∀ (x1 : Int32) (Y : CY) (C : St) (H : Heap) (locs : List Loc) (ls : Array Slot), cPD Z Y A C H → va_S A s.heap H locs → lv_has ls 4 [(0, .ref (cSa Z 0)), (1, .int x1)] → f x1 C = some r → W p l e R s m args below meth c H locs cells slots (MQ below Qc args s cells slots A) (F0 m 0 ls [])
def cf_read_b32 (k32 : Nat → Int32 → St → Option (Int32 × St)) (x2 : Nat) (x3 : Int32) (C : St) : Option (Int32 × St) :=
  gd_ (x2 < 4) <|
  bd_ (cfS_size C x2 ) fun v2 =>
  if v2 ≤ x3 then (some (x3, C))
  else (bd_ (cfS_type C x2 ) fun v4 =>
    bd_ (cfS_item C x2 v4 x3) fun v5 =>
    bd2_ (cf_weather x3 v5 C) fun v7 C6 =>
    if v7 < 0 then (some (x3, C6))
    else (k32 x2 (x3 + 1) C6))
theorem cf_read_w32 {p : Program} {l : Launch} {e : Env} {R : Room} {s : State} {m : MethodId} {args : Array Value} {below : List Frame} {meth : Method} {c : Code} {Z : CZ} {A : Nat → Prop} {cells slots : Nat} {Qc : Array Value → State → Outcome → State → Prop} (X : CCx p s m args meth c cX0_read 4 (some .int) RX0 Z) (hR : cf_read_rm.frames ≤ R.frames ∧ cf_read_rm.locals ≤ R.locals ∧ cells ≤ R.cells ∧ slots ≤ R.slots) (hA : ∀ q, s.heap.size ≤ q → A q) {r : (Int32 × St)} (hQ : ∀ (Y : CY) (H : Heap) (locs : List Loc) (t : State), cPD Z Y A r.2 H → va_S A s.heap H locs → t.heap = H → s.WarmedH t.vm → Qc args s (.returned (some (.int r.1))) t) {k32 : Nat → Int32 → St → Option (Int32 × St)} (hk32 : cf_read_P32 p l e R s m args below meth c Z A cells slots Qc r k32) : cf_read_P32 p l e R s m args below meth c Z A cells slots Qc r (cf_read_b32 k32) := by
  intro x2 x3 Y C H locs ls hM hS hl h
  obtain ⟨⟨hx, hb, hr, hlocks, hml, hown, hts⟩, hK⟩ := id X
  unfold cf_read_b32 at h
  refine lv_iload_n hx hb dX0_read_32 rfl (lv_at hl 2 rfl) ?_
  refine lv_aload_n hx hb dX0_read_33 rfl (lv_at hl 1 rfl) ?_
  obtain ⟨b1, h⟩ := gd_e h
  obtain ⟨v2, q_v2, h⟩ := bd_e h
  refine f_roI (As := []) (rest := [.int x3]) X hM (c_recvH (q := x2) X hM b1) hS.2.2 (cPD.fr hM) (cfS_size_met _ Z Y A C x2  v2 q_v2) (lw_V q331 q332 q333 q87 q334) cfS_size_hd ⟨rfl, rfl⟩ ⟨Nat.le_trans (m := cf_read_rm.frames) (Nat.le_of_ble_eq_true rfl) hR.1, Nat.le_trans (m := cf_read_rm.locals) (Nat.le_of_ble_eq_true rfl) hR.2.1⟩ ⟨hR.2.2.1, hR.2.2.2⟩ rfl hl.1 rfl (Nat.le_of_ble_eq_true rfl) dX0_read_34 (fun locs hL => ?_)
  have hS : va_S A s.heap _ locs := ⟨hS.1, hS.2.1, hL⟩
  refine lv_icmp_ge (tgt := 63) hx hb dX0_read_37 (by decide) (fun c3 => ?_) (fun c3 => ?_)
  · have h := ip_ c3 h
    refine lv_iload_n hx hb dX0_read_63 rfl (lv_at hl 2 rfl) ?_
    have h := so_ h
    subst h
    exact W.iret hx hb hr (fun t ht hW => hQ _ _ _ t hM hS ht hW) hS.2.2 dX0_read_64
  · have h := in_ c3 h
    refine lv_aload_n hx hb dX0_read_40 rfl (lv_at hl 0 rfl) ?_
    refine lv_iload_n hx hb dX0_read_41 rfl (lv_at hl 2 rfl) ?_
    refine lv_aload_n hx hb dX0_read_42 rfl (lv_at hl 1 rfl) ?_
    refine lv_aload_n hx hb dX0_read_43 rfl (lv_at hl 1 rfl) ?_
    obtain ⟨v4, q_v4, h⟩ := bd_e h
    refine f_roI (As := []) (rest := [.ref (cSa Z (90 + x2)), .int x3, .ref (cSa Z 0)]) X hM (c_recvH (q := x2) X hM b1) hS.2.2 (cPD.fr hM) (cfS_type_met _ Z Y A C x2  v4 q_v4) (lw_V q342 q336 q337 q87 q338) cfS_type_hd ⟨rfl, rfl⟩ ⟨Nat.le_trans (m := cf_read_rm.frames) (Nat.le_of_ble_eq_true rfl) hR.1, Nat.le_trans (m := cf_read_rm.locals) (Nat.le_of_ble_eq_true rfl) hR.2.1⟩ ⟨hR.2.2.1, hR.2.2.2⟩ rfl hl.1 rfl (Nat.le_of_ble_eq_true rfl) dX0_read_44 (fun locs hL => ?_)
    have hS : va_S A s.heap _ locs := ⟨hS.1, hS.2.1, hL⟩
    refine lv_iload_n hx hb dX0_read_47 rfl (lv_at hl 2 rfl) ?_
    obtain ⟨v5, q_v5, h⟩ := bd_e h
    refine f_roI (As := [.int v4, .int x3]) (rest := [.int x3, .ref (cSa Z 0)]) X hM (c_recvH (q := x2) X hM b1) hS.2.2 (cPD.fr hM) (cfS_item_met _ Z Y A C x2 v4 x3 v5 q_v5) (lw_V q343 q344 q345 q87 q346) cfS_item_hd ⟨rfl, rfl⟩ ⟨Nat.le_trans (m := cf_read_rm.frames) (Nat.le_of_ble_eq_true rfl) hR.1, Nat.le_trans (m := cf_read_rm.locals) (Nat.le_of_ble_eq_true rfl) hR.2.1⟩ ⟨hR.2.2.1, hR.2.2.2⟩ rfl hl.1 rfl (Nat.le_of_ble_eq_true rfl) dX0_read_48 (fun locs hL => ?_)
    have hS : va_S A s.heap _ locs := ⟨hS.1, hS.2.1, hL⟩
    obtain ⟨v7, C6, q_C6, h⟩ := bd2_e h
    refine w_wrI (As := [.int x3, .int v5]) (rest := []) X hM hS hA (c_recv0 X hM) (cf_weather_met _ Z _ C _ x3 v5 (v7, C6) q_C6) (lw_V q347 q305 q306 q79 q307) cf_weather_hd ⟨rfl, rfl⟩ ⟨Nat.le_trans (m := cf_read_rm.frames) (Nat.le_of_ble_eq_true rfl) hR.1, Nat.le_trans (m := cf_read_rm.locals) (Nat.le_of_ble_eq_true rfl) hR.2.1⟩ ⟨hR.2.2.1, hR.2.2.2⟩ rfl hl.1 rfl (Nat.le_of_ble_eq_true rfl) dX0_read_51 (fun Y H locs hM hS => ?_)
    refine lv_if_lt (tgt := 63) hx hb dX0_read_54 (by decide) (fun c8 => ?_) (fun c8 => ?_)
    · have h := ip_ c8 h
      refine lv_iload_n hx hb dX0_read_63 rfl (lv_at hl 2 rfl) ?_
      have h := so_ h
      subst h
      exact W.iret hx hb hr (fun t ht hW => hQ _ _ _ t hM hS ht hW) hS.2.2 dX0_read_64
    · have h := in_ c8 h
      refine lv_iinc (v := (x3 + 1)) (lv' := [(3, .int (x3 + 1)), (0, .ref (cSa Z 0)), (2, .ref (cSa Z (90 + x2)))]) hx hb dX0_read_57 hl (k := 2) rfl rfl (by decide) rfl (fun ls hl => ?_)
      refine lv_goto (tgt := 32) hx hb dX0_read_60 (by decide) ?_
      exact hk32 x2 (x3 + 1) _ C6 _ _ ls hM hS (lv_sub hl [1, 2, 0] rfl) h
def cf_read_l32 (n : Nat) : Nat → Int32 → St → Option (Int32 × St) := lp (fun _ _ _ => none) (cf_read_b32) n
theorem cf_read_lw32 {p : Program} {l : Launch} {e : Env} {R : Room} {s : State} {m : MethodId} {args : Array Value} {below : List Frame} {meth : Method} {c : Code} {Z : CZ} {A : Nat → Prop} {cells slots : Nat} {Qc : Array Value → State → Outcome → State → Prop} (X : CCx p s m args meth c cX0_read 4 (some .int) RX0 Z) (hR : cf_read_rm.frames ≤ R.frames ∧ cf_read_rm.locals ≤ R.locals ∧ cells ≤ R.cells ∧ slots ≤ R.slots) (hA : ∀ q, s.heap.size ≤ q → A q) {r : (Int32 × St)} (hQ : ∀ (Y : CY) (H : Heap) (locs : List Loc) (t : State), cPD Z Y A r.2 H → va_S A s.heap H locs → t.heap = H → s.WarmedH t.vm → Qc args s (.returned (some (.int r.1))) t) : ∀ n : Nat, cf_read_P32 p l e R s m args below meth c Z A cells slots Qc r (cf_read_l32 n) := by
  intro n
  induction n with
  | zero => intro x2 x3 Y C H locs ls hM hS hl h; exact no_ h
  | succ n ih => exact cf_read_w32 X hR hA hQ ih
def cf_read (x1 : Int32) (C : St) : Option (Int32 × St) :=
  bd_ (cf_isSheet x1) fun v1 =>
  if v1 = 0 then (some ((-2 : Int32), C))
  else (ix_ 4 x1 fun q3 =>
    if C (60 + q3) 0 = 1 then (cf_read_l32 FU q3 (0 : Int32) C)
    else (bd2_ (cf_met (1 : Int32) C) fun v6 C5 =>
      some (v6, C5)))
theorem cf_read_w0 {p : Program} {l : Launch} {e : Env} {R : Room} {s : State} {m : MethodId} {args : Array Value} {below : List Frame} {meth : Method} {c : Code} {Z : CZ} {A : Nat → Prop} {cells slots : Nat} {Qc : Array Value → State → Outcome → State → Prop} (X : CCx p s m args meth c cX0_read 4 (some .int) RX0 Z) (hR : cf_read_rm.frames ≤ R.frames ∧ cf_read_rm.locals ≤ R.locals ∧ cells ≤ R.cells ∧ slots ≤ R.slots) (hA : ∀ q, s.heap.size ≤ q → A q) {r : (Int32 × St)} (hQ : ∀ (Y : CY) (H : Heap) (locs : List Loc) (t : State), cPD Z Y A r.2 H → va_S A s.heap H locs → t.heap = H → s.WarmedH t.vm → Qc args s (.returned (some (.int r.1))) t) : cf_read_P0 p l e R s m args below meth c Z A cells slots Qc r (cf_read) := by
  intro x1 Y C H locs ls hM hS hl h
  obtain ⟨⟨hx, hb, hr, hlocks, hml, hown, hts⟩, hK⟩ := id X
  unfold cf_read at h
  refine lv_iload_n hx hb dX0_read_0 rfl (lv_at hl 1 rfl) ?_
  obtain ⟨v1, q_v1, h⟩ := bd_e h
  refine s_roI (As := [.int x1]) (rest := []) X.1 (cf_isSheet_met _ x1 v1 q_v1) (lw_S q324 q325 q79 q326) cf_isSheet_hd ⟨rfl, rfl⟩ ⟨Nat.le_trans (m := cf_read_rm.frames) (Nat.le_of_ble_eq_true rfl) hR.1, Nat.le_trans (m := cf_read_rm.locals) (Nat.le_of_ble_eq_true rfl) hR.2.1⟩ ⟨hR.2.2.1, hR.2.2.2⟩ rfl hl.1 rfl (Nat.le_of_ble_eq_true rfl) dX0_read_1 ?_
  refine lv_if_ne (tgt := 10) hx hb dX0_read_4 (by decide) (fun c2 => ?_) (fun c2 => ?_)
  · have h := in_ c2 h
    refine lv_aload_n hx hb dX0_read_10 rfl (lv_at hl 0 rfl) ?_
    refine gc19 X hM dX0_read_11 ?_
    refine lv_iload_n hx hb dX0_read_14 rfl (lv_at hl 1 rfl) ?_
    obtain ⟨i_q3, b_q3, h⟩ := ix_e h
    refine c_aldH X hM i_q3 dX0_read_15 (fun q3 e_q3 => ?_)
    have h := h q3 e_q3
    rw [← e_q3] at b_q3
    refine lv_astore_n (lv' := [(2, .ref (cSa Z (90 + q3))), (0, .ref (cSa Z 0)), (1, .int x1)]) hx hb dX0_read_16 rfl hl (by decide) rfl (fun ls hl => ?_)
    refine lv_aload_n hx hb dX0_read_17 rfl (lv_at hl 0 rfl) ?_
    by_cases c4 : C (60 + q3) 0 = 1
    · have h := ip_ c4 h
      refine gsY X hM b_q3 c4 dX0_read_18 ?_
      refine lv_ifnonnull (tgt := 30) hx hb dX0_read_21 (by decide) ?_
      refine lv_iconst (v := 0) hx hb dX0_read_30 (by decide) ?_
      refine lv_istore_n (lv' := [(3, .int (0 : Int32)), (2, .ref (cSa Z (90 + q3))), (0, .ref (cSa Z 0)), (1, .int x1)]) hx hb dX0_read_31 rfl hl (by decide) rfl (fun ls hl => ?_)
      exact cf_read_lw32 X hR hA hQ FU q3 (0 : Int32) _ C _ _ ls hM hS (lv_sub hl [2, 1, 0] rfl) h
    · have h := in_ c4 h
      refine gsN X hM b_q3 c4 dX0_read_18 ?_
      refine lv_ifnonnullN hx hb dX0_read_21 ?_
      refine lv_aload_n hx hb dX0_read_24 rfl (lv_at hl 1 rfl) ?_
      refine lv_iconst (v := 1) hx hb dX0_read_25 (by decide) ?_
      obtain ⟨v6, C5, q_C5, h⟩ := bd2_e h
      refine w_wrI (As := [.int (1 : Int32)]) (rest := []) X hM hS hA (c_recv0 X hM) (cf_met_met _ Z _ C _ (1 : Int32) (v6, C5) q_C5) (lw_V q327 q329 qs0 q79 q330) cf_met_hd ⟨rfl, rfl⟩ ⟨Nat.le_trans (m := cf_read_rm.frames) (Nat.le_of_ble_eq_true rfl) hR.1, Nat.le_trans (m := cf_read_rm.locals) (Nat.le_of_ble_eq_true rfl) hR.2.1⟩ ⟨hR.2.2.1, hR.2.2.2⟩ rfl hl.1 rfl (Nat.le_of_ble_eq_true rfl) dX0_read_26 (fun Y H locs hM hS => ?_)
      have h := so_ h
      subst h
      exact W.iret hx hb hr (fun t ht hW => hQ _ _ _ t hM hS ht hW) hS.2.2 dX0_read_29
  · have h := ip_ c2 h
    refine lv_bipush (v := -2) hx hb dX0_read_7 (by decide) ?_
    have h := so_ h
    subst h
    exact W.iret hx hb hr (fun t ht hW => hQ _ _ _ t hM hS ht hW) hS.2.2 dX0_read_9
theorem cf_read_hd : yX0_read.cls = RX0 ∧ yX0_read.cls ≠ "java/lang/invoke/MethodHandle" ∧ yX0_read.cls ≠ "java/lang/invoke/VarHandle" ∧ (parseMethodDescriptor yX0_read.desc).map (fun d => d.parameters.length) = some 1 := by decide +kernel
theorem cf_read_met (l : Launch) (Z : CZ) (Y : CY) (C : St) (sz : Nat) (x1 : Int32) (r : (Int32 × St)) (h : cf_read x1 C = some r) : Met l yX0_read (ws_ yX0_read cX0_read 4 (some .int)) cf_read_rm (va_Pc [.ref (cSa Z 0), .int x1] (cSw Z Y C sz)) (Qcw (some (.int r.1)) Z (va_A (cWs Z Y C) sz) r.2) 0 0 (va_A (cWs Z Y C) sz) := by
  refine Met.ofW (cc := cX0_read) (maxL := 4) (ret := some .int) (by decide) rfl ?_
  intro p e s m args below meth c s₁ B hml hv
  obtain ⟨rfl, hsz, hv⟩ := hv
  subst hsz
  have hts := atoms_spec (ws := ws_ yX0_read cX0_read 4 (some .int)) B.pre
  have hts : ∀ w ∈ lw_all, w.before _ s = true := fun w h => hts w (List.mem_cons_of_mem _ h)
  have X : CCx p s m _ meth c cX0_read 4 (some .int) RX0 Z := ⟨⟨B.exec, B.bytes, B.returns, B.notSynchronized, hml, findClass_of_methodNamed B.named, hts⟩, hv.2⟩
  have hl := lv_entry [.ref (cSa Z 0), .int x1] (n := 4) (Nat.le_of_ble_eq_true rfl)
  rw [lg_entry_eq]
  generalize (lg_sl [.ref (cSa Z 0), .int x1] ++ List.replicate (4 - (lg_sl [.ref (cSa Z 0), .int x1]).length) Slot.unset).toArray = ls at hl ⊢
  exact cf_read_w0 X ⟨Nat.le_refl _, Nat.le_refl _, Nat.le_refl _, Nat.le_refl _⟩ (fun q h => Or.inr h) (fun Y H locs t hM hS ht hW => ⟨rfl, ⟨Y, by rw [ht]; exact hM, cKs.warm hW X.2⟩, hS.F ht⟩) x1 Y C _ _ ls (cPD.self hv.1) va_S.rf hl h
