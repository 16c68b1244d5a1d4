set_option maxRecDepth 100000
/-! SecondChances$Text.here()I -/
def cfT_here_rm : Room := { frames := 0, cells := 0, slots := 0, locals := 0 }
def cfT_here_P0 (p : Program) (l : Launch) (e : Env) (R : Room) (s : State) (m : MethodId) (args : Array Value) (below : List Frame) (meth : Method) (c : Code) (Z : CZ) (Y : CY) (H : Heap) (cells slots : Nat) (Qc : Array Value → State → Outcome → State → Prop) (free : Addr → Prop) (r : Int32) (f : Nat → Option Int32) : Prop := ∀ (x0 : Nat) (locs : List Loc) (ls : Array Slot), (∀ q ∈ locs, free q.base) → lv_has ls 1 [(0, .ref (cSa Z (40 + x0)))] → f x0 = some r → W p l e R s m args below meth c H locs cells slots (MQ below Qc args s cells slots free) (F0 m 0 ls [])
def cfT_here (C : St) (x0 : Nat) : Option Int32 :=
  gd_ (x0 < 2) <|
  if (C (40 + x0) 1) ≤ (C (40 + x0) 2) then (some (-1 : Int32))
  else (al_ (cBl x0) (C (42 + x0)) (C (40 + x0) 2) fun v3 =>
    some v3)
theorem cfT_here_w0 {p : Program} {l : Launch} {e : Env} {R : Room} {s : State} {m : MethodId} {args : Array Value} {below : List Frame} {meth : Method} {c : Code} {Z : CZ} {Y : CY} {A : Nat → Prop} {C : St} {H : Heap} {cells slots : Nat} {Qc : Array Value → State → Outcome → State → Prop} {free : Addr → Prop} (X : CCx p s m args meth c cX2_here 1 (some .int) RX2 Z) (hM : cPD Z Y A C H) (hR : cfT_here_rm.frames ≤ R.frames ∧ cfT_here_rm.locals ≤ R.locals ∧ cells ≤ R.cells ∧ slots ≤ R.slots) (hF : ∀ q, cFr Z q → free q) {r : Int32} (hQ : ∀ t : State, t.heap = H → s.WarmedH t.vm → Qc args s (.returned (some (.int r))) t) : cfT_here_P0 p l e R s m args below meth c Z Y H cells slots Qc free r (cfT_here C) := by
  intro x0 locs ls hL hl h
  obtain ⟨⟨hx, hb, hr, hlocks, hml, hown, hts⟩, hK⟩ := id X
  unfold cfT_here at h
  refine lv_aload_n hx hb dX2_here_0 rfl (lv_at hl 0 rfl) ?_
  obtain ⟨b1, h⟩ := gd_e h
  refine gt2 X hM b1 dX2_here_1 ?_
  refine lv_aload_n hx hb dX2_here_4 rfl (lv_at hl 0 rfl) ?_
  refine gt1 X hM b1 dX2_here_5 ?_
  refine lv_icmp_ge (tgt := 23) hx hb dX2_here_8 (by decide) (fun c2 => ?_) (fun c2 => ?_)
  · have h := ip_ c2 h
    refine lv_iconst (v := -1) hx hb dX2_here_23 (by decide) ?_
    have h := so_ h
    subst h
    exact W.iret hx hb hr (fun t ht hW => hQ t ht hW) hL dX2_here_24
  · have h := in_ c2 h
    refine lv_aload_n hx hb dX2_here_11 rfl (lv_at hl 0 rfl) ?_
    refine gt0 X hM b1 dX2_here_12 ?_
    refine lv_aload_n hx hb dX2_here_15 rfl (lv_at hl 0 rfl) ?_
    refine gt2 X hM b1 dX2_here_16 ?_
    obtain ⟨i_v3, h⟩ := al_e h
    refine c_ald X hM (k := (42 + x0)) (cHs_S (cS_b b1)) (cArr_b b1) (cAr_s (by omega)) i_v3 dX2_here_19 (fun v3 e_v3 => ?_)
    have h := h v3 e_v3
    refine lv_goto (tgt := 24) hx hb dX2_here_20 (by decide) ?_
    have h := so_ h
    subst h
    exact W.iret hx hb hr (fun t ht hW => hQ t ht hW) hL dX2_here_24
theorem cfT_here_hd : yX2_here.cls = RX2 ∧ yX2_here.cls ≠ "java/lang/invoke/MethodHandle" ∧ yX2_here.cls ≠ "java/lang/invoke/VarHandle" ∧ (parseMethodDescriptor yX2_here.desc).map (fun d => d.parameters.length) = some 0 := by decide +kernel
theorem cfT_here_met (l : Launch) (Z : CZ) (Y : CY) (A : Nat → Prop) (C : St) (x0 : Nat) (r : Int32) (h : cfT_here C x0 = some r) : Met l yX2_here (ws_ yX2_here cX2_here 1 (some .int)) cfT_here_rm (va_Pc [.ref (cSa Z (40 + x0))] (cS Z Y A C)) (Qro (some (.int r))) 0 0 (cFr Z) := by
  refine Met.ofW (cc := cX2_here) (maxL := 1) (ret := some .int) (by decide) rfl ?_
  intro p e s m args below meth c s₁ B hml hv
  obtain ⟨rfl, hv⟩ := hv
  have hts := atoms_spec (ws := ws_ yX2_here cX2_here 1 (some .int)) B.pre
  have hts : ∀ w ∈ lw_all, w.before _ s = true := fun w h => hts w (List.mem_cons_of_mem _ h)
  have X : CCx p s m _ meth c cX2_here 1 (some .int) RX2 Z := ⟨⟨B.exec, B.bytes, B.returns, B.notSynchronized, hml, findClass_of_methodNamed B.named, hts⟩, hv.2⟩
  have hl := lv_entry [.ref (cSa Z (40 + x0))] (n := 1) (Nat.le_of_ble_eq_true rfl)
  rw [lg_entry_eq]
  generalize (lg_sl [.ref (cSa Z (40 + x0))] ++ List.replicate (1 - (lg_sl [.ref (cSa Z (40 + x0))]).length) Slot.unset).toArray = ls at hl ⊢
  exact cfT_here_w0 X hv.1 ⟨Nat.le_refl _, Nat.le_refl _, Nat.le_refl _, Nat.le_refl _⟩ (fun _ h => h) (fun t ht _ => ⟨rfl, ht⟩) x0 [] ls (fun q hq => by cases hq) hl h

/-! SecondChances$Text.hasRoom()Z -/
def cfT_hasRoom_rm : Room := { frames := 0, cells := 0, slots := 0, locals := 0 }
def cfT_hasRoom_P0 (p : Program) (l : Launch) (e : Env) (R : Room) (s : State) (m : MethodId) (args : Array Value) (below : List Frame) (meth : Method) (c : Code) (Z : CZ) (Y : CY) (H : Heap) (cells slots : Nat) (Qc : Array Value → State → Outcome → State → Prop) (free : Addr → Prop) (r : Int32) (f : Nat → Option Int32) : Prop := ∀ (x0 : Nat) (locs : List Loc) (ls : Array Slot), (∀ q ∈ locs, free q.base) → lv_has ls 1 [(0, .ref (cSa Z (40 + x0)))] → f x0 = some r → W p l e R s m args below meth c H locs cells slots (MQ below Qc args s cells slots free) (F0 m 0 ls [])
def cfT_hasRoom (C : St) (x0 : Nat) : Option Int32 :=
  some (1 : Int32)
theorem cfT_hasRoom_w0 {p : Program} {l : Launch} {e : Env} {R : Room} {s : State} {m : MethodId} {args : Array Value} {below : List Frame} {meth : Method} {c : Code} {Z : CZ} {Y : CY} {A : Nat → Prop} {C : St} {H : Heap} {cells slots : Nat} {Qc : Array Value → State → Outcome → State → Prop} {free : Addr → Prop} (X : CCx p s m args meth c cX2_hasRoom 1 (some .boolean) RX2 Z) (hM : cPD Z Y A C H) (hR : cfT_hasRoom_rm.frames ≤ R.frames ∧ cfT_hasRoom_rm.locals ≤ R.locals ∧ cells ≤ R.cells ∧ slots ≤ R.slots) (hF : ∀ q, cFr Z q → free q) {r : Int32} (hQ : ∀ t : State, t.heap = H → s.WarmedH t.vm → Qc args s (.returned (some (.int r))) t) : cfT_hasRoom_P0 p l e R s m args below meth c Z Y H cells slots Qc free r (cfT_hasRoom C) := by
  intro x0 locs ls hL hl h
  obtain ⟨⟨hx, hb, hr, hlocks, hml, hown, hts⟩, hK⟩ := id X
  unfold cfT_hasRoom at h
  refine lv_iconst (v := 1) hx hb dX2_hasRoom_0 (by decide) ?_
  have h := so_ h
  subst h
  exact W.zret hx hb hr rfl (fun t ht hW => hQ t ht hW) hL dX2_hasRoom_1
theorem cfT_hasRoom_hd : yX2_hasRoom.cls = RX2 ∧ yX2_hasRoom.cls ≠ "java/lang/invoke/MethodHandle" ∧ yX2_hasRoom.cls ≠ "java/lang/invoke/VarHandle" ∧ (parseMethodDescriptor yX2_hasRoom.desc).map (fun d => d.parameters.length) = some 0 := by decide +kernel
theorem cfT_hasRoom_met (l : Launch) (Z : CZ) (Y : CY) (A : Nat → Prop) (C : St) (x0 : Nat) (r : Int32) (h : cfT_hasRoom C x0 = some r) : Met l yX2_hasRoom (ws_ yX2_hasRoom cX2_hasRoom 1 (some .boolean)) cfT_hasRoom_rm (va_Pc [.ref (cSa Z (40 + x0))] (cS Z Y A C)) (Qro (some (.int r))) 0 0 (cFr Z) := by
  refine Met.ofW (cc := cX2_hasRoom) (maxL := 1) (ret := some .boolean) (by decide) rfl ?_
  intro p e s m args below meth c s₁ B hml hv
  obtain ⟨rfl, hv⟩ := hv
  have hts := atoms_spec (ws := ws_ yX2_hasRoom cX2_hasRoom 1 (some .boolean)) B.pre
  have hts : ∀ w ∈ lw_all, w.before _ s = true := fun w h => hts w (List.mem_cons_of_mem _ h)
  have X : CCx p s m _ meth c cX2_hasRoom 1 (some .boolean) RX2 Z := ⟨⟨B.exec, B.bytes, B.returns, B.notSynchronized, hml, findClass_of_methodNamed B.named, hts⟩, hv.2⟩
  have hl := lv_entry [.ref (cSa Z (40 + x0))] (n := 1) (Nat.le_of_ble_eq_true rfl)
  rw [lg_entry_eq]
  generalize (lg_sl [.ref (cSa Z (40 + x0))] ++ List.replicate (1 - (lg_sl [.ref (cSa Z (40 + x0))]).length) Slot.unset).toArray = ls at hl ⊢
  exact cfT_hasRoom_w0 X hv.1 ⟨Nat.le_refl _, Nat.le_refl _, Nat.le_refl _, Nat.le_refl _⟩ (fun _ h => h) (fun t ht _ => ⟨rfl, ht⟩) x0 [] ls (fun q hq => by cases hq) hl h

/-! SecondChances$Deeds.hasRoom()Z -/
def cfD_hasRoom_rm : Room := { frames := 1, cells := 0, slots := 0, locals := 20 }
def cfD_hasRoom_P0 (p : Program) (l : Launch) (e : Env) (R : Room) (s : State) (m : MethodId) (args : Array Value) (below : List Frame) (meth : Method) (c : Code) (Z : CZ) (Y : CY) (H : Heap) (cells slots : Nat) (Qc : Array Value → State → Outcome → State → Prop) (free : Addr → Prop) (r : Int32) (f : Option Int32) : Prop := ∀ (locs : List Loc) (ls : Array Slot), (∀ q ∈ locs, free q.base) → lv_has ls 1 [(0, .ref (cSa Z 40))] → f  = some r → W p l e R s m args below meth c H locs cells slots (MQ below Qc args s cells slots free) (F0 m 0 ls [])
def cfD_hasRoom (C : St) : Option Int32 :=
  bd_ (cfL_size C 0 ) fun v1 =>
  if (8 : Int32) ≤ v1 then (some (0 : Int32))
  else (some (1 : Int32))
theorem cfD_hasRoom_w0 {p : Program} {l : Launch} {e : Env} {R : Room} {s : State} {m : MethodId} {args : Array Value} {below : List Frame} {meth : Method} {c : Code} {Z : CZ} {Y : CY} {A : Nat → Prop} {C : St} {H : Heap} {cells slots : Nat} {Qc : Array Value → State → Outcome → State → Prop} {free : Addr → Prop} (X : CCx p s m args meth c cX3_hasRoom 1 (some .boolean) RX3 Z) (hM : cPD Z Y A C H) (hR : cfD_hasRoom_rm.frames ≤ R.frames ∧ cfD_hasRoom_rm.locals ≤ R.locals ∧ cells ≤ R.cells ∧ slots ≤ R.slots) (hF : ∀ q, cFr Z q → free q) {r : Int32} (hQ : ∀ t : State, t.heap = H → s.WarmedH t.vm → Qc args s (.returned (some (.int r))) t) : cfD_hasRoom_P0 p l e R s m args below meth c Z Y H cells slots Qc free r (cfD_hasRoom C) := by
  intro locs ls hL hl h
  obtain ⟨⟨hx, hb, hr, hlocks, hml, hown, hts⟩, hK⟩ := id X
  unfold cfD_hasRoom at h
  refine lv_aload_n hx hb dX3_hasRoom_0 rfl (lv_at hl 0 rfl) ?_
  refine gdd5 X hM dX3_hasRoom_1 ?_
  obtain ⟨v1, q_v1, h⟩ := bd_e h
  refine f_roI (As := []) (rest := []) X hM (c_recvL (j := 0) X hM (by decide)) hL hF (cfL_size_met _ Z Y A C 0  v1 q_v1) (lw_V q417 q418 q419 q85 q420) cfL_size_hd ⟨rfl, rfl⟩ ⟨Nat.le_trans (m := cfD_hasRoom_rm.frames) (Nat.le_of_ble_eq_true rfl) hR.1, Nat.le_trans (m := cfD_hasRoom_rm.locals) (Nat.le_of_ble_eq_true rfl) hR.2.1⟩ ⟨hR.2.2.1, hR.2.2.2⟩ rfl hl.1 rfl (Nat.le_of_ble_eq_true rfl) dX3_hasRoom_4 (fun locs hL => ?_)
  refine lv_bipush (v := 8) hx hb dX3_hasRoom_7 (by decide) ?_
  refine lv_icmp_ge (tgt := 16) hx hb dX3_hasRoom_9 (by decide) (fun c2 => ?_) (fun c2 => ?_)
  · have h := ip_ c2 h
    refine lv_iconst (v := 0) hx hb dX3_hasRoom_16 (by decide) ?_
    have h := so_ h
    subst h
    exact W.zret hx hb hr rfl (fun t ht hW => hQ t ht hW) hL dX3_hasRoom_17
  · have h := in_ c2 h
    refine lv_iconst (v := 1) hx hb dX3_hasRoom_12 (by decide) ?_
    refine lv_goto (tgt := 17) hx hb dX3_hasRoom_13 (by decide) ?_
    have h := so_ h
    subst h
    exact W.zret hx hb hr rfl (fun t ht hW => hQ t ht hW) hL dX3_hasRoom_17
theorem cfD_hasRoom_hd : yX3_hasRoom.cls = RX3 ∧ yX3_hasRoom.cls ≠ "java/lang/invoke/MethodHandle" ∧ yX3_hasRoom.cls ≠ "java/lang/invoke/VarHandle" ∧ (parseMethodDescriptor yX3_hasRoom.desc).map (fun d => d.parameters.length) = some 0 := by decide +kernel
theorem cfD_hasRoom_met (l : Launch) (Z : CZ) (Y : CY) (A : Nat → Prop) (C : St) (r : Int32) (h : cfD_hasRoom C  = some r) : Met l yX3_hasRoom (ws_ yX3_hasRoom cX3_hasRoom 1 (some .boolean)) cfD_hasRoom_rm (va_Pc [.ref (cSa Z 40)] (cS Z Y A C)) (Qro (some (.int r))) 0 0 (cFr Z) := by
  refine Met.ofW (cc := cX3_hasRoom) (maxL := 1) (ret := some .boolean) (by decide) rfl ?_
  intro p e s m args below meth c s₁ B hml hv
  obtain ⟨rfl, hv⟩ := hv
  have hts := atoms_spec (ws := ws_ yX3_hasRoom cX3_hasRoom 1 (some .boolean)) B.pre
  have hts : ∀ w ∈ lw_all, w.before _ s = true := fun w h => hts w (List.mem_cons_of_mem _ h)
  have X : CCx p s m _ meth c cX3_hasRoom 1 (some .boolean) RX3 Z := ⟨⟨B.exec, B.bytes, B.returns, B.notSynchronized, hml, findClass_of_methodNamed B.named, hts⟩, hv.2⟩
  have hl := lv_entry [.ref (cSa Z 40)] (n := 1) (Nat.le_of_ble_eq_true rfl)
  rw [lg_entry_eq]
  generalize (lg_sl [.ref (cSa Z 40)] ++ List.replicate (1 - (lg_sl [.ref (cSa Z 40)]).length) Slot.unset).toArray = ls at hl ⊢
  exact cfD_hasRoom_w0 X hv.1 ⟨Nat.le_refl _, Nat.le_refl _, Nat.le_refl _, Nat.le_refl _⟩ (fun _ h => h) (fun t ht _ => ⟨rfl, ht⟩)  [] ls (fun q hq => by cases hq) hl h

/-! SecondChances$Text.passes(I)Z -/
def cfT_passes_rm : Room := { frames := 1, cells := 0, slots := 0, locals := 20 }
def cfT_passes_P28 (p : Program) (l : Launch) (e : Env) (R : Room) (s : State) (m : MethodId) (args : Array Value) (below : List Frame) (meth : Method) (c : Code) (Z : CZ) (A : Nat → Prop) (cells slots : Nat) (Qc : Array Value → State → Outcome → State → Prop) (r : (Int32 × St)) (f : Int32 → Int32 → Int32 → Nat → St → Option (Int32 × St)) : Prop := ∀ (x2 : Int32) (t0 : Int32) (t1 : Int32) (t2 : Nat) (Y : CY) (C : St) (H : Heap) (locs : List Loc) (ls : Array Slot), cPD Z Y A C H → va_S A s.heap H locs → lv_has ls 3 [(2, .int x2)] → f x2 t0 t1 t2 C = some r → W p l e R s m args below meth c H locs cells slots (MQ below Qc args s cells slots A) (F0 m 28 ls [.int t0, .int t1, .ref (cSa Z (40 + t2))])
def cfT_passes_P13 (p : Program) (l : Launch) (e : Env) (R : Room) (s : State) (m : MethodId) (args : Array Value) (below : List Frame) (meth : Method) (c : Code) (Z : CZ) (A : Nat → Prop) (cells slots : Nat) (Qc : Array Value → State → Outcome → State → Prop) (r : (Int32 × St)) (f : Nat → Int32 → St → Option (Int32 × St)) : Prop := ∀ (x0 : Nat) (t0 : Int32) (Y : CY) (C : St) (H : Heap) (locs : List Loc) (ls : Array Slot), cPD Z Y A C H → va_S A s.heap H locs → lv_has ls 3 [(0, .ref (cSa Z (40 + x0)))] → f x0 t0 C = some r → W p l e R s m args below meth c H locs cells slots (MQ below Qc args s cells slots A) (F0 m 13 ls [.int t0])
def cfT_passes_P0 (p : Program) (l : Launch) (e : Env) (R : Room) (s : State) (m : MethodId) (args : Array Value) (below : List Frame) (meth : Method) (c : Code) (Z : CZ) (A : Nat → Prop) (cells slots : Nat) (Qc : Array Value → State → Outcome → State → Prop) (r : (Int32 × St)) (f : Nat → Int32 → St → Option (Int32 × St)) : Prop := ∀ (x0 : Nat) (x1 : Int32) (Y : CY) (C : St) (H : Heap) (locs : List Loc) (ls : Array Slot), cPD Z Y A C H → va_S A s.heap H locs → lv_has ls 3 [(0, .ref (cSa Z (40 + x0))), (1, .int x1)] → f x0 x1 C = some r → W p l e R s m args below meth c H locs cells slots (MQ below Qc args s cells slots A) (F0 m 0 ls [])
def cfT_passes_b28 (x2 : Int32) (t0 : Int32) (t1 : Int32) (t2 : Nat) (C : St) : Option (Int32 × St) :=
  gd_ (t2 < 2) <|
  lt_ (upd2 C (40 + t2) 2 (t1 + t0)) fun C1 =>
  if zb x2 = true then some (x2, C1) else none
theorem cfT_passes_w28 {p : Program} {l : Launch} {e : Env} {R : Room} {s : State} {m : MethodId} {args : Array Value} {below : List Frame} {meth : Method} {c : Code} {Z : CZ} {A : Nat → Prop} {cells slots : Nat} {Qc : Array Value → State → Outcome → State → Prop} (X : CCx p s m args meth c cX2_passes 3 (some .boolean) RX2 Z) (hR : cfT_passes_rm.frames ≤ R.frames ∧ cfT_passes_rm.locals ≤ R.locals ∧ cells ≤ R.cells ∧ slots ≤ R.slots) (hA : ∀ q, s.heap.size ≤ q → A q) {r : (Int32 × St)} (hQ : ∀ (Y : CY) (H : Heap) (locs : List Loc) (t : State), cPD Z Y A r.2 H → va_S A s.heap H locs → t.heap = H → s.WarmedH t.vm → Qc args s (.returned (some (.int r.1))) t) : cfT_passes_P28 p l e R s m args below meth c Z A cells slots Qc r (cfT_passes_b28) := by
  intro x2 t0 t1 t2 Y C H locs ls hM hS hl h
  obtain ⟨⟨hx, hb, hr, hlocks, hml, hown, hts⟩, hK⟩ := id X
  unfold cfT_passes_b28 at h
  refine lv_iadd hx hb dX2_passes_28 ?_
  obtain ⟨b2, h⟩ := gd_e h
  refine pt2 X hM hS b2 dX2_passes_29 (fun H locs C1 e_C1 hM hS => ?_)
  have h := lt_i h e_C1
  refine lv_iload_n hx hb dX2_passes_32 rfl (lv_at hl 0 rfl) ?_
  by_cases c3 : zb x2 = true
  case neg => exact no_ (in_ c3 h)
  have h := ip_ c3 h
  have h := so_ h
  subst h
  exact W.zret hx hb hr (zb_n c3) (fun t ht hW => hQ _ _ _ t hM hS ht hW) hS.2.2 dX2_passes_33
def cfT_passes_b13 (x0 : Nat) (t0 : Int32) (C : St) : Option (Int32 × St) :=
  gd_ (x0 < 2) <|
  if t0 = 0 then (cfT_passes_b28 t0 (0 : Int32) (C (40 + x0) 2) x0 C)
  else (cfT_passes_b28 t0 (1 : Int32) (C (40 + x0) 2) x0 C)
theorem cfT_passes_w13 {p : Program} {l : Launch} {e : Env} {R : Room} {s : State} {m : MethodId} {args : Array Value} {below : List Frame} {meth : Method} {c : Code} {Z : CZ} {A : Nat → Prop} {cells slots : Nat} {Qc : Array Value → State → Outcome → State → Prop} (X : CCx p s m args meth c cX2_passes 3 (some .boolean) RX2 Z) (hR : cfT_passes_rm.frames ≤ R.frames ∧ cfT_passes_rm.locals ≤ R.locals ∧ cells ≤ R.cells ∧ slots ≤ R.slots) (hA : ∀ q, s.heap.size ≤ q → A q) {r : (Int32 × St)} (hQ : ∀ (Y : CY) (H : Heap) (locs : List Loc) (t : State), cPD Z Y A r.2 H → va_S A s.heap H locs → t.heap = H → s.WarmedH t.vm → Qc args s (.returned (some (.int r.1))) t) : cfT_passes_P13 p l e R s m args below meth c Z A cells slots Qc r (cfT_passes_b13) := by
  intro x0 t0 Y C H locs ls hM hS hl h
  obtain ⟨⟨hx, hb, hr, hlocks, hml, hown, hts⟩, hK⟩ := id X
  unfold cfT_passes_b13 at h
  refine lv_istore_n (lv' := [(2, .int t0), (0, .ref (cSa Z (40 + x0)))]) hx hb dX2_passes_13 rfl hl (by decide) rfl (fun ls hl => ?_)
  refine lv_aload_n hx hb dX2_passes_14 rfl (lv_at hl 1 rfl) ?_
  refine lv_dup hx hb dX2_passes_15 rfl ?_
  obtain ⟨b1, h⟩ := gd_e h
  refine gt2 X hM b1 dX2_passes_16 ?_
  refine lv_iload_n hx hb dX2_passes_19 rfl (lv_at hl 0 rfl) ?_
  refine lv_if_eq (tgt := 27) hx hb dX2_passes_20 (by decide) (fun c2 => ?_) (fun c2 => ?_)
  · have h := ip_ c2 h
    refine lv_iconst (v := 0) hx hb dX2_passes_27 (by decide) ?_
    exact cfT_passes_w28 X hR hA hQ t0 (0 : Int32) (C (40 + x0) 2) x0 _ C _ _ ls hM hS (lv_sub hl [0] rfl) h
  · have h := in_ c2 h
    refine lv_iconst (v := 1) hx hb dX2_passes_23 (by decide) ?_
    refine lv_goto (tgt := 28) hx hb dX2_passes_24 (by decide) ?_
    exact cfT_passes_w28 X hR hA hQ t0 (1 : Int32) (C (40 + x0) 2) x0 _ C _ _ ls hM hS (lv_sub hl [0] rfl) h
def cfT_passes (x0 : Nat) (x1 : Int32) (C : St) : Option (Int32 × St) :=
  gd_ (x0 < 2) <|
  bd_ (cfT_here C x0) fun v2 =>
  if v2 = x1 then (cfT_passes_b13 x0 (1 : Int32) C)
  else (cfT_passes_b13 x0 (0 : Int32) C)
theorem cfT_passes_w0 {p : Program} {l : Launch} {e : Env} {R : Room} {s : State} {m : MethodId} {args : Array Value} {below : List Frame} {meth : Method} {c : Code} {Z : CZ} {A : Nat → Prop} {cells slots : Nat} {Qc : Array Value → State → Outcome → State → Prop} (X : CCx p s m args meth c cX2_passes 3 (some .boolean) RX2 Z) (hR : cfT_passes_rm.frames ≤ R.frames ∧ cfT_passes_rm.locals ≤ R.locals ∧ cells ≤ R.cells ∧ slots ≤ R.slots) (hA : ∀ q, s.heap.size ≤ q → A q) {r : (Int32 × St)} (hQ : ∀ (Y : CY) (H : Heap) (locs : List Loc) (t : State), cPD Z Y A r.2 H → va_S A s.heap H locs → t.heap = H → s.WarmedH t.vm → Qc args s (.returned (some (.int r.1))) t) : cfT_passes_P0 p l e R s m args below meth c Z A cells slots Qc r (cfT_passes) := by
  intro x0 x1 Y C H locs ls hM hS hl h
  obtain ⟨⟨hx, hb, hr, hlocks, hml, hown, hts⟩, hK⟩ := id X
  unfold cfT_passes at h
  refine lv_aload_n hx hb dX2_passes_0 rfl (lv_at hl 0 rfl) ?_
  obtain ⟨b1, h⟩ := gd_e h
  obtain ⟨v2, q_v2, h⟩ := bd_e h
  refine f_roXI (As := []) (rest := []) (owner := RX2) (x := ⟨RX2, "here", "()I"⟩) X hM b1 hS.2.2 (cPD.fr hM) (cfT_here_met _ Z Y A C x0 v2 q_v2) (lw_U q405 q407 q408 q406 q81 q410) (lw_U q405 q407 q409 q406 q81 q410) rfl (by decide +kernel) ⟨rfl, rfl⟩ ⟨Nat.le_trans (m := cfT_passes_rm.frames) (Nat.le_of_ble_eq_true rfl) hR.1, Nat.le_trans (m := cfT_passes_rm.locals) (Nat.le_of_ble_eq_true rfl) hR.2.1⟩ ⟨hR.2.2.1, hR.2.2.2⟩ rfl hl.1 rfl (Nat.le_of_ble_eq_true rfl) dX2_passes_1 (fun locs hL => ?_)
  have hS : va_S A s.heap _ locs := ⟨hS.1, hS.2.1, hL⟩
  refine lv_iload_n hx hb dX2_passes_4 rfl (lv_at hl 1 rfl) ?_
  refine lv_icmp_ne (tgt := 12) hx hb dX2_passes_5 (by decide) (fun c3 => ?_) (fun c3 => ?_)
  · have h := in_ c3 h
    refine lv_iconst (v := 0) hx hb dX2_passes_12 (by decide) ?_
    exact cfT_passes_w13 X hR hA hQ x0 (0 : Int32) _ C _ _ ls hM hS (lv_sub hl [0] rfl) h
  · have h := ip_ c3 h
    refine lv_iconst (v := 1) hx hb dX2_passes_8 (by decide) ?_
    refine lv_goto (tgt := 13) hx hb dX2_passes_9 (by decide) ?_
    exact cfT_passes_w13 X hR hA hQ x0 (1 : Int32) _ C _ _ ls hM hS (lv_sub hl [0] rfl) h
theorem cfT_passes_hd : yX2_passes.cls = RX2 ∧ yX2_passes.cls ≠ "java/lang/invoke/MethodHandle" ∧ yX2_passes.cls ≠ "java/lang/invoke/VarHandle" ∧ (parseMethodDescriptor yX2_passes.desc).map (fun d => d.parameters.length) = some 1 := by decide +kernel
theorem cfT_passes_met (l : Launch) (Z : CZ) (Y : CY) (C : St) (sz : Nat) (x0 : Nat) (x1 : Int32) (r : (Int32 × St)) (h : cfT_passes x0 x1 C = some r) : Met l yX2_passes (ws_ yX2_passes cX2_passes 3 (some .boolean)) cfT_passes_rm (va_Pc [.ref (cSa Z (40 + x0)), .int x1] (cSw Z Y C sz)) (Qcw (some (.int r.1)) Z (va_A (cWs Z Y C) sz) r.2) 0 0 (va_A (cWs Z Y C) sz) := by
  refine Met.ofW (cc := cX2_passes) (maxL := 3) (ret := some .boolean) (by decide) rfl ?_
  intro p e s m args below meth c s₁ B hml hv
  obtain ⟨rfl, hsz, hv⟩ := hv
  subst hsz
  have hts := atoms_spec (ws := ws_ yX2_passes cX2_passes 3 (some .boolean)) B.pre
  have hts : ∀ w ∈ lw_all, w.before _ s = true := fun w h => hts w (List.mem_cons_of_mem _ h)
  have X : CCx p s m _ meth c cX2_passes 3 (some .boolean) RX2 Z := ⟨⟨B.exec, B.bytes, B.returns, B.notSynchronized, hml, findClass_of_methodNamed B.named, hts⟩, hv.2⟩
  have hl := lv_entry [.ref (cSa Z (40 + x0)), .int x1] (n := 3) (Nat.le_of_ble_eq_true rfl)
  rw [lg_entry_eq]
  generalize (lg_sl [.ref (cSa Z (40 + x0)), .int x1] ++ List.replicate (3 - (lg_sl [.ref (cSa Z (40 + x0)), .int x1]).length) Slot.unset).toArray = ls at hl ⊢
  exact cfT_passes_w0 X ⟨Nat.le_refl _, Nat.le_refl _, Nat.le_refl _, Nat.le_refl _⟩ (fun q h => Or.inr h) (fun Y H locs t hM hS ht hW => ⟨rfl, ⟨Y, by rw [ht]; exact hM, cKs.warm hW X.2⟩, hS.F ht⟩) x0 x1 Y C _ _ ls (cPD.self hv.1) va_S.rf hl h

/-! SecondChances$Rules.clears()V -/
def cfR_clears_rm : Room := { frames := 0, cells := 0, slots := 0, locals := 0 }
def cfR_clears_P7 (p : Program) (l : Launch) (e : Env) (R : Room) (s : State) (m : MethodId) (args : Array Value) (below : List Frame) (meth : Method) (c : Code) (Z : CZ) (A : Nat → Prop) (cells slots : Nat) (Qc : Array Value → State → Outcome → State → Prop) (r : St) (f : Int32 → St → Option St) : Prop := ∀ (x1 : Int32) (Y : CY) (C : St) (H : Heap) (locs : List Loc) (ls : Array Slot), cPD Z Y A C H → va_S A s.heap H locs → lv_has ls 2 [(0, .ref (cSa Z 41)), (1, .int x1)] → f x1 C = some r → W p l e R s m args below meth c H locs cells slots (MQ below Qc args s cells slots A) (F0 m 7 ls [])
def cfR_clears_P0 (p : Program) (l : Launch) (e : Env) (R : Room) (s : State) (m : MethodId) (args : Array Value) (below : List Frame) (meth : Method) (c : Code) (Z : CZ) (A : Nat → Prop) (cells slots : Nat) (Qc : Array Value → State → Outcome → State → Prop) (r : St) (f : St → Option St) : Prop := ∀ (Y : CY) (C : St) (H : Heap) (locs : List Loc) (ls : Array Slot), cPD Z Y A C H → va_S A s.heap H locs → lv_has ls 2 [(0, .ref (cSa Z 41))] → f  C = some r → W p l e R s m args below meth c H locs cells slots (MQ below Qc args s cells slots A) (F0 m 0 ls [])
def cfR_clears_b7 (k7 : Int32 → St → Option St) (x1 : Int32) (C : St) : Option St :=
  if (4 : Int32) ≤ x1 then (some C)
  else (as_ 4 44 C x1 (0 : Int32) fun C2 =>
    as_ 4 45 C2 x1 ((0 : Int32) &&& 1) fun C3 =>
    as_ 4 46 C3 x1 ((0 : Int32) &&& 1) fun C4 =>
    k7 (x1 + 1) C4)
theorem cfR_clears_w7 {p : Program} {l : Launch} {e : Env} {R : Room} {s : State} {m : MethodId} {args : Array Value} {below : List Frame} {meth : Method} {c : Code} {Z : CZ} {A : Nat → Prop} {cells slots : Nat} {Qc : Array Value → State → Outcome → State → Prop} (X : CCx p s m args meth c cX4_clears 2 (none) RX4 Z) (hR : cfR_clears_rm.frames ≤ R.frames ∧ cfR_clears_rm.locals ≤ R.locals ∧ cells ≤ R.cells ∧ slots ≤ R.slots) (hA : ∀ q, s.heap.size ≤ q → A q) {r : St} (hQ : ∀ (Y : CY) (H : Heap) (locs : List Loc) (t : State), cPD Z Y A r H → va_S A s.heap H locs → t.heap = H → s.WarmedH t.vm → Qc args s (.returned (none)) t) {k7 : Int32 → St → Option St} (hk7 : cfR_clears_P7 p l e R s m args below meth c Z A cells slots Qc r k7) : cfR_clears_P7 p l e R s m args below meth c Z A cells slots Qc r (cfR_clears_b7 k7) := by
  intro x1 Y C H locs ls hM hS hl h
  obtain ⟨⟨hx, hb, hr, hlocks, hml, hown, hts⟩, hK⟩ := id X
  unfold cfR_clears_b7 at h
  refine lv_iload_n hx hb dX4_clears_7 rfl (lv_at hl 1 rfl) ?_
  refine lv_iconst (v := 4) hx hb dX4_clears_8 (by decide) ?_
  refine lv_icmp_ge (tgt := 39) hx hb dX4_clears_9 (by decide) (fun c1 => ?_) (fun c1 => ?_)
  · have h := ip_ c1 h
    have h := so_ h
    subst h
    exact W.vret hx hb hr (fun t ht hW => hQ _ _ _ t hM hS ht hW) hS.2.2 dX4_clears_39
  · have h := in_ c1 h
    refine lv_aload_n hx hb dX4_clears_12 rfl (lv_at hl 0 rfl) ?_
    refine grr5 X hM dX4_clears_13 ?_
    refine lv_iload_n hx hb dX4_clears_16 rfl (lv_at hl 1 rfl) ?_
    refine lv_iconst (v := 0) hx hb dX4_clears_17 (by decide) ?_
    obtain ⟨i_C2, h⟩ := as_e h
    refine c_ast X hM hS (k := 44) (by decide) (cHs_S (by decide)) (fun _ _ _ => rfl) (cAr_s (by decide)) i_C2 dX4_clears_18 (fun H locs C2 e_C2 hM hS => ?_)
    have h := h C2 e_C2
    refine lv_aload_n hx hb dX4_clears_19 rfl (lv_at hl 0 rfl) ?_
    refine grr6 X hM dX4_clears_20 ?_
    refine lv_iload_n hx hb dX4_clears_23 rfl (lv_at hl 1 rfl) ?_
    refine lv_iconst (v := 0) hx hb dX4_clears_24 (by decide) ?_
    obtain ⟨i_C3, h⟩ := as_e h
    refine c_zast X hM hS (k := 45) (by decide) (cHs_S (by decide)) (fun _ _ _ => rfl) (cAr_s (by decide)) i_C3 dX4_clears_25 (fun H locs C3 e_C3 hM hS => ?_)
    have h := h C3 e_C3
    refine lv_aload_n hx hb dX4_clears_26 rfl (lv_at hl 0 rfl) ?_
    refine grr7 X hM dX4_clears_27 ?_
    refine lv_iload_n hx hb dX4_clears_30 rfl (lv_at hl 1 rfl) ?_
    refine lv_iconst (v := 0) hx hb dX4_clears_31 (by decide) ?_
    obtain ⟨i_C4, h⟩ := as_e h
    refine c_zast X hM hS (k := 46) (by decide) (cHs_S (by decide)) (fun _ _ _ => rfl) (cAr_s (by decide)) i_C4 dX4_clears_32 (fun H locs C4 e_C4 hM hS => ?_)
    have h := h C4 e_C4
    refine lv_iinc (v := (x1 + 1)) (lv' := [(1, .int (x1 + 1)), (0, .ref (cSa Z 41))]) hx hb dX4_clears_33 hl (k := 1) rfl rfl (by decide) rfl (fun ls hl => ?_)
    refine lv_goto (tgt := 7) hx hb dX4_clears_36 (by decide) ?_
    exact hk7 (x1 + 1) _ C4 _ _ ls hM hS (lv_sub hl [1, 0] rfl) h
def cfR_clears_l7 (n : Nat) : Int32 → St → Option St := lp (fun _ _ => none) (cfR_clears_b7) n
theorem cfR_clears_lw7 {p : Program} {l : Launch} {e : Env} {R : Room} {s : State} {m : MethodId} {args : Array Value} {below : List Frame} {meth : Method} {c : Code} {Z : CZ} {A : Nat → Prop} {cells slots : Nat} {Qc : Array Value → State → Outcome → State → Prop} (X : CCx p s m args meth c cX4_clears 2 (none) RX4 Z) (hR : cfR_clears_rm.frames ≤ R.frames ∧ cfR_clears_rm.locals ≤ R.locals ∧ cells ≤ R.cells ∧ slots ≤ R.slots) (hA : ∀ q, s.heap.size ≤ q → A q) {r : St} (hQ : ∀ (Y : CY) (H : Heap) (locs : List Loc) (t : State), cPD Z Y A r H → va_S A s.heap H locs → t.heap = H → s.WarmedH t.vm → Qc args s (.returned (none)) t) : ∀ n : Nat, cfR_clears_P7 p l e R s m args below meth c Z A cells slots Qc r (cfR_clears_l7 n) := by
  intro n
  induction n with
  | zero => intro x1 Y C H locs ls hM hS hl h; exact no_ h
  | succ n ih => exact cfR_clears_w7 X hR hA hQ ih
def cfR_clears (C : St) : Option St :=
  lt_ (upd2 C 41 8 (0 : Int32)) fun C1 =>
  cfR_clears_l7 FU (0 : Int32) C1
theorem cfR_clears_w0 {p : Program} {l : Launch} {e : Env} {R : Room} {s : State} {m : MethodId} {args : Array Value} {below : List Frame} {meth : Method} {c : Code} {Z : CZ} {A : Nat → Prop} {cells slots : Nat} {Qc : Array Value → State → Outcome → State → Prop} (X : CCx p s m args meth c cX4_clears 2 (none) RX4 Z) (hR : cfR_clears_rm.frames ≤ R.frames ∧ cfR_clears_rm.locals ≤ R.locals ∧ cells ≤ R.cells ∧ slots ≤ R.slots) (hA : ∀ q, s.heap.size ≤ q → A q) {r : St} (hQ : ∀ (Y : CY) (H : Heap) (locs : List Loc) (t : State), cPD Z Y A r H → va_S A s.heap H locs → t.heap = H → s.WarmedH t.vm → Qc args s (.returned (none)) t) : cfR_clears_P0 p l e R s m args below meth c Z A cells slots Qc r (cfR_clears) := by
  intro Y C H locs ls hM hS hl h
  obtain ⟨⟨hx, hb, hr, hlocks, hml, hown, hts⟩, hK⟩ := id X
  unfold cfR_clears at h
  refine lv_aload_n hx hb dX4_clears_0 rfl (lv_at hl 0 rfl) ?_
  refine lv_iconst (v := 0) hx hb dX4_clears_1 (by decide) ?_
  refine prr8 X hM hS dX4_clears_2 (fun H locs C1 e_C1 hM hS => ?_)
  have h := lt_i h e_C1
  refine lv_iconst (v := 0) hx hb dX4_clears_5 (by decide) ?_
  refine lv_istore_n (lv' := [(1, .int (0 : Int32)), (0, .ref (cSa Z 41))]) hx hb dX4_clears_6 rfl hl (by decide) rfl (fun ls hl => ?_)
  exact cfR_clears_lw7 X hR hA hQ FU (0 : Int32) _ C1 _ _ ls hM hS (lv_sub hl [1, 0] rfl) h
theorem cfR_clears_hd : yX4_clears.cls = RX4 ∧ yX4_clears.cls ≠ "java/lang/invoke/MethodHandle" ∧ yX4_clears.cls ≠ "java/lang/invoke/VarHandle" ∧ (parseMethodDescriptor yX4_clears.desc).map (fun d => d.parameters.length) = some 0 := by decide +kernel
theorem cfR_clears_met (l : Launch) (Z : CZ) (Y : CY) (C : St) (sz : Nat) (r : St) (h : cfR_clears C = some r) : Met l yX4_clears (ws_ yX4_clears cX4_clears 2 (none)) cfR_clears_rm (va_Pc [.ref (cSa Z 41)] (cSw Z Y C sz)) (Qcw (none) Z (va_A (cWs Z Y C) sz) r) 0 0 (va_A (cWs Z Y C) sz) := by
  refine Met.ofW (cc := cX4_clears) (maxL := 2) (ret := none) (by decide) rfl ?_
  intro p e s m args below meth c s₁ B hml hv
  obtain ⟨rfl, hsz, hv⟩ := hv
  subst hsz
  have hts := atoms_spec (ws := ws_ yX4_clears cX4_clears 2 (none)) B.pre
  have hts : ∀ w ∈ lw_all, w.before _ s = true := fun w h => hts w (List.mem_cons_of_mem _ h)
  have X : CCx p s m _ meth c cX4_clears 2 (none) RX4 Z := ⟨⟨B.exec, B.bytes, B.returns, B.notSynchronized, hml, findClass_of_methodNamed B.named, hts⟩, hv.2⟩
  have hl := lv_entry [.ref (cSa Z 41)] (n := 2) (Nat.le_of_ble_eq_true rfl)
  rw [lg_entry_eq]
  generalize (lg_sl [.ref (cSa Z 41)] ++ List.replicate (2 - (lg_sl [.ref (cSa Z 41)]).length) Slot.unset).toArray = ls at hl ⊢
  exact cfR_clears_w0 X ⟨Nat.le_refl _, Nat.le_refl _, Nat.le_refl _, Nat.le_refl _⟩ (fun q h => Or.inr h) (fun Y H locs t hM hS ht hW => ⟨rfl, ⟨Y, by rw [ht]; exact hM, cKs.warm hW X.2⟩, hS.F ht⟩)  Y C _ _ ls (cPD.self hv.1) va_S.rf hl h
