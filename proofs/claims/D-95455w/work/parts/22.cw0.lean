set_option maxRecDepth 100000
/-! SecondChances.met(I)I -/
def cf_met_rm : Room := { frames := 0, cells := 0, slots := 0, locals := 0 }
def cf_met_P0 (p : Program) (l : Launch) (e : Env) (R : Room) (s : State) (m : MethodId) (args : Array Value) (below : List Frame) (meth : Method) (c : Code) (Z : CZ) (A : Nat → Prop) (cells slots : Nat) (Qc : Array Value → State → Outcome → State → Prop) (r : (Int32 × St)) (f : Int32 → St → Option (Int32 × St)) : Prop := ∀ (x1 : Int32) (Y : CY) (C : St) (H : Heap) (locs : List Loc) (ls : Array Slot), cPD Z Y A C H → va_S A s.heap H locs → lv_has ls 2 [(0, .ref (cSa Z 0)), (1, .int x1)] → f x1 C = some r → W p l e R s m args below meth c H locs cells slots (MQ below Qc args s cells slots A) (F0 m 0 ls [])
def cf_met (x1 : Int32) (C : St) : Option (Int32 × St) :=
  lt_ (upd2 C 0 0 x1) fun C1 =>
  some (((-10 : Int32) - x1), C1)
theorem cf_met_w0 {p : Program} {l : Launch} {e : Env} {R : Room} {s : State} {m : MethodId} {args : Array Value} {below : List Frame} {meth : Method} {c : Code} {Z : CZ} {A : Nat → Prop} {cells slots : Nat} {Qc : Array Value → State → Outcome → State → Prop} (X : CCx p s m args meth c cX0_met 2 (some .int) RX0 Z) (hR : cf_met_rm.frames ≤ R.frames ∧ cf_met_rm.locals ≤ R.locals ∧ cells ≤ R.cells ∧ slots ≤ R.slots) (hA : ∀ q, s.heap.size ≤ q → A q) {r : (Int32 × St)} (hQ : ∀ (Y : CY) (H : Heap) (locs : List Loc) (t : State), cPD Z Y A r.2 H → va_S A s.heap H locs → t.heap = H → s.WarmedH t.vm → Qc args s (.returned (some (.int r.1))) t) : cf_met_P0 p l e R s m args below meth c Z A cells slots Qc r (cf_met) := by
  intro x1 Y C H locs ls hM hS hl h
  obtain ⟨⟨hx, hb, hr, hlocks, hml, hown, hts⟩, hK⟩ := id X
  unfold cf_met at h
  refine lv_aload_n hx hb dX0_met_0 rfl (lv_at hl 0 rfl) ?_
  refine lv_iload_n hx hb dX0_met_1 rfl (lv_at hl 1 rfl) ?_
  refine pc0 X hM hS dX0_met_2 (fun H locs C1 e_C1 hM hS => ?_)
  have h := lt_i h e_C1
  refine lv_bipush (v := -10) hx hb dX0_met_5 (by decide) ?_
  refine lv_iload_n hx hb dX0_met_7 rfl (lv_at hl 1 rfl) ?_
  refine lv_isub hx hb dX0_met_8 ?_
  have h := so_ h
  subst h
  exact W.iret hx hb hr (fun t ht hW => hQ _ _ _ t hM hS ht hW) hS.2.2 dX0_met_9
theorem cf_met_hd : yX0_met.cls = RX0 ∧ yX0_met.cls ≠ "java/lang/invoke/MethodHandle" ∧ yX0_met.cls ≠ "java/lang/invoke/VarHandle" ∧ (parseMethodDescriptor yX0_met.desc).map (fun d => d.parameters.length) = some 1 := by decide +kernel
theorem cf_met_met (l : Launch) (Z : CZ) (Y : CY) (C : St) (sz : Nat) (x1 : Int32) (r : (Int32 × St)) (h : cf_met x1 C = some r) : Met l yX0_met (ws_ yX0_met cX0_met 2 (some .int)) cf_met_rm (va_Pc [.ref (cSa Z 0), .int x1] (cSw Z Y C sz)) (Qcw (some (.int r.1)) Z (va_A (cWs Z Y C) sz) r.2) 0 0 (va_A (cWs Z Y C) sz) := by
  refine Met.ofW (cc := cX0_met) (maxL := 2) (ret := some .int) (by decide) rfl ?_
  intro p e s m args below meth c s₁ B hml hv
  obtain ⟨rfl, hsz, hv⟩ := hv
  subst hsz
  have hts := atoms_spec (ws := ws_ yX0_met cX0_met 2 (some .int)) B.pre
  have hts : ∀ w ∈ lw_all, w.before _ s = true := fun w h => hts w (List.mem_cons_of_mem _ h)
  have X : CCx p s m _ meth c cX0_met 2 (some .int) RX0 Z := ⟨⟨B.exec, B.bytes, B.returns, B.notSynchronized, hml, findClass_of_methodNamed B.named, hts⟩, hv.2⟩
  have hl := lv_entry [.ref (cSa Z 0), .int x1] (n := 2) (Nat.le_of_ble_eq_true rfl)
  rw [lg_entry_eq]
  generalize (lg_sl [.ref (cSa Z 0), .int x1] ++ List.replicate (2 - (lg_sl [.ref (cSa Z 0), .int x1]).length) Slot.unset).toArray = ls at hl ⊢
  exact cf_met_w0 X ⟨Nat.le_refl _, Nat.le_refl _, Nat.le_refl _, Nat.le_refl _⟩ (fun q h => Or.inr h) (fun Y H locs t hM hS ht hW => ⟨rfl, ⟨Y, by rw [ht]; exact hM, cKs.warm hW X.2⟩, hS.F ht⟩) x1 Y C _ _ ls (cPD.self hv.1) va_S.rf hl h

/-! SecondChances.lowest(I)I -/
def cf_lowest_rm : Room := { frames := 0, cells := 0, slots := 0, locals := 0 }
def cf_lowest_P0 (p : Program) (l : Launch) (e : Env) (R : Room) (s : State) (m : MethodId) (args : Array Value) (below : List Frame) (meth : Method) (c : Code) (Z : CZ) (A : Nat → Prop) (cells slots : Nat) (Qc : Array Value → State → Outcome → State → Prop) (r : (Int32 × St)) (f : Int32 → St → Option (Int32 × St)) : Prop := ∀ (x1 : Int32) (Y : CY) (C : St) (H : Heap) (locs : List Loc) (ls : Array Slot), cPD Z Y A C H → va_S A s.heap H locs → lv_has ls 2 [(0, .ref (cSa Z 0)), (1, .int x1)] → f x1 C = some r → W p l e R s m args below meth c H locs cells slots (MQ below Qc args s cells slots A) (F0 m 0 ls [])
def cf_lowest (x1 : Int32) (C : St) : Option (Int32 × St) :=
  lt_ (upd2 C 0 0 x1) fun C1 =>
  some ((-2147483648 : Int32), C1)
theorem cf_lowest_w0 {p : Program} {l : Launch} {e : Env} {R : Room} {s : State} {m : MethodId} {args : Array Value} {below : List Frame} {meth : Method} {c : Code} {Z : CZ} {A : Nat → Prop} {cells slots : Nat} {Qc : Array Value → State → Outcome → State → Prop} (X : CCx p s m args meth c cX0_lowest 2 (some .int) RX0 Z) (hR : cf_lowest_rm.frames ≤ R.frames ∧ cf_lowest_rm.locals ≤ R.locals ∧ cells ≤ R.cells ∧ slots ≤ R.slots) (hA : ∀ q, s.heap.size ≤ q → A q) {r : (Int32 × St)} (hQ : ∀ (Y : CY) (H : Heap) (locs : List Loc) (t : State), cPD Z Y A r.2 H → va_S A s.heap H locs → t.heap = H → s.WarmedH t.vm → Qc args s (.returned (some (.int r.1))) t) : cf_lowest_P0 p l e R s m args below meth c Z A cells slots Qc r (cf_lowest) := by
  intro x1 Y C H locs ls hM hS hl h
  obtain ⟨⟨hx, hb, hr, hlocks, hml, hown, hts⟩, hK⟩ := id X
  unfold cf_lowest at h
  refine lv_aload_n hx hb dX0_lowest_0 rfl (lv_at hl 0 rfl) ?_
  refine lv_iload_n hx hb dX0_lowest_1 rfl (lv_at hl 1 rfl) ?_
  refine pc0 X hM hS dX0_lowest_2 (fun H locs C1 e_C1 hM hS => ?_)
  have h := lt_i h e_C1
  refine lv_ldc (v := -2147483648) hx hb hown (hts _ q1015) dX0_lowest_5 ?_
  have h := so_ h
  subst h
  exact W.iret hx hb hr (fun t ht hW => hQ _ _ _ t hM hS ht hW) hS.2.2 dX0_lowest_7
theorem cf_lowest_hd : yX0_lowest.cls = RX0 ∧ yX0_lowest.cls ≠ "java/lang/invoke/MethodHandle" ∧ yX0_lowest.cls ≠ "java/lang/invoke/VarHandle" ∧ (parseMethodDescriptor yX0_lowest.desc).map (fun d => d.parameters.length) = some 1 := by decide +kernel
theorem cf_lowest_met (l : Launch) (Z : CZ) (Y : CY) (C : St) (sz : Nat) (x1 : Int32) (r : (Int32 × St)) (h : cf_lowest x1 C = some r) : Met l yX0_lowest (ws_ yX0_lowest cX0_lowest 2 (some .int)) cf_lowest_rm (va_Pc [.ref (cSa Z 0), .int x1] (cSw Z Y C sz)) (Qcw (some (.int r.1)) Z (va_A (cWs Z Y C) sz) r.2) 0 0 (va_A (cWs Z Y C) sz) := by
  refine Met.ofW (cc := cX0_lowest) (maxL := 2) (ret := some .int) (by decide) rfl ?_
  intro p e s m args below meth c s₁ B hml hv
  obtain ⟨rfl, hsz, hv⟩ := hv
  subst hsz
  have hts := atoms_spec (ws := ws_ yX0_lowest cX0_lowest 2 (some .int)) B.pre
  have hts : ∀ w ∈ lw_all, w.before _ s = true := fun w h => hts w (List.mem_cons_of_mem _ h)
  have X : CCx p s m _ meth c cX0_lowest 2 (some .int) RX0 Z := ⟨⟨B.exec, B.bytes, B.returns, B.notSynchronized, hml, findClass_of_methodNamed B.named, hts⟩, hv.2⟩
  have hl := lv_entry [.ref (cSa Z 0), .int x1] (n := 2) (Nat.le_of_ble_eq_true rfl)
  rw [lg_entry_eq]
  generalize (lg_sl [.ref (cSa Z 0), .int x1] ++ List.replicate (2 - (lg_sl [.ref (cSa Z 0), .int x1]).length) Slot.unset).toArray = ls at hl ⊢
  exact cf_lowest_w0 X ⟨Nat.le_refl _, Nat.le_refl _, Nat.le_refl _, Nat.le_refl _⟩ (fun q h => Or.inr h) (fun Y H locs t hM hS ht hW => ⟨rfl, ⟨Y, by rw [ht]; exact hM, cKs.warm hW X.2⟩, hS.F ht⟩) x1 Y C _ _ ls (cPD.self hv.1) va_S.rf hl h

/-! SecondChances.weather(II)I -/
def cf_weather_rm : Room := { frames := 2, cells := 0, slots := 0, locals := 45 }
def cf_weather_P0 (p : Program) (l : Launch) (e : Env) (R : Room) (s : State) (m : MethodId) (args : Array Value) (below : List Frame) (meth : Method) (c : Code) (Z : CZ) (A : Nat → Prop) (cells slots : Nat) (Qc : Array Value → State → Outcome → State → Prop) (r : (Int32 × St)) (f : Int32 → Int32 → St → Option (Int32 × St)) : Prop := ∀ (x1 : Int32) (x2 : Int32) (Y : CY) (C : St) (H : Heap) (locs : List Loc) (ls : Array Slot), cPD Z Y A C H → va_S A s.heap H locs → lv_has ls 4 [(0, .ref (cSa Z 0)), (1, .int x1), (2, .int x2)] → f x1 x2 C = some r → W p l e R s m args below meth c H locs cells slots (MQ below Qc args s cells slots A) (F0 m 0 ls [])
def cf_weather (x1 : Int32) (x2 : Int32) (C : St) : Option (Int32 × St) :=
  bd_ (cf_isHour x1) fun v1 =>
  if v1 = 0 then (some ((-2 : Int32), C))
  else (bd_ (cf_isTwo x2) fun v3 =>
    if v3 = 0 then (some ((-2 : Int32), C))
    else (al_ 8 (C 2) x1 fun v5 =>
      as_ 8 2 C x1 x2 fun C6 =>
      lt_ (upd2 C6 0 4 (1 : Int32)) fun C7 =>
      some (v5, C7)))
theorem cf_weather_w0 {p : Program} {l : Launch} {e : Env} {R : Room} {s : State} {m : MethodId} {args : Array Value} {below : List Frame} {meth : Method} {c : Code} {Z : CZ} {A : Nat → Prop} {cells slots : Nat} {Qc : Array Value → State → Outcome → State → Prop} (X : CCx p s m args meth c cX0_weather 4 (some .int) RX0 Z) (hR : cf_weather_rm.frames ≤ R.frames ∧ cf_weather_rm.locals ≤ R.locals ∧ cells ≤ R.cells ∧ slots ≤ R.slots) (hA : ∀ q, s.heap.size ≤ q → A q) {r : (Int32 × St)} (hQ : ∀ (Y : CY) (H : Heap) (locs : List Loc) (t : State), cPD Z Y A r.2 H → va_S A s.heap H locs → t.heap = H → s.WarmedH t.vm → Qc args s (.returned (some (.int r.1))) t) : cf_weather_P0 p l e R s m args below meth c Z A cells slots Qc r (cf_weather) := by
  intro x1 x2 Y C H locs ls hM hS hl h
  obtain ⟨⟨hx, hb, hr, hlocks, hml, hown, hts⟩, hK⟩ := id X
  unfold cf_weather at h
  refine lv_iload_n hx hb dX0_weather_0 rfl (lv_at hl 1 rfl) ?_
  obtain ⟨v1, q_v1, h⟩ := bd_e h
  refine s_roI (As := [.int x1]) (rest := []) X.1 (cf_isHour_met _ x1 v1 q_v1) (lw_S q308 q309 q79 q310) cf_isHour_hd ⟨rfl, rfl⟩ ⟨Nat.le_trans (m := cf_weather_rm.frames) (Nat.le_of_ble_eq_true rfl) hR.1, Nat.le_trans (m := cf_weather_rm.locals) (Nat.le_of_ble_eq_true rfl) hR.2.1⟩ ⟨hR.2.2.1, hR.2.2.2⟩ rfl hl.1 rfl (Nat.le_of_ble_eq_true rfl) dX0_weather_1 ?_
  refine lv_if_eq (tgt := 14) hx hb dX0_weather_4 (by decide) (fun c2 => ?_) (fun c2 => ?_)
  · have h := ip_ c2 h
    refine lv_bipush (v := -2) hx hb dX0_weather_14 (by decide) ?_
    have h := so_ h
    subst h
    exact W.iret hx hb hr (fun t ht hW => hQ _ _ _ t hM hS ht hW) hS.2.2 dX0_weather_16
  · have h := in_ c2 h
    refine lv_iload_n hx hb dX0_weather_7 rfl (lv_at hl 2 rfl) ?_
    obtain ⟨v3, q_v3, h⟩ := bd_e h
    refine s_roI (As := [.int x2]) (rest := []) X.1 (cf_isTwo_met _ x2 v3 q_v3) (lw_S q311 q312 q79 q313) cf_isTwo_hd ⟨rfl, rfl⟩ ⟨Nat.le_trans (m := cf_weather_rm.frames) (Nat.le_of_ble_eq_true rfl) hR.1, Nat.le_trans (m := cf_weather_rm.locals) (Nat.le_of_ble_eq_true rfl) hR.2.1⟩ ⟨hR.2.2.1, hR.2.2.2⟩ rfl hl.1 rfl (Nat.le_of_ble_eq_true rfl) dX0_weather_8 ?_
    refine lv_if_ne (tgt := 17) hx hb dX0_weather_11 (by decide) (fun c4 => ?_) (fun c4 => ?_)
    · have h := in_ c4 h
      refine lv_aload_n hx hb dX0_weather_17 rfl (lv_at hl 0 rfl) ?_
      refine gc2 X hM dX0_weather_18 ?_
      refine lv_iload_n hx hb dX0_weather_21 rfl (lv_at hl 1 rfl) ?_
      obtain ⟨i_v5, h⟩ := al_e h
      refine c_ald X hM (k := 2) (cHs_S (by decide)) (fun _ _ _ => rfl) (cAr_s (by decide)) i_v5 dX0_weather_22 (fun v5 e_v5 => ?_)
      have h := h v5 e_v5
      refine lv_istore_n (lv' := [(3, .int v5), (0, .ref (cSa Z 0)), (1, .int x1), (2, .int x2)]) hx hb dX0_weather_23 rfl hl (by decide) rfl (fun ls hl => ?_)
      refine lv_aload_n hx hb dX0_weather_24 rfl (lv_at hl 1 rfl) ?_
      refine gc2 X hM dX0_weather_25 ?_
      refine lv_iload_n hx hb dX0_weather_28 rfl (lv_at hl 2 rfl) ?_
      refine lv_iload_n hx hb dX0_weather_29 rfl (lv_at hl 3 rfl) ?_
      obtain ⟨i_C6, h⟩ := as_e h
      refine c_ast X hM hS (k := 2) (by decide) (cHs_S (by decide)) (fun _ _ _ => rfl) (cAr_s (by decide)) i_C6 dX0_weather_30 (fun H locs C6 e_C6 hM hS => ?_)
      have h := h C6 e_C6
      refine lv_aload_n hx hb dX0_weather_31 rfl (lv_at hl 1 rfl) ?_
      refine lv_iconst (v := 1) hx hb dX0_weather_32 (by decide) ?_
      refine pc4 X hM hS dX0_weather_33 rfl (fun H locs C7 e_C7 hM hS => ?_)
      have h := lt_i h e_C7
      refine lv_iload_n hx hb dX0_weather_36 rfl (lv_at hl 0 rfl) ?_
      have h := so_ h
      subst h
      exact W.iret hx hb hr (fun t ht hW => hQ _ _ _ t hM hS ht hW) hS.2.2 dX0_weather_37
    · have h := ip_ c4 h
      refine lv_bipush (v := -2) hx hb dX0_weather_14 (by decide) ?_
      have h := so_ h
      subst h
      exact W.iret hx hb hr (fun t ht hW => hQ _ _ _ t hM hS ht hW) hS.2.2 dX0_weather_16
theorem cf_weather_hd : yX0_weather.cls = RX0 ∧ yX0_weather.cls ≠ "java/lang/invoke/MethodHandle" ∧ yX0_weather.cls ≠ "java/lang/invoke/VarHandle" ∧ (parseMethodDescriptor yX0_weather.desc).map (fun d => d.parameters.length) = some 2 := by decide +kernel
theorem cf_weather_met (l : Launch) (Z : CZ) (Y : CY) (C : St) (sz : Nat) (x1 : Int32) (x2 : Int32) (r : (Int32 × St)) (h : cf_weather x1 x2 C = some r) : Met l yX0_weather (ws_ yX0_weather cX0_weather 4 (some .int)) cf_weather_rm (va_Pc [.ref (cSa Z 0), .int x1, .int x2] (cSw Z Y C sz)) (Qcw (some (.int r.1)) Z (va_A (cWs Z Y C) sz) r.2) 0 0 (va_A (cWs Z Y C) sz) := by
  refine Met.ofW (cc := cX0_weather) (maxL := 4) (ret := some .int) (by decide) rfl ?_
  intro p e s m args below meth c s₁ B hml hv
  obtain ⟨rfl, hsz, hv⟩ := hv
  subst hsz
  have hts := atoms_spec (ws := ws_ yX0_weather cX0_weather 4 (some .int)) B.pre
  have hts : ∀ w ∈ lw_all, w.before _ s = true := fun w h => hts w (List.mem_cons_of_mem _ h)
  have X : CCx p s m _ meth c cX0_weather 4 (some .int) RX0 Z := ⟨⟨B.exec, B.bytes, B.returns, B.notSynchronized, hml, findClass_of_methodNamed B.named, hts⟩, hv.2⟩
  have hl := lv_entry [.ref (cSa Z 0), .int x1, .int x2] (n := 4) (Nat.le_of_ble_eq_true rfl)
  rw [lg_entry_eq]
  generalize (lg_sl [.ref (cSa Z 0), .int x1, .int x2] ++ List.replicate (4 - (lg_sl [.ref (cSa Z 0), .int x1, .int x2]).length) Slot.unset).toArray = ls at hl ⊢
  exact cf_weather_w0 X ⟨Nat.le_refl _, Nat.le_refl _, Nat.le_refl _, Nat.le_refl _⟩ (fun q h => Or.inr h) (fun Y H locs t hM hS ht hW => ⟨rfl, ⟨Y, by rw [ht]; exact hM, cKs.warm hW X.2⟩, hS.F ht⟩) x1 x2 Y C _ _ ls (cPD.self hv.1) va_S.rf hl h

/-! SecondChances.findBest()V -/
def cf_findBest_rm : Room := { frames := 3, cells := 0, slots := 0, locals := 64 }
def cf_findBest_P303 (p : Program) (l : Launch) (e : Env) (R : Room) (s : State) (m : MethodId) (args : Array Value) (below : List Frame) (meth : Method) (c : Code) (Z : CZ) (A : Nat → Prop) (cells slots : Nat) (Qc : Array Value → State → Outcome → State → Prop) (r : St) (f : Int32 → Int32 → St → Option St) : Prop := ∀ (x1 : Int32) (x2 : Int32) (Y : CY) (C : St) (H : Heap) (locs : List Loc) (ls : Array Slot), cPD Z Y A C H → va_S A s.heap H locs → lv_has ls 6 [(0, .ref (cSa Z 0)), (1, .int x1), (2, .int x2)] → f x1 x2 C = some r → W p l e R s m args below meth c H locs cells slots (MQ below Qc args s cells slots A) (F0 m 303 ls [])
def cf_findBest_P283 (p : Program) (l : Launch) (e : Env) (R : Room) (s : State) (m : MethodId) (args : Array Value) (below : List Frame) (meth : Method) (c : Code) (Z : CZ) (A : Nat → Prop) (cells slots : Nat) (Qc : Array Value → State → Outcome → State → Prop) (r : St) (f : Int32 → Int32 → St → Option St) : Prop := ∀ (x1 : Int32) (x2 : Int32) (Y : CY) (C : St) (H : Heap) (locs : List Loc) (ls : Array Slot), cPD Z Y A C H → va_S A s.heap H locs → lv_has ls 6 [(0, .ref (cSa Z 0)), (1, .int x1), (2, .int x2)] → f x1 x2 C = some r → W p l e R s m args below meth c H locs cells slots (MQ below Qc args s cells slots A) (F0 m 283 ls [])
def cf_findBest_P239 (p : Program) (l : Launch) (e : Env) (R : Room) (s : State) (m : MethodId) (args : Array Value) (below : List Frame) (meth : Method) (c : Code) (Z : CZ) (A : Nat → Prop) (cells slots : Nat) (Qc : Array Value → State → Outcome → State → Prop) (r : St) (f : Int32 → Int32 → Int32 → St → Option St) : Prop := ∀ (x1 : Int32) (x2 : Int32) (t0 : Int32) (Y : CY) (C : St) (H : Heap) (locs : List Loc) (ls : Array Slot), cPD Z Y A C H → va_S A s.heap H locs → lv_has ls 6 [(0, .ref (cSa Z 0)), (1, .int x1), (2, .int x2)] → f x1 x2 t0 C = some r → W p l e R s m args below meth c H locs cells slots (MQ below Qc args s cells slots A) (F0 m 239 ls [.int t0])
def cf_findBest_P203 (p : Program) (l : Launch) (e : Env) (R : Room) (s : State) (m : MethodId) (args : Array Value) (below : List Frame) (meth : Method) (c : Code) (Z : CZ) (A : Nat → Prop) (cells slots : Nat) (Qc : Array Value → State → Outcome → State → Prop) (r : St) (f : Int32 → Int32 → St → Option St) : Prop := ∀ (x1 : Int32) (x2 : Int32) (Y : CY) (C : St) (H : Heap) (locs : List Loc) (ls : Array Slot), cPD Z Y A C H → va_S A s.heap H locs → lv_has ls 6 [(0, .ref (cSa Z 0)), (1, .int x1), (2, .int x2)] → f x1 x2 C = some r → W p l e R s m args below meth c H locs cells slots (MQ below Qc args s cells slots A) (F0 m 203 ls [])
def cf_findBest_P184 (p : Program) (l : Launch) (e : Env) (R : Room) (s : State) (m : MethodId) (args : Array Value) (below : List Frame) (meth : Method) (c : Code) (Z : CZ) (A : Nat → Prop) (cells slots : Nat) (Qc : Array Value → State → Outcome → State → Prop) (r : St) (f : Int32 → Int32 → Int32 → St → Option St) : Prop := ∀ (x1 : Int32) (x2 : Int32) (x3 : Int32) (Y : CY) (C : St) (H : Heap) (locs : List Loc) (ls : Array Slot), cPD Z Y A C H → va_S A s.heap H locs → lv_has ls 6 [(0, .ref (cSa Z 0)), (1, .int x1), (2, .int x2), (3, .int x3)] → f x1 x2 x3 C = some r → W p l e R s m args below meth c H locs cells slots (MQ below Qc args s cells slots A) (F0 m 184 ls [])
def cf_findBest_P179 (p : Program) (l : Launch) (e : Env) (R : Room) (s : State) (m : MethodId) (args : Array Value) (below : List Frame) (meth : Method) (c : Code) (Z : CZ) (A : Nat → Prop) (cells slots : Nat) (Qc : Array Value → State → Outcome → State → Prop) (r : St) (f : Int32 → Int32 → Int32 → Int32 → Int32 → St → Option St) : Prop := ∀ (x1 : Int32) (x2 : Int32) (x3 : Int32) (x4 : Int32) (t0 : Int32) (Y : CY) (C : St) (H : Heap) (locs : List Loc) (ls : Array Slot), cPD Z Y A C H → va_S A s.heap H locs → lv_has ls 6 [(0, .ref (cSa Z 0)), (1, .int x1), (2, .int x2), (3, .int x3), (4, .int x4)] → f x1 x2 x3 x4 t0 C = some r → W p l e R s m args below meth c H locs cells slots (MQ below Qc args s cells slots A) (F0 m 179 ls [.int t0])
def cf_findBest_P121 (p : Program) (l : Launch) (e : Env) (R : Room) (s : State) (m : MethodId) (args : Array Value) (below : List Frame) (meth : Method) (c : Code) (Z : CZ) (A : Nat → Prop) (cells slots : Nat) (Qc : Array Value → State → Outcome → State → Prop) (r : St) (f : Int32 → Int32 → Int32 → Int32 → Int32 → St → Option St) : Prop := ∀ (x1 : Int32) (x2 : Int32) (x3 : Int32) (x4 : Int32) (x5 : Int32) (Y : CY) (C : St) (H : Heap) (locs : List Loc) (ls : Array Slot), cPD Z Y A C H → va_S A s.heap H locs → lv_has ls 6 [(0, .ref (cSa Z 0)), (1, .int x1), (2, .int x2), (3, .int x3), (4, .int x4), (5, .int x5)] → f x1 x2 x3 x4 x5 C = some r → W p l e R s m args below meth c H locs cells slots (MQ below Qc args s cells slots A) (F0 m 121 ls [])
def cf_findBest_P81 (p : Program) (l : Launch) (e : Env) (R : Room) (s : State) (m : MethodId) (args : Array Value) (below : List Frame) (meth : Method) (c : Code) (Z : CZ) (A : Nat → Prop) (cells slots : Nat) (Qc : Array Value → State → Outcome → State → Prop) (r : St) (f : Int32 → Int32 → Int32 → St → Option St) : Prop := ∀ (x1 : Int32) (x2 : Int32) (x3 : Int32) (Y : CY) (C : St) (H : Heap) (locs : List Loc) (ls : Array Slot), cPD Z Y A C H → va_S A s.heap H locs → lv_has ls 6 [(0, .ref (cSa Z 0)), (1, .int x1), (2, .int x2), (3, .int x3)] → f x1 x2 x3 C = some r → W p l e R s m args below meth c H locs cells slots (MQ below Qc args s cells slots A) (F0 m 81 ls [])
def cf_findBest_P60 (p : Program) (l : Launch) (e : Env) (R : Room) (s : State) (m : MethodId) (args : Array Value) (below : List Frame) (meth : Method) (c : Code) (Z : CZ) (A : Nat → Prop) (cells slots : Nat) (Qc : Array Value → State → Outcome → State → Prop) (r : St) (f : Int32 → Int32 → Int32 → St → Option St) : Prop := ∀ (x1 : Int32) (x2 : Int32) (x3 : Int32) (Y : CY) (C : St) (H : Heap) (locs : List Loc) (ls : Array Slot), cPD Z Y A C H → va_S A s.heap H locs → lv_has ls 6 [(0, .ref (cSa Z 0)), (1, .int x1), (2, .int x2), (3, .int x3)] → f x1 x2 x3 C = some r → W p l e R s m args below meth c H locs cells slots (MQ below Qc args s cells slots A) (F0 m 60 ls [])
def cf_findBest_P38 (p : Program) (l : Launch) (e : Env) (R : Room) (s : State) (m : MethodId) (args : Array Value) (below : List Frame) (meth : Method) (c : Code) (Z : CZ) (A : Nat → Prop) (cells slots : Nat) (Qc : Array Value → State → Outcome → State → Prop) (r : St) (f : Int32 → Int32 → St → Option St) : Prop := ∀ (x1 : Int32) (x2 : Int32) (Y : CY) (C : St) (H : Heap) (locs : List Loc) (ls : Array Slot), cPD Z Y A C H → va_S A s.heap H locs → lv_has ls 6 [(0, .ref (cSa Z 0)), (1, .int x1), (2, .int x2)] → f x1 x2 C = some r → W p l e R s m args below meth c H locs cells slots (MQ below Qc args s cells slots A) (F0 m 38 ls [])
def cf_findBest_P29 (p : Program) (l : Launch) (e : Env) (R : Room) (s : State) (m : MethodId) (args : Array Value) (below : List Frame) (meth : Method) (c : Code) (Z : CZ) (A : Nat → Prop) (cells slots : Nat) (Qc : Array Value → State → Outcome → State → Prop) (r : St) (f : Int32 → Int32 → Int32 → Int32 → St → Option St) : Prop := ∀ (x1 : Int32) (x2 : Int32) (t0 : Int32) (t1 : Int32) (Y : CY) (C : St) (H : Heap) (locs : List Loc) (ls : Array Slot), cPD Z Y A C H → va_S A s.heap H locs → lv_has ls 6 [(0, .ref (cSa Z 0)), (1, .int x1), (2, .int x2)] → f x1 x2 t0 t1 C = some r → W p l e R s m args below meth c H locs cells slots (MQ below Qc args s cells slots A) (F0 m 29 ls [.int t0, .int t1, .ref (cSa Z 9)])
def cf_findBest_P9 (p : Program) (l : Launch) (e : Env) (R : Room) (s : State) (m : MethodId) (args : Array Value) (below : List Frame) (meth : Method) (c : Code) (Z : CZ) (A : Nat → Prop) (cells slots : Nat) (Qc : Array Value → State → Outcome → State → Prop) (r : St) (f : Int32 → Int32 → St → Option St) : Prop := ∀ (x1 : Int32) (x2 : Int32) (Y : CY) (C : St) (H : Heap) (locs : List Loc) (ls : Array Slot), cPD Z Y A C H → va_S A s.heap H locs → lv_has ls 6 [(0, .ref (cSa Z 0)), (1, .int x1), (2, .int x2)] → f x1 x2 C = some r → W p l e R s m args below meth c H locs cells slots (MQ below Qc args s cells slots A) (F0 m 9 ls [])
def cf_findBest_P0 (p : Program) (l : Launch) (e : Env) (R : Room) (s : State) (m : MethodId) (args : Array Value) (below : List Frame) (meth : Method) (c : Code) (Z : CZ) (A : Nat → Prop) (cells slots : Nat) (Qc : Array Value → State → Outcome → State → Prop) (r : St) (f : St → Option St) : Prop := ∀ (Y : CY) (C : St) (H : Heap) (locs : List Loc) (ls : Array Slot), cPD Z Y A C H → va_S A s.heap H locs → lv_has ls 6 [(0, .ref (cSa Z 0))] → f  C = some r → W p l e R s m args below meth c H locs cells slots (MQ below Qc args s cells slots A) (F0 m 0 ls [])
def cf_findBest_b303 (k203 : Int32 → Int32 → St → Option St) (x1 : Int32) (x2 : Int32) (C : St) : Option St :=
  k203 x1 (x2 + 1) C
theorem cf_findBest_w303 {p : Program} {l : Launch} {e : Env} {R : Room} {s : State} {m : MethodId} {args : Array Value} {below : List Frame} {meth : Method} {c : Code} {Z : CZ} {A : Nat → Prop} {cells slots : Nat} {Qc : Array Value → State → Outcome → State → Prop} (X : CCx p s m args meth c cX0_findBest 6 (none) RX0 Z) (hR : cf_findBest_rm.frames ≤ R.frames ∧ cf_findBest_rm.locals ≤ R.locals ∧ cells ≤ R.cells ∧ slots ≤ R.slots) (hA : ∀ q, s.heap.size ≤ q → A q) {r : St} (hQ : ∀ (Y : CY) (H : Heap) (locs : List Loc) (t : State), cPD Z Y A r H → va_S A s.heap H locs → t.heap = H → s.WarmedH t.vm → Qc args s (.returned (none)) t) {k203 : Int32 → Int32 → St → Option St} (hk203 : cf_findBest_P203 p l e R s m args below meth c Z A cells slots Qc r k203) : cf_findBest_P303 p l e R s m args below meth c Z A cells slots Qc r (cf_findBest_b303 k203) := by
  intro x1 x2 Y C H locs ls hM hS hl h
  obtain ⟨⟨hx, hb, hr, hlocks, hml, hown, hts⟩, hK⟩ := id X
  unfold cf_findBest_b303 at h
  refine lv_iinc (v := (x2 + 1)) (lv' := [(2, .int (x2 + 1)), (0, .ref (cSa Z 0)), (1, .int x1)]) hx hb dX0_findBest_303 hl (k := 2) rfl rfl (by decide) rfl (fun ls hl => ?_)
  refine lv_goto (tgt := 203) hx hb dX0_findBest_306 (by decide) ?_
  exact hk203 x1 (x2 + 1) _ C _ _ ls hM hS (lv_sub hl [1, 2, 0] rfl) h
def cf_findBest_b283 (k203 : Int32 → Int32 → St → Option St) (x1 : Int32) (x2 : Int32) (C : St) : Option St :=
  al_ 256 (C 8) x2 fun v1 =>
  lt_ (upd2 C 0 12 v1) fun C2 =>
  al_ 256 (C2 9) x2 fun v3 =>
  lt_ (upd2 C2 0 13 v3) fun C4 =>
  cf_findBest_b303 k203 x1 x2 C4
theorem cf_findBest_w283 {p : Program} {l : Launch} {e : Env} {R : Room} {s : State} {m : MethodId} {args : Array Value} {below : List Frame} {meth : Method} {c : Code} {Z : CZ} {A : Nat → Prop} {cells slots : Nat} {Qc : Array Value → State → Outcome → State → Prop} (X : CCx p s m args meth c cX0_findBest 6 (none) RX0 Z) (hR : cf_findBest_rm.frames ≤ R.frames ∧ cf_findBest_rm.locals ≤ R.locals ∧ cells ≤ R.cells ∧ slots ≤ R.slots) (hA : ∀ q, s.heap.size ≤ q → A q) {r : St} (hQ : ∀ (Y : CY) (H : Heap) (locs : List Loc) (t : State), cPD Z Y A r H → va_S A s.heap H locs → t.heap = H → s.WarmedH t.vm → Qc args s (.returned (none)) t) {k203 : Int32 → Int32 → St → Option St} (hk203 : cf_findBest_P203 p l e R s m args below meth c Z A cells slots Qc r k203) : cf_findBest_P283 p l e R s m args below meth c Z A cells slots Qc r (cf_findBest_b283 k203) := by
  intro x1 x2 Y C H locs ls hM hS hl h
  obtain ⟨⟨hx, hb, hr, hlocks, hml, hown, hts⟩, hK⟩ := id X
  unfold cf_findBest_b283 at h
  refine lv_aload_n hx hb dX0_findBest_283 rfl (lv_at hl 0 rfl) ?_
  refine lv_aload_n hx hb dX0_findBest_284 rfl (lv_at hl 0 rfl) ?_
  refine gc8 X hM dX0_findBest_285 ?_
  refine lv_iload_n hx hb dX0_findBest_288 rfl (lv_at hl 2 rfl) ?_
  obtain ⟨i_v1, h⟩ := al_e h
  refine c_ald X hM (k := 8) (cHs_S (by decide)) (fun _ _ _ => rfl) (cAr_s (by decide)) i_v1 dX0_findBest_289 (fun v1 e_v1 => ?_)
  have h := h v1 e_v1
  refine pc12 X hM hS dX0_findBest_290 (fun H locs C2 e_C2 hM hS => ?_)
  have h := lt_i h e_C2
  refine lv_aload_n hx hb dX0_findBest_293 rfl (lv_at hl 0 rfl) ?_
  refine lv_aload_n hx hb dX0_findBest_294 rfl (lv_at hl 0 rfl) ?_
  refine gc9 X hM dX0_findBest_295 ?_
  refine lv_iload_n hx hb dX0_findBest_298 rfl (lv_at hl 2 rfl) ?_
  obtain ⟨i_v3, h⟩ := al_e h
  refine c_ald X hM (k := 9) (cHs_S (by decide)) (fun _ _ _ => rfl) (cAr_s (by decide)) i_v3 dX0_findBest_299 (fun v3 e_v3 => ?_)
  have h := h v3 e_v3
  refine pc13 X hM hS dX0_findBest_300 (fun H locs C4 e_C4 hM hS => ?_)
  have h := lt_i h e_C4
  exact cf_findBest_w303 X hR hA hQ hk203 x1 x2 _ C4 _ _ ls hM hS (lv_sub hl [0, 1, 2] rfl) h
def cf_findBest_b239 (k203 : Int32 → Int32 → St → Option St) (x1 : Int32) (x2 : Int32) (t0 : Int32) (C : St) : Option St :=
  if t0 = 0 then (cf_findBest_b303 k203 x1 x2 C)
  else (al_ 256 (C 8) x2 fun v2 =>
    if (C 0 12) < v2 then (cf_findBest_b283 k203 x1 x2 C)
    else (al_ 256 (C 8) x2 fun v4 =>
      if v4 = (C 0 12) then (al_ 256 (C 9) x2 fun v6 =>
        if (C 0 13) ≤ v6 then (cf_findBest_b303 k203 x1 x2 C)
        else (cf_findBest_b283 k203 x1 x2 C))
      else (cf_findBest_b303 k203 x1 x2 C)))
theorem cf_findBest_w239 {p : Program} {l : Launch} {e : Env} {R : Room} {s : State} {m : MethodId} {args : Array Value} {below : List Frame} {meth : Method} {c : Code} {Z : CZ} {A : Nat → Prop} {cells slots : Nat} {Qc : Array Value → State → Outcome → State → Prop} (X : CCx p s m args meth c cX0_findBest 6 (none) RX0 Z) (hR : cf_findBest_rm.frames ≤ R.frames ∧ cf_findBest_rm.locals ≤ R.locals ∧ cells ≤ R.cells ∧ slots ≤ R.slots) (hA : ∀ q, s.heap.size ≤ q → A q) {r : St} (hQ : ∀ (Y : CY) (H : Heap) (locs : List Loc) (t : State), cPD Z Y A r H → va_S A s.heap H locs → t.heap = H → s.WarmedH t.vm → Qc args s (.returned (none)) t) {k203 : Int32 → Int32 → St → Option St} (hk203 : cf_findBest_P203 p l e R s m args below meth c Z A cells slots Qc r k203) : cf_findBest_P239 p l e R s m args below meth c Z A cells slots Qc r (cf_findBest_b239 k203) := by
  intro x1 x2 t0 Y C H locs ls hM hS hl h
  obtain ⟨⟨hx, hb, hr, hlocks, hml, hown, hts⟩, hK⟩ := id X
  unfold cf_findBest_b239 at h
  refine lv_istore_n (lv' := [(3, .int t0), (0, .ref (cSa Z 0)), (1, .int x1), (2, .int x2)]) hx hb dX0_findBest_239 rfl hl (by decide) rfl (fun ls hl => ?_)
  refine lv_iload_n hx hb dX0_findBest_240 rfl (lv_at hl 0 rfl) ?_
  refine lv_if_eq (tgt := 303) hx hb dX0_findBest_241 (by decide) (fun c1 => ?_) (fun c1 => ?_)
  · have h := ip_ c1 h
    exact cf_findBest_w303 X hR hA hQ hk203 x1 x2 _ C _ _ ls hM hS (lv_sub hl [1, 2, 3] rfl) h
  · have h := in_ c1 h
    refine lv_aload_n hx hb dX0_findBest_244 rfl (lv_at hl 1 rfl) ?_
    refine gc8 X hM dX0_findBest_245 ?_
    refine lv_iload_n hx hb dX0_findBest_248 rfl (lv_at hl 3 rfl) ?_
    obtain ⟨i_v2, h⟩ := al_e h
    refine c_ald X hM (k := 8) (cHs_S (by decide)) (fun _ _ _ => rfl) (cAr_s (by decide)) i_v2 dX0_findBest_249 (fun v2 e_v2 => ?_)
    have h := h v2 e_v2
    refine lv_aload_n hx hb dX0_findBest_250 rfl (lv_at hl 1 rfl) ?_
    refine gc12 X hM dX0_findBest_251 ?_
    refine lv_icmp_gt (tgt := 283) hx hb dX0_findBest_254 (by decide) (fun c3 => ?_) (fun c3 => ?_)
    · have h := ip_ c3 h
      exact cf_findBest_w283 X hR hA hQ hk203 x1 x2 _ C _ _ ls hM hS (lv_sub hl [1, 2, 3] rfl) h
    · have h := in_ c3 h
      refine lv_aload_n hx hb dX0_findBest_257 rfl (lv_at hl 1 rfl) ?_
      refine gc8 X hM dX0_findBest_258 ?_
      refine lv_iload_n hx hb dX0_findBest_261 rfl (lv_at hl 3 rfl) ?_
      obtain ⟨i_v4, h⟩ := al_e h
      refine c_ald X hM (k := 8) (cHs_S (by decide)) (fun _ _ _ => rfl) (cAr_s (by decide)) i_v4 dX0_findBest_262 (fun v4 e_v4 => ?_)
      have h := h v4 e_v4
      refine lv_aload_n hx hb dX0_findBest_263 rfl (lv_at hl 1 rfl) ?_
      refine gc12 X hM dX0_findBest_264 ?_
      refine lv_icmp_ne (tgt := 303) hx hb dX0_findBest_267 (by decide) (fun c5 => ?_) (fun c5 => ?_)
      · have h := in_ c5 h
        exact cf_findBest_w303 X hR hA hQ hk203 x1 x2 _ C _ _ ls hM hS (lv_sub hl [1, 2, 3] rfl) h
      · have h := ip_ c5 h
        refine lv_aload_n hx hb dX0_findBest_270 rfl (lv_at hl 1 rfl) ?_
        refine gc9 X hM dX0_findBest_271 ?_
        refine lv_iload_n hx hb dX0_findBest_274 rfl (lv_at hl 3 rfl) ?_
        obtain ⟨i_v6, h⟩ := al_e h
        refine c_ald X hM (k := 9) (cHs_S (by decide)) (fun _ _ _ => rfl) (cAr_s (by decide)) i_v6 dX0_findBest_275 (fun v6 e_v6 => ?_)
        have h := h v6 e_v6
        refine lv_aload_n hx hb dX0_findBest_276 rfl (lv_at hl 1 rfl) ?_
        refine gc13 X hM dX0_findBest_277 ?_
        refine lv_icmp_ge (tgt := 303) hx hb dX0_findBest_280 (by decide) (fun c7 => ?_) (fun c7 => ?_)
        · have h := ip_ c7 h
          exact cf_findBest_w303 X hR hA hQ hk203 x1 x2 _ C _ _ ls hM hS (lv_sub hl [1, 2, 3] rfl) h
        · have h := in_ c7 h
          exact cf_findBest_w283 X hR hA hQ hk203 x1 x2 _ C _ _ ls hM hS (lv_sub hl [1, 2, 3] rfl) h
def cf_findBest_b203 (k203 : Int32 → Int32 → St → Option St) (x1 : Int32) (x2 : Int32) (C : St) : Option St :=
  if x1 ≤ x2 then (some C)
  else (al_ 256 (C 9) x2 fun v2 =>
    if (1000000 : Int32) ≤ v2 then (cf_findBest_b239 k203 x1 x2 (0 : Int32) C)
    else (al_ 256 (C 9) x2 fun v4 =>
      al_ 4 (C 3) (2 : Int32) fun v5 =>
      if v5 < v4 then (cf_findBest_b239 k203 x1 x2 (0 : Int32) C)
      else (cf_findBest_b239 k203 x1 x2 (1 : Int32) C)))
theorem cf_findBest_w203 {p : Program} {l : Launch} {e : Env} {R : Room} {s : State} {m : MethodId} {args : Array Value} {below : List Frame} {meth : Method} {c : Code} {Z : CZ} {A : Nat → Prop} {cells slots : Nat} {Qc : Array Value → State → Outcome → State → Prop} (X : CCx p s m args meth c cX0_findBest 6 (none) RX0 Z) (hR : cf_findBest_rm.frames ≤ R.frames ∧ cf_findBest_rm.locals ≤ R.locals ∧ cells ≤ R.cells ∧ slots ≤ R.slots) (hA : ∀ q, s.heap.size ≤ q → A q) {r : St} (hQ : ∀ (Y : CY) (H : Heap) (locs : List Loc) (t : State), cPD Z Y A r H → va_S A s.heap H locs → t.heap = H → s.WarmedH t.vm → Qc args s (.returned (none)) t) {k203 : Int32 → Int32 → St → Option St} (hk203 : cf_findBest_P203 p l e R s m args below meth c Z A cells slots Qc r k203) : cf_findBest_P203 p l e R s m args below meth c Z A cells slots Qc r (cf_findBest_b203 k203) := by
  intro x1 x2 Y C H locs ls hM hS hl h
  obtain ⟨⟨hx, hb, hr, hlocks, hml, hown, hts⟩, hK⟩ := id X
  unfold cf_findBest_b203 at h
  refine lv_iload_n hx hb dX0_findBest_203 rfl (lv_at hl 2 rfl) ?_
  refine lv_iload_n hx hb dX0_findBest_204 rfl (lv_at hl 1 rfl) ?_
  refine lv_icmp_ge (tgt := 309) hx hb dX0_findBest_205 (by decide) (fun c1 => ?_) (fun c1 => ?_)
  · have h := ip_ c1 h
    have h := so_ h
    subst h
    exact W.vret hx hb hr (fun t ht hW => hQ _ _ _ t hM hS ht hW) hS.2.2 dX0_findBest_309
  · have h := in_ c1 h
    refine lv_aload_n hx hb dX0_findBest_208 rfl (lv_at hl 0 rfl) ?_
    refine gc9 X hM dX0_findBest_209 ?_
    refine lv_iload_n hx hb dX0_findBest_212 rfl (lv_at hl 2 rfl) ?_
    obtain ⟨i_v2, h⟩ := al_e h
    refine c_ald X hM (k := 9) (cHs_S (by decide)) (fun _ _ _ => rfl) (cAr_s (by decide)) i_v2 dX0_findBest_213 (fun v2 e_v2 => ?_)
    have h := h v2 e_v2
    refine lv_ldc (v := 1000000) hx hb hown (hts _ q755) dX0_findBest_214 ?_
    refine lv_icmp_ge (tgt := 238) hx hb dX0_findBest_216 (by decide) (fun c3 => ?_) (fun c3 => ?_)
    · have h := ip_ c3 h
      refine lv_iconst (v := 0) hx hb dX0_findBest_238 (by decide) ?_
      exact cf_findBest_w239 X hR hA hQ hk203 x1 x2 (0 : Int32) _ C _ _ ls hM hS (lv_sub hl [0, 1, 2] rfl) h
    · have h := in_ c3 h
      refine lv_aload_n hx hb dX0_findBest_219 rfl (lv_at hl 0 rfl) ?_
      refine gc9 X hM dX0_findBest_220 ?_
      refine lv_iload_n hx hb dX0_findBest_223 rfl (lv_at hl 2 rfl) ?_
      obtain ⟨i_v4, h⟩ := al_e h
      refine c_ald X hM (k := 9) (cHs_S (by decide)) (fun _ _ _ => rfl) (cAr_s (by decide)) i_v4 dX0_findBest_224 (fun v4 e_v4 => ?_)
      have h := h v4 e_v4
      refine lv_aload_n hx hb dX0_findBest_225 rfl (lv_at hl 0 rfl) ?_
      refine gc3 X hM dX0_findBest_226 ?_
      refine lv_iconst (v := 2) hx hb dX0_findBest_229 (by decide) ?_
      obtain ⟨i_v5, h⟩ := al_e h
      refine c_ald X hM (k := 3) (cHs_S (by decide)) (fun _ _ _ => rfl) (cAr_s (by decide)) i_v5 dX0_findBest_230 (fun v5 e_v5 => ?_)
      have h := h v5 e_v5
      refine lv_icmp_gt (tgt := 238) hx hb dX0_findBest_231 (by decide) (fun c6 => ?_) (fun c6 => ?_)
      · have h := ip_ c6 h
        refine lv_iconst (v := 0) hx hb dX0_findBest_238 (by decide) ?_
        exact cf_findBest_w239 X hR hA hQ hk203 x1 x2 (0 : Int32) _ C _ _ ls hM hS (lv_sub hl [0, 1, 2] rfl) h
      · have h := in_ c6 h
        refine lv_iconst (v := 1) hx hb dX0_findBest_234 (by decide) ?_
        refine lv_goto (tgt := 239) hx hb dX0_findBest_235 (by decide) ?_
        exact cf_findBest_w239 X hR hA hQ hk203 x1 x2 (1 : Int32) _ C _ _ ls hM hS (lv_sub hl [0, 1, 2] rfl) h
def cf_findBest_l203 (n : Nat) : Int32 → Int32 → St → Option St := lp (fun _ _ _ => none) (cf_findBest_b203) n
theorem cf_findBest_lw203 {p : Program} {l : Launch} {e : Env} {R : Room} {s : State} {m : MethodId} {args : Array Value} {below : List Frame} {meth : Method} {c : Code} {Z : CZ} {A : Nat → Prop} {cells slots : Nat} {Qc : Array Value → State → Outcome → State → Prop} (X : CCx p s m args meth c cX0_findBest 6 (none) RX0 Z) (hR : cf_findBest_rm.frames ≤ R.frames ∧ cf_findBest_rm.locals ≤ R.locals ∧ cells ≤ R.cells ∧ slots ≤ R.slots) (hA : ∀ q, s.heap.size ≤ q → A q) {r : St} (hQ : ∀ (Y : CY) (H : Heap) (locs : List Loc) (t : State), cPD Z Y A r H → va_S A s.heap H locs → t.heap = H → s.WarmedH t.vm → Qc args s (.returned (none)) t) : ∀ n : Nat, cf_findBest_P203 p l e R s m args below meth c Z A cells slots Qc r (cf_findBest_l203 n) := by
  intro n
  induction n with
  | zero => intro x1 x2 Y C H locs ls hM hS hl h; exact no_ h
  | succ n ih => exact cf_findBest_w203 X hR hA hQ ih
def cf_findBest_b184 (k38 : Int32 → Int32 → St → Option St) (k81 : Int32 → Int32 → Int32 → St → Option St) (x1 : Int32) (x2 : Int32) (x3 : Int32) (C : St) : Option St :=
  k81 x1 x2 (x3 + 1) C
theorem cf_findBest_w184 {p : Program} {l : Launch} {e : Env} {R : Room} {s : State} {m : MethodId} {args : Array Value} {below : List Frame} {meth : Method} {c : Code} {Z : CZ} {A : Nat → Prop} {cells slots : Nat} {Qc : Array Value → State → Outcome → State → Prop} (X : CCx p s m args meth c cX0_findBest 6 (none) RX0 Z) (hR : cf_findBest_rm.frames ≤ R.frames ∧ cf_findBest_rm.locals ≤ R.locals ∧ cells ≤ R.cells ∧ slots ≤ R.slots) (hA : ∀ q, s.heap.size ≤ q → A q) {r : St} (hQ : ∀ (Y : CY) (H : Heap) (locs : List Loc) (t : State), cPD Z Y A r H → va_S A s.heap H locs → t.heap = H → s.WarmedH t.vm → Qc args s (.returned (none)) t) {k38 : Int32 → Int32 → St → Option St} (hk38 : cf_findBest_P38 p l e R s m args below meth c Z A cells slots Qc r k38) {k81 : Int32 → Int32 → Int32 → St → Option St} (hk81 : cf_findBest_P81 p l e R s m args below meth c Z A cells slots Qc r k81) : cf_findBest_P184 p l e R s m args below meth c Z A cells slots Qc r (cf_findBest_b184 k38 k81) := by
  intro x1 x2 x3 Y C H locs ls hM hS hl h
  obtain ⟨⟨hx, hb, hr, hlocks, hml, hown, hts⟩, hK⟩ := id X
  unfold cf_findBest_b184 at h
  refine lv_iinc (v := (x3 + 1)) (lv' := [(3, .int (x3 + 1)), (0, .ref (cSa Z 0)), (1, .int x1), (2, .int x2)]) hx hb dX0_findBest_184 hl (k := 3) rfl rfl (by decide) rfl (fun ls hl => ?_)
  refine lv_goto (tgt := 81) hx hb dX0_findBest_187 (by decide) ?_
  exact hk81 x1 x2 (x3 + 1) _ C _ _ ls hM hS (lv_sub hl [1, 2, 3, 0] rfl) h
def cf_findBest_b179 (k38 : Int32 → Int32 → St → Option St) (k81 : Int32 → Int32 → Int32 → St → Option St) (k121 : Int32 → Int32 → Int32 → Int32 → Int32 → St → Option St) (x1 : Int32) (x2 : Int32) (x3 : Int32) (x4 : Int32) (t0 : Int32) (C : St) : Option St :=
  k121 x1 x2 x3 x4 t0 C
theorem cf_findBest_w179 {p : Program} {l : Launch} {e : Env} {R : Room} {s : State} {m : MethodId} {args : Array Value} {below : List Frame} {meth : Method} {c : Code} {Z : CZ} {A : Nat → Prop} {cells slots : Nat} {Qc : Array Value → State → Outcome → State → Prop} (X : CCx p s m args meth c cX0_findBest 6 (none) RX0 Z) (hR : cf_findBest_rm.frames ≤ R.frames ∧ cf_findBest_rm.locals ≤ R.locals ∧ cells ≤ R.cells ∧ slots ≤ R.slots) (hA : ∀ q, s.heap.size ≤ q → A q) {r : St} (hQ : ∀ (Y : CY) (H : Heap) (locs : List Loc) (t : State), cPD Z Y A r H → va_S A s.heap H locs → t.heap = H → s.WarmedH t.vm → Qc args s (.returned (none)) t) {k38 : Int32 → Int32 → St → Option St} (hk38 : cf_findBest_P38 p l e R s m args below meth c Z A cells slots Qc r k38) {k81 : Int32 → Int32 → Int32 → St → Option St} (hk81 : cf_findBest_P81 p l e R s m args below meth c Z A cells slots Qc r k81) {k121 : Int32 → Int32 → Int32 → Int32 → Int32 → St → Option St} (hk121 : cf_findBest_P121 p l e R s m args below meth c Z A cells slots Qc r k121) : cf_findBest_P179 p l e R s m args below meth c Z A cells slots Qc r (cf_findBest_b179 k38 k81 k121) := by
  intro x1 x2 x3 x4 t0 Y C H locs ls hM hS hl h
  obtain ⟨⟨hx, hb, hr, hlocks, hml, hown, hts⟩, hK⟩ := id X
  unfold cf_findBest_b179 at h
  refine lv_istore (lv' := [(5, .int t0), (0, .ref (cSa Z 0)), (1, .int x1), (2, .int x2), (3, .int x3), (4, .int x4)]) hx hb dX0_findBest_179 hl (by decide) rfl (fun ls hl => ?_)
  refine lv_goto (tgt := 121) hx hb dX0_findBest_181 (by decide) ?_
  exact hk121 x1 x2 x3 x4 t0 _ C _ _ ls hM hS (lv_sub hl [1, 2, 3, 4, 5, 0] rfl) h
def cf_findBest_b121 (k38 : Int32 → Int32 → St → Option St) (k81 : Int32 → Int32 → Int32 → St → Option St) (k121 : Int32 → Int32 → Int32 → Int32 → Int32 → St → Option St) (x1 : Int32) (x2 : Int32) (x3 : Int32) (x4 : Int32) (x5 : Int32) (C : St) : Option St :=
  if x5 < 0 then (cf_findBest_b184 k38 k81 x1 x2 x3 C)
  else (al_ 256 (C 9) (x5 ||| x3) fun v2 =>
    al_ 256 (C 10) x5 fun v3 =>
    ix_ 8 x2 fun q4 =>
    al_ 256 (C (30 + q4)) x3 fun v5 =>
    lt_ (if (v3 + v5) < v2 then (v3 + v5) else v2) fun v6 =>
    as_ 256 9 C (x5 ||| x3) v6 fun C7 =>
    if x5 = 0 then (cf_findBest_b179 k38 k81 k121 x1 x2 x3 x4 (-1 : Int32) C7)
    else (cf_findBest_b179 k38 k81 k121 x1 x2 x3 x4 ((x5 - (1 : Int32)) &&& x4) C7))
theorem cf_findBest_w121 {p : Program} {l : Launch} {e : Env} {R : Room} {s : State} {m : MethodId} {args : Array Value} {below : List Frame} {meth : Method} {c : Code} {Z : CZ} {A : Nat → Prop} {cells slots : Nat} {Qc : Array Value → State → Outcome → State → Prop} (X : CCx p s m args meth c cX0_findBest 6 (none) RX0 Z) (hR : cf_findBest_rm.frames ≤ R.frames ∧ cf_findBest_rm.locals ≤ R.locals ∧ cells ≤ R.cells ∧ slots ≤ R.slots) (hA : ∀ q, s.heap.size ≤ q → A q) {r : St} (hQ : ∀ (Y : CY) (H : Heap) (locs : List Loc) (t : State), cPD Z Y A r H → va_S A s.heap H locs → t.heap = H → s.WarmedH t.vm → Qc args s (.returned (none)) t) {k38 : Int32 → Int32 → St → Option St} (hk38 : cf_findBest_P38 p l e R s m args below meth c Z A cells slots Qc r k38) {k81 : Int32 → Int32 → Int32 → St → Option St} (hk81 : cf_findBest_P81 p l e R s m args below meth c Z A cells slots Qc r k81) {k121 : Int32 → Int32 → Int32 → Int32 → Int32 → St → Option St} (hk121 : cf_findBest_P121 p l e R s m args below meth c Z A cells slots Qc r k121) : cf_findBest_P121 p l e R s m args below meth c Z A cells slots Qc r (cf_findBest_b121 k38 k81 k121) := by
  intro x1 x2 x3 x4 x5 Y C H locs ls hM hS hl h
  obtain ⟨⟨hx, hb, hr, hlocks, hml, hown, hts⟩, hK⟩ := id X
  unfold cf_findBest_b121 at h
  refine lv_iload hx hb dX0_findBest_121 (lv_at hl 5 rfl) ?_
  refine lv_if_lt (tgt := 184) hx hb dX0_findBest_123 (by decide) (fun c1 => ?_) (fun c1 => ?_)
  · have h := ip_ c1 h
    exact cf_findBest_w184 X hR hA hQ hk38 hk81 x1 x2 x3 _ C _ _ ls hM hS (lv_sub hl [0, 1, 2, 3] rfl) h
  · have h := in_ c1 h
    refine lv_aload_n hx hb dX0_findBest_126 rfl (lv_at hl 0 rfl) ?_
    refine gc9 X hM dX0_findBest_127 ?_
    refine lv_iload hx hb dX0_findBest_130 (lv_at hl 5 rfl) ?_
    refine lv_iload_n hx hb dX0_findBest_132 rfl (lv_at hl 3 rfl) ?_
    refine lv_ior hx hb dX0_findBest_133 ?_
    refine lv_aload_n hx hb dX0_findBest_134 rfl (lv_at hl 0 rfl) ?_
    refine gc9 X hM dX0_findBest_135 ?_
    refine lv_iload hx hb dX0_findBest_138 (lv_at hl 5 rfl) ?_
    refine lv_iload_n hx hb dX0_findBest_140 rfl (lv_at hl 3 rfl) ?_
    refine lv_ior hx hb dX0_findBest_141 ?_
    obtain ⟨i_v2, h⟩ := al_e h
    refine c_ald X hM (k := 9) (cHs_S (by decide)) (fun _ _ _ => rfl) (cAr_s (by decide)) i_v2 dX0_findBest_142 (fun v2 e_v2 => ?_)
    have h := h v2 e_v2
    refine lv_aload_n hx hb dX0_findBest_143 rfl (lv_at hl 0 rfl) ?_
    refine gc10 X hM dX0_findBest_144 ?_
    refine lv_iload hx hb dX0_findBest_147 (lv_at hl 5 rfl) ?_
    obtain ⟨i_v3, h⟩ := al_e h
    refine c_ald X hM (k := 10) (cHs_S (by decide)) (fun _ _ _ => rfl) (cAr_s (by decide)) i_v3 dX0_findBest_149 (fun v3 e_v3 => ?_)
    have h := h v3 e_v3
    refine lv_aload_n hx hb dX0_findBest_150 rfl (lv_at hl 0 rfl) ?_
    refine gc7 X hM dX0_findBest_151 ?_
    refine lv_iload_n hx hb dX0_findBest_154 rfl (lv_at hl 2 rfl) ?_
    obtain ⟨i_q4, b_q4, h⟩ := ix_e h
    refine c_aldT X hM i_q4 dX0_findBest_155 (fun q4 e_q4 => ?_)
    have h := h q4 e_q4
    rw [← e_q4] at b_q4
    refine lv_iload_n hx hb dX0_findBest_156 rfl (lv_at hl 3 rfl) ?_
    obtain ⟨i_v5, h⟩ := al_e h
    refine c_ald X hM (k := (30 + q4)) (cHs_S (cS_t b_q4)) (cArr_t b_q4) (cAr_s (by omega)) i_v5 dX0_findBest_157 (fun v5 e_v5 => ?_)
    have h := h v5 e_v5
    refine lv_iadd hx hb dX0_findBest_158 ?_
    refine va_mmin (rest := [.int (x5 ||| x3), .ref (cSa Z 9)]) hx hb (hml.trans hl.1.symm) hown (hts _ q697) (hts _ q605) (hts _ q94) (hts _ q606) (Nat.le_trans (m := cf_findBest_rm.frames) (Nat.le_of_ble_eq_true rfl) hR.1) (Nat.le_trans (m := cf_findBest_rm.locals) (Nat.le_of_ble_eq_true rfl) hR.2.1) hR.2.2.1 hR.2.2.2 dX0_findBest_159 ?_
    refine lv_topi (fun v6 e_v6 => ?_)
    have h := lt_i h e_v6
    obtain ⟨i_C7, h⟩ := as_e h
    refine c_ast X hM hS (k := 9) (by decide) (cHs_S (by decide)) (fun _ _ _ => rfl) (cAr_s (by decide)) i_C7 dX0_findBest_162 (fun H locs C7 e_C7 hM hS => ?_)
    have h := h C7 e_C7
    refine lv_iload hx hb dX0_findBest_163 (lv_at hl 5 rfl) ?_
    refine lv_if_ne (tgt := 172) hx hb dX0_findBest_165 (by decide) (fun c8 => ?_) (fun c8 => ?_)
    · have h := in_ c8 h
      refine lv_iload hx hb dX0_findBest_172 (lv_at hl 5 rfl) ?_
      refine lv_iconst (v := 1) hx hb dX0_findBest_174 (by decide) ?_
      refine lv_isub hx hb dX0_findBest_175 ?_
      refine lv_iload hx hb dX0_findBest_176 (lv_at hl 4 rfl) ?_
      refine lv_iand hx hb dX0_findBest_178 ?_
      exact cf_findBest_w179 X hR hA hQ hk38 hk81 hk121 x1 x2 x3 x4 ((x5 - (1 : Int32)) &&& x4) _ C7 _ _ ls hM hS (lv_sub hl [0, 1, 2, 3, 4] rfl) h
    · have h := ip_ c8 h
      refine lv_iconst (v := -1) hx hb dX0_findBest_168 (by decide) ?_
      refine lv_goto (tgt := 179) hx hb dX0_findBest_169 (by decide) ?_
      exact cf_findBest_w179 X hR hA hQ hk38 hk81 hk121 x1 x2 x3 x4 (-1 : Int32) _ C7 _ _ ls hM hS (lv_sub hl [0, 1, 2, 3, 4] rfl) h
def cf_findBest_l121 (k38 : Int32 → Int32 → St → Option St) (k81 : Int32 → Int32 → Int32 → St → Option St) (n : Nat) : Int32 → Int32 → Int32 → Int32 → Int32 → St → Option St := lp (fun _ _ _ _ _ _ => none) (cf_findBest_b121 k38 k81) n
theorem cf_findBest_lw121 {p : Program} {l : Launch} {e : Env} {R : Room} {s : State} {m : MethodId} {args : Array Value} {below : List Frame} {meth : Method} {c : Code} {Z : CZ} {A : Nat → Prop} {cells slots : Nat} {Qc : Array Value → State → Outcome → State → Prop} (X : CCx p s m args meth c cX0_findBest 6 (none) RX0 Z) (hR : cf_findBest_rm.frames ≤ R.frames ∧ cf_findBest_rm.locals ≤ R.locals ∧ cells ≤ R.cells ∧ slots ≤ R.slots) (hA : ∀ q, s.heap.size ≤ q → A q) {r : St} (hQ : ∀ (Y : CY) (H : Heap) (locs : List Loc) (t : State), cPD Z Y A r H → va_S A s.heap H locs → t.heap = H → s.WarmedH t.vm → Qc args s (.returned (none)) t) {k38 : Int32 → Int32 → St → Option St} (hk38 : cf_findBest_P38 p l e R s m args below meth c Z A cells slots Qc r k38) {k81 : Int32 → Int32 → Int32 → St → Option St} (hk81 : cf_findBest_P81 p l e R s m args below meth c Z A cells slots Qc r k81) : ∀ n : Nat, cf_findBest_P121 p l e R s m args below meth c Z A cells slots Qc r (cf_findBest_l121 k38 k81 n) := by
  intro n
  induction n with
  | zero => intro x1 x2 x3 x4 x5 Y C H locs ls hM hS hl h; exact no_ h
  | succ n ih => exact cf_findBest_w121 X hR hA hQ hk38 hk81 ih
def cf_findBest_b81 (k38 : Int32 → Int32 → St → Option St) (k81 : Int32 → Int32 → Int32 → St → Option St) (x1 : Int32) (x2 : Int32) (x3 : Int32) (C : St) : Option St :=
  if x1 ≤ x3 then (k38 x1 (x2 + 1) C)
  else (ix_ 8 x2 fun q2 =>
    al_ 256 (C (30 + q2)) x3 fun v3 =>
    if (1000000 : Int32) ≤ v3 then (cf_findBest_b184 k38 k81 x1 x2 x3 C)
    else (bd_ (cf_isFixed C x3 x2) fun v5 =>
      if v5 = 0 then (cf_findBest_b184 k38 k81 x1 x2 x3 C)
      else (lt_ ((x1 - (1 : Int32)) &&& (x3 ^^^ (-1 : Int32))) fun v7 =>
        cf_findBest_l121 k38 k81 FU x1 x2 x3 v7 v7 C)))
theorem cf_findBest_w81 {p : Program} {l : Launch} {e : Env} {R : Room} {s : State} {m : MethodId} {args : Array Value} {below : List Frame} {meth : Method} {c : Code} {Z : CZ} {A : Nat → Prop} {cells slots : Nat} {Qc : Array Value → State → Outcome → State → Prop} (X : CCx p s m args meth c cX0_findBest 6 (none) RX0 Z) (hR : cf_findBest_rm.frames ≤ R.frames ∧ cf_findBest_rm.locals ≤ R.locals ∧ cells ≤ R.cells ∧ slots ≤ R.slots) (hA : ∀ q, s.heap.size ≤ q → A q) {r : St} (hQ : ∀ (Y : CY) (H : Heap) (locs : List Loc) (t : State), cPD Z Y A r H → va_S A s.heap H locs → t.heap = H → s.WarmedH t.vm → Qc args s (.returned (none)) t) {k38 : Int32 → Int32 → St → Option St} (hk38 : cf_findBest_P38 p l e R s m args below meth c Z A cells slots Qc r k38) {k81 : Int32 → Int32 → Int32 → St → Option St} (hk81 : cf_findBest_P81 p l e R s m args below meth c Z A cells slots Qc r k81) : cf_findBest_P81 p l e R s m args below meth c Z A cells slots Qc r (cf_findBest_b81 k38 k81) := by
  intro x1 x2 x3 Y C H locs ls hM hS hl h
  obtain ⟨⟨hx, hb, hr, hlocks, hml, hown, hts⟩, hK⟩ := id X
  unfold cf_findBest_b81 at h
  refine lv_iload_n hx hb dX0_findBest_81 rfl (lv_at hl 3 rfl) ?_
  refine lv_iload_n hx hb dX0_findBest_82 rfl (lv_at hl 1 rfl) ?_
  refine lv_icmp_ge (tgt := 190) hx hb dX0_findBest_83 (by decide) (fun c1 => ?_) (fun c1 => ?_)
  · have h := ip_ c1 h
    refine lv_iinc (v := (x2 + 1)) (lv' := [(2, .int (x2 + 1)), (0, .ref (cSa Z 0)), (1, .int x1), (3, .int x3)]) hx hb dX0_findBest_190 hl (k := 2) rfl rfl (by decide) rfl (fun ls hl => ?_)
    refine lv_goto (tgt := 38) hx hb dX0_findBest_193 (by decide) ?_
    exact hk38 x1 (x2 + 1) _ C _ _ ls hM hS (lv_sub hl [1, 2, 0] rfl) h
  · have h := in_ c1 h
    refine lv_aload_n hx hb dX0_findBest_86 rfl (lv_at hl 0 rfl) ?_
    refine gc7 X hM dX0_findBest_87 ?_
    refine lv_iload_n hx hb dX0_findBest_90 rfl (lv_at hl 2 rfl) ?_
    obtain ⟨i_q2, b_q2, h⟩ := ix_e h
    refine c_aldT X hM i_q2 dX0_findBest_91 (fun q2 e_q2 => ?_)
    have h := h q2 e_q2
    rw [← e_q2] at b_q2
    refine lv_iload_n hx hb dX0_findBest_92 rfl (lv_at hl 3 rfl) ?_
    obtain ⟨i_v3, h⟩ := al_e h
    refine c_ald X hM (k := (30 + q2)) (cHs_S (cS_t b_q2)) (cArr_t b_q2) (cAr_s (by omega)) i_v3 dX0_findBest_93 (fun v3 e_v3 => ?_)
    have h := h v3 e_v3
    refine lv_ldc (v := 1000000) hx hb hown (hts _ q755) dX0_findBest_94 ?_
    refine lv_icmp_ge (tgt := 184) hx hb dX0_findBest_96 (by decide) (fun c4 => ?_) (fun c4 => ?_)
    · have h := ip_ c4 h
      exact cf_findBest_w184 X hR hA hQ hk38 hk81 x1 x2 x3 _ C _ _ ls hM hS (lv_sub hl [0, 1, 2, 3] rfl) h
    · have h := in_ c4 h
      refine lv_aload_n hx hb dX0_findBest_99 rfl (lv_at hl 0 rfl) ?_
      refine lv_iload_n hx hb dX0_findBest_100 rfl (lv_at hl 3 rfl) ?_
      refine lv_iload_n hx hb dX0_findBest_101 rfl (lv_at hl 2 rfl) ?_
      obtain ⟨v5, q_v5, h⟩ := bd_e h
      refine f_roI (As := [.int x3, .int x2]) (rest := []) X hM (c_recv0 X hM) hS.2.2 (cPD.fr hM) (cf_isFixed_met _ Z Y A C x3 x2 v5 q_v5) (lw_V q769 q771 qs26 q79 q772) cf_isFixed_hd ⟨rfl, rfl⟩ ⟨Nat.le_trans (m := cf_findBest_rm.frames) (Nat.le_of_ble_eq_true rfl) hR.1, Nat.le_trans (m := cf_findBest_rm.locals) (Nat.le_of_ble_eq_true rfl) hR.2.1⟩ ⟨hR.2.2.1, hR.2.2.2⟩ rfl hl.1 rfl (Nat.le_of_ble_eq_true rfl) dX0_findBest_102 (fun locs hL => ?_)
      have hS : va_S A s.heap _ locs := ⟨hS.1, hS.2.1, hL⟩
      refine lv_if_eq (tgt := 184) hx hb dX0_findBest_105 (by decide) (fun c6 => ?_) (fun c6 => ?_)
      · have h := ip_ c6 h
        exact cf_findBest_w184 X hR hA hQ hk38 hk81 x1 x2 x3 _ C _ _ ls hM hS (lv_sub hl [0, 1, 2, 3] rfl) h
      · have h := in_ c6 h
        refine lv_iload_n hx hb dX0_findBest_108 rfl (lv_at hl 1 rfl) ?_
        refine lv_iconst (v := 1) hx hb dX0_findBest_109 (by decide) ?_
        refine lv_isub hx hb dX0_findBest_110 ?_
        refine lv_iload_n hx hb dX0_findBest_111 rfl (lv_at hl 3 rfl) ?_
        refine lv_iconst (v := -1) hx hb dX0_findBest_112 (by decide) ?_
        refine lv_ixor hx hb dX0_findBest_113 ?_
        refine lv_iand hx hb dX0_findBest_114 ?_
        refine lv_topi (fun v7 e_v7 => ?_)
        have h := lt_i h e_v7
        refine lv_istore (lv' := [(4, .int v7), (0, .ref (cSa Z 0)), (1, .int x1), (2, .int x2), (3, .int x3)]) hx hb dX0_findBest_115 hl (by decide) rfl (fun ls hl => ?_)
        refine lv_iload hx hb dX0_findBest_117 (lv_at hl 0 rfl) ?_
        refine lv_istore (lv' := [(5, .int v7), (4, .int v7), (0, .ref (cSa Z 0)), (1, .int x1), (2, .int x2), (3, .int x3)]) hx hb dX0_findBest_119 hl (by decide) rfl (fun ls hl => ?_)
        exact cf_findBest_lw121 X hR hA hQ hk38 hk81 FU x1 x2 x3 v7 v7 _ C _ _ ls hM hS (lv_sub hl [2, 3, 4, 5, 1, 0] rfl) h
def cf_findBest_l81 (k38 : Int32 → Int32 → St → Option St) (n : Nat) : Int32 → Int32 → Int32 → St → Option St := lp (fun _ _ _ _ => none) (cf_findBest_b81 k38) n
theorem cf_findBest_lw81 {p : Program} {l : Launch} {e : Env} {R : Room} {s : State} {m : MethodId} {args : Array Value} {below : List Frame} {meth : Method} {c : Code} {Z : CZ} {A : Nat → Prop} {cells slots : Nat} {Qc : Array Value → State → Outcome → State → Prop} (X : CCx p s m args meth c cX0_findBest 6 (none) RX0 Z) (hR : cf_findBest_rm.frames ≤ R.frames ∧ cf_findBest_rm.locals ≤ R.locals ∧ cells ≤ R.cells ∧ slots ≤ R.slots) (hA : ∀ q, s.heap.size ≤ q → A q) {r : St} (hQ : ∀ (Y : CY) (H : Heap) (locs : List Loc) (t : State), cPD Z Y A r H → va_S A s.heap H locs → t.heap = H → s.WarmedH t.vm → Qc args s (.returned (none)) t) {k38 : Int32 → Int32 → St → Option St} (hk38 : cf_findBest_P38 p l e R s m args below meth c Z A cells slots Qc r k38) : ∀ n : Nat, cf_findBest_P81 p l e R s m args below meth c Z A cells slots Qc r (cf_findBest_l81 k38 n) := by
  intro n
  induction n with
  | zero => intro x1 x2 x3 Y C H locs ls hM hS hl h; exact no_ h
  | succ n ih => exact cf_findBest_w81 X hR hA hQ hk38 ih
def cf_findBest_b60 (k38 : Int32 → Int32 → St → Option St) (k60 : Int32 → Int32 → Int32 → St → Option St) (x1 : Int32) (x2 : Int32) (x3 : Int32) (C : St) : Option St :=
  if x1 ≤ x3 then (cf_findBest_l81 k38 FU x1 x2 (0 : Int32) C)
  else (as_ 256 9 C x3 (1000000 : Int32) fun C2 =>
    k60 x1 x2 (x3 + 1) C2)
theorem cf_findBest_w60 {p : Program} {l : Launch} {e : Env} {R : Room} {s : State} {m : MethodId} {args : Array Value} {below : List Frame} {meth : Method} {c : Code} {Z : CZ} {A : Nat → Prop} {cells slots : Nat} {Qc : Array Value → State → Outcome → State → Prop} (X : CCx p s m args meth c cX0_findBest 6 (none) RX0 Z) (hR : cf_findBest_rm.frames ≤ R.frames ∧ cf_findBest_rm.locals ≤ R.locals ∧ cells ≤ R.cells ∧ slots ≤ R.slots) (hA : ∀ q, s.heap.size ≤ q → A q) {r : St} (hQ : ∀ (Y : CY) (H : Heap) (locs : List Loc) (t : State), cPD Z Y A r H → va_S A s.heap H locs → t.heap = H → s.WarmedH t.vm → Qc args s (.returned (none)) t) {k38 : Int32 → Int32 → St → Option St} (hk38 : cf_findBest_P38 p l e R s m args below meth c Z A cells slots Qc r k38) {k60 : Int32 → Int32 → Int32 → St → Option St} (hk60 : cf_findBest_P60 p l e R s m args below meth c Z A cells slots Qc r k60) : cf_findBest_P60 p l e R s m args below meth c Z A cells slots Qc r (cf_findBest_b60 k38 k60) := by
  intro x1 x2 x3 Y C H locs ls hM hS hl h
  obtain ⟨⟨hx, hb, hr, hlocks, hml, hown, hts⟩, hK⟩ := id X
  unfold cf_findBest_b60 at h
  refine lv_iload_n hx hb dX0_findBest_60 rfl (lv_at hl 3 rfl) ?_
  refine lv_iload_n hx hb dX0_findBest_61 rfl (lv_at hl 1 rfl) ?_
  refine lv_icmp_ge (tgt := 79) hx hb dX0_findBest_62 (by decide) (fun c1 => ?_) (fun c1 => ?_)
  · have h := ip_ c1 h
    refine lv_iconst (v := 0) hx hb dX0_findBest_79 (by decide) ?_
    refine lv_istore_n (lv' := [(3, .int (0 : Int32)), (0, .ref (cSa Z 0)), (1, .int x1), (2, .int x2)]) hx hb dX0_findBest_80 rfl hl (by decide) rfl (fun ls hl => ?_)
    exact cf_findBest_lw81 X hR hA hQ hk38 FU x1 x2 (0 : Int32) _ C _ _ ls hM hS (lv_sub hl [1, 2, 3, 0] rfl) h
  · have h := in_ c1 h
    refine lv_aload_n hx hb dX0_findBest_65 rfl (lv_at hl 0 rfl) ?_
    refine gc9 X hM dX0_findBest_66 ?_
    refine lv_iload_n hx hb dX0_findBest_69 rfl (lv_at hl 3 rfl) ?_
    refine lv_ldc (v := 1000000) hx hb hown (hts _ q755) dX0_findBest_70 ?_
    obtain ⟨i_C2, h⟩ := as_e h
    refine c_ast X hM hS (k := 9) (by decide) (cHs_S (by decide)) (fun _ _ _ => rfl) (cAr_s (by decide)) i_C2 dX0_findBest_72 (fun H locs C2 e_C2 hM hS => ?_)
    have h := h C2 e_C2
    refine lv_iinc (v := (x3 + 1)) (lv' := [(3, .int (x3 + 1)), (0, .ref (cSa Z 0)), (1, .int x1), (2, .int x2)]) hx hb dX0_findBest_73 hl (k := 3) rfl rfl (by decide) rfl (fun ls hl => ?_)
    refine lv_goto (tgt := 60) hx hb dX0_findBest_76 (by decide) ?_
    exact hk60 x1 x2 (x3 + 1) _ C2 _ _ ls hM hS (lv_sub hl [1, 2, 3, 0] rfl) h
def cf_findBest_l60 (k38 : Int32 → Int32 → St → Option St) (n : Nat) : Int32 → Int32 → Int32 → St → Option St := lp (fun _ _ _ _ => none) (cf_findBest_b60 k38) n
theorem cf_findBest_lw60 {p : Program} {l : Launch} {e : Env} {R : Room} {s : State} {m : MethodId} {args : Array Value} {below : List Frame} {meth : Method} {c : Code} {Z : CZ} {A : Nat → Prop} {cells slots : Nat} {Qc : Array Value → State → Outcome → State → Prop} (X : CCx p s m args meth c cX0_findBest 6 (none) RX0 Z) (hR : cf_findBest_rm.frames ≤ R.frames ∧ cf_findBest_rm.locals ≤ R.locals ∧ cells ≤ R.cells ∧ slots ≤ R.slots) (hA : ∀ q, s.heap.size ≤ q → A q) {r : St} (hQ : ∀ (Y : CY) (H : Heap) (locs : List Loc) (t : State), cPD Z Y A r H → va_S A s.heap H locs → t.heap = H → s.WarmedH t.vm → Qc args s (.returned (none)) t) {k38 : Int32 → Int32 → St → Option St} (hk38 : cf_findBest_P38 p l e R s m args below meth c Z A cells slots Qc r k38) : ∀ n : Nat, cf_findBest_P60 p l e R s m args below meth c Z A cells slots Qc r (cf_findBest_l60 k38 n) := by
  intro n
  induction n with
  | zero => intro x1 x2 x3 Y C H locs ls hM hS hl h; exact no_ h
  | succ n ih => exact cf_findBest_w60 X hR hA hQ hk38 ih
def cf_findBest_b38 (k38 : Int32 → Int32 → St → Option St) (x1 : Int32) (x2 : Int32) (C : St) : Option St :=
  if (8 : Int32) ≤ x2 then (lt_ (upd2 C 0 12 (-1 : Int32)) fun C2 =>
    cf_findBest_l203 FU x1 (0 : Int32) C2)
  else (cpy_ C (0 : Int32) (0 : Int32) x1 fun C3 =>
    cf_findBest_l60 k38 FU x1 x2 (0 : Int32) C3)
theorem cf_findBest_w38 {p : Program} {l : Launch} {e : Env} {R : Room} {s : State} {m : MethodId} {args : Array Value} {below : List Frame} {meth : Method} {c : Code} {Z : CZ} {A : Nat → Prop} {cells slots : Nat} {Qc : Array Value → State → Outcome → State → Prop} (X : CCx p s m args meth c cX0_findBest 6 (none) RX0 Z) (hR : cf_findBest_rm.frames ≤ R.frames ∧ cf_findBest_rm.locals ≤ R.locals ∧ cells ≤ R.cells ∧ slots ≤ R.slots) (hA : ∀ q, s.heap.size ≤ q → A q) {r : St} (hQ : ∀ (Y : CY) (H : Heap) (locs : List Loc) (t : State), cPD Z Y A r H → va_S A s.heap H locs → t.heap = H → s.WarmedH t.vm → Qc args s (.returned (none)) t) {k38 : Int32 → Int32 → St → Option St} (hk38 : cf_findBest_P38 p l e R s m args below meth c Z A cells slots Qc r k38) : cf_findBest_P38 p l e R s m args below meth c Z A cells slots Qc r (cf_findBest_b38 k38) := by
  intro x1 x2 Y C H locs ls hM hS hl h
  obtain ⟨⟨hx, hb, hr, hlocks, hml, hown, hts⟩, hK⟩ := id X
  unfold cf_findBest_b38 at h
  refine lv_iload_n hx hb dX0_findBest_38 rfl (lv_at hl 2 rfl) ?_
  refine lv_bipush (v := 8) hx hb dX0_findBest_39 (by decide) ?_
  refine lv_icmp_ge (tgt := 196) hx hb dX0_findBest_41 (by decide) (fun c1 => ?_) (fun c1 => ?_)
  · have h := ip_ c1 h
    refine lv_aload_n hx hb dX0_findBest_196 rfl (lv_at hl 0 rfl) ?_
    refine lv_iconst (v := -1) hx hb dX0_findBest_197 (by decide) ?_
    refine pc12 X hM hS dX0_findBest_198 (fun H locs C2 e_C2 hM hS => ?_)
    have h := lt_i h e_C2
    refine lv_iconst (v := 0) hx hb dX0_findBest_201 (by decide) ?_
    refine lv_istore_n (lv' := [(2, .int (0 : Int32)), (0, .ref (cSa Z 0)), (1, .int x1)]) hx hb dX0_findBest_202 rfl hl (by decide) rfl (fun ls hl => ?_)
    exact cf_findBest_lw203 X hR hA hQ FU x1 (0 : Int32) _ C2 _ _ ls hM hS (lv_sub hl [1, 2, 0] rfl) h
  · have h := in_ c1 h
    refine lv_aload_n hx hb dX0_findBest_44 rfl (lv_at hl 0 rfl) ?_
    refine gc9 X hM dX0_findBest_45 ?_
    refine lv_iconst (v := 0) hx hb dX0_findBest_48 (by decide) ?_
    refine lv_aload_n hx hb dX0_findBest_49 rfl (lv_at hl 0 rfl) ?_
    refine gc10 X hM dX0_findBest_50 ?_
    refine lv_iconst (v := 0) hx hb dX0_findBest_53 (by decide) ?_
    refine lv_iload_n hx hb dX0_findBest_54 rfl (lv_at hl 1 rfl) ?_
    obtain ⟨k_C3, h⟩ := cpy_e h
    refine c_cpy (rest := []) X hM hS (hml.trans hl.1.symm) k_C3 (Nat.le_trans (m := cf_findBest_rm.frames) (Nat.le_of_ble_eq_true rfl) hR.1) (Nat.le_trans (m := cf_findBest_rm.locals) (Nat.le_of_ble_eq_true rfl) hR.2.1) dX0_findBest_55 (fun H locs C3 e_C3 hM hS => ?_)
    have h := h C3 e_C3
    refine lv_iconst (v := 0) hx hb dX0_findBest_58 (by decide) ?_
    refine lv_istore_n (lv' := [(3, .int (0 : Int32)), (0, .ref (cSa Z 0)), (1, .int x1), (2, .int x2)]) hx hb dX0_findBest_59 rfl hl (by decide) rfl (fun ls hl => ?_)
    exact cf_findBest_lw60 X hR hA hQ hk38 FU x1 x2 (0 : Int32) _ C3 _ _ ls hM hS (lv_sub hl [1, 2, 3, 0] rfl) h
def cf_findBest_l38 (n : Nat) : Int32 → Int32 → St → Option St := lp (fun _ _ _ => none) (cf_findBest_b38) n
theorem cf_findBest_lw38 {p : Program} {l : Launch} {e : Env} {R : Room} {s : State} {m : MethodId} {args : Array Value} {below : List Frame} {meth : Method} {c : Code} {Z : CZ} {A : Nat → Prop} {cells slots : Nat} {Qc : Array Value → State → Outcome → State → Prop} (X : CCx p s m args meth c cX0_findBest 6 (none) RX0 Z) (hR : cf_findBest_rm.frames ≤ R.frames ∧ cf_findBest_rm.locals ≤ R.locals ∧ cells ≤ R.cells ∧ slots ≤ R.slots) (hA : ∀ q, s.heap.size ≤ q → A q) {r : St} (hQ : ∀ (Y : CY) (H : Heap) (locs : List Loc) (t : State), cPD Z Y A r H → va_S A s.heap H locs → t.heap = H → s.WarmedH t.vm → Qc args s (.returned (none)) t) : ∀ n : Nat, cf_findBest_P38 p l e R s m args below meth c Z A cells slots Qc r (cf_findBest_l38 n) := by
  intro n
  induction n with
  | zero => intro x1 x2 Y C H locs ls hM hS hl h; exact no_ h
  | succ n ih => exact cf_findBest_w38 X hR hA hQ ih
def cf_findBest_b29 (k9 : Int32 → Int32 → St → Option St) (x1 : Int32) (x2 : Int32) (t0 : Int32) (t1 : Int32) (C : St) : Option St :=
  as_ 256 9 C t1 t0 fun C1 =>
  k9 x1 (x2 + 1) C1
theorem cf_findBest_w29 {p : Program} {l : Launch} {e : Env} {R : Room} {s : State} {m : MethodId} {args : Array Value} {below : List Frame} {meth : Method} {c : Code} {Z : CZ} {A : Nat → Prop} {cells slots : Nat} {Qc : Array Value → State → Outcome → State → Prop} (X : CCx p s m args meth c cX0_findBest 6 (none) RX0 Z) (hR : cf_findBest_rm.frames ≤ R.frames ∧ cf_findBest_rm.locals ≤ R.locals ∧ cells ≤ R.cells ∧ slots ≤ R.slots) (hA : ∀ q, s.heap.size ≤ q → A q) {r : St} (hQ : ∀ (Y : CY) (H : Heap) (locs : List Loc) (t : State), cPD Z Y A r H → va_S A s.heap H locs → t.heap = H → s.WarmedH t.vm → Qc args s (.returned (none)) t) {k9 : Int32 → Int32 → St → Option St} (hk9 : cf_findBest_P9 p l e R s m args below meth c Z A cells slots Qc r k9) : cf_findBest_P29 p l e R s m args below meth c Z A cells slots Qc r (cf_findBest_b29 k9) := by
  intro x1 x2 t0 t1 Y C H locs ls hM hS hl h
  obtain ⟨⟨hx, hb, hr, hlocks, hml, hown, hts⟩, hK⟩ := id X
  unfold cf_findBest_b29 at h
  obtain ⟨i_C1, h⟩ := as_e h
  refine c_ast X hM hS (k := 9) (by decide) (cHs_S (by decide)) (fun _ _ _ => rfl) (cAr_s (by decide)) i_C1 dX0_findBest_29 (fun H locs C1 e_C1 hM hS => ?_)
  have h := h C1 e_C1
  refine lv_iinc (v := (x2 + 1)) (lv' := [(2, .int (x2 + 1)), (0, .ref (cSa Z 0)), (1, .int x1)]) hx hb dX0_findBest_30 hl (k := 2) rfl rfl (by decide) rfl (fun ls hl => ?_)
  refine lv_goto (tgt := 9) hx hb dX0_findBest_33 (by decide) ?_
  exact hk9 x1 (x2 + 1) _ C1 _ _ ls hM hS (lv_sub hl [1, 2, 0] rfl) h
def cf_findBest_b9 (k9 : Int32 → Int32 → St → Option St) (x1 : Int32) (x2 : Int32) (C : St) : Option St :=
  if x1 ≤ x2 then (cf_findBest_l38 FU x1 (0 : Int32) C)
  else (if x2 = 0 then (cf_findBest_b29 k9 x1 x2 (0 : Int32) x2 C)
    else (cf_findBest_b29 k9 x1 x2 (1000000 : Int32) x2 C))
theorem cf_findBest_w9 {p : Program} {l : Launch} {e : Env} {R : Room} {s : State} {m : MethodId} {args : Array Value} {below : List Frame} {meth : Method} {c : Code} {Z : CZ} {A : Nat → Prop} {cells slots : Nat} {Qc : Array Value → State → Outcome → State → Prop} (X : CCx p s m args meth c cX0_findBest 6 (none) RX0 Z) (hR : cf_findBest_rm.frames ≤ R.frames ∧ cf_findBest_rm.locals ≤ R.locals ∧ cells ≤ R.cells ∧ slots ≤ R.slots) (hA : ∀ q, s.heap.size ≤ q → A q) {r : St} (hQ : ∀ (Y : CY) (H : Heap) (locs : List Loc) (t : State), cPD Z Y A r H → va_S A s.heap H locs → t.heap = H → s.WarmedH t.vm → Qc args s (.returned (none)) t) {k9 : Int32 → Int32 → St → Option St} (hk9 : cf_findBest_P9 p l e R s m args below meth c Z A cells slots Qc r k9) : cf_findBest_P9 p l e R s m args below meth c Z A cells slots Qc r (cf_findBest_b9 k9) := by
  intro x1 x2 Y C H locs ls hM hS hl h
  obtain ⟨⟨hx, hb, hr, hlocks, hml, hown, hts⟩, hK⟩ := id X
  unfold cf_findBest_b9 at h
  refine lv_iload_n hx hb dX0_findBest_9 rfl (lv_at hl 2 rfl) ?_
  refine lv_iload_n hx hb dX0_findBest_10 rfl (lv_at hl 1 rfl) ?_
  refine lv_icmp_ge (tgt := 36) hx hb dX0_findBest_11 (by decide) (fun c1 => ?_) (fun c1 => ?_)
  · have h := ip_ c1 h
    refine lv_iconst (v := 0) hx hb dX0_findBest_36 (by decide) ?_
    refine lv_istore_n (lv' := [(2, .int (0 : Int32)), (0, .ref (cSa Z 0)), (1, .int x1)]) hx hb dX0_findBest_37 rfl hl (by decide) rfl (fun ls hl => ?_)
    exact cf_findBest_lw38 X hR hA hQ FU x1 (0 : Int32) _ C _ _ ls hM hS (lv_sub hl [1, 2, 0] rfl) h
  · have h := in_ c1 h
    refine lv_aload_n hx hb dX0_findBest_14 rfl (lv_at hl 0 rfl) ?_
    refine gc9 X hM dX0_findBest_15 ?_
    refine lv_iload_n hx hb dX0_findBest_18 rfl (lv_at hl 2 rfl) ?_
    refine lv_iload_n hx hb dX0_findBest_19 rfl (lv_at hl 2 rfl) ?_
    refine lv_if_ne (tgt := 27) hx hb dX0_findBest_20 (by decide) (fun c2 => ?_) (fun c2 => ?_)
    · have h := in_ c2 h
      refine lv_ldc (v := 1000000) hx hb hown (hts _ q755) dX0_findBest_27 ?_
      exact cf_findBest_w29 X hR hA hQ hk9 x1 x2 (1000000 : Int32) x2 _ C _ _ ls hM hS (lv_sub hl [0, 1, 2] rfl) h
    · have h := ip_ c2 h
      refine lv_iconst (v := 0) hx hb dX0_findBest_23 (by decide) ?_
      refine lv_goto (tgt := 29) hx hb dX0_findBest_24 (by decide) ?_
      exact cf_findBest_w29 X hR hA hQ hk9 x1 x2 (0 : Int32) x2 _ C _ _ ls hM hS (lv_sub hl [0, 1, 2] rfl) h
def cf_findBest_l9 (n : Nat) : Int32 → Int32 → St → Option St := lp (fun _ _ _ => none) (cf_findBest_b9) n
theorem cf_findBest_lw9 {p : Program} {l : Launch} {e : Env} {R : Room} {s : State} {m : MethodId} {args : Array Value} {below : List Frame} {meth : Method} {c : Code} {Z : CZ} {A : Nat → Prop} {cells slots : Nat} {Qc : Array Value → State → Outcome → State → Prop} (X : CCx p s m args meth c cX0_findBest 6 (none) RX0 Z) (hR : cf_findBest_rm.frames ≤ R.frames ∧ cf_findBest_rm.locals ≤ R.locals ∧ cells ≤ R.cells ∧ slots ≤ R.slots) (hA : ∀ q, s.heap.size ≤ q → A q) {r : St} (hQ : ∀ (Y : CY) (H : Heap) (locs : List Loc) (t : State), cPD Z Y A r H → va_S A s.heap H locs → t.heap = H → s.WarmedH t.vm → Qc args s (.returned (none)) t) : ∀ n : Nat, cf_findBest_P9 p l e R s m args below meth c Z A cells slots Qc r (cf_findBest_l9 n) := by
  intro n
  induction n with
  | zero => intro x1 x2 Y C H locs ls hM hS hl h; exact no_ h
  | succ n ih => exact cf_findBest_w9 X hR hA hQ ih
def cf_findBest (C : St) : Option St :=
  bd_ (cf_deeds C ) fun v1 =>
  lt_ ((1 : Int32) <<< (v1 &&& 31)) fun v2 =>
  cf_findBest_l9 FU v2 (0 : Int32) C
theorem cf_findBest_w0 {p : Program} {l : Launch} {e : Env} {R : Room} {s : State} {m : MethodId} {args : Array Value} {below : List Frame} {meth : Method} {c : Code} {Z : CZ} {A : Nat → Prop} {cells slots : Nat} {Qc : Array Value → State → Outcome → State → Prop} (X : CCx p s m args meth c cX0_findBest 6 (none) RX0 Z) (hR : cf_findBest_rm.frames ≤ R.frames ∧ cf_findBest_rm.locals ≤ R.locals ∧ cells ≤ R.cells ∧ slots ≤ R.slots) (hA : ∀ q, s.heap.size ≤ q → A q) {r : St} (hQ : ∀ (Y : CY) (H : Heap) (locs : List Loc) (t : State), cPD Z Y A r H → va_S A s.heap H locs → t.heap = H → s.WarmedH t.vm → Qc args s (.returned (none)) t) : cf_findBest_P0 p l e R s m args below meth c Z A cells slots Qc r (cf_findBest) := by
  intro Y C H locs ls hM hS hl h
  obtain ⟨⟨hx, hb, hr, hlocks, hml, hown, hts⟩, hK⟩ := id X
  unfold cf_findBest at h
  refine lv_iconst (v := 1) hx hb dX0_findBest_0 (by decide) ?_
  refine lv_aload_n hx hb dX0_findBest_1 rfl (lv_at hl 0 rfl) ?_
  obtain ⟨v1, q_v1, h⟩ := bd_e h
  refine f_roI (As := []) (rest := [.int (1 : Int32)]) X hM (c_recv0 X hM) hS.2.2 (cPD.fr hM) (cf_deeds_met _ Z Y A C  v1 q_v1) (lw_V q630 q632 qs7 q79 q633) cf_deeds_hd ⟨rfl, rfl⟩ ⟨Nat.le_trans (m := cf_findBest_rm.frames) (Nat.le_of_ble_eq_true rfl) hR.1, Nat.le_trans (m := cf_findBest_rm.locals) (Nat.le_of_ble_eq_true rfl) hR.2.1⟩ ⟨hR.2.2.1, hR.2.2.2⟩ rfl hl.1 rfl (Nat.le_of_ble_eq_true rfl) dX0_findBest_2 (fun locs hL => ?_)
  have hS : va_S A s.heap _ locs := ⟨hS.1, hS.2.1, hL⟩
  refine lv_ishl hx hb dX0_findBest_5 ?_
  refine lv_topi (fun v2 e_v2 => ?_)
  have h := lt_i h e_v2
  refine lv_istore_n (lv' := [(1, .int v2), (0, .ref (cSa Z 0))]) hx hb dX0_findBest_6 rfl hl (by decide) rfl (fun ls hl => ?_)
  refine lv_iconst (v := 0) hx hb dX0_findBest_7 (by decide) ?_
  refine lv_istore_n (lv' := [(2, .int (0 : Int32)), (1, .int v2), (0, .ref (cSa Z 0))]) hx hb dX0_findBest_8 rfl hl (by decide) rfl (fun ls hl => ?_)
  exact cf_findBest_lw9 X hR hA hQ FU v2 (0 : Int32) _ C _ _ ls hM hS (lv_sub hl [2, 1, 0] rfl) h
theorem cf_findBest_hd : yX0_findBest.cls = RX0 ∧ yX0_findBest.cls ≠ "java/lang/invoke/MethodHandle" ∧ yX0_findBest.cls ≠ "java/lang/invoke/VarHandle" ∧ (parseMethodDescriptor yX0_findBest.desc).map (fun d => d.parameters.length) = some 0 := by decide +kernel
theorem cf_findBest_met (l : Launch) (Z : CZ) (Y : CY) (C : St) (sz : Nat) (r : St) (h : cf_findBest C = some r) : Met l yX0_findBest (ws_ yX0_findBest cX0_findBest 6 (none)) cf_findBest_rm (va_Pc [.ref (cSa Z 0)] (cSw Z Y C sz)) (Qcw (none) Z (va_A (cWs Z Y C) sz) r) 0 0 (va_A (cWs Z Y C) sz) := by
  refine Met.ofW (cc := cX0_findBest) (maxL := 6) (ret := none) (by decide) rfl ?_
  intro p e s m args below meth c s₁ B hml hv
  obtain ⟨rfl, hsz, hv⟩ := hv
  subst hsz
  have hts := atoms_spec (ws := ws_ yX0_findBest cX0_findBest 6 (none)) B.pre
  have hts : ∀ w ∈ lw_all, w.before _ s = true := fun w h => hts w (List.mem_cons_of_mem _ h)
  have X : CCx p s m _ meth c cX0_findBest 6 (none) RX0 Z := ⟨⟨B.exec, B.bytes, B.returns, B.notSynchronized, hml, findClass_of_methodNamed B.named, hts⟩, hv.2⟩
  have hl := lv_entry [.ref (cSa Z 0)] (n := 6) (Nat.le_of_ble_eq_true rfl)
  rw [lg_entry_eq]
  generalize (lg_sl [.ref (cSa Z 0)] ++ List.replicate (6 - (lg_sl [.ref (cSa Z 0)]).length) Slot.unset).toArray = ls at hl ⊢
  exact cf_findBest_w0 X ⟨Nat.le_refl _, Nat.le_refl _, Nat.le_refl _, Nat.le_refl _⟩ (fun q h => Or.inr h) (fun Y H locs t hM hS ht hW => ⟨rfl, ⟨Y, by rw [ht]; exact hM, cKs.warm hW X.2⟩, hS.F ht⟩)  Y C _ _ ls (cPD.self hv.1) va_S.rf hl h

/-! SecondChances.findPlan()V -/
def cf_findPlan_rm : Room := { frames := 5, cells := 0, slots := 0, locals := 121 }
def cf_findPlan_P140 (p : Program) (l : Launch) (e : Env) (R : Room) (s : State) (m : MethodId) (args : Array Value) (below : List Frame) (meth : Method) (c : Code) (Z : CZ) (A : Nat → Prop) (cells slots : Nat) (Qc : Array Value → State → Outcome → State → Prop) (r : St) (f : Int32 → Int32 → St → Option St) : Prop := ∀ (x1 : Int32) (x2 : Int32) (Y : CY) (C : St) (H : Heap) (locs : List Loc) (ls : Array Slot), cPD Z Y A C H → va_S A s.heap H locs → lv_has ls 4 [(0, .ref (cSa Z 0)), (1, .int x1), (2, .int x2)] → f x1 x2 C = some r → W p l e R s m args below meth c H locs cells slots (MQ below Qc args s cells slots A) (F0 m 140 ls [])
def cf_findPlan_P118 (p : Program) (l : Launch) (e : Env) (R : Room) (s : State) (m : MethodId) (args : Array Value) (below : List Frame) (meth : Method) (c : Code) (Z : CZ) (A : Nat → Prop) (cells slots : Nat) (Qc : Array Value → State → Outcome → State → Prop) (r : St) (f : Int32 → Int32 → St → Option St) : Prop := ∀ (x1 : Int32) (x2 : Int32) (Y : CY) (C : St) (H : Heap) (locs : List Loc) (ls : Array Slot), cPD Z Y A C H → va_S A s.heap H locs → lv_has ls 4 [(0, .ref (cSa Z 0)), (1, .int x1), (2, .int x2)] → f x1 x2 C = some r → W p l e R s m args below meth c H locs cells slots (MQ below Qc args s cells slots A) (F0 m 118 ls [])
def cf_findPlan_P102 (p : Program) (l : Launch) (e : Env) (R : Room) (s : State) (m : MethodId) (args : Array Value) (below : List Frame) (meth : Method) (c : Code) (Z : CZ) (A : Nat → Prop) (cells slots : Nat) (Qc : Array Value → State → Outcome → State → Prop) (r : St) (f : Int32 → Int32 → St → Option St) : Prop := ∀ (x1 : Int32) (x2 : Int32) (Y : CY) (C : St) (H : Heap) (locs : List Loc) (ls : Array Slot), cPD Z Y A C H → va_S A s.heap H locs → lv_has ls 4 [(0, .ref (cSa Z 0)), (1, .int x1), (2, .int x2)] → f x1 x2 C = some r → W p l e R s m args below meth c H locs cells slots (MQ below Qc args s cells slots A) (F0 m 102 ls [])
def cf_findPlan_P61 (p : Program) (l : Launch) (e : Env) (R : Room) (s : State) (m : MethodId) (args : Array Value) (below : List Frame) (meth : Method) (c : Code) (Z : CZ) (A : Nat → Prop) (cells slots : Nat) (Qc : Array Value → State → Outcome → State → Prop) (r : St) (f : Int32 → Int32 → St → Option St) : Prop := ∀ (x1 : Int32) (x2 : Int32) (Y : CY) (C : St) (H : Heap) (locs : List Loc) (ls : Array Slot), cPD Z Y A C H → va_S A s.heap H locs → lv_has ls 4 [(0, .ref (cSa Z 0)), (1, .int x1), (2, .int x2)] → f x1 x2 C = some r → W p l e R s m args below meth c H locs cells slots (MQ below Qc args s cells slots A) (F0 m 61 ls [])
def cf_findPlan_P27 (p : Program) (l : Launch) (e : Env) (R : Room) (s : State) (m : MethodId) (args : Array Value) (below : List Frame) (meth : Method) (c : Code) (Z : CZ) (A : Nat → Prop) (cells slots : Nat) (Qc : Array Value → State → Outcome → State → Prop) (r : St) (f : Int32 → Int32 → Int32 → St → Option St) : Prop := ∀ (x1 : Int32) (x2 : Int32) (x3 : Int32) (Y : CY) (C : St) (H : Heap) (locs : List Loc) (ls : Array Slot), cPD Z Y A C H → va_S A s.heap H locs → lv_has ls 4 [(0, .ref (cSa Z 0)), (1, .int x1), (2, .int x2), (3, .int x3)] → f x1 x2 x3 C = some r → W p l e R s m args below meth c H locs cells slots (MQ below Qc args s cells slots A) (F0 m 27 ls [])
def cf_findPlan_P7 (p : Program) (l : Launch) (e : Env) (R : Room) (s : State) (m : MethodId) (args : Array Value) (below : List Frame) (meth : Method) (c : Code) (Z : CZ) (A : Nat → Prop) (cells slots : Nat) (Qc : Array Value → State → Outcome → State → Prop) (r : St) (f : Int32 → Int32 → St → Option St) : Prop := ∀ (x1 : Int32) (x2 : Int32) (Y : CY) (C : St) (H : Heap) (locs : List Loc) (ls : Array Slot), cPD Z Y A C H → va_S A s.heap H locs → lv_has ls 4 [(0, .ref (cSa Z 0)), (1, .int x1), (2, .int x2)] → f x1 x2 C = some r → W p l e R s m args below meth c H locs cells slots (MQ below Qc args s cells slots A) (F0 m 7 ls [])
def cf_findPlan_P4 (p : Program) (l : Launch) (e : Env) (R : Room) (s : State) (m : MethodId) (args : Array Value) (below : List Frame) (meth : Method) (c : Code) (Z : CZ) (A : Nat → Prop) (cells slots : Nat) (Qc : Array Value → State → Outcome → State → Prop) (r : St) (f : Int32 → St → Option St) : Prop := ∀ (t0 : Int32) (Y : CY) (C : St) (H : Heap) (locs : List Loc) (ls : Array Slot), cPD Z Y A C H → va_S A s.heap H locs → lv_has ls 4 [(0, .ref (cSa Z 0))] → f t0 C = some r → W p l e R s m args below meth c H locs cells slots (MQ below Qc args s cells slots A) (F0 m 4 ls [.int t0])
def cf_findPlan_P0 (p : Program) (l : Launch) (e : Env) (R : Room) (s : State) (m : MethodId) (args : Array Value) (below : List Frame) (meth : Method) (c : Code) (Z : CZ) (A : Nat → Prop) (cells slots : Nat) (Qc : Array Value → State → Outcome → State → Prop) (r : St) (f : St → Option St) : Prop := ∀ (Y : CY) (C : St) (H : Heap) (locs : List Loc) (ls : Array Slot), cPD Z Y A C H → va_S A s.heap H locs → lv_has ls 4 [(0, .ref (cSa Z 0))] → f  C = some r → W p l e R s m args below meth c H locs cells slots (MQ below Qc args s cells slots A) (F0 m 0 ls [])
def cf_findPlan_b140 (k102 : Int32 → Int32 → St → Option St) (k118 : Int32 → Int32 → St → Option St) (x1 : Int32) (x2 : Int32) (C : St) : Option St :=
  al_ 8 (C 11) x2 fun v1 =>
  as_ 8 11 C x2 (v1 + (1 : Int32)) fun C2 =>
  bd_ (cf_findBest  C2) fun C3 =>
  k118 x1 x2 C3
theorem cf_findPlan_w140 {p : Program} {l : Launch} {e : Env} {R : Room} {s : State} {m : MethodId} {args : Array Value} {below : List Frame} {meth : Method} {c : Code} {Z : CZ} {A : Nat → Prop} {cells slots : Nat} {Qc : Array Value → State → Outcome → State → Prop} (X : CCx p s m args meth c cX0_findPlan 4 (none) RX0 Z) (hR : cf_findPlan_rm.frames ≤ R.frames ∧ cf_findPlan_rm.locals ≤ R.locals ∧ cells ≤ R.cells ∧ slots ≤ R.slots) (hA : ∀ q, s.heap.size ≤ q → A q) {r : St} (hQ : ∀ (Y : CY) (H : Heap) (locs : List Loc) (t : State), cPD Z Y A r H → va_S A s.heap H locs → t.heap = H → s.WarmedH t.vm → Qc args s (.returned (none)) t) {k102 : Int32 → Int32 → St → Option St} (hk102 : cf_findPlan_P102 p l e R s m args below meth c Z A cells slots Qc r k102) {k118 : Int32 → Int32 → St → Option St} (hk118 : cf_findPlan_P118 p l e R s m args below meth c Z A cells slots Qc r k118) : cf_findPlan_P140 p l e R s m args below meth c Z A cells slots Qc r (cf_findPlan_b140 k102 k118) := by
  intro x1 x2 Y C H locs ls hM hS hl h
  obtain ⟨⟨hx, hb, hr, hlocks, hml, hown, hts⟩, hK⟩ := id X
  unfold cf_findPlan_b140 at h
  refine lv_aload_n hx hb dX0_findPlan_140 rfl (lv_at hl 0 rfl) ?_
  refine gc11 X hM dX0_findPlan_141 ?_
  refine lv_iload_n hx hb dX0_findPlan_144 rfl (lv_at hl 2 rfl) ?_
  refine lv_dup2_11 hx hb dX0_findPlan_145 rfl rfl ?_
  obtain ⟨i_v1, h⟩ := al_e h
  refine c_ald X hM (k := 11) (cHs_S (by decide)) (fun _ _ _ => rfl) (cAr_s (by decide)) i_v1 dX0_findPlan_146 (fun v1 e_v1 => ?_)
  have h := h v1 e_v1
  refine lv_iconst (v := 1) hx hb dX0_findPlan_147 (by decide) ?_
  refine lv_iadd hx hb dX0_findPlan_148 ?_
  obtain ⟨i_C2, h⟩ := as_e h
  refine c_ast X hM hS (k := 11) (by decide) (cHs_S (by decide)) (fun _ _ _ => rfl) (cAr_s (by decide)) i_C2 dX0_findPlan_149 (fun H locs C2 e_C2 hM hS => ?_)
  have h := h C2 e_C2
  refine lv_aload_n hx hb dX0_findPlan_150 rfl (lv_at hl 0 rfl) ?_
  obtain ⟨C3, q_C3, h⟩ := bd_e h
  refine w_wrV (As := []) (rest := []) X hM hS hA (c_recv0 X hM) (cf_findBest_met _ Z _ C2 _  C3 q_C3) (lw_V q764 q766 qs25 q79 q767) cf_findBest_hd ⟨rfl, rfl⟩ ⟨Nat.le_trans (m := cf_findPlan_rm.frames) (Nat.le_of_ble_eq_true rfl) hR.1, Nat.le_trans (m := cf_findPlan_rm.locals) (Nat.le_of_ble_eq_true rfl) hR.2.1⟩ ⟨hR.2.2.1, hR.2.2.2⟩ rfl hl.1 rfl (Nat.le_of_ble_eq_true rfl) dX0_findPlan_151 (fun Y H locs hM hS => ?_)
  refine lv_goto (tgt := 118) hx hb dX0_findPlan_154 (by decide) ?_
  exact hk118 x1 x2 _ C3 _ _ ls hM hS (lv_sub hl [0, 1, 2] rfl) h
def cf_findPlan_b118 (k102 : Int32 → Int32 → St → Option St) (k118 : Int32 → Int32 → St → Option St) (x1 : Int32) (x2 : Int32) (C : St) : Option St :=
  if (C 0 12) = (C 0 14) then (if (C 0 13) = (C 0 15) then (al_ 8 (C 11) x2 fun v3 =>
      as_ 8 16 C x2 v3 fun C4 =>
      k102 x1 (x2 + 1) C4)
    else (cf_findPlan_b140 k102 k118 x1 x2 C))
  else (cf_findPlan_b140 k102 k118 x1 x2 C)
theorem cf_findPlan_w118 {p : Program} {l : Launch} {e : Env} {R : Room} {s : State} {m : MethodId} {args : Array Value} {below : List Frame} {meth : Method} {c : Code} {Z : CZ} {A : Nat → Prop} {cells slots : Nat} {Qc : Array Value → State → Outcome → State → Prop} (X : CCx p s m args meth c cX0_findPlan 4 (none) RX0 Z) (hR : cf_findPlan_rm.frames ≤ R.frames ∧ cf_findPlan_rm.locals ≤ R.locals ∧ cells ≤ R.cells ∧ slots ≤ R.slots) (hA : ∀ q, s.heap.size ≤ q → A q) {r : St} (hQ : ∀ (Y : CY) (H : Heap) (locs : List Loc) (t : State), cPD Z Y A r H → va_S A s.heap H locs → t.heap = H → s.WarmedH t.vm → Qc args s (.returned (none)) t) {k102 : Int32 → Int32 → St → Option St} (hk102 : cf_findPlan_P102 p l e R s m args below meth c Z A cells slots Qc r k102) {k118 : Int32 → Int32 → St → Option St} (hk118 : cf_findPlan_P118 p l e R s m args below meth c Z A cells slots Qc r k118) : cf_findPlan_P118 p l e R s m args below meth c Z A cells slots Qc r (cf_findPlan_b118 k102 k118) := by
  intro x1 x2 Y C H locs ls hM hS hl h
  obtain ⟨⟨hx, hb, hr, hlocks, hml, hown, hts⟩, hK⟩ := id X
  unfold cf_findPlan_b118 at h
  refine lv_aload_n hx hb dX0_findPlan_118 rfl (lv_at hl 0 rfl) ?_
  refine gc12 X hM dX0_findPlan_119 ?_
  refine lv_aload_n hx hb dX0_findPlan_122 rfl (lv_at hl 0 rfl) ?_
  refine gc14 X hM dX0_findPlan_123 ?_
  refine lv_icmp_ne (tgt := 140) hx hb dX0_findPlan_126 (by decide) (fun c1 => ?_) (fun c1 => ?_)
  · have h := in_ c1 h
    exact cf_findPlan_w140 X hR hA hQ hk102 hk118 x1 x2 _ C _ _ ls hM hS (lv_sub hl [0, 1, 2] rfl) h
  · have h := ip_ c1 h
    refine lv_aload_n hx hb dX0_findPlan_129 rfl (lv_at hl 0 rfl) ?_
    refine gc13 X hM dX0_findPlan_130 ?_
    refine lv_aload_n hx hb dX0_findPlan_133 rfl (lv_at hl 0 rfl) ?_
    refine gc15 X hM dX0_findPlan_134 ?_
    refine lv_icmp_eq (tgt := 157) hx hb dX0_findPlan_137 (by decide) (fun c2 => ?_) (fun c2 => ?_)
    · have h := ip_ c2 h
      refine lv_aload_n hx hb dX0_findPlan_157 rfl (lv_at hl 0 rfl) ?_
      refine gc16 X hM dX0_findPlan_158 ?_
      refine lv_iload_n hx hb dX0_findPlan_161 rfl (lv_at hl 2 rfl) ?_
      refine lv_aload_n hx hb dX0_findPlan_162 rfl (lv_at hl 0 rfl) ?_
      refine gc11 X hM dX0_findPlan_163 ?_
      refine lv_iload_n hx hb dX0_findPlan_166 rfl (lv_at hl 2 rfl) ?_
      obtain ⟨i_v3, h⟩ := al_e h
      refine c_ald X hM (k := 11) (cHs_S (by decide)) (fun _ _ _ => rfl) (cAr_s (by decide)) i_v3 dX0_findPlan_167 (fun v3 e_v3 => ?_)
      have h := h v3 e_v3
      obtain ⟨i_C4, h⟩ := as_e h
      refine c_ast X hM hS (k := 16) (by decide) (cHs_S (by decide)) (fun _ _ _ => rfl) (cAr_s (by decide)) i_C4 dX0_findPlan_168 (fun H locs C4 e_C4 hM hS => ?_)
      have h := h C4 e_C4
      refine lv_iinc (v := (x2 + 1)) (lv' := [(2, .int (x2 + 1)), (0, .ref (cSa Z 0)), (1, .int x1)]) hx hb dX0_findPlan_169 hl (k := 2) rfl rfl (by decide) rfl (fun ls hl => ?_)
      refine lv_goto (tgt := 102) hx hb dX0_findPlan_172 (by decide) ?_
      exact hk102 x1 (x2 + 1) _ C4 _ _ ls hM hS (lv_sub hl [1, 2, 0] rfl) h
    · have h := in_ c2 h
      exact cf_findPlan_w140 X hR hA hQ hk102 hk118 x1 x2 _ C _ _ ls hM hS (lv_sub hl [0, 1, 2] rfl) h
def cf_findPlan_l118 (k102 : Int32 → Int32 → St → Option St) (n : Nat) : Int32 → Int32 → St → Option St := lp (fun _ _ _ => none) (cf_findPlan_b118 k102) n
theorem cf_findPlan_lw118 {p : Program} {l : Launch} {e : Env} {R : Room} {s : State} {m : MethodId} {args : Array Value} {below : List Frame} {meth : Method} {c : Code} {Z : CZ} {A : Nat → Prop} {cells slots : Nat} {Qc : Array Value → State → Outcome → State → Prop} (X : CCx p s m args meth c cX0_findPlan 4 (none) RX0 Z) (hR : cf_findPlan_rm.frames ≤ R.frames ∧ cf_findPlan_rm.locals ≤ R.locals ∧ cells ≤ R.cells ∧ slots ≤ R.slots) (hA : ∀ q, s.heap.size ≤ q → A q) {r : St} (hQ : ∀ (Y : CY) (H : Heap) (locs : List Loc) (t : State), cPD Z Y A r H → va_S A s.heap H locs → t.heap = H → s.WarmedH t.vm → Qc args s (.returned (none)) t) {k102 : Int32 → Int32 → St → Option St} (hk102 : cf_findPlan_P102 p l e R s m args below meth c Z A cells slots Qc r k102) : ∀ n : Nat, cf_findPlan_P118 p l e R s m args below meth c Z A cells slots Qc r (cf_findPlan_l118 k102 n) := by
  intro n
  induction n with
  | zero => intro x1 x2 Y C H locs ls hM hS hl h; exact no_ h
  | succ n ih => exact cf_findPlan_w118 X hR hA hQ hk102 ih
def cf_findPlan_b102 (k102 : Int32 → Int32 → St → Option St) (x1 : Int32) (x2 : Int32) (C : St) : Option St :=
  if x1 ≤ x2 then (some C)
  else (as_ 8 11 C x2 (-1 : Int32) fun C2 =>
    bd_ (cf_findBest  C2) fun C3 =>
    cf_findPlan_l118 k102 FU x1 x2 C3)
theorem cf_findPlan_w102 {p : Program} {l : Launch} {e : Env} {R : Room} {s : State} {m : MethodId} {args : Array Value} {below : List Frame} {meth : Method} {c : Code} {Z : CZ} {A : Nat → Prop} {cells slots : Nat} {Qc : Array Value → State → Outcome → State → Prop} (X : CCx p s m args meth c cX0_findPlan 4 (none) RX0 Z) (hR : cf_findPlan_rm.frames ≤ R.frames ∧ cf_findPlan_rm.locals ≤ R.locals ∧ cells ≤ R.cells ∧ slots ≤ R.slots) (hA : ∀ q, s.heap.size ≤ q → A q) {r : St} (hQ : ∀ (Y : CY) (H : Heap) (locs : List Loc) (t : State), cPD Z Y A r H → va_S A s.heap H locs → t.heap = H → s.WarmedH t.vm → Qc args s (.returned (none)) t) {k102 : Int32 → Int32 → St → Option St} (hk102 : cf_findPlan_P102 p l e R s m args below meth c Z A cells slots Qc r k102) : cf_findPlan_P102 p l e R s m args below meth c Z A cells slots Qc r (cf_findPlan_b102 k102) := by
  intro x1 x2 Y C H locs ls hM hS hl h
  obtain ⟨⟨hx, hb, hr, hlocks, hml, hown, hts⟩, hK⟩ := id X
  unfold cf_findPlan_b102 at h
  refine lv_iload_n hx hb dX0_findPlan_102 rfl (lv_at hl 2 rfl) ?_
  refine lv_iload_n hx hb dX0_findPlan_103 rfl (lv_at hl 1 rfl) ?_
  refine lv_icmp_ge (tgt := 175) hx hb dX0_findPlan_104 (by decide) (fun c1 => ?_) (fun c1 => ?_)
  · have h := ip_ c1 h
    have h := so_ h
    subst h
    exact W.vret hx hb hr (fun t ht hW => hQ _ _ _ t hM hS ht hW) hS.2.2 dX0_findPlan_175
  · have h := in_ c1 h
    refine lv_aload_n hx hb dX0_findPlan_107 rfl (lv_at hl 0 rfl) ?_
    refine gc11 X hM dX0_findPlan_108 ?_
    refine lv_iload_n hx hb dX0_findPlan_111 rfl (lv_at hl 2 rfl) ?_
    refine lv_iconst (v := -1) hx hb dX0_findPlan_112 (by decide) ?_
    obtain ⟨i_C2, h⟩ := as_e h
    refine c_ast X hM hS (k := 11) (by decide) (cHs_S (by decide)) (fun _ _ _ => rfl) (cAr_s (by decide)) i_C2 dX0_findPlan_113 (fun H locs C2 e_C2 hM hS => ?_)
    have h := h C2 e_C2
    refine lv_aload_n hx hb dX0_findPlan_114 rfl (lv_at hl 0 rfl) ?_
    obtain ⟨C3, q_C3, h⟩ := bd_e h
    refine w_wrV (As := []) (rest := []) X hM hS hA (c_recv0 X hM) (cf_findBest_met _ Z _ C2 _  C3 q_C3) (lw_V q764 q766 qs25 q79 q767) cf_findBest_hd ⟨rfl, rfl⟩ ⟨Nat.le_trans (m := cf_findPlan_rm.frames) (Nat.le_of_ble_eq_true rfl) hR.1, Nat.le_trans (m := cf_findPlan_rm.locals) (Nat.le_of_ble_eq_true rfl) hR.2.1⟩ ⟨hR.2.2.1, hR.2.2.2⟩ rfl hl.1 rfl (Nat.le_of_ble_eq_true rfl) dX0_findPlan_115 (fun Y H locs hM hS => ?_)
    exact cf_findPlan_lw118 X hR hA hQ hk102 FU x1 x2 _ C3 _ _ ls hM hS (lv_sub hl [0, 1, 2] rfl) h
def cf_findPlan_l102 (n : Nat) : Int32 → Int32 → St → Option St := lp (fun _ _ _ => none) (cf_findPlan_b102) n
theorem cf_findPlan_lw102 {p : Program} {l : Launch} {e : Env} {R : Room} {s : State} {m : MethodId} {args : Array Value} {below : List Frame} {meth : Method} {c : Code} {Z : CZ} {A : Nat → Prop} {cells slots : Nat} {Qc : Array Value → State → Outcome → State → Prop} (X : CCx p s m args meth c cX0_findPlan 4 (none) RX0 Z) (hR : cf_findPlan_rm.frames ≤ R.frames ∧ cf_findPlan_rm.locals ≤ R.locals ∧ cells ≤ R.cells ∧ slots ≤ R.slots) (hA : ∀ q, s.heap.size ≤ q → A q) {r : St} (hQ : ∀ (Y : CY) (H : Heap) (locs : List Loc) (t : State), cPD Z Y A r H → va_S A s.heap H locs → t.heap = H → s.WarmedH t.vm → Qc args s (.returned (none)) t) : ∀ n : Nat, cf_findPlan_P102 p l e R s m args below meth c Z A cells slots Qc r (cf_findPlan_l102 n) := by
  intro n
  induction n with
  | zero => intro x1 x2 Y C H locs ls hM hS hl h; exact no_ h
  | succ n ih => exact cf_findPlan_w102 X hR hA hQ ih
def cf_findPlan_b61 (k61 : Int32 → Int32 → St → Option St) (x1 : Int32) (x2 : Int32) (C : St) : Option St :=
  if x1 ≤ x2 then (bd_ (cf_findBest  C) fun C2 =>
    lt_ (upd2 C2 0 14 (C2 0 12)) fun C3 =>
    lt_ (upd2 C3 0 15 (C3 0 13)) fun C4 =>
    cf_findPlan_l102 FU x1 (0 : Int32) C4)
  else (as_ 8 11 C x2 (-2 : Int32) fun C5 =>
    k61 x1 (x2 + 1) C5)
theorem cf_findPlan_w61 {p : Program} {l : Launch} {e : Env} {R : Room} {s : State} {m : MethodId} {args : Array Value} {below : List Frame} {meth : Method} {c : Code} {Z : CZ} {A : Nat → Prop} {cells slots : Nat} {Qc : Array Value → State → Outcome → State → Prop} (X : CCx p s m args meth c cX0_findPlan 4 (none) RX0 Z) (hR : cf_findPlan_rm.frames ≤ R.frames ∧ cf_findPlan_rm.locals ≤ R.locals ∧ cells ≤ R.cells ∧ slots ≤ R.slots) (hA : ∀ q, s.heap.size ≤ q → A q) {r : St} (hQ : ∀ (Y : CY) (H : Heap) (locs : List Loc) (t : State), cPD Z Y A r H → va_S A s.heap H locs → t.heap = H → s.WarmedH t.vm → Qc args s (.returned (none)) t) {k61 : Int32 → Int32 → St → Option St} (hk61 : cf_findPlan_P61 p l e R s m args below meth c Z A cells slots Qc r k61) : cf_findPlan_P61 p l e R s m args below meth c Z A cells slots Qc r (cf_findPlan_b61 k61) := by
  intro x1 x2 Y C H locs ls hM hS hl h
  obtain ⟨⟨hx, hb, hr, hlocks, hml, hown, hts⟩, hK⟩ := id X
  unfold cf_findPlan_b61 at h
  refine lv_iload_n hx hb dX0_findPlan_61 rfl (lv_at hl 2 rfl) ?_
  refine lv_iload_n hx hb dX0_findPlan_62 rfl (lv_at hl 1 rfl) ?_
  refine lv_icmp_ge (tgt := 80) hx hb dX0_findPlan_63 (by decide) (fun c1 => ?_) (fun c1 => ?_)
  · have h := ip_ c1 h
    refine lv_aload_n hx hb dX0_findPlan_80 rfl (lv_at hl 0 rfl) ?_
    obtain ⟨C2, q_C2, h⟩ := bd_e h
    refine w_wrV (As := []) (rest := []) X hM hS hA (c_recv0 X hM) (cf_findBest_met _ Z _ C _  C2 q_C2) (lw_V q764 q766 qs25 q79 q767) cf_findBest_hd ⟨rfl, rfl⟩ ⟨Nat.le_trans (m := cf_findPlan_rm.frames) (Nat.le_of_ble_eq_true rfl) hR.1, Nat.le_trans (m := cf_findPlan_rm.locals) (Nat.le_of_ble_eq_true rfl) hR.2.1⟩ ⟨hR.2.2.1, hR.2.2.2⟩ rfl hl.1 rfl (Nat.le_of_ble_eq_true rfl) dX0_findPlan_81 (fun Y H locs hM hS => ?_)
    refine lv_aload_n hx hb dX0_findPlan_84 rfl (lv_at hl 0 rfl) ?_
    refine lv_aload_n hx hb dX0_findPlan_85 rfl (lv_at hl 0 rfl) ?_
    refine gc12 X hM dX0_findPlan_86 ?_
    refine pc14 X hM hS dX0_findPlan_89 (fun H locs C3 e_C3 hM hS => ?_)
    have h := lt_i h e_C3
    refine lv_aload_n hx hb dX0_findPlan_92 rfl (lv_at hl 0 rfl) ?_
    refine lv_aload_n hx hb dX0_findPlan_93 rfl (lv_at hl 0 rfl) ?_
    refine gc13 X hM dX0_findPlan_94 ?_
    refine pc15 X hM hS dX0_findPlan_97 (fun H locs C4 e_C4 hM hS => ?_)
    have h := lt_i h e_C4
    refine lv_iconst (v := 0) hx hb dX0_findPlan_100 (by decide) ?_
    refine lv_istore_n (lv' := [(2, .int (0 : Int32)), (0, .ref (cSa Z 0)), (1, .int x1)]) hx hb dX0_findPlan_101 rfl hl (by decide) rfl (fun ls hl => ?_)
    exact cf_findPlan_lw102 X hR hA hQ FU x1 (0 : Int32) _ C4 _ _ ls hM hS (lv_sub hl [1, 2, 0] rfl) h
  · have h := in_ c1 h
    refine lv_aload_n hx hb dX0_findPlan_66 rfl (lv_at hl 0 rfl) ?_
    refine gc11 X hM dX0_findPlan_67 ?_
    refine lv_iload_n hx hb dX0_findPlan_70 rfl (lv_at hl 2 rfl) ?_
    refine lv_bipush (v := -2) hx hb dX0_findPlan_71 (by decide) ?_
    obtain ⟨i_C5, h⟩ := as_e h
    refine c_ast X hM hS (k := 11) (by decide) (cHs_S (by decide)) (fun _ _ _ => rfl) (cAr_s (by decide)) i_C5 dX0_findPlan_73 (fun H locs C5 e_C5 hM hS => ?_)
    have h := h C5 e_C5
    refine lv_iinc (v := (x2 + 1)) (lv' := [(2, .int (x2 + 1)), (0, .ref (cSa Z 0)), (1, .int x1)]) hx hb dX0_findPlan_74 hl (k := 2) rfl rfl (by decide) rfl (fun ls hl => ?_)
    refine lv_goto (tgt := 61) hx hb dX0_findPlan_77 (by decide) ?_
    exact hk61 x1 (x2 + 1) _ C5 _ _ ls hM hS (lv_sub hl [1, 2, 0] rfl) h
def cf_findPlan_l61 (n : Nat) : Int32 → Int32 → St → Option St := lp (fun _ _ _ => none) (cf_findPlan_b61) n
theorem cf_findPlan_lw61 {p : Program} {l : Launch} {e : Env} {R : Room} {s : State} {m : MethodId} {args : Array Value} {below : List Frame} {meth : Method} {c : Code} {Z : CZ} {A : Nat → Prop} {cells slots : Nat} {Qc : Array Value → State → Outcome → State → Prop} (X : CCx p s m args meth c cX0_findPlan 4 (none) RX0 Z) (hR : cf_findPlan_rm.frames ≤ R.frames ∧ cf_findPlan_rm.locals ≤ R.locals ∧ cells ≤ R.cells ∧ slots ≤ R.slots) (hA : ∀ q, s.heap.size ≤ q → A q) {r : St} (hQ : ∀ (Y : CY) (H : Heap) (locs : List Loc) (t : State), cPD Z Y A r H → va_S A s.heap H locs → t.heap = H → s.WarmedH t.vm → Qc args s (.returned (none)) t) : ∀ n : Nat, cf_findPlan_P61 p l e R s m args below meth c Z A cells slots Qc r (cf_findPlan_l61 n) := by
  intro n
  induction n with
  | zero => intro x1 x2 Y C H locs ls hM hS hl h; exact no_ h
  | succ n ih => exact cf_findPlan_w61 X hR hA hQ ih
def cf_findPlan_b27 (k7 : Int32 → Int32 → St → Option St) (k27 : Int32 → Int32 → Int32 → St → Option St) (x1 : Int32) (x2 : Int32) (x3 : Int32) (C : St) : Option St :=
  if (8 : Int32) ≤ x3 then (k7 x1 (x2 + 1) C)
  else (ix_ 8 x3 fun q2 =>
    bd_ (cf_costOf C x2 x3) fun v3 =>
    as_ 256 (30 + q2) C x2 v3 fun C4 =>
    k27 x1 x2 (x3 + 1) C4)
theorem cf_findPlan_w27 {p : Program} {l : Launch} {e : Env} {R : Room} {s : State} {m : MethodId} {args : Array Value} {below : List Frame} {meth : Method} {c : Code} {Z : CZ} {A : Nat → Prop} {cells slots : Nat} {Qc : Array Value → State → Outcome → State → Prop} (X : CCx p s m args meth c cX0_findPlan 4 (none) RX0 Z) (hR : cf_findPlan_rm.frames ≤ R.frames ∧ cf_findPlan_rm.locals ≤ R.locals ∧ cells ≤ R.cells ∧ slots ≤ R.slots) (hA : ∀ q, s.heap.size ≤ q → A q) {r : St} (hQ : ∀ (Y : CY) (H : Heap) (locs : List Loc) (t : State), cPD Z Y A r H → va_S A s.heap H locs → t.heap = H → s.WarmedH t.vm → Qc args s (.returned (none)) t) {k7 : Int32 → Int32 → St → Option St} (hk7 : cf_findPlan_P7 p l e R s m args below meth c Z A cells slots Qc r k7) {k27 : Int32 → Int32 → Int32 → St → Option St} (hk27 : cf_findPlan_P27 p l e R s m args below meth c Z A cells slots Qc r k27) : cf_findPlan_P27 p l e R s m args below meth c Z A cells slots Qc r (cf_findPlan_b27 k7 k27) := by
  intro x1 x2 x3 Y C H locs ls hM hS hl h
  obtain ⟨⟨hx, hb, hr, hlocks, hml, hown, hts⟩, hK⟩ := id X
  unfold cf_findPlan_b27 at h
  refine lv_iload_n hx hb dX0_findPlan_27 rfl (lv_at hl 3 rfl) ?_
  refine lv_bipush (v := 8) hx hb dX0_findPlan_28 (by decide) ?_
  refine lv_icmp_ge (tgt := 53) hx hb dX0_findPlan_30 (by decide) (fun c1 => ?_) (fun c1 => ?_)
  · have h := ip_ c1 h
    refine lv_iinc (v := (x2 + 1)) (lv' := [(2, .int (x2 + 1)), (0, .ref (cSa Z 0)), (1, .int x1), (3, .int x3)]) hx hb dX0_findPlan_53 hl (k := 2) rfl rfl (by decide) rfl (fun ls hl => ?_)
    refine lv_goto (tgt := 7) hx hb dX0_findPlan_56 (by decide) ?_
    exact hk7 x1 (x2 + 1) _ C _ _ ls hM hS (lv_sub hl [1, 2, 0] rfl) h
  · have h := in_ c1 h
    refine lv_aload_n hx hb dX0_findPlan_33 rfl (lv_at hl 0 rfl) ?_
    refine gc7 X hM dX0_findPlan_34 ?_
    refine lv_iload_n hx hb dX0_findPlan_37 rfl (lv_at hl 3 rfl) ?_
    obtain ⟨i_q2, b_q2, h⟩ := ix_e h
    refine c_aldT X hM i_q2 dX0_findPlan_38 (fun q2 e_q2 => ?_)
    have h := h q2 e_q2
    rw [← e_q2] at b_q2
    refine lv_iload_n hx hb dX0_findPlan_39 rfl (lv_at hl 2 rfl) ?_
    refine lv_aload_n hx hb dX0_findPlan_40 rfl (lv_at hl 0 rfl) ?_
    refine lv_iload_n hx hb dX0_findPlan_41 rfl (lv_at hl 2 rfl) ?_
    refine lv_iload_n hx hb dX0_findPlan_42 rfl (lv_at hl 3 rfl) ?_
    obtain ⟨v3, q_v3, h⟩ := bd_e h
    refine f_roI (As := [.int x2, .int x3]) (rest := [.int x2, .ref (cSa Z (30 + q2))]) X hM (c_recv0 X hM) hS.2.2 (cPD.fr hM) (cf_costOf_met _ Z Y A C x2 x3 v3 q_v3) (lw_V q751 q753 qs22 q79 q754) cf_costOf_hd ⟨rfl, rfl⟩ ⟨Nat.le_trans (m := cf_findPlan_rm.frames) (Nat.le_of_ble_eq_true rfl) hR.1, Nat.le_trans (m := cf_findPlan_rm.locals) (Nat.le_of_ble_eq_true rfl) hR.2.1⟩ ⟨hR.2.2.1, hR.2.2.2⟩ rfl hl.1 rfl (Nat.le_of_ble_eq_true rfl) dX0_findPlan_43 (fun locs hL => ?_)
    have hS : va_S A s.heap _ locs := ⟨hS.1, hS.2.1, hL⟩
    obtain ⟨i_C4, h⟩ := as_e h
    refine c_ast X hM hS (k := (30 + q2)) (by omega) (cHs_S (cS_t b_q2)) (cArr_t b_q2) (cAr_s (by omega)) i_C4 dX0_findPlan_46 (fun H locs C4 e_C4 hM hS => ?_)
    have h := h C4 e_C4
    refine lv_iinc (v := (x3 + 1)) (lv' := [(3, .int (x3 + 1)), (0, .ref (cSa Z 0)), (1, .int x1), (2, .int x2)]) hx hb dX0_findPlan_47 hl (k := 3) rfl rfl (by decide) rfl (fun ls hl => ?_)
    refine lv_goto (tgt := 27) hx hb dX0_findPlan_50 (by decide) ?_
    exact hk27 x1 x2 (x3 + 1) _ C4 _ _ ls hM hS (lv_sub hl [1, 2, 3, 0] rfl) h
def cf_findPlan_l27 (k7 : Int32 → Int32 → St → Option St) (n : Nat) : Int32 → Int32 → Int32 → St → Option St := lp (fun _ _ _ _ => none) (cf_findPlan_b27 k7) n
theorem cf_findPlan_lw27 {p : Program} {l : Launch} {e : Env} {R : Room} {s : State} {m : MethodId} {args : Array Value} {below : List Frame} {meth : Method} {c : Code} {Z : CZ} {A : Nat → Prop} {cells slots : Nat} {Qc : Array Value → State → Outcome → State → Prop} (X : CCx p s m args meth c cX0_findPlan 4 (none) RX0 Z) (hR : cf_findPlan_rm.frames ≤ R.frames ∧ cf_findPlan_rm.locals ≤ R.locals ∧ cells ≤ R.cells ∧ slots ≤ R.slots) (hA : ∀ q, s.heap.size ≤ q → A q) {r : St} (hQ : ∀ (Y : CY) (H : Heap) (locs : List Loc) (t : State), cPD Z Y A r H → va_S A s.heap H locs → t.heap = H → s.WarmedH t.vm → Qc args s (.returned (none)) t) {k7 : Int32 → Int32 → St → Option St} (hk7 : cf_findPlan_P7 p l e R s m args below meth c Z A cells slots Qc r k7) : ∀ n : Nat, cf_findPlan_P27 p l e R s m args below meth c Z A cells slots Qc r (cf_findPlan_l27 k7 n) := by
  intro n
  induction n with
  | zero => intro x1 x2 x3 Y C H locs ls hM hS hl h; exact no_ h
  | succ n ih => exact cf_findPlan_w27 X hR hA hQ hk7 ih
def cf_findPlan_b7 (k7 : Int32 → Int32 → St → Option St) (x1 : Int32) (x2 : Int32) (C : St) : Option St :=
  if ((1 : Int32) <<< (x1 &&& 31)) ≤ x2 then (cf_findPlan_l61 FU x1 (0 : Int32) C)
  else (bd_ (cf_worthOf C x2) fun v2 =>
    as_ 256 8 C x2 v2 fun C3 =>
    cf_findPlan_l27 k7 FU x1 x2 (0 : Int32) C3)
theorem cf_findPlan_w7 {p : Program} {l : Launch} {e : Env} {R : Room} {s : State} {m : MethodId} {args : Array Value} {below : List Frame} {meth : Method} {c : Code} {Z : CZ} {A : Nat → Prop} {cells slots : Nat} {Qc : Array Value → State → Outcome → State → Prop} (X : CCx p s m args meth c cX0_findPlan 4 (none) RX0 Z) (hR : cf_findPlan_rm.frames ≤ R.frames ∧ cf_findPlan_rm.locals ≤ R.locals ∧ cells ≤ R.cells ∧ slots ≤ R.slots) (hA : ∀ q, s.heap.size ≤ q → A q) {r : St} (hQ : ∀ (Y : CY) (H : Heap) (locs : List Loc) (t : State), cPD Z Y A r H → va_S A s.heap H locs → t.heap = H → s.WarmedH t.vm → Qc args s (.returned (none)) t) {k7 : Int32 → Int32 → St → Option St} (hk7 : cf_findPlan_P7 p l e R s m args below meth c Z A cells slots Qc r k7) : cf_findPlan_P7 p l e R s m args below meth c Z A cells slots Qc r (cf_findPlan_b7 k7) := by
  intro x1 x2 Y C H locs ls hM hS hl h
  obtain ⟨⟨hx, hb, hr, hlocks, hml, hown, hts⟩, hK⟩ := id X
  unfold cf_findPlan_b7 at h
  refine lv_iload_n hx hb dX0_findPlan_7 rfl (lv_at hl 2 rfl) ?_
  refine lv_iconst (v := 1) hx hb dX0_findPlan_8 (by decide) ?_
  refine lv_iload_n hx hb dX0_findPlan_9 rfl (lv_at hl 1 rfl) ?_
  refine lv_ishl hx hb dX0_findPlan_10 ?_
  refine lv_icmp_ge (tgt := 59) hx hb dX0_findPlan_11 (by decide) (fun c1 => ?_) (fun c1 => ?_)
  · have h := ip_ c1 h
    refine lv_iconst (v := 0) hx hb dX0_findPlan_59 (by decide) ?_
    refine lv_istore_n (lv' := [(2, .int (0 : Int32)), (0, .ref (cSa Z 0)), (1, .int x1)]) hx hb dX0_findPlan_60 rfl hl (by decide) rfl (fun ls hl => ?_)
    exact cf_findPlan_lw61 X hR hA hQ FU x1 (0 : Int32) _ C _ _ ls hM hS (lv_sub hl [1, 2, 0] rfl) h
  · have h := in_ c1 h
    refine lv_aload_n hx hb dX0_findPlan_14 rfl (lv_at hl 0 rfl) ?_
    refine gc8 X hM dX0_findPlan_15 ?_
    refine lv_iload_n hx hb dX0_findPlan_18 rfl (lv_at hl 2 rfl) ?_
    refine lv_aload_n hx hb dX0_findPlan_19 rfl (lv_at hl 0 rfl) ?_
    refine lv_iload_n hx hb dX0_findPlan_20 rfl (lv_at hl 2 rfl) ?_
    obtain ⟨v2, q_v2, h⟩ := bd_e h
    refine f_roI (As := [.int x2]) (rest := [.int x2, .ref (cSa Z 8)]) X hM (c_recv0 X hM) hS.2.2 (cPD.fr hM) (cf_worthOf_met _ Z Y A C x2 v2 q_v2) (lw_V q747 q749 qs21 q79 q750) cf_worthOf_hd ⟨rfl, rfl⟩ ⟨Nat.le_trans (m := cf_findPlan_rm.frames) (Nat.le_of_ble_eq_true rfl) hR.1, Nat.le_trans (m := cf_findPlan_rm.locals) (Nat.le_of_ble_eq_true rfl) hR.2.1⟩ ⟨hR.2.2.1, hR.2.2.2⟩ rfl hl.1 rfl (Nat.le_of_ble_eq_true rfl) dX0_findPlan_21 (fun locs hL => ?_)
    have hS : va_S A s.heap _ locs := ⟨hS.1, hS.2.1, hL⟩
    obtain ⟨i_C3, h⟩ := as_e h
    refine c_ast X hM hS (k := 8) (by decide) (cHs_S (by decide)) (fun _ _ _ => rfl) (cAr_s (by decide)) i_C3 dX0_findPlan_24 (fun H locs C3 e_C3 hM hS => ?_)
    have h := h C3 e_C3
    refine lv_iconst (v := 0) hx hb dX0_findPlan_25 (by decide) ?_
    refine lv_istore_n (lv' := [(3, .int (0 : Int32)), (0, .ref (cSa Z 0)), (1, .int x1), (2, .int x2)]) hx hb dX0_findPlan_26 rfl hl (by decide) rfl (fun ls hl => ?_)
    exact cf_findPlan_lw27 X hR hA hQ hk7 FU x1 x2 (0 : Int32) _ C3 _ _ ls hM hS (lv_sub hl [1, 2, 3, 0] rfl) h
def cf_findPlan_l7 (n : Nat) : Int32 → Int32 → St → Option St := lp (fun _ _ _ => none) (cf_findPlan_b7) n
theorem cf_findPlan_lw7 {p : Program} {l : Launch} {e : Env} {R : Room} {s : State} {m : MethodId} {args : Array Value} {below : List Frame} {meth : Method} {c : Code} {Z : CZ} {A : Nat → Prop} {cells slots : Nat} {Qc : Array Value → State → Outcome → State → Prop} (X : CCx p s m args meth c cX0_findPlan 4 (none) RX0 Z) (hR : cf_findPlan_rm.frames ≤ R.frames ∧ cf_findPlan_rm.locals ≤ R.locals ∧ cells ≤ R.cells ∧ slots ≤ R.slots) (hA : ∀ q, s.heap.size ≤ q → A q) {r : St} (hQ : ∀ (Y : CY) (H : Heap) (locs : List Loc) (t : State), cPD Z Y A r H → va_S A s.heap H locs → t.heap = H → s.WarmedH t.vm → Qc args s (.returned (none)) t) : ∀ n : Nat, cf_findPlan_P7 p l e R s m args below meth c Z A cells slots Qc r (cf_findPlan_l7 n) := by
  intro n
  induction n with
  | zero => intro x1 x2 Y C H locs ls hM hS hl h; exact no_ h
  | succ n ih => exact cf_findPlan_w7 X hR hA hQ ih
def cf_findPlan_b4 (t0 : Int32) (C : St) : Option St :=
  cf_findPlan_l7 FU t0 (0 : Int32) C
theorem cf_findPlan_w4 {p : Program} {l : Launch} {e : Env} {R : Room} {s : State} {m : MethodId} {args : Array Value} {below : List Frame} {meth : Method} {c : Code} {Z : CZ} {A : Nat → Prop} {cells slots : Nat} {Qc : Array Value → State → Outcome → State → Prop} (X : CCx p s m args meth c cX0_findPlan 4 (none) RX0 Z) (hR : cf_findPlan_rm.frames ≤ R.frames ∧ cf_findPlan_rm.locals ≤ R.locals ∧ cells ≤ R.cells ∧ slots ≤ R.slots) (hA : ∀ q, s.heap.size ≤ q → A q) {r : St} (hQ : ∀ (Y : CY) (H : Heap) (locs : List Loc) (t : State), cPD Z Y A r H → va_S A s.heap H locs → t.heap = H → s.WarmedH t.vm → Qc args s (.returned (none)) t) : cf_findPlan_P4 p l e R s m args below meth c Z A cells slots Qc r (cf_findPlan_b4) := by
  intro t0 Y C H locs ls hM hS hl h
  obtain ⟨⟨hx, hb, hr, hlocks, hml, hown, hts⟩, hK⟩ := id X
  unfold cf_findPlan_b4 at h
  refine lv_istore_n (lv' := [(1, .int t0), (0, .ref (cSa Z 0))]) hx hb dX0_findPlan_4 rfl hl (by decide) rfl (fun ls hl => ?_)
  refine lv_iconst (v := 0) hx hb dX0_findPlan_5 (by decide) ?_
  refine lv_istore_n (lv' := [(2, .int (0 : Int32)), (1, .int t0), (0, .ref (cSa Z 0))]) hx hb dX0_findPlan_6 rfl hl (by decide) rfl (fun ls hl => ?_)
  exact cf_findPlan_lw7 X hR hA hQ FU t0 (0 : Int32) _ C _ _ ls hM hS (lv_sub hl [2, 1, 0] rfl) h
def cf_findPlan (C : St) : Option St :=
  bd_ (cf_deeds C ) fun v1 =>
  cf_findPlan_b4 v1 C
theorem cf_findPlan_w0 {p : Program} {l : Launch} {e : Env} {R : Room} {s : State} {m : MethodId} {args : Array Value} {below : List Frame} {meth : Method} {c : Code} {Z : CZ} {A : Nat → Prop} {cells slots : Nat} {Qc : Array Value → State → Outcome → State → Prop} (X : CCx p s m args meth c cX0_findPlan 4 (none) RX0 Z) (hR : cf_findPlan_rm.frames ≤ R.frames ∧ cf_findPlan_rm.locals ≤ R.locals ∧ cells ≤ R.cells ∧ slots ≤ R.slots) (hA : ∀ q, s.heap.size ≤ q → A q) {r : St} (hQ : ∀ (Y : CY) (H : Heap) (locs : List Loc) (t : State), cPD Z Y A r H → va_S A s.heap H locs → t.heap = H → s.WarmedH t.vm → Qc args s (.returned (none)) t) : cf_findPlan_P0 p l e R s m args below meth c Z A cells slots Qc r (cf_findPlan) := by
  intro Y C H locs ls hM hS hl h
  obtain ⟨⟨hx, hb, hr, hlocks, hml, hown, hts⟩, hK⟩ := id X
  unfold cf_findPlan at h
  refine lv_aload_n hx hb dX0_findPlan_0 rfl (lv_at hl 0 rfl) ?_
  obtain ⟨v1, q_v1, h⟩ := bd_e h
  refine f_roI (As := []) (rest := []) X hM (c_recv0 X hM) hS.2.2 (cPD.fr hM) (cf_deeds_met _ Z Y A C  v1 q_v1) (lw_V q630 q632 qs7 q79 q633) cf_deeds_hd ⟨rfl, rfl⟩ ⟨Nat.le_trans (m := cf_findPlan_rm.frames) (Nat.le_of_ble_eq_true rfl) hR.1, Nat.le_trans (m := cf_findPlan_rm.locals) (Nat.le_of_ble_eq_true rfl) hR.2.1⟩ ⟨hR.2.2.1, hR.2.2.2⟩ rfl hl.1 rfl (Nat.le_of_ble_eq_true rfl) dX0_findPlan_1 (fun locs hL => ?_)
  have hS : va_S A s.heap _ locs := ⟨hS.1, hS.2.1, hL⟩
  exact cf_findPlan_w4 X hR hA hQ v1 _ C _ _ ls hM hS (lv_sub hl [0] rfl) h
theorem cf_findPlan_hd : yX0_findPlan.cls = RX0 ∧ yX0_findPlan.cls ≠ "java/lang/invoke/MethodHandle" ∧ yX0_findPlan.cls ≠ "java/lang/invoke/VarHandle" ∧ (parseMethodDescriptor yX0_findPlan.desc).map (fun d => d.parameters.length) = some 0 := by decide +kernel
theorem cf_findPlan_met (l : Launch) (Z : CZ) (Y : CY) (C : St) (sz : Nat) (r : St) (h : cf_findPlan C = some r) : Met l yX0_findPlan (ws_ yX0_findPlan cX0_findPlan 4 (none)) cf_findPlan_rm (va_Pc [.ref (cSa Z 0)] (cSw Z Y C sz)) (Qcw (none) Z (va_A (cWs Z Y C) sz) r) 0 0 (va_A (cWs Z Y C) sz) := by
  refine Met.ofW (cc := cX0_findPlan) (maxL := 4) (ret := none) (by decide) rfl ?_
  intro p e s m args below meth c s₁ B hml hv
  obtain ⟨rfl, hsz, hv⟩ := hv
  subst hsz
  have hts := atoms_spec (ws := ws_ yX0_findPlan cX0_findPlan 4 (none)) B.pre
  have hts : ∀ w ∈ lw_all, w.before _ s = true := fun w h => hts w (List.mem_cons_of_mem _ h)
  have X : CCx p s m _ meth c cX0_findPlan 4 (none) RX0 Z := ⟨⟨B.exec, B.bytes, B.returns, B.notSynchronized, hml, findClass_of_methodNamed B.named, hts⟩, hv.2⟩
  have hl := lv_entry [.ref (cSa Z 0)] (n := 4) (Nat.le_of_ble_eq_true rfl)
  rw [lg_entry_eq]
  generalize (lg_sl [.ref (cSa Z 0)] ++ List.replicate (4 - (lg_sl [.ref (cSa Z 0)]).length) Slot.unset).toArray = ls at hl ⊢
  exact cf_findPlan_w0 X ⟨Nat.le_refl _, Nat.le_refl _, Nat.le_refl _, Nat.le_refl _⟩ (fun q h => Or.inr h) (fun Y H locs t hM hS ht hW => ⟨rfl, ⟨Y, by rw [ht]; exact hM, cKs.warm hW X.2⟩, hS.F ht⟩)  Y C _ _ ls (cPD.self hv.1) va_S.rf hl h

/-! SecondChances.planned()LSecondChances; -/
def cf_planned_rm : Room := { frames := 6, cells := 0, slots := 0, locals := 144 }
def cf_planned_P11 (p : Program) (l : Launch) (e : Env) (R : Room) (s : State) (m : MethodId) (args : Array Value) (below : List Frame) (meth : Method) (c : Code) (Z : CZ) (A : Nat → Prop) (cells slots : Nat) (Qc : Array Value → State → Outcome → State → Prop) (r : St) (f : St → Option St) : Prop := ∀ (Y : CY) (C : St) (H : Heap) (locs : List Loc) (ls : Array Slot), cPD Z Y A C H → va_S A s.heap H locs → lv_has ls 1 [(0, .ref (cSa Z 0))] → f  C = some r → W p l e R s m args below meth c H locs cells slots (MQ below Qc args s cells slots A) (F0 m 11 ls [])
def cf_planned_P0 (p : Program) (l : Launch) (e : Env) (R : Room) (s : State) (m : MethodId) (args : Array Value) (below : List Frame) (meth : Method) (c : Code) (Z : CZ) (A : Nat → Prop) (cells slots : Nat) (Qc : Array Value → State → Outcome → State → Prop) (r : St) (f : St → Option St) : Prop := ∀ (Y : CY) (C : St) (H : Heap) (locs : List Loc) (ls : Array Slot), cPD Z Y A C H → va_S A s.heap H locs → lv_has ls 1 [(0, .ref (cSa Z 0))] → f  C = some r → W p l e R s m args below meth c H locs cells slots (MQ below Qc args s cells slots A) (F0 m 0 ls [])
def cf_planned_b11 (C : St) : Option St :=
  lt_ (upd2 C 0 4 (0 : Int32)) fun C1 =>
  some C1
theorem cf_planned_w11 {p : Program} {l : Launch} {e : Env} {R : Room} {s : State} {m : MethodId} {args : Array Value} {below : List Frame} {meth : Method} {c : Code} {Z : CZ} {A : Nat → Prop} {cells slots : Nat} {Qc : Array Value → State → Outcome → State → Prop} (X : CCx p s m args meth c cX0_planned 1 (some (.object "SecondChances")) RX0 Z) (hR : cf_planned_rm.frames ≤ R.frames ∧ cf_planned_rm.locals ≤ R.locals ∧ cells ≤ R.cells ∧ slots ≤ R.slots) (hA : ∀ q, s.heap.size ≤ q → A q) {r : St} (hQ : ∀ (Y : CY) (H : Heap) (locs : List Loc) (t : State), cPD Z Y A r H → va_S A s.heap H locs → t.heap = H → s.WarmedH t.vm → Qc args s (.returned (some (.ref (cSa Z 0)))) t) : cf_planned_P11 p l e R s m args below meth c Z A cells slots Qc r (cf_planned_b11) := by
  intro Y C H locs ls hM hS hl h
  obtain ⟨⟨hx, hb, hr, hlocks, hml, hown, hts⟩, hK⟩ := id X
  unfold cf_planned_b11 at h
  refine lv_aload_n hx hb dX0_planned_11 rfl (lv_at hl 0 rfl) ?_
  refine lv_iconst (v := 0) hx hb dX0_planned_12 (by decide) ?_
  refine pc4 X hM hS dX0_planned_13 rfl (fun H locs C1 e_C1 hM hS => ?_)
  have h := lt_i h e_C1
  refine lv_aload_n hx hb dX0_planned_16 rfl (lv_at hl 0 rfl) ?_
  have h := so_ h
  subst h
  exact W.aret hx hb hr (Or.inl ⟨_, rfl⟩) (Or.inr ⟨_, rfl⟩) (fun t ht hW => hQ _ _ _ t hM hS ht hW) hS.2.2 dX0_planned_17
def cf_planned (C : St) : Option St :=
  if (C 0 4) = 0 then (cf_planned_b11  C)
  else (bd_ (cf_findPlan  C) fun C2 =>
    cf_planned_b11  C2)
theorem cf_planned_w0 {p : Program} {l : Launch} {e : Env} {R : Room} {s : State} {m : MethodId} {args : Array Value} {below : List Frame} {meth : Method} {c : Code} {Z : CZ} {A : Nat → Prop} {cells slots : Nat} {Qc : Array Value → State → Outcome → State → Prop} (X : CCx p s m args meth c cX0_planned 1 (some (.object "SecondChances")) RX0 Z) (hR : cf_planned_rm.frames ≤ R.frames ∧ cf_planned_rm.locals ≤ R.locals ∧ cells ≤ R.cells ∧ slots ≤ R.slots) (hA : ∀ q, s.heap.size ≤ q → A q) {r : St} (hQ : ∀ (Y : CY) (H : Heap) (locs : List Loc) (t : State), cPD Z Y A r H → va_S A s.heap H locs → t.heap = H → s.WarmedH t.vm → Qc args s (.returned (some (.ref (cSa Z 0)))) t) : cf_planned_P0 p l e R s m args below meth c Z A cells slots Qc r (cf_planned) := by
  intro Y C H locs ls hM hS hl h
  obtain ⟨⟨hx, hb, hr, hlocks, hml, hown, hts⟩, hK⟩ := id X
  unfold cf_planned at h
  refine lv_aload_n hx hb dX0_planned_0 rfl (lv_at hl 0 rfl) ?_
  refine gc4 X hM dX0_planned_1 ?_
  refine lv_if_eq (tgt := 11) hx hb dX0_planned_4 (by decide) (fun c1 => ?_) (fun c1 => ?_)
  · have h := ip_ c1 h
    exact cf_planned_w11 X hR hA hQ  _ C _ _ ls hM hS (lv_sub hl [0] rfl) h
  · have h := in_ c1 h
    refine lv_aload_n hx hb dX0_planned_7 rfl (lv_at hl 0 rfl) ?_
    obtain ⟨C2, q_C2, h⟩ := bd_e h
    refine w_wrV (As := []) (rest := []) X hM hS hA (c_recv0 X hM) (cf_findPlan_met _ Z _ C _  C2 q_C2) (lw_V q743 q745 qs20 q79 q746) cf_findPlan_hd ⟨rfl, rfl⟩ ⟨Nat.le_trans (m := cf_planned_rm.frames) (Nat.le_of_ble_eq_true rfl) hR.1, Nat.le_trans (m := cf_planned_rm.locals) (Nat.le_of_ble_eq_true rfl) hR.2.1⟩ ⟨hR.2.2.1, hR.2.2.2⟩ rfl hl.1 rfl (Nat.le_of_ble_eq_true rfl) dX0_planned_8 (fun Y H locs hM hS => ?_)
    exact cf_planned_w11 X hR hA hQ  _ C2 _ _ ls hM hS (lv_sub hl [0] rfl) h
theorem cf_planned_hd : yX0_planned.cls = RX0 ∧ yX0_planned.cls ≠ "java/lang/invoke/MethodHandle" ∧ yX0_planned.cls ≠ "java/lang/invoke/VarHandle" ∧ (parseMethodDescriptor yX0_planned.desc).map (fun d => d.parameters.length) = some 0 := by decide +kernel
theorem cf_planned_met (l : Launch) (Z : CZ) (Y : CY) (C : St) (sz : Nat) (r : St) (h : cf_planned C = some r) : Met l yX0_planned (ws_ yX0_planned cX0_planned 1 (some (.object "SecondChances"))) cf_planned_rm (va_Pc [.ref (cSa Z 0)] (cSw Z Y C sz)) (Qcw (some (.ref (cSa Z 0))) Z (va_A (cWs Z Y C) sz) r) 0 0 (va_A (cWs Z Y C) sz) := by
  refine Met.ofW (cc := cX0_planned) (maxL := 1) (ret := some (.object "SecondChances")) (by decide) rfl ?_
  intro p e s m args below meth c s₁ B hml hv
  obtain ⟨rfl, hsz, hv⟩ := hv
  subst hsz
  have hts := atoms_spec (ws := ws_ yX0_planned cX0_planned 1 (some (.object "SecondChances"))) B.pre
  have hts : ∀ w ∈ lw_all, w.before _ s = true := fun w h => hts w (List.mem_cons_of_mem _ h)
  have X : CCx p s m _ meth c cX0_planned 1 (some (.object "SecondChances")) RX0 Z := ⟨⟨B.exec, B.bytes, B.returns, B.notSynchronized, hml, findClass_of_methodNamed B.named, hts⟩, hv.2⟩
  have hl := lv_entry [.ref (cSa Z 0)] (n := 1) (Nat.le_of_ble_eq_true rfl)
  rw [lg_entry_eq]
  generalize (lg_sl [.ref (cSa Z 0)] ++ List.replicate (1 - (lg_sl [.ref (cSa Z 0)]).length) Slot.unset).toArray = ls at hl ⊢
  exact cf_planned_w0 X ⟨Nat.le_refl _, Nat.le_refl _, Nat.le_refl _, Nat.le_refl _⟩ (fun q h => Or.inr h) (fun Y H locs t hM hS ht hW => ⟨rfl, ⟨Y, by rw [ht]; exact hM, cKs.warm hW X.2⟩, hS.F ht⟩)  Y C _ _ ls (cPD.self hv.1) va_S.rf hl h

/-! SecondChances$Text.type(I)I -/
def cfT_type_rm : Room := { frames := 0, cells := 0, slots := 0, locals := 0 }
def cfT_type_P0 (p : Program) (l : Launch) (e : Env) (R : Room) (s : State) (m : MethodId) (args : Array Value) (below : List Frame) (meth : Method) (c : Code) (Z : CZ) (A : Nat → Prop) (cells slots : Nat) (Qc : Array Value → State → Outcome → State → Prop) (r : (Int32 × St)) (f : Nat → Int32 → St → Option (Int32 × St)) : Prop := ∀ (x0 : Nat) (x1 : Int32) (Y : CY) (C : St) (H : Heap) (locs : List Loc) (ls : Array Slot), cPD Z Y A C H → va_S A s.heap H locs → lv_has ls 2 [(0, .ref (cSa Z (40 + x0))), (1, .int x1)] → f x0 x1 C = some r → W p l e R s m args below meth c H locs cells slots (MQ below Qc args s cells slots A) (F0 m 0 ls [])
def cfT_type (x0 : Nat) (x1 : Int32) (C : St) : Option (Int32 × St) :=
  gd_ (x0 < 2) <|
  lt_ (Int32.ofNat (cBl x0)) fun v2 =>
  if (C (40 + x0) 1) = v2 then (some ((-4 : Int32), C))
  else (as_ (cBl x0) (42 + x0) C (C (40 + x0) 1) x1 fun C4 =>
    lt_ (upd2 C4 (40 + x0) 1 ((C4 (40 + x0) 1) + (1 : Int32))) fun C5 =>
    lt_ (upd2 C5 (40 + x0) 3 (0 : Int32)) fun C6 =>
    some ((C6 (40 + x0) 1), C6))
theorem cfT_type_w0 {p : Program} {l : Launch} {e : Env} {R : Room} {s : State} {m : MethodId} {args : Array Value} {below : List Frame} {meth : Method} {c : Code} {Z : CZ} {A : Nat → Prop} {cells slots : Nat} {Qc : Array Value → State → Outcome → State → Prop} (X : CCx p s m args meth c cX2_type 2 (some .int) RX2 Z) (hR : cfT_type_rm.frames ≤ R.frames ∧ cfT_type_rm.locals ≤ R.locals ∧ cells ≤ R.cells ∧ slots ≤ R.slots) (hA : ∀ q, s.heap.size ≤ q → A q) {r : (Int32 × St)} (hQ : ∀ (Y : CY) (H : Heap) (locs : List Loc) (t : State), cPD Z Y A r.2 H → va_S A s.heap H locs → t.heap = H → s.WarmedH t.vm → Qc args s (.returned (some (.int r.1))) t) : cfT_type_P0 p l e R s m args below meth c Z A cells slots Qc r (cfT_type) := by
  intro x0 x1 Y C H locs ls hM hS hl h
  obtain ⟨⟨hx, hb, hr, hlocks, hml, hown, hts⟩, hK⟩ := id X
  unfold cfT_type at h
  refine lv_aload_n hx hb dX2_type_0 rfl (lv_at hl 0 rfl) ?_
  obtain ⟨b1, h⟩ := gd_e h
  refine gt1 X hM b1 dX2_type_1 ?_
  refine lv_aload_n hx hb dX2_type_4 rfl (lv_at hl 0 rfl) ?_
  refine gt0 X hM b1 dX2_type_5 ?_
  refine c_alenB X hM b1 dX2_type_8 (fun v2 e_v2 => ?_)
  have h := lt_i h e_v2
  refine lv_icmp_ne (tgt := 15) hx hb dX2_type_9 (by decide) (fun c3 => ?_) (fun c3 => ?_)
  · have h := in_ c3 h
    refine lv_aload_n hx hb dX2_type_15 rfl (lv_at hl 0 rfl) ?_
    refine gt0 X hM b1 dX2_type_16 ?_
    refine lv_aload_n hx hb dX2_type_19 rfl (lv_at hl 0 rfl) ?_
    refine gt1 X hM b1 dX2_type_20 ?_
    refine lv_iload_n hx hb dX2_type_23 rfl (lv_at hl 1 rfl) ?_
    obtain ⟨i_C4, h⟩ := as_e h
    refine c_ast X hM hS (k := (42 + x0)) (by omega) (cHs_S (cS_b b1)) (cArr_b b1) (cAr_s (by omega)) i_C4 dX2_type_24 (fun H locs C4 e_C4 hM hS => ?_)
    have h := h C4 e_C4
    refine lv_aload_n hx hb dX2_type_25 rfl (lv_at hl 0 rfl) ?_
    refine lv_dup hx hb dX2_type_26 rfl ?_
    refine gt1 X hM b1 dX2_type_27 ?_
    refine lv_iconst (v := 1) hx hb dX2_type_30 (by decide) ?_
    refine lv_iadd hx hb dX2_type_31 ?_
    refine pt1 X hM hS b1 dX2_type_32 (fun H locs C5 e_C5 hM hS => ?_)
    have h := lt_i h e_C5
    refine lv_aload_n hx hb dX2_type_35 rfl (lv_at hl 0 rfl) ?_
    refine lv_iconst (v := 0) hx hb dX2_type_36 (by decide) ?_
    refine pt3 X hM hS b1 dX2_type_37 rfl (fun H locs C6 e_C6 hM hS => ?_)
    have h := lt_i h e_C6
    refine lv_aload_n hx hb dX2_type_40 rfl (lv_at hl 0 rfl) ?_
    refine gt1 X hM b1 dX2_type_41 ?_
    have h := so_ h
    subst h
    exact W.iret hx hb hr (fun t ht hW => hQ _ _ _ t hM hS ht hW) hS.2.2 dX2_type_44
  · have h := ip_ c3 h
    refine lv_bipush (v := -4) hx hb dX2_type_12 (by decide) ?_
    have h := so_ h
    subst h
    exact W.iret hx hb hr (fun t ht hW => hQ _ _ _ t hM hS ht hW) hS.2.2 dX2_type_14
theorem cfT_type_hd : yX2_type.cls = RX2 ∧ yX2_type.cls ≠ "java/lang/invoke/MethodHandle" ∧ yX2_type.cls ≠ "java/lang/invoke/VarHandle" ∧ (parseMethodDescriptor yX2_type.desc).map (fun d => d.parameters.length) = some 1 := by decide +kernel
theorem cfT_type_met (l : Launch) (Z : CZ) (Y : CY) (C : St) (sz : Nat) (x0 : Nat) (x1 : Int32) (r : (Int32 × St)) (h : cfT_type x0 x1 C = some r) : Met l yX2_type (ws_ yX2_type cX2_type 2 (some .int)) cfT_type_rm (va_Pc [.ref (cSa Z (40 + x0)), .int x1] (cSw Z Y C sz)) (Qcw (some (.int r.1)) Z (va_A (cWs Z Y C) sz) r.2) 0 0 (va_A (cWs Z Y C) sz) := by
  refine Met.ofW (cc := cX2_type) (maxL := 2) (ret := some .int) (by decide) rfl ?_
  intro p e s m args below meth c s₁ B hml hv
  obtain ⟨rfl, hsz, hv⟩ := hv
  subst hsz
  have hts := atoms_spec (ws := ws_ yX2_type cX2_type 2 (some .int)) B.pre
  have hts : ∀ w ∈ lw_all, w.before _ s = true := fun w h => hts w (List.mem_cons_of_mem _ h)
  have X : CCx p s m _ meth c cX2_type 2 (some .int) RX2 Z := ⟨⟨B.exec, B.bytes, B.returns, B.notSynchronized, hml, findClass_of_methodNamed B.named, hts⟩, hv.2⟩
  have hl := lv_entry [.ref (cSa Z (40 + x0)), .int x1] (n := 2) (Nat.le_of_ble_eq_true rfl)
  rw [lg_entry_eq]
  generalize (lg_sl [.ref (cSa Z (40 + x0)), .int x1] ++ List.replicate (2 - (lg_sl [.ref (cSa Z (40 + x0)), .int x1]).length) Slot.unset).toArray = ls at hl ⊢
  exact cfT_type_w0 X ⟨Nat.le_refl _, Nat.le_refl _, Nat.le_refl _, Nat.le_refl _⟩ (fun q h => Or.inr h) (fun Y H locs t hM hS ht hW => ⟨rfl, ⟨Y, by rw [ht]; exact hM, cKs.warm hW X.2⟩, hS.F ht⟩) x0 x1 Y C _ _ ls (cPD.self hv.1) va_S.rf hl h

/-! SecondChances$Text.wipe()I -/
def cfT_wipe_rm : Room := { frames := 0, cells := 0, slots := 0, locals := 0 }
def cfT_wipe_P0 (p : Program) (l : Launch) (e : Env) (R : Room) (s : State) (m : MethodId) (args : Array Value) (below : List Frame) (meth : Method) (c : Code) (Z : CZ) (A : Nat → Prop) (cells slots : Nat) (Qc : Array Value → State → Outcome → State → Prop) (r : (Int32 × St)) (f : Nat → St → Option (Int32 × St)) : Prop := ∀ (x0 : Nat) (Y : CY) (C : St) (H : Heap) (locs : List Loc) (ls : Array Slot), cPD Z Y A C H → va_S A s.heap H locs → lv_has ls 2 [(0, .ref (cSa Z (40 + x0)))] → f x0 C = some r → W p l e R s m args below meth c H locs cells slots (MQ below Qc args s cells slots A) (F0 m 0 ls [])
def cfT_wipe (x0 : Nat) (C : St) : Option (Int32 × St) :=
  gd_ (x0 < 2) <|
  lt_ (C (40 + x0) 1) fun v2 =>
  lt_ (upd2 C (40 + x0) 1 (0 : Int32)) fun C3 =>
  lt_ (upd2 C3 (40 + x0) 3 (0 : Int32)) fun C4 =>
  some (v2, C4)
theorem cfT_wipe_w0 {p : Program} {l : Launch} {e : Env} {R : Room} {s : State} {m : MethodId} {args : Array Value} {below : List Frame} {meth : Method} {c : Code} {Z : CZ} {A : Nat → Prop} {cells slots : Nat} {Qc : Array Value → State → Outcome → State → Prop} (X : CCx p s m args meth c cX2_wipe 2 (some .int) RX2 Z) (hR : cfT_wipe_rm.frames ≤ R.frames ∧ cfT_wipe_rm.locals ≤ R.locals ∧ cells ≤ R.cells ∧ slots ≤ R.slots) (hA : ∀ q, s.heap.size ≤ q → A q) {r : (Int32 × St)} (hQ : ∀ (Y : CY) (H : Heap) (locs : List Loc) (t : State), cPD Z Y A r.2 H → va_S A s.heap H locs → t.heap = H → s.WarmedH t.vm → Qc args s (.returned (some (.int r.1))) t) : cfT_wipe_P0 p l e R s m args below meth c Z A cells slots Qc r (cfT_wipe) := by
  intro x0 Y C H locs ls hM hS hl h
  obtain ⟨⟨hx, hb, hr, hlocks, hml, hown, hts⟩, hK⟩ := id X
  unfold cfT_wipe at h
  refine lv_aload_n hx hb dX2_wipe_0 rfl (lv_at hl 0 rfl) ?_
  obtain ⟨b1, h⟩ := gd_e h
  refine gt1 X hM b1 dX2_wipe_1 ?_
  refine lv_topi (fun v2 e_v2 => ?_)
  have h := lt_i h e_v2
  refine lv_istore_n (lv' := [(1, .int v2), (0, .ref (cSa Z (40 + x0)))]) hx hb dX2_wipe_4 rfl hl (by decide) rfl (fun ls hl => ?_)
  refine lv_aload_n hx hb dX2_wipe_5 rfl (lv_at hl 1 rfl) ?_
  refine lv_iconst (v := 0) hx hb dX2_wipe_6 (by decide) ?_
  refine pt1 X hM hS b1 dX2_wipe_7 (fun H locs C3 e_C3 hM hS => ?_)
  have h := lt_i h e_C3
  refine lv_aload_n hx hb dX2_wipe_10 rfl (lv_at hl 1 rfl) ?_
  refine lv_iconst (v := 0) hx hb dX2_wipe_11 (by decide) ?_
  refine pt3 X hM hS b1 dX2_wipe_12 rfl (fun H locs C4 e_C4 hM hS => ?_)
  have h := lt_i h e_C4
  refine lv_iload_n hx hb dX2_wipe_15 rfl (lv_at hl 0 rfl) ?_
  have h := so_ h
  subst h
  exact W.iret hx hb hr (fun t ht hW => hQ _ _ _ t hM hS ht hW) hS.2.2 dX2_wipe_16
theorem cfT_wipe_hd : yX2_wipe.cls = RX2 ∧ yX2_wipe.cls ≠ "java/lang/invoke/MethodHandle" ∧ yX2_wipe.cls ≠ "java/lang/invoke/VarHandle" ∧ (parseMethodDescriptor yX2_wipe.desc).map (fun d => d.parameters.length) = some 0 := by decide +kernel
theorem cfT_wipe_met (l : Launch) (Z : CZ) (Y : CY) (C : St) (sz : Nat) (x0 : Nat) (r : (Int32 × St)) (h : cfT_wipe x0 C = some r) : Met l yX2_wipe (ws_ yX2_wipe cX2_wipe 2 (some .int)) cfT_wipe_rm (va_Pc [.ref (cSa Z (40 + x0))] (cSw Z Y C sz)) (Qcw (some (.int r.1)) Z (va_A (cWs Z Y C) sz) r.2) 0 0 (va_A (cWs Z Y C) sz) := by
  refine Met.ofW (cc := cX2_wipe) (maxL := 2) (ret := some .int) (by decide) rfl ?_
  intro p e s m args below meth c s₁ B hml hv
  obtain ⟨rfl, hsz, hv⟩ := hv
  subst hsz
  have hts := atoms_spec (ws := ws_ yX2_wipe cX2_wipe 2 (some .int)) B.pre
  have hts : ∀ w ∈ lw_all, w.before _ s = true := fun w h => hts w (List.mem_cons_of_mem _ h)
  have X : CCx p s m _ meth c cX2_wipe 2 (some .int) RX2 Z := ⟨⟨B.exec, B.bytes, B.returns, B.notSynchronized, hml, findClass_of_methodNamed B.named, hts⟩, hv.2⟩
  have hl := lv_entry [.ref (cSa Z (40 + x0))] (n := 2) (Nat.le_of_ble_eq_true rfl)
  rw [lg_entry_eq]
  generalize (lg_sl [.ref (cSa Z (40 + x0))] ++ List.replicate (2 - (lg_sl [.ref (cSa Z (40 + x0))]).length) Slot.unset).toArray = ls at hl ⊢
  exact cfT_wipe_w0 X ⟨Nat.le_refl _, Nat.le_refl _, Nat.le_refl _, Nat.le_refl _⟩ (fun q h => Or.inr h) (fun Y H locs t hM hS ht hW => ⟨rfl, ⟨Y, by rw [ht]; exact hM, cKs.warm hW X.2⟩, hS.F ht⟩) x0 Y C _ _ ls (cPD.self hv.1) va_S.rf hl h
