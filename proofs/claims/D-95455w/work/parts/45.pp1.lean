set_option maxRecDepth 100000
/-! SecondChances.deeds()I, on any state -/
def cp_deeds_rm : Room := { frames := 11, cells := 200, slots := 1600, locals := 271 }
def cp_deeds (C : St) : Option (Int32 × St) :=
  bd2_ (cp_read 0 C) fun v2 C1 =>
  bd2_ (cp_read 1 C1) fun v4 C3 =>
  bd_ (cfL_size C3 0 ) fun v5 =>
  some (v5, C3)
set_option maxHeartbeats 4000000 in
theorem cp_deeds_w0 {p : Program} {l : Launch} {e : Env} {R : Room} {s : State} {m : MethodId} {args : Array Value} {below : List Frame} {meth : Method} {c : Code} {Z : CZ} {A : Nat → Prop} {Qc : Array Value → State → Outcome → State → Prop} (X : CCx p s m args meth c cX0_deeds 1 (some .int) RX0 Z) (hR : cp_deeds_rm.frames ≤ R.frames ∧ cp_deeds_rm.locals ≤ R.locals ∧ 200 ≤ R.cells ∧ 1600 ≤ R.slots) (hA : ∀ q, s.heap.size ≤ q → A q) (hE : cE Z A s s.heap) {r : (Int32 × St)} (hQ : ∀ (Y : CY) (H : Heap) (locs : List Loc) (t : State), cPD Z Y A r.2 H → va_S A s.heap H locs → t.heap = H → s.WarmedH t.vm → Qc args s (.returned (some (.int r.1))) t) (Y : CY) (C : St) (H : Heap) (locs : List Loc) (ls : Array Slot) (hM : cPD Z Y A C H) (hS : va_S A s.heap H locs) (hl : lv_has ls 1 [(0, .ref (cSa Z 0))]) (h : cp_deeds C = some r) : W p l e R s m args below meth c H locs 0 0 (MQ below Qc args s 200 1600 A) (F0 m 0 ls []) := by
  obtain ⟨⟨hx, hb, hr, hlocks, hml, hown, hts⟩, hK⟩ := id X
  unfold cp_deeds at h
  refine lv_aload_n hx hb dX0_deeds_0 rfl (lv_at hl 0 rfl) ?_
  refine gc5 X hM dX0_deeds_1 ?_
  obtain ⟨v2, C1, q_C1, h⟩ := bd2_e h
  refine p_readU (q := 0) (rest := []) (x := ⟨RX3, "read", "()I"⟩) X hM hS hA hE (c_recvX0 X hM) q_C1 (lw_U q634 q635 q637 q378 q81 q382) rfl (by decide +kernel) ⟨Nat.le_trans (m := cp_deeds_rm.frames) (Nat.le_of_ble_eq_true rfl) hR.1, Nat.le_trans (m := cp_deeds_rm.locals) (Nat.le_of_ble_eq_true rfl) hR.2.1⟩ ⟨Nat.le_trans (m := 200) (Nat.le_of_ble_eq_true rfl) hR.2.2.1, Nat.le_trans (m := 1600) (Nat.le_of_ble_eq_true rfl) hR.2.2.2⟩ hl.1 (Nat.le_of_ble_eq_true rfl) dX0_deeds_4 (fun Y H locs hM hS => ?_)
  refine W.widen (k := 95) (n := 712) (Nat.le_of_ble_eq_true rfl) (Nat.le_of_ble_eq_true rfl) ?_
  refine lv_pop hx hb dX0_deeds_7 rfl ?_
  refine lv_aload_n hx hb dX0_deeds_8 rfl (lv_at hl 0 rfl) ?_
  refine gc6 X hM dX0_deeds_9 ?_
  obtain ⟨v4, C3, q_C3, h⟩ := bd2_e h
  refine p_readU (q := 1) (rest := []) (x := ⟨RX4, "read", "()I"⟩) X hM hS hA hE (c_recvX1 X hM) q_C3 (lw_U q638 q639 q640 q378 q81 q382) rfl (by decide +kernel) ⟨Nat.le_trans (m := cp_deeds_rm.frames) (Nat.le_of_ble_eq_true rfl) hR.1, Nat.le_trans (m := cp_deeds_rm.locals) (Nat.le_of_ble_eq_true rfl) hR.2.1⟩ ⟨Nat.le_trans (m := 200) (Nat.le_of_ble_eq_true rfl) hR.2.2.1, Nat.le_trans (m := 1600) (Nat.le_of_ble_eq_true rfl) hR.2.2.2⟩ hl.1 (Nat.le_of_ble_eq_true rfl) dX0_deeds_12 (fun Y H locs hM hS => ?_)
  refine W.widen (k := 190) (n := 1424) (Nat.le_of_ble_eq_true rfl) (Nat.le_of_ble_eq_true rfl) ?_
  refine lv_pop hx hb dX0_deeds_15 rfl ?_
  refine lv_aload_n hx hb dX0_deeds_16 rfl (lv_at hl 0 rfl) ?_
  refine gc5 X hM dX0_deeds_17 ?_
  refine gd5 X hM dX0_deeds_20 ?_
  obtain ⟨v5, q_v5, h⟩ := bd_e h
  refine f_roI (As := []) (rest := []) X hM (c_recvL (j := 0) X hM (by decide)) hS.2.2 (cPD.fr hM) (cfL_size_met _ Z Y A C3 0  v5 q_v5) (lw_V q641 q418 q419 q85 q420) cfL_size_hd ⟨rfl, rfl⟩ ⟨Nat.le_trans (m := cp_deeds_rm.frames) (Nat.le_of_ble_eq_true rfl) hR.1, Nat.le_trans (m := cp_deeds_rm.locals) (Nat.le_of_ble_eq_true rfl) hR.2.1⟩ ⟨Nat.le_trans (m := 200) (Nat.le_of_ble_eq_true rfl) hR.2.2.1, Nat.le_trans (m := 1600) (Nat.le_of_ble_eq_true rfl) hR.2.2.2⟩ rfl hl.1 rfl (Nat.le_of_ble_eq_true rfl) dX0_deeds_23 (fun locs hL => ?_)
  have hS : va_S A s.heap _ locs := ⟨hS.1, hS.2.1, hL⟩
  refine W.widen (k := 200) (n := 1600) (Nat.le_of_ble_eq_true rfl) (Nat.le_of_ble_eq_true rfl) ?_
  have h := so_ h
  subst h
  exact W.iret hx hb hr (fun t ht hW => hQ _ _ _ t hM hS ht hW) hS.2.2 dX0_deeds_26
theorem cp_deeds_met (l : Launch) (Z : CZ) (Y : CY) (C : St) (sz : Nat) (r : (Int32 × St)) (h : cp_deeds C = some r) : Met l yX0_deeds (ws_ yX0_deeds cX0_deeds 1 (some .int)) cp_deeds_rm (va_Pc [.ref (cSa Z 0)] (cSx Z Y C sz)) (Qcw (some (.int r.1)) Z (va_A (cWs Z Y C) sz) r.2) 200 1600 (va_A (cWs Z Y C) sz) := by
  refine Met.ofW (cc := cX0_deeds) (maxL := 1) (ret := some .int) (by decide) rfl ?_
  intro p e s m args below meth c s₁ B hml hv
  obtain ⟨rfl, ⟨hsz, hv⟩, hE⟩ := hv
  subst hsz
  have hts := atoms_spec (ws := ws_ yX0_deeds cX0_deeds 1 (some .int)) B.pre
  have hts : ∀ w ∈ lw_all, w.before _ s = true := fun w h => hts w (List.mem_cons_of_mem _ h)
  have X : CCx p s m _ meth c cX0_deeds 1 (some .int) RX0 Z := ⟨⟨B.exec, B.bytes, B.returns, B.notSynchronized, hml, findClass_of_methodNamed B.named, hts⟩, hv.2⟩
  have hl := lv_entry [.ref (cSa Z 0)] (n := 1) (Nat.le_of_ble_eq_true rfl)
  rw [lg_entry_eq]
  generalize (lg_sl [.ref (cSa Z 0)] ++ List.replicate (1 - (lg_sl [.ref (cSa Z 0)]).length) Slot.unset).toArray = ls at hl ⊢
  exact cp_deeds_w0 X ⟨Nat.le_refl _, Nat.le_refl _, Nat.le_refl _, Nat.le_refl _⟩ (fun q h => Or.inr h) hE (fun Y H locs t hM hS ht hW => ⟨rfl, ⟨Y, by rw [ht]; exact hM, cKs.warm hW X.2⟩, hS.F ht⟩)  Y C _ _ ls (cPD.self hv.1) va_S.rf hl h

/-! SecondChances.isDeed(I)Z, on any state -/
def cp_isDeed_rm : Room := { frames := 12, cells := 200, slots := 1600, locals := 291 }
def cp_isDeed (x1 : Int32) (C : St) : Option (Int32 × St) :=
  bd2_ (cp_deeds C) fun v2 C1 =>
  bd_ (cf_in (x1.toInt64) (0 : Int64) ((v2 - (1 : Int32)).toInt64)) fun v3 =>
  if zb v3 = true then some (v3, C1) else none
set_option maxHeartbeats 4000000 in
theorem cp_isDeed_w0 {p : Program} {l : Launch} {e : Env} {R : Room} {s : State} {m : MethodId} {args : Array Value} {below : List Frame} {meth : Method} {c : Code} {Z : CZ} {A : Nat → Prop} {Qc : Array Value → State → Outcome → State → Prop} (X : CCx p s m args meth c cX0_isDeed 2 (some .boolean) RX0 Z) (hR : cp_isDeed_rm.frames ≤ R.frames ∧ cp_isDeed_rm.locals ≤ R.locals ∧ 200 ≤ R.cells ∧ 1600 ≤ R.slots) (hA : ∀ q, s.heap.size ≤ q → A q) (hE : cE Z A s s.heap) {r : (Int32 × St)} (hQ : ∀ (Y : CY) (H : Heap) (locs : List Loc) (t : State), cPD Z Y A r.2 H → va_S A s.heap H locs → t.heap = H → s.WarmedH t.vm → Qc args s (.returned (some (.int r.1))) t) (x1 : Int32) (Y : CY) (C : St) (H : Heap) (locs : List Loc) (ls : Array Slot) (hM : cPD Z Y A C H) (hS : va_S A s.heap H locs) (hl : lv_has ls 2 [(0, .ref (cSa Z 0)), (1, .int x1)]) (h : cp_isDeed x1 C = some r) : W p l e R s m args below meth c H locs 0 0 (MQ below Qc args s 200 1600 A) (F0 m 0 ls []) := by
  obtain ⟨⟨hx, hb, hr, hlocks, hml, hown, hts⟩, hK⟩ := id X
  unfold cp_isDeed at h
  refine lv_iload_n hx hb dX0_isDeed_0 rfl (lv_at hl 1 rfl) ?_
  refine lv_i2l hx hb dX0_isDeed_1 rfl ?_
  refine lv_lconst (v := 0) hx hb dX0_isDeed_2 (by decide) ?_
  refine lv_aload_n hx hb dX0_isDeed_3 rfl (lv_at hl 0 rfl) ?_
  obtain ⟨v2, C1, q_C1, h⟩ := bd2_e h
  refine p_callI (As := []) (rest := [.long (0 : Int64), .long (x1.toInt64)]) X hM hS hA hE (cp_deeds_met _ Z _ C _ (v2, C1) q_C1) (lw_V q630 q632 qs7 q79 q633) cf_deeds_hd ⟨rfl, rfl⟩ ⟨Nat.le_trans (m := cp_isDeed_rm.frames) (Nat.le_of_ble_eq_true rfl) hR.1, Nat.le_trans (m := cp_isDeed_rm.locals) (Nat.le_of_ble_eq_true rfl) hR.2.1⟩ ⟨Nat.le_trans (m := 200) (Nat.le_of_ble_eq_true rfl) hR.2.2.1, Nat.le_trans (m := 1600) (Nat.le_of_ble_eq_true rfl) hR.2.2.2⟩ rfl hl.1 rfl (Nat.le_of_ble_eq_true rfl) dX0_isDeed_4 (fun Y H locs hM hS => ?_)
  refine W.widen (k := 200) (n := 1600) (Nat.le_of_ble_eq_true rfl) (Nat.le_of_ble_eq_true rfl) ?_
  refine lv_iconst (v := 1) hx hb dX0_isDeed_7 (by decide) ?_
  refine lv_isub hx hb dX0_isDeed_8 ?_
  refine lv_i2l hx hb dX0_isDeed_9 rfl ?_
  obtain ⟨v3, q_v3, h⟩ := bd_e h
  refine s_roI (As := [.long (x1.toInt64), .long (0 : Int64), .long ((v2 - (1 : Int32)).toInt64)]) (rest := []) X.1 (cf_in_met _ (x1.toInt64) (0 : Int64) ((v2 - (1 : Int32)).toInt64) v3 q_v3) (lw_S q298 q299 q79 q300) cf_in_hd ⟨rfl, rfl⟩ ⟨Nat.le_trans (m := cp_isDeed_rm.frames) (Nat.le_of_ble_eq_true rfl) hR.1, Nat.le_trans (m := cp_isDeed_rm.locals) (Nat.le_of_ble_eq_true rfl) hR.2.1⟩ ⟨Nat.le_trans (m := 200) (Nat.le_of_ble_eq_true rfl) hR.2.2.1, Nat.le_trans (m := 1600) (Nat.le_of_ble_eq_true rfl) hR.2.2.2⟩ rfl hl.1 rfl (Nat.le_of_ble_eq_true rfl) dX0_isDeed_10 ?_
  by_cases c4 : zb v3 = true
  case neg => exact no_ (in_ c4 h)
  have h := ip_ c4 h
  have h := so_ h
  subst h
  exact W.zret hx hb hr (zb_n c4) (fun t ht hW => hQ _ _ _ t hM hS ht hW) hS.2.2 dX0_isDeed_13
theorem cp_isDeed_met (l : Launch) (Z : CZ) (Y : CY) (C : St) (sz : Nat) (x1 : Int32) (r : (Int32 × St)) (h : cp_isDeed x1 C = some r) : Met l yX0_isDeed (ws_ yX0_isDeed cX0_isDeed 2 (some .boolean)) cp_isDeed_rm (va_Pc [.ref (cSa Z 0), .int x1] (cSx Z Y C sz)) (Qcw (some (.int r.1)) Z (va_A (cWs Z Y C) sz) r.2) 200 1600 (va_A (cWs Z Y C) sz) := by
  refine Met.ofW (cc := cX0_isDeed) (maxL := 2) (ret := some .boolean) (by decide) rfl ?_
  intro p e s m args below meth c s₁ B hml hv
  obtain ⟨rfl, ⟨hsz, hv⟩, hE⟩ := hv
  subst hsz
  have hts := atoms_spec (ws := ws_ yX0_isDeed cX0_isDeed 2 (some .boolean)) B.pre
  have hts : ∀ w ∈ lw_all, w.before _ s = true := fun w h => hts w (List.mem_cons_of_mem _ h)
  have X : CCx p s m _ meth c cX0_isDeed 2 (some .boolean) RX0 Z := ⟨⟨B.exec, B.bytes, B.returns, B.notSynchronized, hml, findClass_of_methodNamed B.named, hts⟩, hv.2⟩
  have hl := lv_entry [.ref (cSa Z 0), .int x1] (n := 2) (Nat.le_of_ble_eq_true rfl)
  rw [lg_entry_eq]
  generalize (lg_sl [.ref (cSa Z 0), .int x1] ++ List.replicate (2 - (lg_sl [.ref (cSa Z 0), .int x1]).length) Slot.unset).toArray = ls at hl ⊢
  exact cp_isDeed_w0 X ⟨Nat.le_refl _, Nat.le_refl _, Nat.le_refl _, Nat.le_refl _⟩ (fun q h => Or.inr h) hE (fun Y H locs t hM hS ht hW => ⟨rfl, ⟨Y, by rw [ht]; exact hM, cKs.warm hW X.2⟩, hS.F ht⟩) x1 Y C _ _ ls (cPD.self hv.1) va_S.rf hl h

/-! SecondChances.ruleOf(II)I, on any state -/
def cp_ruleOf_rm : Room := { frames := 11, cells := 200, slots := 1600, locals := 271 }
def cp_ruleOf (x1 : Int32) (x2 : Int32) (C : St) : Option (Int32 × St) :=
  bd2_ (cp_read 1 C) fun v2 C1 =>
  if x2 = 0 then (al_ 4 (C1 44) x1 fun v9 =>
    some (v9, C1))
  else (if x2 = (1 : Int32) then (al_ 4 (C1 45) x1 fun v7 =>
      if v7 = 0 then (some ((0 : Int32), C1))
      else (some ((1 : Int32), C1)))
    else (al_ 4 (C1 46) x1 fun v5 =>
      if v5 = 0 then (some ((0 : Int32), C1))
      else (some ((1 : Int32), C1))))
set_option maxHeartbeats 4000000 in
theorem cp_ruleOf_w0 {p : Program} {l : Launch} {e : Env} {R : Room} {s : State} {m : MethodId} {args : Array Value} {below : List Frame} {meth : Method} {c : Code} {Z : CZ} {A : Nat → Prop} {Qc : Array Value → State → Outcome → State → Prop} (X : CCx p s m args meth c cX0_ruleOf 3 (some .int) RX0 Z) (hR : cp_ruleOf_rm.frames ≤ R.frames ∧ cp_ruleOf_rm.locals ≤ R.locals ∧ 200 ≤ R.cells ∧ 1600 ≤ R.slots) (hA : ∀ q, s.heap.size ≤ q → A q) (hE : cE Z A s s.heap) {r : (Int32 × St)} (hQ : ∀ (Y : CY) (H : Heap) (locs : List Loc) (t : State), cPD Z Y A r.2 H → va_S A s.heap H locs → t.heap = H → s.WarmedH t.vm → Qc args s (.returned (some (.int r.1))) t) (x1 : Int32) (x2 : Int32) (Y : CY) (C : St) (H : Heap) (locs : List Loc) (ls : Array Slot) (hM : cPD Z Y A C H) (hS : va_S A s.heap H locs) (hl : lv_has ls 3 [(0, .ref (cSa Z 0)), (1, .int x1), (2, .int x2)]) (h : cp_ruleOf x1 x2 C = some r) : W p l e R s m args below meth c H locs 0 0 (MQ below Qc args s 200 1600 A) (F0 m 0 ls []) := by
  obtain ⟨⟨hx, hb, hr, hlocks, hml, hown, hts⟩, hK⟩ := id X
  unfold cp_ruleOf at h
  refine lv_aload_n hx hb dX0_ruleOf_0 rfl (lv_at hl 0 rfl) ?_
  refine gc6 X hM dX0_ruleOf_1 ?_
  obtain ⟨v2, C1, q_C1, h⟩ := bd2_e h
  refine p_readU (q := 1) (rest := []) (x := ⟨RX4, "read", "()I"⟩) X hM hS hA hE (c_recvX1 X hM) q_C1 (lw_U q638 q639 q640 q378 q81 q382) rfl (by decide +kernel) ⟨Nat.le_trans (m := cp_ruleOf_rm.frames) (Nat.le_of_ble_eq_true rfl) hR.1, Nat.le_trans (m := cp_ruleOf_rm.locals) (Nat.le_of_ble_eq_true rfl) hR.2.1⟩ ⟨Nat.le_trans (m := 200) (Nat.le_of_ble_eq_true rfl) hR.2.2.1, Nat.le_trans (m := 1600) (Nat.le_of_ble_eq_true rfl) hR.2.2.2⟩ hl.1 (Nat.le_of_ble_eq_true rfl) dX0_ruleOf_4 (fun Y H locs hM hS => ?_)
  refine W.widen (k := 200) (n := 1600) (Nat.le_of_ble_eq_true rfl) (Nat.le_of_ble_eq_true rfl) ?_
  refine lv_pop hx hb dX0_ruleOf_7 rfl ?_
  refine lv_iload_n hx hb dX0_ruleOf_8 rfl (lv_at hl 2 rfl) ?_
  refine lv_if_ne (tgt := 24) hx hb dX0_ruleOf_9 (by decide) (fun c3 => ?_) (fun c3 => ?_)
  · have h := in_ c3 h
    refine lv_iload_n hx hb dX0_ruleOf_24 rfl (lv_at hl 2 rfl) ?_
    refine lv_iconst (v := 1) hx hb dX0_ruleOf_25 (by decide) ?_
    refine lv_icmp_ne (tgt := 44) hx hb dX0_ruleOf_26 (by decide) (fun c4 => ?_) (fun c4 => ?_)
    · have h := in_ c4 h
      refine lv_aload_n hx hb dX0_ruleOf_44 rfl (lv_at hl 0 rfl) ?_
      refine gc6 X hM dX0_ruleOf_45 ?_
      refine gr7 X hM dX0_ruleOf_48 ?_
      refine lv_iload_n hx hb dX0_ruleOf_51 rfl (lv_at hl 1 rfl) ?_
      obtain ⟨i_v5, h⟩ := al_e h
      refine c_zald X hM (k := 46) (cHs_S (by decide)) (fun _ _ _ => rfl) (cAr_s (by decide)) i_v5 dX0_ruleOf_52 (fun v5 e_v5 => ?_)
      have h := h v5 e_v5
      refine lv_if_eq (tgt := 60) hx hb dX0_ruleOf_53 (by decide) (fun c6 => ?_) (fun c6 => ?_)
      · have h := ip_ c6 h
        refine lv_iconst (v := 0) hx hb dX0_ruleOf_60 (by decide) ?_
        have h := so_ h
        subst h
        exact W.iret hx hb hr (fun t ht hW => hQ _ _ _ t hM hS ht hW) hS.2.2 dX0_ruleOf_61
      · have h := in_ c6 h
        refine lv_iconst (v := 1) hx hb dX0_ruleOf_56 (by decide) ?_
        refine lv_goto (tgt := 61) hx hb dX0_ruleOf_57 (by decide) ?_
        have h := so_ h
        subst h
        exact W.iret hx hb hr (fun t ht hW => hQ _ _ _ t hM hS ht hW) hS.2.2 dX0_ruleOf_61
    · have h := ip_ c4 h
      refine lv_aload_n hx hb dX0_ruleOf_29 rfl (lv_at hl 0 rfl) ?_
      refine gc6 X hM dX0_ruleOf_30 ?_
      refine gr6 X hM dX0_ruleOf_33 ?_
      refine lv_iload_n hx hb dX0_ruleOf_36 rfl (lv_at hl 1 rfl) ?_
      obtain ⟨i_v7, h⟩ := al_e h
      refine c_zald X hM (k := 45) (cHs_S (by decide)) (fun _ _ _ => rfl) (cAr_s (by decide)) i_v7 dX0_ruleOf_37 (fun v7 e_v7 => ?_)
      have h := h v7 e_v7
      refine lv_if_eq (tgt := 60) hx hb dX0_ruleOf_38 (by decide) (fun c8 => ?_) (fun c8 => ?_)
      · have h := ip_ c8 h
        refine lv_iconst (v := 0) hx hb dX0_ruleOf_60 (by decide) ?_
        have h := so_ h
        subst h
        exact W.iret hx hb hr (fun t ht hW => hQ _ _ _ t hM hS ht hW) hS.2.2 dX0_ruleOf_61
      · have h := in_ c8 h
        refine lv_goto (tgt := 56) hx hb dX0_ruleOf_41 (by decide) ?_
        refine lv_iconst (v := 1) hx hb dX0_ruleOf_56 (by decide) ?_
        refine lv_goto (tgt := 61) hx hb dX0_ruleOf_57 (by decide) ?_
        have h := so_ h
        subst h
        exact W.iret hx hb hr (fun t ht hW => hQ _ _ _ t hM hS ht hW) hS.2.2 dX0_ruleOf_61
  · have h := ip_ c3 h
    refine lv_aload_n hx hb dX0_ruleOf_12 rfl (lv_at hl 0 rfl) ?_
    refine gc6 X hM dX0_ruleOf_13 ?_
    refine gr5 X hM dX0_ruleOf_16 ?_
    refine lv_iload_n hx hb dX0_ruleOf_19 rfl (lv_at hl 1 rfl) ?_
    obtain ⟨i_v9, h⟩ := al_e h
    refine c_ald X hM (k := 44) (cHs_S (by decide)) (fun _ _ _ => rfl) (cAr_s (by decide)) i_v9 dX0_ruleOf_20 (fun v9 e_v9 => ?_)
    have h := h v9 e_v9
    refine lv_goto (tgt := 61) hx hb dX0_ruleOf_21 (by decide) ?_
    have h := so_ h
    subst h
    exact W.iret hx hb hr (fun t ht hW => hQ _ _ _ t hM hS ht hW) hS.2.2 dX0_ruleOf_61
theorem cp_ruleOf_met (l : Launch) (Z : CZ) (Y : CY) (C : St) (sz : Nat) (x1 : Int32) (x2 : Int32) (r : (Int32 × St)) (h : cp_ruleOf x1 x2 C = some r) : Met l yX0_ruleOf (ws_ yX0_ruleOf cX0_ruleOf 3 (some .int)) cp_ruleOf_rm (va_Pc [.ref (cSa Z 0), .int x1, .int x2] (cSx Z Y C sz)) (Qcw (some (.int r.1)) Z (va_A (cWs Z Y C) sz) r.2) 200 1600 (va_A (cWs Z Y C) sz) := by
  refine Met.ofW (cc := cX0_ruleOf) (maxL := 3) (ret := some .int) (by decide) rfl ?_
  intro p e s m args below meth c s₁ B hml hv
  obtain ⟨rfl, ⟨hsz, hv⟩, hE⟩ := hv
  subst hsz
  have hts := atoms_spec (ws := ws_ yX0_ruleOf cX0_ruleOf 3 (some .int)) B.pre
  have hts : ∀ w ∈ lw_all, w.before _ s = true := fun w h => hts w (List.mem_cons_of_mem _ h)
  have X : CCx p s m _ meth c cX0_ruleOf 3 (some .int) RX0 Z := ⟨⟨B.exec, B.bytes, B.returns, B.notSynchronized, hml, findClass_of_methodNamed B.named, hts⟩, hv.2⟩
  have hl := lv_entry [.ref (cSa Z 0), .int x1, .int x2] (n := 3) (Nat.le_of_ble_eq_true rfl)
  rw [lg_entry_eq]
  generalize (lg_sl [.ref (cSa Z 0), .int x1, .int x2] ++ List.replicate (3 - (lg_sl [.ref (cSa Z 0), .int x1, .int x2]).length) Slot.unset).toArray = ls at hl ⊢
  exact cp_ruleOf_w0 X ⟨Nat.le_refl _, Nat.le_refl _, Nat.le_refl _, Nat.le_refl _⟩ (fun q h => Or.inr h) hE (fun Y H locs t hM hS ht hW => ⟨rfl, ⟨Y, by rw [ht]; exact hM, cKs.warm hW X.2⟩, hS.F ht⟩) x1 x2 Y C _ _ ls (cPD.self hv.1) va_S.rf hl h

/-! SecondChances.askedOf(II)I, on any state -/
def cp_askedOf_rm : Room := { frames := 12, cells := 200, slots := 1600, locals := 291 }
def cp_askedOf (x1 : Int32) (x2 : Int32) (C : St) : Option (Int32 × St) :=
  bd2_ (cp_deeds C) fun v2 C1 =>
  bd_ (cf_askedOf_b11 C1 (cf_askedOf_l5 C1 2999) x1 x2 (0 : Int32) (0 : Int32) v2 (0 : Int32)) fun rv3 => some (rv3, C1)
set_option maxHeartbeats 4000000 in
theorem cp_askedOf_w0 {p : Program} {l : Launch} {e : Env} {R : Room} {s : State} {m : MethodId} {args : Array Value} {below : List Frame} {meth : Method} {c : Code} {Z : CZ} {A : Nat → Prop} {Qc : Array Value → State → Outcome → State → Prop} (X : CCx p s m args meth c cX0_askedOf 5 (some .int) RX0 Z) (hR : cp_askedOf_rm.frames ≤ R.frames ∧ cp_askedOf_rm.locals ≤ R.locals ∧ 200 ≤ R.cells ∧ 1600 ≤ R.slots) (hA : ∀ q, s.heap.size ≤ q → A q) (hE : cE Z A s s.heap) {r : (Int32 × St)} (hQ : ∀ (Y : CY) (H : Heap) (locs : List Loc) (t : State), cPD Z Y A r.2 H → va_S A s.heap H locs → t.heap = H → s.WarmedH t.vm → Qc args s (.returned (some (.int r.1))) t) (x1 : Int32) (x2 : Int32) (Y : CY) (C : St) (H : Heap) (locs : List Loc) (ls : Array Slot) (hM : cPD Z Y A C H) (hS : va_S A s.heap H locs) (hl : lv_has ls 5 [(0, .ref (cSa Z 0)), (1, .int x1), (2, .int x2)]) (h : cp_askedOf x1 x2 C = some r) : W p l e R s m args below meth c H locs 0 0 (MQ below Qc args s 200 1600 A) (F0 m 0 ls []) := by
  obtain ⟨⟨hx, hb, hr, hlocks, hml, hown, hts⟩, hK⟩ := id X
  unfold cp_askedOf at h
  refine lv_iconst (v := 0) hx hb dX0_askedOf_0 (by decide) ?_
  refine lv_istore_n (lv' := [(3, .int (0 : Int32)), (0, .ref (cSa Z 0)), (1, .int x1), (2, .int x2)]) hx hb dX0_askedOf_1 rfl hl (by decide) rfl (fun ls hl => ?_)
  refine lv_iconst (v := 0) hx hb dX0_askedOf_2 (by decide) ?_
  refine lv_istore (lv' := [(4, .int (0 : Int32)), (3, .int (0 : Int32)), (0, .ref (cSa Z 0)), (1, .int x1), (2, .int x2)]) hx hb dX0_askedOf_3 hl (by decide) rfl (fun ls hl => ?_)
  refine lv_iload hx hb dX0_askedOf_5 (lv_at hl 0 rfl) ?_
  refine lv_aload_n hx hb dX0_askedOf_7 rfl (lv_at hl 2 rfl) ?_
  obtain ⟨v2, C1, q_C1, h⟩ := bd2_e h
  refine p_callI (As := []) (rest := [.int (0 : Int32)]) X hM hS hA hE (cp_deeds_met _ Z _ C _ (v2, C1) q_C1) (lw_V q630 q632 qs7 q79 q633) cf_deeds_hd ⟨rfl, rfl⟩ ⟨Nat.le_trans (m := cp_askedOf_rm.frames) (Nat.le_of_ble_eq_true rfl) hR.1, Nat.le_trans (m := cp_askedOf_rm.locals) (Nat.le_of_ble_eq_true rfl) hR.2.1⟩ ⟨Nat.le_trans (m := 200) (Nat.le_of_ble_eq_true rfl) hR.2.2.1, Nat.le_trans (m := 1600) (Nat.le_of_ble_eq_true rfl) hR.2.2.2⟩ rfl hl.1 rfl (Nat.le_of_ble_eq_true rfl) dX0_askedOf_8 (fun Y H locs hM hS => ?_)
  refine W.widen (k := 200) (n := 1600) (Nat.le_of_ble_eq_true rfl) (Nat.le_of_ble_eq_true rfl) ?_
  obtain ⟨rv3, q_rv3, h⟩ := bd_e h
  have h := so_ h
  subst h
  exact cf_askedOf_w11 X hM ⟨Nat.le_trans (m := cp_askedOf_rm.frames) (Nat.le_of_ble_eq_true rfl) hR.1, Nat.le_trans (m := cp_askedOf_rm.locals) (Nat.le_of_ble_eq_true rfl) hR.2.1, hR.2.2.1, hR.2.2.2⟩ (cPD.fr hM) (fun t ht hW => hQ _ _ _ t hM hS ht hW) (cf_askedOf_lw5 X hM ⟨Nat.le_trans (m := cp_askedOf_rm.frames) (Nat.le_of_ble_eq_true rfl) hR.1, Nat.le_trans (m := cp_askedOf_rm.locals) (Nat.le_of_ble_eq_true rfl) hR.2.1, hR.2.2.1, hR.2.2.2⟩ (cPD.fr hM) (fun t ht hW => hQ _ _ _ t hM hS ht hW) 2999) x1 x2 (0 : Int32) (0 : Int32) v2 (0 : Int32) _ ls hS.2.2 (lv_sub hl [2, 3, 4, 1, 0] rfl) q_rv3
theorem cp_askedOf_met (l : Launch) (Z : CZ) (Y : CY) (C : St) (sz : Nat) (x1 : Int32) (x2 : Int32) (r : (Int32 × St)) (h : cp_askedOf x1 x2 C = some r) : Met l yX0_askedOf (ws_ yX0_askedOf cX0_askedOf 5 (some .int)) cp_askedOf_rm (va_Pc [.ref (cSa Z 0), .int x1, .int x2] (cSx Z Y C sz)) (Qcw (some (.int r.1)) Z (va_A (cWs Z Y C) sz) r.2) 200 1600 (va_A (cWs Z Y C) sz) := by
  refine Met.ofW (cc := cX0_askedOf) (maxL := 5) (ret := some .int) (by decide) rfl ?_
  intro p e s m args below meth c s₁ B hml hv
  obtain ⟨rfl, ⟨hsz, hv⟩, hE⟩ := hv
  subst hsz
  have hts := atoms_spec (ws := ws_ yX0_askedOf cX0_askedOf 5 (some .int)) B.pre
  have hts : ∀ w ∈ lw_all, w.before _ s = true := fun w h => hts w (List.mem_cons_of_mem _ h)
  have X : CCx p s m _ meth c cX0_askedOf 5 (some .int) RX0 Z := ⟨⟨B.exec, B.bytes, B.returns, B.notSynchronized, hml, findClass_of_methodNamed B.named, hts⟩, hv.2⟩
  have hl := lv_entry [.ref (cSa Z 0), .int x1, .int x2] (n := 5) (Nat.le_of_ble_eq_true rfl)
  rw [lg_entry_eq]
  generalize (lg_sl [.ref (cSa Z 0), .int x1, .int x2] ++ List.replicate (5 - (lg_sl [.ref (cSa Z 0), .int x1, .int x2]).length) Slot.unset).toArray = ls at hl ⊢
  exact cp_askedOf_w0 X ⟨Nat.le_refl _, Nat.le_refl _, Nat.le_refl _, Nat.le_refl _⟩ (fun q h => Or.inr h) hE (fun Y H locs t hM hS ht hW => ⟨rfl, ⟨Y, by rw [ht]; exact hM, cKs.warm hW X.2⟩, hS.F ht⟩) x1 x2 Y C _ _ ls (cPD.self hv.1) va_S.rf hl h

/-! SecondChances.crowdOf(I)I, on any state -/
def cp_crowdOf_rm : Room := { frames := 13, cells := 200, slots := 1600, locals := 315 }
def cp_crowdOf (x1 : Int32) (C : St) : Option (Int32 × St) :=
  if (8 : Int32) ≤ (0 : Int32) then (none)
  else (if (8 : Int32) ≤ (0 : Int32) then (none)
    else (bd2_ (cp_askedOf (0 : Int32) (0 : Int32) C) fun v4 C3 =>
      bd_ (cf_crowdOf_b35 C3 (cf_crowdOf_l10 C3 2999) (cf_crowdOf_l20 C3 (cf_crowdOf_l10 C3 2999) 2999) x1 (-1 : Int32) (-1 : Int32) (0 : Int32) (0 : Int32) (0 : Int32) v4) fun rv5 => some (rv5, C3)))
set_option maxHeartbeats 4000000 in
theorem cp_crowdOf_w0 {p : Program} {l : Launch} {e : Env} {R : Room} {s : State} {m : MethodId} {args : Array Value} {below : List Frame} {meth : Method} {c : Code} {Z : CZ} {A : Nat → Prop} {Qc : Array Value → State → Outcome → State → Prop} (X : CCx p s m args meth c cX0_crowdOf 7 (some .int) RX0 Z) (hR : cp_crowdOf_rm.frames ≤ R.frames ∧ cp_crowdOf_rm.locals ≤ R.locals ∧ 200 ≤ R.cells ∧ 1600 ≤ R.slots) (hA : ∀ q, s.heap.size ≤ q → A q) (hE : cE Z A s s.heap) {r : (Int32 × St)} (hQ : ∀ (Y : CY) (H : Heap) (locs : List Loc) (t : State), cPD Z Y A r.2 H → va_S A s.heap H locs → t.heap = H → s.WarmedH t.vm → Qc args s (.returned (some (.int r.1))) t) (x1 : Int32) (Y : CY) (C : St) (H : Heap) (locs : List Loc) (ls : Array Slot) (hM : cPD Z Y A C H) (hS : va_S A s.heap H locs) (hl : lv_has ls 7 [(0, .ref (cSa Z 0)), (1, .int x1)]) (h : cp_crowdOf x1 C = some r) : W p l e R s m args below meth c H locs 0 0 (MQ below Qc args s 200 1600 A) (F0 m 0 ls []) := by
  obtain ⟨⟨hx, hb, hr, hlocks, hml, hown, hts⟩, hK⟩ := id X
  unfold cp_crowdOf at h
  refine lv_iconst (v := -1) hx hb dX0_crowdOf_0 (by decide) ?_
  refine lv_istore_n (lv' := [(2, .int (-1 : Int32)), (0, .ref (cSa Z 0)), (1, .int x1)]) hx hb dX0_crowdOf_1 rfl hl (by decide) rfl (fun ls hl => ?_)
  refine lv_iconst (v := -1) hx hb dX0_crowdOf_2 (by decide) ?_
  refine lv_istore_n (lv' := [(3, .int (-1 : Int32)), (2, .int (-1 : Int32)), (0, .ref (cSa Z 0)), (1, .int x1)]) hx hb dX0_crowdOf_3 rfl hl (by decide) rfl (fun ls hl => ?_)
  refine lv_iconst (v := 0) hx hb dX0_crowdOf_4 (by decide) ?_
  refine lv_istore (lv' := [(4, .int (0 : Int32)), (3, .int (-1 : Int32)), (2, .int (-1 : Int32)), (0, .ref (cSa Z 0)), (1, .int x1)]) hx hb dX0_crowdOf_5 hl (by decide) rfl (fun ls hl => ?_)
  refine lv_iconst (v := 0) hx hb dX0_crowdOf_7 (by decide) ?_
  refine lv_istore (lv' := [(5, .int (0 : Int32)), (4, .int (0 : Int32)), (3, .int (-1 : Int32)), (2, .int (-1 : Int32)), (0, .ref (cSa Z 0)), (1, .int x1)]) hx hb dX0_crowdOf_8 hl (by decide) rfl (fun ls hl => ?_)
  refine lv_iload hx hb dX0_crowdOf_10 (lv_at hl 0 rfl) ?_
  refine lv_bipush (v := 8) hx hb dX0_crowdOf_12 (by decide) ?_
  refine lv_icmp_ge (tgt := 68) hx hb dX0_crowdOf_14 (by decide) (fun c1 => ?_) (fun c1 => ?_)
  · have h := ip_ c1 h
    exact no_ h
  · have h := in_ c1 h
    refine lv_iconst (v := 0) hx hb dX0_crowdOf_17 (by decide) ?_
    refine lv_istore (lv' := [(6, .int (0 : Int32)), (5, .int (0 : Int32)), (4, .int (0 : Int32)), (3, .int (-1 : Int32)), (2, .int (-1 : Int32)), (0, .ref (cSa Z 0)), (1, .int x1)]) hx hb dX0_crowdOf_18 hl (by decide) rfl (fun ls hl => ?_)
    refine lv_iload hx hb dX0_crowdOf_20 (lv_at hl 0 rfl) ?_
    refine lv_bipush (v := 8) hx hb dX0_crowdOf_22 (by decide) ?_
    refine lv_icmp_ge (tgt := 62) hx hb dX0_crowdOf_24 (by decide) (fun c2 => ?_) (fun c2 => ?_)
    · have h := ip_ c2 h
      exact no_ h
    · have h := in_ c2 h
      refine lv_aload_n hx hb dX0_crowdOf_27 rfl (lv_at hl 5 rfl) ?_
      refine lv_iload hx hb dX0_crowdOf_28 (lv_at hl 1 rfl) ?_
      refine lv_iload hx hb dX0_crowdOf_30 (lv_at hl 0 rfl) ?_
      obtain ⟨v4, C3, q_C3, h⟩ := bd2_e h
      refine p_callI (As := [.int (0 : Int32), .int (0 : Int32)]) (rest := []) X hM hS hA hE (cp_askedOf_met _ Z _ C _ (0 : Int32) (0 : Int32) (v4, C3) q_C3) (lw_V q794 q796 qs29 q79 q797) cf_askedOf_hd ⟨rfl, rfl⟩ ⟨Nat.le_trans (m := cp_crowdOf_rm.frames) (Nat.le_of_ble_eq_true rfl) hR.1, Nat.le_trans (m := cp_crowdOf_rm.locals) (Nat.le_of_ble_eq_true rfl) hR.2.1⟩ ⟨Nat.le_trans (m := 200) (Nat.le_of_ble_eq_true rfl) hR.2.2.1, Nat.le_trans (m := 1600) (Nat.le_of_ble_eq_true rfl) hR.2.2.2⟩ rfl hl.1 rfl (Nat.le_of_ble_eq_true rfl) dX0_crowdOf_32 (fun Y H locs hM hS => ?_)
      refine W.widen (k := 200) (n := 1600) (Nat.le_of_ble_eq_true rfl) (Nat.le_of_ble_eq_true rfl) ?_
      obtain ⟨rv5, q_rv5, h⟩ := bd_e h
      have h := so_ h
      subst h
      exact cf_crowdOf_w35 X hM ⟨Nat.le_trans (m := cp_crowdOf_rm.frames) (Nat.le_of_ble_eq_true rfl) hR.1, Nat.le_trans (m := cp_crowdOf_rm.locals) (Nat.le_of_ble_eq_true rfl) hR.2.1, hR.2.2.1, hR.2.2.2⟩ (cPD.fr hM) (fun t ht hW => hQ _ _ _ t hM hS ht hW) (cf_crowdOf_lw10 X hM ⟨Nat.le_trans (m := cp_crowdOf_rm.frames) (Nat.le_of_ble_eq_true rfl) hR.1, Nat.le_trans (m := cp_crowdOf_rm.locals) (Nat.le_of_ble_eq_true rfl) hR.2.1, hR.2.2.1, hR.2.2.2⟩ (cPD.fr hM) (fun t ht hW => hQ _ _ _ t hM hS ht hW) 2999) (cf_crowdOf_lw20 X hM ⟨Nat.le_trans (m := cp_crowdOf_rm.frames) (Nat.le_of_ble_eq_true rfl) hR.1, Nat.le_trans (m := cp_crowdOf_rm.locals) (Nat.le_of_ble_eq_true rfl) hR.2.1, hR.2.2.1, hR.2.2.2⟩ (cPD.fr hM) (fun t ht hW => hQ _ _ _ t hM hS ht hW) (cf_crowdOf_lw10 X hM ⟨Nat.le_trans (m := cp_crowdOf_rm.frames) (Nat.le_of_ble_eq_true rfl) hR.1, Nat.le_trans (m := cp_crowdOf_rm.locals) (Nat.le_of_ble_eq_true rfl) hR.2.1, hR.2.2.1, hR.2.2.2⟩ (cPD.fr hM) (fun t ht hW => hQ _ _ _ t hM hS ht hW) 2999) 2999) x1 (-1 : Int32) (-1 : Int32) (0 : Int32) (0 : Int32) (0 : Int32) v4 _ ls hS.2.2 (lv_sub hl [5, 6, 4, 3, 2, 1, 0] rfl) q_rv5
theorem cp_crowdOf_met (l : Launch) (Z : CZ) (Y : CY) (C : St) (sz : Nat) (x1 : Int32) (r : (Int32 × St)) (h : cp_crowdOf x1 C = some r) : Met l yX0_crowdOf (ws_ yX0_crowdOf cX0_crowdOf 7 (some .int)) cp_crowdOf_rm (va_Pc [.ref (cSa Z 0), .int x1] (cSx Z Y C sz)) (Qcw (some (.int r.1)) Z (va_A (cWs Z Y C) sz) r.2) 200 1600 (va_A (cWs Z Y C) sz) := by
  refine Met.ofW (cc := cX0_crowdOf) (maxL := 7) (ret := some .int) (by decide) rfl ?_
  intro p e s m args below meth c s₁ B hml hv
  obtain ⟨rfl, ⟨hsz, hv⟩, hE⟩ := hv
  subst hsz
  have hts := atoms_spec (ws := ws_ yX0_crowdOf cX0_crowdOf 7 (some .int)) B.pre
  have hts : ∀ w ∈ lw_all, w.before _ s = true := fun w h => hts w (List.mem_cons_of_mem _ h)
  have X : CCx p s m _ meth c cX0_crowdOf 7 (some .int) RX0 Z := ⟨⟨B.exec, B.bytes, B.returns, B.notSynchronized, hml, findClass_of_methodNamed B.named, hts⟩, hv.2⟩
  have hl := lv_entry [.ref (cSa Z 0), .int x1] (n := 7) (Nat.le_of_ble_eq_true rfl)
  rw [lg_entry_eq]
  generalize (lg_sl [.ref (cSa Z 0), .int x1] ++ List.replicate (7 - (lg_sl [.ref (cSa Z 0), .int x1]).length) Slot.unset).toArray = ls at hl ⊢
  exact cp_crowdOf_w0 X ⟨Nat.le_refl _, Nat.le_refl _, Nat.le_refl _, Nat.le_refl _⟩ (fun q h => Or.inr h) hE (fun Y H locs t hM hS ht hW => ⟨rfl, ⟨Y, by rw [ht]; exact hM, cKs.warm hW X.2⟩, hS.F ht⟩) x1 Y C _ _ ls (cPD.self hv.1) va_S.rf hl h

/-! SecondChances.bestNow()I, on any state -/
def cp_bestNow_rm : Room := { frames := 12, cells := 200, slots := 1600, locals := 291 }
def cp_bestNow (C : St) : Option (Int32 × St) :=
  bd2_ (cp_deeds C) fun v2 C1 =>
  bd_ (cf_bestNow_b11 C1 (cf_bestNow_l6 C1 2999) (-1 : Int32) (0 : Int32) (0 : Int32) v2 (0 : Int32)) fun rv3 => some (rv3, C1)
set_option maxHeartbeats 4000000 in
theorem cp_bestNow_w0 {p : Program} {l : Launch} {e : Env} {R : Room} {s : State} {m : MethodId} {args : Array Value} {below : List Frame} {meth : Method} {c : Code} {Z : CZ} {A : Nat → Prop} {Qc : Array Value → State → Outcome → State → Prop} (X : CCx p s m args meth c cX0_bestNow 5 (some .int) RX0 Z) (hR : cp_bestNow_rm.frames ≤ R.frames ∧ cp_bestNow_rm.locals ≤ R.locals ∧ 200 ≤ R.cells ∧ 1600 ≤ R.slots) (hA : ∀ q, s.heap.size ≤ q → A q) (hE : cE Z A s s.heap) {r : (Int32 × St)} (hQ : ∀ (Y : CY) (H : Heap) (locs : List Loc) (t : State), cPD Z Y A r.2 H → va_S A s.heap H locs → t.heap = H → s.WarmedH t.vm → Qc args s (.returned (some (.int r.1))) t) (Y : CY) (C : St) (H : Heap) (locs : List Loc) (ls : Array Slot) (hM : cPD Z Y A C H) (hS : va_S A s.heap H locs) (hl : lv_has ls 5 [(0, .ref (cSa Z 0))]) (h : cp_bestNow C = some r) : W p l e R s m args below meth c H locs 0 0 (MQ below Qc args s 200 1600 A) (F0 m 0 ls []) := by
  obtain ⟨⟨hx, hb, hr, hlocks, hml, hown, hts⟩, hK⟩ := id X
  unfold cp_bestNow at h
  refine lv_iconst (v := -1) hx hb dX0_bestNow_0 (by decide) ?_
  refine lv_istore_n (lv' := [(1, .int (-1 : Int32)), (0, .ref (cSa Z 0))]) hx hb dX0_bestNow_1 rfl hl (by decide) rfl (fun ls hl => ?_)
  refine lv_iconst (v := 0) hx hb dX0_bestNow_2 (by decide) ?_
  refine lv_istore_n (lv' := [(2, .int (0 : Int32)), (1, .int (-1 : Int32)), (0, .ref (cSa Z 0))]) hx hb dX0_bestNow_3 rfl hl (by decide) rfl (fun ls hl => ?_)
  refine lv_iconst (v := 0) hx hb dX0_bestNow_4 (by decide) ?_
  refine lv_istore_n (lv' := [(3, .int (0 : Int32)), (2, .int (0 : Int32)), (1, .int (-1 : Int32)), (0, .ref (cSa Z 0))]) hx hb dX0_bestNow_5 rfl hl (by decide) rfl (fun ls hl => ?_)
  refine lv_iload_n hx hb dX0_bestNow_6 rfl (lv_at hl 0 rfl) ?_
  refine lv_aload_n hx hb dX0_bestNow_7 rfl (lv_at hl 3 rfl) ?_
  obtain ⟨v2, C1, q_C1, h⟩ := bd2_e h
  refine p_callI (As := []) (rest := [.int (0 : Int32)]) X hM hS hA hE (cp_deeds_met _ Z _ C _ (v2, C1) q_C1) (lw_V q630 q632 qs7 q79 q633) cf_deeds_hd ⟨rfl, rfl⟩ ⟨Nat.le_trans (m := cp_bestNow_rm.frames) (Nat.le_of_ble_eq_true rfl) hR.1, Nat.le_trans (m := cp_bestNow_rm.locals) (Nat.le_of_ble_eq_true rfl) hR.2.1⟩ ⟨Nat.le_trans (m := 200) (Nat.le_of_ble_eq_true rfl) hR.2.2.1, Nat.le_trans (m := 1600) (Nat.le_of_ble_eq_true rfl) hR.2.2.2⟩ rfl hl.1 rfl (Nat.le_of_ble_eq_true rfl) dX0_bestNow_8 (fun Y H locs hM hS => ?_)
  refine W.widen (k := 200) (n := 1600) (Nat.le_of_ble_eq_true rfl) (Nat.le_of_ble_eq_true rfl) ?_
  obtain ⟨rv3, q_rv3, h⟩ := bd_e h
  have h := so_ h
  subst h
  exact cf_bestNow_w11 X hM ⟨Nat.le_trans (m := cp_bestNow_rm.frames) (Nat.le_of_ble_eq_true rfl) hR.1, Nat.le_trans (m := cp_bestNow_rm.locals) (Nat.le_of_ble_eq_true rfl) hR.2.1, hR.2.2.1, hR.2.2.2⟩ (cPD.fr hM) (fun t ht hW => hQ _ _ _ t hM hS ht hW) (cf_bestNow_lw6 X hM ⟨Nat.le_trans (m := cp_bestNow_rm.frames) (Nat.le_of_ble_eq_true rfl) hR.1, Nat.le_trans (m := cp_bestNow_rm.locals) (Nat.le_of_ble_eq_true rfl) hR.2.1, hR.2.2.1, hR.2.2.2⟩ (cPD.fr hM) (fun t ht hW => hQ _ _ _ t hM hS ht hW) 2999) (-1 : Int32) (0 : Int32) (0 : Int32) v2 (0 : Int32) _ ls hS.2.2 (lv_sub hl [3, 2, 1, 0] rfl) q_rv3
theorem cp_bestNow_met (l : Launch) (Z : CZ) (Y : CY) (C : St) (sz : Nat) (r : (Int32 × St)) (h : cp_bestNow C = some r) : Met l yX0_bestNow (ws_ yX0_bestNow cX0_bestNow 5 (some .int)) cp_bestNow_rm (va_Pc [.ref (cSa Z 0)] (cSx Z Y C sz)) (Qcw (some (.int r.1)) Z (va_A (cWs Z Y C) sz) r.2) 200 1600 (va_A (cWs Z Y C) sz) := by
  refine Met.ofW (cc := cX0_bestNow) (maxL := 5) (ret := some .int) (by decide) rfl ?_
  intro p e s m args below meth c s₁ B hml hv
  obtain ⟨rfl, ⟨hsz, hv⟩, hE⟩ := hv
  subst hsz
  have hts := atoms_spec (ws := ws_ yX0_bestNow cX0_bestNow 5 (some .int)) B.pre
  have hts : ∀ w ∈ lw_all, w.before _ s = true := fun w h => hts w (List.mem_cons_of_mem _ h)
  have X : CCx p s m _ meth c cX0_bestNow 5 (some .int) RX0 Z := ⟨⟨B.exec, B.bytes, B.returns, B.notSynchronized, hml, findClass_of_methodNamed B.named, hts⟩, hv.2⟩
  have hl := lv_entry [.ref (cSa Z 0)] (n := 5) (Nat.le_of_ble_eq_true rfl)
  rw [lg_entry_eq]
  generalize (lg_sl [.ref (cSa Z 0)] ++ List.replicate (5 - (lg_sl [.ref (cSa Z 0)]).length) Slot.unset).toArray = ls at hl ⊢
  exact cp_bestNow_w0 X ⟨Nat.le_refl _, Nat.le_refl _, Nat.le_refl _, Nat.le_refl _⟩ (fun q h => Or.inr h) hE (fun Y H locs t hM hS ht hW => ⟨rfl, ⟨Y, by rw [ht]; exact hM, cKs.warm hW X.2⟩, hS.F ht⟩)  Y C _ _ ls (cPD.self hv.1) va_S.rf hl h

/-! SecondChances.regretsOf(II)J, on any state -/
def cp_regretsOf_rm : Room := { frames := 102, cells := 200, slots := 1600, locals := 2347 }
def cp_regretsOf (x1 : Int32) (x2 : Int32) (C : St) : Option (Int64 × St) :=
  bd2_ (cp_deeds C) fun v2 C1 =>
  bd_ (cf_regretsOf_b11 C1 (cf_regretsOf_l5 C1 2999) x1 x2 (0 : Int32) (0 : Int32) v2 (0 : Int32)) fun rv3 => some (rv3, C1)
set_option maxHeartbeats 4000000 in
theorem cp_regretsOf_w0 {p : Program} {l : Launch} {e : Env} {R : Room} {s : State} {m : MethodId} {args : Array Value} {below : List Frame} {meth : Method} {c : Code} {Z : CZ} {A : Nat → Prop} {Qc : Array Value → State → Outcome → State → Prop} (X : CCx p s m args meth c cX0_regretsOf 5 (some .long) RX0 Z) (hR : cp_regretsOf_rm.frames ≤ R.frames ∧ cp_regretsOf_rm.locals ≤ R.locals ∧ 200 ≤ R.cells ∧ 1600 ≤ R.slots) (hA : ∀ q, s.heap.size ≤ q → A q) (hE : cE Z A s s.heap) {r : (Int64 × St)} (hQ : ∀ (Y : CY) (H : Heap) (locs : List Loc) (t : State), cPD Z Y A r.2 H → va_S A s.heap H locs → t.heap = H → s.WarmedH t.vm → Qc args s (.returned (some (.long r.1))) t) (x1 : Int32) (x2 : Int32) (Y : CY) (C : St) (H : Heap) (locs : List Loc) (ls : Array Slot) (hM : cPD Z Y A C H) (hS : va_S A s.heap H locs) (hl : lv_has ls 5 [(0, .ref (cSa Z 0)), (1, .int x1), (2, .int x2)]) (h : cp_regretsOf x1 x2 C = some r) : W p l e R s m args below meth c H locs 0 0 (MQ below Qc args s 200 1600 A) (F0 m 0 ls []) := by
  obtain ⟨⟨hx, hb, hr, hlocks, hml, hown, hts⟩, hK⟩ := id X
  unfold cp_regretsOf at h
  refine lv_iconst (v := 0) hx hb dX0_regretsOf_0 (by decide) ?_
  refine lv_istore_n (lv' := [(3, .int (0 : Int32)), (0, .ref (cSa Z 0)), (1, .int x1), (2, .int x2)]) hx hb dX0_regretsOf_1 rfl hl (by decide) rfl (fun ls hl => ?_)
  refine lv_iconst (v := 0) hx hb dX0_regretsOf_2 (by decide) ?_
  refine lv_istore (lv' := [(4, .int (0 : Int32)), (3, .int (0 : Int32)), (0, .ref (cSa Z 0)), (1, .int x1), (2, .int x2)]) hx hb dX0_regretsOf_3 hl (by decide) rfl (fun ls hl => ?_)
  refine lv_iload hx hb dX0_regretsOf_5 (lv_at hl 0 rfl) ?_
  refine lv_aload_n hx hb dX0_regretsOf_7 rfl (lv_at hl 2 rfl) ?_
  obtain ⟨v2, C1, q_C1, h⟩ := bd2_e h
  refine p_callI (As := []) (rest := [.int (0 : Int32)]) X hM hS hA hE (cp_deeds_met _ Z _ C _ (v2, C1) q_C1) (lw_V q630 q632 qs7 q79 q633) cf_deeds_hd ⟨rfl, rfl⟩ ⟨Nat.le_trans (m := cp_regretsOf_rm.frames) (Nat.le_of_ble_eq_true rfl) hR.1, Nat.le_trans (m := cp_regretsOf_rm.locals) (Nat.le_of_ble_eq_true rfl) hR.2.1⟩ ⟨Nat.le_trans (m := 200) (Nat.le_of_ble_eq_true rfl) hR.2.2.1, Nat.le_trans (m := 1600) (Nat.le_of_ble_eq_true rfl) hR.2.2.2⟩ rfl hl.1 rfl (Nat.le_of_ble_eq_true rfl) dX0_regretsOf_8 (fun Y H locs hM hS => ?_)
  refine W.widen (k := 200) (n := 1600) (Nat.le_of_ble_eq_true rfl) (Nat.le_of_ble_eq_true rfl) ?_
  obtain ⟨rv3, q_rv3, h⟩ := bd_e h
  have h := so_ h
  subst h
  exact cf_regretsOf_w11 X hM ⟨Nat.le_trans (m := cp_regretsOf_rm.frames) (Nat.le_of_ble_eq_true rfl) hR.1, Nat.le_trans (m := cp_regretsOf_rm.locals) (Nat.le_of_ble_eq_true rfl) hR.2.1, hR.2.2.1, hR.2.2.2⟩ (cPD.fr hM) (fun t ht hW => hQ _ _ _ t hM hS ht hW) (cf_regretsOf_lw5 X hM ⟨Nat.le_trans (m := cp_regretsOf_rm.frames) (Nat.le_of_ble_eq_true rfl) hR.1, Nat.le_trans (m := cp_regretsOf_rm.locals) (Nat.le_of_ble_eq_true rfl) hR.2.1, hR.2.2.1, hR.2.2.2⟩ (cPD.fr hM) (fun t ht hW => hQ _ _ _ t hM hS ht hW) 2999) x1 x2 (0 : Int32) (0 : Int32) v2 (0 : Int32) _ ls hS.2.2 (lv_sub hl [2, 3, 4, 1, 0] rfl) q_rv3
theorem cp_regretsOf_met (l : Launch) (Z : CZ) (Y : CY) (C : St) (sz : Nat) (x1 : Int32) (x2 : Int32) (r : (Int64 × St)) (h : cp_regretsOf x1 x2 C = some r) : Met l yX0_regretsOf (ws_ yX0_regretsOf cX0_regretsOf 5 (some .long)) cp_regretsOf_rm (va_Pc [.ref (cSa Z 0), .int x1, .int x2] (cSx Z Y C sz)) (Qcw (some (.long r.1)) Z (va_A (cWs Z Y C) sz) r.2) 200 1600 (va_A (cWs Z Y C) sz) := by
  refine Met.ofW (cc := cX0_regretsOf) (maxL := 5) (ret := some .long) (by decide) rfl ?_
  intro p e s m args below meth c s₁ B hml hv
  obtain ⟨rfl, ⟨hsz, hv⟩, hE⟩ := hv
  subst hsz
  have hts := atoms_spec (ws := ws_ yX0_regretsOf cX0_regretsOf 5 (some .long)) B.pre
  have hts : ∀ w ∈ lw_all, w.before _ s = true := fun w h => hts w (List.mem_cons_of_mem _ h)
  have X : CCx p s m _ meth c cX0_regretsOf 5 (some .long) RX0 Z := ⟨⟨B.exec, B.bytes, B.returns, B.notSynchronized, hml, findClass_of_methodNamed B.named, hts⟩, hv.2⟩
  have hl := lv_entry [.ref (cSa Z 0), .int x1, .int x2] (n := 5) (Nat.le_of_ble_eq_true rfl)
  rw [lg_entry_eq]
  generalize (lg_sl [.ref (cSa Z 0), .int x1, .int x2] ++ List.replicate (5 - (lg_sl [.ref (cSa Z 0), .int x1, .int x2]).length) Slot.unset).toArray = ls at hl ⊢
  exact cp_regretsOf_w0 X ⟨Nat.le_refl _, Nat.le_refl _, Nat.le_refl _, Nat.le_refl _⟩ (fun q h => Or.inr h) hE (fun Y H locs t hM hS ht hW => ⟨rfl, ⟨Y, by rw [ht]; exact hM, cKs.warm hW X.2⟩, hS.F ht⟩) x1 x2 Y C _ _ ls (cPD.self hv.1) va_S.rf hl h

/-! SecondChances.findPlan()V, on any state -/
def cp_findPlan_rm : Room := { frames := 12, cells := 200, slots := 1600, locals := 291 }
def cp_findPlan (C : St) : Option St :=
  bd2_ (cp_deeds C) fun v2 C1 =>
  cf_findPlan_b4 v2 C1
set_option maxHeartbeats 4000000 in
theorem cp_findPlan_w0 {p : Program} {l : Launch} {e : Env} {R : Room} {s : State} {m : MethodId} {args : Array Value} {below : List Frame} {meth : Method} {c : Code} {Z : CZ} {A : Nat → Prop} {Qc : Array Value → State → Outcome → State → Prop} (X : CCx p s m args meth c cX0_findPlan 4 (none) RX0 Z) (hR : cp_findPlan_rm.frames ≤ R.frames ∧ cp_findPlan_rm.locals ≤ R.locals ∧ 200 ≤ R.cells ∧ 1600 ≤ R.slots) (hA : ∀ q, s.heap.size ≤ q → A q) (hE : cE Z A s s.heap) {r : St} (hQ : ∀ (Y : CY) (H : Heap) (locs : List Loc) (t : State), cPD Z Y A r H → va_S A s.heap H locs → t.heap = H → s.WarmedH t.vm → Qc args s (.returned (none)) t) (Y : CY) (C : St) (H : Heap) (locs : List Loc) (ls : Array Slot) (hM : cPD Z Y A C H) (hS : va_S A s.heap H locs) (hl : lv_has ls 4 [(0, .ref (cSa Z 0))]) (h : cp_findPlan C = some r) : W p l e R s m args below meth c H locs 0 0 (MQ below Qc args s 200 1600 A) (F0 m 0 ls []) := by
  obtain ⟨⟨hx, hb, hr, hlocks, hml, hown, hts⟩, hK⟩ := id X
  unfold cp_findPlan at h
  refine lv_aload_n hx hb dX0_findPlan_0 rfl (lv_at hl 0 rfl) ?_
  obtain ⟨v2, C1, q_C1, h⟩ := bd2_e h
  refine p_callI (As := []) (rest := []) X hM hS hA hE (cp_deeds_met _ Z _ C _ (v2, C1) q_C1) (lw_V q630 q632 qs7 q79 q633) cf_deeds_hd ⟨rfl, rfl⟩ ⟨Nat.le_trans (m := cp_findPlan_rm.frames) (Nat.le_of_ble_eq_true rfl) hR.1, Nat.le_trans (m := cp_findPlan_rm.locals) (Nat.le_of_ble_eq_true rfl) hR.2.1⟩ ⟨Nat.le_trans (m := 200) (Nat.le_of_ble_eq_true rfl) hR.2.2.1, Nat.le_trans (m := 1600) (Nat.le_of_ble_eq_true rfl) hR.2.2.2⟩ rfl hl.1 rfl (Nat.le_of_ble_eq_true rfl) dX0_findPlan_1 (fun Y H locs hM hS => ?_)
  refine W.widen (k := 200) (n := 1600) (Nat.le_of_ble_eq_true rfl) (Nat.le_of_ble_eq_true rfl) ?_
  exact cf_findPlan_w4 X ⟨Nat.le_trans (m := cp_findPlan_rm.frames) (Nat.le_of_ble_eq_true rfl) hR.1, Nat.le_trans (m := cp_findPlan_rm.locals) (Nat.le_of_ble_eq_true rfl) hR.2.1, hR.2.2.1, hR.2.2.2⟩ hA hQ v2 _ C1 _ _ ls hM hS (lv_sub hl [0] rfl) h
theorem cp_findPlan_met (l : Launch) (Z : CZ) (Y : CY) (C : St) (sz : Nat) (r : St) (h : cp_findPlan C = some r) : Met l yX0_findPlan (ws_ yX0_findPlan cX0_findPlan 4 (none)) cp_findPlan_rm (va_Pc [.ref (cSa Z 0)] (cSx Z Y C sz)) (Qcw (none) Z (va_A (cWs Z Y C) sz) r) 200 1600 (va_A (cWs Z Y C) sz) := by
  refine Met.ofW (cc := cX0_findPlan) (maxL := 4) (ret := none) (by decide) rfl ?_
  intro p e s m args below meth c s₁ B hml hv
  obtain ⟨rfl, ⟨hsz, hv⟩, hE⟩ := hv
  subst hsz
  have hts := atoms_spec (ws := ws_ yX0_findPlan cX0_findPlan 4 (none)) B.pre
  have hts : ∀ w ∈ lw_all, w.before _ s = true := fun w h => hts w (List.mem_cons_of_mem _ h)
  have X : CCx p s m _ meth c cX0_findPlan 4 (none) RX0 Z := ⟨⟨B.exec, B.bytes, B.returns, B.notSynchronized, hml, findClass_of_methodNamed B.named, hts⟩, hv.2⟩
  have hl := lv_entry [.ref (cSa Z 0)] (n := 4) (Nat.le_of_ble_eq_true rfl)
  rw [lg_entry_eq]
  generalize (lg_sl [.ref (cSa Z 0)] ++ List.replicate (4 - (lg_sl [.ref (cSa Z 0)]).length) Slot.unset).toArray = ls at hl ⊢
  exact cp_findPlan_w0 X ⟨Nat.le_refl _, Nat.le_refl _, Nat.le_refl _, Nat.le_refl _⟩ (fun q h => Or.inr h) hE (fun Y H locs t hM hS ht hW => ⟨rfl, ⟨Y, by rw [ht]; exact hM, cKs.warm hW X.2⟩, hS.F ht⟩)  Y C _ _ ls (cPD.self hv.1) va_S.rf hl h

/-! SecondChances.planned()LSecondChances;, on any state -/
def cp_planned_rm : Room := { frames := 13, cells := 200, slots := 1600, locals := 314 }
def cp_planned (C : St) : Option St :=
  if (C 0 4) = 0 then (lt_ (upd2 C 0 4 (0 : Int32)) fun C2 =>
    some C2)
  else (bd_ (cp_findPlan C) fun C3 =>
    cf_planned_b11  C3)
set_option maxHeartbeats 4000000 in
theorem cp_planned_w0 {p : Program} {l : Launch} {e : Env} {R : Room} {s : State} {m : MethodId} {args : Array Value} {below : List Frame} {meth : Method} {c : Code} {Z : CZ} {A : Nat → Prop} {Qc : Array Value → State → Outcome → State → Prop} (X : CCx p s m args meth c cX0_planned 1 (some (.object "SecondChances")) RX0 Z) (hR : cp_planned_rm.frames ≤ R.frames ∧ cp_planned_rm.locals ≤ R.locals ∧ 200 ≤ R.cells ∧ 1600 ≤ R.slots) (hA : ∀ q, s.heap.size ≤ q → A q) (hE : cE Z A s s.heap) {r : St} (hQ : ∀ (Y : CY) (H : Heap) (locs : List Loc) (t : State), cPD Z Y A r H → va_S A s.heap H locs → t.heap = H → s.WarmedH t.vm → Qc args s (.returned (some (.ref (cSa Z 0)))) t) (Y : CY) (C : St) (H : Heap) (locs : List Loc) (ls : Array Slot) (hM : cPD Z Y A C H) (hS : va_S A s.heap H locs) (hl : lv_has ls 1 [(0, .ref (cSa Z 0))]) (h : cp_planned C = some r) : W p l e R s m args below meth c H locs 0 0 (MQ below Qc args s 200 1600 A) (F0 m 0 ls []) := by
  obtain ⟨⟨hx, hb, hr, hlocks, hml, hown, hts⟩, hK⟩ := id X
  unfold cp_planned at h
  refine lv_aload_n hx hb dX0_planned_0 rfl (lv_at hl 0 rfl) ?_
  refine gc4 X hM dX0_planned_1 ?_
  refine lv_if_eq (tgt := 11) hx hb dX0_planned_4 (by decide) (fun c1 => ?_) (fun c1 => ?_)
  · have h := ip_ c1 h
    refine lv_aload_n hx hb dX0_planned_11 rfl (lv_at hl 0 rfl) ?_
    refine lv_iconst (v := 0) hx hb dX0_planned_12 (by decide) ?_
    refine pc4 X hM hS dX0_planned_13 rfl (fun H locs C2 e_C2 hM hS => ?_)
    have h := lt_i h e_C2
    refine lv_aload_n hx hb dX0_planned_16 rfl (lv_at hl 0 rfl) ?_
    refine W.widen (k := 200) (n := 1600) (Nat.le_of_ble_eq_true rfl) (Nat.le_of_ble_eq_true rfl) ?_
    have h := so_ h
    subst h
    exact W.aret hx hb hr (Or.inl ⟨_, rfl⟩) (Or.inr ⟨_, rfl⟩) (fun t ht hW => hQ _ _ _ t hM hS ht hW) hS.2.2 dX0_planned_17
  · have h := in_ c1 h
    refine lv_aload_n hx hb dX0_planned_7 rfl (lv_at hl 0 rfl) ?_
    obtain ⟨C3, q_C3, h⟩ := bd_e h
    refine p_callV (As := []) (rest := []) X hM hS hA hE (cp_findPlan_met _ Z _ C _ C3 q_C3) (lw_V q743 q745 qs20 q79 q746) cf_findPlan_hd ⟨rfl, rfl⟩ ⟨Nat.le_trans (m := cp_planned_rm.frames) (Nat.le_of_ble_eq_true rfl) hR.1, Nat.le_trans (m := cp_planned_rm.locals) (Nat.le_of_ble_eq_true rfl) hR.2.1⟩ ⟨Nat.le_trans (m := 200) (Nat.le_of_ble_eq_true rfl) hR.2.2.1, Nat.le_trans (m := 1600) (Nat.le_of_ble_eq_true rfl) hR.2.2.2⟩ rfl hl.1 rfl (Nat.le_of_ble_eq_true rfl) dX0_planned_8 (fun Y H locs hM hS => ?_)
    refine W.widen (k := 200) (n := 1600) (Nat.le_of_ble_eq_true rfl) (Nat.le_of_ble_eq_true rfl) ?_
    exact cf_planned_w11 X ⟨Nat.le_trans (m := cp_planned_rm.frames) (Nat.le_of_ble_eq_true rfl) hR.1, Nat.le_trans (m := cp_planned_rm.locals) (Nat.le_of_ble_eq_true rfl) hR.2.1, hR.2.2.1, hR.2.2.2⟩ hA hQ  _ C3 _ _ ls hM hS (lv_sub hl [0] rfl) h
theorem cp_planned_met (l : Launch) (Z : CZ) (Y : CY) (C : St) (sz : Nat) (r : St) (h : cp_planned C = some r) : Met l yX0_planned (ws_ yX0_planned cX0_planned 1 (some (.object "SecondChances"))) cp_planned_rm (va_Pc [.ref (cSa Z 0)] (cSx Z Y C sz)) (Qcw (some (.ref (cSa Z 0))) Z (va_A (cWs Z Y C) sz) r) 200 1600 (va_A (cWs Z Y C) sz) := by
  refine Met.ofW (cc := cX0_planned) (maxL := 1) (ret := some (.object "SecondChances")) (by decide) rfl ?_
  intro p e s m args below meth c s₁ B hml hv
  obtain ⟨rfl, ⟨hsz, hv⟩, hE⟩ := hv
  subst hsz
  have hts := atoms_spec (ws := ws_ yX0_planned cX0_planned 1 (some (.object "SecondChances"))) B.pre
  have hts : ∀ w ∈ lw_all, w.before _ s = true := fun w h => hts w (List.mem_cons_of_mem _ h)
  have X : CCx p s m _ meth c cX0_planned 1 (some (.object "SecondChances")) RX0 Z := ⟨⟨B.exec, B.bytes, B.returns, B.notSynchronized, hml, findClass_of_methodNamed B.named, hts⟩, hv.2⟩
  have hl := lv_entry [.ref (cSa Z 0)] (n := 1) (Nat.le_of_ble_eq_true rfl)
  rw [lg_entry_eq]
  generalize (lg_sl [.ref (cSa Z 0)] ++ List.replicate (1 - (lg_sl [.ref (cSa Z 0)]).length) Slot.unset).toArray = ls at hl ⊢
  exact cp_planned_w0 X ⟨Nat.le_refl _, Nat.le_refl _, Nat.le_refl _, Nat.le_refl _⟩ (fun q h => Or.inr h) hE (fun Y H locs t hM hS ht hW => ⟨rfl, ⟨Y, by rw [ht]; exact hM, cKs.warm hW X.2⟩, hS.F ht⟩)  Y C _ _ ls (cPD.self hv.1) va_S.rf hl h
