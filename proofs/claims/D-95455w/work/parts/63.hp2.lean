set_option maxRecDepth 100000
/-! SecondChances.sheet(III)I, on any state -/
def cp_sheet_rm : Room := { frames := 9, cells := 200, slots := 1600, locals := 10321 }
def cp_sheet (x1 : Int32) (x2 : Int32) (x3 : Int32) (C : St) : Option (Int32 × St) :=
  bd_ (cf_isSheet x1) fun v1 =>
  if v1 = 0 then (some ((-2 : Int32), C))
  else (bd_ (cf_in (x2.toInt64) (0 : Int64) (2 : Int64)) fun v3 =>
    if v3 = 0 then (some ((-2 : Int32), C))
    else (if x3 ≤ (60 : Int32) then (ix_ 4 x1 fun q6 =>
        if x3 < 0 then (bd2_ (cf_met (5 : Int32) C) fun v12 C11 =>
          some (v12, C11))
        else (gd_ (x3 ≤ 60) <|
          lt_ (shSet C q6 x2 x3) fun C13 =>
          some (x3, C13)))
      else (some ((-2 : Int32), C))))
set_option maxHeartbeats 4000000 in
theorem cp_sheet_w0 {p : Program} {l : Launch} {e : Env} {R : Room} {s : State} {m : MethodId} {args : Array Value} {below : List Frame} {meth : Method} {c : Code} {Z : CZ} {A : Nat → Prop} {Qc : Array Value → State → Outcome → State → Prop} (X : CCx p s m args meth c cX0_sheet 5 (some .int) RX0 Z) (hR : cp_sheet_rm.frames ≤ R.frames ∧ cp_sheet_rm.locals ≤ R.locals ∧ 200 ≤ R.cells ∧ 1600 ≤ R.slots) (hA : ∀ q, s.heap.size ≤ q → A q) (hE : cE Z A s s.heap) (htr : l.stackTraces = false) (htab : ∃ x, c.exceptionTable.toList = [x] ∧ x.startPc = 28 ∧ x.endPc = 43 ∧ x.handlerPc = 44 ∧ x.catchType = 385) {r : (Int32 × St)} (hQ : ∀ (Y : CY) (H : Heap) (locs : List Loc) (t : State), cPD Z Y A r.2 H → va_S A s.heap H locs → t.heap = H → s.WarmedH t.vm → Qc args s (.returned (some (.int r.1))) t) (x1 : Int32) (x2 : Int32) (x3 : Int32) (Y : CY) (C : St) (H : Heap) (locs : List Loc) (ls : Array Slot) (hM : cPD Z Y A C H) (hS : va_S A s.heap H locs) (hl : lv_has ls 5 [(0, .ref (cSa Z 0)), (1, .int x1), (2, .int x2), (3, .int x3)]) (h : cp_sheet x1 x2 x3 C = some r) : W p l e R s m args below meth c H locs 0 0 (MQ below Qc args s 200 1600 A) (F0 m 0 ls []) := by
  obtain ⟨⟨hx, hb, hr, hlocks, hml, hown, hts⟩, hK⟩ := id X
  unfold cp_sheet at h
  refine lv_iload_n hx hb dX0_sheet_0 rfl (lv_at hl 1 rfl) ?_
  obtain ⟨v1, q_v1, h⟩ := bd_e h
  refine s_roI (As := [.int x1]) (rest := []) X.1 (cf_isSheet_met _ x1 v1 q_v1) (lw_S q324 q325 q79 q326) cf_isSheet_hd ⟨rfl, rfl⟩ ⟨Nat.le_trans (m := cp_sheet_rm.frames) (Nat.le_of_ble_eq_true rfl) hR.1, Nat.le_trans (m := cp_sheet_rm.locals) (Nat.le_of_ble_eq_true rfl) hR.2.1⟩ ⟨Nat.le_trans (m := 200) (Nat.le_of_ble_eq_true rfl) hR.2.2.1, Nat.le_trans (m := 1600) (Nat.le_of_ble_eq_true rfl) hR.2.2.2⟩ rfl hl.1 rfl (Nat.le_of_ble_eq_true rfl) dX0_sheet_1 ?_
  refine lv_if_eq (tgt := 25) hx hb dX0_sheet_4 (by decide) (fun c2 => ?_) (fun c2 => ?_)
  · have h := ip_ c2 h
    refine lv_bipush (v := -2) hx hb dX0_sheet_25 (by decide) ?_
    refine W.widen (k := 200) (n := 1600) (Nat.le_of_ble_eq_true rfl) (Nat.le_of_ble_eq_true rfl) ?_
    have h := so_ h
    subst h
    exact W.iret hx hb hr (fun t ht hW => hQ _ _ _ t hM hS ht hW) hS.2.2 dX0_sheet_27
  · have h := in_ c2 h
    refine lv_iload_n hx hb dX0_sheet_7 rfl (lv_at hl 2 rfl) ?_
    refine lv_i2l hx hb dX0_sheet_8 rfl ?_
    refine lv_lconst (v := 0) hx hb dX0_sheet_9 (by decide) ?_
    refine lv_ldc2 (v := 2) hx hb hown (hts _ q670) dX0_sheet_10 ?_
    obtain ⟨v3, q_v3, h⟩ := bd_e h
    refine s_roI (As := [.long (x2.toInt64), .long (0 : Int64), .long (2 : Int64)]) (rest := []) X.1 (cf_in_met _ (x2.toInt64) (0 : Int64) (2 : Int64) v3 q_v3) (lw_S q298 q299 q79 q300) cf_in_hd ⟨rfl, rfl⟩ ⟨Nat.le_trans (m := cp_sheet_rm.frames) (Nat.le_of_ble_eq_true rfl) hR.1, Nat.le_trans (m := cp_sheet_rm.locals) (Nat.le_of_ble_eq_true rfl) hR.2.1⟩ ⟨Nat.le_trans (m := 200) (Nat.le_of_ble_eq_true rfl) hR.2.2.1, Nat.le_trans (m := 1600) (Nat.le_of_ble_eq_true rfl) hR.2.2.2⟩ rfl hl.1 rfl (Nat.le_of_ble_eq_true rfl) dX0_sheet_13 ?_
    refine lv_if_eq (tgt := 25) hx hb dX0_sheet_16 (by decide) (fun c4 => ?_) (fun c4 => ?_)
    · have h := ip_ c4 h
      refine lv_bipush (v := -2) hx hb dX0_sheet_25 (by decide) ?_
      refine W.widen (k := 200) (n := 1600) (Nat.le_of_ble_eq_true rfl) (Nat.le_of_ble_eq_true rfl) ?_
      have h := so_ h
      subst h
      exact W.iret hx hb hr (fun t ht hW => hQ _ _ _ t hM hS ht hW) hS.2.2 dX0_sheet_27
    · have h := in_ c4 h
      refine lv_iload_n hx hb dX0_sheet_19 rfl (lv_at hl 3 rfl) ?_
      refine lv_bipush (v := 60) hx hb dX0_sheet_20 (by decide) ?_
      refine lv_icmp_le (tgt := 28) hx hb dX0_sheet_22 (by decide) (fun c5 => ?_) (fun c5 => ?_)
      · have h := ip_ c5 h
        refine lv_aload_n hx hb dX0_sheet_28 rfl (lv_at hl 0 rfl) ?_
        refine gc19 X hM dX0_sheet_29 ?_
        refine lv_iload_n hx hb dX0_sheet_32 rfl (lv_at hl 1 rfl) ?_
        obtain ⟨i_q6, b_q6, h⟩ := ix_e h
        refine c_aldH X hM i_q6 dX0_sheet_33 (fun q6 e_q6 => ?_)
        have h := h q6 e_q6
        rw [← e_q6] at b_q6
        refine lv_iload_n hx hb dX0_sheet_34 rfl (lv_at hl 2 rfl) ?_
        refine lv_iload_n hx hb dX0_sheet_35 rfl (lv_at hl 3 rfl) ?_
        by_cases c7 : x3 < 0
        · have h := ip_ c7 h
          refine hx_callS (Xn := "java/lang/NegativeArraySizeException") (As := [.int x2, .int x3]) (rest := [.ref (cSa Z (90 + q6))]) X hM hS hA hE (cf_rowOf_nx _ htr Z _ C _ x2 x3 c7) (va_cwS 2 hts (lw_S q962 q963 q79 q964) rfl rfl rfl cf_rowOf_hd ⟨Nat.le_trans (m := cp_sheet_rm.frames) (Nat.le_of_ble_eq_true rfl) hR.1, Nat.le_trans (m := cp_sheet_rm.locals) (Nat.le_of_ble_eq_true rfl) hR.2.1⟩) ⟨Nat.le_trans (m := 200) (Nat.le_of_ble_eq_true rfl) hR.2.2.1, Nat.le_trans (m := 1600) (Nat.le_of_ble_eq_true rfl) hR.2.2.2⟩ rfl hl.1 rfl (Nat.le_of_ble_eq_true rfl) dX0_sheet_36 (fun z8 cell H locs hM hS k1 k2 k3 => ?_)
          refine hx_first (own := RX0) (Yn := "java/lang/NegativeArraySizeException") hown (by obtain ⟨x, w1, w2⟩ := htab; exact ⟨x, [], w1, w2⟩) (by decide) (by decide) (by decide) (hts _ q932) (hE.nw 4 rfl) k1 k2 k3 ?_
          refine lv_astore (lv' := [(4, .ref z8), (0, .ref (cSa Z 0)), (1, .int x1), (2, .int x2), (3, .int x3)]) hx hb dX0_sheet_44 hl (by decide) rfl (fun ls hl => ?_)
          refine lv_aload_n hx hb dX0_sheet_46 rfl (lv_at hl 1 rfl) ?_
          refine lv_iconst (v := 5) hx hb dX0_sheet_47 (by decide) ?_
          obtain ⟨v12, C11, q_C11, h⟩ := bd2_e h
          refine w_wrI (As := [.int (5 : Int32)]) (rest := []) X hM hS hA (c_recv0 X hM) (cf_met_met _ Z _ C _ (5 : Int32) (v12, C11) q_C11) (lw_V q327 q329 qs0 q79 q330) cf_met_hd ⟨rfl, rfl⟩ ⟨Nat.le_trans (m := cp_sheet_rm.frames) (Nat.le_of_ble_eq_true rfl) hR.1, Nat.le_trans (m := cp_sheet_rm.locals) (Nat.le_of_ble_eq_true rfl) hR.2.1⟩ ⟨Nat.le_trans (m := 200) (Nat.le_of_ble_eq_true rfl) hR.2.2.1, Nat.le_trans (m := 1600) (Nat.le_of_ble_eq_true rfl) hR.2.2.2⟩ rfl hl.1 rfl (Nat.le_of_ble_eq_true rfl) dX0_sheet_48 (fun Y H locs hM hS => ?_)
          refine W.widen (k := 200) (n := 1600) (Nat.le_of_ble_eq_true rfl) (Nat.le_of_ble_eq_true rfl) ?_
          have h := so_ h
          subst h
          exact W.iret hx hb hr (fun t ht hW => hQ _ _ _ t hM hS ht hW) hS.2.2 dX0_sheet_51
        · have h := in_ c7 h
          obtain ⟨b9, h⟩ := gd_e h
          refine rw_run hM hS hA (va_runS (As := [.int x2, .int x3]) (rest := [.ref (cSa Z (90 + q6))]) X.1.fix (cf_rowOf_met _ Z _ C _ x2 x3 c7 b9) (va_cwS 2 hts (lw_S q962 q963 q79 q964) rfl rfl rfl cf_rowOf_hd ⟨Nat.le_trans (m := cp_sheet_rm.frames) (Nat.le_of_ble_eq_true rfl) hR.1, Nat.le_trans (m := cp_sheet_rm.locals) (Nat.le_of_ble_eq_true rfl) hR.2.1⟩) ⟨cSx.blind, fun U hU hW => ⟨rfl, st_sx X hM hS hA hE hU hW⟩⟩ rfl rfl hl.1 rfl (lv_room (Nat.le_of_ble_eq_true rfl)) dX0_sheet_36 ⟨Nat.le_trans (m := 200) (Nat.le_of_ble_eq_true rfl) hR.2.2.1, Nat.le_trans (m := 1600) (Nat.le_of_ble_eq_true rfl) hR.2.2.2⟩) (fun w10 H locs hL hS => ?_)
          refine sh_set X hL hS b_q6 dX0_sheet_39 (fun Y H locs C13 e_C13 hM hS => ?_)
          have h := lt_i h e_C13
          refine lv_iload_n hx hb dX0_sheet_42 rfl (lv_at hl 3 rfl) ?_
          refine W.widen (k := 200) (n := 1600) (Nat.le_of_ble_eq_true rfl) (Nat.le_of_ble_eq_true rfl) ?_
          have h := so_ h
          subst h
          exact W.iret hx hb hr (fun t ht hW => hQ _ _ _ t hM hS ht hW) hS.2.2 dX0_sheet_43
      · have h := in_ c5 h
        refine lv_bipush (v := -2) hx hb dX0_sheet_25 (by decide) ?_
        refine W.widen (k := 200) (n := 1600) (Nat.le_of_ble_eq_true rfl) (Nat.le_of_ble_eq_true rfl) ?_
        have h := so_ h
        subst h
        exact W.iret hx hb hr (fun t ht hW => hQ _ _ _ t hM hS ht hW) hS.2.2 dX0_sheet_27
theorem cp_sheet_met (l : Launch) (htr : l.stackTraces = false) (Z : CZ) (Y : CY) (C : St) (sz : Nat) (x1 : Int32) (x2 : Int32) (x3 : Int32) (r : (Int32 × St)) (h : cp_sheet x1 x2 x3 C = some r) : Met l yX0_sheet (wsW_ yX0_sheet cX0_sheet 5 (some .int) [(28, 43, 44, 385)]) cp_sheet_rm (va_Pc [.ref (cSa Z 0), .int x1, .int x2, .int x3] (cSx Z Y C sz)) (Qcw (some (.int r.1)) Z (va_A (cWs Z Y C) sz) r.2) 200 1600 (va_A (cWs Z Y C) sz) := by
  refine va_MetW (cc := cX0_sheet) (maxL := 5) (ret := some .int) (by decide) rfl ?_
  intro p e s m args below meth c s₁ B hml hv
  obtain ⟨rfl, ⟨hsz, hv⟩, hE⟩ := hv
  subst hsz
  have hts0 := atoms_spec (ws := wsW_ yX0_sheet cX0_sheet 5 (some .int) [(28, 43, 44, 385)]) B.pre
  have htab := tab_1 (tab_of B (hts0 _ List.mem_cons_self))
  have hts : ∀ w ∈ lw_all, w.before _ s = true := fun w h => hts0 w (List.mem_cons_of_mem _ h)
  have X : CCx p s m _ meth c cX0_sheet 5 (some .int) RX0 Z := ⟨⟨B.exec, B.bytes, B.returns, B.notSynchronized, hml, findClass_of_methodNamed B.named, hts⟩, hv.2⟩
  have hl := lv_entry [.ref (cSa Z 0), .int x1, .int x2, .int x3] (n := 5) (Nat.le_of_ble_eq_true rfl)
  rw [lg_entry_eq]
  generalize (lg_sl [.ref (cSa Z 0), .int x1, .int x2, .int x3] ++ List.replicate (5 - (lg_sl [.ref (cSa Z 0), .int x1, .int x2, .int x3]).length) Slot.unset).toArray = ls at hl ⊢
  exact cp_sheet_w0 X ⟨Nat.le_refl _, Nat.le_refl _, Nat.le_refl _, Nat.le_refl _⟩ (fun q h => Or.inr h) hE htr htab (fun Y H locs t hM hS ht hW => ⟨rfl, ⟨Y, by rw [ht]; exact hM, cKs.warm hW X.2⟩, hS.F ht⟩) x1 x2 x3 Y C _ _ ls (cPD.self hv.1) va_S.rf hl h
