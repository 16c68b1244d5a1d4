set_option maxRecDepth 100000
/-! SecondChances.put(IIII)I, on any state -/
def cp_put_rm : Room := { frames := 9, cells := 200, slots := 1600, locals := 10323 }
def cp_put (x1 : Int32) (x2 : Int32) (x3 : Int32) (x4 : Int32) (C : St) : Option (Int32 × St) :=
  bd_ (cf_isSheet x1) fun v1 =>
  if v1 = 0 then (some ((-2 : Int32), C))
  else (bd_ (cf_in (x2.toInt64) (0 : Int64) (2 : Int64)) fun v3 =>
    if v3 = 0 then (some ((-2 : Int32), C))
    else (ix_ 4 x1 fun q5 =>
      if C (60 + q5) 0 = 1 then (ix_ 4 x1 fun q7 =>
        gd_ (C (60 + q7) 0 = 1) <|
        if cRt (C (60 + q7) 1) = cRt x2 then (if (x3 < 0 ∨ (C (60 + q7) 2).toNatClampNeg ≤ x3.toNatClampNeg) then (bd2_ (cf_met (2 : Int32) C) fun v15 C14 =>
          some (v15, C14))
          else (bd_ (cfS_lay q7 x2 x3 x4 C) fun C13 =>
          some ((1 : Int32), C13)))
        else (bd2_ (cf_met (3 : Int32) C) fun v17 C16 =>
          some (v17, C16)))
      else (bd2_ (cf_met (1 : Int32) C) fun v19 C18 =>
        some (v19, C18))))
set_option maxHeartbeats 4000000 in
theorem cp_put_w0 {p : Program} {l : Launch} {e : Env} {R : Room} {s : State} {m : MethodId} {args : Array Value} {below : List Frame} {meth : Method} {c : Code} {Z : CZ} {A : Nat → Prop} {Qc : Array Value → State → Outcome → State → Prop} (X : CCx p s m args meth c cX0_put 6 (some .int) RX0 Z) (hR : cp_put_rm.frames ≤ R.frames ∧ cp_put_rm.locals ≤ R.locals ∧ 200 ≤ R.cells ∧ 1600 ≤ R.slots) (hA : ∀ q, s.heap.size ≤ q → A q) (hE : cE Z A s s.heap) (htr : l.stackTraces = false) (htab : ∃ x y, c.exceptionTable.toList = [x, y] ∧ (x.startPc = 40 ∧ x.endPc = 54 ∧ x.handlerPc = 55 ∧ x.catchType = 390) ∧ (y.startPc = 40 ∧ y.endPc = 54 ∧ y.handlerPc = 63 ∧ y.catchType = 392)) {r : (Int32 × St)} (hQ : ∀ (Y : CY) (H : Heap) (locs : List Loc) (t : State), cPD Z Y A r.2 H → va_S A s.heap H locs → t.heap = H → s.WarmedH t.vm → Qc args s (.returned (some (.int r.1))) t) (x1 : Int32) (x2 : Int32) (x3 : Int32) (x4 : Int32) (Y : CY) (C : St) (H : Heap) (locs : List Loc) (ls : Array Slot) (hM : cPD Z Y A C H) (hS : va_S A s.heap H locs) (hl : lv_has ls 6 [(0, .ref (cSa Z 0)), (1, .int x1), (2, .int x2), (3, .int x3), (4, .int x4)]) (h : cp_put x1 x2 x3 x4 C = some r) : W p l e R s m args below meth c H locs 0 0 (MQ below Qc args s 200 1600 A) (F0 m 0 ls []) := by
  obtain ⟨⟨hx, hb, hr, hlocks, hml, hown, hts⟩, hK⟩ := id X
  unfold cp_put at h
  refine lv_iload_n hx hb dX0_put_0 rfl (lv_at hl 1 rfl) ?_
  obtain ⟨v1, q_v1, h⟩ := bd_e h
  refine s_roI (As := [.int x1]) (rest := []) X.1 (cf_isSheet_met _ x1 v1 q_v1) (lw_S q324 q325 q79 q326) cf_isSheet_hd ⟨rfl, rfl⟩ ⟨Nat.le_trans (m := cp_put_rm.frames) (Nat.le_of_ble_eq_true rfl) hR.1, Nat.le_trans (m := cp_put_rm.locals) (Nat.le_of_ble_eq_true rfl) hR.2.1⟩ ⟨Nat.le_trans (m := 200) (Nat.le_of_ble_eq_true rfl) hR.2.2.1, Nat.le_trans (m := 1600) (Nat.le_of_ble_eq_true rfl) hR.2.2.2⟩ rfl hl.1 rfl (Nat.le_of_ble_eq_true rfl) dX0_put_1 ?_
  refine lv_if_eq (tgt := 19) hx hb dX0_put_4 (by decide) (fun c2 => ?_) (fun c2 => ?_)
  · have h := ip_ c2 h
    refine lv_bipush (v := -2) hx hb dX0_put_19 (by decide) ?_
    refine W.widen (k := 200) (n := 1600) (Nat.le_of_ble_eq_true rfl) (Nat.le_of_ble_eq_true rfl) ?_
    have h := so_ h
    subst h
    exact W.iret hx hb hr (fun t ht hW => hQ _ _ _ t hM hS ht hW) hS.2.2 dX0_put_21
  · have h := in_ c2 h
    refine lv_iload_n hx hb dX0_put_7 rfl (lv_at hl 2 rfl) ?_
    refine lv_i2l hx hb dX0_put_8 rfl ?_
    refine lv_lconst (v := 0) hx hb dX0_put_9 (by decide) ?_
    refine lv_ldc2 (v := 2) hx hb hown (hts _ q670) dX0_put_10 ?_
    obtain ⟨v3, q_v3, h⟩ := bd_e h
    refine s_roI (As := [.long (x2.toInt64), .long (0 : Int64), .long (2 : Int64)]) (rest := []) X.1 (cf_in_met _ (x2.toInt64) (0 : Int64) (2 : Int64) v3 q_v3) (lw_S q298 q299 q79 q300) cf_in_hd ⟨rfl, rfl⟩ ⟨Nat.le_trans (m := cp_put_rm.frames) (Nat.le_of_ble_eq_true rfl) hR.1, Nat.le_trans (m := cp_put_rm.locals) (Nat.le_of_ble_eq_true rfl) hR.2.1⟩ ⟨Nat.le_trans (m := 200) (Nat.le_of_ble_eq_true rfl) hR.2.2.1, Nat.le_trans (m := 1600) (Nat.le_of_ble_eq_true rfl) hR.2.2.2⟩ rfl hl.1 rfl (Nat.le_of_ble_eq_true rfl) dX0_put_13 ?_
    refine lv_if_ne (tgt := 22) hx hb dX0_put_16 (by decide) (fun c4 => ?_) (fun c4 => ?_)
    · have h := in_ c4 h
      refine lv_aload_n hx hb dX0_put_22 rfl (lv_at hl 0 rfl) ?_
      refine gc19 X hM dX0_put_23 ?_
      refine lv_iload_n hx hb dX0_put_26 rfl (lv_at hl 1 rfl) ?_
      obtain ⟨i_q5, b_q5, h⟩ := ix_e h
      refine c_aldH X hM i_q5 dX0_put_27 (fun q5 e_q5 => ?_)
      have h := h q5 e_q5
      rw [← e_q5] at b_q5
      by_cases c6 : C (60 + q5) 0 = 1
      · have h := ip_ c6 h
        refine gsY X hM b_q5 c6 dX0_put_28 ?_
        refine lv_ifnonnull (tgt := 40) hx hb dX0_put_31 (by decide) ?_
        refine lv_aload_n hx hb dX0_put_40 rfl (lv_at hl 0 rfl) ?_
        refine gc19 X hM dX0_put_41 ?_
        refine lv_iload_n hx hb dX0_put_44 rfl (lv_at hl 1 rfl) ?_
        obtain ⟨i_q7, b_q7, h⟩ := ix_e h
        refine c_aldH X hM i_q7 dX0_put_45 (fun q7 e_q7 => ?_)
        have h := h q7 e_q7
        rw [← e_q7] at b_q7
        refine lv_iload_n hx hb dX0_put_46 rfl (lv_at hl 2 rfl) ?_
        refine lv_iload_n hx hb dX0_put_47 rfl (lv_at hl 3 rfl) ?_
        refine lv_iload hx hb dX0_put_48 (lv_at hl 4 rfl) ?_
        obtain ⟨e8, h⟩ := gd_e h
        by_cases c9 : cRt (C (60 + q7) 1) = cRt x2
        · have h := ip_ c9 h
          by_cases c10 : (x3 < 0 ∨ (C (60 + q7) 2).toNatClampNeg ≤ x3.toNatClampNeg)
          · have h := ip_ c10 h
            refine hx_call (Xn := "java/lang/ArrayIndexOutOfBoundsException") (q := q7) (As := [.int x2, .int x3, .int x4]) (rest := []) X hM hS hA hE b_q7 (cfS_lay_ax _ htr Z _ C _ q7 x2 x3 x4 b_q7 e8 c9 (fun w => w c10)) (lw_V q1007 q1008 q1009 q87 q1010) cfS_lay_hd ⟨Nat.le_trans (m := cp_put_rm.frames) (Nat.le_of_ble_eq_true rfl) hR.1, Nat.le_trans (m := cp_put_rm.locals) (Nat.le_of_ble_eq_true rfl) hR.2.1⟩ ⟨Nat.le_trans (m := 200) (Nat.le_of_ble_eq_true rfl) hR.2.2.1, Nat.le_trans (m := 1600) (Nat.le_of_ble_eq_true rfl) hR.2.2.2⟩ rfl hl.1 rfl (Nat.le_of_ble_eq_true rfl) dX0_put_50 (fun z12 cell H locs hM hS k1 k2 k3 => ?_)
            refine hx_second (own := RX0) (Yn := "java/lang/ArrayIndexOutOfBoundsException") (Y1 := "java/lang/ClassCastException") hown htab (by decide) (by decide) (by decide) (by decide) (by decide) (by decide) (hts _ q974) (hE.nc 6 rfl) (hts _ q988) (hE.nw 6 rfl) k1 k2 k3 ?_
            refine lv_astore (lv' := [(5, .ref z12), (0, .ref (cSa Z 0)), (1, .int x1), (2, .int x2), (3, .int x3), (4, .int x4)]) hx hb dX0_put_63 hl (by decide) rfl (fun ls hl => ?_)
            refine lv_aload_n hx hb dX0_put_65 rfl (lv_at hl 1 rfl) ?_
            refine lv_iconst (v := 2) hx hb dX0_put_66 (by decide) ?_
            obtain ⟨v15, C14, q_C14, h⟩ := bd2_e h
            refine w_wrI (As := [.int (2 : Int32)]) (rest := []) X hM hS hA (c_recv0 X hM) (cf_met_met _ Z _ C _ (2 : Int32) (v15, C14) q_C14) (lw_V q327 q329 qs0 q79 q330) cf_met_hd ⟨rfl, rfl⟩ ⟨Nat.le_trans (m := cp_put_rm.frames) (Nat.le_of_ble_eq_true rfl) hR.1, Nat.le_trans (m := cp_put_rm.locals) (Nat.le_of_ble_eq_true rfl) hR.2.1⟩ ⟨Nat.le_trans (m := 200) (Nat.le_of_ble_eq_true rfl) hR.2.2.1, Nat.le_trans (m := 1600) (Nat.le_of_ble_eq_true rfl) hR.2.2.2⟩ rfl hl.1 rfl (Nat.le_of_ble_eq_true rfl) dX0_put_67 (fun Y H locs hM hS => ?_)
            refine W.widen (k := 200) (n := 1600) (Nat.le_of_ble_eq_true rfl) (Nat.le_of_ble_eq_true rfl) ?_
            have h := so_ h
            subst h
            exact W.iret hx hb hr (fun t ht hW => hQ _ _ _ t hM hS ht hW) hS.2.2 dX0_put_70
          · have h := in_ c10 h
            obtain ⟨C13, q_C13, h⟩ := bd_e h
            refine w_wrV (As := [.int x2, .int x3, .int x4]) (rest := []) X hM hS hA (c_recvH (q := q7) X hM b_q7) (cfS_lay_met _ Z _ C _ q7 x2 x3 x4 C13 q_C13) (lw_V q1007 q1008 q1009 q87 q1010) cfS_lay_hd ⟨rfl, rfl⟩ ⟨Nat.le_trans (m := cp_put_rm.frames) (Nat.le_of_ble_eq_true rfl) hR.1, Nat.le_trans (m := cp_put_rm.locals) (Nat.le_of_ble_eq_true rfl) hR.2.1⟩ ⟨Nat.le_trans (m := 200) (Nat.le_of_ble_eq_true rfl) hR.2.2.1, Nat.le_trans (m := 1600) (Nat.le_of_ble_eq_true rfl) hR.2.2.2⟩ rfl hl.1 rfl (Nat.le_of_ble_eq_true rfl) dX0_put_50 (fun Y H locs hM hS => ?_)
            refine lv_iconst (v := 1) hx hb dX0_put_53 (by decide) ?_
            refine W.widen (k := 200) (n := 1600) (Nat.le_of_ble_eq_true rfl) (Nat.le_of_ble_eq_true rfl) ?_
            have h := so_ h
            subst h
            exact W.iret hx hb hr (fun t ht hW => hQ _ _ _ t hM hS ht hW) hS.2.2 dX0_put_54
        · have h := in_ c9 h
          refine hx_call (Xn := "java/lang/ClassCastException") (q := q7) (As := [.int x2, .int x3, .int x4]) (rest := []) X hM hS hA hE b_q7 (cfS_lay_cx _ htr Z _ C _ q7 x2 x3 x4 b_q7 e8 c9) (lw_V q1007 q1008 q1009 q87 q1010) cfS_lay_hd ⟨Nat.le_trans (m := cp_put_rm.frames) (Nat.le_of_ble_eq_true rfl) hR.1, Nat.le_trans (m := cp_put_rm.locals) (Nat.le_of_ble_eq_true rfl) hR.2.1⟩ ⟨Nat.le_trans (m := 200) (Nat.le_of_ble_eq_true rfl) hR.2.2.1, Nat.le_trans (m := 1600) (Nat.le_of_ble_eq_true rfl) hR.2.2.2⟩ rfl hl.1 rfl (Nat.le_of_ble_eq_true rfl) dX0_put_50 (fun z11 cell H locs hM hS k1 k2 k3 => ?_)
          refine hx_first (own := RX0) (Yn := "java/lang/ClassCastException") hown (by obtain ⟨x, y, w1, w2, -⟩ := htab; exact ⟨x, [y], w1, w2⟩) (by decide) (by decide) (by decide) (hts _ q974) (hE.nw 5 rfl) k1 k2 k3 ?_
          refine lv_astore (lv' := [(5, .ref z11), (0, .ref (cSa Z 0)), (1, .int x1), (2, .int x2), (3, .int x3), (4, .int x4)]) hx hb dX0_put_55 hl (by decide) rfl (fun ls hl => ?_)
          refine lv_aload_n hx hb dX0_put_57 rfl (lv_at hl 1 rfl) ?_
          refine lv_iconst (v := 3) hx hb dX0_put_58 (by decide) ?_
          obtain ⟨v17, C16, q_C16, h⟩ := bd2_e h
          refine w_wrI (As := [.int (3 : Int32)]) (rest := []) X hM hS hA (c_recv0 X hM) (cf_met_met _ Z _ C _ (3 : Int32) (v17, C16) q_C16) (lw_V q327 q329 qs0 q79 q330) cf_met_hd ⟨rfl, rfl⟩ ⟨Nat.le_trans (m := cp_put_rm.frames) (Nat.le_of_ble_eq_true rfl) hR.1, Nat.le_trans (m := cp_put_rm.locals) (Nat.le_of_ble_eq_true rfl) hR.2.1⟩ ⟨Nat.le_trans (m := 200) (Nat.le_of_ble_eq_true rfl) hR.2.2.1, Nat.le_trans (m := 1600) (Nat.le_of_ble_eq_true rfl) hR.2.2.2⟩ rfl hl.1 rfl (Nat.le_of_ble_eq_true rfl) dX0_put_59 (fun Y H locs hM hS => ?_)
          refine W.widen (k := 200) (n := 1600) (Nat.le_of_ble_eq_true rfl) (Nat.le_of_ble_eq_true rfl) ?_
          have h := so_ h
          subst h
          exact W.iret hx hb hr (fun t ht hW => hQ _ _ _ t hM hS ht hW) hS.2.2 dX0_put_62
      · have h := in_ c6 h
        refine gsN X hM b_q5 c6 dX0_put_28 ?_
        refine lv_ifnonnullN hx hb dX0_put_31 ?_
        refine lv_aload_n hx hb dX0_put_34 rfl (lv_at hl 0 rfl) ?_
        refine lv_iconst (v := 1) hx hb dX0_put_35 (by decide) ?_
        obtain ⟨v19, C18, q_C18, h⟩ := bd2_e h
        refine w_wrI (As := [.int (1 : Int32)]) (rest := []) X hM hS hA (c_recv0 X hM) (cf_met_met _ Z _ C _ (1 : Int32) (v19, C18) q_C18) (lw_V q327 q329 qs0 q79 q330) cf_met_hd ⟨rfl, rfl⟩ ⟨Nat.le_trans (m := cp_put_rm.frames) (Nat.le_of_ble_eq_true rfl) hR.1, Nat.le_trans (m := cp_put_rm.locals) (Nat.le_of_ble_eq_true rfl) hR.2.1⟩ ⟨Nat.le_trans (m := 200) (Nat.le_of_ble_eq_true rfl) hR.2.2.1, Nat.le_trans (m := 1600) (Nat.le_of_ble_eq_true rfl) hR.2.2.2⟩ rfl hl.1 rfl (Nat.le_of_ble_eq_true rfl) dX0_put_36 (fun Y H locs hM hS => ?_)
        refine W.widen (k := 200) (n := 1600) (Nat.le_of_ble_eq_true rfl) (Nat.le_of_ble_eq_true rfl) ?_
        have h := so_ h
        subst h
        exact W.iret hx hb hr (fun t ht hW => hQ _ _ _ t hM hS ht hW) hS.2.2 dX0_put_39
    · have h := ip_ c4 h
      refine lv_bipush (v := -2) hx hb dX0_put_19 (by decide) ?_
      refine W.widen (k := 200) (n := 1600) (Nat.le_of_ble_eq_true rfl) (Nat.le_of_ble_eq_true rfl) ?_
      have h := so_ h
      subst h
      exact W.iret hx hb hr (fun t ht hW => hQ _ _ _ t hM hS ht hW) hS.2.2 dX0_put_21
theorem cp_put_met (l : Launch) (htr : l.stackTraces = false) (Z : CZ) (Y : CY) (C : St) (sz : Nat) (x1 : Int32) (x2 : Int32) (x3 : Int32) (x4 : Int32) (r : (Int32 × St)) (h : cp_put x1 x2 x3 x4 C = some r) : Met l yX0_put (wsW_ yX0_put cX0_put 6 (some .int) [(40, 54, 55, 390), (40, 54, 63, 392)]) cp_put_rm (va_Pc [.ref (cSa Z 0), .int x1, .int x2, .int x3, .int x4] (cSx Z Y C sz)) (Qcw (some (.int r.1)) Z (va_A (cWs Z Y C) sz) r.2) 200 1600 (va_A (cWs Z Y C) sz) := by
  refine va_MetW (cc := cX0_put) (maxL := 6) (ret := some .int) (by decide) rfl ?_
  intro p e s m args below meth c s₁ B hml hv
  obtain ⟨rfl, ⟨hsz, hv⟩, hE⟩ := hv
  subst hsz
  have hts0 := atoms_spec (ws := wsW_ yX0_put cX0_put 6 (some .int) [(40, 54, 55, 390), (40, 54, 63, 392)]) B.pre
  have htab := tab_2 (tab_of B (hts0 _ List.mem_cons_self))
  have hts : ∀ w ∈ lw_all, w.before _ s = true := fun w h => hts0 w (List.mem_cons_of_mem _ h)
  have X : CCx p s m _ meth c cX0_put 6 (some .int) RX0 Z := ⟨⟨B.exec, B.bytes, B.returns, B.notSynchronized, hml, findClass_of_methodNamed B.named, hts⟩, hv.2⟩
  have hl := lv_entry [.ref (cSa Z 0), .int x1, .int x2, .int x3, .int x4] (n := 6) (Nat.le_of_ble_eq_true rfl)
  rw [lg_entry_eq]
  generalize (lg_sl [.ref (cSa Z 0), .int x1, .int x2, .int x3, .int x4] ++ List.replicate (6 - (lg_sl [.ref (cSa Z 0), .int x1, .int x2, .int x3, .int x4]).length) Slot.unset).toArray = ls at hl ⊢
  exact cp_put_w0 X ⟨Nat.le_refl _, Nat.le_refl _, Nat.le_refl _, Nat.le_refl _⟩ (fun q h => Or.inr h) hE htr htab (fun Y H locs t hM hS ht hW => ⟨rfl, ⟨Y, by rw [ht]; exact hM, cKs.warm hW X.2⟩, hS.F ht⟩) x1 x2 x3 x4 Y C _ _ ls (cPD.self hv.1) va_S.rf hl h

/-! SecondChances.get(III)I, on any state -/
def cp_get_rm : Room := { frames := 9, cells := 200, slots := 1600, locals := 10322 }
def cp_get (x1 : Int32) (x2 : Int32) (x3 : Int32) (C : St) : Option (Int32 × St) :=
  bd_ (cf_isSheet x1) fun v1 =>
  if v1 = 0 then (some ((-2147483648 : Int32), C))
  else (bd_ (cf_in (x2.toInt64) (0 : Int64) (2 : Int64)) fun v3 =>
    if v3 = 0 then (some ((-2147483648 : Int32), C))
    else (ix_ 4 x1 fun q5 =>
      if C (60 + q5) 0 = 1 then (ix_ 4 x1 fun q7 =>
        gd_ (C (60 + q7) 0 = 1) <|
        if cRt (C (60 + q7) 1) = cRt x2 then (if (x3 < 0 ∨ (C (60 + q7) 2).toNatClampNeg ≤ x3.toNatClampNeg) then (bd2_ (cf_lowest (2 : Int32) C) fun v15 C14 =>
          some (v15, C14))
          else (bd_ (cfS_item C q7 x2 x3) fun v13 =>
          some (v13, C)))
        else (bd2_ (cf_lowest (3 : Int32) C) fun v17 C16 =>
          some (v17, C16)))
      else (bd2_ (cf_lowest (1 : Int32) C) fun v19 C18 =>
        some (v19, C18))))
set_option maxHeartbeats 4000000 in
theorem cp_get_w0 {p : Program} {l : Launch} {e : Env} {R : Room} {s : State} {m : MethodId} {args : Array Value} {below : List Frame} {meth : Method} {c : Code} {Z : CZ} {A : Nat → Prop} {Qc : Array Value → State → Outcome → State → Prop} (X : CCx p s m args meth c cX0_get 5 (some .int) RX0 Z) (hR : cp_get_rm.frames ≤ R.frames ∧ cp_get_rm.locals ≤ R.locals ∧ 200 ≤ R.cells ∧ 1600 ≤ R.slots) (hA : ∀ q, s.heap.size ≤ q → A q) (hE : cE Z A s s.heap) (htr : l.stackTraces = false) (htab : ∃ x y, c.exceptionTable.toList = [x, y] ∧ (x.startPc = 40 ∧ x.endPc = 51 ∧ x.handlerPc = 52 ∧ x.catchType = 390) ∧ (y.startPc = 40 ∧ y.endPc = 51 ∧ y.handlerPc = 60 ∧ y.catchType = 392)) {r : (Int32 × St)} (hQ : ∀ (Y : CY) (H : Heap) (locs : List Loc) (t : State), cPD Z Y A r.2 H → va_S A s.heap H locs → t.heap = H → s.WarmedH t.vm → Qc args s (.returned (some (.int r.1))) t) (x1 : Int32) (x2 : Int32) (x3 : Int32) (Y : CY) (C : St) (H : Heap) (locs : List Loc) (ls : Array Slot) (hM : cPD Z Y A C H) (hS : va_S A s.heap H locs) (hl : lv_has ls 5 [(0, .ref (cSa Z 0)), (1, .int x1), (2, .int x2), (3, .int x3)]) (h : cp_get x1 x2 x3 C = some r) : W p l e R s m args below meth c H locs 0 0 (MQ below Qc args s 200 1600 A) (F0 m 0 ls []) := by
  obtain ⟨⟨hx, hb, hr, hlocks, hml, hown, hts⟩, hK⟩ := id X
  unfold cp_get at h
  refine lv_iload_n hx hb dX0_get_0 rfl (lv_at hl 1 rfl) ?_
  obtain ⟨v1, q_v1, h⟩ := bd_e h
  refine s_roI (As := [.int x1]) (rest := []) X.1 (cf_isSheet_met _ x1 v1 q_v1) (lw_S q324 q325 q79 q326) cf_isSheet_hd ⟨rfl, rfl⟩ ⟨Nat.le_trans (m := cp_get_rm.frames) (Nat.le_of_ble_eq_true rfl) hR.1, Nat.le_trans (m := cp_get_rm.locals) (Nat.le_of_ble_eq_true rfl) hR.2.1⟩ ⟨Nat.le_trans (m := 200) (Nat.le_of_ble_eq_true rfl) hR.2.2.1, Nat.le_trans (m := 1600) (Nat.le_of_ble_eq_true rfl) hR.2.2.2⟩ rfl hl.1 rfl (Nat.le_of_ble_eq_true rfl) dX0_get_1 ?_
  refine lv_if_eq (tgt := 19) hx hb dX0_get_4 (by decide) (fun c2 => ?_) (fun c2 => ?_)
  · have h := ip_ c2 h
    refine lv_ldc (v := -2147483648) hx hb hown (hts _ q1015) dX0_get_19 ?_
    refine W.widen (k := 200) (n := 1600) (Nat.le_of_ble_eq_true rfl) (Nat.le_of_ble_eq_true rfl) ?_
    have h := so_ h
    subst h
    exact W.iret hx hb hr (fun t ht hW => hQ _ _ _ t hM hS ht hW) hS.2.2 dX0_get_21
  · have h := in_ c2 h
    refine lv_iload_n hx hb dX0_get_7 rfl (lv_at hl 2 rfl) ?_
    refine lv_i2l hx hb dX0_get_8 rfl ?_
    refine lv_lconst (v := 0) hx hb dX0_get_9 (by decide) ?_
    refine lv_ldc2 (v := 2) hx hb hown (hts _ q670) dX0_get_10 ?_
    obtain ⟨v3, q_v3, h⟩ := bd_e h
    refine s_roI (As := [.long (x2.toInt64), .long (0 : Int64), .long (2 : Int64)]) (rest := []) X.1 (cf_in_met _ (x2.toInt64) (0 : Int64) (2 : Int64) v3 q_v3) (lw_S q298 q299 q79 q300) cf_in_hd ⟨rfl, rfl⟩ ⟨Nat.le_trans (m := cp_get_rm.frames) (Nat.le_of_ble_eq_true rfl) hR.1, Nat.le_trans (m := cp_get_rm.locals) (Nat.le_of_ble_eq_true rfl) hR.2.1⟩ ⟨Nat.le_trans (m := 200) (Nat.le_of_ble_eq_true rfl) hR.2.2.1, Nat.le_trans (m := 1600) (Nat.le_of_ble_eq_true rfl) hR.2.2.2⟩ rfl hl.1 rfl (Nat.le_of_ble_eq_true rfl) dX0_get_13 ?_
    refine lv_if_ne (tgt := 22) hx hb dX0_get_16 (by decide) (fun c4 => ?_) (fun c4 => ?_)
    · have h := in_ c4 h
      refine lv_aload_n hx hb dX0_get_22 rfl (lv_at hl 0 rfl) ?_
      refine gc19 X hM dX0_get_23 ?_
      refine lv_iload_n hx hb dX0_get_26 rfl (lv_at hl 1 rfl) ?_
      obtain ⟨i_q5, b_q5, h⟩ := ix_e h
      refine c_aldH X hM i_q5 dX0_get_27 (fun q5 e_q5 => ?_)
      have h := h q5 e_q5
      rw [← e_q5] at b_q5
      by_cases c6 : C (60 + q5) 0 = 1
      · have h := ip_ c6 h
        refine gsY X hM b_q5 c6 dX0_get_28 ?_
        refine lv_ifnonnull (tgt := 40) hx hb dX0_get_31 (by decide) ?_
        refine lv_aload_n hx hb dX0_get_40 rfl (lv_at hl 0 rfl) ?_
        refine gc19 X hM dX0_get_41 ?_
        refine lv_iload_n hx hb dX0_get_44 rfl (lv_at hl 1 rfl) ?_
        obtain ⟨i_q7, b_q7, h⟩ := ix_e h
        refine c_aldH X hM i_q7 dX0_get_45 (fun q7 e_q7 => ?_)
        have h := h q7 e_q7
        rw [← e_q7] at b_q7
        refine lv_iload_n hx hb dX0_get_46 rfl (lv_at hl 2 rfl) ?_
        refine lv_iload_n hx hb dX0_get_47 rfl (lv_at hl 3 rfl) ?_
        obtain ⟨e8, h⟩ := gd_e h
        by_cases c9 : cRt (C (60 + q7) 1) = cRt x2
        · have h := ip_ c9 h
          by_cases c10 : (x3 < 0 ∨ (C (60 + q7) 2).toNatClampNeg ≤ x3.toNatClampNeg)
          · have h := ip_ c10 h
            refine hx_call (Xn := "java/lang/ArrayIndexOutOfBoundsException") (q := q7) (As := [.int x2, .int x3]) (rest := []) X hM hS hA hE b_q7 (cfS_item_ax _ htr Z _ C _ q7 x2 x3 b_q7 e8 c9 (fun w => w c10)) (lw_V q343 q344 q345 q87 q346) cfS_item_hd ⟨Nat.le_trans (m := cp_get_rm.frames) (Nat.le_of_ble_eq_true rfl) hR.1, Nat.le_trans (m := cp_get_rm.locals) (Nat.le_of_ble_eq_true rfl) hR.2.1⟩ ⟨Nat.le_trans (m := 200) (Nat.le_of_ble_eq_true rfl) hR.2.2.1, Nat.le_trans (m := 1600) (Nat.le_of_ble_eq_true rfl) hR.2.2.2⟩ rfl hl.1 rfl (Nat.le_of_ble_eq_true rfl) dX0_get_48 (fun z12 cell H locs hM hS k1 k2 k3 => ?_)
            refine hx_second (own := RX0) (Yn := "java/lang/ArrayIndexOutOfBoundsException") (Y1 := "java/lang/ClassCastException") hown htab (by decide) (by decide) (by decide) (by decide) (by decide) (by decide) (hts _ q974) (hE.nc 6 rfl) (hts _ q988) (hE.nw 6 rfl) k1 k2 k3 ?_
            refine lv_astore (lv' := [(4, .ref z12), (0, .ref (cSa Z 0)), (1, .int x1), (2, .int x2), (3, .int x3)]) hx hb dX0_get_60 hl (by decide) rfl (fun ls hl => ?_)
            refine lv_aload_n hx hb dX0_get_62 rfl (lv_at hl 1 rfl) ?_
            refine lv_iconst (v := 2) hx hb dX0_get_63 (by decide) ?_
            obtain ⟨v15, C14, q_C14, h⟩ := bd2_e h
            refine w_wrI (As := [.int (2 : Int32)]) (rest := []) X hM hS hA (c_recv0 X hM) (cf_lowest_met _ Z _ C _ (2 : Int32) (v15, C14) q_C14) (lw_V q1016 q1018 qs40 q79 q1019) cf_lowest_hd ⟨rfl, rfl⟩ ⟨Nat.le_trans (m := cp_get_rm.frames) (Nat.le_of_ble_eq_true rfl) hR.1, Nat.le_trans (m := cp_get_rm.locals) (Nat.le_of_ble_eq_true rfl) hR.2.1⟩ ⟨Nat.le_trans (m := 200) (Nat.le_of_ble_eq_true rfl) hR.2.2.1, Nat.le_trans (m := 1600) (Nat.le_of_ble_eq_true rfl) hR.2.2.2⟩ rfl hl.1 rfl (Nat.le_of_ble_eq_true rfl) dX0_get_64 (fun Y H locs hM hS => ?_)
            refine W.widen (k := 200) (n := 1600) (Nat.le_of_ble_eq_true rfl) (Nat.le_of_ble_eq_true rfl) ?_
            have h := so_ h
            subst h
            exact W.iret hx hb hr (fun t ht hW => hQ _ _ _ t hM hS ht hW) hS.2.2 dX0_get_67
          · have h := in_ c10 h
            obtain ⟨v13, q_v13, h⟩ := bd_e h
            refine f_roI (As := [.int x2, .int x3]) (rest := []) X hM (c_recvH (q := q7) X hM b_q7) hS.2.2 (cPD.fr hM) (cfS_item_met _ Z Y A C q7 x2 x3 v13 q_v13) (lw_V q343 q344 q345 q87 q346) cfS_item_hd ⟨rfl, rfl⟩ ⟨Nat.le_trans (m := cp_get_rm.frames) (Nat.le_of_ble_eq_true rfl) hR.1, Nat.le_trans (m := cp_get_rm.locals) (Nat.le_of_ble_eq_true rfl) hR.2.1⟩ ⟨Nat.le_trans (m := 200) (Nat.le_of_ble_eq_true rfl) hR.2.2.1, Nat.le_trans (m := 1600) (Nat.le_of_ble_eq_true rfl) hR.2.2.2⟩ rfl hl.1 rfl (Nat.le_of_ble_eq_true rfl) dX0_get_48 (fun locs hL => ?_)
            have hS : va_S A s.heap _ locs := ⟨hS.1, hS.2.1, hL⟩
            refine W.widen (k := 200) (n := 1600) (Nat.le_of_ble_eq_true rfl) (Nat.le_of_ble_eq_true rfl) ?_
            have h := so_ h
            subst h
            exact W.iret hx hb hr (fun t ht hW => hQ _ _ _ t hM hS ht hW) hS.2.2 dX0_get_51
        · have h := in_ c9 h
          refine hx_call (Xn := "java/lang/ClassCastException") (q := q7) (As := [.int x2, .int x3]) (rest := []) X hM hS hA hE b_q7 (cfS_item_cx _ htr Z _ C _ q7 x2 x3 b_q7 e8 c9) (lw_V q343 q344 q345 q87 q346) cfS_item_hd ⟨Nat.le_trans (m := cp_get_rm.frames) (Nat.le_of_ble_eq_true rfl) hR.1, Nat.le_trans (m := cp_get_rm.locals) (Nat.le_of_ble_eq_true rfl) hR.2.1⟩ ⟨Nat.le_trans (m := 200) (Nat.le_of_ble_eq_true rfl) hR.2.2.1, Nat.le_trans (m := 1600) (Nat.le_of_ble_eq_true rfl) hR.2.2.2⟩ rfl hl.1 rfl (Nat.le_of_ble_eq_true rfl) dX0_get_48 (fun z11 cell H locs hM hS k1 k2 k3 => ?_)
          refine hx_first (own := RX0) (Yn := "java/lang/ClassCastException") hown (by obtain ⟨x, y, w1, w2, -⟩ := htab; exact ⟨x, [y], w1, w2⟩) (by decide) (by decide) (by decide) (hts _ q974) (hE.nw 5 rfl) k1 k2 k3 ?_
          refine lv_astore (lv' := [(4, .ref z11), (0, .ref (cSa Z 0)), (1, .int x1), (2, .int x2), (3, .int x3)]) hx hb dX0_get_52 hl (by decide) rfl (fun ls hl => ?_)
          refine lv_aload_n hx hb dX0_get_54 rfl (lv_at hl 1 rfl) ?_
          refine lv_iconst (v := 3) hx hb dX0_get_55 (by decide) ?_
          obtain ⟨v17, C16, q_C16, h⟩ := bd2_e h
          refine w_wrI (As := [.int (3 : Int32)]) (rest := []) X hM hS hA (c_recv0 X hM) (cf_lowest_met _ Z _ C _ (3 : Int32) (v17, C16) q_C16) (lw_V q1016 q1018 qs40 q79 q1019) cf_lowest_hd ⟨rfl, rfl⟩ ⟨Nat.le_trans (m := cp_get_rm.frames) (Nat.le_of_ble_eq_true rfl) hR.1, Nat.le_trans (m := cp_get_rm.locals) (Nat.le_of_ble_eq_true rfl) hR.2.1⟩ ⟨Nat.le_trans (m := 200) (Nat.le_of_ble_eq_true rfl) hR.2.2.1, Nat.le_trans (m := 1600) (Nat.le_of_ble_eq_true rfl) hR.2.2.2⟩ rfl hl.1 rfl (Nat.le_of_ble_eq_true rfl) dX0_get_56 (fun Y H locs hM hS => ?_)
          refine W.widen (k := 200) (n := 1600) (Nat.le_of_ble_eq_true rfl) (Nat.le_of_ble_eq_true rfl) ?_
          have h := so_ h
          subst h
          exact W.iret hx hb hr (fun t ht hW => hQ _ _ _ t hM hS ht hW) hS.2.2 dX0_get_59
      · have h := in_ c6 h
        refine gsN X hM b_q5 c6 dX0_get_28 ?_
        refine lv_ifnonnullN hx hb dX0_get_31 ?_
        refine lv_aload_n hx hb dX0_get_34 rfl (lv_at hl 0 rfl) ?_
        refine lv_iconst (v := 1) hx hb dX0_get_35 (by decide) ?_
        obtain ⟨v19, C18, q_C18, h⟩ := bd2_e h
        refine w_wrI (As := [.int (1 : Int32)]) (rest := []) X hM hS hA (c_recv0 X hM) (cf_lowest_met _ Z _ C _ (1 : Int32) (v19, C18) q_C18) (lw_V q1016 q1018 qs40 q79 q1019) cf_lowest_hd ⟨rfl, rfl⟩ ⟨Nat.le_trans (m := cp_get_rm.frames) (Nat.le_of_ble_eq_true rfl) hR.1, Nat.le_trans (m := cp_get_rm.locals) (Nat.le_of_ble_eq_true rfl) hR.2.1⟩ ⟨Nat.le_trans (m := 200) (Nat.le_of_ble_eq_true rfl) hR.2.2.1, Nat.le_trans (m := 1600) (Nat.le_of_ble_eq_true rfl) hR.2.2.2⟩ rfl hl.1 rfl (Nat.le_of_ble_eq_true rfl) dX0_get_36 (fun Y H locs hM hS => ?_)
        refine W.widen (k := 200) (n := 1600) (Nat.le_of_ble_eq_true rfl) (Nat.le_of_ble_eq_true rfl) ?_
        have h := so_ h
        subst h
        exact W.iret hx hb hr (fun t ht hW => hQ _ _ _ t hM hS ht hW) hS.2.2 dX0_get_39
    · have h := ip_ c4 h
      refine lv_ldc (v := -2147483648) hx hb hown (hts _ q1015) dX0_get_19 ?_
      refine W.widen (k := 200) (n := 1600) (Nat.le_of_ble_eq_true rfl) (Nat.le_of_ble_eq_true rfl) ?_
      have h := so_ h
      subst h
      exact W.iret hx hb hr (fun t ht hW => hQ _ _ _ t hM hS ht hW) hS.2.2 dX0_get_21
theorem cp_get_met (l : Launch) (htr : l.stackTraces = false) (Z : CZ) (Y : CY) (C : St) (sz : Nat) (x1 : Int32) (x2 : Int32) (x3 : Int32) (r : (Int32 × St)) (h : cp_get x1 x2 x3 C = some r) : Met l yX0_get (wsW_ yX0_get cX0_get 5 (some .int) [(40, 51, 52, 390), (40, 51, 60, 392)]) cp_get_rm (va_Pc [.ref (cSa Z 0), .int x1, .int x2, .int x3] (cSx Z Y C sz)) (Qcw (some (.int r.1)) Z (va_A (cWs Z Y C) sz) r.2) 200 1600 (va_A (cWs Z Y C) sz) := by
  refine va_MetW (cc := cX0_get) (maxL := 5) (ret := some .int) (by decide) rfl ?_
  intro p e s m args below meth c s₁ B hml hv
  obtain ⟨rfl, ⟨hsz, hv⟩, hE⟩ := hv
  subst hsz
  have hts0 := atoms_spec (ws := wsW_ yX0_get cX0_get 5 (some .int) [(40, 51, 52, 390), (40, 51, 60, 392)]) B.pre
  have htab := tab_2 (tab_of B (hts0 _ List.mem_cons_self))
  have hts : ∀ w ∈ lw_all, w.before _ s = true := fun w h => hts0 w (List.mem_cons_of_mem _ h)
  have X : CCx p s m _ meth c cX0_get 5 (some .int) RX0 Z := ⟨⟨B.exec, B.bytes, B.returns, B.notSynchronized, hml, findClass_of_methodNamed B.named, hts⟩, hv.2⟩
  have hl := lv_entry [.ref (cSa Z 0), .int x1, .int x2, .int x3] (n := 5) (Nat.le_of_ble_eq_true rfl)
  rw [lg_entry_eq]
  generalize (lg_sl [.ref (cSa Z 0), .int x1, .int x2, .int x3] ++ List.replicate (5 - (lg_sl [.ref (cSa Z 0), .int x1, .int x2, .int x3]).length) Slot.unset).toArray = ls at hl ⊢
  exact cp_get_w0 X ⟨Nat.le_refl _, Nat.le_refl _, Nat.le_refl _, Nat.le_refl _⟩ (fun q h => Or.inr h) hE htr htab (fun Y H locs t hM hS ht hW => ⟨rfl, ⟨Y, by rw [ht]; exact hM, cKs.warm hW X.2⟩, hS.F ht⟩) x1 x2 x3 Y C _ _ ls (cPD.self hv.1) va_S.rf hl h
