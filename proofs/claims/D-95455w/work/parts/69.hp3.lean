set_option maxRecDepth 100000
/-! SecondChances.copy(IIIII)I, on any state -/
def cp_copy_rm : Room := { frames := 9, cells := 200, slots := 1600, locals := 10320 }
def cp_copy (x1 : Int32) (x2 : Int32) (x3 : Int32) (x4 : Int32) (x5 : Int32) (C : St) : Option (Int32 × St) :=
  bd_ (cf_isSheet x1) fun v1 =>
  if v1 = 0 then (some ((-2 : Int32), C))
  else (bd_ (cf_isSheet x3) fun v3 =>
    if v3 = 0 then (some ((-2 : Int32), C))
    else (ix_ 4 x1 fun q5 =>
      if C (60 + q5) 0 = 1 then (ix_ 4 x3 fun q7 =>
        if C (60 + q7) 0 = 1 then (ix_ 4 x1 fun q9 =>
          bd_ (cfS_type C q9 ) fun v10 =>
          ix_ 4 x3 fun q11 =>
          bd_ (cfS_type C q11 ) fun v12 =>
          if v10 = v12 then (ix_ 4 x1 fun q14 =>
            gd_ (C (60 + q14) 0 = 1) <|
            ix_ 4 x3 fun q16 =>
            gd_ (C (60 + q16) 0 = 1) <|
            gd_ (cRt (C (60 + q14) 1) = cRt (C (60 + q16) 1)) <|
            if cpOut C q14 q16 x2 x4 x5 then (bd2_ (cf_met (2 : Int32) C) fun v24 C23 =>
              some (v24, C23))
            else (gd_ (shFit C q14 x2 x5 = true) <|
              lt_ (up1 C (70 + q16) (va_cpy (C (70 + q14)) (C (70 + q16)) x2.toNatClampNeg x4.toNatClampNeg x5.toNatClampNeg)) fun C22 =>
              some ((1 : Int32), C22)))
          else (bd2_ (cf_met (4 : Int32) C) fun v26 C25 =>
            some (v26, C25)))
        else (bd2_ (cf_met (1 : Int32) C) fun v28 C27 =>
          some (v28, C27)))
      else (bd2_ (cf_met (1 : Int32) C) fun v30 C29 =>
        some (v30, C29))))
set_option maxHeartbeats 4000000 in
theorem cp_copy_w0 {p : Program} {l : Launch} {e : Env} {R : Room} {s : State} {m : MethodId} {args : Array Value} {below : List Frame} {meth : Method} {c : Code} {Z : CZ} {A : Nat → Prop} {Qc : Array Value → State → Outcome → State → Prop} (X : CCx p s m args meth c cX0_copy 7 (some .int) RX0 Z) (hR : cp_copy_rm.frames ≤ R.frames ∧ cp_copy_rm.locals ≤ R.locals ∧ 200 ≤ R.cells ∧ 1600 ≤ R.slots) (hA : ∀ q, s.heap.size ≤ q → A q) (hE : cE Z A s s.heap) (htr : l.stackTraces = false) (htab : ∃ x, c.exceptionTable.toList = [x] ∧ x.startPc = 74 ∧ x.endPc = 101 ∧ x.handlerPc = 102 ∧ x.catchType = 397) {r : (Int32 × St)} (hQ : ∀ (Y : CY) (H : Heap) (locs : List Loc) (t : State), cPD Z Y A r.2 H → va_S A s.heap H locs → t.heap = H → s.WarmedH t.vm → Qc args s (.returned (some (.int r.1))) t) (x1 : Int32) (x2 : Int32) (x3 : Int32) (x4 : Int32) (x5 : Int32) (Y : CY) (C : St) (H : Heap) (locs : List Loc) (ls : Array Slot) (hM : cPD Z Y A C H) (hS : va_S A s.heap H locs) (hl : lv_has ls 7 [(0, .ref (cSa Z 0)), (1, .int x1), (2, .int x2), (3, .int x3), (4, .int x4), (5, .int x5)]) (h : cp_copy x1 x2 x3 x4 x5 C = some r) : W p l e R s m args below meth c H locs 0 0 (MQ below Qc args s 200 1600 A) (F0 m 0 ls []) := by
  obtain ⟨⟨hx, hb, hr, hlocks, hml, hown, hts⟩, hK⟩ := id X
  unfold cp_copy at h
  refine lv_iload_n hx hb dX0_copy_0 rfl (lv_at hl 1 rfl) ?_
  obtain ⟨v1, q_v1, h⟩ := bd_e h
  refine s_roI (As := [.int x1]) (rest := []) X.1 (cf_isSheet_met _ x1 v1 q_v1) (lw_S q324 q325 q79 q326) cf_isSheet_hd ⟨rfl, rfl⟩ ⟨Nat.le_trans (m := cp_copy_rm.frames) (Nat.le_of_ble_eq_true rfl) hR.1, Nat.le_trans (m := cp_copy_rm.locals) (Nat.le_of_ble_eq_true rfl) hR.2.1⟩ ⟨Nat.le_trans (m := 200) (Nat.le_of_ble_eq_true rfl) hR.2.2.1, Nat.le_trans (m := 1600) (Nat.le_of_ble_eq_true rfl) hR.2.2.2⟩ rfl hl.1 rfl (Nat.le_of_ble_eq_true rfl) dX0_copy_1 ?_
  refine lv_if_eq (tgt := 14) hx hb dX0_copy_4 (by decide) (fun c2 => ?_) (fun c2 => ?_)
  · have h := ip_ c2 h
    refine lv_bipush (v := -2) hx hb dX0_copy_14 (by decide) ?_
    refine W.widen (k := 200) (n := 1600) (Nat.le_of_ble_eq_true rfl) (Nat.le_of_ble_eq_true rfl) ?_
    have h := so_ h
    subst h
    exact W.iret hx hb hr (fun t ht hW => hQ _ _ _ t hM hS ht hW) hS.2.2 dX0_copy_16
  · have h := in_ c2 h
    refine lv_iload_n hx hb dX0_copy_7 rfl (lv_at hl 3 rfl) ?_
    obtain ⟨v3, q_v3, h⟩ := bd_e h
    refine s_roI (As := [.int x3]) (rest := []) X.1 (cf_isSheet_met _ x3 v3 q_v3) (lw_S q324 q325 q79 q326) cf_isSheet_hd ⟨rfl, rfl⟩ ⟨Nat.le_trans (m := cp_copy_rm.frames) (Nat.le_of_ble_eq_true rfl) hR.1, Nat.le_trans (m := cp_copy_rm.locals) (Nat.le_of_ble_eq_true rfl) hR.2.1⟩ ⟨Nat.le_trans (m := 200) (Nat.le_of_ble_eq_true rfl) hR.2.2.1, Nat.le_trans (m := 1600) (Nat.le_of_ble_eq_true rfl) hR.2.2.2⟩ rfl hl.1 rfl (Nat.le_of_ble_eq_true rfl) dX0_copy_8 ?_
    refine lv_if_ne (tgt := 17) hx hb dX0_copy_11 (by decide) (fun c4 => ?_) (fun c4 => ?_)
    · have h := in_ c4 h
      refine lv_aload_n hx hb dX0_copy_17 rfl (lv_at hl 0 rfl) ?_
      refine gc19 X hM dX0_copy_18 ?_
      refine lv_iload_n hx hb dX0_copy_21 rfl (lv_at hl 1 rfl) ?_
      obtain ⟨i_q5, b_q5, h⟩ := ix_e h
      refine c_aldH X hM i_q5 dX0_copy_22 (fun q5 e_q5 => ?_)
      have h := h q5 e_q5
      rw [← e_q5] at b_q5
      by_cases c6 : C (60 + q5) 0 = 1
      · have h := ip_ c6 h
        refine gsY X hM b_q5 c6 dX0_copy_23 ?_
        refine lv_ifnull hx hb dX0_copy_26 ?_
        refine lv_aload_n hx hb dX0_copy_29 rfl (lv_at hl 0 rfl) ?_
        refine gc19 X hM dX0_copy_30 ?_
        refine lv_iload_n hx hb dX0_copy_33 rfl (lv_at hl 3 rfl) ?_
        obtain ⟨i_q7, b_q7, h⟩ := ix_e h
        refine c_aldH X hM i_q7 dX0_copy_34 (fun q7 e_q7 => ?_)
        have h := h q7 e_q7
        rw [← e_q7] at b_q7
        by_cases c8 : C (60 + q7) 0 = 1
        · have h := ip_ c8 h
          refine gsY X hM b_q7 c8 dX0_copy_35 ?_
          refine lv_ifnonnull (tgt := 47) hx hb dX0_copy_38 (by decide) ?_
          refine lv_aload_n hx hb dX0_copy_47 rfl (lv_at hl 0 rfl) ?_
          refine gc19 X hM dX0_copy_48 ?_
          refine lv_iload_n hx hb dX0_copy_51 rfl (lv_at hl 1 rfl) ?_
          obtain ⟨i_q9, b_q9, h⟩ := ix_e h
          refine c_aldH X hM i_q9 dX0_copy_52 (fun q9 e_q9 => ?_)
          have h := h q9 e_q9
          rw [← e_q9] at b_q9
          obtain ⟨v10, q_v10, h⟩ := bd_e h
          refine f_roI (As := []) (rest := []) X hM (c_recvH (q := q9) X hM b_q9) hS.2.2 (cPD.fr hM) (cfS_type_met _ Z Y A C q9  v10 q_v10) (lw_V q342 q336 q337 q87 q338) cfS_type_hd ⟨rfl, rfl⟩ ⟨Nat.le_trans (m := cp_copy_rm.frames) (Nat.le_of_ble_eq_true rfl) hR.1, Nat.le_trans (m := cp_copy_rm.locals) (Nat.le_of_ble_eq_true rfl) hR.2.1⟩ ⟨Nat.le_trans (m := 200) (Nat.le_of_ble_eq_true rfl) hR.2.2.1, Nat.le_trans (m := 1600) (Nat.le_of_ble_eq_true rfl) hR.2.2.2⟩ rfl hl.1 rfl (Nat.le_of_ble_eq_true rfl) dX0_copy_53 (fun locs hL => ?_)
          have hS : va_S A s.heap _ locs := ⟨hS.1, hS.2.1, hL⟩
          refine lv_aload_n hx hb dX0_copy_56 rfl (lv_at hl 0 rfl) ?_
          refine gc19 X hM dX0_copy_57 ?_
          refine lv_iload_n hx hb dX0_copy_60 rfl (lv_at hl 3 rfl) ?_
          obtain ⟨i_q11, b_q11, h⟩ := ix_e h
          refine c_aldH X hM i_q11 dX0_copy_61 (fun q11 e_q11 => ?_)
          have h := h q11 e_q11
          rw [← e_q11] at b_q11
          obtain ⟨v12, q_v12, h⟩ := bd_e h
          refine f_roI (As := []) (rest := [.int v10]) X hM (c_recvH (q := q11) X hM b_q11) hS.2.2 (cPD.fr hM) (cfS_type_met _ Z Y A C q11  v12 q_v12) (lw_V q342 q336 q337 q87 q338) cfS_type_hd ⟨rfl, rfl⟩ ⟨Nat.le_trans (m := cp_copy_rm.frames) (Nat.le_of_ble_eq_true rfl) hR.1, Nat.le_trans (m := cp_copy_rm.locals) (Nat.le_of_ble_eq_true rfl) hR.2.1⟩ ⟨Nat.le_trans (m := 200) (Nat.le_of_ble_eq_true rfl) hR.2.2.1, Nat.le_trans (m := 1600) (Nat.le_of_ble_eq_true rfl) hR.2.2.2⟩ rfl hl.1 rfl (Nat.le_of_ble_eq_true rfl) dX0_copy_62 (fun locs hL => ?_)
          have hS : va_S A s.heap _ locs := ⟨hS.1, hS.2.1, hL⟩
          refine lv_icmp_eq (tgt := 74) hx hb dX0_copy_65 (by decide) (fun c13 => ?_) (fun c13 => ?_)
          · have h := ip_ c13 h
            refine lv_aload_n hx hb dX0_copy_74 rfl (lv_at hl 0 rfl) ?_
            refine gc19 X hM dX0_copy_75 ?_
            refine lv_iload_n hx hb dX0_copy_78 rfl (lv_at hl 1 rfl) ?_
            obtain ⟨i_q14, b_q14, h⟩ := ix_e h
            refine c_aldH X hM i_q14 dX0_copy_79 (fun q14 e_q14 => ?_)
            have h := h q14 e_q14
            rw [← e_q14] at b_q14
            obtain ⟨e15, h⟩ := gd_e h
            refine gsY X hM b_q14 e15 dX0_copy_80 ?_
            refine lv_iload_n hx hb dX0_copy_83 rfl (lv_at hl 2 rfl) ?_
            refine lv_aload_n hx hb dX0_copy_84 rfl (lv_at hl 0 rfl) ?_
            refine gc19 X hM dX0_copy_85 ?_
            refine lv_iload_n hx hb dX0_copy_88 rfl (lv_at hl 3 rfl) ?_
            obtain ⟨i_q16, b_q16, h⟩ := ix_e h
            refine c_aldH X hM i_q16 dX0_copy_89 (fun q16 e_q16 => ?_)
            have h := h q16 e_q16
            rw [← e_q16] at b_q16
            obtain ⟨e17, h⟩ := gd_e h
            refine gsY X hM b_q16 e17 dX0_copy_90 ?_
            refine lv_iload hx hb dX0_copy_93 (lv_at hl 4 rfl) ?_
            refine lv_iload hx hb dX0_copy_95 (lv_at hl 5 rfl) ?_
            obtain ⟨f18, h⟩ := gd_e h
            by_cases c19 : cpOut C q14 q16 x2 x4 x5
            · have h := ip_ c19 h
              refine nc_row (rest := []) X hM hS hA hE htr b_q14 b_q16 e15 e17 f18 c19 ⟨Nat.le_trans (m := cp_copy_rm.frames) (Nat.le_of_ble_eq_true rfl) hR.1, Nat.le_trans (m := cp_copy_rm.locals) (Nat.le_of_ble_eq_true rfl) hR.2.1⟩ ⟨Nat.le_trans (m := 200) (Nat.le_of_ble_eq_true rfl) hR.2.2.1, Nat.le_trans (m := 1600) (Nat.le_of_ble_eq_true rfl) hR.2.2.2⟩ hl.1 (Nat.le_of_ble_eq_true rfl) dX0_copy_97 (fun z20 cell H locs hM hS k1 k2 k3 => ?_)
              refine hx_first (own := RX0) (Yn := "java/lang/IndexOutOfBoundsException") hown (by obtain ⟨x, w1, w2⟩ := htab; exact ⟨x, [], w1, w2⟩) (by decide) (by decide) (by decide) (hts _ q1024) (hE.nw 7 rfl) k1 k2 k3 ?_
              refine lv_astore (lv' := [(6, .ref z20), (0, .ref (cSa Z 0)), (1, .int x1), (2, .int x2), (3, .int x3), (4, .int x4), (5, .int x5)]) hx hb dX0_copy_102 hl (by decide) rfl (fun ls hl => ?_)
              refine lv_aload_n hx hb dX0_copy_104 rfl (lv_at hl 1 rfl) ?_
              refine lv_iconst (v := 2) hx hb dX0_copy_105 (by decide) ?_
              obtain ⟨v24, C23, q_C23, h⟩ := bd2_e h
              refine w_wrI (As := [.int (2 : Int32)]) (rest := []) X hM hS hA (c_recv0 X hM) (cf_met_met _ Z _ C _ (2 : Int32) (v24, C23) q_C23) (lw_V q327 q329 qs0 q79 q330) cf_met_hd ⟨rfl, rfl⟩ ⟨Nat.le_trans (m := cp_copy_rm.frames) (Nat.le_of_ble_eq_true rfl) hR.1, Nat.le_trans (m := cp_copy_rm.locals) (Nat.le_of_ble_eq_true rfl) hR.2.1⟩ ⟨Nat.le_trans (m := 200) (Nat.le_of_ble_eq_true rfl) hR.2.2.1, Nat.le_trans (m := 1600) (Nat.le_of_ble_eq_true rfl) hR.2.2.2⟩ rfl hl.1 rfl (Nat.le_of_ble_eq_true rfl) dX0_copy_106 (fun Y H locs hM hS => ?_)
              refine W.widen (k := 200) (n := 1600) (Nat.le_of_ble_eq_true rfl) (Nat.le_of_ble_eq_true rfl) ?_
              have h := so_ h
              subst h
              exact W.iret hx hb hr (fun t ht hW => hQ _ _ _ t hM hS ht hW) hS.2.2 dX0_copy_109
            · have h := in_ c19 h
              obtain ⟨u21, h⟩ := gd_e h
              refine sh_cpy (rest := []) X hM hS b_q14 b_q16 e15 e17 f18 c19 u21 (hml.trans hl.1.symm) (Nat.le_trans (m := cp_copy_rm.frames) (Nat.le_of_ble_eq_true rfl) hR.1) (Nat.le_trans (m := cp_copy_rm.locals) (Nat.le_of_ble_eq_true rfl) hR.2.1) dX0_copy_97 (fun H locs C22 e_C22 hM hS => ?_)
              have h := lt_i h e_C22
              refine lv_iconst (v := 1) hx hb dX0_copy_100 (by decide) ?_
              refine W.widen (k := 200) (n := 1600) (Nat.le_of_ble_eq_true rfl) (Nat.le_of_ble_eq_true rfl) ?_
              have h := so_ h
              subst h
              exact W.iret hx hb hr (fun t ht hW => hQ _ _ _ t hM hS ht hW) hS.2.2 dX0_copy_101
          · have h := in_ c13 h
            refine lv_aload_n hx hb dX0_copy_68 rfl (lv_at hl 0 rfl) ?_
            refine lv_iconst (v := 4) hx hb dX0_copy_69 (by decide) ?_
            obtain ⟨v26, C25, q_C25, h⟩ := bd2_e h
            refine w_wrI (As := [.int (4 : Int32)]) (rest := []) X hM hS hA (c_recv0 X hM) (cf_met_met _ Z _ C _ (4 : Int32) (v26, C25) q_C25) (lw_V q327 q329 qs0 q79 q330) cf_met_hd ⟨rfl, rfl⟩ ⟨Nat.le_trans (m := cp_copy_rm.frames) (Nat.le_of_ble_eq_true rfl) hR.1, Nat.le_trans (m := cp_copy_rm.locals) (Nat.le_of_ble_eq_true rfl) hR.2.1⟩ ⟨Nat.le_trans (m := 200) (Nat.le_of_ble_eq_true rfl) hR.2.2.1, Nat.le_trans (m := 1600) (Nat.le_of_ble_eq_true rfl) hR.2.2.2⟩ rfl hl.1 rfl (Nat.le_of_ble_eq_true rfl) dX0_copy_70 (fun Y H locs hM hS => ?_)
            refine W.widen (k := 200) (n := 1600) (Nat.le_of_ble_eq_true rfl) (Nat.le_of_ble_eq_true rfl) ?_
            have h := so_ h
            subst h
            exact W.iret hx hb hr (fun t ht hW => hQ _ _ _ t hM hS ht hW) hS.2.2 dX0_copy_73
        · have h := in_ c8 h
          refine gsN X hM b_q7 c8 dX0_copy_35 ?_
          refine lv_ifnonnullN hx hb dX0_copy_38 ?_
          refine lv_aload_n hx hb dX0_copy_41 rfl (lv_at hl 0 rfl) ?_
          refine lv_iconst (v := 1) hx hb dX0_copy_42 (by decide) ?_
          obtain ⟨v28, C27, q_C27, h⟩ := bd2_e h
          refine w_wrI (As := [.int (1 : Int32)]) (rest := []) X hM hS hA (c_recv0 X hM) (cf_met_met _ Z _ C _ (1 : Int32) (v28, C27) q_C27) (lw_V q327 q329 qs0 q79 q330) cf_met_hd ⟨rfl, rfl⟩ ⟨Nat.le_trans (m := cp_copy_rm.frames) (Nat.le_of_ble_eq_true rfl) hR.1, Nat.le_trans (m := cp_copy_rm.locals) (Nat.le_of_ble_eq_true rfl) hR.2.1⟩ ⟨Nat.le_trans (m := 200) (Nat.le_of_ble_eq_true rfl) hR.2.2.1, Nat.le_trans (m := 1600) (Nat.le_of_ble_eq_true rfl) hR.2.2.2⟩ rfl hl.1 rfl (Nat.le_of_ble_eq_true rfl) dX0_copy_43 (fun Y H locs hM hS => ?_)
          refine W.widen (k := 200) (n := 1600) (Nat.le_of_ble_eq_true rfl) (Nat.le_of_ble_eq_true rfl) ?_
          have h := so_ h
          subst h
          exact W.iret hx hb hr (fun t ht hW => hQ _ _ _ t hM hS ht hW) hS.2.2 dX0_copy_46
      · have h := in_ c6 h
        refine gsN X hM b_q5 c6 dX0_copy_23 ?_
        refine lv_ifnullN (tgt := 41) hx hb dX0_copy_26 (by decide) ?_
        refine lv_aload_n hx hb dX0_copy_41 rfl (lv_at hl 0 rfl) ?_
        refine lv_iconst (v := 1) hx hb dX0_copy_42 (by decide) ?_
        obtain ⟨v30, C29, q_C29, h⟩ := bd2_e h
        refine w_wrI (As := [.int (1 : Int32)]) (rest := []) X hM hS hA (c_recv0 X hM) (cf_met_met _ Z _ C _ (1 : Int32) (v30, C29) q_C29) (lw_V q327 q329 qs0 q79 q330) cf_met_hd ⟨rfl, rfl⟩ ⟨Nat.le_trans (m := cp_copy_rm.frames) (Nat.le_of_ble_eq_true rfl) hR.1, Nat.le_trans (m := cp_copy_rm.locals) (Nat.le_of_ble_eq_true rfl) hR.2.1⟩ ⟨Nat.le_trans (m := 200) (Nat.le_of_ble_eq_true rfl) hR.2.2.1, Nat.le_trans (m := 1600) (Nat.le_of_ble_eq_true rfl) hR.2.2.2⟩ rfl hl.1 rfl (Nat.le_of_ble_eq_true rfl) dX0_copy_43 (fun Y H locs hM hS => ?_)
        refine W.widen (k := 200) (n := 1600) (Nat.le_of_ble_eq_true rfl) (Nat.le_of_ble_eq_true rfl) ?_
        have h := so_ h
        subst h
        exact W.iret hx hb hr (fun t ht hW => hQ _ _ _ t hM hS ht hW) hS.2.2 dX0_copy_46
    · have h := ip_ c4 h
      refine lv_bipush (v := -2) hx hb dX0_copy_14 (by decide) ?_
      refine W.widen (k := 200) (n := 1600) (Nat.le_of_ble_eq_true rfl) (Nat.le_of_ble_eq_true rfl) ?_
      have h := so_ h
      subst h
      exact W.iret hx hb hr (fun t ht hW => hQ _ _ _ t hM hS ht hW) hS.2.2 dX0_copy_16
theorem cp_copy_met (l : Launch) (htr : l.stackTraces = false) (Z : CZ) (Y : CY) (C : St) (sz : Nat) (x1 : Int32) (x2 : Int32) (x3 : Int32) (x4 : Int32) (x5 : Int32) (r : (Int32 × St)) (h : cp_copy x1 x2 x3 x4 x5 C = some r) : Met l yX0_copy (wsW_ yX0_copy cX0_copy 7 (some .int) [(74, 101, 102, 397)]) cp_copy_rm (va_Pc [.ref (cSa Z 0), .int x1, .int x2, .int x3, .int x4, .int x5] (cSx Z Y C sz)) (Qcw (some (.int r.1)) Z (va_A (cWs Z Y C) sz) r.2) 200 1600 (va_A (cWs Z Y C) sz) := by
  refine va_MetW (cc := cX0_copy) (maxL := 7) (ret := some .int) (by decide) rfl ?_
  intro p e s m args below meth c s₁ B hml hv
  obtain ⟨rfl, ⟨hsz, hv⟩, hE⟩ := hv
  subst hsz
  have hts0 := atoms_spec (ws := wsW_ yX0_copy cX0_copy 7 (some .int) [(74, 101, 102, 397)]) B.pre
  have htab := tab_1 (tab_of B (hts0 _ List.mem_cons_self))
  have hts : ∀ w ∈ lw_all, w.before _ s = true := fun w h => hts0 w (List.mem_cons_of_mem _ h)
  have X : CCx p s m _ meth c cX0_copy 7 (some .int) RX0 Z := ⟨⟨B.exec, B.bytes, B.returns, B.notSynchronized, hml, findClass_of_methodNamed B.named, hts⟩, hv.2⟩
  have hl := lv_entry [.ref (cSa Z 0), .int x1, .int x2, .int x3, .int x4, .int x5] (n := 7) (Nat.le_of_ble_eq_true rfl)
  rw [lg_entry_eq]
  generalize (lg_sl [.ref (cSa Z 0), .int x1, .int x2, .int x3, .int x4, .int x5] ++ List.replicate (7 - (lg_sl [.ref (cSa Z 0), .int x1, .int x2, .int x3, .int x4, .int x5]).length) Slot.unset).toArray = ls at hl ⊢
  exact cp_copy_w0 X ⟨Nat.le_refl _, Nat.le_refl _, Nat.le_refl _, Nat.le_refl _⟩ (fun q h => Or.inr h) hE htr htab (fun Y H locs t hM hS ht hW => ⟨rfl, ⟨Y, by rw [ht]; exact hM, cKs.warm hW X.2⟩, hS.F ht⟩) x1 x2 x3 x4 x5 Y C _ _ ls (cPD.self hv.1) va_S.rf hl h
