set_option maxRecDepth 100000
/-! SecondChances.plan(II)I, on any state -/
def cp_plan_rm : Room := { frames := 12, cells := 200, slots := 1600, locals := 291 }
def cp_plan (x1 : Int32) (x2 : Int32) (C : St) : Option (Int32 × St) :=
  bd_ (cf_isSheet x1) fun v1 =>
  if v1 = 0 then (some ((-2 : Int32), C))
  else (bd_ (cf_in (x2.toInt64) (0 : Int64) (2 : Int64)) fun v3 =>
    if v3 = 0 then (some ((-2 : Int32), C))
    else (ix_ 4 x1 fun q5 =>
      if C (60 + q5) 0 = 1 then (bd_ (cfS_size C q5 ) fun v7 =>
        bd2_ (cp_deeds C) fun v9 C8 =>
        if v9 ≤ v7 then (bd_ (cf_costBy C8 q5) fun v11 =>
          if x2 = 0 then (if v11 = (-3 : Int32) then (some ((0 : Int32), C8))
            else (some ((1 : Int32), C8)))
          else (if v11 = (-3 : Int32) then (some (v11, C8))
            else (if x2 = (2 : Int32) then (some (v11, C8))
              else (bd_ (cf_worthBy C8 q5) fun v15 =>
                some (v15, C8)))))
        else (some ((-3 : Int32), C8)))
      else (bd2_ (cf_met (1 : Int32) C) fun v18 C17 =>
        some (v18, C17))))
set_option maxHeartbeats 4000000 in
theorem cp_plan_w0 {p : Program} {l : Launch} {e : Env} {R : Room} {s : State} {m : MethodId} {args : Array Value} {below : List Frame} {meth : Method} {c : Code} {Z : CZ} {A : Nat → Prop} {Qc : Array Value → State → Outcome → State → Prop} (X : CCx p s m args meth c cX0_plan 5 (some .int) RX0 Z) (hR : cp_plan_rm.frames ≤ R.frames ∧ cp_plan_rm.locals ≤ R.locals ∧ 200 ≤ R.cells ∧ 1600 ≤ R.slots) (hA : ∀ q, s.heap.size ≤ q → A q) (hE : cE Z A s s.heap) {r : (Int32 × St)} (hQ : ∀ (Y : CY) (H : Heap) (locs : List Loc) (t : State), cPD Z Y A r.2 H → va_S A s.heap H locs → t.heap = H → s.WarmedH t.vm → Qc args s (.returned (some (.int r.1))) t) (x1 : Int32) (x2 : Int32) (Y : CY) (C : St) (H : Heap) (locs : List Loc) (ls : Array Slot) (hM : cPD Z Y A C H) (hS : va_S A s.heap H locs) (hl : lv_has ls 5 [(0, .ref (cSa Z 0)), (1, .int x1), (2, .int x2)]) (h : cp_plan x1 x2 C = some r) : W p l e R s m args below meth c H locs 0 0 (MQ below Qc args s 200 1600 A) (F0 m 0 ls []) := by
  obtain ⟨⟨hx, hb, hr, hlocks, hml, hown, hts⟩, hK⟩ := id X
  unfold cp_plan at h
  refine lv_iload_n hx hb dX0_plan_0 rfl (lv_at hl 1 rfl) ?_
  obtain ⟨v1, q_v1, h⟩ := bd_e h
  refine s_roI (As := [.int x1]) (rest := []) X.1 (cf_isSheet_met _ x1 v1 q_v1) (lw_S q324 q325 q79 q326) cf_isSheet_hd ⟨rfl, rfl⟩ ⟨Nat.le_trans (m := cp_plan_rm.frames) (Nat.le_of_ble_eq_true rfl) hR.1, Nat.le_trans (m := cp_plan_rm.locals) (Nat.le_of_ble_eq_true rfl) hR.2.1⟩ ⟨Nat.le_trans (m := 200) (Nat.le_of_ble_eq_true rfl) hR.2.2.1, Nat.le_trans (m := 1600) (Nat.le_of_ble_eq_true rfl) hR.2.2.2⟩ rfl hl.1 rfl (Nat.le_of_ble_eq_true rfl) dX0_plan_1 ?_
  refine lv_if_eq (tgt := 19) hx hb dX0_plan_4 (by decide) (fun c2 => ?_) (fun c2 => ?_)
  · have h := ip_ c2 h
    refine lv_bipush (v := -2) hx hb dX0_plan_19 (by decide) ?_
    refine W.widen (k := 200) (n := 1600) (Nat.le_of_ble_eq_true rfl) (Nat.le_of_ble_eq_true rfl) ?_
    have h := so_ h
    subst h
    exact W.iret hx hb hr (fun t ht hW => hQ _ _ _ t hM hS ht hW) hS.2.2 dX0_plan_21
  · have h := in_ c2 h
    refine lv_iload_n hx hb dX0_plan_7 rfl (lv_at hl 2 rfl) ?_
    refine lv_i2l hx hb dX0_plan_8 rfl ?_
    refine lv_lconst (v := 0) hx hb dX0_plan_9 (by decide) ?_
    refine lv_ldc2 (v := 2) hx hb hown (hts _ q670) dX0_plan_10 ?_
    obtain ⟨v3, q_v3, h⟩ := bd_e h
    refine s_roI (As := [.long (x2.toInt64), .long (0 : Int64), .long (2 : Int64)]) (rest := []) X.1 (cf_in_met _ (x2.toInt64) (0 : Int64) (2 : Int64) v3 q_v3) (lw_S q298 q299 q79 q300) cf_in_hd ⟨rfl, rfl⟩ ⟨Nat.le_trans (m := cp_plan_rm.frames) (Nat.le_of_ble_eq_true rfl) hR.1, Nat.le_trans (m := cp_plan_rm.locals) (Nat.le_of_ble_eq_true rfl) hR.2.1⟩ ⟨Nat.le_trans (m := 200) (Nat.le_of_ble_eq_true rfl) hR.2.2.1, Nat.le_trans (m := 1600) (Nat.le_of_ble_eq_true rfl) hR.2.2.2⟩ rfl hl.1 rfl (Nat.le_of_ble_eq_true rfl) dX0_plan_13 ?_
    refine lv_if_ne (tgt := 22) hx hb dX0_plan_16 (by decide) (fun c4 => ?_) (fun c4 => ?_)
    · have h := in_ c4 h
      refine lv_aload_n hx hb dX0_plan_22 rfl (lv_at hl 0 rfl) ?_
      refine gc19 X hM dX0_plan_23 ?_
      refine lv_iload_n hx hb dX0_plan_26 rfl (lv_at hl 1 rfl) ?_
      obtain ⟨i_q5, b_q5, h⟩ := ix_e h
      refine c_aldH X hM i_q5 dX0_plan_27 (fun q5 e_q5 => ?_)
      have h := h q5 e_q5
      rw [← e_q5] at b_q5
      refine lv_astore_n (lv' := [(3, .ref (cSa Z (90 + q5))), (0, .ref (cSa Z 0)), (1, .int x1), (2, .int x2)]) hx hb dX0_plan_28 rfl hl (by decide) rfl (fun ls hl => ?_)
      refine lv_aload_n hx hb dX0_plan_29 rfl (lv_at hl 0 rfl) ?_
      by_cases c6 : C (60 + q5) 0 = 1
      · have h := ip_ c6 h
        refine gsY X hM b_q5 c6 dX0_plan_30 ?_
        refine lv_ifnonnull (tgt := 42) hx hb dX0_plan_33 (by decide) ?_
        refine lv_aload_n hx hb dX0_plan_42 rfl (lv_at hl 0 rfl) ?_
        obtain ⟨v7, q_v7, h⟩ := bd_e h
        refine f_roI (As := []) (rest := []) X hM (c_recvH (q := q5) X hM b_q5) hS.2.2 (cPD.fr hM) (cfS_size_met _ Z Y A C q5  v7 q_v7) (lw_V q331 q332 q333 q87 q334) cfS_size_hd ⟨rfl, rfl⟩ ⟨Nat.le_trans (m := cp_plan_rm.frames) (Nat.le_of_ble_eq_true rfl) hR.1, Nat.le_trans (m := cp_plan_rm.locals) (Nat.le_of_ble_eq_true rfl) hR.2.1⟩ ⟨Nat.le_trans (m := 200) (Nat.le_of_ble_eq_true rfl) hR.2.2.1, Nat.le_trans (m := 1600) (Nat.le_of_ble_eq_true rfl) hR.2.2.2⟩ rfl hl.1 rfl (Nat.le_of_ble_eq_true rfl) dX0_plan_43 (fun locs hL => ?_)
        have hS : va_S A s.heap _ locs := ⟨hS.1, hS.2.1, hL⟩
        refine lv_aload_n hx hb dX0_plan_46 rfl (lv_at hl 1 rfl) ?_
        obtain ⟨v9, C8, q_C8, h⟩ := bd2_e h
        refine p_callI (As := []) (rest := [.int v7]) X hM hS hA hE (cp_deeds_met _ Z _ C _ (v9, C8) q_C8) (lw_V q630 q632 qs7 q79 q633) cf_deeds_hd ⟨rfl, rfl⟩ ⟨Nat.le_trans (m := cp_plan_rm.frames) (Nat.le_of_ble_eq_true rfl) hR.1, Nat.le_trans (m := cp_plan_rm.locals) (Nat.le_of_ble_eq_true rfl) hR.2.1⟩ ⟨Nat.le_trans (m := 200) (Nat.le_of_ble_eq_true rfl) hR.2.2.1, Nat.le_trans (m := 1600) (Nat.le_of_ble_eq_true rfl) hR.2.2.2⟩ rfl hl.1 rfl (Nat.le_of_ble_eq_true rfl) dX0_plan_47 (fun Y H locs hM hS => ?_)
        refine W.widen (k := 200) (n := 1600) (Nat.le_of_ble_eq_true rfl) (Nat.le_of_ble_eq_true rfl) ?_
        refine lv_icmp_ge (tgt := 56) hx hb dX0_plan_50 (by decide) (fun c10 => ?_) (fun c10 => ?_)
        · have h := ip_ c10 h
          refine lv_aload_n hx hb dX0_plan_56 rfl (lv_at hl 1 rfl) ?_
          refine lv_aload_n hx hb dX0_plan_57 rfl (lv_at hl 0 rfl) ?_
          obtain ⟨v11, q_v11, h⟩ := bd_e h
          refine f_roI (As := [.ref (cSa Z (90 + q5))]) (rest := []) X hM (c_recv0 X hM) hS.2.2 (cPD.fr hM) (cf_costBy_met _ Z Y A C8 q5 v11 q_v11) (lw_V q781 q783 qs27 q79 q784) cf_costBy_hd ⟨rfl, rfl⟩ ⟨Nat.le_trans (m := cp_plan_rm.frames) (Nat.le_of_ble_eq_true rfl) hR.1, Nat.le_trans (m := cp_plan_rm.locals) (Nat.le_of_ble_eq_true rfl) hR.2.1⟩ ⟨Nat.le_trans (m := 200) (Nat.le_of_ble_eq_true rfl) hR.2.2.1, Nat.le_trans (m := 1600) (Nat.le_of_ble_eq_true rfl) hR.2.2.2⟩ rfl hl.1 rfl (Nat.le_of_ble_eq_true rfl) dX0_plan_58 (fun locs hL => ?_)
          have hS : va_S A s.heap _ locs := ⟨hS.1, hS.2.1, hL⟩
          refine lv_istore (lv' := [(4, .int v11), (3, .ref (cSa Z (90 + q5))), (0, .ref (cSa Z 0)), (1, .int x1), (2, .int x2)]) hx hb dX0_plan_61 hl (by decide) rfl (fun ls hl => ?_)
          refine lv_iload_n hx hb dX0_plan_63 rfl (lv_at hl 4 rfl) ?_
          refine lv_if_ne (tgt := 82) hx hb dX0_plan_64 (by decide) (fun c12 => ?_) (fun c12 => ?_)
          · have h := in_ c12 h
            refine lv_iload hx hb dX0_plan_82 (lv_at hl 0 rfl) ?_
            refine lv_bipush (v := -3) hx hb dX0_plan_84 (by decide) ?_
            refine lv_icmp_eq (tgt := 94) hx hb dX0_plan_86 (by decide) (fun c13 => ?_) (fun c13 => ?_)
            · have h := ip_ c13 h
              refine lv_iload hx hb dX0_plan_94 (lv_at hl 0 rfl) ?_
              refine lv_goto (tgt := 104) hx hb dX0_plan_96 (by decide) ?_
              have h := so_ h
              subst h
              exact W.iret hx hb hr (fun t ht hW => hQ _ _ _ t hM hS ht hW) hS.2.2 dX0_plan_104
            · have h := in_ c13 h
              refine lv_iload_n hx hb dX0_plan_89 rfl (lv_at hl 4 rfl) ?_
              refine lv_iconst (v := 2) hx hb dX0_plan_90 (by decide) ?_
              refine lv_icmp_ne (tgt := 99) hx hb dX0_plan_91 (by decide) (fun c14 => ?_) (fun c14 => ?_)
              · have h := in_ c14 h
                refine lv_aload_n hx hb dX0_plan_99 rfl (lv_at hl 2 rfl) ?_
                refine lv_aload_n hx hb dX0_plan_100 rfl (lv_at hl 1 rfl) ?_
                obtain ⟨v15, q_v15, h⟩ := bd_e h
                refine f_roI (As := [.ref (cSa Z (90 + q5))]) (rest := []) X hM (c_recv0 X hM) hS.2.2 (cPD.fr hM) (cf_worthBy_met _ Z Y A C8 q5 v15 q_v15) (lw_V q786 q788 qs28 q79 q789) cf_worthBy_hd ⟨rfl, rfl⟩ ⟨Nat.le_trans (m := cp_plan_rm.frames) (Nat.le_of_ble_eq_true rfl) hR.1, Nat.le_trans (m := cp_plan_rm.locals) (Nat.le_of_ble_eq_true rfl) hR.2.1⟩ ⟨Nat.le_trans (m := 200) (Nat.le_of_ble_eq_true rfl) hR.2.2.1, Nat.le_trans (m := 1600) (Nat.le_of_ble_eq_true rfl) hR.2.2.2⟩ rfl hl.1 rfl (Nat.le_of_ble_eq_true rfl) dX0_plan_101 (fun locs hL => ?_)
                have hS : va_S A s.heap _ locs := ⟨hS.1, hS.2.1, hL⟩
                have h := so_ h
                subst h
                exact W.iret hx hb hr (fun t ht hW => hQ _ _ _ t hM hS ht hW) hS.2.2 dX0_plan_104
              · have h := ip_ c14 h
                refine lv_iload hx hb dX0_plan_94 (lv_at hl 0 rfl) ?_
                refine lv_goto (tgt := 104) hx hb dX0_plan_96 (by decide) ?_
                have h := so_ h
                subst h
                exact W.iret hx hb hr (fun t ht hW => hQ _ _ _ t hM hS ht hW) hS.2.2 dX0_plan_104
          · have h := ip_ c12 h
            refine lv_iload hx hb dX0_plan_67 (lv_at hl 0 rfl) ?_
            refine lv_bipush (v := -3) hx hb dX0_plan_69 (by decide) ?_
            refine lv_icmp_ne (tgt := 78) hx hb dX0_plan_71 (by decide) (fun c16 => ?_) (fun c16 => ?_)
            · have h := in_ c16 h
              refine lv_iconst (v := 1) hx hb dX0_plan_78 (by decide) ?_
              refine lv_goto (tgt := 104) hx hb dX0_plan_79 (by decide) ?_
              have h := so_ h
              subst h
              exact W.iret hx hb hr (fun t ht hW => hQ _ _ _ t hM hS ht hW) hS.2.2 dX0_plan_104
            · have h := ip_ c16 h
              refine lv_iconst (v := 0) hx hb dX0_plan_74 (by decide) ?_
              refine lv_goto (tgt := 104) hx hb dX0_plan_75 (by decide) ?_
              have h := so_ h
              subst h
              exact W.iret hx hb hr (fun t ht hW => hQ _ _ _ t hM hS ht hW) hS.2.2 dX0_plan_104
        · have h := in_ c10 h
          refine lv_bipush (v := -3) hx hb dX0_plan_53 (by decide) ?_
          have h := so_ h
          subst h
          exact W.iret hx hb hr (fun t ht hW => hQ _ _ _ t hM hS ht hW) hS.2.2 dX0_plan_55
      · have h := in_ c6 h
        refine gsN X hM b_q5 c6 dX0_plan_30 ?_
        refine lv_ifnonnullN hx hb dX0_plan_33 ?_
        refine lv_aload_n hx hb dX0_plan_36 rfl (lv_at hl 1 rfl) ?_
        refine lv_iconst (v := 1) hx hb dX0_plan_37 (by decide) ?_
        obtain ⟨v18, C17, q_C17, h⟩ := bd2_e h
        refine w_wrI (As := [.int (1 : Int32)]) (rest := []) X hM hS hA (c_recv0 X hM) (cf_met_met _ Z _ C _ (1 : Int32) (v18, C17) q_C17) (lw_V q327 q329 qs0 q79 q330) cf_met_hd ⟨rfl, rfl⟩ ⟨Nat.le_trans (m := cp_plan_rm.frames) (Nat.le_of_ble_eq_true rfl) hR.1, Nat.le_trans (m := cp_plan_rm.locals) (Nat.le_of_ble_eq_true rfl) hR.2.1⟩ ⟨Nat.le_trans (m := 200) (Nat.le_of_ble_eq_true rfl) hR.2.2.1, Nat.le_trans (m := 1600) (Nat.le_of_ble_eq_true rfl) hR.2.2.2⟩ rfl hl.1 rfl (Nat.le_of_ble_eq_true rfl) dX0_plan_38 (fun Y H locs hM hS => ?_)
        refine W.widen (k := 200) (n := 1600) (Nat.le_of_ble_eq_true rfl) (Nat.le_of_ble_eq_true rfl) ?_
        have h := so_ h
        subst h
        exact W.iret hx hb hr (fun t ht hW => hQ _ _ _ t hM hS ht hW) hS.2.2 dX0_plan_41
    · have h := ip_ c4 h
      refine lv_bipush (v := -2) hx hb dX0_plan_19 (by decide) ?_
      refine W.widen (k := 200) (n := 1600) (Nat.le_of_ble_eq_true rfl) (Nat.le_of_ble_eq_true rfl) ?_
      have h := so_ h
      subst h
      exact W.iret hx hb hr (fun t ht hW => hQ _ _ _ t hM hS ht hW) hS.2.2 dX0_plan_21
theorem cp_plan_met (l : Launch) (Z : CZ) (Y : CY) (C : St) (sz : Nat) (x1 : Int32) (x2 : Int32) (r : (Int32 × St)) (h : cp_plan x1 x2 C = some r) : Met l yX0_plan (ws_ yX0_plan cX0_plan 5 (some .int)) cp_plan_rm (va_Pc [.ref (cSa Z 0), .int x1, .int x2] (cSx Z Y C sz)) (Qcw (some (.int r.1)) Z (va_A (cWs Z Y C) sz) r.2) 200 1600 (va_A (cWs Z Y C) sz) := by
  refine Met.ofW (cc := cX0_plan) (maxL := 5) (ret := some .int) (by decide) rfl ?_
  intro p e s m args below meth c s₁ B hml hv
  obtain ⟨rfl, ⟨hsz, hv⟩, hE⟩ := hv
  subst hsz
  have hts := atoms_spec (ws := ws_ yX0_plan cX0_plan 5 (some .int)) B.pre
  have hts : ∀ w ∈ lw_all, w.before _ s = true := fun w h => hts w (List.mem_cons_of_mem _ h)
  have X : CCx p s m _ meth c cX0_plan 5 (some .int) RX0 Z := ⟨⟨B.exec, B.bytes, B.returns, B.notSynchronized, hml, findClass_of_methodNamed B.named, hts⟩, hv.2⟩
  have hl := lv_entry [.ref (cSa Z 0), .int x1, .int x2] (n := 5) (Nat.le_of_ble_eq_true rfl)
  rw [lg_entry_eq]
  generalize (lg_sl [.ref (cSa Z 0), .int x1, .int x2] ++ List.replicate (5 - (lg_sl [.ref (cSa Z 0), .int x1, .int x2]).length) Slot.unset).toArray = ls at hl ⊢
  exact cp_plan_w0 X ⟨Nat.le_refl _, Nat.le_refl _, Nat.le_refl _, Nat.le_refl _⟩ (fun q h => Or.inr h) hE (fun Y H locs t hM hS ht hW => ⟨rfl, ⟨Y, by rw [ht]; exact hM, cKs.warm hW X.2⟩, hS.F ht⟩) x1 x2 Y C _ _ ls (cPD.self hv.1) va_S.rf hl h

/-! SecondChances.write(I)I, on any state -/
def cp_write_rm : Room := { frames := 12, cells := 200, slots := 1600, locals := 291 }
def cp_write (x1 : Int32) (C : St) : Option (Int32 × St) :=
  bd_ (cf_isSheet x1) fun v1 =>
  if v1 = 0 then (some ((-2 : Int32), C))
  else (ix_ 4 x1 fun q3 =>
    if C (60 + q3) 0 = 1 then (bd2_ (cp_deeds C) fun v6 C5 =>
      bd_ (cfS_size C5 q3 ) fun v7 =>
      lt_ (if v7 < v6 then v7 else v6) fun v8 =>
      cf_write_l45 FU q3 v8 (0 : Int32) C5)
    else (bd2_ (cf_met (1 : Int32) C) fun v11 C10 =>
      some (v11, C10)))
set_option maxHeartbeats 4000000 in
theorem cp_write_w0 {p : Program} {l : Launch} {e : Env} {R : Room} {s : State} {m : MethodId} {args : Array Value} {below : List Frame} {meth : Method} {c : Code} {Z : CZ} {A : Nat → Prop} {Qc : Array Value → State → Outcome → State → Prop} (X : CCx p s m args meth c cX0_write 5 (some .int) RX0 Z) (hR : cp_write_rm.frames ≤ R.frames ∧ cp_write_rm.locals ≤ R.locals ∧ 200 ≤ R.cells ∧ 1600 ≤ R.slots) (hA : ∀ q, s.heap.size ≤ q → A q) (hE : cE Z A s s.heap) {r : (Int32 × St)} (hQ : ∀ (Y : CY) (H : Heap) (locs : List Loc) (t : State), cPD Z Y A r.2 H → va_S A s.heap H locs → t.heap = H → s.WarmedH t.vm → Qc args s (.returned (some (.int r.1))) t) (x1 : Int32) (Y : CY) (C : St) (H : Heap) (locs : List Loc) (ls : Array Slot) (hM : cPD Z Y A C H) (hS : va_S A s.heap H locs) (hl : lv_has ls 5 [(0, .ref (cSa Z 0)), (1, .int x1)]) (h : cp_write x1 C = some r) : W p l e R s m args below meth c H locs 0 0 (MQ below Qc args s 200 1600 A) (F0 m 0 ls []) := by
  obtain ⟨⟨hx, hb, hr, hlocks, hml, hown, hts⟩, hK⟩ := id X
  unfold cp_write at h
  refine lv_iload_n hx hb dX0_write_0 rfl (lv_at hl 1 rfl) ?_
  obtain ⟨v1, q_v1, h⟩ := bd_e h
  refine s_roI (As := [.int x1]) (rest := []) X.1 (cf_isSheet_met _ x1 v1 q_v1) (lw_S q324 q325 q79 q326) cf_isSheet_hd ⟨rfl, rfl⟩ ⟨Nat.le_trans (m := cp_write_rm.frames) (Nat.le_of_ble_eq_true rfl) hR.1, Nat.le_trans (m := cp_write_rm.locals) (Nat.le_of_ble_eq_true rfl) hR.2.1⟩ ⟨Nat.le_trans (m := 200) (Nat.le_of_ble_eq_true rfl) hR.2.2.1, Nat.le_trans (m := 1600) (Nat.le_of_ble_eq_true rfl) hR.2.2.2⟩ rfl hl.1 rfl (Nat.le_of_ble_eq_true rfl) dX0_write_1 ?_
  refine lv_if_ne (tgt := 10) hx hb dX0_write_4 (by decide) (fun c2 => ?_) (fun c2 => ?_)
  · have h := in_ c2 h
    refine lv_aload_n hx hb dX0_write_10 rfl (lv_at hl 0 rfl) ?_
    refine gc19 X hM dX0_write_11 ?_
    refine lv_iload_n hx hb dX0_write_14 rfl (lv_at hl 1 rfl) ?_
    obtain ⟨i_q3, b_q3, h⟩ := ix_e h
    refine c_aldH X hM i_q3 dX0_write_15 (fun q3 e_q3 => ?_)
    have h := h q3 e_q3
    rw [← e_q3] at b_q3
    refine lv_astore_n (lv' := [(2, .ref (cSa Z (90 + q3))), (0, .ref (cSa Z 0)), (1, .int x1)]) hx hb dX0_write_16 rfl hl (by decide) rfl (fun ls hl => ?_)
    refine lv_aload_n hx hb dX0_write_17 rfl (lv_at hl 0 rfl) ?_
    by_cases c4 : C (60 + q3) 0 = 1
    · have h := ip_ c4 h
      refine gsY X hM b_q3 c4 dX0_write_18 ?_
      refine lv_ifnonnull (tgt := 30) hx hb dX0_write_21 (by decide) ?_
      refine lv_aload_n hx hb dX0_write_30 rfl (lv_at hl 1 rfl) ?_
      obtain ⟨v6, C5, q_C5, h⟩ := bd2_e h
      refine p_callI (As := []) (rest := []) X hM hS hA hE (cp_deeds_met _ Z _ C _ (v6, C5) q_C5) (lw_V q630 q632 qs7 q79 q633) cf_deeds_hd ⟨rfl, rfl⟩ ⟨Nat.le_trans (m := cp_write_rm.frames) (Nat.le_of_ble_eq_true rfl) hR.1, Nat.le_trans (m := cp_write_rm.locals) (Nat.le_of_ble_eq_true rfl) hR.2.1⟩ ⟨Nat.le_trans (m := 200) (Nat.le_of_ble_eq_true rfl) hR.2.2.1, Nat.le_trans (m := 1600) (Nat.le_of_ble_eq_true rfl) hR.2.2.2⟩ rfl hl.1 rfl (Nat.le_of_ble_eq_true rfl) dX0_write_31 (fun Y H locs hM hS => ?_)
      refine W.widen (k := 200) (n := 1600) (Nat.le_of_ble_eq_true rfl) (Nat.le_of_ble_eq_true rfl) ?_
      refine lv_aload_n hx hb dX0_write_34 rfl (lv_at hl 0 rfl) ?_
      obtain ⟨v7, q_v7, h⟩ := bd_e h
      refine f_roI (As := []) (rest := [.int v6]) X hM (c_recvH (q := q3) X hM b_q3) hS.2.2 (cPD.fr hM) (cfS_size_met _ Z Y A C5 q3  v7 q_v7) (lw_V q331 q332 q333 q87 q334) cfS_size_hd ⟨rfl, rfl⟩ ⟨Nat.le_trans (m := cp_write_rm.frames) (Nat.le_of_ble_eq_true rfl) hR.1, Nat.le_trans (m := cp_write_rm.locals) (Nat.le_of_ble_eq_true rfl) hR.2.1⟩ ⟨Nat.le_trans (m := 200) (Nat.le_of_ble_eq_true rfl) hR.2.2.1, Nat.le_trans (m := 1600) (Nat.le_of_ble_eq_true rfl) hR.2.2.2⟩ rfl hl.1 rfl (Nat.le_of_ble_eq_true rfl) dX0_write_35 (fun locs hL => ?_)
      have hS : va_S A s.heap _ locs := ⟨hS.1, hS.2.1, hL⟩
      refine va_mmin (rest := []) hx hb (hml.trans hl.1.symm) hown (hts _ q697) (hts _ q605) (hts _ q94) (hts _ q606) (Nat.le_trans (m := cp_write_rm.frames) (Nat.le_of_ble_eq_true rfl) hR.1) (Nat.le_trans (m := cp_write_rm.locals) (Nat.le_of_ble_eq_true rfl) hR.2.1) (Nat.le_trans (m := 200) (Nat.le_of_ble_eq_true rfl) hR.2.2.1) (Nat.le_trans (m := 1600) (Nat.le_of_ble_eq_true rfl) hR.2.2.2) dX0_write_38 ?_
      refine lv_topi (fun v8 e_v8 => ?_)
      have h := lt_i h e_v8
      refine lv_istore_n (lv' := [(3, .int v8), (2, .ref (cSa Z (90 + q3))), (0, .ref (cSa Z 0)), (1, .int x1)]) hx hb dX0_write_41 rfl hl (by decide) rfl (fun ls hl => ?_)
      refine lv_iconst (v := 0) hx hb dX0_write_42 (by decide) ?_
      refine lv_istore (lv' := [(4, .int (0 : Int32)), (3, .int v8), (2, .ref (cSa Z (90 + q3))), (0, .ref (cSa Z 0)), (1, .int x1)]) hx hb dX0_write_43 hl (by decide) rfl (fun ls hl => ?_)
      exact cf_write_lw45 X ⟨Nat.le_trans (m := cp_write_rm.frames) (Nat.le_of_ble_eq_true rfl) hR.1, Nat.le_trans (m := cp_write_rm.locals) (Nat.le_of_ble_eq_true rfl) hR.2.1, hR.2.2.1, hR.2.2.2⟩ hA hQ FU q3 v8 (0 : Int32) _ C5 _ _ ls hM hS (lv_sub hl [3, 2, 1, 0] rfl) h
    · have h := in_ c4 h
      refine gsN X hM b_q3 c4 dX0_write_18 ?_
      refine lv_ifnonnullN hx hb dX0_write_21 ?_
      refine lv_aload_n hx hb dX0_write_24 rfl (lv_at hl 1 rfl) ?_
      refine lv_iconst (v := 1) hx hb dX0_write_25 (by decide) ?_
      obtain ⟨v11, C10, q_C10, h⟩ := bd2_e h
      refine w_wrI (As := [.int (1 : Int32)]) (rest := []) X hM hS hA (c_recv0 X hM) (cf_met_met _ Z _ C _ (1 : Int32) (v11, C10) q_C10) (lw_V q327 q329 qs0 q79 q330) cf_met_hd ⟨rfl, rfl⟩ ⟨Nat.le_trans (m := cp_write_rm.frames) (Nat.le_of_ble_eq_true rfl) hR.1, Nat.le_trans (m := cp_write_rm.locals) (Nat.le_of_ble_eq_true rfl) hR.2.1⟩ ⟨Nat.le_trans (m := 200) (Nat.le_of_ble_eq_true rfl) hR.2.2.1, Nat.le_trans (m := 1600) (Nat.le_of_ble_eq_true rfl) hR.2.2.2⟩ rfl hl.1 rfl (Nat.le_of_ble_eq_true rfl) dX0_write_26 (fun Y H locs hM hS => ?_)
      refine W.widen (k := 200) (n := 1600) (Nat.le_of_ble_eq_true rfl) (Nat.le_of_ble_eq_true rfl) ?_
      have h := so_ h
      subst h
      exact W.iret hx hb hr (fun t ht hW => hQ _ _ _ t hM hS ht hW) hS.2.2 dX0_write_29
  · have h := ip_ c2 h
    refine lv_bipush (v := -2) hx hb dX0_write_7 (by decide) ?_
    refine W.widen (k := 200) (n := 1600) (Nat.le_of_ble_eq_true rfl) (Nat.le_of_ble_eq_true rfl) ?_
    have h := so_ h
    subst h
    exact W.iret hx hb hr (fun t ht hW => hQ _ _ _ t hM hS ht hW) hS.2.2 dX0_write_9
theorem cp_write_met (l : Launch) (Z : CZ) (Y : CY) (C : St) (sz : Nat) (x1 : Int32) (r : (Int32 × St)) (h : cp_write x1 C = some r) : Met l yX0_write (ws_ yX0_write cX0_write 5 (some .int)) cp_write_rm (va_Pc [.ref (cSa Z 0), .int x1] (cSx Z Y C sz)) (Qcw (some (.int r.1)) Z (va_A (cWs Z Y C) sz) r.2) 200 1600 (va_A (cWs Z Y C) sz) := by
  refine Met.ofW (cc := cX0_write) (maxL := 5) (ret := some .int) (by decide) rfl ?_
  intro p e s m args below meth c s₁ B hml hv
  obtain ⟨rfl, ⟨hsz, hv⟩, hE⟩ := hv
  subst hsz
  have hts := atoms_spec (ws := ws_ yX0_write cX0_write 5 (some .int)) B.pre
  have hts : ∀ w ∈ lw_all, w.before _ s = true := fun w h => hts w (List.mem_cons_of_mem _ h)
  have X : CCx p s m _ meth c cX0_write 5 (some .int) RX0 Z := ⟨⟨B.exec, B.bytes, B.returns, B.notSynchronized, hml, findClass_of_methodNamed B.named, hts⟩, hv.2⟩
  have hl := lv_entry [.ref (cSa Z 0), .int x1] (n := 5) (Nat.le_of_ble_eq_true rfl)
  rw [lg_entry_eq]
  generalize (lg_sl [.ref (cSa Z 0), .int x1] ++ List.replicate (5 - (lg_sl [.ref (cSa Z 0), .int x1]).length) Slot.unset).toArray = ls at hl ⊢
  exact cp_write_w0 X ⟨Nat.le_refl _, Nat.le_refl _, Nat.le_refl _, Nat.le_refl _⟩ (fun q h => Or.inr h) hE (fun Y H locs t hM hS ht hW => ⟨rfl, ⟨Y, by rw [ht]; exact hM, cKs.warm hW X.2⟩, hS.F ht⟩) x1 Y C _ _ ls (cPD.self hv.1) va_S.rf hl h

/-! SecondChances.read(I)I, on any state -/
def cp_readS_rm : Room := { frames := 3, cells := 200, slots := 1600, locals := 68 }
def cp_readS (x1 : Int32) (C : St) : Option (Int32 × St) :=
  bd_ (cf_isSheet x1) fun v1 =>
  if v1 = 0 then (some ((-2 : Int32), C))
  else (ix_ 4 x1 fun q3 =>
    if C (60 + q3) 0 = 1 then (bd_ (cfS_size C q3 ) fun v5 =>
      if v5 ≤ (0 : Int32) then (some ((0 : Int32), C))
      else (bd_ (cfS_type C q3 ) fun v7 =>
        bd_ (cfS_item C q3 v7 (0 : Int32)) fun v8 =>
        bd2_ (cp_weather (0 : Int32) v8 C) fun v10 C9 =>
        if v10 < 0 then (some ((0 : Int32), C9))
        else (cf_read_l32 FU q3 ((0 : Int32) + 1) C9)))
    else (bd2_ (cf_met (1 : Int32) C) fun v14 C13 =>
      some (v14, C13)))
set_option maxHeartbeats 4000000 in
theorem cp_readS_w0 {p : Program} {l : Launch} {e : Env} {R : Room} {s : State} {m : MethodId} {args : Array Value} {below : List Frame} {meth : Method} {c : Code} {Z : CZ} {A : Nat → Prop} {Qc : Array Value → State → Outcome → State → Prop} (X : CCx p s m args meth c cX0_read 4 (some .int) RX0 Z) (hR : cp_readS_rm.frames ≤ R.frames ∧ cp_readS_rm.locals ≤ R.locals ∧ 200 ≤ R.cells ∧ 1600 ≤ R.slots) (hA : ∀ q, s.heap.size ≤ q → A q) (hE : cE Z A s s.heap) {r : (Int32 × St)} (hQ : ∀ (Y : CY) (H : Heap) (locs : List Loc) (t : State), cPD Z Y A r.2 H → va_S A s.heap H locs → t.heap = H → s.WarmedH t.vm → Qc args s (.returned (some (.int r.1))) t) (x1 : Int32) (Y : CY) (C : St) (H : Heap) (locs : List Loc) (ls : Array Slot) (hM : cPD Z Y A C H) (hS : va_S A s.heap H locs) (hl : lv_has ls 4 [(0, .ref (cSa Z 0)), (1, .int x1)]) (h : cp_readS x1 C = some r) : W p l e R s m args below meth c H locs 0 0 (MQ below Qc args s 200 1600 A) (F0 m 0 ls []) := by
  obtain ⟨⟨hx, hb, hr, hlocks, hml, hown, hts⟩, hK⟩ := id X
  unfold cp_readS at h
  refine lv_iload_n hx hb dX0_read_0 rfl (lv_at hl 1 rfl) ?_
  obtain ⟨v1, q_v1, h⟩ := bd_e h
  refine s_roI (As := [.int x1]) (rest := []) X.1 (cf_isSheet_met _ x1 v1 q_v1) (lw_S q324 q325 q79 q326) cf_isSheet_hd ⟨rfl, rfl⟩ ⟨Nat.le_trans (m := cp_readS_rm.frames) (Nat.le_of_ble_eq_true rfl) hR.1, Nat.le_trans (m := cp_readS_rm.locals) (Nat.le_of_ble_eq_true rfl) hR.2.1⟩ ⟨Nat.le_trans (m := 200) (Nat.le_of_ble_eq_true rfl) hR.2.2.1, Nat.le_trans (m := 1600) (Nat.le_of_ble_eq_true rfl) hR.2.2.2⟩ rfl hl.1 rfl (Nat.le_of_ble_eq_true rfl) dX0_read_1 ?_
  refine lv_if_ne (tgt := 10) hx hb dX0_read_4 (by decide) (fun c2 => ?_) (fun c2 => ?_)
  · have h := in_ c2 h
    refine lv_aload_n hx hb dX0_read_10 rfl (lv_at hl 0 rfl) ?_
    refine gc19 X hM dX0_read_11 ?_
    refine lv_iload_n hx hb dX0_read_14 rfl (lv_at hl 1 rfl) ?_
    obtain ⟨i_q3, b_q3, h⟩ := ix_e h
    refine c_aldH X hM i_q3 dX0_read_15 (fun q3 e_q3 => ?_)
    have h := h q3 e_q3
    rw [← e_q3] at b_q3
    refine lv_astore_n (lv' := [(2, .ref (cSa Z (90 + q3))), (0, .ref (cSa Z 0)), (1, .int x1)]) hx hb dX0_read_16 rfl hl (by decide) rfl (fun ls hl => ?_)
    refine lv_aload_n hx hb dX0_read_17 rfl (lv_at hl 0 rfl) ?_
    by_cases c4 : C (60 + q3) 0 = 1
    · have h := ip_ c4 h
      refine gsY X hM b_q3 c4 dX0_read_18 ?_
      refine lv_ifnonnull (tgt := 30) hx hb dX0_read_21 (by decide) ?_
      refine lv_iconst (v := 0) hx hb dX0_read_30 (by decide) ?_
      refine lv_istore_n (lv' := [(3, .int (0 : Int32)), (2, .ref (cSa Z (90 + q3))), (0, .ref (cSa Z 0)), (1, .int x1)]) hx hb dX0_read_31 rfl hl (by decide) rfl (fun ls hl => ?_)
      refine lv_iload_n hx hb dX0_read_32 rfl (lv_at hl 0 rfl) ?_
      refine lv_aload_n hx hb dX0_read_33 rfl (lv_at hl 1 rfl) ?_
      obtain ⟨v5, q_v5, h⟩ := bd_e h
      refine f_roI (As := []) (rest := [.int (0 : Int32)]) X hM (c_recvH (q := q3) X hM b_q3) hS.2.2 (cPD.fr hM) (cfS_size_met _ Z Y A C q3  v5 q_v5) (lw_V q331 q332 q333 q87 q334) cfS_size_hd ⟨rfl, rfl⟩ ⟨Nat.le_trans (m := cp_readS_rm.frames) (Nat.le_of_ble_eq_true rfl) hR.1, Nat.le_trans (m := cp_readS_rm.locals) (Nat.le_of_ble_eq_true rfl) hR.2.1⟩ ⟨Nat.le_trans (m := 200) (Nat.le_of_ble_eq_true rfl) hR.2.2.1, Nat.le_trans (m := 1600) (Nat.le_of_ble_eq_true rfl) hR.2.2.2⟩ rfl hl.1 rfl (Nat.le_of_ble_eq_true rfl) dX0_read_34 (fun locs hL => ?_)
      have hS : va_S A s.heap _ locs := ⟨hS.1, hS.2.1, hL⟩
      refine lv_icmp_ge (tgt := 63) hx hb dX0_read_37 (by decide) (fun c6 => ?_) (fun c6 => ?_)
      · have h := ip_ c6 h
        refine lv_iload_n hx hb dX0_read_63 rfl (lv_at hl 0 rfl) ?_
        refine W.widen (k := 200) (n := 1600) (Nat.le_of_ble_eq_true rfl) (Nat.le_of_ble_eq_true rfl) ?_
        have h := so_ h
        subst h
        exact W.iret hx hb hr (fun t ht hW => hQ _ _ _ t hM hS ht hW) hS.2.2 dX0_read_64
      · have h := in_ c6 h
        refine lv_aload_n hx hb dX0_read_40 rfl (lv_at hl 2 rfl) ?_
        refine lv_iload_n hx hb dX0_read_41 rfl (lv_at hl 0 rfl) ?_
        refine lv_aload_n hx hb dX0_read_42 rfl (lv_at hl 1 rfl) ?_
        refine lv_aload_n hx hb dX0_read_43 rfl (lv_at hl 1 rfl) ?_
        obtain ⟨v7, q_v7, h⟩ := bd_e h
        refine f_roI (As := []) (rest := [.ref (cSa Z (90 + q3)), .int (0 : Int32), .ref (cSa Z 0)]) X hM (c_recvH (q := q3) X hM b_q3) hS.2.2 (cPD.fr hM) (cfS_type_met _ Z Y A C q3  v7 q_v7) (lw_V q342 q336 q337 q87 q338) cfS_type_hd ⟨rfl, rfl⟩ ⟨Nat.le_trans (m := cp_readS_rm.frames) (Nat.le_of_ble_eq_true rfl) hR.1, Nat.le_trans (m := cp_readS_rm.locals) (Nat.le_of_ble_eq_true rfl) hR.2.1⟩ ⟨Nat.le_trans (m := 200) (Nat.le_of_ble_eq_true rfl) hR.2.2.1, Nat.le_trans (m := 1600) (Nat.le_of_ble_eq_true rfl) hR.2.2.2⟩ rfl hl.1 rfl (Nat.le_of_ble_eq_true rfl) dX0_read_44 (fun locs hL => ?_)
        have hS : va_S A s.heap _ locs := ⟨hS.1, hS.2.1, hL⟩
        refine lv_iload_n hx hb dX0_read_47 rfl (lv_at hl 0 rfl) ?_
        obtain ⟨v8, q_v8, h⟩ := bd_e h
        refine f_roI (As := [.int v7, .int (0 : Int32)]) (rest := [.int (0 : Int32), .ref (cSa Z 0)]) X hM (c_recvH (q := q3) X hM b_q3) hS.2.2 (cPD.fr hM) (cfS_item_met _ Z Y A C q3 v7 (0 : Int32) v8 q_v8) (lw_V q343 q344 q345 q87 q346) cfS_item_hd ⟨rfl, rfl⟩ ⟨Nat.le_trans (m := cp_readS_rm.frames) (Nat.le_of_ble_eq_true rfl) hR.1, Nat.le_trans (m := cp_readS_rm.locals) (Nat.le_of_ble_eq_true rfl) hR.2.1⟩ ⟨Nat.le_trans (m := 200) (Nat.le_of_ble_eq_true rfl) hR.2.2.1, Nat.le_trans (m := 1600) (Nat.le_of_ble_eq_true rfl) hR.2.2.2⟩ rfl hl.1 rfl (Nat.le_of_ble_eq_true rfl) dX0_read_48 (fun locs hL => ?_)
        have hS : va_S A s.heap _ locs := ⟨hS.1, hS.2.1, hL⟩
        obtain ⟨v10, C9, q_C9, h⟩ := bd2_e h
        refine p_callI (As := [.int (0 : Int32), .int v8]) (rest := []) X hM hS hA hE (cp_weather_met _ Z _ C _ (0 : Int32) v8 (v10, C9) q_C9) (lw_V q347 q305 q306 q79 q307) cf_weather_hd ⟨rfl, rfl⟩ ⟨Nat.le_trans (m := cp_readS_rm.frames) (Nat.le_of_ble_eq_true rfl) hR.1, Nat.le_trans (m := cp_readS_rm.locals) (Nat.le_of_ble_eq_true rfl) hR.2.1⟩ ⟨Nat.le_trans (m := 200) (Nat.le_of_ble_eq_true rfl) hR.2.2.1, Nat.le_trans (m := 1600) (Nat.le_of_ble_eq_true rfl) hR.2.2.2⟩ rfl hl.1 rfl (Nat.le_of_ble_eq_true rfl) dX0_read_51 (fun Y H locs hM hS => ?_)
        refine W.widen (k := 200) (n := 1600) (Nat.le_of_ble_eq_true rfl) (Nat.le_of_ble_eq_true rfl) ?_
        refine lv_if_lt (tgt := 63) hx hb dX0_read_54 (by decide) (fun c11 => ?_) (fun c11 => ?_)
        · have h := ip_ c11 h
          refine lv_iload_n hx hb dX0_read_63 rfl (lv_at hl 0 rfl) ?_
          have h := so_ h
          subst h
          exact W.iret hx hb hr (fun t ht hW => hQ _ _ _ t hM hS ht hW) hS.2.2 dX0_read_64
        · have h := in_ c11 h
          refine lv_iinc (v := ((0 : Int32) + 1)) (lv' := [(3, .int ((0 : Int32) + 1)), (2, .ref (cSa Z (90 + q3))), (0, .ref (cSa Z 0)), (1, .int x1)]) hx hb dX0_read_57 hl (k := 0) rfl rfl (by decide) rfl (fun ls hl => ?_)
          refine lv_goto (tgt := 32) hx hb dX0_read_60 (by decide) ?_
          exact cf_read_lw32 X ⟨Nat.le_trans (m := cp_readS_rm.frames) (Nat.le_of_ble_eq_true rfl) hR.1, Nat.le_trans (m := cp_readS_rm.locals) (Nat.le_of_ble_eq_true rfl) hR.2.1, hR.2.2.1, hR.2.2.2⟩ hA hQ FU q3 ((0 : Int32) + 1) _ C9 _ _ ls hM hS (lv_sub hl [2, 1, 0] rfl) h
    · have h := in_ c4 h
      refine gsN X hM b_q3 c4 dX0_read_18 ?_
      refine lv_ifnonnullN hx hb dX0_read_21 ?_
      refine lv_aload_n hx hb dX0_read_24 rfl (lv_at hl 1 rfl) ?_
      refine lv_iconst (v := 1) hx hb dX0_read_25 (by decide) ?_
      obtain ⟨v14, C13, q_C13, h⟩ := bd2_e h
      refine w_wrI (As := [.int (1 : Int32)]) (rest := []) X hM hS hA (c_recv0 X hM) (cf_met_met _ Z _ C _ (1 : Int32) (v14, C13) q_C13) (lw_V q327 q329 qs0 q79 q330) cf_met_hd ⟨rfl, rfl⟩ ⟨Nat.le_trans (m := cp_readS_rm.frames) (Nat.le_of_ble_eq_true rfl) hR.1, Nat.le_trans (m := cp_readS_rm.locals) (Nat.le_of_ble_eq_true rfl) hR.2.1⟩ ⟨Nat.le_trans (m := 200) (Nat.le_of_ble_eq_true rfl) hR.2.2.1, Nat.le_trans (m := 1600) (Nat.le_of_ble_eq_true rfl) hR.2.2.2⟩ rfl hl.1 rfl (Nat.le_of_ble_eq_true rfl) dX0_read_26 (fun Y H locs hM hS => ?_)
      refine W.widen (k := 200) (n := 1600) (Nat.le_of_ble_eq_true rfl) (Nat.le_of_ble_eq_true rfl) ?_
      have h := so_ h
      subst h
      exact W.iret hx hb hr (fun t ht hW => hQ _ _ _ t hM hS ht hW) hS.2.2 dX0_read_29
  · have h := ip_ c2 h
    refine lv_bipush (v := -2) hx hb dX0_read_7 (by decide) ?_
    refine W.widen (k := 200) (n := 1600) (Nat.le_of_ble_eq_true rfl) (Nat.le_of_ble_eq_true rfl) ?_
    have h := so_ h
    subst h
    exact W.iret hx hb hr (fun t ht hW => hQ _ _ _ t hM hS ht hW) hS.2.2 dX0_read_9
theorem cp_readS_met (l : Launch) (Z : CZ) (Y : CY) (C : St) (sz : Nat) (x1 : Int32) (r : (Int32 × St)) (h : cp_readS x1 C = some r) : Met l yX0_read (ws_ yX0_read cX0_read 4 (some .int)) cp_readS_rm (va_Pc [.ref (cSa Z 0), .int x1] (cSx Z Y C sz)) (Qcw (some (.int r.1)) Z (va_A (cWs Z Y C) sz) r.2) 200 1600 (va_A (cWs Z Y C) sz) := by
  refine Met.ofW (cc := cX0_read) (maxL := 4) (ret := some .int) (by decide) rfl ?_
  intro p e s m args below meth c s₁ B hml hv
  obtain ⟨rfl, ⟨hsz, hv⟩, hE⟩ := hv
  subst hsz
  have hts := atoms_spec (ws := ws_ yX0_read cX0_read 4 (some .int)) B.pre
  have hts : ∀ w ∈ lw_all, w.before _ s = true := fun w h => hts w (List.mem_cons_of_mem _ h)
  have X : CCx p s m _ meth c cX0_read 4 (some .int) RX0 Z := ⟨⟨B.exec, B.bytes, B.returns, B.notSynchronized, hml, findClass_of_methodNamed B.named, hts⟩, hv.2⟩
  have hl := lv_entry [.ref (cSa Z 0), .int x1] (n := 4) (Nat.le_of_ble_eq_true rfl)
  rw [lg_entry_eq]
  generalize (lg_sl [.ref (cSa Z 0), .int x1] ++ List.replicate (4 - (lg_sl [.ref (cSa Z 0), .int x1]).length) Slot.unset).toArray = ls at hl ⊢
  exact cp_readS_w0 X ⟨Nat.le_refl _, Nat.le_refl _, Nat.le_refl _, Nat.le_refl _⟩ (fun q h => Or.inr h) hE (fun Y H locs t hM hS ht hW => ⟨rfl, ⟨Y, by rw [ht]; exact hM, cKs.warm hW X.2⟩, hS.F ht⟩) x1 Y C _ _ ls (cPD.self hv.1) va_S.rf hl h
