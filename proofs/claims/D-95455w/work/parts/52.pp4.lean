set_option maxRecDepth 100000
/-! SecondChances.seen(III)I, on any state -/
def cp_seen_rm : Room := { frames := 5, cells := 200, slots := 1600, locals := 141 }
def cp_seen (x1 : Int32) (x2 : Int32) (x3 : Int32) (C : St) : Option (Int32 × St) :=
  bd_ (cf_isPerson x1) fun v1 =>
  if v1 = 0 then (some ((-2 : Int32), C))
  else (bd_ (cf_in (x2.toInt64) (0 : Int64) (5 : Int64)) fun v3 =>
    if v3 = 0 then (some ((-2 : Int32), C))
    else (bd_ (cf_isHour x3) fun v5 =>
      if v5 = 0 then (some ((-2 : Int32), C))
      else (bd_ (cfL_size C 1 ) fun v7 =>
        if v7 = (10 : Int32) then (some ((-4 : Int32), C))
        else (gd_ (cNn C 1 < 10) <|
          lt_ (addC C 1 (sgG x1 x2 x3)) fun C11 =>
          bd_ (cfL_size C11 1 ) fun v12 =>
          some ((v12 - (1 : Int32)), C11)))))
set_option maxHeartbeats 4000000 in
theorem cp_seen_w0 {p : Program} {l : Launch} {e : Env} {R : Room} {s : State} {m : MethodId} {args : Array Value} {below : List Frame} {meth : Method} {c : Code} {Z : CZ} {A : Nat → Prop} {Qc : Array Value → State → Outcome → State → Prop} (X : CCx p s m args meth c cX0_seen 4 (some .int) RX0 Z) (hR : cp_seen_rm.frames ≤ R.frames ∧ cp_seen_rm.locals ≤ R.locals ∧ 200 ≤ R.cells ∧ 1600 ≤ R.slots) (hA : ∀ q, s.heap.size ≤ q → A q) (hE : cE Z A s s.heap) {r : (Int32 × St)} (hQ : ∀ (Y : CY) (H : Heap) (locs : List Loc) (t : State), cPD Z Y A r.2 H → va_S A s.heap H locs → t.heap = H → s.WarmedH t.vm → Qc args s (.returned (some (.int r.1))) t) (x1 : Int32) (x2 : Int32) (x3 : Int32) (Y : CY) (C : St) (H : Heap) (locs : List Loc) (ls : Array Slot) (hM : cPD Z Y A C H) (hS : va_S A s.heap H locs) (hl : lv_has ls 4 [(0, .ref (cSa Z 0)), (1, .int x1), (2, .int x2), (3, .int x3)]) (h : cp_seen x1 x2 x3 C = some r) : W p l e R s m args below meth c H locs 0 0 (MQ below Qc args s 200 1600 A) (F0 m 0 ls []) := by
  obtain ⟨⟨hx, hb, hr, hlocks, hml, hown, hts⟩, hK⟩ := id X
  unfold cp_seen at h
  refine lv_iload_n hx hb dX0_seen_0 rfl (lv_at hl 1 rfl) ?_
  obtain ⟨v1, q_v1, h⟩ := bd_e h
  refine s_roI (As := [.int x1]) (rest := []) X.1 (cf_isPerson_met _ x1 v1 q_v1) (lw_S q294 q295 q79 q296) cf_isPerson_hd ⟨rfl, rfl⟩ ⟨Nat.le_trans (m := cp_seen_rm.frames) (Nat.le_of_ble_eq_true rfl) hR.1, Nat.le_trans (m := cp_seen_rm.locals) (Nat.le_of_ble_eq_true rfl) hR.2.1⟩ ⟨Nat.le_trans (m := 200) (Nat.le_of_ble_eq_true rfl) hR.2.2.1, Nat.le_trans (m := 1600) (Nat.le_of_ble_eq_true rfl) hR.2.2.2⟩ rfl hl.1 rfl (Nat.le_of_ble_eq_true rfl) dX0_seen_1 ?_
  refine lv_if_eq (tgt := 26) hx hb dX0_seen_4 (by decide) (fun c2 => ?_) (fun c2 => ?_)
  · have h := ip_ c2 h
    refine lv_bipush (v := -2) hx hb dX0_seen_26 (by decide) ?_
    refine W.widen (k := 200) (n := 1600) (Nat.le_of_ble_eq_true rfl) (Nat.le_of_ble_eq_true rfl) ?_
    have h := so_ h
    subst h
    exact W.iret hx hb hr (fun t ht hW => hQ _ _ _ t hM hS ht hW) hS.2.2 dX0_seen_28
  · have h := in_ c2 h
    refine lv_iload_n hx hb dX0_seen_7 rfl (lv_at hl 2 rfl) ?_
    refine lv_i2l hx hb dX0_seen_8 rfl ?_
    refine lv_lconst (v := 0) hx hb dX0_seen_9 (by decide) ?_
    refine lv_ldc2 (v := 5) hx hb hown (hts _ q837) dX0_seen_10 ?_
    obtain ⟨v3, q_v3, h⟩ := bd_e h
    refine s_roI (As := [.long (x2.toInt64), .long (0 : Int64), .long (5 : Int64)]) (rest := []) X.1 (cf_in_met _ (x2.toInt64) (0 : Int64) (5 : Int64) v3 q_v3) (lw_S q298 q299 q79 q300) cf_in_hd ⟨rfl, rfl⟩ ⟨Nat.le_trans (m := cp_seen_rm.frames) (Nat.le_of_ble_eq_true rfl) hR.1, Nat.le_trans (m := cp_seen_rm.locals) (Nat.le_of_ble_eq_true rfl) hR.2.1⟩ ⟨Nat.le_trans (m := 200) (Nat.le_of_ble_eq_true rfl) hR.2.2.1, Nat.le_trans (m := 1600) (Nat.le_of_ble_eq_true rfl) hR.2.2.2⟩ rfl hl.1 rfl (Nat.le_of_ble_eq_true rfl) dX0_seen_13 ?_
    refine lv_if_eq (tgt := 26) hx hb dX0_seen_16 (by decide) (fun c4 => ?_) (fun c4 => ?_)
    · have h := ip_ c4 h
      refine lv_bipush (v := -2) hx hb dX0_seen_26 (by decide) ?_
      refine W.widen (k := 200) (n := 1600) (Nat.le_of_ble_eq_true rfl) (Nat.le_of_ble_eq_true rfl) ?_
      have h := so_ h
      subst h
      exact W.iret hx hb hr (fun t ht hW => hQ _ _ _ t hM hS ht hW) hS.2.2 dX0_seen_28
    · have h := in_ c4 h
      refine lv_iload_n hx hb dX0_seen_19 rfl (lv_at hl 3 rfl) ?_
      obtain ⟨v5, q_v5, h⟩ := bd_e h
      refine s_roI (As := [.int x3]) (rest := []) X.1 (cf_isHour_met _ x3 v5 q_v5) (lw_S q308 q309 q79 q310) cf_isHour_hd ⟨rfl, rfl⟩ ⟨Nat.le_trans (m := cp_seen_rm.frames) (Nat.le_of_ble_eq_true rfl) hR.1, Nat.le_trans (m := cp_seen_rm.locals) (Nat.le_of_ble_eq_true rfl) hR.2.1⟩ ⟨Nat.le_trans (m := 200) (Nat.le_of_ble_eq_true rfl) hR.2.2.1, Nat.le_trans (m := 1600) (Nat.le_of_ble_eq_true rfl) hR.2.2.2⟩ rfl hl.1 rfl (Nat.le_of_ble_eq_true rfl) dX0_seen_20 ?_
      refine lv_if_ne (tgt := 29) hx hb dX0_seen_23 (by decide) (fun c6 => ?_) (fun c6 => ?_)
      · have h := in_ c6 h
        refine lv_aload_n hx hb dX0_seen_29 rfl (lv_at hl 0 rfl) ?_
        refine gc17 X hM dX0_seen_30 ?_
        obtain ⟨v7, q_v7, h⟩ := bd_e h
        refine f_roI (As := []) (rest := []) X hM (c_recvL (j := 1) X hM (by decide)) hS.2.2 (cPD.fr hM) (cfL_size_met _ Z Y A C 1  v7 q_v7) (lw_V q641 q418 q419 q85 q420) cfL_size_hd ⟨rfl, rfl⟩ ⟨Nat.le_trans (m := cp_seen_rm.frames) (Nat.le_of_ble_eq_true rfl) hR.1, Nat.le_trans (m := cp_seen_rm.locals) (Nat.le_of_ble_eq_true rfl) hR.2.1⟩ ⟨Nat.le_trans (m := 200) (Nat.le_of_ble_eq_true rfl) hR.2.2.1, Nat.le_trans (m := 1600) (Nat.le_of_ble_eq_true rfl) hR.2.2.2⟩ rfl hl.1 rfl (Nat.le_of_ble_eq_true rfl) dX0_seen_33 (fun locs hL => ?_)
        have hS : va_S A s.heap _ locs := ⟨hS.1, hS.2.1, hL⟩
        refine lv_bipush (v := 10) hx hb dX0_seen_36 (by decide) ?_
        refine lv_icmp_ne (tgt := 44) hx hb dX0_seen_38 (by decide) (fun c8 => ?_) (fun c8 => ?_)
        · have h := in_ c8 h
          refine lv_aload_n hx hb dX0_seen_44 rfl (lv_at hl 0 rfl) ?_
          refine gc17 X hM dX0_seen_45 ?_
          refine lg_new X hM hS hA ⟨Nat.le_trans (m := 200) (Nat.le_of_ble_eq_true rfl) hR.2.2.1, Nat.le_trans (m := 1600) (Nat.le_of_ble_eq_true rfl) hR.2.2.2⟩ dX0_seen_48 (fun v9 H hL hS => ?_)
          have hM := hL.1
          refine lv_dup hx hb dX0_seen_51 rfl ?_
          refine lv_iload_n hx hb dX0_seen_52 rfl (lv_at hl 1 rfl) ?_
          refine lv_iload_n hx hb dX0_seen_53 rfl (lv_at hl 2 rfl) ?_
          refine lv_iload_n hx hb dX0_seen_54 rfl (lv_at hl 3 rfl) ?_
          refine lg_init (rest := [.ref v9, .ref (cSa Z (50 + 1))]) (a := x1) (b := x2) (d := x3) X hL hS ⟨Nat.le_trans (m := cp_seen_rm.frames) (Nat.le_of_ble_eq_true rfl) hR.1, Nat.le_trans (m := cp_seen_rm.locals) (Nat.le_of_ble_eq_true rfl) hR.2.1⟩ ⟨Nat.le_trans (m := 200) (Nat.le_of_ble_eq_true rfl) hR.2.2.1, Nat.le_trans (m := 1600) (Nat.le_of_ble_eq_true rfl) hR.2.2.2⟩ hl.1 rfl (Nat.le_of_ble_eq_true rfl) dX0_seen_55 (fun H locs hL hS => ?_)
          have hM := hL.1
          obtain ⟨b10, h⟩ := gd_e h
          refine lx_add (j := 1) (g := (sgG x1 x2 x3)) (rest := []) X hL hS hA hE (by decide) b10 ⟨Nat.le_trans (m := cp_seen_rm.frames) (Nat.le_of_ble_eq_true rfl) hR.1, Nat.le_trans (m := cp_seen_rm.locals) (Nat.le_of_ble_eq_true rfl) hR.2.1⟩ ⟨Nat.le_trans (m := 200) (Nat.le_of_ble_eq_true rfl) hR.2.2.1, Nat.le_trans (m := 1600) (Nat.le_of_ble_eq_true rfl) hR.2.2.2⟩ hl.1 rfl (Nat.le_of_ble_eq_true rfl) dX0_seen_58 (fun Y H locs hM hS => ?_)
          obtain ⟨C11, e_C11⟩ : ∃ C1, C1 = addC C 1 (sgG x1 x2 x3) := ⟨_, rfl⟩
          rw [← e_C11] at hM
          have h := lt_i h e_C11
          refine lv_pop hx hb dX0_seen_61 rfl ?_
          refine lv_aload_n hx hb dX0_seen_62 rfl (lv_at hl 0 rfl) ?_
          refine gc17 X hM dX0_seen_63 ?_
          obtain ⟨v12, q_v12, h⟩ := bd_e h
          refine f_roI (As := []) (rest := []) X hM (c_recvL (j := 1) X hM (by decide)) hS.2.2 (cPD.fr hM) (cfL_size_met _ Z Y A C11 1  v12 q_v12) (lw_V q641 q418 q419 q85 q420) cfL_size_hd ⟨rfl, rfl⟩ ⟨Nat.le_trans (m := cp_seen_rm.frames) (Nat.le_of_ble_eq_true rfl) hR.1, Nat.le_trans (m := cp_seen_rm.locals) (Nat.le_of_ble_eq_true rfl) hR.2.1⟩ ⟨Nat.le_trans (m := 200) (Nat.le_of_ble_eq_true rfl) hR.2.2.1, Nat.le_trans (m := 1600) (Nat.le_of_ble_eq_true rfl) hR.2.2.2⟩ rfl hl.1 rfl (Nat.le_of_ble_eq_true rfl) dX0_seen_66 (fun locs hL => ?_)
          have hS : va_S A s.heap _ locs := ⟨hS.1, hS.2.1, hL⟩
          refine lv_iconst (v := 1) hx hb dX0_seen_69 (by decide) ?_
          refine lv_isub hx hb dX0_seen_70 ?_
          refine W.widen (k := 200) (n := 1600) (Nat.le_of_ble_eq_true rfl) (Nat.le_of_ble_eq_true rfl) ?_
          have h := so_ h
          subst h
          exact W.iret hx hb hr (fun t ht hW => hQ _ _ _ t hM hS ht hW) hS.2.2 dX0_seen_71
        · have h := ip_ c8 h
          refine lv_bipush (v := -4) hx hb dX0_seen_41 (by decide) ?_
          refine W.widen (k := 200) (n := 1600) (Nat.le_of_ble_eq_true rfl) (Nat.le_of_ble_eq_true rfl) ?_
          have h := so_ h
          subst h
          exact W.iret hx hb hr (fun t ht hW => hQ _ _ _ t hM hS ht hW) hS.2.2 dX0_seen_43
      · have h := ip_ c6 h
        refine lv_bipush (v := -2) hx hb dX0_seen_26 (by decide) ?_
        refine W.widen (k := 200) (n := 1600) (Nat.le_of_ble_eq_true rfl) (Nat.le_of_ble_eq_true rfl) ?_
        have h := so_ h
        subst h
        exact W.iret hx hb hr (fun t ht hW => hQ _ _ _ t hM hS ht hW) hS.2.2 dX0_seen_28
theorem cp_seen_met (l : Launch) (Z : CZ) (Y : CY) (C : St) (sz : Nat) (x1 : Int32) (x2 : Int32) (x3 : Int32) (r : (Int32 × St)) (h : cp_seen x1 x2 x3 C = some r) : Met l yX0_seen (ws_ yX0_seen cX0_seen 4 (some .int)) cp_seen_rm (va_Pc [.ref (cSa Z 0), .int x1, .int x2, .int x3] (cSx Z Y C sz)) (Qcw (some (.int r.1)) Z (va_A (cWs Z Y C) sz) r.2) 200 1600 (va_A (cWs Z Y C) sz) := by
  refine Met.ofW (cc := cX0_seen) (maxL := 4) (ret := some .int) (by decide) rfl ?_
  intro p e s m args below meth c s₁ B hml hv
  obtain ⟨rfl, ⟨hsz, hv⟩, hE⟩ := hv
  subst hsz
  have hts := atoms_spec (ws := ws_ yX0_seen cX0_seen 4 (some .int)) B.pre
  have hts : ∀ w ∈ lw_all, w.before _ s = true := fun w h => hts w (List.mem_cons_of_mem _ h)
  have X : CCx p s m _ meth c cX0_seen 4 (some .int) RX0 Z := ⟨⟨B.exec, B.bytes, B.returns, B.notSynchronized, hml, findClass_of_methodNamed B.named, hts⟩, hv.2⟩
  have hl := lv_entry [.ref (cSa Z 0), .int x1, .int x2, .int x3] (n := 4) (Nat.le_of_ble_eq_true rfl)
  rw [lg_entry_eq]
  generalize (lg_sl [.ref (cSa Z 0), .int x1, .int x2, .int x3] ++ List.replicate (4 - (lg_sl [.ref (cSa Z 0), .int x1, .int x2, .int x3]).length) Slot.unset).toArray = ls at hl ⊢
  exact cp_seen_w0 X ⟨Nat.le_refl _, Nat.le_refl _, Nat.le_refl _, Nat.le_refl _⟩ (fun q h => Or.inr h) hE (fun Y H locs t hM hS ht hW => ⟨rfl, ⟨Y, by rw [ht]; exact hM, cKs.warm hW X.2⟩, hS.F ht⟩) x1 x2 x3 Y C _ _ ls (cPD.self hv.1) va_S.rf hl h

/-! SecondChances.after(II)I, on any state -/
def cp_after_rm : Room := { frames := 5, cells := 200, slots := 1600, locals := 141 }
def cp_after (x1 : Int32) (x2 : Int32) (C : St) : Option (Int32 × St) :=
  bd_ (cf_isAnyDeed x1) fun v1 =>
  if v1 = 0 then (some ((-2 : Int32), C))
  else (bd_ (cf_isAnyDeed x2) fun v3 =>
    if v3 = 0 then (some ((-2 : Int32), C))
    else (if x1 = x2 then (some ((-2 : Int32), C))
      else (bd_ (cfL_size C 2 ) fun v6 =>
        if v6 = (10 : Int32) then (some ((-4 : Int32), C))
        else (gd_ (cNn C 2 < 10) <|
          lt_ (addC C 2 (upd (upd (fun _ => 0) 0 x1) 1 x2)) fun C10 =>
          bd_ (cfL_size C10 2 ) fun v11 =>
          some (v11, C10)))))
set_option maxHeartbeats 4000000 in
theorem cp_after_w0 {p : Program} {l : Launch} {e : Env} {R : Room} {s : State} {m : MethodId} {args : Array Value} {below : List Frame} {meth : Method} {c : Code} {Z : CZ} {A : Nat → Prop} {Qc : Array Value → State → Outcome → State → Prop} (X : CCx p s m args meth c cX0_after 3 (some .int) RX0 Z) (hR : cp_after_rm.frames ≤ R.frames ∧ cp_after_rm.locals ≤ R.locals ∧ 200 ≤ R.cells ∧ 1600 ≤ R.slots) (hA : ∀ q, s.heap.size ≤ q → A q) (hE : cE Z A s s.heap) {r : (Int32 × St)} (hQ : ∀ (Y : CY) (H : Heap) (locs : List Loc) (t : State), cPD Z Y A r.2 H → va_S A s.heap H locs → t.heap = H → s.WarmedH t.vm → Qc args s (.returned (some (.int r.1))) t) (x1 : Int32) (x2 : Int32) (Y : CY) (C : St) (H : Heap) (locs : List Loc) (ls : Array Slot) (hM : cPD Z Y A C H) (hS : va_S A s.heap H locs) (hl : lv_has ls 3 [(0, .ref (cSa Z 0)), (1, .int x1), (2, .int x2)]) (h : cp_after x1 x2 C = some r) : W p l e R s m args below meth c H locs 0 0 (MQ below Qc args s 200 1600 A) (F0 m 0 ls []) := by
  obtain ⟨⟨hx, hb, hr, hlocks, hml, hown, hts⟩, hK⟩ := id X
  unfold cp_after at h
  refine lv_iload_n hx hb dX0_after_0 rfl (lv_at hl 1 rfl) ?_
  obtain ⟨v1, q_v1, h⟩ := bd_e h
  refine s_roI (As := [.int x1]) (rest := []) X.1 (cf_isAnyDeed_met _ x1 v1 q_v1) (lw_S q886 q887 q79 q888) cf_isAnyDeed_hd ⟨rfl, rfl⟩ ⟨Nat.le_trans (m := cp_after_rm.frames) (Nat.le_of_ble_eq_true rfl) hR.1, Nat.le_trans (m := cp_after_rm.locals) (Nat.le_of_ble_eq_true rfl) hR.2.1⟩ ⟨Nat.le_trans (m := 200) (Nat.le_of_ble_eq_true rfl) hR.2.2.1, Nat.le_trans (m := 1600) (Nat.le_of_ble_eq_true rfl) hR.2.2.2⟩ rfl hl.1 rfl (Nat.le_of_ble_eq_true rfl) dX0_after_1 ?_
  refine lv_if_eq (tgt := 19) hx hb dX0_after_4 (by decide) (fun c2 => ?_) (fun c2 => ?_)
  · have h := ip_ c2 h
    refine lv_bipush (v := -2) hx hb dX0_after_19 (by decide) ?_
    refine W.widen (k := 200) (n := 1600) (Nat.le_of_ble_eq_true rfl) (Nat.le_of_ble_eq_true rfl) ?_
    have h := so_ h
    subst h
    exact W.iret hx hb hr (fun t ht hW => hQ _ _ _ t hM hS ht hW) hS.2.2 dX0_after_21
  · have h := in_ c2 h
    refine lv_iload_n hx hb dX0_after_7 rfl (lv_at hl 2 rfl) ?_
    obtain ⟨v3, q_v3, h⟩ := bd_e h
    refine s_roI (As := [.int x2]) (rest := []) X.1 (cf_isAnyDeed_met _ x2 v3 q_v3) (lw_S q886 q887 q79 q888) cf_isAnyDeed_hd ⟨rfl, rfl⟩ ⟨Nat.le_trans (m := cp_after_rm.frames) (Nat.le_of_ble_eq_true rfl) hR.1, Nat.le_trans (m := cp_after_rm.locals) (Nat.le_of_ble_eq_true rfl) hR.2.1⟩ ⟨Nat.le_trans (m := 200) (Nat.le_of_ble_eq_true rfl) hR.2.2.1, Nat.le_trans (m := 1600) (Nat.le_of_ble_eq_true rfl) hR.2.2.2⟩ rfl hl.1 rfl (Nat.le_of_ble_eq_true rfl) dX0_after_8 ?_
    refine lv_if_eq (tgt := 19) hx hb dX0_after_11 (by decide) (fun c4 => ?_) (fun c4 => ?_)
    · have h := ip_ c4 h
      refine lv_bipush (v := -2) hx hb dX0_after_19 (by decide) ?_
      refine W.widen (k := 200) (n := 1600) (Nat.le_of_ble_eq_true rfl) (Nat.le_of_ble_eq_true rfl) ?_
      have h := so_ h
      subst h
      exact W.iret hx hb hr (fun t ht hW => hQ _ _ _ t hM hS ht hW) hS.2.2 dX0_after_21
    · have h := in_ c4 h
      refine lv_iload_n hx hb dX0_after_14 rfl (lv_at hl 1 rfl) ?_
      refine lv_iload_n hx hb dX0_after_15 rfl (lv_at hl 2 rfl) ?_
      refine lv_icmp_ne (tgt := 22) hx hb dX0_after_16 (by decide) (fun c5 => ?_) (fun c5 => ?_)
      · have h := in_ c5 h
        refine lv_aload_n hx hb dX0_after_22 rfl (lv_at hl 0 rfl) ?_
        refine gc18 X hM dX0_after_23 ?_
        obtain ⟨v6, q_v6, h⟩ := bd_e h
        refine f_roI (As := []) (rest := []) X hM (c_recvL (j := 2) X hM (by decide)) hS.2.2 (cPD.fr hM) (cfL_size_met _ Z Y A C 2  v6 q_v6) (lw_V q641 q418 q419 q85 q420) cfL_size_hd ⟨rfl, rfl⟩ ⟨Nat.le_trans (m := cp_after_rm.frames) (Nat.le_of_ble_eq_true rfl) hR.1, Nat.le_trans (m := cp_after_rm.locals) (Nat.le_of_ble_eq_true rfl) hR.2.1⟩ ⟨Nat.le_trans (m := 200) (Nat.le_of_ble_eq_true rfl) hR.2.2.1, Nat.le_trans (m := 1600) (Nat.le_of_ble_eq_true rfl) hR.2.2.2⟩ rfl hl.1 rfl (Nat.le_of_ble_eq_true rfl) dX0_after_26 (fun locs hL => ?_)
        have hS : va_S A s.heap _ locs := ⟨hS.1, hS.2.1, hL⟩
        refine lv_bipush (v := 10) hx hb dX0_after_29 (by decide) ?_
        refine lv_icmp_ne (tgt := 37) hx hb dX0_after_31 (by decide) (fun c7 => ?_) (fun c7 => ?_)
        · have h := in_ c7 h
          refine lv_aload_n hx hb dX0_after_37 rfl (lv_at hl 0 rfl) ?_
          refine gc18 X hM dX0_after_38 ?_
          refine lv_iconst (v := 2) hx hb dX0_after_41 (by decide) ?_
          refine la_new X hM hS hA ⟨Nat.le_trans (m := 200) (Nat.le_of_ble_eq_true rfl) hR.2.2.1, Nat.le_trans (m := 1600) (Nat.le_of_ble_eq_true rfl) hR.2.2.2⟩ dX0_after_42 (fun v8 H hL hS => ?_)
          have hM := hL.1
          refine lv_dup hx hb dX0_after_44 rfl ?_
          refine lv_iconst (v := 0) hx hb dX0_after_45 (by decide) ?_
          refine lv_iload_n hx hb dX0_after_46 rfl (lv_at hl 1 rfl) ?_
          refine la_put (i := (0 : Int32)) X hL hS (inb_in rfl) dX0_after_47 (fun H locs hL hS => ?_)
          have hM := hL.1
          refine lv_dup hx hb dX0_after_48 rfl ?_
          refine lv_iconst (v := 1) hx hb dX0_after_49 (by decide) ?_
          refine lv_iload_n hx hb dX0_after_50 rfl (lv_at hl 2 rfl) ?_
          refine la_put (i := (1 : Int32)) X hL hS (inb_in rfl) dX0_after_51 (fun H locs hL hS => ?_)
          have hM := hL.1
          obtain ⟨b9, h⟩ := gd_e h
          refine lx_add (j := 2) (g := (upd (upd (fun _ => 0) 0 x1) 1 x2)) (rest := []) X hL hS hA hE (by decide) b9 ⟨Nat.le_trans (m := cp_after_rm.frames) (Nat.le_of_ble_eq_true rfl) hR.1, Nat.le_trans (m := cp_after_rm.locals) (Nat.le_of_ble_eq_true rfl) hR.2.1⟩ ⟨Nat.le_trans (m := 200) (Nat.le_of_ble_eq_true rfl) hR.2.2.1, Nat.le_trans (m := 1600) (Nat.le_of_ble_eq_true rfl) hR.2.2.2⟩ hl.1 rfl (Nat.le_of_ble_eq_true rfl) dX0_after_52 (fun Y H locs hM hS => ?_)
          obtain ⟨C10, e_C10⟩ : ∃ C1, C1 = addC C 2 (upd (upd (fun _ => 0) 0 x1) 1 x2) := ⟨_, rfl⟩
          rw [← e_C10] at hM
          have h := lt_i h e_C10
          refine lv_pop hx hb dX0_after_55 rfl ?_
          refine lv_aload_n hx hb dX0_after_56 rfl (lv_at hl 0 rfl) ?_
          refine gc18 X hM dX0_after_57 ?_
          obtain ⟨v11, q_v11, h⟩ := bd_e h
          refine f_roI (As := []) (rest := []) X hM (c_recvL (j := 2) X hM (by decide)) hS.2.2 (cPD.fr hM) (cfL_size_met _ Z Y A C10 2  v11 q_v11) (lw_V q641 q418 q419 q85 q420) cfL_size_hd ⟨rfl, rfl⟩ ⟨Nat.le_trans (m := cp_after_rm.frames) (Nat.le_of_ble_eq_true rfl) hR.1, Nat.le_trans (m := cp_after_rm.locals) (Nat.le_of_ble_eq_true rfl) hR.2.1⟩ ⟨Nat.le_trans (m := 200) (Nat.le_of_ble_eq_true rfl) hR.2.2.1, Nat.le_trans (m := 1600) (Nat.le_of_ble_eq_true rfl) hR.2.2.2⟩ rfl hl.1 rfl (Nat.le_of_ble_eq_true rfl) dX0_after_60 (fun locs hL => ?_)
          have hS : va_S A s.heap _ locs := ⟨hS.1, hS.2.1, hL⟩
          refine W.widen (k := 200) (n := 1600) (Nat.le_of_ble_eq_true rfl) (Nat.le_of_ble_eq_true rfl) ?_
          have h := so_ h
          subst h
          exact W.iret hx hb hr (fun t ht hW => hQ _ _ _ t hM hS ht hW) hS.2.2 dX0_after_63
        · have h := ip_ c7 h
          refine lv_bipush (v := -4) hx hb dX0_after_34 (by decide) ?_
          refine W.widen (k := 200) (n := 1600) (Nat.le_of_ble_eq_true rfl) (Nat.le_of_ble_eq_true rfl) ?_
          have h := so_ h
          subst h
          exact W.iret hx hb hr (fun t ht hW => hQ _ _ _ t hM hS ht hW) hS.2.2 dX0_after_36
      · have h := ip_ c5 h
        refine lv_bipush (v := -2) hx hb dX0_after_19 (by decide) ?_
        refine W.widen (k := 200) (n := 1600) (Nat.le_of_ble_eq_true rfl) (Nat.le_of_ble_eq_true rfl) ?_
        have h := so_ h
        subst h
        exact W.iret hx hb hr (fun t ht hW => hQ _ _ _ t hM hS ht hW) hS.2.2 dX0_after_21
theorem cp_after_met (l : Launch) (Z : CZ) (Y : CY) (C : St) (sz : Nat) (x1 : Int32) (x2 : Int32) (r : (Int32 × St)) (h : cp_after x1 x2 C = some r) : Met l yX0_after (ws_ yX0_after cX0_after 3 (some .int)) cp_after_rm (va_Pc [.ref (cSa Z 0), .int x1, .int x2] (cSx Z Y C sz)) (Qcw (some (.int r.1)) Z (va_A (cWs Z Y C) sz) r.2) 200 1600 (va_A (cWs Z Y C) sz) := by
  refine Met.ofW (cc := cX0_after) (maxL := 3) (ret := some .int) (by decide) rfl ?_
  intro p e s m args below meth c s₁ B hml hv
  obtain ⟨rfl, ⟨hsz, hv⟩, hE⟩ := hv
  subst hsz
  have hts := atoms_spec (ws := ws_ yX0_after cX0_after 3 (some .int)) B.pre
  have hts : ∀ w ∈ lw_all, w.before _ s = true := fun w h => hts w (List.mem_cons_of_mem _ h)
  have X : CCx p s m _ meth c cX0_after 3 (some .int) RX0 Z := ⟨⟨B.exec, B.bytes, B.returns, B.notSynchronized, hml, findClass_of_methodNamed B.named, hts⟩, hv.2⟩
  have hl := lv_entry [.ref (cSa Z 0), .int x1, .int x2] (n := 3) (Nat.le_of_ble_eq_true rfl)
  rw [lg_entry_eq]
  generalize (lg_sl [.ref (cSa Z 0), .int x1, .int x2] ++ List.replicate (3 - (lg_sl [.ref (cSa Z 0), .int x1, .int x2]).length) Slot.unset).toArray = ls at hl ⊢
  exact cp_after_w0 X ⟨Nat.le_refl _, Nat.le_refl _, Nat.le_refl _, Nat.le_refl _⟩ (fun q h => Or.inr h) hE (fun Y H locs t hM hS ht hW => ⟨rfl, ⟨Y, by rw [ht]; exact hM, cKs.warm hW X.2⟩, hS.F ht⟩) x1 x2 Y C _ _ ls (cPD.self hv.1) va_S.rf hl h
