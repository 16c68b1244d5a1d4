set_option maxRecDepth 100000
/-! SecondChances.count(I)I, on any state -/
def cp_count_rm : Room := { frames := 12, cells := 200, slots := 1600, locals := 291 }
def cp_count (x1 : Int32) (C : St) : Option (Int32 × St) :=
  if x1 = 0 then (bd2_ (cp_deeds C) fun v3 C2 =>
    some (v3, C2))
  else (if x1 = 1 then (bd_ (cf_text C (x1 - (1 : Int32))) fun v5 =>
      gd_ (v5 < 2) <|
      some ((C (40 + v5) 1), C))
    else (if x1 = 2 then (bd_ (cf_text C (x1 - (1 : Int32))) fun v8 =>
        gd_ (v8 < 2) <|
        some ((C (40 + v8) 1), C))
      else (if x1 = 3 then (bd2_ (cp_read 1 C) fun v12 C11 =>
          some ((C11 41 8), C11))
        else (if x1 = 4 then (bd_ (cfL_size C 1 ) fun v14 =>
            some (v14, C))
          else (if x1 = 5 then (bd_ (cfL_size C 2 ) fun v16 =>
              some (v16, C))
            else (if x1 = 6 then (bd2_ (cp_deeds C) fun v19 C18 =>
                bd_ (cf_worthOf C18 (((1 : Int32) <<< (v19 &&& 31)) - (1 : Int32))) fun v20 =>
                some (v20, C18))
              else (if x1 = 7 then (bd_ (cf_count_l115 C FU (0 : Int32) (0 : Int32)) fun rv22 => some (rv22, C))
                else (if x1 = 8 then (some ((C 0 0), C))
                  else (some ((-2 : Int32), C))))))))))
set_option maxHeartbeats 4000000 in
theorem cp_count_w0 {p : Program} {l : Launch} {e : Env} {R : Room} {s : State} {m : MethodId} {args : Array Value} {below : List Frame} {meth : Method} {c : Code} {Z : CZ} {A : Nat → Prop} {Qc : Array Value → State → Outcome → State → Prop} (X : CCx p s m args meth c cX0_count 4 (some .int) RX0 Z) (hR : cp_count_rm.frames ≤ R.frames ∧ cp_count_rm.locals ≤ R.locals ∧ 200 ≤ R.cells ∧ 1600 ≤ R.slots) (hA : ∀ q, s.heap.size ≤ q → A q) (hE : cE Z A s s.heap) {r : (Int32 × St)} (hQ : ∀ (Y : CY) (H : Heap) (locs : List Loc) (t : State), cPD Z Y A r.2 H → va_S A s.heap H locs → t.heap = H → s.WarmedH t.vm → Qc args s (.returned (some (.int r.1))) t) (x1 : Int32) (Y : CY) (C : St) (H : Heap) (locs : List Loc) (ls : Array Slot) (hM : cPD Z Y A C H) (hS : va_S A s.heap H locs) (hl : lv_has ls 4 [(0, .ref (cSa Z 0)), (1, .int x1)]) (h : cp_count x1 C = some r) : W p l e R s m args below meth c H locs 0 0 (MQ below Qc args s 200 1600 A) (F0 m 0 ls []) := by
  obtain ⟨⟨hx, hb, hr, hlocks, hml, hown, hts⟩, hK⟩ := id X
  unfold cp_count at h
  refine lv_iconst (v := 0) hx hb dX0_count_0 (by decide) ?_
  refine lv_istore_n (lv' := [(2, .int (0 : Int32)), (0, .ref (cSa Z 0)), (1, .int x1)]) hx hb dX0_count_1 rfl hl (by decide) rfl (fun ls hl => ?_)
  refine lv_iload_n hx hb dX0_count_2 rfl (lv_at hl 2 rfl) ?_
  by_cases c1 : x1 = 0
  · have h := ip_ c1 h
    refine lv_tableIn (tgt := 52) hx hb dX0_count_3 (by rw [c1]; decide) (by rw [c1]; decide) (by rw [c1]; rfl) (by decide) ?_
    refine lv_aload_n hx hb dX0_count_52 rfl (lv_at hl 1 rfl) ?_
    obtain ⟨v3, C2, q_C2, h⟩ := bd2_e h
    refine p_callI (As := []) (rest := []) X hM hS hA hE (cp_deeds_met _ Z _ C _ (v3, C2) q_C2) (lw_V q630 q632 qs7 q79 q633) cf_deeds_hd ⟨rfl, rfl⟩ ⟨Nat.le_trans (m := cp_count_rm.frames) (Nat.le_of_ble_eq_true rfl) hR.1, Nat.le_trans (m := cp_count_rm.locals) (Nat.le_of_ble_eq_true rfl) hR.2.1⟩ ⟨Nat.le_trans (m := 200) (Nat.le_of_ble_eq_true rfl) hR.2.2.1, Nat.le_trans (m := 1600) (Nat.le_of_ble_eq_true rfl) hR.2.2.2⟩ rfl hl.1 rfl (Nat.le_of_ble_eq_true rfl) dX0_count_53 (fun Y H locs hM hS => ?_)
    refine W.widen (k := 200) (n := 1600) (Nat.le_of_ble_eq_true rfl) (Nat.le_of_ble_eq_true rfl) ?_
    have h := so_ h
    subst h
    exact W.iret hx hb hr (fun t ht hW => hQ _ _ _ t hM hS ht hW) hS.2.2 dX0_count_56
  have h := in_ c1 h
  by_cases c4 : x1 = 1
  · have h := ip_ c4 h
    refine lv_tableIn (tgt := 57) hx hb dX0_count_3 (by rw [c4]; decide) (by rw [c4]; decide) (by rw [c4]; rfl) (by decide) ?_
    refine lv_aload_n hx hb dX0_count_57 rfl (lv_at hl 1 rfl) ?_
    refine lv_iload_n hx hb dX0_count_58 rfl (lv_at hl 2 rfl) ?_
    refine lv_iconst (v := 1) hx hb dX0_count_59 (by decide) ?_
    refine lv_isub hx hb dX0_count_60 ?_
    obtain ⟨v5, q_v5, h⟩ := bd_e h
    refine f_roR (As := [.int (x1 - (1 : Int32))]) (rest := []) X hM (c_recv0 X hM) hS.2.2 (cPD.fr hM) (cf_text_met _ Z Y A C (x1 - (1 : Int32)) v5 q_v5) (lw_V q353 q355 qs1 q79 q356) cf_text_hd ⟨rfl, rfl⟩ ⟨Nat.le_trans (m := cp_count_rm.frames) (Nat.le_of_ble_eq_true rfl) hR.1, Nat.le_trans (m := cp_count_rm.locals) (Nat.le_of_ble_eq_true rfl) hR.2.1⟩ ⟨Nat.le_trans (m := 200) (Nat.le_of_ble_eq_true rfl) hR.2.2.1, Nat.le_trans (m := 1600) (Nat.le_of_ble_eq_true rfl) hR.2.2.2⟩ rfl hl.1 rfl (Nat.le_of_ble_eq_true rfl) dX0_count_61 (fun locs hL => ?_)
    have hS : va_S A s.heap _ locs := ⟨hS.1, hS.2.1, hL⟩
    obtain ⟨b6, h⟩ := gd_e h
    refine gtn1 X hM b6 dX0_count_64 ?_
    refine W.widen (k := 200) (n := 1600) (Nat.le_of_ble_eq_true rfl) (Nat.le_of_ble_eq_true rfl) ?_
    have h := so_ h
    subst h
    exact W.iret hx hb hr (fun t ht hW => hQ _ _ _ t hM hS ht hW) hS.2.2 dX0_count_67
  have h := in_ c4 h
  by_cases c7 : x1 = 2
  · have h := ip_ c7 h
    refine lv_tableIn (tgt := 57) hx hb dX0_count_3 (by rw [c7]; decide) (by rw [c7]; decide) (by rw [c7]; rfl) (by decide) ?_
    refine lv_aload_n hx hb dX0_count_57 rfl (lv_at hl 1 rfl) ?_
    refine lv_iload_n hx hb dX0_count_58 rfl (lv_at hl 2 rfl) ?_
    refine lv_iconst (v := 1) hx hb dX0_count_59 (by decide) ?_
    refine lv_isub hx hb dX0_count_60 ?_
    obtain ⟨v8, q_v8, h⟩ := bd_e h
    refine f_roR (As := [.int (x1 - (1 : Int32))]) (rest := []) X hM (c_recv0 X hM) hS.2.2 (cPD.fr hM) (cf_text_met _ Z Y A C (x1 - (1 : Int32)) v8 q_v8) (lw_V q353 q355 qs1 q79 q356) cf_text_hd ⟨rfl, rfl⟩ ⟨Nat.le_trans (m := cp_count_rm.frames) (Nat.le_of_ble_eq_true rfl) hR.1, Nat.le_trans (m := cp_count_rm.locals) (Nat.le_of_ble_eq_true rfl) hR.2.1⟩ ⟨Nat.le_trans (m := 200) (Nat.le_of_ble_eq_true rfl) hR.2.2.1, Nat.le_trans (m := 1600) (Nat.le_of_ble_eq_true rfl) hR.2.2.2⟩ rfl hl.1 rfl (Nat.le_of_ble_eq_true rfl) dX0_count_61 (fun locs hL => ?_)
    have hS : va_S A s.heap _ locs := ⟨hS.1, hS.2.1, hL⟩
    obtain ⟨b9, h⟩ := gd_e h
    refine gtn1 X hM b9 dX0_count_64 ?_
    refine W.widen (k := 200) (n := 1600) (Nat.le_of_ble_eq_true rfl) (Nat.le_of_ble_eq_true rfl) ?_
    have h := so_ h
    subst h
    exact W.iret hx hb hr (fun t ht hW => hQ _ _ _ t hM hS ht hW) hS.2.2 dX0_count_67
  have h := in_ c7 h
  by_cases c10 : x1 = 3
  · have h := ip_ c10 h
    refine lv_tableIn (tgt := 68) hx hb dX0_count_3 (by rw [c10]; decide) (by rw [c10]; decide) (by rw [c10]; rfl) (by decide) ?_
    refine lv_aload_n hx hb dX0_count_68 rfl (lv_at hl 1 rfl) ?_
    refine gc6 X hM dX0_count_69 ?_
    obtain ⟨v12, C11, q_C11, h⟩ := bd2_e h
    refine p_readU (q := 1) (rest := []) (x := ⟨RX4, "read", "()I"⟩) X hM hS hA hE (c_recvX1 X hM) q_C11 (lw_U q638 q639 q640 q378 q81 q382) rfl (by decide +kernel) ⟨Nat.le_trans (m := cp_count_rm.frames) (Nat.le_of_ble_eq_true rfl) hR.1, Nat.le_trans (m := cp_count_rm.locals) (Nat.le_of_ble_eq_true rfl) hR.2.1⟩ ⟨Nat.le_trans (m := 200) (Nat.le_of_ble_eq_true rfl) hR.2.2.1, Nat.le_trans (m := 1600) (Nat.le_of_ble_eq_true rfl) hR.2.2.2⟩ hl.1 (Nat.le_of_ble_eq_true rfl) dX0_count_72 (fun Y H locs hM hS => ?_)
    refine W.widen (k := 200) (n := 1600) (Nat.le_of_ble_eq_true rfl) (Nat.le_of_ble_eq_true rfl) ?_
    refine lv_pop hx hb dX0_count_75 rfl ?_
    refine lv_aload_n hx hb dX0_count_76 rfl (lv_at hl 1 rfl) ?_
    refine gc6 X hM dX0_count_77 ?_
    refine gr8 X hM dX0_count_80 ?_
    have h := so_ h
    subst h
    exact W.iret hx hb hr (fun t ht hW => hQ _ _ _ t hM hS ht hW) hS.2.2 dX0_count_83
  have h := in_ c10 h
  by_cases c13 : x1 = 4
  · have h := ip_ c13 h
    refine lv_tableIn (tgt := 84) hx hb dX0_count_3 (by rw [c13]; decide) (by rw [c13]; decide) (by rw [c13]; rfl) (by decide) ?_
    refine lv_aload_n hx hb dX0_count_84 rfl (lv_at hl 1 rfl) ?_
    refine gc17 X hM dX0_count_85 ?_
    obtain ⟨v14, q_v14, h⟩ := bd_e h
    refine f_roI (As := []) (rest := []) X hM (c_recvL (j := 1) X hM (by decide)) hS.2.2 (cPD.fr hM) (cfL_size_met _ Z Y A C 1  v14 q_v14) (lw_V q641 q418 q419 q85 q420) cfL_size_hd ⟨rfl, rfl⟩ ⟨Nat.le_trans (m := cp_count_rm.frames) (Nat.le_of_ble_eq_true rfl) hR.1, Nat.le_trans (m := cp_count_rm.locals) (Nat.le_of_ble_eq_true rfl) hR.2.1⟩ ⟨Nat.le_trans (m := 200) (Nat.le_of_ble_eq_true rfl) hR.2.2.1, Nat.le_trans (m := 1600) (Nat.le_of_ble_eq_true rfl) hR.2.2.2⟩ rfl hl.1 rfl (Nat.le_of_ble_eq_true rfl) dX0_count_88 (fun locs hL => ?_)
    have hS : va_S A s.heap _ locs := ⟨hS.1, hS.2.1, hL⟩
    refine W.widen (k := 200) (n := 1600) (Nat.le_of_ble_eq_true rfl) (Nat.le_of_ble_eq_true rfl) ?_
    have h := so_ h
    subst h
    exact W.iret hx hb hr (fun t ht hW => hQ _ _ _ t hM hS ht hW) hS.2.2 dX0_count_91
  have h := in_ c13 h
  by_cases c15 : x1 = 5
  · have h := ip_ c15 h
    refine lv_tableIn (tgt := 92) hx hb dX0_count_3 (by rw [c15]; decide) (by rw [c15]; decide) (by rw [c15]; rfl) (by decide) ?_
    refine lv_aload_n hx hb dX0_count_92 rfl (lv_at hl 1 rfl) ?_
    refine gc18 X hM dX0_count_93 ?_
    obtain ⟨v16, q_v16, h⟩ := bd_e h
    refine f_roI (As := []) (rest := []) X hM (c_recvL (j := 2) X hM (by decide)) hS.2.2 (cPD.fr hM) (cfL_size_met _ Z Y A C 2  v16 q_v16) (lw_V q641 q418 q419 q85 q420) cfL_size_hd ⟨rfl, rfl⟩ ⟨Nat.le_trans (m := cp_count_rm.frames) (Nat.le_of_ble_eq_true rfl) hR.1, Nat.le_trans (m := cp_count_rm.locals) (Nat.le_of_ble_eq_true rfl) hR.2.1⟩ ⟨Nat.le_trans (m := 200) (Nat.le_of_ble_eq_true rfl) hR.2.2.1, Nat.le_trans (m := 1600) (Nat.le_of_ble_eq_true rfl) hR.2.2.2⟩ rfl hl.1 rfl (Nat.le_of_ble_eq_true rfl) dX0_count_96 (fun locs hL => ?_)
    have hS : va_S A s.heap _ locs := ⟨hS.1, hS.2.1, hL⟩
    refine W.widen (k := 200) (n := 1600) (Nat.le_of_ble_eq_true rfl) (Nat.le_of_ble_eq_true rfl) ?_
    have h := so_ h
    subst h
    exact W.iret hx hb hr (fun t ht hW => hQ _ _ _ t hM hS ht hW) hS.2.2 dX0_count_99
  have h := in_ c15 h
  by_cases c17 : x1 = 6
  · have h := ip_ c17 h
    refine lv_tableIn (tgt := 100) hx hb dX0_count_3 (by rw [c17]; decide) (by rw [c17]; decide) (by rw [c17]; rfl) (by decide) ?_
    refine lv_aload_n hx hb dX0_count_100 rfl (lv_at hl 1 rfl) ?_
    refine lv_iconst (v := 1) hx hb dX0_count_101 (by decide) ?_
    refine lv_aload_n hx hb dX0_count_102 rfl (lv_at hl 1 rfl) ?_
    obtain ⟨v19, C18, q_C18, h⟩ := bd2_e h
    refine p_callI (As := []) (rest := [.int (1 : Int32), .ref (cSa Z 0)]) X hM hS hA hE (cp_deeds_met _ Z _ C _ (v19, C18) q_C18) (lw_V q630 q632 qs7 q79 q633) cf_deeds_hd ⟨rfl, rfl⟩ ⟨Nat.le_trans (m := cp_count_rm.frames) (Nat.le_of_ble_eq_true rfl) hR.1, Nat.le_trans (m := cp_count_rm.locals) (Nat.le_of_ble_eq_true rfl) hR.2.1⟩ ⟨Nat.le_trans (m := 200) (Nat.le_of_ble_eq_true rfl) hR.2.2.1, Nat.le_trans (m := 1600) (Nat.le_of_ble_eq_true rfl) hR.2.2.2⟩ rfl hl.1 rfl (Nat.le_of_ble_eq_true rfl) dX0_count_103 (fun Y H locs hM hS => ?_)
    refine W.widen (k := 200) (n := 1600) (Nat.le_of_ble_eq_true rfl) (Nat.le_of_ble_eq_true rfl) ?_
    refine lv_ishl hx hb dX0_count_106 ?_
    refine lv_iconst (v := 1) hx hb dX0_count_107 (by decide) ?_
    refine lv_isub hx hb dX0_count_108 ?_
    obtain ⟨v20, q_v20, h⟩ := bd_e h
    refine f_roI (As := [.int (((1 : Int32) <<< (v19 &&& 31)) - (1 : Int32))]) (rest := []) X hM (c_recv0 X hM) hS.2.2 (cPD.fr hM) (cf_worthOf_met _ Z Y A C18 (((1 : Int32) <<< (v19 &&& 31)) - (1 : Int32)) v20 q_v20) (lw_V q747 q749 qs21 q79 q750) cf_worthOf_hd ⟨rfl, rfl⟩ ⟨Nat.le_trans (m := cp_count_rm.frames) (Nat.le_of_ble_eq_true rfl) hR.1, Nat.le_trans (m := cp_count_rm.locals) (Nat.le_of_ble_eq_true rfl) hR.2.1⟩ ⟨Nat.le_trans (m := 200) (Nat.le_of_ble_eq_true rfl) hR.2.2.1, Nat.le_trans (m := 1600) (Nat.le_of_ble_eq_true rfl) hR.2.2.2⟩ rfl hl.1 rfl (Nat.le_of_ble_eq_true rfl) dX0_count_109 (fun locs hL => ?_)
    have hS : va_S A s.heap _ locs := ⟨hS.1, hS.2.1, hL⟩
    have h := so_ h
    subst h
    exact W.iret hx hb hr (fun t ht hW => hQ _ _ _ t hM hS ht hW) hS.2.2 dX0_count_112
  have h := in_ c17 h
  by_cases c21 : x1 = 7
  · have h := ip_ c21 h
    refine lv_tableIn (tgt := 113) hx hb dX0_count_3 (by rw [c21]; decide) (by rw [c21]; decide) (by rw [c21]; rfl) (by decide) ?_
    refine lv_iconst (v := 0) hx hb dX0_count_113 (by decide) ?_
    refine lv_istore_n (lv' := [(3, .int (0 : Int32)), (2, .int (0 : Int32)), (0, .ref (cSa Z 0)), (1, .int x1)]) hx hb dX0_count_114 rfl hl (by decide) rfl (fun ls hl => ?_)
    refine W.widen (k := 200) (n := 1600) (Nat.le_of_ble_eq_true rfl) (Nat.le_of_ble_eq_true rfl) ?_
    obtain ⟨rv22, q_rv22, h⟩ := bd_e h
    have h := so_ h
    subst h
    exact cf_count_lw115 X hM ⟨Nat.le_trans (m := cp_count_rm.frames) (Nat.le_of_ble_eq_true rfl) hR.1, Nat.le_trans (m := cp_count_rm.locals) (Nat.le_of_ble_eq_true rfl) hR.2.1, hR.2.2.1, hR.2.2.2⟩ (cPD.fr hM) (fun t ht hW => hQ _ _ _ t hM hS ht hW) FU (0 : Int32) (0 : Int32) _ ls hS.2.2 (lv_sub hl [2, 1, 0] rfl) q_rv22
  have h := in_ c21 h
  by_cases c23 : x1 = 8
  · have h := ip_ c23 h
    refine lv_tableIn (tgt := 138) hx hb dX0_count_3 (by rw [c23]; decide) (by rw [c23]; decide) (by rw [c23]; rfl) (by decide) ?_
    refine lv_aload_n hx hb dX0_count_138 rfl (lv_at hl 1 rfl) ?_
    refine gc0 X hM dX0_count_139 ?_
    refine W.widen (k := 200) (n := 1600) (Nat.le_of_ble_eq_true rfl) (Nat.le_of_ble_eq_true rfl) ?_
    have h := so_ h
    subst h
    exact W.iret hx hb hr (fun t ht hW => hQ _ _ _ t hM hS ht hW) hS.2.2 dX0_count_142
  have h := in_ c23 h
  refine lv_tableOut (tgt := 143) hx hb dX0_count_3 (by have c1_ := lv_neT c1 (show (0 : Int32).toInt = 0 from rfl); have c4_ := lv_neT c4 (show (1 : Int32).toInt = 1 from rfl); have c7_ := lv_neT c7 (show (2 : Int32).toInt = 2 from rfl); have c10_ := lv_neT c10 (show (3 : Int32).toInt = 3 from rfl); have c13_ := lv_neT c13 (show (4 : Int32).toInt = 4 from rfl); have c15_ := lv_neT c15 (show (5 : Int32).toInt = 5 from rfl); have c17_ := lv_neT c17 (show (6 : Int32).toInt = 6 from rfl); have c21_ := lv_neT c21 (show (7 : Int32).toInt = 7 from rfl); have c23_ := lv_neT c23 (show (8 : Int32).toInt = 8 from rfl); omega) (by decide) ?_
  refine lv_bipush (v := -2) hx hb dX0_count_143 (by decide) ?_
  refine W.widen (k := 200) (n := 1600) (Nat.le_of_ble_eq_true rfl) (Nat.le_of_ble_eq_true rfl) ?_
  have h := so_ h
  subst h
  exact W.iret hx hb hr (fun t ht hW => hQ _ _ _ t hM hS ht hW) hS.2.2 dX0_count_145
theorem cp_count_met (l : Launch) (Z : CZ) (Y : CY) (C : St) (sz : Nat) (x1 : Int32) (r : (Int32 × St)) (h : cp_count x1 C = some r) : Met l yX0_count (ws_ yX0_count cX0_count 4 (some .int)) cp_count_rm (va_Pc [.ref (cSa Z 0), .int x1] (cSx Z Y C sz)) (Qcw (some (.int r.1)) Z (va_A (cWs Z Y C) sz) r.2) 200 1600 (va_A (cWs Z Y C) sz) := by
  refine Met.ofW (cc := cX0_count) (maxL := 4) (ret := some .int) (by decide) rfl ?_
  intro p e s m args below meth c s₁ B hml hv
  obtain ⟨rfl, ⟨hsz, hv⟩, hE⟩ := hv
  subst hsz
  have hts := atoms_spec (ws := ws_ yX0_count cX0_count 4 (some .int)) B.pre
  have hts : ∀ w ∈ lw_all, w.before _ s = true := fun w h => hts w (List.mem_cons_of_mem _ h)
  have X : CCx p s m _ meth c cX0_count 4 (some .int) RX0 Z := ⟨⟨B.exec, B.bytes, B.returns, B.notSynchronized, hml, findClass_of_methodNamed B.named, hts⟩, hv.2⟩
  have hl := lv_entry [.ref (cSa Z 0), .int x1] (n := 4) (Nat.le_of_ble_eq_true rfl)
  rw [lg_entry_eq]
  generalize (lg_sl [.ref (cSa Z 0), .int x1] ++ List.replicate (4 - (lg_sl [.ref (cSa Z 0), .int x1]).length) Slot.unset).toArray = ls at hl ⊢
  exact cp_count_w0 X ⟨Nat.le_refl _, Nat.le_refl _, Nat.le_refl _, Nat.le_refl _⟩ (fun q h => Or.inr h) hE (fun Y H locs t hM hS ht hW => ⟨rfl, ⟨Y, by rw [ht]; exact hM, cKs.warm hW X.2⟩, hS.F ht⟩) x1 Y C _ _ ls (cPD.self hv.1) va_S.rf hl h

/-! SecondChances.fault(I)I, on any state -/
def cp_fault_rm : Room := { frames := 11, cells := 200, slots := 1600, locals := 271 }
def cp_fault (x1 : Int32) (C : St) : Option (Int32 × St) :=
  bd_ (cf_isTwo x1) fun v1 =>
  if v1 = 0 then (some ((-2 : Int32), C))
  else (bd_ (cf_text C x1) fun v3 =>
    gd_ (v3 < 2) <|
    bd2_ (cp_read v3 C) fun v5 C4 =>
    some (v5, C4))
set_option maxHeartbeats 4000000 in
theorem cp_fault_w0 {p : Program} {l : Launch} {e : Env} {R : Room} {s : State} {m : MethodId} {args : Array Value} {below : List Frame} {meth : Method} {c : Code} {Z : CZ} {A : Nat → Prop} {Qc : Array Value → State → Outcome → State → Prop} (X : CCx p s m args meth c cX0_fault 2 (some .int) RX0 Z) (hR : cp_fault_rm.frames ≤ R.frames ∧ cp_fault_rm.locals ≤ R.locals ∧ 200 ≤ R.cells ∧ 1600 ≤ R.slots) (hA : ∀ q, s.heap.size ≤ q → A q) (hE : cE Z A s s.heap) {r : (Int32 × St)} (hQ : ∀ (Y : CY) (H : Heap) (locs : List Loc) (t : State), cPD Z Y A r.2 H → va_S A s.heap H locs → t.heap = H → s.WarmedH t.vm → Qc args s (.returned (some (.int r.1))) t) (x1 : Int32) (Y : CY) (C : St) (H : Heap) (locs : List Loc) (ls : Array Slot) (hM : cPD Z Y A C H) (hS : va_S A s.heap H locs) (hl : lv_has ls 2 [(0, .ref (cSa Z 0)), (1, .int x1)]) (h : cp_fault x1 C = some r) : W p l e R s m args below meth c H locs 0 0 (MQ below Qc args s 200 1600 A) (F0 m 0 ls []) := by
  obtain ⟨⟨hx, hb, hr, hlocks, hml, hown, hts⟩, hK⟩ := id X
  unfold cp_fault at h
  refine lv_iload_n hx hb dX0_fault_0 rfl (lv_at hl 1 rfl) ?_
  obtain ⟨v1, q_v1, h⟩ := bd_e h
  refine s_roI (As := [.int x1]) (rest := []) X.1 (cf_isTwo_met _ x1 v1 q_v1) (lw_S q311 q312 q79 q313) cf_isTwo_hd ⟨rfl, rfl⟩ ⟨Nat.le_trans (m := cp_fault_rm.frames) (Nat.le_of_ble_eq_true rfl) hR.1, Nat.le_trans (m := cp_fault_rm.locals) (Nat.le_of_ble_eq_true rfl) hR.2.1⟩ ⟨Nat.le_trans (m := 200) (Nat.le_of_ble_eq_true rfl) hR.2.2.1, Nat.le_trans (m := 1600) (Nat.le_of_ble_eq_true rfl) hR.2.2.2⟩ rfl hl.1 rfl (Nat.le_of_ble_eq_true rfl) dX0_fault_1 ?_
  refine lv_if_eq (tgt := 18) hx hb dX0_fault_4 (by decide) (fun c2 => ?_) (fun c2 => ?_)
  · have h := ip_ c2 h
    refine lv_bipush (v := -2) hx hb dX0_fault_18 (by decide) ?_
    refine W.widen (k := 200) (n := 1600) (Nat.le_of_ble_eq_true rfl) (Nat.le_of_ble_eq_true rfl) ?_
    have h := so_ h
    subst h
    exact W.iret hx hb hr (fun t ht hW => hQ _ _ _ t hM hS ht hW) hS.2.2 dX0_fault_20
  · have h := in_ c2 h
    refine lv_aload_n hx hb dX0_fault_7 rfl (lv_at hl 0 rfl) ?_
    refine lv_iload_n hx hb dX0_fault_8 rfl (lv_at hl 1 rfl) ?_
    obtain ⟨v3, q_v3, h⟩ := bd_e h
    refine f_roR (As := [.int x1]) (rest := []) X hM (c_recv0 X hM) hS.2.2 (cPD.fr hM) (cf_text_met _ Z Y A C x1 v3 q_v3) (lw_V q353 q355 qs1 q79 q356) cf_text_hd ⟨rfl, rfl⟩ ⟨Nat.le_trans (m := cp_fault_rm.frames) (Nat.le_of_ble_eq_true rfl) hR.1, Nat.le_trans (m := cp_fault_rm.locals) (Nat.le_of_ble_eq_true rfl) hR.2.1⟩ ⟨Nat.le_trans (m := 200) (Nat.le_of_ble_eq_true rfl) hR.2.2.1, Nat.le_trans (m := 1600) (Nat.le_of_ble_eq_true rfl) hR.2.2.2⟩ rfl hl.1 rfl (Nat.le_of_ble_eq_true rfl) dX0_fault_9 (fun locs hL => ?_)
    have hS : va_S A s.heap _ locs := ⟨hS.1, hS.2.1, hL⟩
    obtain ⟨b6, h⟩ := gd_e h
    obtain ⟨v5, C4, q_C4, h⟩ := bd2_e h
    refine p_readX (rest := []) (x := ⟨RX2, "read", "()I"⟩) X hM hS hA hE b6 q_C4 (lw_U q377 q379 q380 q378 q81 q382) (lw_U q377 q379 q381 q378 q81 q382) rfl (by decide +kernel) ⟨Nat.le_trans (m := cp_fault_rm.frames) (Nat.le_of_ble_eq_true rfl) hR.1, Nat.le_trans (m := cp_fault_rm.locals) (Nat.le_of_ble_eq_true rfl) hR.2.1⟩ ⟨Nat.le_trans (m := 200) (Nat.le_of_ble_eq_true rfl) hR.2.2.1, Nat.le_trans (m := 1600) (Nat.le_of_ble_eq_true rfl) hR.2.2.2⟩ hl.1 (Nat.le_of_ble_eq_true rfl) dX0_fault_12 (fun Y H locs hM hS => ?_)
    refine W.widen (k := 200) (n := 1600) (Nat.le_of_ble_eq_true rfl) (Nat.le_of_ble_eq_true rfl) ?_
    refine lv_goto (tgt := 20) hx hb dX0_fault_15 (by decide) ?_
    have h := so_ h
    subst h
    exact W.iret hx hb hr (fun t ht hW => hQ _ _ _ t hM hS ht hW) hS.2.2 dX0_fault_20
theorem cp_fault_met (l : Launch) (Z : CZ) (Y : CY) (C : St) (sz : Nat) (x1 : Int32) (r : (Int32 × St)) (h : cp_fault x1 C = some r) : Met l yX0_fault (ws_ yX0_fault cX0_fault 2 (some .int)) cp_fault_rm (va_Pc [.ref (cSa Z 0), .int x1] (cSx Z Y C sz)) (Qcw (some (.int r.1)) Z (va_A (cWs Z Y C) sz) r.2) 200 1600 (va_A (cWs Z Y C) sz) := by
  refine Met.ofW (cc := cX0_fault) (maxL := 2) (ret := some .int) (by decide) rfl ?_
  intro p e s m args below meth c s₁ B hml hv
  obtain ⟨rfl, ⟨hsz, hv⟩, hE⟩ := hv
  subst hsz
  have hts := atoms_spec (ws := ws_ yX0_fault cX0_fault 2 (some .int)) B.pre
  have hts : ∀ w ∈ lw_all, w.before _ s = true := fun w h => hts w (List.mem_cons_of_mem _ h)
  have X : CCx p s m _ meth c cX0_fault 2 (some .int) RX0 Z := ⟨⟨B.exec, B.bytes, B.returns, B.notSynchronized, hml, findClass_of_methodNamed B.named, hts⟩, hv.2⟩
  have hl := lv_entry [.ref (cSa Z 0), .int x1] (n := 2) (Nat.le_of_ble_eq_true rfl)
  rw [lg_entry_eq]
  generalize (lg_sl [.ref (cSa Z 0), .int x1] ++ List.replicate (2 - (lg_sl [.ref (cSa Z 0), .int x1]).length) Slot.unset).toArray = ls at hl ⊢
  exact cp_fault_w0 X ⟨Nat.le_refl _, Nat.le_refl _, Nat.le_refl _, Nat.le_refl _⟩ (fun q h => Or.inr h) hE (fun Y H locs t hM hS ht hW => ⟨rfl, ⟨Y, by rw [ht]; exact hM, cKs.warm hW X.2⟩, hS.F ht⟩) x1 Y C _ _ ls (cPD.self hv.1) va_S.rf hl h

/-! SecondChances.type(II)I, on any state -/
def cp_type_rm : Room := { frames := 2, cells := 200, slots := 1600, locals := 45 }
def cp_type (x1 : Int32) (x2 : Int32) (C : St) : Option (Int32 × St) :=
  bd_ (cf_isTwo x1) fun v1 =>
  if v1 = 0 then (some ((-2 : Int32), C))
  else (bd_ (cf_in (x2.toInt64) (0 : Int64) (255 : Int64)) fun v3 =>
    if v3 = 0 then (some ((-2 : Int32), C))
    else (lt_ (upd2 C 0 4 (1 : Int32)) fun C5 =>
      bd_ (cf_text C5 x1) fun v6 =>
      gd_ (v6 < 2) <|
      bd2_ (cfT_type v6 x2 C5) fun v9 C8 =>
      some (v9, C8)))
set_option maxHeartbeats 4000000 in
theorem cp_type_w0 {p : Program} {l : Launch} {e : Env} {R : Room} {s : State} {m : MethodId} {args : Array Value} {below : List Frame} {meth : Method} {c : Code} {Z : CZ} {A : Nat → Prop} {Qc : Array Value → State → Outcome → State → Prop} (X : CCx p s m args meth c cX0_type 3 (some .int) RX0 Z) (hR : cp_type_rm.frames ≤ R.frames ∧ cp_type_rm.locals ≤ R.locals ∧ 200 ≤ R.cells ∧ 1600 ≤ R.slots) (hA : ∀ q, s.heap.size ≤ q → A q) (hE : cE Z A s s.heap) {r : (Int32 × St)} (hQ : ∀ (Y : CY) (H : Heap) (locs : List Loc) (t : State), cPD Z Y A r.2 H → va_S A s.heap H locs → t.heap = H → s.WarmedH t.vm → Qc args s (.returned (some (.int r.1))) t) (x1 : Int32) (x2 : Int32) (Y : CY) (C : St) (H : Heap) (locs : List Loc) (ls : Array Slot) (hM : cPD Z Y A C H) (hS : va_S A s.heap H locs) (hl : lv_has ls 3 [(0, .ref (cSa Z 0)), (1, .int x1), (2, .int x2)]) (h : cp_type x1 x2 C = some r) : W p l e R s m args below meth c H locs 0 0 (MQ below Qc args s 200 1600 A) (F0 m 0 ls []) := by
  obtain ⟨⟨hx, hb, hr, hlocks, hml, hown, hts⟩, hK⟩ := id X
  unfold cp_type at h
  refine lv_iload_n hx hb dX0_type_0 rfl (lv_at hl 1 rfl) ?_
  obtain ⟨v1, q_v1, h⟩ := bd_e h
  refine s_roI (As := [.int x1]) (rest := []) X.1 (cf_isTwo_met _ x1 v1 q_v1) (lw_S q311 q312 q79 q313) cf_isTwo_hd ⟨rfl, rfl⟩ ⟨Nat.le_trans (m := cp_type_rm.frames) (Nat.le_of_ble_eq_true rfl) hR.1, Nat.le_trans (m := cp_type_rm.locals) (Nat.le_of_ble_eq_true rfl) hR.2.1⟩ ⟨Nat.le_trans (m := 200) (Nat.le_of_ble_eq_true rfl) hR.2.2.1, Nat.le_trans (m := 1600) (Nat.le_of_ble_eq_true rfl) hR.2.2.2⟩ rfl hl.1 rfl (Nat.le_of_ble_eq_true rfl) dX0_type_1 ?_
  refine lv_if_eq (tgt := 19) hx hb dX0_type_4 (by decide) (fun c2 => ?_) (fun c2 => ?_)
  · have h := ip_ c2 h
    refine lv_bipush (v := -2) hx hb dX0_type_19 (by decide) ?_
    refine W.widen (k := 200) (n := 1600) (Nat.le_of_ble_eq_true rfl) (Nat.le_of_ble_eq_true rfl) ?_
    have h := so_ h
    subst h
    exact W.iret hx hb hr (fun t ht hW => hQ _ _ _ t hM hS ht hW) hS.2.2 dX0_type_21
  · have h := in_ c2 h
    refine lv_iload_n hx hb dX0_type_7 rfl (lv_at hl 2 rfl) ?_
    refine lv_i2l hx hb dX0_type_8 rfl ?_
    refine lv_lconst (v := 0) hx hb dX0_type_9 (by decide) ?_
    refine lv_ldc2 (v := 255) hx hb hown (hts _ q352) dX0_type_10 ?_
    obtain ⟨v3, q_v3, h⟩ := bd_e h
    refine s_roI (As := [.long (x2.toInt64), .long (0 : Int64), .long (255 : Int64)]) (rest := []) X.1 (cf_in_met _ (x2.toInt64) (0 : Int64) (255 : Int64) v3 q_v3) (lw_S q298 q299 q79 q300) cf_in_hd ⟨rfl, rfl⟩ ⟨Nat.le_trans (m := cp_type_rm.frames) (Nat.le_of_ble_eq_true rfl) hR.1, Nat.le_trans (m := cp_type_rm.locals) (Nat.le_of_ble_eq_true rfl) hR.2.1⟩ ⟨Nat.le_trans (m := 200) (Nat.le_of_ble_eq_true rfl) hR.2.2.1, Nat.le_trans (m := 1600) (Nat.le_of_ble_eq_true rfl) hR.2.2.2⟩ rfl hl.1 rfl (Nat.le_of_ble_eq_true rfl) dX0_type_13 ?_
    refine lv_if_ne (tgt := 22) hx hb dX0_type_16 (by decide) (fun c4 => ?_) (fun c4 => ?_)
    · have h := in_ c4 h
      refine lv_aload_n hx hb dX0_type_22 rfl (lv_at hl 0 rfl) ?_
      refine lv_iconst (v := 1) hx hb dX0_type_23 (by decide) ?_
      refine pc4 X hM hS dX0_type_24 rfl (fun H locs C5 e_C5 hM hS => ?_)
      have h := lt_i h e_C5
      refine lv_aload_n hx hb dX0_type_27 rfl (lv_at hl 0 rfl) ?_
      refine lv_iload_n hx hb dX0_type_28 rfl (lv_at hl 1 rfl) ?_
      obtain ⟨v6, q_v6, h⟩ := bd_e h
      refine f_roR (As := [.int x1]) (rest := []) X hM (c_recv0 X hM) hS.2.2 (cPD.fr hM) (cf_text_met _ Z Y A C5 x1 v6 q_v6) (lw_V q353 q355 qs1 q79 q356) cf_text_hd ⟨rfl, rfl⟩ ⟨Nat.le_trans (m := cp_type_rm.frames) (Nat.le_of_ble_eq_true rfl) hR.1, Nat.le_trans (m := cp_type_rm.locals) (Nat.le_of_ble_eq_true rfl) hR.2.1⟩ ⟨Nat.le_trans (m := 200) (Nat.le_of_ble_eq_true rfl) hR.2.2.1, Nat.le_trans (m := 1600) (Nat.le_of_ble_eq_true rfl) hR.2.2.2⟩ rfl hl.1 rfl (Nat.le_of_ble_eq_true rfl) dX0_type_29 (fun locs hL => ?_)
      have hS : va_S A s.heap _ locs := ⟨hS.1, hS.2.1, hL⟩
      refine lv_iload_n hx hb dX0_type_32 rfl (lv_at hl 2 rfl) ?_
      obtain ⟨b7, h⟩ := gd_e h
      obtain ⟨v9, C8, q_C8, h⟩ := bd2_e h
      refine w_wrXI (n := 1) (As := [.int x2]) (rest := []) (owner := RX2) (x := ⟨RX2, "type", "(I)I"⟩) X hM hS hA b7 (cfT_type_met _ Z _ C5 _ v6 x2 (v9, C8) q_C8) (lw_U q357 q359 q360 q358 q81 q362) (lw_U q357 q359 q361 q358 q81 q362) rfl (by decide +kernel) ⟨rfl, rfl⟩ ⟨Nat.le_trans (m := cp_type_rm.frames) (Nat.le_of_ble_eq_true rfl) hR.1, Nat.le_trans (m := cp_type_rm.locals) (Nat.le_of_ble_eq_true rfl) hR.2.1⟩ ⟨Nat.le_trans (m := 200) (Nat.le_of_ble_eq_true rfl) hR.2.2.1, Nat.le_trans (m := 1600) (Nat.le_of_ble_eq_true rfl) hR.2.2.2⟩ rfl hl.1 rfl (Nat.le_of_ble_eq_true rfl) dX0_type_33 (fun Y H locs hM hS => ?_)
      refine W.widen (k := 200) (n := 1600) (Nat.le_of_ble_eq_true rfl) (Nat.le_of_ble_eq_true rfl) ?_
      have h := so_ h
      subst h
      exact W.iret hx hb hr (fun t ht hW => hQ _ _ _ t hM hS ht hW) hS.2.2 dX0_type_36
    · have h := ip_ c4 h
      refine lv_bipush (v := -2) hx hb dX0_type_19 (by decide) ?_
      refine W.widen (k := 200) (n := 1600) (Nat.le_of_ble_eq_true rfl) (Nat.le_of_ble_eq_true rfl) ?_
      have h := so_ h
      subst h
      exact W.iret hx hb hr (fun t ht hW => hQ _ _ _ t hM hS ht hW) hS.2.2 dX0_type_21
theorem cp_type_met (l : Launch) (Z : CZ) (Y : CY) (C : St) (sz : Nat) (x1 : Int32) (x2 : Int32) (r : (Int32 × St)) (h : cp_type x1 x2 C = some r) : Met l yX0_type (ws_ yX0_type cX0_type 3 (some .int)) cp_type_rm (va_Pc [.ref (cSa Z 0), .int x1, .int x2] (cSx Z Y C sz)) (Qcw (some (.int r.1)) Z (va_A (cWs Z Y C) sz) r.2) 200 1600 (va_A (cWs Z Y C) sz) := by
  refine Met.ofW (cc := cX0_type) (maxL := 3) (ret := some .int) (by decide) rfl ?_
  intro p e s m args below meth c s₁ B hml hv
  obtain ⟨rfl, ⟨hsz, hv⟩, hE⟩ := hv
  subst hsz
  have hts := atoms_spec (ws := ws_ yX0_type cX0_type 3 (some .int)) B.pre
  have hts : ∀ w ∈ lw_all, w.before _ s = true := fun w h => hts w (List.mem_cons_of_mem _ h)
  have X : CCx p s m _ meth c cX0_type 3 (some .int) RX0 Z := ⟨⟨B.exec, B.bytes, B.returns, B.notSynchronized, hml, findClass_of_methodNamed B.named, hts⟩, hv.2⟩
  have hl := lv_entry [.ref (cSa Z 0), .int x1, .int x2] (n := 3) (Nat.le_of_ble_eq_true rfl)
  rw [lg_entry_eq]
  generalize (lg_sl [.ref (cSa Z 0), .int x1, .int x2] ++ List.replicate (3 - (lg_sl [.ref (cSa Z 0), .int x1, .int x2]).length) Slot.unset).toArray = ls at hl ⊢
  exact cp_type_w0 X ⟨Nat.le_refl _, Nat.le_refl _, Nat.le_refl _, Nat.le_refl _⟩ (fun q h => Or.inr h) hE (fun Y H locs t hM hS ht hW => ⟨rfl, ⟨Y, by rw [ht]; exact hM, cKs.warm hW X.2⟩, hS.F ht⟩) x1 x2 Y C _ _ ls (cPD.self hv.1) va_S.rf hl h

/-! SecondChances.wipe(I)I, on any state -/
def cp_wipe_rm : Room := { frames := 2, cells := 200, slots := 1600, locals := 45 }
def cp_wipe (x1 : Int32) (C : St) : Option (Int32 × St) :=
  bd_ (cf_isTwo x1) fun v1 =>
  if v1 = 0 then (some ((-2 : Int32), C))
  else (lt_ (upd2 C 0 4 (1 : Int32)) fun C3 =>
    bd_ (cf_text C3 x1) fun v4 =>
    gd_ (v4 < 2) <|
    bd2_ (cfT_wipe v4 C3) fun v7 C6 =>
    some (v7, C6))
set_option maxHeartbeats 4000000 in
theorem cp_wipe_w0 {p : Program} {l : Launch} {e : Env} {R : Room} {s : State} {m : MethodId} {args : Array Value} {below : List Frame} {meth : Method} {c : Code} {Z : CZ} {A : Nat → Prop} {Qc : Array Value → State → Outcome → State → Prop} (X : CCx p s m args meth c cX0_wipe 2 (some .int) RX0 Z) (hR : cp_wipe_rm.frames ≤ R.frames ∧ cp_wipe_rm.locals ≤ R.locals ∧ 200 ≤ R.cells ∧ 1600 ≤ R.slots) (hA : ∀ q, s.heap.size ≤ q → A q) (hE : cE Z A s s.heap) {r : (Int32 × St)} (hQ : ∀ (Y : CY) (H : Heap) (locs : List Loc) (t : State), cPD Z Y A r.2 H → va_S A s.heap H locs → t.heap = H → s.WarmedH t.vm → Qc args s (.returned (some (.int r.1))) t) (x1 : Int32) (Y : CY) (C : St) (H : Heap) (locs : List Loc) (ls : Array Slot) (hM : cPD Z Y A C H) (hS : va_S A s.heap H locs) (hl : lv_has ls 2 [(0, .ref (cSa Z 0)), (1, .int x1)]) (h : cp_wipe x1 C = some r) : W p l e R s m args below meth c H locs 0 0 (MQ below Qc args s 200 1600 A) (F0 m 0 ls []) := by
  obtain ⟨⟨hx, hb, hr, hlocks, hml, hown, hts⟩, hK⟩ := id X
  unfold cp_wipe at h
  refine lv_iload_n hx hb dX0_wipe_0 rfl (lv_at hl 1 rfl) ?_
  obtain ⟨v1, q_v1, h⟩ := bd_e h
  refine s_roI (As := [.int x1]) (rest := []) X.1 (cf_isTwo_met _ x1 v1 q_v1) (lw_S q311 q312 q79 q313) cf_isTwo_hd ⟨rfl, rfl⟩ ⟨Nat.le_trans (m := cp_wipe_rm.frames) (Nat.le_of_ble_eq_true rfl) hR.1, Nat.le_trans (m := cp_wipe_rm.locals) (Nat.le_of_ble_eq_true rfl) hR.2.1⟩ ⟨Nat.le_trans (m := 200) (Nat.le_of_ble_eq_true rfl) hR.2.2.1, Nat.le_trans (m := 1600) (Nat.le_of_ble_eq_true rfl) hR.2.2.2⟩ rfl hl.1 rfl (Nat.le_of_ble_eq_true rfl) dX0_wipe_1 ?_
  refine lv_if_ne (tgt := 10) hx hb dX0_wipe_4 (by decide) (fun c2 => ?_) (fun c2 => ?_)
  · have h := in_ c2 h
    refine lv_aload_n hx hb dX0_wipe_10 rfl (lv_at hl 0 rfl) ?_
    refine lv_iconst (v := 1) hx hb dX0_wipe_11 (by decide) ?_
    refine pc4 X hM hS dX0_wipe_12 rfl (fun H locs C3 e_C3 hM hS => ?_)
    have h := lt_i h e_C3
    refine lv_aload_n hx hb dX0_wipe_15 rfl (lv_at hl 0 rfl) ?_
    refine lv_iload_n hx hb dX0_wipe_16 rfl (lv_at hl 1 rfl) ?_
    obtain ⟨v4, q_v4, h⟩ := bd_e h
    refine f_roR (As := [.int x1]) (rest := []) X hM (c_recv0 X hM) hS.2.2 (cPD.fr hM) (cf_text_met _ Z Y A C3 x1 v4 q_v4) (lw_V q353 q355 qs1 q79 q356) cf_text_hd ⟨rfl, rfl⟩ ⟨Nat.le_trans (m := cp_wipe_rm.frames) (Nat.le_of_ble_eq_true rfl) hR.1, Nat.le_trans (m := cp_wipe_rm.locals) (Nat.le_of_ble_eq_true rfl) hR.2.1⟩ ⟨Nat.le_trans (m := 200) (Nat.le_of_ble_eq_true rfl) hR.2.2.1, Nat.le_trans (m := 1600) (Nat.le_of_ble_eq_true rfl) hR.2.2.2⟩ rfl hl.1 rfl (Nat.le_of_ble_eq_true rfl) dX0_wipe_17 (fun locs hL => ?_)
    have hS : va_S A s.heap _ locs := ⟨hS.1, hS.2.1, hL⟩
    obtain ⟨b5, h⟩ := gd_e h
    obtain ⟨v7, C6, q_C6, h⟩ := bd2_e h
    refine w_wrXI (n := 0) (As := []) (rest := []) (owner := RX2) (x := ⟨RX2, "wipe", "()I"⟩) X hM hS hA b5 (cfT_wipe_met _ Z _ C3 _ v4 (v7, C6) q_C6) (lw_U q367 q369 q370 q368 q81 q372) (lw_U q367 q369 q371 q368 q81 q372) rfl (by decide +kernel) ⟨rfl, rfl⟩ ⟨Nat.le_trans (m := cp_wipe_rm.frames) (Nat.le_of_ble_eq_true rfl) hR.1, Nat.le_trans (m := cp_wipe_rm.locals) (Nat.le_of_ble_eq_true rfl) hR.2.1⟩ ⟨Nat.le_trans (m := 200) (Nat.le_of_ble_eq_true rfl) hR.2.2.1, Nat.le_trans (m := 1600) (Nat.le_of_ble_eq_true rfl) hR.2.2.2⟩ rfl hl.1 rfl (Nat.le_of_ble_eq_true rfl) dX0_wipe_20 (fun Y H locs hM hS => ?_)
    refine W.widen (k := 200) (n := 1600) (Nat.le_of_ble_eq_true rfl) (Nat.le_of_ble_eq_true rfl) ?_
    have h := so_ h
    subst h
    exact W.iret hx hb hr (fun t ht hW => hQ _ _ _ t hM hS ht hW) hS.2.2 dX0_wipe_23
  · have h := ip_ c2 h
    refine lv_bipush (v := -2) hx hb dX0_wipe_7 (by decide) ?_
    refine W.widen (k := 200) (n := 1600) (Nat.le_of_ble_eq_true rfl) (Nat.le_of_ble_eq_true rfl) ?_
    have h := so_ h
    subst h
    exact W.iret hx hb hr (fun t ht hW => hQ _ _ _ t hM hS ht hW) hS.2.2 dX0_wipe_9
theorem cp_wipe_met (l : Launch) (Z : CZ) (Y : CY) (C : St) (sz : Nat) (x1 : Int32) (r : (Int32 × St)) (h : cp_wipe x1 C = some r) : Met l yX0_wipe (ws_ yX0_wipe cX0_wipe 2 (some .int)) cp_wipe_rm (va_Pc [.ref (cSa Z 0), .int x1] (cSx Z Y C sz)) (Qcw (some (.int r.1)) Z (va_A (cWs Z Y C) sz) r.2) 200 1600 (va_A (cWs Z Y C) sz) := by
  refine Met.ofW (cc := cX0_wipe) (maxL := 2) (ret := some .int) (by decide) rfl ?_
  intro p e s m args below meth c s₁ B hml hv
  obtain ⟨rfl, ⟨hsz, hv⟩, hE⟩ := hv
  subst hsz
  have hts := atoms_spec (ws := ws_ yX0_wipe cX0_wipe 2 (some .int)) B.pre
  have hts : ∀ w ∈ lw_all, w.before _ s = true := fun w h => hts w (List.mem_cons_of_mem _ h)
  have X : CCx p s m _ meth c cX0_wipe 2 (some .int) RX0 Z := ⟨⟨B.exec, B.bytes, B.returns, B.notSynchronized, hml, findClass_of_methodNamed B.named, hts⟩, hv.2⟩
  have hl := lv_entry [.ref (cSa Z 0), .int x1] (n := 2) (Nat.le_of_ble_eq_true rfl)
  rw [lg_entry_eq]
  generalize (lg_sl [.ref (cSa Z 0), .int x1] ++ List.replicate (2 - (lg_sl [.ref (cSa Z 0), .int x1]).length) Slot.unset).toArray = ls at hl ⊢
  exact cp_wipe_w0 X ⟨Nat.le_refl _, Nat.le_refl _, Nat.le_refl _, Nat.le_refl _⟩ (fun q h => Or.inr h) hE (fun Y H locs t hM hS ht hW => ⟨rfl, ⟨Y, by rw [ht]; exact hM, cKs.warm hW X.2⟩, hS.F ht⟩) x1 Y C _ _ ls (cPD.self hv.1) va_S.rf hl h

/-! SecondChances.person(III)I, on any state -/
def cp_person_rm : Room := { frames := 2, cells := 200, slots := 1600, locals := 45 }
def cp_person (x1 : Int32) (x2 : Int32) (x3 : Int32) (C : St) : Option (Int32 × St) :=
  bd_ (cf_isPerson x1) fun v1 =>
  if v1 = 0 then (some ((-2 : Int32), C))
  else (bd_ (cf_in (x2.toInt64) (0 : Int64) (3 : Int64)) fun v3 =>
    if v3 = 0 then (some ((-2 : Int32), C))
    else (al_ 4 stG x2 fun v6 =>
      bd_ (cf_in (x3.toInt64) (0 : Int64) (v6.toInt64)) fun v7 =>
      if v7 = 0 then (some ((-2 : Int32), C))
      else (ix_ 8 x1 fun q9 =>
        al_ 4 (C (20 + q9)) x2 fun v10 =>
        ix_ 8 x1 fun q11 =>
        as_ 4 (20 + q11) C x2 x3 fun C12 =>
        lt_ (upd2 C12 0 4 (1 : Int32)) fun C13 =>
        some (v10, C13))))
set_option maxHeartbeats 4000000 in
theorem cp_person_w0 {p : Program} {l : Launch} {e : Env} {R : Room} {s : State} {m : MethodId} {args : Array Value} {below : List Frame} {meth : Method} {c : Code} {Z : CZ} {A : Nat → Prop} {Qc : Array Value → State → Outcome → State → Prop} (X : CCx p s m args meth c cX0_person 5 (some .int) RX0 Z) (hR : cp_person_rm.frames ≤ R.frames ∧ cp_person_rm.locals ≤ R.locals ∧ 200 ≤ R.cells ∧ 1600 ≤ R.slots) (hA : ∀ q, s.heap.size ≤ q → A q) (hE : cE Z A s s.heap) {r : (Int32 × St)} (hQ : ∀ (Y : CY) (H : Heap) (locs : List Loc) (t : State), cPD Z Y A r.2 H → va_S A s.heap H locs → t.heap = H → s.WarmedH t.vm → Qc args s (.returned (some (.int r.1))) t) (x1 : Int32) (x2 : Int32) (x3 : Int32) (Y : CY) (C : St) (H : Heap) (locs : List Loc) (ls : Array Slot) (hM : cPD Z Y A C H) (hS : va_S A s.heap H locs) (hl : lv_has ls 5 [(0, .ref (cSa Z 0)), (1, .int x1), (2, .int x2), (3, .int x3)]) (h : cp_person x1 x2 x3 C = some r) : W p l e R s m args below meth c H locs 0 0 (MQ below Qc args s 200 1600 A) (F0 m 0 ls []) := by
  obtain ⟨⟨hx, hb, hr, hlocks, hml, hown, hts⟩, hK⟩ := id X
  unfold cp_person at h
  refine lv_iload_n hx hb dX0_person_0 rfl (lv_at hl 1 rfl) ?_
  obtain ⟨v1, q_v1, h⟩ := bd_e h
  refine s_roI (As := [.int x1]) (rest := []) X.1 (cf_isPerson_met _ x1 v1 q_v1) (lw_S q294 q295 q79 q296) cf_isPerson_hd ⟨rfl, rfl⟩ ⟨Nat.le_trans (m := cp_person_rm.frames) (Nat.le_of_ble_eq_true rfl) hR.1, Nat.le_trans (m := cp_person_rm.locals) (Nat.le_of_ble_eq_true rfl) hR.2.1⟩ ⟨Nat.le_trans (m := 200) (Nat.le_of_ble_eq_true rfl) hR.2.2.1, Nat.le_trans (m := 1600) (Nat.le_of_ble_eq_true rfl) hR.2.2.2⟩ rfl hl.1 rfl (Nat.le_of_ble_eq_true rfl) dX0_person_1 ?_
  refine lv_if_eq (tgt := 34) hx hb dX0_person_4 (by decide) (fun c2 => ?_) (fun c2 => ?_)
  · have h := ip_ c2 h
    refine lv_bipush (v := -2) hx hb dX0_person_34 (by decide) ?_
    refine W.widen (k := 200) (n := 1600) (Nat.le_of_ble_eq_true rfl) (Nat.le_of_ble_eq_true rfl) ?_
    have h := so_ h
    subst h
    exact W.iret hx hb hr (fun t ht hW => hQ _ _ _ t hM hS ht hW) hS.2.2 dX0_person_36
  · have h := in_ c2 h
    refine lv_iload_n hx hb dX0_person_7 rfl (lv_at hl 2 rfl) ?_
    refine lv_i2l hx hb dX0_person_8 rfl ?_
    refine lv_lconst (v := 0) hx hb dX0_person_9 (by decide) ?_
    refine lv_ldc2 (v := 3) hx hb hown (hts _ q301) dX0_person_10 ?_
    obtain ⟨v3, q_v3, h⟩ := bd_e h
    refine s_roI (As := [.long (x2.toInt64), .long (0 : Int64), .long (3 : Int64)]) (rest := []) X.1 (cf_in_met _ (x2.toInt64) (0 : Int64) (3 : Int64) v3 q_v3) (lw_S q298 q299 q79 q300) cf_in_hd ⟨rfl, rfl⟩ ⟨Nat.le_trans (m := cp_person_rm.frames) (Nat.le_of_ble_eq_true rfl) hR.1, Nat.le_trans (m := cp_person_rm.locals) (Nat.le_of_ble_eq_true rfl) hR.2.1⟩ ⟨Nat.le_trans (m := 200) (Nat.le_of_ble_eq_true rfl) hR.2.2.1, Nat.le_trans (m := 1600) (Nat.le_of_ble_eq_true rfl) hR.2.2.2⟩ rfl hl.1 rfl (Nat.le_of_ble_eq_true rfl) dX0_person_13 ?_
    refine lv_if_eq (tgt := 34) hx hb dX0_person_16 (by decide) (fun c4 => ?_) (fun c4 => ?_)
    · have h := ip_ c4 h
      refine lv_bipush (v := -2) hx hb dX0_person_34 (by decide) ?_
      refine W.widen (k := 200) (n := 1600) (Nat.le_of_ble_eq_true rfl) (Nat.le_of_ble_eq_true rfl) ?_
      have h := so_ h
      subst h
      exact W.iret hx hb hr (fun t ht hW => hQ _ _ _ t hM hS ht hW) hS.2.2 dX0_person_36
    · have h := in_ c4 h
      refine lv_iload_n hx hb dX0_person_19 rfl (lv_at hl 3 rfl) ?_
      refine lv_i2l hx hb dX0_person_20 rfl ?_
      refine lv_lconst (v := 0) hx hb dX0_person_21 (by decide) ?_
      obtain ⟨t5, hz_t5, ht_t5⟩ := hE.2.2.1
      refine va_gets hx hb hz_t5 hS hown (hts _ q302) (fun _ h => h) dX0_person_22 ?_
      refine lv_iload_n hx hb dX0_person_25 rfl (lv_at hl 2 rfl) ?_
      obtain ⟨i_v6, h⟩ := al_e h
      refine va_ti hx hb ht_t5 hS i_v6 rfl dX0_person_26 ?_
      refine lv_topi (fun v6 e_v6 => ?_)
      have h := h v6 e_v6
      refine lv_i2l hx hb dX0_person_27 rfl ?_
      obtain ⟨v7, q_v7, h⟩ := bd_e h
      refine s_roI (As := [.long (x3.toInt64), .long (0 : Int64), .long (v6.toInt64)]) (rest := []) X.1 (cf_in_met _ (x3.toInt64) (0 : Int64) (v6.toInt64) v7 q_v7) (lw_S q298 q299 q79 q300) cf_in_hd ⟨rfl, rfl⟩ ⟨Nat.le_trans (m := cp_person_rm.frames) (Nat.le_of_ble_eq_true rfl) hR.1, Nat.le_trans (m := cp_person_rm.locals) (Nat.le_of_ble_eq_true rfl) hR.2.1⟩ ⟨Nat.le_trans (m := 200) (Nat.le_of_ble_eq_true rfl) hR.2.2.1, Nat.le_trans (m := 1600) (Nat.le_of_ble_eq_true rfl) hR.2.2.2⟩ rfl hl.1 rfl (Nat.le_of_ble_eq_true rfl) dX0_person_28 ?_
      refine lv_if_ne (tgt := 37) hx hb dX0_person_31 (by decide) (fun c8 => ?_) (fun c8 => ?_)
      · have h := in_ c8 h
        refine lv_aload_n hx hb dX0_person_37 rfl (lv_at hl 0 rfl) ?_
        refine gc1 X hM dX0_person_38 ?_
        refine lv_iload_n hx hb dX0_person_41 rfl (lv_at hl 1 rfl) ?_
        obtain ⟨i_q9, b_q9, h⟩ := ix_e h
        refine c_aldP X hM i_q9 dX0_person_42 (fun q9 e_q9 => ?_)
        have h := h q9 e_q9
        rw [← e_q9] at b_q9
        refine gpf X hM b_q9 dX0_person_43 ?_
        refine lv_iload_n hx hb dX0_person_46 rfl (lv_at hl 2 rfl) ?_
        obtain ⟨i_v10, h⟩ := al_e h
        refine c_ald X hM (k := (20 + q9)) (cHs_S (cS_f b_q9)) (cArr_f b_q9) (cAr_s (by omega)) i_v10 dX0_person_47 (fun v10 e_v10 => ?_)
        have h := h v10 e_v10
        refine lv_istore (lv' := [(4, .int v10), (0, .ref (cSa Z 0)), (1, .int x1), (2, .int x2), (3, .int x3)]) hx hb dX0_person_48 hl (by decide) rfl (fun ls hl => ?_)
        refine lv_aload_n hx hb dX0_person_50 rfl (lv_at hl 1 rfl) ?_
        refine gc1 X hM dX0_person_51 ?_
        refine lv_iload_n hx hb dX0_person_54 rfl (lv_at hl 2 rfl) ?_
        obtain ⟨i_q11, b_q11, h⟩ := ix_e h
        refine c_aldP X hM i_q11 dX0_person_55 (fun q11 e_q11 => ?_)
        have h := h q11 e_q11
        rw [← e_q11] at b_q11
        refine gpf X hM b_q11 dX0_person_56 ?_
        refine lv_iload_n hx hb dX0_person_59 rfl (lv_at hl 3 rfl) ?_
        refine lv_iload_n hx hb dX0_person_60 rfl (lv_at hl 4 rfl) ?_
        obtain ⟨i_C12, h⟩ := as_e h
        refine c_ast X hM hS (k := (20 + q11)) (by omega) (cHs_S (cS_f b_q11)) (cArr_f b_q11) (cAr_s (by omega)) i_C12 dX0_person_61 (fun H locs C12 e_C12 hM hS => ?_)
        have h := h C12 e_C12
        refine lv_aload_n hx hb dX0_person_62 rfl (lv_at hl 1 rfl) ?_
        refine lv_iconst (v := 1) hx hb dX0_person_63 (by decide) ?_
        refine pc4 X hM hS dX0_person_64 rfl (fun H locs C13 e_C13 hM hS => ?_)
        have h := lt_i h e_C13
        refine lv_iload hx hb dX0_person_67 (lv_at hl 0 rfl) ?_
        refine W.widen (k := 200) (n := 1600) (Nat.le_of_ble_eq_true rfl) (Nat.le_of_ble_eq_true rfl) ?_
        have h := so_ h
        subst h
        exact W.iret hx hb hr (fun t ht hW => hQ _ _ _ t hM hS ht hW) hS.2.2 dX0_person_69
      · have h := ip_ c8 h
        refine lv_bipush (v := -2) hx hb dX0_person_34 (by decide) ?_
        refine W.widen (k := 200) (n := 1600) (Nat.le_of_ble_eq_true rfl) (Nat.le_of_ble_eq_true rfl) ?_
        have h := so_ h
        subst h
        exact W.iret hx hb hr (fun t ht hW => hQ _ _ _ t hM hS ht hW) hS.2.2 dX0_person_36
theorem cp_person_met (l : Launch) (Z : CZ) (Y : CY) (C : St) (sz : Nat) (x1 : Int32) (x2 : Int32) (x3 : Int32) (r : (Int32 × St)) (h : cp_person x1 x2 x3 C = some r) : Met l yX0_person (ws_ yX0_person cX0_person 5 (some .int)) cp_person_rm (va_Pc [.ref (cSa Z 0), .int x1, .int x2, .int x3] (cSx Z Y C sz)) (Qcw (some (.int r.1)) Z (va_A (cWs Z Y C) sz) r.2) 200 1600 (va_A (cWs Z Y C) sz) := by
  refine Met.ofW (cc := cX0_person) (maxL := 5) (ret := some .int) (by decide) rfl ?_
  intro p e s m args below meth c s₁ B hml hv
  obtain ⟨rfl, ⟨hsz, hv⟩, hE⟩ := hv
  subst hsz
  have hts := atoms_spec (ws := ws_ yX0_person cX0_person 5 (some .int)) B.pre
  have hts : ∀ w ∈ lw_all, w.before _ s = true := fun w h => hts w (List.mem_cons_of_mem _ h)
  have X : CCx p s m _ meth c cX0_person 5 (some .int) RX0 Z := ⟨⟨B.exec, B.bytes, B.returns, B.notSynchronized, hml, findClass_of_methodNamed B.named, hts⟩, hv.2⟩
  have hl := lv_entry [.ref (cSa Z 0), .int x1, .int x2, .int x3] (n := 5) (Nat.le_of_ble_eq_true rfl)
  rw [lg_entry_eq]
  generalize (lg_sl [.ref (cSa Z 0), .int x1, .int x2, .int x3] ++ List.replicate (5 - (lg_sl [.ref (cSa Z 0), .int x1, .int x2, .int x3]).length) Slot.unset).toArray = ls at hl ⊢
  exact cp_person_w0 X ⟨Nat.le_refl _, Nat.le_refl _, Nat.le_refl _, Nat.le_refl _⟩ (fun q h => Or.inr h) hE (fun Y H locs t hM hS ht hW => ⟨rfl, ⟨Y, by rw [ht]; exact hM, cKs.warm hW X.2⟩, hS.F ht⟩) x1 x2 x3 Y C _ _ ls (cPD.self hv.1) va_S.rf hl h

/-! SecondChances.weather(II)I, on any state -/
def cp_weather_rm : Room := { frames := 2, cells := 200, slots := 1600, locals := 45 }
def cp_weather (x1 : Int32) (x2 : Int32) (C : St) : Option (Int32 × St) :=
  bd_ (cf_isHour x1) fun v1 =>
  if v1 = 0 then (some ((-2 : Int32), C))
  else (bd_ (cf_isTwo x2) fun v3 =>
    if v3 = 0 then (some ((-2 : Int32), C))
    else (al_ 8 (C 2) x1 fun v5 =>
      as_ 8 2 C x1 x2 fun C6 =>
      lt_ (upd2 C6 0 4 (1 : Int32)) fun C7 =>
      some (v5, C7)))
set_option maxHeartbeats 4000000 in
theorem cp_weather_w0 {p : Program} {l : Launch} {e : Env} {R : Room} {s : State} {m : MethodId} {args : Array Value} {below : List Frame} {meth : Method} {c : Code} {Z : CZ} {A : Nat → Prop} {Qc : Array Value → State → Outcome → State → Prop} (X : CCx p s m args meth c cX0_weather 4 (some .int) RX0 Z) (hR : cp_weather_rm.frames ≤ R.frames ∧ cp_weather_rm.locals ≤ R.locals ∧ 200 ≤ R.cells ∧ 1600 ≤ R.slots) (hA : ∀ q, s.heap.size ≤ q → A q) (hE : cE Z A s s.heap) {r : (Int32 × St)} (hQ : ∀ (Y : CY) (H : Heap) (locs : List Loc) (t : State), cPD Z Y A r.2 H → va_S A s.heap H locs → t.heap = H → s.WarmedH t.vm → Qc args s (.returned (some (.int r.1))) t) (x1 : Int32) (x2 : Int32) (Y : CY) (C : St) (H : Heap) (locs : List Loc) (ls : Array Slot) (hM : cPD Z Y A C H) (hS : va_S A s.heap H locs) (hl : lv_has ls 4 [(0, .ref (cSa Z 0)), (1, .int x1), (2, .int x2)]) (h : cp_weather x1 x2 C = some r) : W p l e R s m args below meth c H locs 0 0 (MQ below Qc args s 200 1600 A) (F0 m 0 ls []) := by
  obtain ⟨⟨hx, hb, hr, hlocks, hml, hown, hts⟩, hK⟩ := id X
  unfold cp_weather at h
  refine lv_iload_n hx hb dX0_weather_0 rfl (lv_at hl 1 rfl) ?_
  obtain ⟨v1, q_v1, h⟩ := bd_e h
  refine s_roI (As := [.int x1]) (rest := []) X.1 (cf_isHour_met _ x1 v1 q_v1) (lw_S q308 q309 q79 q310) cf_isHour_hd ⟨rfl, rfl⟩ ⟨Nat.le_trans (m := cp_weather_rm.frames) (Nat.le_of_ble_eq_true rfl) hR.1, Nat.le_trans (m := cp_weather_rm.locals) (Nat.le_of_ble_eq_true rfl) hR.2.1⟩ ⟨Nat.le_trans (m := 200) (Nat.le_of_ble_eq_true rfl) hR.2.2.1, Nat.le_trans (m := 1600) (Nat.le_of_ble_eq_true rfl) hR.2.2.2⟩ rfl hl.1 rfl (Nat.le_of_ble_eq_true rfl) dX0_weather_1 ?_
  refine lv_if_eq (tgt := 14) hx hb dX0_weather_4 (by decide) (fun c2 => ?_) (fun c2 => ?_)
  · have h := ip_ c2 h
    refine lv_bipush (v := -2) hx hb dX0_weather_14 (by decide) ?_
    refine W.widen (k := 200) (n := 1600) (Nat.le_of_ble_eq_true rfl) (Nat.le_of_ble_eq_true rfl) ?_
    have h := so_ h
    subst h
    exact W.iret hx hb hr (fun t ht hW => hQ _ _ _ t hM hS ht hW) hS.2.2 dX0_weather_16
  · have h := in_ c2 h
    refine lv_iload_n hx hb dX0_weather_7 rfl (lv_at hl 2 rfl) ?_
    obtain ⟨v3, q_v3, h⟩ := bd_e h
    refine s_roI (As := [.int x2]) (rest := []) X.1 (cf_isTwo_met _ x2 v3 q_v3) (lw_S q311 q312 q79 q313) cf_isTwo_hd ⟨rfl, rfl⟩ ⟨Nat.le_trans (m := cp_weather_rm.frames) (Nat.le_of_ble_eq_true rfl) hR.1, Nat.le_trans (m := cp_weather_rm.locals) (Nat.le_of_ble_eq_true rfl) hR.2.1⟩ ⟨Nat.le_trans (m := 200) (Nat.le_of_ble_eq_true rfl) hR.2.2.1, Nat.le_trans (m := 1600) (Nat.le_of_ble_eq_true rfl) hR.2.2.2⟩ rfl hl.1 rfl (Nat.le_of_ble_eq_true rfl) dX0_weather_8 ?_
    refine lv_if_ne (tgt := 17) hx hb dX0_weather_11 (by decide) (fun c4 => ?_) (fun c4 => ?_)
    · have h := in_ c4 h
      refine lv_aload_n hx hb dX0_weather_17 rfl (lv_at hl 0 rfl) ?_
      refine gc2 X hM dX0_weather_18 ?_
      refine lv_iload_n hx hb dX0_weather_21 rfl (lv_at hl 1 rfl) ?_
      obtain ⟨i_v5, h⟩ := al_e h
      refine c_ald X hM (k := 2) (cHs_S (by decide)) (fun _ _ _ => rfl) (cAr_s (by decide)) i_v5 dX0_weather_22 (fun v5 e_v5 => ?_)
      have h := h v5 e_v5
      refine lv_istore_n (lv' := [(3, .int v5), (0, .ref (cSa Z 0)), (1, .int x1), (2, .int x2)]) hx hb dX0_weather_23 rfl hl (by decide) rfl (fun ls hl => ?_)
      refine lv_aload_n hx hb dX0_weather_24 rfl (lv_at hl 1 rfl) ?_
      refine gc2 X hM dX0_weather_25 ?_
      refine lv_iload_n hx hb dX0_weather_28 rfl (lv_at hl 2 rfl) ?_
      refine lv_iload_n hx hb dX0_weather_29 rfl (lv_at hl 3 rfl) ?_
      obtain ⟨i_C6, h⟩ := as_e h
      refine c_ast X hM hS (k := 2) (by decide) (cHs_S (by decide)) (fun _ _ _ => rfl) (cAr_s (by decide)) i_C6 dX0_weather_30 (fun H locs C6 e_C6 hM hS => ?_)
      have h := h C6 e_C6
      refine lv_aload_n hx hb dX0_weather_31 rfl (lv_at hl 1 rfl) ?_
      refine lv_iconst (v := 1) hx hb dX0_weather_32 (by decide) ?_
      refine pc4 X hM hS dX0_weather_33 rfl (fun H locs C7 e_C7 hM hS => ?_)
      have h := lt_i h e_C7
      refine lv_iload_n hx hb dX0_weather_36 rfl (lv_at hl 0 rfl) ?_
      refine W.widen (k := 200) (n := 1600) (Nat.le_of_ble_eq_true rfl) (Nat.le_of_ble_eq_true rfl) ?_
      have h := so_ h
      subst h
      exact W.iret hx hb hr (fun t ht hW => hQ _ _ _ t hM hS ht hW) hS.2.2 dX0_weather_37
    · have h := ip_ c4 h
      refine lv_bipush (v := -2) hx hb dX0_weather_14 (by decide) ?_
      refine W.widen (k := 200) (n := 1600) (Nat.le_of_ble_eq_true rfl) (Nat.le_of_ble_eq_true rfl) ?_
      have h := so_ h
      subst h
      exact W.iret hx hb hr (fun t ht hW => hQ _ _ _ t hM hS ht hW) hS.2.2 dX0_weather_16
theorem cp_weather_met (l : Launch) (Z : CZ) (Y : CY) (C : St) (sz : Nat) (x1 : Int32) (x2 : Int32) (r : (Int32 × St)) (h : cp_weather x1 x2 C = some r) : Met l yX0_weather (ws_ yX0_weather cX0_weather 4 (some .int)) cp_weather_rm (va_Pc [.ref (cSa Z 0), .int x1, .int x2] (cSx Z Y C sz)) (Qcw (some (.int r.1)) Z (va_A (cWs Z Y C) sz) r.2) 200 1600 (va_A (cWs Z Y C) sz) := by
  refine Met.ofW (cc := cX0_weather) (maxL := 4) (ret := some .int) (by decide) rfl ?_
  intro p e s m args below meth c s₁ B hml hv
  obtain ⟨rfl, ⟨hsz, hv⟩, hE⟩ := hv
  subst hsz
  have hts := atoms_spec (ws := ws_ yX0_weather cX0_weather 4 (some .int)) B.pre
  have hts : ∀ w ∈ lw_all, w.before _ s = true := fun w h => hts w (List.mem_cons_of_mem _ h)
  have X : CCx p s m _ meth c cX0_weather 4 (some .int) RX0 Z := ⟨⟨B.exec, B.bytes, B.returns, B.notSynchronized, hml, findClass_of_methodNamed B.named, hts⟩, hv.2⟩
  have hl := lv_entry [.ref (cSa Z 0), .int x1, .int x2] (n := 4) (Nat.le_of_ble_eq_true rfl)
  rw [lg_entry_eq]
  generalize (lg_sl [.ref (cSa Z 0), .int x1, .int x2] ++ List.replicate (4 - (lg_sl [.ref (cSa Z 0), .int x1, .int x2]).length) Slot.unset).toArray = ls at hl ⊢
  exact cp_weather_w0 X ⟨Nat.le_refl _, Nat.le_refl _, Nat.le_refl _, Nat.le_refl _⟩ (fun q h => Or.inr h) hE (fun Y H locs t hM hS ht hW => ⟨rfl, ⟨Y, by rw [ht]; exact hM, cKs.warm hW X.2⟩, hS.F ht⟩) x1 x2 Y C _ _ ls (cPD.self hv.1) va_S.rf hl h

/-! SecondChances.set(II)I, on any state -/
def cp_set_rm : Room := { frames := 1, cells := 200, slots := 1600, locals := 25 }
def cp_set (x1 : Int32) (x2 : Int32) (C : St) : Option (Int32 × St) :=
  bd_ (cf_in (x1.toInt64) (0 : Int64) (3 : Int64)) fun v1 =>
  if v1 = 0 then (some ((-2 : Int32), C))
  else (al_ 4 stH x1 fun v4 =>
    bd_ (cf_in (x2.toInt64) (0 : Int64) (v4.toInt64)) fun v5 =>
    if v5 = 0 then (some ((-2 : Int32), C))
    else (al_ 4 (C 3) x1 fun v7 =>
      as_ 4 3 C x1 x2 fun C8 =>
      lt_ (upd2 C8 0 4 (1 : Int32)) fun C9 =>
      some (v7, C9)))
set_option maxHeartbeats 4000000 in
theorem cp_set_w0 {p : Program} {l : Launch} {e : Env} {R : Room} {s : State} {m : MethodId} {args : Array Value} {below : List Frame} {meth : Method} {c : Code} {Z : CZ} {A : Nat → Prop} {Qc : Array Value → State → Outcome → State → Prop} (X : CCx p s m args meth c cX0_set 4 (some .int) RX0 Z) (hR : cp_set_rm.frames ≤ R.frames ∧ cp_set_rm.locals ≤ R.locals ∧ 200 ≤ R.cells ∧ 1600 ≤ R.slots) (hA : ∀ q, s.heap.size ≤ q → A q) (hE : cE Z A s s.heap) {r : (Int32 × St)} (hQ : ∀ (Y : CY) (H : Heap) (locs : List Loc) (t : State), cPD Z Y A r.2 H → va_S A s.heap H locs → t.heap = H → s.WarmedH t.vm → Qc args s (.returned (some (.int r.1))) t) (x1 : Int32) (x2 : Int32) (Y : CY) (C : St) (H : Heap) (locs : List Loc) (ls : Array Slot) (hM : cPD Z Y A C H) (hS : va_S A s.heap H locs) (hl : lv_has ls 4 [(0, .ref (cSa Z 0)), (1, .int x1), (2, .int x2)]) (h : cp_set x1 x2 C = some r) : W p l e R s m args below meth c H locs 0 0 (MQ below Qc args s 200 1600 A) (F0 m 0 ls []) := by
  obtain ⟨⟨hx, hb, hr, hlocks, hml, hown, hts⟩, hK⟩ := id X
  unfold cp_set at h
  refine lv_iload_n hx hb dX0_set_0 rfl (lv_at hl 1 rfl) ?_
  refine lv_i2l hx hb dX0_set_1 rfl ?_
  refine lv_lconst (v := 0) hx hb dX0_set_2 (by decide) ?_
  refine lv_ldc2 (v := 3) hx hb hown (hts _ q301) dX0_set_3 ?_
  obtain ⟨v1, q_v1, h⟩ := bd_e h
  refine s_roI (As := [.long (x1.toInt64), .long (0 : Int64), .long (3 : Int64)]) (rest := []) X.1 (cf_in_met _ (x1.toInt64) (0 : Int64) (3 : Int64) v1 q_v1) (lw_S q298 q299 q79 q300) cf_in_hd ⟨rfl, rfl⟩ ⟨Nat.le_trans (m := cp_set_rm.frames) (Nat.le_of_ble_eq_true rfl) hR.1, Nat.le_trans (m := cp_set_rm.locals) (Nat.le_of_ble_eq_true rfl) hR.2.1⟩ ⟨Nat.le_trans (m := 200) (Nat.le_of_ble_eq_true rfl) hR.2.2.1, Nat.le_trans (m := 1600) (Nat.le_of_ble_eq_true rfl) hR.2.2.2⟩ rfl hl.1 rfl (Nat.le_of_ble_eq_true rfl) dX0_set_6 ?_
  refine lv_if_eq (tgt := 27) hx hb dX0_set_9 (by decide) (fun c2 => ?_) (fun c2 => ?_)
  · have h := ip_ c2 h
    refine lv_bipush (v := -2) hx hb dX0_set_27 (by decide) ?_
    refine W.widen (k := 200) (n := 1600) (Nat.le_of_ble_eq_true rfl) (Nat.le_of_ble_eq_true rfl) ?_
    have h := so_ h
    subst h
    exact W.iret hx hb hr (fun t ht hW => hQ _ _ _ t hM hS ht hW) hS.2.2 dX0_set_29
  · have h := in_ c2 h
    refine lv_iload_n hx hb dX0_set_12 rfl (lv_at hl 2 rfl) ?_
    refine lv_i2l hx hb dX0_set_13 rfl ?_
    refine lv_lconst (v := 0) hx hb dX0_set_14 (by decide) ?_
    obtain ⟨t3, hz_t3, ht_t3⟩ := hE.2.2.2.1
    refine va_gets hx hb hz_t3 hS hown (hts _ q318) (fun _ h => h) dX0_set_15 ?_
    refine lv_iload_n hx hb dX0_set_18 rfl (lv_at hl 1 rfl) ?_
    obtain ⟨i_v4, h⟩ := al_e h
    refine va_ti hx hb ht_t3 hS i_v4 rfl dX0_set_19 ?_
    refine lv_topi (fun v4 e_v4 => ?_)
    have h := h v4 e_v4
    refine lv_i2l hx hb dX0_set_20 rfl ?_
    obtain ⟨v5, q_v5, h⟩ := bd_e h
    refine s_roI (As := [.long (x2.toInt64), .long (0 : Int64), .long (v4.toInt64)]) (rest := []) X.1 (cf_in_met _ (x2.toInt64) (0 : Int64) (v4.toInt64) v5 q_v5) (lw_S q298 q299 q79 q300) cf_in_hd ⟨rfl, rfl⟩ ⟨Nat.le_trans (m := cp_set_rm.frames) (Nat.le_of_ble_eq_true rfl) hR.1, Nat.le_trans (m := cp_set_rm.locals) (Nat.le_of_ble_eq_true rfl) hR.2.1⟩ ⟨Nat.le_trans (m := 200) (Nat.le_of_ble_eq_true rfl) hR.2.2.1, Nat.le_trans (m := 1600) (Nat.le_of_ble_eq_true rfl) hR.2.2.2⟩ rfl hl.1 rfl (Nat.le_of_ble_eq_true rfl) dX0_set_21 ?_
    refine lv_if_ne (tgt := 30) hx hb dX0_set_24 (by decide) (fun c6 => ?_) (fun c6 => ?_)
    · have h := in_ c6 h
      refine lv_aload_n hx hb dX0_set_30 rfl (lv_at hl 0 rfl) ?_
      refine gc3 X hM dX0_set_31 ?_
      refine lv_iload_n hx hb dX0_set_34 rfl (lv_at hl 1 rfl) ?_
      obtain ⟨i_v7, h⟩ := al_e h
      refine c_ald X hM (k := 3) (cHs_S (by decide)) (fun _ _ _ => rfl) (cAr_s (by decide)) i_v7 dX0_set_35 (fun v7 e_v7 => ?_)
      have h := h v7 e_v7
      refine lv_istore_n (lv' := [(3, .int v7), (0, .ref (cSa Z 0)), (1, .int x1), (2, .int x2)]) hx hb dX0_set_36 rfl hl (by decide) rfl (fun ls hl => ?_)
      refine lv_aload_n hx hb dX0_set_37 rfl (lv_at hl 1 rfl) ?_
      refine gc3 X hM dX0_set_38 ?_
      refine lv_iload_n hx hb dX0_set_41 rfl (lv_at hl 2 rfl) ?_
      refine lv_iload_n hx hb dX0_set_42 rfl (lv_at hl 3 rfl) ?_
      obtain ⟨i_C8, h⟩ := as_e h
      refine c_ast X hM hS (k := 3) (by decide) (cHs_S (by decide)) (fun _ _ _ => rfl) (cAr_s (by decide)) i_C8 dX0_set_43 (fun H locs C8 e_C8 hM hS => ?_)
      have h := h C8 e_C8
      refine lv_aload_n hx hb dX0_set_44 rfl (lv_at hl 1 rfl) ?_
      refine lv_iconst (v := 1) hx hb dX0_set_45 (by decide) ?_
      refine pc4 X hM hS dX0_set_46 rfl (fun H locs C9 e_C9 hM hS => ?_)
      have h := lt_i h e_C9
      refine lv_iload_n hx hb dX0_set_49 rfl (lv_at hl 0 rfl) ?_
      refine W.widen (k := 200) (n := 1600) (Nat.le_of_ble_eq_true rfl) (Nat.le_of_ble_eq_true rfl) ?_
      have h := so_ h
      subst h
      exact W.iret hx hb hr (fun t ht hW => hQ _ _ _ t hM hS ht hW) hS.2.2 dX0_set_50
    · have h := ip_ c6 h
      refine lv_bipush (v := -2) hx hb dX0_set_27 (by decide) ?_
      refine W.widen (k := 200) (n := 1600) (Nat.le_of_ble_eq_true rfl) (Nat.le_of_ble_eq_true rfl) ?_
      have h := so_ h
      subst h
      exact W.iret hx hb hr (fun t ht hW => hQ _ _ _ t hM hS ht hW) hS.2.2 dX0_set_29
theorem cp_set_met (l : Launch) (Z : CZ) (Y : CY) (C : St) (sz : Nat) (x1 : Int32) (x2 : Int32) (r : (Int32 × St)) (h : cp_set x1 x2 C = some r) : Met l yX0_set (ws_ yX0_set cX0_set 4 (some .int)) cp_set_rm (va_Pc [.ref (cSa Z 0), .int x1, .int x2] (cSx Z Y C sz)) (Qcw (some (.int r.1)) Z (va_A (cWs Z Y C) sz) r.2) 200 1600 (va_A (cWs Z Y C) sz) := by
  refine Met.ofW (cc := cX0_set) (maxL := 4) (ret := some .int) (by decide) rfl ?_
  intro p e s m args below meth c s₁ B hml hv
  obtain ⟨rfl, ⟨hsz, hv⟩, hE⟩ := hv
  subst hsz
  have hts := atoms_spec (ws := ws_ yX0_set cX0_set 4 (some .int)) B.pre
  have hts : ∀ w ∈ lw_all, w.before _ s = true := fun w h => hts w (List.mem_cons_of_mem _ h)
  have X : CCx p s m _ meth c cX0_set 4 (some .int) RX0 Z := ⟨⟨B.exec, B.bytes, B.returns, B.notSynchronized, hml, findClass_of_methodNamed B.named, hts⟩, hv.2⟩
  have hl := lv_entry [.ref (cSa Z 0), .int x1, .int x2] (n := 4) (Nat.le_of_ble_eq_true rfl)
  rw [lg_entry_eq]
  generalize (lg_sl [.ref (cSa Z 0), .int x1, .int x2] ++ List.replicate (4 - (lg_sl [.ref (cSa Z 0), .int x1, .int x2]).length) Slot.unset).toArray = ls at hl ⊢
  exact cp_set_w0 X ⟨Nat.le_refl _, Nat.le_refl _, Nat.le_refl _, Nat.le_refl _⟩ (fun q h => Or.inr h) hE (fun Y H locs t hM hS ht hW => ⟨rfl, ⟨Y, by rw [ht]; exact hM, cKs.warm hW X.2⟩, hS.F ht⟩) x1 x2 Y C _ _ ls (cPD.self hv.1) va_S.rf hl h

/-! SecondChances.forget(I)I, on any state -/
def cp_forget_rm : Room := { frames := 2, cells := 200, slots := 1600, locals := 45 }
def cp_forget (x1 : Int32) (C : St) : Option (Int32 × St) :=
  bd_ (cf_isTwo x1) fun v1 =>
  if v1 = 0 then (some ((-2 : Int32), C))
  else (if x1 = 0 then (bd_ (cfL_size C 1 ) fun v8 =>
      if x1 = 0 then (bd_ (cfL_clear 1  C) fun C11 =>
        some (v8, C11))
      else (bd_ (cfL_clear 2  C) fun C10 =>
        some (v8, C10)))
    else (bd_ (cfL_size C 2 ) fun v4 =>
      if x1 = 0 then (bd_ (cfL_clear 1  C) fun C7 =>
        some (v4, C7))
      else (bd_ (cfL_clear 2  C) fun C6 =>
        some (v4, C6))))
set_option maxHeartbeats 4000000 in
theorem cp_forget_w0 {p : Program} {l : Launch} {e : Env} {R : Room} {s : State} {m : MethodId} {args : Array Value} {below : List Frame} {meth : Method} {c : Code} {Z : CZ} {A : Nat → Prop} {Qc : Array Value → State → Outcome → State → Prop} (X : CCx p s m args meth c cX0_forget 3 (some .int) RX0 Z) (hR : cp_forget_rm.frames ≤ R.frames ∧ cp_forget_rm.locals ≤ R.locals ∧ 200 ≤ R.cells ∧ 1600 ≤ R.slots) (hA : ∀ q, s.heap.size ≤ q → A q) (hE : cE Z A s s.heap) {r : (Int32 × St)} (hQ : ∀ (Y : CY) (H : Heap) (locs : List Loc) (t : State), cPD Z Y A r.2 H → va_S A s.heap H locs → t.heap = H → s.WarmedH t.vm → Qc args s (.returned (some (.int r.1))) t) (x1 : Int32) (Y : CY) (C : St) (H : Heap) (locs : List Loc) (ls : Array Slot) (hM : cPD Z Y A C H) (hS : va_S A s.heap H locs) (hl : lv_has ls 3 [(0, .ref (cSa Z 0)), (1, .int x1)]) (h : cp_forget x1 C = some r) : W p l e R s m args below meth c H locs 0 0 (MQ below Qc args s 200 1600 A) (F0 m 0 ls []) := by
  obtain ⟨⟨hx, hb, hr, hlocks, hml, hown, hts⟩, hK⟩ := id X
  unfold cp_forget at h
  refine lv_iload_n hx hb dX0_forget_0 rfl (lv_at hl 1 rfl) ?_
  obtain ⟨v1, q_v1, h⟩ := bd_e h
  refine s_roI (As := [.int x1]) (rest := []) X.1 (cf_isTwo_met _ x1 v1 q_v1) (lw_S q311 q312 q79 q313) cf_isTwo_hd ⟨rfl, rfl⟩ ⟨Nat.le_trans (m := cp_forget_rm.frames) (Nat.le_of_ble_eq_true rfl) hR.1, Nat.le_trans (m := cp_forget_rm.locals) (Nat.le_of_ble_eq_true rfl) hR.2.1⟩ ⟨Nat.le_trans (m := 200) (Nat.le_of_ble_eq_true rfl) hR.2.2.1, Nat.le_trans (m := 1600) (Nat.le_of_ble_eq_true rfl) hR.2.2.2⟩ rfl hl.1 rfl (Nat.le_of_ble_eq_true rfl) dX0_forget_1 ?_
  refine lv_if_ne (tgt := 10) hx hb dX0_forget_4 (by decide) (fun c2 => ?_) (fun c2 => ?_)
  · have h := in_ c2 h
    refine lv_iload_n hx hb dX0_forget_10 rfl (lv_at hl 1 rfl) ?_
    refine lv_if_ne (tgt := 24) hx hb dX0_forget_11 (by decide) (fun c3 => ?_) (fun c3 => ?_)
    · have h := in_ c3 h
      refine lv_aload_n hx hb dX0_forget_24 rfl (lv_at hl 0 rfl) ?_
      refine gc18 X hM dX0_forget_25 ?_
      obtain ⟨v4, q_v4, h⟩ := bd_e h
      refine f_roI (As := []) (rest := []) X hM (c_recvL (j := 2) X hM (by decide)) hS.2.2 (cPD.fr hM) (cfL_size_met _ Z Y A C 2  v4 q_v4) (lw_V q641 q418 q419 q85 q420) cfL_size_hd ⟨rfl, rfl⟩ ⟨Nat.le_trans (m := cp_forget_rm.frames) (Nat.le_of_ble_eq_true rfl) hR.1, Nat.le_trans (m := cp_forget_rm.locals) (Nat.le_of_ble_eq_true rfl) hR.2.1⟩ ⟨Nat.le_trans (m := 200) (Nat.le_of_ble_eq_true rfl) hR.2.2.1, Nat.le_trans (m := 1600) (Nat.le_of_ble_eq_true rfl) hR.2.2.2⟩ rfl hl.1 rfl (Nat.le_of_ble_eq_true rfl) dX0_forget_28 (fun locs hL => ?_)
      have hS : va_S A s.heap _ locs := ⟨hS.1, hS.2.1, hL⟩
      refine lv_istore_n (lv' := [(2, .int v4), (0, .ref (cSa Z 0)), (1, .int x1)]) hx hb dX0_forget_31 rfl hl (by decide) rfl (fun ls hl => ?_)
      refine lv_iload_n hx hb dX0_forget_32 rfl (lv_at hl 2 rfl) ?_
      refine lv_if_ne (tgt := 46) hx hb dX0_forget_33 (by decide) (fun c5 => ?_) (fun c5 => ?_)
      · have h := in_ c5 h
        refine lv_aload_n hx hb dX0_forget_46 rfl (lv_at hl 1 rfl) ?_
        refine gc18 X hM dX0_forget_47 ?_
        obtain ⟨C6, q_C6, h⟩ := bd_e h
        refine w_wrV (As := []) (rest := []) X hM hS hA (c_recvL (j := 2) X hM (by decide)) (cfL_clear_met _ Z _ C _ 2  C6 q_C6) (lw_V q893 q395 q396 q85 q397) cfL_clear_hd ⟨rfl, rfl⟩ ⟨Nat.le_trans (m := cp_forget_rm.frames) (Nat.le_of_ble_eq_true rfl) hR.1, Nat.le_trans (m := cp_forget_rm.locals) (Nat.le_of_ble_eq_true rfl) hR.2.1⟩ ⟨Nat.le_trans (m := 200) (Nat.le_of_ble_eq_true rfl) hR.2.2.1, Nat.le_trans (m := 1600) (Nat.le_of_ble_eq_true rfl) hR.2.2.2⟩ rfl hl.1 rfl (Nat.le_of_ble_eq_true rfl) dX0_forget_50 (fun Y H locs hM hS => ?_)
        refine lv_iload_n hx hb dX0_forget_53 rfl (lv_at hl 0 rfl) ?_
        refine W.widen (k := 200) (n := 1600) (Nat.le_of_ble_eq_true rfl) (Nat.le_of_ble_eq_true rfl) ?_
        have h := so_ h
        subst h
        exact W.iret hx hb hr (fun t ht hW => hQ _ _ _ t hM hS ht hW) hS.2.2 dX0_forget_54
      · have h := ip_ c5 h
        refine lv_aload_n hx hb dX0_forget_36 rfl (lv_at hl 1 rfl) ?_
        refine gc17 X hM dX0_forget_37 ?_
        obtain ⟨C7, q_C7, h⟩ := bd_e h
        refine w_wrV (As := []) (rest := []) X hM hS hA (c_recvL (j := 1) X hM (by decide)) (cfL_clear_met _ Z _ C _ 1  C7 q_C7) (lw_V q893 q395 q396 q85 q397) cfL_clear_hd ⟨rfl, rfl⟩ ⟨Nat.le_trans (m := cp_forget_rm.frames) (Nat.le_of_ble_eq_true rfl) hR.1, Nat.le_trans (m := cp_forget_rm.locals) (Nat.le_of_ble_eq_true rfl) hR.2.1⟩ ⟨Nat.le_trans (m := 200) (Nat.le_of_ble_eq_true rfl) hR.2.2.1, Nat.le_trans (m := 1600) (Nat.le_of_ble_eq_true rfl) hR.2.2.2⟩ rfl hl.1 rfl (Nat.le_of_ble_eq_true rfl) dX0_forget_40 (fun Y H locs hM hS => ?_)
        refine lv_goto (tgt := 53) hx hb dX0_forget_43 (by decide) ?_
        refine lv_iload_n hx hb dX0_forget_53 rfl (lv_at hl 0 rfl) ?_
        refine W.widen (k := 200) (n := 1600) (Nat.le_of_ble_eq_true rfl) (Nat.le_of_ble_eq_true rfl) ?_
        have h := so_ h
        subst h
        exact W.iret hx hb hr (fun t ht hW => hQ _ _ _ t hM hS ht hW) hS.2.2 dX0_forget_54
    · have h := ip_ c3 h
      refine lv_aload_n hx hb dX0_forget_14 rfl (lv_at hl 0 rfl) ?_
      refine gc17 X hM dX0_forget_15 ?_
      obtain ⟨v8, q_v8, h⟩ := bd_e h
      refine f_roI (As := []) (rest := []) X hM (c_recvL (j := 1) X hM (by decide)) hS.2.2 (cPD.fr hM) (cfL_size_met _ Z Y A C 1  v8 q_v8) (lw_V q641 q418 q419 q85 q420) cfL_size_hd ⟨rfl, rfl⟩ ⟨Nat.le_trans (m := cp_forget_rm.frames) (Nat.le_of_ble_eq_true rfl) hR.1, Nat.le_trans (m := cp_forget_rm.locals) (Nat.le_of_ble_eq_true rfl) hR.2.1⟩ ⟨Nat.le_trans (m := 200) (Nat.le_of_ble_eq_true rfl) hR.2.2.1, Nat.le_trans (m := 1600) (Nat.le_of_ble_eq_true rfl) hR.2.2.2⟩ rfl hl.1 rfl (Nat.le_of_ble_eq_true rfl) dX0_forget_18 (fun locs hL => ?_)
      have hS : va_S A s.heap _ locs := ⟨hS.1, hS.2.1, hL⟩
      refine lv_goto (tgt := 31) hx hb dX0_forget_21 (by decide) ?_
      refine lv_istore_n (lv' := [(2, .int v8), (0, .ref (cSa Z 0)), (1, .int x1)]) hx hb dX0_forget_31 rfl hl (by decide) rfl (fun ls hl => ?_)
      refine lv_iload_n hx hb dX0_forget_32 rfl (lv_at hl 2 rfl) ?_
      refine lv_if_ne (tgt := 46) hx hb dX0_forget_33 (by decide) (fun c9 => ?_) (fun c9 => ?_)
      · have h := in_ c9 h
        refine lv_aload_n hx hb dX0_forget_46 rfl (lv_at hl 1 rfl) ?_
        refine gc18 X hM dX0_forget_47 ?_
        obtain ⟨C10, q_C10, h⟩ := bd_e h
        refine w_wrV (As := []) (rest := []) X hM hS hA (c_recvL (j := 2) X hM (by decide)) (cfL_clear_met _ Z _ C _ 2  C10 q_C10) (lw_V q893 q395 q396 q85 q397) cfL_clear_hd ⟨rfl, rfl⟩ ⟨Nat.le_trans (m := cp_forget_rm.frames) (Nat.le_of_ble_eq_true rfl) hR.1, Nat.le_trans (m := cp_forget_rm.locals) (Nat.le_of_ble_eq_true rfl) hR.2.1⟩ ⟨Nat.le_trans (m := 200) (Nat.le_of_ble_eq_true rfl) hR.2.2.1, Nat.le_trans (m := 1600) (Nat.le_of_ble_eq_true rfl) hR.2.2.2⟩ rfl hl.1 rfl (Nat.le_of_ble_eq_true rfl) dX0_forget_50 (fun Y H locs hM hS => ?_)
        refine lv_iload_n hx hb dX0_forget_53 rfl (lv_at hl 0 rfl) ?_
        refine W.widen (k := 200) (n := 1600) (Nat.le_of_ble_eq_true rfl) (Nat.le_of_ble_eq_true rfl) ?_
        have h := so_ h
        subst h
        exact W.iret hx hb hr (fun t ht hW => hQ _ _ _ t hM hS ht hW) hS.2.2 dX0_forget_54
      · have h := ip_ c9 h
        refine lv_aload_n hx hb dX0_forget_36 rfl (lv_at hl 1 rfl) ?_
        refine gc17 X hM dX0_forget_37 ?_
        obtain ⟨C11, q_C11, h⟩ := bd_e h
        refine w_wrV (As := []) (rest := []) X hM hS hA (c_recvL (j := 1) X hM (by decide)) (cfL_clear_met _ Z _ C _ 1  C11 q_C11) (lw_V q893 q395 q396 q85 q397) cfL_clear_hd ⟨rfl, rfl⟩ ⟨Nat.le_trans (m := cp_forget_rm.frames) (Nat.le_of_ble_eq_true rfl) hR.1, Nat.le_trans (m := cp_forget_rm.locals) (Nat.le_of_ble_eq_true rfl) hR.2.1⟩ ⟨Nat.le_trans (m := 200) (Nat.le_of_ble_eq_true rfl) hR.2.2.1, Nat.le_trans (m := 1600) (Nat.le_of_ble_eq_true rfl) hR.2.2.2⟩ rfl hl.1 rfl (Nat.le_of_ble_eq_true rfl) dX0_forget_40 (fun Y H locs hM hS => ?_)
        refine lv_goto (tgt := 53) hx hb dX0_forget_43 (by decide) ?_
        refine lv_iload_n hx hb dX0_forget_53 rfl (lv_at hl 0 rfl) ?_
        refine W.widen (k := 200) (n := 1600) (Nat.le_of_ble_eq_true rfl) (Nat.le_of_ble_eq_true rfl) ?_
        have h := so_ h
        subst h
        exact W.iret hx hb hr (fun t ht hW => hQ _ _ _ t hM hS ht hW) hS.2.2 dX0_forget_54
  · have h := ip_ c2 h
    refine lv_bipush (v := -2) hx hb dX0_forget_7 (by decide) ?_
    refine W.widen (k := 200) (n := 1600) (Nat.le_of_ble_eq_true rfl) (Nat.le_of_ble_eq_true rfl) ?_
    have h := so_ h
    subst h
    exact W.iret hx hb hr (fun t ht hW => hQ _ _ _ t hM hS ht hW) hS.2.2 dX0_forget_9
theorem cp_forget_met (l : Launch) (Z : CZ) (Y : CY) (C : St) (sz : Nat) (x1 : Int32) (r : (Int32 × St)) (h : cp_forget x1 C = some r) : Met l yX0_forget (ws_ yX0_forget cX0_forget 3 (some .int)) cp_forget_rm (va_Pc [.ref (cSa Z 0), .int x1] (cSx Z Y C sz)) (Qcw (some (.int r.1)) Z (va_A (cWs Z Y C) sz) r.2) 200 1600 (va_A (cWs Z Y C) sz) := by
  refine Met.ofW (cc := cX0_forget) (maxL := 3) (ret := some .int) (by decide) rfl ?_
  intro p e s m args below meth c s₁ B hml hv
  obtain ⟨rfl, ⟨hsz, hv⟩, hE⟩ := hv
  subst hsz
  have hts := atoms_spec (ws := ws_ yX0_forget cX0_forget 3 (some .int)) B.pre
  have hts : ∀ w ∈ lw_all, w.before _ s = true := fun w h => hts w (List.mem_cons_of_mem _ h)
  have X : CCx p s m _ meth c cX0_forget 3 (some .int) RX0 Z := ⟨⟨B.exec, B.bytes, B.returns, B.notSynchronized, hml, findClass_of_methodNamed B.named, hts⟩, hv.2⟩
  have hl := lv_entry [.ref (cSa Z 0), .int x1] (n := 3) (Nat.le_of_ble_eq_true rfl)
  rw [lg_entry_eq]
  generalize (lg_sl [.ref (cSa Z 0), .int x1] ++ List.replicate (3 - (lg_sl [.ref (cSa Z 0), .int x1]).length) Slot.unset).toArray = ls at hl ⊢
  exact cp_forget_w0 X ⟨Nat.le_refl _, Nat.le_refl _, Nat.le_refl _, Nat.le_refl _⟩ (fun q h => Or.inr h) hE (fun Y H locs t hM hS ht hW => ⟨rfl, ⟨Y, by rw [ht]; exact hM, cKs.warm hW X.2⟩, hS.F ht⟩) x1 Y C _ _ ls (cPD.self hv.1) va_S.rf hl h

/-! SecondChances.deed(II)I, on any state -/
def cp_deed_rm : Room := { frames := 13, cells := 200, slots := 1600, locals := 312 }
def cp_deed (x1 : Int32) (x2 : Int32) (C : St) : Option (Int32 × St) :=
  bd2_ (cp_isDeed x1 C) fun v2 C1 =>
  if v2 = 0 then (some ((-2 : Int32), C1))
  else (bd_ (cf_in (x2.toInt64) (0 : Int64) (4 : Int64)) fun v4 =>
    if v4 = 0 then (some ((-2 : Int32), C1))
    else (bd_ (cf_deedBy C1 x1 x2) fun v6 =>
      some (v6, C1)))
set_option maxHeartbeats 4000000 in
theorem cp_deed_w0 {p : Program} {l : Launch} {e : Env} {R : Room} {s : State} {m : MethodId} {args : Array Value} {below : List Frame} {meth : Method} {c : Code} {Z : CZ} {A : Nat → Prop} {Qc : Array Value → State → Outcome → State → Prop} (X : CCx p s m args meth c cX0_deed 3 (some .int) RX0 Z) (hR : cp_deed_rm.frames ≤ R.frames ∧ cp_deed_rm.locals ≤ R.locals ∧ 200 ≤ R.cells ∧ 1600 ≤ R.slots) (hA : ∀ q, s.heap.size ≤ q → A q) (hE : cE Z A s s.heap) {r : (Int32 × St)} (hQ : ∀ (Y : CY) (H : Heap) (locs : List Loc) (t : State), cPD Z Y A r.2 H → va_S A s.heap H locs → t.heap = H → s.WarmedH t.vm → Qc args s (.returned (some (.int r.1))) t) (x1 : Int32) (x2 : Int32) (Y : CY) (C : St) (H : Heap) (locs : List Loc) (ls : Array Slot) (hM : cPD Z Y A C H) (hS : va_S A s.heap H locs) (hl : lv_has ls 3 [(0, .ref (cSa Z 0)), (1, .int x1), (2, .int x2)]) (h : cp_deed x1 x2 C = some r) : W p l e R s m args below meth c H locs 0 0 (MQ below Qc args s 200 1600 A) (F0 m 0 ls []) := by
  obtain ⟨⟨hx, hb, hr, hlocks, hml, hown, hts⟩, hK⟩ := id X
  unfold cp_deed at h
  refine lv_aload_n hx hb dX0_deed_0 rfl (lv_at hl 0 rfl) ?_
  refine lv_iload_n hx hb dX0_deed_1 rfl (lv_at hl 1 rfl) ?_
  obtain ⟨v2, C1, q_C1, h⟩ := bd2_e h
  refine p_callI (As := [.int x1]) (rest := []) X hM hS hA hE (cp_isDeed_met _ Z _ C _ x1 (v2, C1) q_C1) (lw_V q626 q628 qs6 q79 q629) cf_isDeed_hd ⟨rfl, rfl⟩ ⟨Nat.le_trans (m := cp_deed_rm.frames) (Nat.le_of_ble_eq_true rfl) hR.1, Nat.le_trans (m := cp_deed_rm.locals) (Nat.le_of_ble_eq_true rfl) hR.2.1⟩ ⟨Nat.le_trans (m := 200) (Nat.le_of_ble_eq_true rfl) hR.2.2.1, Nat.le_trans (m := 1600) (Nat.le_of_ble_eq_true rfl) hR.2.2.2⟩ rfl hl.1 rfl (Nat.le_of_ble_eq_true rfl) dX0_deed_2 (fun Y H locs hM hS => ?_)
  refine W.widen (k := 200) (n := 1600) (Nat.le_of_ble_eq_true rfl) (Nat.le_of_ble_eq_true rfl) ?_
  refine lv_if_eq (tgt := 29) hx hb dX0_deed_5 (by decide) (fun c3 => ?_) (fun c3 => ?_)
  · have h := ip_ c3 h
    refine lv_bipush (v := -2) hx hb dX0_deed_29 (by decide) ?_
    have h := so_ h
    subst h
    exact W.iret hx hb hr (fun t ht hW => hQ _ _ _ t hM hS ht hW) hS.2.2 dX0_deed_31
  · have h := in_ c3 h
    refine lv_iload_n hx hb dX0_deed_8 rfl (lv_at hl 2 rfl) ?_
    refine lv_i2l hx hb dX0_deed_9 rfl ?_
    refine lv_lconst (v := 0) hx hb dX0_deed_10 (by decide) ?_
    refine lv_ldc2 (v := 4) hx hb hown (hts _ q642) dX0_deed_11 ?_
    obtain ⟨v4, q_v4, h⟩ := bd_e h
    refine s_roI (As := [.long (x2.toInt64), .long (0 : Int64), .long (4 : Int64)]) (rest := []) X.1 (cf_in_met _ (x2.toInt64) (0 : Int64) (4 : Int64) v4 q_v4) (lw_S q298 q299 q79 q300) cf_in_hd ⟨rfl, rfl⟩ ⟨Nat.le_trans (m := cp_deed_rm.frames) (Nat.le_of_ble_eq_true rfl) hR.1, Nat.le_trans (m := cp_deed_rm.locals) (Nat.le_of_ble_eq_true rfl) hR.2.1⟩ ⟨Nat.le_trans (m := 200) (Nat.le_of_ble_eq_true rfl) hR.2.2.1, Nat.le_trans (m := 1600) (Nat.le_of_ble_eq_true rfl) hR.2.2.2⟩ rfl hl.1 rfl (Nat.le_of_ble_eq_true rfl) dX0_deed_14 ?_
    refine lv_if_eq (tgt := 29) hx hb dX0_deed_17 (by decide) (fun c5 => ?_) (fun c5 => ?_)
    · have h := ip_ c5 h
      refine lv_bipush (v := -2) hx hb dX0_deed_29 (by decide) ?_
      have h := so_ h
      subst h
      exact W.iret hx hb hr (fun t ht hW => hQ _ _ _ t hM hS ht hW) hS.2.2 dX0_deed_31
    · have h := in_ c5 h
      refine lv_aload_n hx hb dX0_deed_20 rfl (lv_at hl 0 rfl) ?_
      refine lv_iload_n hx hb dX0_deed_21 rfl (lv_at hl 1 rfl) ?_
      refine lv_iload_n hx hb dX0_deed_22 rfl (lv_at hl 2 rfl) ?_
      obtain ⟨v6, q_v6, h⟩ := bd_e h
      refine f_roI (As := [.int x1, .int x2]) (rest := []) X hM (c_recv0 X hM) hS.2.2 (cPD.fr hM) (cf_deedBy_met _ Z Y A C1 x1 x2 v6 q_v6) (lw_V q643 q645 qs8 q79 q646) cf_deedBy_hd ⟨rfl, rfl⟩ ⟨Nat.le_trans (m := cp_deed_rm.frames) (Nat.le_of_ble_eq_true rfl) hR.1, Nat.le_trans (m := cp_deed_rm.locals) (Nat.le_of_ble_eq_true rfl) hR.2.1⟩ ⟨Nat.le_trans (m := 200) (Nat.le_of_ble_eq_true rfl) hR.2.2.1, Nat.le_trans (m := 1600) (Nat.le_of_ble_eq_true rfl) hR.2.2.2⟩ rfl hl.1 rfl (Nat.le_of_ble_eq_true rfl) dX0_deed_23 (fun locs hL => ?_)
      have hS : va_S A s.heap _ locs := ⟨hS.1, hS.2.1, hL⟩
      refine lv_goto (tgt := 31) hx hb dX0_deed_26 (by decide) ?_
      have h := so_ h
      subst h
      exact W.iret hx hb hr (fun t ht hW => hQ _ _ _ t hM hS ht hW) hS.2.2 dX0_deed_31
theorem cp_deed_met (l : Launch) (Z : CZ) (Y : CY) (C : St) (sz : Nat) (x1 : Int32) (x2 : Int32) (r : (Int32 × St)) (h : cp_deed x1 x2 C = some r) : Met l yX0_deed (ws_ yX0_deed cX0_deed 3 (some .int)) cp_deed_rm (va_Pc [.ref (cSa Z 0), .int x1, .int x2] (cSx Z Y C sz)) (Qcw (some (.int r.1)) Z (va_A (cWs Z Y C) sz) r.2) 200 1600 (va_A (cWs Z Y C) sz) := by
  refine Met.ofW (cc := cX0_deed) (maxL := 3) (ret := some .int) (by decide) rfl ?_
  intro p e s m args below meth c s₁ B hml hv
  obtain ⟨rfl, ⟨hsz, hv⟩, hE⟩ := hv
  subst hsz
  have hts := atoms_spec (ws := ws_ yX0_deed cX0_deed 3 (some .int)) B.pre
  have hts : ∀ w ∈ lw_all, w.before _ s = true := fun w h => hts w (List.mem_cons_of_mem _ h)
  have X : CCx p s m _ meth c cX0_deed 3 (some .int) RX0 Z := ⟨⟨B.exec, B.bytes, B.returns, B.notSynchronized, hml, findClass_of_methodNamed B.named, hts⟩, hv.2⟩
  have hl := lv_entry [.ref (cSa Z 0), .int x1, .int x2] (n := 3) (Nat.le_of_ble_eq_true rfl)
  rw [lg_entry_eq]
  generalize (lg_sl [.ref (cSa Z 0), .int x1, .int x2] ++ List.replicate (3 - (lg_sl [.ref (cSa Z 0), .int x1, .int x2]).length) Slot.unset).toArray = ls at hl ⊢
  exact cp_deed_w0 X ⟨Nat.le_refl _, Nat.le_refl _, Nat.le_refl _, Nat.le_refl _⟩ (fun q h => Or.inr h) hE (fun Y H locs t hM hS ht hW => ⟨rfl, ⟨Y, by rw [ht]; exact hM, cKs.warm hW X.2⟩, hS.F ht⟩) x1 x2 Y C _ _ ls (cPD.self hv.1) va_S.rf hl h

/-! SecondChances.rule(II)I, on any state -/
def cp_rule_rm : Room := { frames := 12, cells := 200, slots := 1600, locals := 293 }
def cp_rule (x1 : Int32) (x2 : Int32) (C : St) : Option (Int32 × St) :=
  bd_ (cf_in (x1.toInt64) (0 : Int64) (3 : Int64)) fun v1 =>
  if v1 = 0 then (some ((-2 : Int32), C))
  else (bd_ (cf_in (x2.toInt64) (0 : Int64) (2 : Int64)) fun v3 =>
    if v3 = 0 then (some ((-2 : Int32), C))
    else (bd2_ (cp_ruleOf x1 x2 C) fun v6 C5 =>
      some (v6, C5)))
set_option maxHeartbeats 4000000 in
theorem cp_rule_w0 {p : Program} {l : Launch} {e : Env} {R : Room} {s : State} {m : MethodId} {args : Array Value} {below : List Frame} {meth : Method} {c : Code} {Z : CZ} {A : Nat → Prop} {Qc : Array Value → State → Outcome → State → Prop} (X : CCx p s m args meth c cX0_rule 3 (some .int) RX0 Z) (hR : cp_rule_rm.frames ≤ R.frames ∧ cp_rule_rm.locals ≤ R.locals ∧ 200 ≤ R.cells ∧ 1600 ≤ R.slots) (hA : ∀ q, s.heap.size ≤ q → A q) (hE : cE Z A s s.heap) {r : (Int32 × St)} (hQ : ∀ (Y : CY) (H : Heap) (locs : List Loc) (t : State), cPD Z Y A r.2 H → va_S A s.heap H locs → t.heap = H → s.WarmedH t.vm → Qc args s (.returned (some (.int r.1))) t) (x1 : Int32) (x2 : Int32) (Y : CY) (C : St) (H : Heap) (locs : List Loc) (ls : Array Slot) (hM : cPD Z Y A C H) (hS : va_S A s.heap H locs) (hl : lv_has ls 3 [(0, .ref (cSa Z 0)), (1, .int x1), (2, .int x2)]) (h : cp_rule x1 x2 C = some r) : W p l e R s m args below meth c H locs 0 0 (MQ below Qc args s 200 1600 A) (F0 m 0 ls []) := by
  obtain ⟨⟨hx, hb, hr, hlocks, hml, hown, hts⟩, hK⟩ := id X
  unfold cp_rule at h
  refine lv_iload_n hx hb dX0_rule_0 rfl (lv_at hl 1 rfl) ?_
  refine lv_i2l hx hb dX0_rule_1 rfl ?_
  refine lv_lconst (v := 0) hx hb dX0_rule_2 (by decide) ?_
  refine lv_ldc2 (v := 3) hx hb hown (hts _ q301) dX0_rule_3 ?_
  obtain ⟨v1, q_v1, h⟩ := bd_e h
  refine s_roI (As := [.long (x1.toInt64), .long (0 : Int64), .long (3 : Int64)]) (rest := []) X.1 (cf_in_met _ (x1.toInt64) (0 : Int64) (3 : Int64) v1 q_v1) (lw_S q298 q299 q79 q300) cf_in_hd ⟨rfl, rfl⟩ ⟨Nat.le_trans (m := cp_rule_rm.frames) (Nat.le_of_ble_eq_true rfl) hR.1, Nat.le_trans (m := cp_rule_rm.locals) (Nat.le_of_ble_eq_true rfl) hR.2.1⟩ ⟨Nat.le_trans (m := 200) (Nat.le_of_ble_eq_true rfl) hR.2.2.1, Nat.le_trans (m := 1600) (Nat.le_of_ble_eq_true rfl) hR.2.2.2⟩ rfl hl.1 rfl (Nat.le_of_ble_eq_true rfl) dX0_rule_6 ?_
  refine lv_if_eq (tgt := 33) hx hb dX0_rule_9 (by decide) (fun c2 => ?_) (fun c2 => ?_)
  · have h := ip_ c2 h
    refine lv_bipush (v := -2) hx hb dX0_rule_33 (by decide) ?_
    refine W.widen (k := 200) (n := 1600) (Nat.le_of_ble_eq_true rfl) (Nat.le_of_ble_eq_true rfl) ?_
    have h := so_ h
    subst h
    exact W.iret hx hb hr (fun t ht hW => hQ _ _ _ t hM hS ht hW) hS.2.2 dX0_rule_35
  · have h := in_ c2 h
    refine lv_iload_n hx hb dX0_rule_12 rfl (lv_at hl 2 rfl) ?_
    refine lv_i2l hx hb dX0_rule_13 rfl ?_
    refine lv_lconst (v := 0) hx hb dX0_rule_14 (by decide) ?_
    refine lv_ldc2 (v := 2) hx hb hown (hts _ q670) dX0_rule_15 ?_
    obtain ⟨v3, q_v3, h⟩ := bd_e h
    refine s_roI (As := [.long (x2.toInt64), .long (0 : Int64), .long (2 : Int64)]) (rest := []) X.1 (cf_in_met _ (x2.toInt64) (0 : Int64) (2 : Int64) v3 q_v3) (lw_S q298 q299 q79 q300) cf_in_hd ⟨rfl, rfl⟩ ⟨Nat.le_trans (m := cp_rule_rm.frames) (Nat.le_of_ble_eq_true rfl) hR.1, Nat.le_trans (m := cp_rule_rm.locals) (Nat.le_of_ble_eq_true rfl) hR.2.1⟩ ⟨Nat.le_trans (m := 200) (Nat.le_of_ble_eq_true rfl) hR.2.2.1, Nat.le_trans (m := 1600) (Nat.le_of_ble_eq_true rfl) hR.2.2.2⟩ rfl hl.1 rfl (Nat.le_of_ble_eq_true rfl) dX0_rule_18 ?_
    refine lv_if_eq (tgt := 33) hx hb dX0_rule_21 (by decide) (fun c4 => ?_) (fun c4 => ?_)
    · have h := ip_ c4 h
      refine lv_bipush (v := -2) hx hb dX0_rule_33 (by decide) ?_
      refine W.widen (k := 200) (n := 1600) (Nat.le_of_ble_eq_true rfl) (Nat.le_of_ble_eq_true rfl) ?_
      have h := so_ h
      subst h
      exact W.iret hx hb hr (fun t ht hW => hQ _ _ _ t hM hS ht hW) hS.2.2 dX0_rule_35
    · have h := in_ c4 h
      refine lv_aload_n hx hb dX0_rule_24 rfl (lv_at hl 0 rfl) ?_
      refine lv_iload_n hx hb dX0_rule_25 rfl (lv_at hl 1 rfl) ?_
      refine lv_iload_n hx hb dX0_rule_26 rfl (lv_at hl 2 rfl) ?_
      obtain ⟨v6, C5, q_C5, h⟩ := bd2_e h
      refine p_callI (As := [.int x1, .int x2]) (rest := []) X hM hS hA hE (cp_ruleOf_met _ Z _ C _ x1 x2 (v6, C5) q_C5) (lw_V q671 q673 qs10 q79 q674) cf_ruleOf_hd ⟨rfl, rfl⟩ ⟨Nat.le_trans (m := cp_rule_rm.frames) (Nat.le_of_ble_eq_true rfl) hR.1, Nat.le_trans (m := cp_rule_rm.locals) (Nat.le_of_ble_eq_true rfl) hR.2.1⟩ ⟨Nat.le_trans (m := 200) (Nat.le_of_ble_eq_true rfl) hR.2.2.1, Nat.le_trans (m := 1600) (Nat.le_of_ble_eq_true rfl) hR.2.2.2⟩ rfl hl.1 rfl (Nat.le_of_ble_eq_true rfl) dX0_rule_27 (fun Y H locs hM hS => ?_)
      refine W.widen (k := 200) (n := 1600) (Nat.le_of_ble_eq_true rfl) (Nat.le_of_ble_eq_true rfl) ?_
      refine lv_goto (tgt := 35) hx hb dX0_rule_30 (by decide) ?_
      have h := so_ h
      subst h
      exact W.iret hx hb hr (fun t ht hW => hQ _ _ _ t hM hS ht hW) hS.2.2 dX0_rule_35
theorem cp_rule_met (l : Launch) (Z : CZ) (Y : CY) (C : St) (sz : Nat) (x1 : Int32) (x2 : Int32) (r : (Int32 × St)) (h : cp_rule x1 x2 C = some r) : Met l yX0_rule (ws_ yX0_rule cX0_rule 3 (some .int)) cp_rule_rm (va_Pc [.ref (cSa Z 0), .int x1, .int x2] (cSx Z Y C sz)) (Qcw (some (.int r.1)) Z (va_A (cWs Z Y C) sz) r.2) 200 1600 (va_A (cWs Z Y C) sz) := by
  refine Met.ofW (cc := cX0_rule) (maxL := 3) (ret := some .int) (by decide) rfl ?_
  intro p e s m args below meth c s₁ B hml hv
  obtain ⟨rfl, ⟨hsz, hv⟩, hE⟩ := hv
  subst hsz
  have hts := atoms_spec (ws := ws_ yX0_rule cX0_rule 3 (some .int)) B.pre
  have hts : ∀ w ∈ lw_all, w.before _ s = true := fun w h => hts w (List.mem_cons_of_mem _ h)
  have X : CCx p s m _ meth c cX0_rule 3 (some .int) RX0 Z := ⟨⟨B.exec, B.bytes, B.returns, B.notSynchronized, hml, findClass_of_methodNamed B.named, hts⟩, hv.2⟩
  have hl := lv_entry [.ref (cSa Z 0), .int x1, .int x2] (n := 3) (Nat.le_of_ble_eq_true rfl)
  rw [lg_entry_eq]
  generalize (lg_sl [.ref (cSa Z 0), .int x1, .int x2] ++ List.replicate (3 - (lg_sl [.ref (cSa Z 0), .int x1, .int x2]).length) Slot.unset).toArray = ls at hl ⊢
  exact cp_rule_w0 X ⟨Nat.le_refl _, Nat.le_refl _, Nat.le_refl _, Nat.le_refl _⟩ (fun q h => Or.inr h) hE (fun Y H locs t hM hS ht hW => ⟨rfl, ⟨Y, by rw [ht]; exact hM, cKs.warm hW X.2⟩, hS.F ht⟩) x1 x2 Y C _ _ ls (cPD.self hv.1) va_S.rf hl h

/-! SecondChances.can(II)I, on any state -/
def cp_can_rm : Room := { frames := 13, cells := 200, slots := 1600, locals := 312 }
def cp_can (x1 : Int32) (x2 : Int32) (C : St) : Option (Int32 × St) :=
  bd2_ (cp_isDeed x1 C) fun v2 C1 =>
  if v2 = 0 then (some ((-2 : Int32), C1))
  else (bd_ (cf_isHour x2) fun v4 =>
    if v4 = 0 then (some ((-2 : Int32), C1))
    else (bd_ (cf_deed_2 C1 x1) fun v6 =>
      bd_ (cf_canBe C1 v6 x2) fun v7 =>
      if v7 = 0 then (some ((0 : Int32), C1))
      else (some ((1 : Int32), C1))))
set_option maxHeartbeats 4000000 in
theorem cp_can_w0 {p : Program} {l : Launch} {e : Env} {R : Room} {s : State} {m : MethodId} {args : Array Value} {below : List Frame} {meth : Method} {c : Code} {Z : CZ} {A : Nat → Prop} {Qc : Array Value → State → Outcome → State → Prop} (X : CCx p s m args meth c cX0_can 3 (some .int) RX0 Z) (hR : cp_can_rm.frames ≤ R.frames ∧ cp_can_rm.locals ≤ R.locals ∧ 200 ≤ R.cells ∧ 1600 ≤ R.slots) (hA : ∀ q, s.heap.size ≤ q → A q) (hE : cE Z A s s.heap) {r : (Int32 × St)} (hQ : ∀ (Y : CY) (H : Heap) (locs : List Loc) (t : State), cPD Z Y A r.2 H → va_S A s.heap H locs → t.heap = H → s.WarmedH t.vm → Qc args s (.returned (some (.int r.1))) t) (x1 : Int32) (x2 : Int32) (Y : CY) (C : St) (H : Heap) (locs : List Loc) (ls : Array Slot) (hM : cPD Z Y A C H) (hS : va_S A s.heap H locs) (hl : lv_has ls 3 [(0, .ref (cSa Z 0)), (1, .int x1), (2, .int x2)]) (h : cp_can x1 x2 C = some r) : W p l e R s m args below meth c H locs 0 0 (MQ below Qc args s 200 1600 A) (F0 m 0 ls []) := by
  obtain ⟨⟨hx, hb, hr, hlocks, hml, hown, hts⟩, hK⟩ := id X
  unfold cp_can at h
  refine lv_aload_n hx hb dX0_can_0 rfl (lv_at hl 0 rfl) ?_
  refine lv_iload_n hx hb dX0_can_1 rfl (lv_at hl 1 rfl) ?_
  obtain ⟨v2, C1, q_C1, h⟩ := bd2_e h
  refine p_callI (As := [.int x1]) (rest := []) X hM hS hA hE (cp_isDeed_met _ Z _ C _ x1 (v2, C1) q_C1) (lw_V q626 q628 qs6 q79 q629) cf_isDeed_hd ⟨rfl, rfl⟩ ⟨Nat.le_trans (m := cp_can_rm.frames) (Nat.le_of_ble_eq_true rfl) hR.1, Nat.le_trans (m := cp_can_rm.locals) (Nat.le_of_ble_eq_true rfl) hR.2.1⟩ ⟨Nat.le_trans (m := 200) (Nat.le_of_ble_eq_true rfl) hR.2.2.1, Nat.le_trans (m := 1600) (Nat.le_of_ble_eq_true rfl) hR.2.2.2⟩ rfl hl.1 rfl (Nat.le_of_ble_eq_true rfl) dX0_can_2 (fun Y H locs hM hS => ?_)
  refine W.widen (k := 200) (n := 1600) (Nat.le_of_ble_eq_true rfl) (Nat.le_of_ble_eq_true rfl) ?_
  refine lv_if_eq (tgt := 36) hx hb dX0_can_5 (by decide) (fun c3 => ?_) (fun c3 => ?_)
  · have h := ip_ c3 h
    refine lv_bipush (v := -2) hx hb dX0_can_36 (by decide) ?_
    have h := so_ h
    subst h
    exact W.iret hx hb hr (fun t ht hW => hQ _ _ _ t hM hS ht hW) hS.2.2 dX0_can_38
  · have h := in_ c3 h
    refine lv_iload_n hx hb dX0_can_8 rfl (lv_at hl 2 rfl) ?_
    obtain ⟨v4, q_v4, h⟩ := bd_e h
    refine s_roI (As := [.int x2]) (rest := []) X.1 (cf_isHour_met _ x2 v4 q_v4) (lw_S q308 q309 q79 q310) cf_isHour_hd ⟨rfl, rfl⟩ ⟨Nat.le_trans (m := cp_can_rm.frames) (Nat.le_of_ble_eq_true rfl) hR.1, Nat.le_trans (m := cp_can_rm.locals) (Nat.le_of_ble_eq_true rfl) hR.2.1⟩ ⟨Nat.le_trans (m := 200) (Nat.le_of_ble_eq_true rfl) hR.2.2.1, Nat.le_trans (m := 1600) (Nat.le_of_ble_eq_true rfl) hR.2.2.2⟩ rfl hl.1 rfl (Nat.le_of_ble_eq_true rfl) dX0_can_9 ?_
    refine lv_if_eq (tgt := 36) hx hb dX0_can_12 (by decide) (fun c5 => ?_) (fun c5 => ?_)
    · have h := ip_ c5 h
      refine lv_bipush (v := -2) hx hb dX0_can_36 (by decide) ?_
      have h := so_ h
      subst h
      exact W.iret hx hb hr (fun t ht hW => hQ _ _ _ t hM hS ht hW) hS.2.2 dX0_can_38
    · have h := in_ c5 h
      refine lv_aload_n hx hb dX0_can_15 rfl (lv_at hl 0 rfl) ?_
      refine lv_aload_n hx hb dX0_can_16 rfl (lv_at hl 0 rfl) ?_
      refine lv_iload_n hx hb dX0_can_17 rfl (lv_at hl 1 rfl) ?_
      obtain ⟨v6, q_v6, h⟩ := bd_e h
      refine f_roR (As := [.int x1]) (rest := [.ref (cSa Z 0)]) X hM (c_recv0 X hM) hS.2.2 (cPD.fr hM) (cf_deed_2_met _ Z Y A C1 x1 v6 q_v6) (lw_V q647 q649 qs9 q79 q650) cf_deed_2_hd ⟨rfl, rfl⟩ ⟨Nat.le_trans (m := cp_can_rm.frames) (Nat.le_of_ble_eq_true rfl) hR.1, Nat.le_trans (m := cp_can_rm.locals) (Nat.le_of_ble_eq_true rfl) hR.2.1⟩ ⟨Nat.le_trans (m := 200) (Nat.le_of_ble_eq_true rfl) hR.2.2.1, Nat.le_trans (m := 1600) (Nat.le_of_ble_eq_true rfl) hR.2.2.2⟩ rfl hl.1 rfl (Nat.le_of_ble_eq_true rfl) dX0_can_18 (fun locs hL => ?_)
      have hS : va_S A s.heap _ locs := ⟨hS.1, hS.2.1, hL⟩
      refine lv_iload_n hx hb dX0_can_21 rfl (lv_at hl 2 rfl) ?_
      obtain ⟨v7, q_v7, h⟩ := bd_e h
      refine f_roI (As := [.ref (cDa Y (100 + v6)), .int x2]) (rest := []) X hM (c_recv0 X hM) hS.2.2 (cPD.fr hM) (cf_canBe_met _ Z Y A C1 v6 x2 v7 q_v7) (lw_V q679 q681 qs11 q79 q682) cf_canBe_hd ⟨rfl, rfl⟩ ⟨Nat.le_trans (m := cp_can_rm.frames) (Nat.le_of_ble_eq_true rfl) hR.1, Nat.le_trans (m := cp_can_rm.locals) (Nat.le_of_ble_eq_true rfl) hR.2.1⟩ ⟨Nat.le_trans (m := 200) (Nat.le_of_ble_eq_true rfl) hR.2.2.1, Nat.le_trans (m := 1600) (Nat.le_of_ble_eq_true rfl) hR.2.2.2⟩ rfl hl.1 rfl (Nat.le_of_ble_eq_true rfl) dX0_can_22 (fun locs hL => ?_)
      have hS : va_S A s.heap _ locs := ⟨hS.1, hS.2.1, hL⟩
      refine lv_if_eq (tgt := 32) hx hb dX0_can_25 (by decide) (fun c8 => ?_) (fun c8 => ?_)
      · have h := ip_ c8 h
        refine lv_iconst (v := 0) hx hb dX0_can_32 (by decide) ?_
        refine lv_goto (tgt := 38) hx hb dX0_can_33 (by decide) ?_
        have h := so_ h
        subst h
        exact W.iret hx hb hr (fun t ht hW => hQ _ _ _ t hM hS ht hW) hS.2.2 dX0_can_38
      · have h := in_ c8 h
        refine lv_iconst (v := 1) hx hb dX0_can_28 (by decide) ?_
        refine lv_goto (tgt := 38) hx hb dX0_can_29 (by decide) ?_
        have h := so_ h
        subst h
        exact W.iret hx hb hr (fun t ht hW => hQ _ _ _ t hM hS ht hW) hS.2.2 dX0_can_38
theorem cp_can_met (l : Launch) (Z : CZ) (Y : CY) (C : St) (sz : Nat) (x1 : Int32) (x2 : Int32) (r : (Int32 × St)) (h : cp_can x1 x2 C = some r) : Met l yX0_can (ws_ yX0_can cX0_can 3 (some .int)) cp_can_rm (va_Pc [.ref (cSa Z 0), .int x1, .int x2] (cSx Z Y C sz)) (Qcw (some (.int r.1)) Z (va_A (cWs Z Y C) sz) r.2) 200 1600 (va_A (cWs Z Y C) sz) := by
  refine Met.ofW (cc := cX0_can) (maxL := 3) (ret := some .int) (by decide) rfl ?_
  intro p e s m args below meth c s₁ B hml hv
  obtain ⟨rfl, ⟨hsz, hv⟩, hE⟩ := hv
  subst hsz
  have hts := atoms_spec (ws := ws_ yX0_can cX0_can 3 (some .int)) B.pre
  have hts : ∀ w ∈ lw_all, w.before _ s = true := fun w h => hts w (List.mem_cons_of_mem _ h)
  have X : CCx p s m _ meth c cX0_can 3 (some .int) RX0 Z := ⟨⟨B.exec, B.bytes, B.returns, B.notSynchronized, hml, findClass_of_methodNamed B.named, hts⟩, hv.2⟩
  have hl := lv_entry [.ref (cSa Z 0), .int x1, .int x2] (n := 3) (Nat.le_of_ble_eq_true rfl)
  rw [lg_entry_eq]
  generalize (lg_sl [.ref (cSa Z 0), .int x1, .int x2] ++ List.replicate (3 - (lg_sl [.ref (cSa Z 0), .int x1, .int x2]).length) Slot.unset).toArray = ls at hl ⊢
  exact cp_can_w0 X ⟨Nat.le_refl _, Nat.le_refl _, Nat.le_refl _, Nat.le_refl _⟩ (fun q h => Or.inr h) hE (fun Y H locs t hM hS ht hW => ⟨rfl, ⟨Y, by rw [ht]; exact hM, cKs.warm hW X.2⟩, hS.F ht⟩) x1 x2 Y C _ _ ls (cPD.self hv.1) va_S.rf hl h

/-! SecondChances.hours(I)I, on any state -/
def cp_hours_rm : Room := { frames := 13, cells := 200, slots := 1600, locals := 312 }
def cp_hours (x1 : Int32) (C : St) : Option (Int32 × St) :=
  bd2_ (cp_isDeed x1 C) fun v2 C1 =>
  if v2 = 0 then (some ((-2 : Int32), C1))
  else (bd_ (cf_hoursOf C1 x1) fun v4 =>
    some (v4, C1))
set_option maxHeartbeats 4000000 in
theorem cp_hours_w0 {p : Program} {l : Launch} {e : Env} {R : Room} {s : State} {m : MethodId} {args : Array Value} {below : List Frame} {meth : Method} {c : Code} {Z : CZ} {A : Nat → Prop} {Qc : Array Value → State → Outcome → State → Prop} (X : CCx p s m args meth c cX0_hours 2 (some .int) RX0 Z) (hR : cp_hours_rm.frames ≤ R.frames ∧ cp_hours_rm.locals ≤ R.locals ∧ 200 ≤ R.cells ∧ 1600 ≤ R.slots) (hA : ∀ q, s.heap.size ≤ q → A q) (hE : cE Z A s s.heap) {r : (Int32 × St)} (hQ : ∀ (Y : CY) (H : Heap) (locs : List Loc) (t : State), cPD Z Y A r.2 H → va_S A s.heap H locs → t.heap = H → s.WarmedH t.vm → Qc args s (.returned (some (.int r.1))) t) (x1 : Int32) (Y : CY) (C : St) (H : Heap) (locs : List Loc) (ls : Array Slot) (hM : cPD Z Y A C H) (hS : va_S A s.heap H locs) (hl : lv_has ls 2 [(0, .ref (cSa Z 0)), (1, .int x1)]) (h : cp_hours x1 C = some r) : W p l e R s m args below meth c H locs 0 0 (MQ below Qc args s 200 1600 A) (F0 m 0 ls []) := by
  obtain ⟨⟨hx, hb, hr, hlocks, hml, hown, hts⟩, hK⟩ := id X
  unfold cp_hours at h
  refine lv_aload_n hx hb dX0_hours_0 rfl (lv_at hl 0 rfl) ?_
  refine lv_iload_n hx hb dX0_hours_1 rfl (lv_at hl 1 rfl) ?_
  obtain ⟨v2, C1, q_C1, h⟩ := bd2_e h
  refine p_callI (As := [.int x1]) (rest := []) X hM hS hA hE (cp_isDeed_met _ Z _ C _ x1 (v2, C1) q_C1) (lw_V q626 q628 qs6 q79 q629) cf_isDeed_hd ⟨rfl, rfl⟩ ⟨Nat.le_trans (m := cp_hours_rm.frames) (Nat.le_of_ble_eq_true rfl) hR.1, Nat.le_trans (m := cp_hours_rm.locals) (Nat.le_of_ble_eq_true rfl) hR.2.1⟩ ⟨Nat.le_trans (m := 200) (Nat.le_of_ble_eq_true rfl) hR.2.2.1, Nat.le_trans (m := 1600) (Nat.le_of_ble_eq_true rfl) hR.2.2.2⟩ rfl hl.1 rfl (Nat.le_of_ble_eq_true rfl) dX0_hours_2 (fun Y H locs hM hS => ?_)
  refine W.widen (k := 200) (n := 1600) (Nat.le_of_ble_eq_true rfl) (Nat.le_of_ble_eq_true rfl) ?_
  refine lv_if_eq (tgt := 16) hx hb dX0_hours_5 (by decide) (fun c3 => ?_) (fun c3 => ?_)
  · have h := ip_ c3 h
    refine lv_bipush (v := -2) hx hb dX0_hours_16 (by decide) ?_
    have h := so_ h
    subst h
    exact W.iret hx hb hr (fun t ht hW => hQ _ _ _ t hM hS ht hW) hS.2.2 dX0_hours_18
  · have h := in_ c3 h
    refine lv_aload_n hx hb dX0_hours_8 rfl (lv_at hl 0 rfl) ?_
    refine lv_iload_n hx hb dX0_hours_9 rfl (lv_at hl 1 rfl) ?_
    obtain ⟨v4, q_v4, h⟩ := bd_e h
    refine f_roI (As := [.int x1]) (rest := []) X hM (c_recv0 X hM) hS.2.2 (cPD.fr hM) (cf_hoursOf_met _ Z Y A C1 x1 v4 q_v4) (lw_V q715 q717 qs16 q79 q718) cf_hoursOf_hd ⟨rfl, rfl⟩ ⟨Nat.le_trans (m := cp_hours_rm.frames) (Nat.le_of_ble_eq_true rfl) hR.1, Nat.le_trans (m := cp_hours_rm.locals) (Nat.le_of_ble_eq_true rfl) hR.2.1⟩ ⟨Nat.le_trans (m := 200) (Nat.le_of_ble_eq_true rfl) hR.2.2.1, Nat.le_trans (m := 1600) (Nat.le_of_ble_eq_true rfl) hR.2.2.2⟩ rfl hl.1 rfl (Nat.le_of_ble_eq_true rfl) dX0_hours_10 (fun locs hL => ?_)
    have hS : va_S A s.heap _ locs := ⟨hS.1, hS.2.1, hL⟩
    refine lv_goto (tgt := 18) hx hb dX0_hours_13 (by decide) ?_
    have h := so_ h
    subst h
    exact W.iret hx hb hr (fun t ht hW => hQ _ _ _ t hM hS ht hW) hS.2.2 dX0_hours_18
theorem cp_hours_met (l : Launch) (Z : CZ) (Y : CY) (C : St) (sz : Nat) (x1 : Int32) (r : (Int32 × St)) (h : cp_hours x1 C = some r) : Met l yX0_hours (ws_ yX0_hours cX0_hours 2 (some .int)) cp_hours_rm (va_Pc [.ref (cSa Z 0), .int x1] (cSx Z Y C sz)) (Qcw (some (.int r.1)) Z (va_A (cWs Z Y C) sz) r.2) 200 1600 (va_A (cWs Z Y C) sz) := by
  refine Met.ofW (cc := cX0_hours) (maxL := 2) (ret := some .int) (by decide) rfl ?_
  intro p e s m args below meth c s₁ B hml hv
  obtain ⟨rfl, ⟨hsz, hv⟩, hE⟩ := hv
  subst hsz
  have hts := atoms_spec (ws := ws_ yX0_hours cX0_hours 2 (some .int)) B.pre
  have hts : ∀ w ∈ lw_all, w.before _ s = true := fun w h => hts w (List.mem_cons_of_mem _ h)
  have X : CCx p s m _ meth c cX0_hours 2 (some .int) RX0 Z := ⟨⟨B.exec, B.bytes, B.returns, B.notSynchronized, hml, findClass_of_methodNamed B.named, hts⟩, hv.2⟩
  have hl := lv_entry [.ref (cSa Z 0), .int x1] (n := 2) (Nat.le_of_ble_eq_true rfl)
  rw [lg_entry_eq]
  generalize (lg_sl [.ref (cSa Z 0), .int x1] ++ List.replicate (2 - (lg_sl [.ref (cSa Z 0), .int x1]).length) Slot.unset).toArray = ls at hl ⊢
  exact cp_hours_w0 X ⟨Nat.le_refl _, Nat.le_refl _, Nat.le_refl _, Nat.le_refl _⟩ (fun q h => Or.inr h) hE (fun Y H locs t hM hS ht hW => ⟨rfl, ⟨Y, by rw [ht]; exact hM, cKs.warm hW X.2⟩, hS.F ht⟩) x1 Y C _ _ ls (cPD.self hv.1) va_S.rf hl h

/-! SecondChances.comes(II)I, on any state -/
def cp_comes_rm : Room := { frames := 13, cells := 200, slots := 1600, locals := 312 }
def cp_comes (x1 : Int32) (x2 : Int32) (C : St) : Option (Int32 × St) :=
  bd2_ (cp_isDeed x1 C) fun v2 C1 =>
  if v2 = 0 then (some ((-2 : Int32), C1))
  else (bd_ (cf_isHour x2) fun v4 =>
    if v4 = 0 then (some ((-2 : Int32), C1))
    else (bd_ (cf_deed_2 C1 x1) fun v6 =>
      bd_ (cf_canBe C1 v6 x2) fun v7 =>
      if v7 = 0 then (some ((-3 : Int32), C1))
      else (bd_ (cf_deed_2 C1 x1) fun v9 =>
        bd_ (cf_comers C1 v9 x2) fun v10 =>
        some (v10, C1))))
set_option maxHeartbeats 4000000 in
theorem cp_comes_w0 {p : Program} {l : Launch} {e : Env} {R : Room} {s : State} {m : MethodId} {args : Array Value} {below : List Frame} {meth : Method} {c : Code} {Z : CZ} {A : Nat → Prop} {Qc : Array Value → State → Outcome → State → Prop} (X : CCx p s m args meth c cX0_comes 3 (some .int) RX0 Z) (hR : cp_comes_rm.frames ≤ R.frames ∧ cp_comes_rm.locals ≤ R.locals ∧ 200 ≤ R.cells ∧ 1600 ≤ R.slots) (hA : ∀ q, s.heap.size ≤ q → A q) (hE : cE Z A s s.heap) {r : (Int32 × St)} (hQ : ∀ (Y : CY) (H : Heap) (locs : List Loc) (t : State), cPD Z Y A r.2 H → va_S A s.heap H locs → t.heap = H → s.WarmedH t.vm → Qc args s (.returned (some (.int r.1))) t) (x1 : Int32) (x2 : Int32) (Y : CY) (C : St) (H : Heap) (locs : List Loc) (ls : Array Slot) (hM : cPD Z Y A C H) (hS : va_S A s.heap H locs) (hl : lv_has ls 3 [(0, .ref (cSa Z 0)), (1, .int x1), (2, .int x2)]) (h : cp_comes x1 x2 C = some r) : W p l e R s m args below meth c H locs 0 0 (MQ below Qc args s 200 1600 A) (F0 m 0 ls []) := by
  obtain ⟨⟨hx, hb, hr, hlocks, hml, hown, hts⟩, hK⟩ := id X
  unfold cp_comes at h
  refine lv_aload_n hx hb dX0_comes_0 rfl (lv_at hl 0 rfl) ?_
  refine lv_iload_n hx hb dX0_comes_1 rfl (lv_at hl 1 rfl) ?_
  obtain ⟨v2, C1, q_C1, h⟩ := bd2_e h
  refine p_callI (As := [.int x1]) (rest := []) X hM hS hA hE (cp_isDeed_met _ Z _ C _ x1 (v2, C1) q_C1) (lw_V q626 q628 qs6 q79 q629) cf_isDeed_hd ⟨rfl, rfl⟩ ⟨Nat.le_trans (m := cp_comes_rm.frames) (Nat.le_of_ble_eq_true rfl) hR.1, Nat.le_trans (m := cp_comes_rm.locals) (Nat.le_of_ble_eq_true rfl) hR.2.1⟩ ⟨Nat.le_trans (m := 200) (Nat.le_of_ble_eq_true rfl) hR.2.2.1, Nat.le_trans (m := 1600) (Nat.le_of_ble_eq_true rfl) hR.2.2.2⟩ rfl hl.1 rfl (Nat.le_of_ble_eq_true rfl) dX0_comes_2 (fun Y H locs hM hS => ?_)
  refine W.widen (k := 200) (n := 1600) (Nat.le_of_ble_eq_true rfl) (Nat.le_of_ble_eq_true rfl) ?_
  refine lv_if_eq (tgt := 15) hx hb dX0_comes_5 (by decide) (fun c3 => ?_) (fun c3 => ?_)
  · have h := ip_ c3 h
    refine lv_bipush (v := -2) hx hb dX0_comes_15 (by decide) ?_
    have h := so_ h
    subst h
    exact W.iret hx hb hr (fun t ht hW => hQ _ _ _ t hM hS ht hW) hS.2.2 dX0_comes_17
  · have h := in_ c3 h
    refine lv_iload_n hx hb dX0_comes_8 rfl (lv_at hl 2 rfl) ?_
    obtain ⟨v4, q_v4, h⟩ := bd_e h
    refine s_roI (As := [.int x2]) (rest := []) X.1 (cf_isHour_met _ x2 v4 q_v4) (lw_S q308 q309 q79 q310) cf_isHour_hd ⟨rfl, rfl⟩ ⟨Nat.le_trans (m := cp_comes_rm.frames) (Nat.le_of_ble_eq_true rfl) hR.1, Nat.le_trans (m := cp_comes_rm.locals) (Nat.le_of_ble_eq_true rfl) hR.2.1⟩ ⟨Nat.le_trans (m := 200) (Nat.le_of_ble_eq_true rfl) hR.2.2.1, Nat.le_trans (m := 1600) (Nat.le_of_ble_eq_true rfl) hR.2.2.2⟩ rfl hl.1 rfl (Nat.le_of_ble_eq_true rfl) dX0_comes_9 ?_
    refine lv_if_ne (tgt := 18) hx hb dX0_comes_12 (by decide) (fun c5 => ?_) (fun c5 => ?_)
    · have h := in_ c5 h
      refine lv_aload_n hx hb dX0_comes_18 rfl (lv_at hl 0 rfl) ?_
      refine lv_aload_n hx hb dX0_comes_19 rfl (lv_at hl 0 rfl) ?_
      refine lv_iload_n hx hb dX0_comes_20 rfl (lv_at hl 1 rfl) ?_
      obtain ⟨v6, q_v6, h⟩ := bd_e h
      refine f_roR (As := [.int x1]) (rest := [.ref (cSa Z 0)]) X hM (c_recv0 X hM) hS.2.2 (cPD.fr hM) (cf_deed_2_met _ Z Y A C1 x1 v6 q_v6) (lw_V q647 q649 qs9 q79 q650) cf_deed_2_hd ⟨rfl, rfl⟩ ⟨Nat.le_trans (m := cp_comes_rm.frames) (Nat.le_of_ble_eq_true rfl) hR.1, Nat.le_trans (m := cp_comes_rm.locals) (Nat.le_of_ble_eq_true rfl) hR.2.1⟩ ⟨Nat.le_trans (m := 200) (Nat.le_of_ble_eq_true rfl) hR.2.2.1, Nat.le_trans (m := 1600) (Nat.le_of_ble_eq_true rfl) hR.2.2.2⟩ rfl hl.1 rfl (Nat.le_of_ble_eq_true rfl) dX0_comes_21 (fun locs hL => ?_)
      have hS : va_S A s.heap _ locs := ⟨hS.1, hS.2.1, hL⟩
      refine lv_iload_n hx hb dX0_comes_24 rfl (lv_at hl 2 rfl) ?_
      obtain ⟨v7, q_v7, h⟩ := bd_e h
      refine f_roI (As := [.ref (cDa Y (100 + v6)), .int x2]) (rest := []) X hM (c_recv0 X hM) hS.2.2 (cPD.fr hM) (cf_canBe_met _ Z Y A C1 v6 x2 v7 q_v7) (lw_V q679 q681 qs11 q79 q682) cf_canBe_hd ⟨rfl, rfl⟩ ⟨Nat.le_trans (m := cp_comes_rm.frames) (Nat.le_of_ble_eq_true rfl) hR.1, Nat.le_trans (m := cp_comes_rm.locals) (Nat.le_of_ble_eq_true rfl) hR.2.1⟩ ⟨Nat.le_trans (m := 200) (Nat.le_of_ble_eq_true rfl) hR.2.2.1, Nat.le_trans (m := 1600) (Nat.le_of_ble_eq_true rfl) hR.2.2.2⟩ rfl hl.1 rfl (Nat.le_of_ble_eq_true rfl) dX0_comes_25 (fun locs hL => ?_)
      have hS : va_S A s.heap _ locs := ⟨hS.1, hS.2.1, hL⟩
      refine lv_if_eq (tgt := 44) hx hb dX0_comes_28 (by decide) (fun c8 => ?_) (fun c8 => ?_)
      · have h := ip_ c8 h
        refine lv_bipush (v := -3) hx hb dX0_comes_44 (by decide) ?_
        have h := so_ h
        subst h
        exact W.iret hx hb hr (fun t ht hW => hQ _ _ _ t hM hS ht hW) hS.2.2 dX0_comes_46
      · have h := in_ c8 h
        refine lv_aload_n hx hb dX0_comes_31 rfl (lv_at hl 0 rfl) ?_
        refine lv_aload_n hx hb dX0_comes_32 rfl (lv_at hl 0 rfl) ?_
        refine lv_iload_n hx hb dX0_comes_33 rfl (lv_at hl 1 rfl) ?_
        obtain ⟨v9, q_v9, h⟩ := bd_e h
        refine f_roR (As := [.int x1]) (rest := [.ref (cSa Z 0)]) X hM (c_recv0 X hM) hS.2.2 (cPD.fr hM) (cf_deed_2_met _ Z Y A C1 x1 v9 q_v9) (lw_V q647 q649 qs9 q79 q650) cf_deed_2_hd ⟨rfl, rfl⟩ ⟨Nat.le_trans (m := cp_comes_rm.frames) (Nat.le_of_ble_eq_true rfl) hR.1, Nat.le_trans (m := cp_comes_rm.locals) (Nat.le_of_ble_eq_true rfl) hR.2.1⟩ ⟨Nat.le_trans (m := 200) (Nat.le_of_ble_eq_true rfl) hR.2.2.1, Nat.le_trans (m := 1600) (Nat.le_of_ble_eq_true rfl) hR.2.2.2⟩ rfl hl.1 rfl (Nat.le_of_ble_eq_true rfl) dX0_comes_34 (fun locs hL => ?_)
        have hS : va_S A s.heap _ locs := ⟨hS.1, hS.2.1, hL⟩
        refine lv_iload_n hx hb dX0_comes_37 rfl (lv_at hl 2 rfl) ?_
        obtain ⟨v10, q_v10, h⟩ := bd_e h
        refine f_roI (As := [.ref (cDa Y (100 + v9)), .int x2]) (rest := []) X hM (c_recv0 X hM) hS.2.2 (cPD.fr hM) (cf_comers_met _ Z Y A C1 v9 x2 v10 q_v10) (lw_V q683 q685 qs12 q79 q686) cf_comers_hd ⟨rfl, rfl⟩ ⟨Nat.le_trans (m := cp_comes_rm.frames) (Nat.le_of_ble_eq_true rfl) hR.1, Nat.le_trans (m := cp_comes_rm.locals) (Nat.le_of_ble_eq_true rfl) hR.2.1⟩ ⟨Nat.le_trans (m := 200) (Nat.le_of_ble_eq_true rfl) hR.2.2.1, Nat.le_trans (m := 1600) (Nat.le_of_ble_eq_true rfl) hR.2.2.2⟩ rfl hl.1 rfl (Nat.le_of_ble_eq_true rfl) dX0_comes_38 (fun locs hL => ?_)
        have hS : va_S A s.heap _ locs := ⟨hS.1, hS.2.1, hL⟩
        refine lv_goto (tgt := 46) hx hb dX0_comes_41 (by decide) ?_
        have h := so_ h
        subst h
        exact W.iret hx hb hr (fun t ht hW => hQ _ _ _ t hM hS ht hW) hS.2.2 dX0_comes_46
    · have h := ip_ c5 h
      refine lv_bipush (v := -2) hx hb dX0_comes_15 (by decide) ?_
      have h := so_ h
      subst h
      exact W.iret hx hb hr (fun t ht hW => hQ _ _ _ t hM hS ht hW) hS.2.2 dX0_comes_17
theorem cp_comes_met (l : Launch) (Z : CZ) (Y : CY) (C : St) (sz : Nat) (x1 : Int32) (x2 : Int32) (r : (Int32 × St)) (h : cp_comes x1 x2 C = some r) : Met l yX0_comes (ws_ yX0_comes cX0_comes 3 (some .int)) cp_comes_rm (va_Pc [.ref (cSa Z 0), .int x1, .int x2] (cSx Z Y C sz)) (Qcw (some (.int r.1)) Z (va_A (cWs Z Y C) sz) r.2) 200 1600 (va_A (cWs Z Y C) sz) := by
  refine Met.ofW (cc := cX0_comes) (maxL := 3) (ret := some .int) (by decide) rfl ?_
  intro p e s m args below meth c s₁ B hml hv
  obtain ⟨rfl, ⟨hsz, hv⟩, hE⟩ := hv
  subst hsz
  have hts := atoms_spec (ws := ws_ yX0_comes cX0_comes 3 (some .int)) B.pre
  have hts : ∀ w ∈ lw_all, w.before _ s = true := fun w h => hts w (List.mem_cons_of_mem _ h)
  have X : CCx p s m _ meth c cX0_comes 3 (some .int) RX0 Z := ⟨⟨B.exec, B.bytes, B.returns, B.notSynchronized, hml, findClass_of_methodNamed B.named, hts⟩, hv.2⟩
  have hl := lv_entry [.ref (cSa Z 0), .int x1, .int x2] (n := 3) (Nat.le_of_ble_eq_true rfl)
  rw [lg_entry_eq]
  generalize (lg_sl [.ref (cSa Z 0), .int x1, .int x2] ++ List.replicate (3 - (lg_sl [.ref (cSa Z 0), .int x1, .int x2]).length) Slot.unset).toArray = ls at hl ⊢
  exact cp_comes_w0 X ⟨Nat.le_refl _, Nat.le_refl _, Nat.le_refl _, Nat.le_refl _⟩ (fun q h => Or.inr h) hE (fun Y H locs t hM hS ht hW => ⟨rfl, ⟨Y, by rw [ht]; exact hM, cKs.warm hW X.2⟩, hS.F ht⟩) x1 x2 Y C _ _ ls (cPD.self hv.1) va_S.rf hl h

/-! SecondChances.costs(II)I, on any state -/
def cp_costs_rm : Room := { frames := 13, cells := 200, slots := 1600, locals := 312 }
def cp_costs (x1 : Int32) (x2 : Int32) (C : St) : Option (Int32 × St) :=
  bd2_ (cp_isDeed x1 C) fun v2 C1 =>
  if v2 = 0 then (some ((-2 : Int32), C1))
  else (bd_ (cf_isHour x2) fun v4 =>
    if v4 = 0 then (some ((-2 : Int32), C1))
    else (bd_ (cf_costsOf C1 x1 x2) fun v6 =>
      some (v6, C1)))
set_option maxHeartbeats 4000000 in
theorem cp_costs_w0 {p : Program} {l : Launch} {e : Env} {R : Room} {s : State} {m : MethodId} {args : Array Value} {below : List Frame} {meth : Method} {c : Code} {Z : CZ} {A : Nat → Prop} {Qc : Array Value → State → Outcome → State → Prop} (X : CCx p s m args meth c cX0_costs 3 (some .int) RX0 Z) (hR : cp_costs_rm.frames ≤ R.frames ∧ cp_costs_rm.locals ≤ R.locals ∧ 200 ≤ R.cells ∧ 1600 ≤ R.slots) (hA : ∀ q, s.heap.size ≤ q → A q) (hE : cE Z A s s.heap) {r : (Int32 × St)} (hQ : ∀ (Y : CY) (H : Heap) (locs : List Loc) (t : State), cPD Z Y A r.2 H → va_S A s.heap H locs → t.heap = H → s.WarmedH t.vm → Qc args s (.returned (some (.int r.1))) t) (x1 : Int32) (x2 : Int32) (Y : CY) (C : St) (H : Heap) (locs : List Loc) (ls : Array Slot) (hM : cPD Z Y A C H) (hS : va_S A s.heap H locs) (hl : lv_has ls 3 [(0, .ref (cSa Z 0)), (1, .int x1), (2, .int x2)]) (h : cp_costs x1 x2 C = some r) : W p l e R s m args below meth c H locs 0 0 (MQ below Qc args s 200 1600 A) (F0 m 0 ls []) := by
  obtain ⟨⟨hx, hb, hr, hlocks, hml, hown, hts⟩, hK⟩ := id X
  unfold cp_costs at h
  refine lv_aload_n hx hb dX0_costs_0 rfl (lv_at hl 0 rfl) ?_
  refine lv_iload_n hx hb dX0_costs_1 rfl (lv_at hl 1 rfl) ?_
  obtain ⟨v2, C1, q_C1, h⟩ := bd2_e h
  refine p_callI (As := [.int x1]) (rest := []) X hM hS hA hE (cp_isDeed_met _ Z _ C _ x1 (v2, C1) q_C1) (lw_V q626 q628 qs6 q79 q629) cf_isDeed_hd ⟨rfl, rfl⟩ ⟨Nat.le_trans (m := cp_costs_rm.frames) (Nat.le_of_ble_eq_true rfl) hR.1, Nat.le_trans (m := cp_costs_rm.locals) (Nat.le_of_ble_eq_true rfl) hR.2.1⟩ ⟨Nat.le_trans (m := 200) (Nat.le_of_ble_eq_true rfl) hR.2.2.1, Nat.le_trans (m := 1600) (Nat.le_of_ble_eq_true rfl) hR.2.2.2⟩ rfl hl.1 rfl (Nat.le_of_ble_eq_true rfl) dX0_costs_2 (fun Y H locs hM hS => ?_)
  refine W.widen (k := 200) (n := 1600) (Nat.le_of_ble_eq_true rfl) (Nat.le_of_ble_eq_true rfl) ?_
  refine lv_if_eq (tgt := 24) hx hb dX0_costs_5 (by decide) (fun c3 => ?_) (fun c3 => ?_)
  · have h := ip_ c3 h
    refine lv_bipush (v := -2) hx hb dX0_costs_24 (by decide) ?_
    have h := so_ h
    subst h
    exact W.iret hx hb hr (fun t ht hW => hQ _ _ _ t hM hS ht hW) hS.2.2 dX0_costs_26
  · have h := in_ c3 h
    refine lv_iload_n hx hb dX0_costs_8 rfl (lv_at hl 2 rfl) ?_
    obtain ⟨v4, q_v4, h⟩ := bd_e h
    refine s_roI (As := [.int x2]) (rest := []) X.1 (cf_isHour_met _ x2 v4 q_v4) (lw_S q308 q309 q79 q310) cf_isHour_hd ⟨rfl, rfl⟩ ⟨Nat.le_trans (m := cp_costs_rm.frames) (Nat.le_of_ble_eq_true rfl) hR.1, Nat.le_trans (m := cp_costs_rm.locals) (Nat.le_of_ble_eq_true rfl) hR.2.1⟩ ⟨Nat.le_trans (m := 200) (Nat.le_of_ble_eq_true rfl) hR.2.2.1, Nat.le_trans (m := 1600) (Nat.le_of_ble_eq_true rfl) hR.2.2.2⟩ rfl hl.1 rfl (Nat.le_of_ble_eq_true rfl) dX0_costs_9 ?_
    refine lv_if_eq (tgt := 24) hx hb dX0_costs_12 (by decide) (fun c5 => ?_) (fun c5 => ?_)
    · have h := ip_ c5 h
      refine lv_bipush (v := -2) hx hb dX0_costs_24 (by decide) ?_
      have h := so_ h
      subst h
      exact W.iret hx hb hr (fun t ht hW => hQ _ _ _ t hM hS ht hW) hS.2.2 dX0_costs_26
    · have h := in_ c5 h
      refine lv_aload_n hx hb dX0_costs_15 rfl (lv_at hl 0 rfl) ?_
      refine lv_iload_n hx hb dX0_costs_16 rfl (lv_at hl 1 rfl) ?_
      refine lv_iload_n hx hb dX0_costs_17 rfl (lv_at hl 2 rfl) ?_
      obtain ⟨v6, q_v6, h⟩ := bd_e h
      refine f_roI (As := [.int x1, .int x2]) (rest := []) X hM (c_recv0 X hM) hS.2.2 (cPD.fr hM) (cf_costsOf_met _ Z Y A C1 x1 x2 v6 q_v6) (lw_V q727 q729 qs17 q79 q730) cf_costsOf_hd ⟨rfl, rfl⟩ ⟨Nat.le_trans (m := cp_costs_rm.frames) (Nat.le_of_ble_eq_true rfl) hR.1, Nat.le_trans (m := cp_costs_rm.locals) (Nat.le_of_ble_eq_true rfl) hR.2.1⟩ ⟨Nat.le_trans (m := 200) (Nat.le_of_ble_eq_true rfl) hR.2.2.1, Nat.le_trans (m := 1600) (Nat.le_of_ble_eq_true rfl) hR.2.2.2⟩ rfl hl.1 rfl (Nat.le_of_ble_eq_true rfl) dX0_costs_18 (fun locs hL => ?_)
      have hS : va_S A s.heap _ locs := ⟨hS.1, hS.2.1, hL⟩
      refine lv_goto (tgt := 26) hx hb dX0_costs_21 (by decide) ?_
      have h := so_ h
      subst h
      exact W.iret hx hb hr (fun t ht hW => hQ _ _ _ t hM hS ht hW) hS.2.2 dX0_costs_26
theorem cp_costs_met (l : Launch) (Z : CZ) (Y : CY) (C : St) (sz : Nat) (x1 : Int32) (x2 : Int32) (r : (Int32 × St)) (h : cp_costs x1 x2 C = some r) : Met l yX0_costs (ws_ yX0_costs cX0_costs 3 (some .int)) cp_costs_rm (va_Pc [.ref (cSa Z 0), .int x1, .int x2] (cSx Z Y C sz)) (Qcw (some (.int r.1)) Z (va_A (cWs Z Y C) sz) r.2) 200 1600 (va_A (cWs Z Y C) sz) := by
  refine Met.ofW (cc := cX0_costs) (maxL := 3) (ret := some .int) (by decide) rfl ?_
  intro p e s m args below meth c s₁ B hml hv
  obtain ⟨rfl, ⟨hsz, hv⟩, hE⟩ := hv
  subst hsz
  have hts := atoms_spec (ws := ws_ yX0_costs cX0_costs 3 (some .int)) B.pre
  have hts : ∀ w ∈ lw_all, w.before _ s = true := fun w h => hts w (List.mem_cons_of_mem _ h)
  have X : CCx p s m _ meth c cX0_costs 3 (some .int) RX0 Z := ⟨⟨B.exec, B.bytes, B.returns, B.notSynchronized, hml, findClass_of_methodNamed B.named, hts⟩, hv.2⟩
  have hl := lv_entry [.ref (cSa Z 0), .int x1, .int x2] (n := 3) (Nat.le_of_ble_eq_true rfl)
  rw [lg_entry_eq]
  generalize (lg_sl [.ref (cSa Z 0), .int x1, .int x2] ++ List.replicate (3 - (lg_sl [.ref (cSa Z 0), .int x1, .int x2]).length) Slot.unset).toArray = ls at hl ⊢
  exact cp_costs_w0 X ⟨Nat.le_refl _, Nat.le_refl _, Nat.le_refl _, Nat.le_refl _⟩ (fun q h => Or.inr h) hE (fun Y H locs t hM hS ht hW => ⟨rfl, ⟨Y, by rw [ht]; exact hM, cKs.warm hW X.2⟩, hS.F ht⟩) x1 x2 Y C _ _ ls (cPD.self hv.1) va_S.rf hl h

/-! SecondChances.most(I)I, on any state -/
def cp_most_rm : Room := { frames := 14, cells := 200, slots := 1600, locals := 334 }
def cp_most (x1 : Int32) (C : St) : Option (Int32 × St) :=
  bd_ (cf_isTwo x1) fun v1 =>
  if v1 = 0 then (some ((-2 : Int32), C))
  else (if x1 = 0 then (bd_ (cp_planned C) fun C5 =>
      some ((C5 0 14), C5))
    else (bd_ (cp_planned C) fun C4 =>
      some ((C4 0 15), C4)))
set_option maxHeartbeats 4000000 in
theorem cp_most_w0 {p : Program} {l : Launch} {e : Env} {R : Room} {s : State} {m : MethodId} {args : Array Value} {below : List Frame} {meth : Method} {c : Code} {Z : CZ} {A : Nat → Prop} {Qc : Array Value → State → Outcome → State → Prop} (X : CCx p s m args meth c cX0_most 2 (some .int) RX0 Z) (hR : cp_most_rm.frames ≤ R.frames ∧ cp_most_rm.locals ≤ R.locals ∧ 200 ≤ R.cells ∧ 1600 ≤ R.slots) (hA : ∀ q, s.heap.size ≤ q → A q) (hE : cE Z A s s.heap) {r : (Int32 × St)} (hQ : ∀ (Y : CY) (H : Heap) (locs : List Loc) (t : State), cPD Z Y A r.2 H → va_S A s.heap H locs → t.heap = H → s.WarmedH t.vm → Qc args s (.returned (some (.int r.1))) t) (x1 : Int32) (Y : CY) (C : St) (H : Heap) (locs : List Loc) (ls : Array Slot) (hM : cPD Z Y A C H) (hS : va_S A s.heap H locs) (hl : lv_has ls 2 [(0, .ref (cSa Z 0)), (1, .int x1)]) (h : cp_most x1 C = some r) : W p l e R s m args below meth c H locs 0 0 (MQ below Qc args s 200 1600 A) (F0 m 0 ls []) := by
  obtain ⟨⟨hx, hb, hr, hlocks, hml, hown, hts⟩, hK⟩ := id X
  unfold cp_most at h
  refine lv_iload_n hx hb dX0_most_0 rfl (lv_at hl 1 rfl) ?_
  obtain ⟨v1, q_v1, h⟩ := bd_e h
  refine s_roI (As := [.int x1]) (rest := []) X.1 (cf_isTwo_met _ x1 v1 q_v1) (lw_S q311 q312 q79 q313) cf_isTwo_hd ⟨rfl, rfl⟩ ⟨Nat.le_trans (m := cp_most_rm.frames) (Nat.le_of_ble_eq_true rfl) hR.1, Nat.le_trans (m := cp_most_rm.locals) (Nat.le_of_ble_eq_true rfl) hR.2.1⟩ ⟨Nat.le_trans (m := 200) (Nat.le_of_ble_eq_true rfl) hR.2.2.1, Nat.le_trans (m := 1600) (Nat.le_of_ble_eq_true rfl) hR.2.2.2⟩ rfl hl.1 rfl (Nat.le_of_ble_eq_true rfl) dX0_most_1 ?_
  refine lv_if_eq (tgt := 31) hx hb dX0_most_4 (by decide) (fun c2 => ?_) (fun c2 => ?_)
  · have h := ip_ c2 h
    refine lv_bipush (v := -2) hx hb dX0_most_31 (by decide) ?_
    refine W.widen (k := 200) (n := 1600) (Nat.le_of_ble_eq_true rfl) (Nat.le_of_ble_eq_true rfl) ?_
    have h := so_ h
    subst h
    exact W.iret hx hb hr (fun t ht hW => hQ _ _ _ t hM hS ht hW) hS.2.2 dX0_most_33
  · have h := in_ c2 h
    refine lv_iload_n hx hb dX0_most_7 rfl (lv_at hl 1 rfl) ?_
    refine lv_if_ne (tgt := 21) hx hb dX0_most_8 (by decide) (fun c3 => ?_) (fun c3 => ?_)
    · have h := in_ c3 h
      refine lv_aload_n hx hb dX0_most_21 rfl (lv_at hl 0 rfl) ?_
      obtain ⟨C4, q_C4, h⟩ := bd_e h
      refine p_callR (As := []) (rest := []) X hM hS hA hE (cp_planned_met _ Z _ C _ C4 q_C4) (lw_V q739 q741 qs19 q79 q742) cf_planned_hd ⟨rfl, rfl⟩ ⟨Nat.le_trans (m := cp_most_rm.frames) (Nat.le_of_ble_eq_true rfl) hR.1, Nat.le_trans (m := cp_most_rm.locals) (Nat.le_of_ble_eq_true rfl) hR.2.1⟩ ⟨Nat.le_trans (m := 200) (Nat.le_of_ble_eq_true rfl) hR.2.2.1, Nat.le_trans (m := 1600) (Nat.le_of_ble_eq_true rfl) hR.2.2.2⟩ rfl hl.1 rfl (Nat.le_of_ble_eq_true rfl) dX0_most_22 (fun Y H locs hM hS => ?_)
      refine W.widen (k := 200) (n := 1600) (Nat.le_of_ble_eq_true rfl) (Nat.le_of_ble_eq_true rfl) ?_
      refine gc15 X hM dX0_most_25 ?_
      refine lv_goto (tgt := 33) hx hb dX0_most_28 (by decide) ?_
      have h := so_ h
      subst h
      exact W.iret hx hb hr (fun t ht hW => hQ _ _ _ t hM hS ht hW) hS.2.2 dX0_most_33
    · have h := ip_ c3 h
      refine lv_aload_n hx hb dX0_most_11 rfl (lv_at hl 0 rfl) ?_
      obtain ⟨C5, q_C5, h⟩ := bd_e h
      refine p_callR (As := []) (rest := []) X hM hS hA hE (cp_planned_met _ Z _ C _ C5 q_C5) (lw_V q739 q741 qs19 q79 q742) cf_planned_hd ⟨rfl, rfl⟩ ⟨Nat.le_trans (m := cp_most_rm.frames) (Nat.le_of_ble_eq_true rfl) hR.1, Nat.le_trans (m := cp_most_rm.locals) (Nat.le_of_ble_eq_true rfl) hR.2.1⟩ ⟨Nat.le_trans (m := 200) (Nat.le_of_ble_eq_true rfl) hR.2.2.1, Nat.le_trans (m := 1600) (Nat.le_of_ble_eq_true rfl) hR.2.2.2⟩ rfl hl.1 rfl (Nat.le_of_ble_eq_true rfl) dX0_most_12 (fun Y H locs hM hS => ?_)
      refine W.widen (k := 200) (n := 1600) (Nat.le_of_ble_eq_true rfl) (Nat.le_of_ble_eq_true rfl) ?_
      refine gc14 X hM dX0_most_15 ?_
      refine lv_goto (tgt := 33) hx hb dX0_most_18 (by decide) ?_
      have h := so_ h
      subst h
      exact W.iret hx hb hr (fun t ht hW => hQ _ _ _ t hM hS ht hW) hS.2.2 dX0_most_33
theorem cp_most_met (l : Launch) (Z : CZ) (Y : CY) (C : St) (sz : Nat) (x1 : Int32) (r : (Int32 × St)) (h : cp_most x1 C = some r) : Met l yX0_most (ws_ yX0_most cX0_most 2 (some .int)) cp_most_rm (va_Pc [.ref (cSa Z 0), .int x1] (cSx Z Y C sz)) (Qcw (some (.int r.1)) Z (va_A (cWs Z Y C) sz) r.2) 200 1600 (va_A (cWs Z Y C) sz) := by
  refine Met.ofW (cc := cX0_most) (maxL := 2) (ret := some .int) (by decide) rfl ?_
  intro p e s m args below meth c s₁ B hml hv
  obtain ⟨rfl, ⟨hsz, hv⟩, hE⟩ := hv
  subst hsz
  have hts := atoms_spec (ws := ws_ yX0_most cX0_most 2 (some .int)) B.pre
  have hts : ∀ w ∈ lw_all, w.before _ s = true := fun w h => hts w (List.mem_cons_of_mem _ h)
  have X : CCx p s m _ meth c cX0_most 2 (some .int) RX0 Z := ⟨⟨B.exec, B.bytes, B.returns, B.notSynchronized, hml, findClass_of_methodNamed B.named, hts⟩, hv.2⟩
  have hl := lv_entry [.ref (cSa Z 0), .int x1] (n := 2) (Nat.le_of_ble_eq_true rfl)
  rw [lg_entry_eq]
  generalize (lg_sl [.ref (cSa Z 0), .int x1] ++ List.replicate (2 - (lg_sl [.ref (cSa Z 0), .int x1]).length) Slot.unset).toArray = ls at hl ⊢
  exact cp_most_w0 X ⟨Nat.le_refl _, Nat.le_refl _, Nat.le_refl _, Nat.le_refl _⟩ (fun q h => Or.inr h) hE (fun Y H locs t hM hS ht hW => ⟨rfl, ⟨Y, by rw [ht]; exact hM, cKs.warm hW X.2⟩, hS.F ht⟩) x1 Y C _ _ ls (cPD.self hv.1) va_S.rf hl h

/-! SecondChances.when(I)I, on any state -/
def cp_when_rm : Room := { frames := 13, cells := 200, slots := 1600, locals := 312 }
def cp_when (x1 : Int32) (C : St) : Option (Int32 × St) :=
  bd2_ (cp_isDeed x1 C) fun v2 C1 =>
  if v2 = 0 then (some ((-2 : Int32), C1))
  else (bd_ (cf_planned  C1) fun C4 =>
    al_ 8 (C4 16) x1 fun v5 =>
    some (v5, C4))
set_option maxHeartbeats 4000000 in
theorem cp_when_w0 {p : Program} {l : Launch} {e : Env} {R : Room} {s : State} {m : MethodId} {args : Array Value} {below : List Frame} {meth : Method} {c : Code} {Z : CZ} {A : Nat → Prop} {Qc : Array Value → State → Outcome → State → Prop} (X : CCx p s m args meth c cX0_when 2 (some .int) RX0 Z) (hR : cp_when_rm.frames ≤ R.frames ∧ cp_when_rm.locals ≤ R.locals ∧ 200 ≤ R.cells ∧ 1600 ≤ R.slots) (hA : ∀ q, s.heap.size ≤ q → A q) (hE : cE Z A s s.heap) {r : (Int32 × St)} (hQ : ∀ (Y : CY) (H : Heap) (locs : List Loc) (t : State), cPD Z Y A r.2 H → va_S A s.heap H locs → t.heap = H → s.WarmedH t.vm → Qc args s (.returned (some (.int r.1))) t) (x1 : Int32) (Y : CY) (C : St) (H : Heap) (locs : List Loc) (ls : Array Slot) (hM : cPD Z Y A C H) (hS : va_S A s.heap H locs) (hl : lv_has ls 2 [(0, .ref (cSa Z 0)), (1, .int x1)]) (h : cp_when x1 C = some r) : W p l e R s m args below meth c H locs 0 0 (MQ below Qc args s 200 1600 A) (F0 m 0 ls []) := by
  obtain ⟨⟨hx, hb, hr, hlocks, hml, hown, hts⟩, hK⟩ := id X
  unfold cp_when at h
  refine lv_aload_n hx hb dX0_when_0 rfl (lv_at hl 0 rfl) ?_
  refine lv_iload_n hx hb dX0_when_1 rfl (lv_at hl 1 rfl) ?_
  obtain ⟨v2, C1, q_C1, h⟩ := bd2_e h
  refine p_callI (As := [.int x1]) (rest := []) X hM hS hA hE (cp_isDeed_met _ Z _ C _ x1 (v2, C1) q_C1) (lw_V q626 q628 qs6 q79 q629) cf_isDeed_hd ⟨rfl, rfl⟩ ⟨Nat.le_trans (m := cp_when_rm.frames) (Nat.le_of_ble_eq_true rfl) hR.1, Nat.le_trans (m := cp_when_rm.locals) (Nat.le_of_ble_eq_true rfl) hR.2.1⟩ ⟨Nat.le_trans (m := 200) (Nat.le_of_ble_eq_true rfl) hR.2.2.1, Nat.le_trans (m := 1600) (Nat.le_of_ble_eq_true rfl) hR.2.2.2⟩ rfl hl.1 rfl (Nat.le_of_ble_eq_true rfl) dX0_when_2 (fun Y H locs hM hS => ?_)
  refine W.widen (k := 200) (n := 1600) (Nat.le_of_ble_eq_true rfl) (Nat.le_of_ble_eq_true rfl) ?_
  refine lv_if_eq (tgt := 20) hx hb dX0_when_5 (by decide) (fun c3 => ?_) (fun c3 => ?_)
  · have h := ip_ c3 h
    refine lv_bipush (v := -2) hx hb dX0_when_20 (by decide) ?_
    have h := so_ h
    subst h
    exact W.iret hx hb hr (fun t ht hW => hQ _ _ _ t hM hS ht hW) hS.2.2 dX0_when_22
  · have h := in_ c3 h
    refine lv_aload_n hx hb dX0_when_8 rfl (lv_at hl 0 rfl) ?_
    obtain ⟨C4, q_C4, h⟩ := bd_e h
    refine w_wrR (As := []) (rest := []) X hM hS hA (c_recv0 X hM) (cf_planned_met _ Z _ C1 _  C4 q_C4) (lw_V q739 q741 qs19 q79 q742) cf_planned_hd ⟨rfl, rfl⟩ ⟨Nat.le_trans (m := cp_when_rm.frames) (Nat.le_of_ble_eq_true rfl) hR.1, Nat.le_trans (m := cp_when_rm.locals) (Nat.le_of_ble_eq_true rfl) hR.2.1⟩ ⟨Nat.le_trans (m := 200) (Nat.le_of_ble_eq_true rfl) hR.2.2.1, Nat.le_trans (m := 1600) (Nat.le_of_ble_eq_true rfl) hR.2.2.2⟩ rfl hl.1 rfl (Nat.le_of_ble_eq_true rfl) dX0_when_9 (fun Y H locs hM hS => ?_)
    refine gc16 X hM dX0_when_12 ?_
    refine lv_iload_n hx hb dX0_when_15 rfl (lv_at hl 1 rfl) ?_
    obtain ⟨i_v5, h⟩ := al_e h
    refine c_ald X hM (k := 16) (cHs_S (by decide)) (fun _ _ _ => rfl) (cAr_s (by decide)) i_v5 dX0_when_16 (fun v5 e_v5 => ?_)
    have h := h v5 e_v5
    refine lv_goto (tgt := 22) hx hb dX0_when_17 (by decide) ?_
    have h := so_ h
    subst h
    exact W.iret hx hb hr (fun t ht hW => hQ _ _ _ t hM hS ht hW) hS.2.2 dX0_when_22
theorem cp_when_met (l : Launch) (Z : CZ) (Y : CY) (C : St) (sz : Nat) (x1 : Int32) (r : (Int32 × St)) (h : cp_when x1 C = some r) : Met l yX0_when (ws_ yX0_when cX0_when 2 (some .int)) cp_when_rm (va_Pc [.ref (cSa Z 0), .int x1] (cSx Z Y C sz)) (Qcw (some (.int r.1)) Z (va_A (cWs Z Y C) sz) r.2) 200 1600 (va_A (cWs Z Y C) sz) := by
  refine Met.ofW (cc := cX0_when) (maxL := 2) (ret := some .int) (by decide) rfl ?_
  intro p e s m args below meth c s₁ B hml hv
  obtain ⟨rfl, ⟨hsz, hv⟩, hE⟩ := hv
  subst hsz
  have hts := atoms_spec (ws := ws_ yX0_when cX0_when 2 (some .int)) B.pre
  have hts : ∀ w ∈ lw_all, w.before _ s = true := fun w h => hts w (List.mem_cons_of_mem _ h)
  have X : CCx p s m _ meth c cX0_when 2 (some .int) RX0 Z := ⟨⟨B.exec, B.bytes, B.returns, B.notSynchronized, hml, findClass_of_methodNamed B.named, hts⟩, hv.2⟩
  have hl := lv_entry [.ref (cSa Z 0), .int x1] (n := 2) (Nat.le_of_ble_eq_true rfl)
  rw [lg_entry_eq]
  generalize (lg_sl [.ref (cSa Z 0), .int x1] ++ List.replicate (2 - (lg_sl [.ref (cSa Z 0), .int x1]).length) Slot.unset).toArray = ls at hl ⊢
  exact cp_when_w0 X ⟨Nat.le_refl _, Nat.le_refl _, Nat.le_refl _, Nat.le_refl _⟩ (fun q h => Or.inr h) hE (fun Y H locs t hM hS ht hW => ⟨rfl, ⟨Y, by rw [ht]; exact hM, cKs.warm hW X.2⟩, hS.F ht⟩) x1 Y C _ _ ls (cPD.self hv.1) va_S.rf hl h

/-! SecondChances.asked(II)I, on any state -/
def cp_asked_rm : Room := { frames := 13, cells := 200, slots := 1600, locals := 315 }
def cp_asked (x1 : Int32) (x2 : Int32) (C : St) : Option (Int32 × St) :=
  bd_ (cf_isPerson x1) fun v1 =>
  if v1 = 0 then (some ((-2 : Int32), C))
  else (bd_ (cf_isHour x2) fun v3 =>
    if v3 = 0 then (some ((-2 : Int32), C))
    else (bd2_ (cp_askedOf x1 x2 C) fun v6 C5 =>
      some (v6, C5)))
set_option maxHeartbeats 4000000 in
theorem cp_asked_w0 {p : Program} {l : Launch} {e : Env} {R : Room} {s : State} {m : MethodId} {args : Array Value} {below : List Frame} {meth : Method} {c : Code} {Z : CZ} {A : Nat → Prop} {Qc : Array Value → State → Outcome → State → Prop} (X : CCx p s m args meth c cX0_asked 3 (some .int) RX0 Z) (hR : cp_asked_rm.frames ≤ R.frames ∧ cp_asked_rm.locals ≤ R.locals ∧ 200 ≤ R.cells ∧ 1600 ≤ R.slots) (hA : ∀ q, s.heap.size ≤ q → A q) (hE : cE Z A s s.heap) {r : (Int32 × St)} (hQ : ∀ (Y : CY) (H : Heap) (locs : List Loc) (t : State), cPD Z Y A r.2 H → va_S A s.heap H locs → t.heap = H → s.WarmedH t.vm → Qc args s (.returned (some (.int r.1))) t) (x1 : Int32) (x2 : Int32) (Y : CY) (C : St) (H : Heap) (locs : List Loc) (ls : Array Slot) (hM : cPD Z Y A C H) (hS : va_S A s.heap H locs) (hl : lv_has ls 3 [(0, .ref (cSa Z 0)), (1, .int x1), (2, .int x2)]) (h : cp_asked x1 x2 C = some r) : W p l e R s m args below meth c H locs 0 0 (MQ below Qc args s 200 1600 A) (F0 m 0 ls []) := by
  obtain ⟨⟨hx, hb, hr, hlocks, hml, hown, hts⟩, hK⟩ := id X
  unfold cp_asked at h
  refine lv_iload_n hx hb dX0_asked_0 rfl (lv_at hl 1 rfl) ?_
  obtain ⟨v1, q_v1, h⟩ := bd_e h
  refine s_roI (As := [.int x1]) (rest := []) X.1 (cf_isPerson_met _ x1 v1 q_v1) (lw_S q294 q295 q79 q296) cf_isPerson_hd ⟨rfl, rfl⟩ ⟨Nat.le_trans (m := cp_asked_rm.frames) (Nat.le_of_ble_eq_true rfl) hR.1, Nat.le_trans (m := cp_asked_rm.locals) (Nat.le_of_ble_eq_true rfl) hR.2.1⟩ ⟨Nat.le_trans (m := 200) (Nat.le_of_ble_eq_true rfl) hR.2.2.1, Nat.le_trans (m := 1600) (Nat.le_of_ble_eq_true rfl) hR.2.2.2⟩ rfl hl.1 rfl (Nat.le_of_ble_eq_true rfl) dX0_asked_1 ?_
  refine lv_if_eq (tgt := 23) hx hb dX0_asked_4 (by decide) (fun c2 => ?_) (fun c2 => ?_)
  · have h := ip_ c2 h
    refine lv_bipush (v := -2) hx hb dX0_asked_23 (by decide) ?_
    refine W.widen (k := 200) (n := 1600) (Nat.le_of_ble_eq_true rfl) (Nat.le_of_ble_eq_true rfl) ?_
    have h := so_ h
    subst h
    exact W.iret hx hb hr (fun t ht hW => hQ _ _ _ t hM hS ht hW) hS.2.2 dX0_asked_25
  · have h := in_ c2 h
    refine lv_iload_n hx hb dX0_asked_7 rfl (lv_at hl 2 rfl) ?_
    obtain ⟨v3, q_v3, h⟩ := bd_e h
    refine s_roI (As := [.int x2]) (rest := []) X.1 (cf_isHour_met _ x2 v3 q_v3) (lw_S q308 q309 q79 q310) cf_isHour_hd ⟨rfl, rfl⟩ ⟨Nat.le_trans (m := cp_asked_rm.frames) (Nat.le_of_ble_eq_true rfl) hR.1, Nat.le_trans (m := cp_asked_rm.locals) (Nat.le_of_ble_eq_true rfl) hR.2.1⟩ ⟨Nat.le_trans (m := 200) (Nat.le_of_ble_eq_true rfl) hR.2.2.1, Nat.le_trans (m := 1600) (Nat.le_of_ble_eq_true rfl) hR.2.2.2⟩ rfl hl.1 rfl (Nat.le_of_ble_eq_true rfl) dX0_asked_8 ?_
    refine lv_if_eq (tgt := 23) hx hb dX0_asked_11 (by decide) (fun c4 => ?_) (fun c4 => ?_)
    · have h := ip_ c4 h
      refine lv_bipush (v := -2) hx hb dX0_asked_23 (by decide) ?_
      refine W.widen (k := 200) (n := 1600) (Nat.le_of_ble_eq_true rfl) (Nat.le_of_ble_eq_true rfl) ?_
      have h := so_ h
      subst h
      exact W.iret hx hb hr (fun t ht hW => hQ _ _ _ t hM hS ht hW) hS.2.2 dX0_asked_25
    · have h := in_ c4 h
      refine lv_aload_n hx hb dX0_asked_14 rfl (lv_at hl 0 rfl) ?_
      refine lv_iload_n hx hb dX0_asked_15 rfl (lv_at hl 1 rfl) ?_
      refine lv_iload_n hx hb dX0_asked_16 rfl (lv_at hl 2 rfl) ?_
      obtain ⟨v6, C5, q_C5, h⟩ := bd2_e h
      refine p_callI (As := [.int x1, .int x2]) (rest := []) X hM hS hA hE (cp_askedOf_met _ Z _ C _ x1 x2 (v6, C5) q_C5) (lw_V q794 q796 qs29 q79 q797) cf_askedOf_hd ⟨rfl, rfl⟩ ⟨Nat.le_trans (m := cp_asked_rm.frames) (Nat.le_of_ble_eq_true rfl) hR.1, Nat.le_trans (m := cp_asked_rm.locals) (Nat.le_of_ble_eq_true rfl) hR.2.1⟩ ⟨Nat.le_trans (m := 200) (Nat.le_of_ble_eq_true rfl) hR.2.2.1, Nat.le_trans (m := 1600) (Nat.le_of_ble_eq_true rfl) hR.2.2.2⟩ rfl hl.1 rfl (Nat.le_of_ble_eq_true rfl) dX0_asked_17 (fun Y H locs hM hS => ?_)
      refine W.widen (k := 200) (n := 1600) (Nat.le_of_ble_eq_true rfl) (Nat.le_of_ble_eq_true rfl) ?_
      refine lv_goto (tgt := 25) hx hb dX0_asked_20 (by decide) ?_
      have h := so_ h
      subst h
      exact W.iret hx hb hr (fun t ht hW => hQ _ _ _ t hM hS ht hW) hS.2.2 dX0_asked_25
theorem cp_asked_met (l : Launch) (Z : CZ) (Y : CY) (C : St) (sz : Nat) (x1 : Int32) (x2 : Int32) (r : (Int32 × St)) (h : cp_asked x1 x2 C = some r) : Met l yX0_asked (ws_ yX0_asked cX0_asked 3 (some .int)) cp_asked_rm (va_Pc [.ref (cSa Z 0), .int x1, .int x2] (cSx Z Y C sz)) (Qcw (some (.int r.1)) Z (va_A (cWs Z Y C) sz) r.2) 200 1600 (va_A (cWs Z Y C) sz) := by
  refine Met.ofW (cc := cX0_asked) (maxL := 3) (ret := some .int) (by decide) rfl ?_
  intro p e s m args below meth c s₁ B hml hv
  obtain ⟨rfl, ⟨hsz, hv⟩, hE⟩ := hv
  subst hsz
  have hts := atoms_spec (ws := ws_ yX0_asked cX0_asked 3 (some .int)) B.pre
  have hts : ∀ w ∈ lw_all, w.before _ s = true := fun w h => hts w (List.mem_cons_of_mem _ h)
  have X : CCx p s m _ meth c cX0_asked 3 (some .int) RX0 Z := ⟨⟨B.exec, B.bytes, B.returns, B.notSynchronized, hml, findClass_of_methodNamed B.named, hts⟩, hv.2⟩
  have hl := lv_entry [.ref (cSa Z 0), .int x1, .int x2] (n := 3) (Nat.le_of_ble_eq_true rfl)
  rw [lg_entry_eq]
  generalize (lg_sl [.ref (cSa Z 0), .int x1, .int x2] ++ List.replicate (3 - (lg_sl [.ref (cSa Z 0), .int x1, .int x2]).length) Slot.unset).toArray = ls at hl ⊢
  exact cp_asked_w0 X ⟨Nat.le_refl _, Nat.le_refl _, Nat.le_refl _, Nat.le_refl _⟩ (fun q h => Or.inr h) hE (fun Y H locs t hM hS ht hW => ⟨rfl, ⟨Y, by rw [ht]; exact hM, cKs.warm hW X.2⟩, hS.F ht⟩) x1 x2 Y C _ _ ls (cPD.self hv.1) va_S.rf hl h

/-! SecondChances.crowd(I)I, on any state -/
def cp_crowd_rm : Room := { frames := 14, cells := 200, slots := 1600, locals := 341 }
def cp_crowd (x1 : Int32) (C : St) : Option (Int32 × St) :=
  bd_ (cf_in (x1.toInt64) (0 : Int64) (2 : Int64)) fun v1 =>
  if v1 = 0 then (some ((-2 : Int32), C))
  else (bd2_ (cp_crowdOf x1 C) fun v4 C3 =>
    some (v4, C3))
set_option maxHeartbeats 4000000 in
theorem cp_crowd_w0 {p : Program} {l : Launch} {e : Env} {R : Room} {s : State} {m : MethodId} {args : Array Value} {below : List Frame} {meth : Method} {c : Code} {Z : CZ} {A : Nat → Prop} {Qc : Array Value → State → Outcome → State → Prop} (X : CCx p s m args meth c cX0_crowd 2 (some .int) RX0 Z) (hR : cp_crowd_rm.frames ≤ R.frames ∧ cp_crowd_rm.locals ≤ R.locals ∧ 200 ≤ R.cells ∧ 1600 ≤ R.slots) (hA : ∀ q, s.heap.size ≤ q → A q) (hE : cE Z A s s.heap) {r : (Int32 × St)} (hQ : ∀ (Y : CY) (H : Heap) (locs : List Loc) (t : State), cPD Z Y A r.2 H → va_S A s.heap H locs → t.heap = H → s.WarmedH t.vm → Qc args s (.returned (some (.int r.1))) t) (x1 : Int32) (Y : CY) (C : St) (H : Heap) (locs : List Loc) (ls : Array Slot) (hM : cPD Z Y A C H) (hS : va_S A s.heap H locs) (hl : lv_has ls 2 [(0, .ref (cSa Z 0)), (1, .int x1)]) (h : cp_crowd x1 C = some r) : W p l e R s m args below meth c H locs 0 0 (MQ below Qc args s 200 1600 A) (F0 m 0 ls []) := by
  obtain ⟨⟨hx, hb, hr, hlocks, hml, hown, hts⟩, hK⟩ := id X
  unfold cp_crowd at h
  refine lv_iload_n hx hb dX0_crowd_0 rfl (lv_at hl 1 rfl) ?_
  refine lv_i2l hx hb dX0_crowd_1 rfl ?_
  refine lv_lconst (v := 0) hx hb dX0_crowd_2 (by decide) ?_
  refine lv_ldc2 (v := 2) hx hb hown (hts _ q670) dX0_crowd_3 ?_
  obtain ⟨v1, q_v1, h⟩ := bd_e h
  refine s_roI (As := [.long (x1.toInt64), .long (0 : Int64), .long (2 : Int64)]) (rest := []) X.1 (cf_in_met _ (x1.toInt64) (0 : Int64) (2 : Int64) v1 q_v1) (lw_S q298 q299 q79 q300) cf_in_hd ⟨rfl, rfl⟩ ⟨Nat.le_trans (m := cp_crowd_rm.frames) (Nat.le_of_ble_eq_true rfl) hR.1, Nat.le_trans (m := cp_crowd_rm.locals) (Nat.le_of_ble_eq_true rfl) hR.2.1⟩ ⟨Nat.le_trans (m := 200) (Nat.le_of_ble_eq_true rfl) hR.2.2.1, Nat.le_trans (m := 1600) (Nat.le_of_ble_eq_true rfl) hR.2.2.2⟩ rfl hl.1 rfl (Nat.le_of_ble_eq_true rfl) dX0_crowd_6 ?_
  refine lv_if_eq (tgt := 20) hx hb dX0_crowd_9 (by decide) (fun c2 => ?_) (fun c2 => ?_)
  · have h := ip_ c2 h
    refine lv_bipush (v := -2) hx hb dX0_crowd_20 (by decide) ?_
    refine W.widen (k := 200) (n := 1600) (Nat.le_of_ble_eq_true rfl) (Nat.le_of_ble_eq_true rfl) ?_
    have h := so_ h
    subst h
    exact W.iret hx hb hr (fun t ht hW => hQ _ _ _ t hM hS ht hW) hS.2.2 dX0_crowd_22
  · have h := in_ c2 h
    refine lv_aload_n hx hb dX0_crowd_12 rfl (lv_at hl 0 rfl) ?_
    refine lv_iload_n hx hb dX0_crowd_13 rfl (lv_at hl 1 rfl) ?_
    obtain ⟨v4, C3, q_C3, h⟩ := bd2_e h
    refine p_callI (As := [.int x1]) (rest := []) X hM hS hA hE (cp_crowdOf_met _ Z _ C _ x1 (v4, C3) q_C3) (lw_V q802 q804 qs30 q79 q805) cf_crowdOf_hd ⟨rfl, rfl⟩ ⟨Nat.le_trans (m := cp_crowd_rm.frames) (Nat.le_of_ble_eq_true rfl) hR.1, Nat.le_trans (m := cp_crowd_rm.locals) (Nat.le_of_ble_eq_true rfl) hR.2.1⟩ ⟨Nat.le_trans (m := 200) (Nat.le_of_ble_eq_true rfl) hR.2.2.1, Nat.le_trans (m := 1600) (Nat.le_of_ble_eq_true rfl) hR.2.2.2⟩ rfl hl.1 rfl (Nat.le_of_ble_eq_true rfl) dX0_crowd_14 (fun Y H locs hM hS => ?_)
    refine W.widen (k := 200) (n := 1600) (Nat.le_of_ble_eq_true rfl) (Nat.le_of_ble_eq_true rfl) ?_
    refine lv_goto (tgt := 22) hx hb dX0_crowd_17 (by decide) ?_
    have h := so_ h
    subst h
    exact W.iret hx hb hr (fun t ht hW => hQ _ _ _ t hM hS ht hW) hS.2.2 dX0_crowd_22
theorem cp_crowd_met (l : Launch) (Z : CZ) (Y : CY) (C : St) (sz : Nat) (x1 : Int32) (r : (Int32 × St)) (h : cp_crowd x1 C = some r) : Met l yX0_crowd (ws_ yX0_crowd cX0_crowd 2 (some .int)) cp_crowd_rm (va_Pc [.ref (cSa Z 0), .int x1] (cSx Z Y C sz)) (Qcw (some (.int r.1)) Z (va_A (cWs Z Y C) sz) r.2) 200 1600 (va_A (cWs Z Y C) sz) := by
  refine Met.ofW (cc := cX0_crowd) (maxL := 2) (ret := some .int) (by decide) rfl ?_
  intro p e s m args below meth c s₁ B hml hv
  obtain ⟨rfl, ⟨hsz, hv⟩, hE⟩ := hv
  subst hsz
  have hts := atoms_spec (ws := ws_ yX0_crowd cX0_crowd 2 (some .int)) B.pre
  have hts : ∀ w ∈ lw_all, w.before _ s = true := fun w h => hts w (List.mem_cons_of_mem _ h)
  have X : CCx p s m _ meth c cX0_crowd 2 (some .int) RX0 Z := ⟨⟨B.exec, B.bytes, B.returns, B.notSynchronized, hml, findClass_of_methodNamed B.named, hts⟩, hv.2⟩
  have hl := lv_entry [.ref (cSa Z 0), .int x1] (n := 2) (Nat.le_of_ble_eq_true rfl)
  rw [lg_entry_eq]
  generalize (lg_sl [.ref (cSa Z 0), .int x1] ++ List.replicate (2 - (lg_sl [.ref (cSa Z 0), .int x1]).length) Slot.unset).toArray = ls at hl ⊢
  exact cp_crowd_w0 X ⟨Nat.le_refl _, Nat.le_refl _, Nat.le_refl _, Nat.le_refl _⟩ (fun q h => Or.inr h) hE (fun Y H locs t hM hS ht hW => ⟨rfl, ⟨Y, by rw [ht]; exact hM, cKs.warm hW X.2⟩, hS.F ht⟩) x1 Y C _ _ ls (cPD.self hv.1) va_S.rf hl h

/-! SecondChances.likeness(II)I, on any state -/
def cp_likeness_rm : Room := { frames := 13, cells := 200, slots := 1600, locals := 312 }
def cp_likeness (x1 : Int32) (x2 : Int32) (C : St) : Option (Int32 × St) :=
  bd2_ (cp_isDeed x1 C) fun v2 C1 =>
  if v2 = 0 then (some ((-2 : Int32), C1))
  else (bd_ (cf_isHour x2) fun v4 =>
    if v4 = 0 then (some ((-2 : Int32), C1))
    else (bd_ (cf_likenessOf C1 x1 x2) fun v6 =>
      some (v6, C1)))
set_option maxHeartbeats 4000000 in
theorem cp_likeness_w0 {p : Program} {l : Launch} {e : Env} {R : Room} {s : State} {m : MethodId} {args : Array Value} {below : List Frame} {meth : Method} {c : Code} {Z : CZ} {A : Nat → Prop} {Qc : Array Value → State → Outcome → State → Prop} (X : CCx p s m args meth c cX0_likeness 3 (some .int) RX0 Z) (hR : cp_likeness_rm.frames ≤ R.frames ∧ cp_likeness_rm.locals ≤ R.locals ∧ 200 ≤ R.cells ∧ 1600 ≤ R.slots) (hA : ∀ q, s.heap.size ≤ q → A q) (hE : cE Z A s s.heap) {r : (Int32 × St)} (hQ : ∀ (Y : CY) (H : Heap) (locs : List Loc) (t : State), cPD Z Y A r.2 H → va_S A s.heap H locs → t.heap = H → s.WarmedH t.vm → Qc args s (.returned (some (.int r.1))) t) (x1 : Int32) (x2 : Int32) (Y : CY) (C : St) (H : Heap) (locs : List Loc) (ls : Array Slot) (hM : cPD Z Y A C H) (hS : va_S A s.heap H locs) (hl : lv_has ls 3 [(0, .ref (cSa Z 0)), (1, .int x1), (2, .int x2)]) (h : cp_likeness x1 x2 C = some r) : W p l e R s m args below meth c H locs 0 0 (MQ below Qc args s 200 1600 A) (F0 m 0 ls []) := by
  obtain ⟨⟨hx, hb, hr, hlocks, hml, hown, hts⟩, hK⟩ := id X
  unfold cp_likeness at h
  refine lv_aload_n hx hb dX0_likeness_0 rfl (lv_at hl 0 rfl) ?_
  refine lv_iload_n hx hb dX0_likeness_1 rfl (lv_at hl 1 rfl) ?_
  obtain ⟨v2, C1, q_C1, h⟩ := bd2_e h
  refine p_callI (As := [.int x1]) (rest := []) X hM hS hA hE (cp_isDeed_met _ Z _ C _ x1 (v2, C1) q_C1) (lw_V q626 q628 qs6 q79 q629) cf_isDeed_hd ⟨rfl, rfl⟩ ⟨Nat.le_trans (m := cp_likeness_rm.frames) (Nat.le_of_ble_eq_true rfl) hR.1, Nat.le_trans (m := cp_likeness_rm.locals) (Nat.le_of_ble_eq_true rfl) hR.2.1⟩ ⟨Nat.le_trans (m := 200) (Nat.le_of_ble_eq_true rfl) hR.2.2.1, Nat.le_trans (m := 1600) (Nat.le_of_ble_eq_true rfl) hR.2.2.2⟩ rfl hl.1 rfl (Nat.le_of_ble_eq_true rfl) dX0_likeness_2 (fun Y H locs hM hS => ?_)
  refine W.widen (k := 200) (n := 1600) (Nat.le_of_ble_eq_true rfl) (Nat.le_of_ble_eq_true rfl) ?_
  refine lv_if_eq (tgt := 24) hx hb dX0_likeness_5 (by decide) (fun c3 => ?_) (fun c3 => ?_)
  · have h := ip_ c3 h
    refine lv_bipush (v := -2) hx hb dX0_likeness_24 (by decide) ?_
    have h := so_ h
    subst h
    exact W.iret hx hb hr (fun t ht hW => hQ _ _ _ t hM hS ht hW) hS.2.2 dX0_likeness_26
  · have h := in_ c3 h
    refine lv_iload_n hx hb dX0_likeness_8 rfl (lv_at hl 2 rfl) ?_
    obtain ⟨v4, q_v4, h⟩ := bd_e h
    refine s_roI (As := [.int x2]) (rest := []) X.1 (cf_isHour_met _ x2 v4 q_v4) (lw_S q308 q309 q79 q310) cf_isHour_hd ⟨rfl, rfl⟩ ⟨Nat.le_trans (m := cp_likeness_rm.frames) (Nat.le_of_ble_eq_true rfl) hR.1, Nat.le_trans (m := cp_likeness_rm.locals) (Nat.le_of_ble_eq_true rfl) hR.2.1⟩ ⟨Nat.le_trans (m := 200) (Nat.le_of_ble_eq_true rfl) hR.2.2.1, Nat.le_trans (m := 1600) (Nat.le_of_ble_eq_true rfl) hR.2.2.2⟩ rfl hl.1 rfl (Nat.le_of_ble_eq_true rfl) dX0_likeness_9 ?_
    refine lv_if_eq (tgt := 24) hx hb dX0_likeness_12 (by decide) (fun c5 => ?_) (fun c5 => ?_)
    · have h := ip_ c5 h
      refine lv_bipush (v := -2) hx hb dX0_likeness_24 (by decide) ?_
      have h := so_ h
      subst h
      exact W.iret hx hb hr (fun t ht hW => hQ _ _ _ t hM hS ht hW) hS.2.2 dX0_likeness_26
    · have h := in_ c5 h
      refine lv_aload_n hx hb dX0_likeness_15 rfl (lv_at hl 0 rfl) ?_
      refine lv_iload_n hx hb dX0_likeness_16 rfl (lv_at hl 1 rfl) ?_
      refine lv_iload_n hx hb dX0_likeness_17 rfl (lv_at hl 2 rfl) ?_
      obtain ⟨v6, q_v6, h⟩ := bd_e h
      refine f_roI (As := [.int x1, .int x2]) (rest := []) X hM (c_recv0 X hM) hS.2.2 (cPD.fr hM) (cf_likenessOf_met _ Z Y A C1 x1 x2 v6 q_v6) (lw_V q810 q812 qs31 q79 q813) cf_likenessOf_hd ⟨rfl, rfl⟩ ⟨Nat.le_trans (m := cp_likeness_rm.frames) (Nat.le_of_ble_eq_true rfl) hR.1, Nat.le_trans (m := cp_likeness_rm.locals) (Nat.le_of_ble_eq_true rfl) hR.2.1⟩ ⟨Nat.le_trans (m := 200) (Nat.le_of_ble_eq_true rfl) hR.2.2.1, Nat.le_trans (m := 1600) (Nat.le_of_ble_eq_true rfl) hR.2.2.2⟩ rfl hl.1 rfl (Nat.le_of_ble_eq_true rfl) dX0_likeness_18 (fun locs hL => ?_)
      have hS : va_S A s.heap _ locs := ⟨hS.1, hS.2.1, hL⟩
      refine lv_goto (tgt := 26) hx hb dX0_likeness_21 (by decide) ?_
      have h := so_ h
      subst h
      exact W.iret hx hb hr (fun t ht hW => hQ _ _ _ t hM hS ht hW) hS.2.2 dX0_likeness_26
theorem cp_likeness_met (l : Launch) (Z : CZ) (Y : CY) (C : St) (sz : Nat) (x1 : Int32) (x2 : Int32) (r : (Int32 × St)) (h : cp_likeness x1 x2 C = some r) : Met l yX0_likeness (ws_ yX0_likeness cX0_likeness 3 (some .int)) cp_likeness_rm (va_Pc [.ref (cSa Z 0), .int x1, .int x2] (cSx Z Y C sz)) (Qcw (some (.int r.1)) Z (va_A (cWs Z Y C) sz) r.2) 200 1600 (va_A (cWs Z Y C) sz) := by
  refine Met.ofW (cc := cX0_likeness) (maxL := 3) (ret := some .int) (by decide) rfl ?_
  intro p e s m args below meth c s₁ B hml hv
  obtain ⟨rfl, ⟨hsz, hv⟩, hE⟩ := hv
  subst hsz
  have hts := atoms_spec (ws := ws_ yX0_likeness cX0_likeness 3 (some .int)) B.pre
  have hts : ∀ w ∈ lw_all, w.before _ s = true := fun w h => hts w (List.mem_cons_of_mem _ h)
  have X : CCx p s m _ meth c cX0_likeness 3 (some .int) RX0 Z := ⟨⟨B.exec, B.bytes, B.returns, B.notSynchronized, hml, findClass_of_methodNamed B.named, hts⟩, hv.2⟩
  have hl := lv_entry [.ref (cSa Z 0), .int x1, .int x2] (n := 3) (Nat.le_of_ble_eq_true rfl)
  rw [lg_entry_eq]
  generalize (lg_sl [.ref (cSa Z 0), .int x1, .int x2] ++ List.replicate (3 - (lg_sl [.ref (cSa Z 0), .int x1, .int x2]).length) Slot.unset).toArray = ls at hl ⊢
  exact cp_likeness_w0 X ⟨Nat.le_refl _, Nat.le_refl _, Nat.le_refl _, Nat.le_refl _⟩ (fun q h => Or.inr h) hE (fun Y H locs t hM hS ht hW => ⟨rfl, ⟨Y, by rw [ht]; exact hM, cKs.warm hW X.2⟩, hS.F ht⟩) x1 x2 Y C _ _ ls (cPD.self hv.1) va_S.rf hl h

/-! SecondChances.odds(III)J, on any state -/
def cp_odds_rm : Room := { frames := 103, cells := 200, slots := 1600, locals := 2376 }
def cp_odds (x1 : Int32) (x2 : Int32) (x3 : Int32) (C : St) : Option (Int64 × St) :=
  bd2_ (cp_isDeed x1 C) fun v2 C1 =>
  if v2 = 0 then (bd_ (cf_no (-2 : Int32)) fun v4 =>
    some (v4, C1))
  else (bd_ (cf_isHour x2) fun v5 =>
    if v5 = 0 then (bd_ (cf_no (-2 : Int32)) fun v7 =>
      some (v7, C1))
    else (bd_ (cf_isTwo x3) fun v8 =>
      if v8 = 0 then (bd_ (cf_no (-2 : Int32)) fun v10 =>
        some (v10, C1))
      else (bd_ (cf_oddsOf C1 x1 x2 x3) fun v11 =>
        some (v11, C1))))
set_option maxHeartbeats 4000000 in
theorem cp_odds_w0 {p : Program} {l : Launch} {e : Env} {R : Room} {s : State} {m : MethodId} {args : Array Value} {below : List Frame} {meth : Method} {c : Code} {Z : CZ} {A : Nat → Prop} {Qc : Array Value → State → Outcome → State → Prop} (X : CCx p s m args meth c cX0_odds 4 (some .long) RX0 Z) (hR : cp_odds_rm.frames ≤ R.frames ∧ cp_odds_rm.locals ≤ R.locals ∧ 200 ≤ R.cells ∧ 1600 ≤ R.slots) (hA : ∀ q, s.heap.size ≤ q → A q) (hE : cE Z A s s.heap) {r : (Int64 × St)} (hQ : ∀ (Y : CY) (H : Heap) (locs : List Loc) (t : State), cPD Z Y A r.2 H → va_S A s.heap H locs → t.heap = H → s.WarmedH t.vm → Qc args s (.returned (some (.long r.1))) t) (x1 : Int32) (x2 : Int32) (x3 : Int32) (Y : CY) (C : St) (H : Heap) (locs : List Loc) (ls : Array Slot) (hM : cPD Z Y A C H) (hS : va_S A s.heap H locs) (hl : lv_has ls 4 [(0, .ref (cSa Z 0)), (1, .int x1), (2, .int x2), (3, .int x3)]) (h : cp_odds x1 x2 x3 C = some r) : W p l e R s m args below meth c H locs 0 0 (MQ below Qc args s 200 1600 A) (F0 m 0 ls []) := by
  obtain ⟨⟨hx, hb, hr, hlocks, hml, hown, hts⟩, hK⟩ := id X
  unfold cp_odds at h
  refine lv_aload_n hx hb dX0_odds_0 rfl (lv_at hl 0 rfl) ?_
  refine lv_iload_n hx hb dX0_odds_1 rfl (lv_at hl 1 rfl) ?_
  obtain ⟨v2, C1, q_C1, h⟩ := bd2_e h
  refine p_callI (As := [.int x1]) (rest := []) X hM hS hA hE (cp_isDeed_met _ Z _ C _ x1 (v2, C1) q_C1) (lw_V q626 q628 qs6 q79 q629) cf_isDeed_hd ⟨rfl, rfl⟩ ⟨Nat.le_trans (m := cp_odds_rm.frames) (Nat.le_of_ble_eq_true rfl) hR.1, Nat.le_trans (m := cp_odds_rm.locals) (Nat.le_of_ble_eq_true rfl) hR.2.1⟩ ⟨Nat.le_trans (m := 200) (Nat.le_of_ble_eq_true rfl) hR.2.2.1, Nat.le_trans (m := 1600) (Nat.le_of_ble_eq_true rfl) hR.2.2.2⟩ rfl hl.1 rfl (Nat.le_of_ble_eq_true rfl) dX0_odds_2 (fun Y H locs hM hS => ?_)
  refine W.widen (k := 200) (n := 1600) (Nat.le_of_ble_eq_true rfl) (Nat.le_of_ble_eq_true rfl) ?_
  refine lv_if_eq (tgt := 32) hx hb dX0_odds_5 (by decide) (fun c3 => ?_) (fun c3 => ?_)
  · have h := ip_ c3 h
    refine lv_bipush (v := -2) hx hb dX0_odds_32 (by decide) ?_
    obtain ⟨v4, q_v4, h⟩ := bd_e h
    refine s_roJ (As := [.int (-2 : Int32)]) (rest := []) X.1 (cf_no_met _ (-2 : Int32) v4 q_v4) (lw_S q822 q823 q79 q824) cf_no_hd ⟨rfl, rfl⟩ ⟨Nat.le_trans (m := cp_odds_rm.frames) (Nat.le_of_ble_eq_true rfl) hR.1, Nat.le_trans (m := cp_odds_rm.locals) (Nat.le_of_ble_eq_true rfl) hR.2.1⟩ ⟨Nat.le_trans (m := 200) (Nat.le_of_ble_eq_true rfl) hR.2.2.1, Nat.le_trans (m := 1600) (Nat.le_of_ble_eq_true rfl) hR.2.2.2⟩ rfl hl.1 rfl (Nat.le_of_ble_eq_true rfl) dX0_odds_34 ?_
    have h := so_ h
    subst h
    exact W.lret hx hb hr (fun t ht hW => hQ _ _ _ t hM hS ht hW) hS.2.2 dX0_odds_37
  · have h := in_ c3 h
    refine lv_iload_n hx hb dX0_odds_8 rfl (lv_at hl 2 rfl) ?_
    obtain ⟨v5, q_v5, h⟩ := bd_e h
    refine s_roI (As := [.int x2]) (rest := []) X.1 (cf_isHour_met _ x2 v5 q_v5) (lw_S q308 q309 q79 q310) cf_isHour_hd ⟨rfl, rfl⟩ ⟨Nat.le_trans (m := cp_odds_rm.frames) (Nat.le_of_ble_eq_true rfl) hR.1, Nat.le_trans (m := cp_odds_rm.locals) (Nat.le_of_ble_eq_true rfl) hR.2.1⟩ ⟨Nat.le_trans (m := 200) (Nat.le_of_ble_eq_true rfl) hR.2.2.1, Nat.le_trans (m := 1600) (Nat.le_of_ble_eq_true rfl) hR.2.2.2⟩ rfl hl.1 rfl (Nat.le_of_ble_eq_true rfl) dX0_odds_9 ?_
    refine lv_if_eq (tgt := 32) hx hb dX0_odds_12 (by decide) (fun c6 => ?_) (fun c6 => ?_)
    · have h := ip_ c6 h
      refine lv_bipush (v := -2) hx hb dX0_odds_32 (by decide) ?_
      obtain ⟨v7, q_v7, h⟩ := bd_e h
      refine s_roJ (As := [.int (-2 : Int32)]) (rest := []) X.1 (cf_no_met _ (-2 : Int32) v7 q_v7) (lw_S q822 q823 q79 q824) cf_no_hd ⟨rfl, rfl⟩ ⟨Nat.le_trans (m := cp_odds_rm.frames) (Nat.le_of_ble_eq_true rfl) hR.1, Nat.le_trans (m := cp_odds_rm.locals) (Nat.le_of_ble_eq_true rfl) hR.2.1⟩ ⟨Nat.le_trans (m := 200) (Nat.le_of_ble_eq_true rfl) hR.2.2.1, Nat.le_trans (m := 1600) (Nat.le_of_ble_eq_true rfl) hR.2.2.2⟩ rfl hl.1 rfl (Nat.le_of_ble_eq_true rfl) dX0_odds_34 ?_
      have h := so_ h
      subst h
      exact W.lret hx hb hr (fun t ht hW => hQ _ _ _ t hM hS ht hW) hS.2.2 dX0_odds_37
    · have h := in_ c6 h
      refine lv_iload_n hx hb dX0_odds_15 rfl (lv_at hl 3 rfl) ?_
      obtain ⟨v8, q_v8, h⟩ := bd_e h
      refine s_roI (As := [.int x3]) (rest := []) X.1 (cf_isTwo_met _ x3 v8 q_v8) (lw_S q311 q312 q79 q313) cf_isTwo_hd ⟨rfl, rfl⟩ ⟨Nat.le_trans (m := cp_odds_rm.frames) (Nat.le_of_ble_eq_true rfl) hR.1, Nat.le_trans (m := cp_odds_rm.locals) (Nat.le_of_ble_eq_true rfl) hR.2.1⟩ ⟨Nat.le_trans (m := 200) (Nat.le_of_ble_eq_true rfl) hR.2.2.1, Nat.le_trans (m := 1600) (Nat.le_of_ble_eq_true rfl) hR.2.2.2⟩ rfl hl.1 rfl (Nat.le_of_ble_eq_true rfl) dX0_odds_16 ?_
      refine lv_if_eq (tgt := 32) hx hb dX0_odds_19 (by decide) (fun c9 => ?_) (fun c9 => ?_)
      · have h := ip_ c9 h
        refine lv_bipush (v := -2) hx hb dX0_odds_32 (by decide) ?_
        obtain ⟨v10, q_v10, h⟩ := bd_e h
        refine s_roJ (As := [.int (-2 : Int32)]) (rest := []) X.1 (cf_no_met _ (-2 : Int32) v10 q_v10) (lw_S q822 q823 q79 q824) cf_no_hd ⟨rfl, rfl⟩ ⟨Nat.le_trans (m := cp_odds_rm.frames) (Nat.le_of_ble_eq_true rfl) hR.1, Nat.le_trans (m := cp_odds_rm.locals) (Nat.le_of_ble_eq_true rfl) hR.2.1⟩ ⟨Nat.le_trans (m := 200) (Nat.le_of_ble_eq_true rfl) hR.2.2.1, Nat.le_trans (m := 1600) (Nat.le_of_ble_eq_true rfl) hR.2.2.2⟩ rfl hl.1 rfl (Nat.le_of_ble_eq_true rfl) dX0_odds_34 ?_
        have h := so_ h
        subst h
        exact W.lret hx hb hr (fun t ht hW => hQ _ _ _ t hM hS ht hW) hS.2.2 dX0_odds_37
      · have h := in_ c9 h
        refine lv_aload_n hx hb dX0_odds_22 rfl (lv_at hl 0 rfl) ?_
        refine lv_iload_n hx hb dX0_odds_23 rfl (lv_at hl 1 rfl) ?_
        refine lv_iload_n hx hb dX0_odds_24 rfl (lv_at hl 2 rfl) ?_
        refine lv_iload_n hx hb dX0_odds_25 rfl (lv_at hl 3 rfl) ?_
        obtain ⟨v11, q_v11, h⟩ := bd_e h
        refine f_roJ (As := [.int x1, .int x2, .int x3]) (rest := []) X hM (c_recv0 X hM) hS.2.2 (cPD.fr hM) (cf_oddsOf_met _ Z Y A C1 x1 x2 x3 v11 q_v11) (lw_V q818 q820 qs32 q79 q821) cf_oddsOf_hd ⟨rfl, rfl⟩ ⟨Nat.le_trans (m := cp_odds_rm.frames) (Nat.le_of_ble_eq_true rfl) hR.1, Nat.le_trans (m := cp_odds_rm.locals) (Nat.le_of_ble_eq_true rfl) hR.2.1⟩ ⟨Nat.le_trans (m := 200) (Nat.le_of_ble_eq_true rfl) hR.2.2.1, Nat.le_trans (m := 1600) (Nat.le_of_ble_eq_true rfl) hR.2.2.2⟩ rfl hl.1 rfl (Nat.le_of_ble_eq_true rfl) dX0_odds_26 (fun locs hL => ?_)
        have hS : va_S A s.heap _ locs := ⟨hS.1, hS.2.1, hL⟩
        refine lv_goto (tgt := 37) hx hb dX0_odds_29 (by decide) ?_
        have h := so_ h
        subst h
        exact W.lret hx hb hr (fun t ht hW => hQ _ _ _ t hM hS ht hW) hS.2.2 dX0_odds_37
theorem cp_odds_met (l : Launch) (Z : CZ) (Y : CY) (C : St) (sz : Nat) (x1 : Int32) (x2 : Int32) (x3 : Int32) (r : (Int64 × St)) (h : cp_odds x1 x2 x3 C = some r) : Met l yX0_odds (ws_ yX0_odds cX0_odds 4 (some .long)) cp_odds_rm (va_Pc [.ref (cSa Z 0), .int x1, .int x2, .int x3] (cSx Z Y C sz)) (Qcw (some (.long r.1)) Z (va_A (cWs Z Y C) sz) r.2) 200 1600 (va_A (cWs Z Y C) sz) := by
  refine Met.ofW (cc := cX0_odds) (maxL := 4) (ret := some .long) (by decide) rfl ?_
  intro p e s m args below meth c s₁ B hml hv
  obtain ⟨rfl, ⟨hsz, hv⟩, hE⟩ := hv
  subst hsz
  have hts := atoms_spec (ws := ws_ yX0_odds cX0_odds 4 (some .long)) B.pre
  have hts : ∀ w ∈ lw_all, w.before _ s = true := fun w h => hts w (List.mem_cons_of_mem _ h)
  have X : CCx p s m _ meth c cX0_odds 4 (some .long) RX0 Z := ⟨⟨B.exec, B.bytes, B.returns, B.notSynchronized, hml, findClass_of_methodNamed B.named, hts⟩, hv.2⟩
  have hl := lv_entry [.ref (cSa Z 0), .int x1, .int x2, .int x3] (n := 4) (Nat.le_of_ble_eq_true rfl)
  rw [lg_entry_eq]
  generalize (lg_sl [.ref (cSa Z 0), .int x1, .int x2, .int x3] ++ List.replicate (4 - (lg_sl [.ref (cSa Z 0), .int x1, .int x2, .int x3]).length) Slot.unset).toArray = ls at hl ⊢
  exact cp_odds_w0 X ⟨Nat.le_refl _, Nat.le_refl _, Nat.le_refl _, Nat.le_refl _⟩ (fun q h => Or.inr h) hE (fun Y H locs t hM hS ht hW => ⟨rfl, ⟨Y, by rw [ht]; exact hM, cKs.warm hW X.2⟩, hS.F ht⟩) x1 x2 x3 Y C _ _ ls (cPD.self hv.1) va_S.rf hl h

/-! SecondChances.isFalse(II)I, on any state -/
def cp_isFalse_rm : Room := { frames := 3, cells := 200, slots := 1600, locals := 64 }
def cp_isFalse (x1 : Int32) (x2 : Int32) (C : St) : Option (Int32 × St) :=
  bd_ (cf_isSight C x1) fun v1 =>
  if v1 = 0 then (some ((-2 : Int32), C))
  else (bd_ (cf_isSight C x2) fun v3 =>
    if v3 = 0 then (some ((-2 : Int32), C))
    else (if x1 = x2 then (some ((-2 : Int32), C))
      else (bd_ (cfL_get C 1 x1) fun v6 =>
        gd_ (v6 < cNn C 1) <|
        bd_ (cfL_get C 1 x2) fun v8 =>
        gd_ (v8 < cNn C 1) <|
        gd_ (v6 < cNn C 1) <|
        bd_ (cfG_isFalse C v6 v8) fun v11 =>
        if v11 = 0 then (some ((0 : Int32), C))
        else (some ((1 : Int32), C)))))
set_option maxHeartbeats 4000000 in
theorem cp_isFalse_w0 {p : Program} {l : Launch} {e : Env} {R : Room} {s : State} {m : MethodId} {args : Array Value} {below : List Frame} {meth : Method} {c : Code} {Z : CZ} {A : Nat → Prop} {Qc : Array Value → State → Outcome → State → Prop} (X : CCx p s m args meth c cX0_isFalse 3 (some .int) RX0 Z) (hR : cp_isFalse_rm.frames ≤ R.frames ∧ cp_isFalse_rm.locals ≤ R.locals ∧ 200 ≤ R.cells ∧ 1600 ≤ R.slots) (hA : ∀ q, s.heap.size ≤ q → A q) (hE : cE Z A s s.heap) {r : (Int32 × St)} (hQ : ∀ (Y : CY) (H : Heap) (locs : List Loc) (t : State), cPD Z Y A r.2 H → va_S A s.heap H locs → t.heap = H → s.WarmedH t.vm → Qc args s (.returned (some (.int r.1))) t) (x1 : Int32) (x2 : Int32) (Y : CY) (C : St) (H : Heap) (locs : List Loc) (ls : Array Slot) (hM : cPD Z Y A C H) (hS : va_S A s.heap H locs) (hl : lv_has ls 3 [(0, .ref (cSa Z 0)), (1, .int x1), (2, .int x2)]) (h : cp_isFalse x1 x2 C = some r) : W p l e R s m args below meth c H locs 0 0 (MQ below Qc args s 200 1600 A) (F0 m 0 ls []) := by
  obtain ⟨⟨hx, hb, hr, hlocks, hml, hown, hts⟩, hK⟩ := id X
  unfold cp_isFalse at h
  refine lv_aload_n hx hb dX0_isFalse_0 rfl (lv_at hl 0 rfl) ?_
  refine lv_iload_n hx hb dX0_isFalse_1 rfl (lv_at hl 1 rfl) ?_
  obtain ⟨v1, q_v1, h⟩ := bd_e h
  refine f_roI (As := [.int x1]) (rest := []) X hM (c_recv0 X hM) hS.2.2 (cPD.fr hM) (cf_isSight_met _ Z Y A C x1 v1 q_v1) (lw_V q859 q861 qs33 q79 q862) cf_isSight_hd ⟨rfl, rfl⟩ ⟨Nat.le_trans (m := cp_isFalse_rm.frames) (Nat.le_of_ble_eq_true rfl) hR.1, Nat.le_trans (m := cp_isFalse_rm.locals) (Nat.le_of_ble_eq_true rfl) hR.2.1⟩ ⟨Nat.le_trans (m := 200) (Nat.le_of_ble_eq_true rfl) hR.2.2.1, Nat.le_trans (m := 1600) (Nat.le_of_ble_eq_true rfl) hR.2.2.2⟩ rfl hl.1 rfl (Nat.le_of_ble_eq_true rfl) dX0_isFalse_2 (fun locs hL => ?_)
  have hS : va_S A s.heap _ locs := ⟨hS.1, hS.2.1, hL⟩
  refine lv_if_eq (tgt := 57) hx hb dX0_isFalse_5 (by decide) (fun c2 => ?_) (fun c2 => ?_)
  · have h := ip_ c2 h
    refine lv_bipush (v := -2) hx hb dX0_isFalse_57 (by decide) ?_
    refine W.widen (k := 200) (n := 1600) (Nat.le_of_ble_eq_true rfl) (Nat.le_of_ble_eq_true rfl) ?_
    have h := so_ h
    subst h
    exact W.iret hx hb hr (fun t ht hW => hQ _ _ _ t hM hS ht hW) hS.2.2 dX0_isFalse_59
  · have h := in_ c2 h
    refine lv_aload_n hx hb dX0_isFalse_8 rfl (lv_at hl 0 rfl) ?_
    refine lv_iload_n hx hb dX0_isFalse_9 rfl (lv_at hl 2 rfl) ?_
    obtain ⟨v3, q_v3, h⟩ := bd_e h
    refine f_roI (As := [.int x2]) (rest := []) X hM (c_recv0 X hM) hS.2.2 (cPD.fr hM) (cf_isSight_met _ Z Y A C x2 v3 q_v3) (lw_V q859 q861 qs33 q79 q862) cf_isSight_hd ⟨rfl, rfl⟩ ⟨Nat.le_trans (m := cp_isFalse_rm.frames) (Nat.le_of_ble_eq_true rfl) hR.1, Nat.le_trans (m := cp_isFalse_rm.locals) (Nat.le_of_ble_eq_true rfl) hR.2.1⟩ ⟨Nat.le_trans (m := 200) (Nat.le_of_ble_eq_true rfl) hR.2.2.1, Nat.le_trans (m := 1600) (Nat.le_of_ble_eq_true rfl) hR.2.2.2⟩ rfl hl.1 rfl (Nat.le_of_ble_eq_true rfl) dX0_isFalse_10 (fun locs hL => ?_)
    have hS : va_S A s.heap _ locs := ⟨hS.1, hS.2.1, hL⟩
    refine lv_if_eq (tgt := 57) hx hb dX0_isFalse_13 (by decide) (fun c4 => ?_) (fun c4 => ?_)
    · have h := ip_ c4 h
      refine lv_bipush (v := -2) hx hb dX0_isFalse_57 (by decide) ?_
      refine W.widen (k := 200) (n := 1600) (Nat.le_of_ble_eq_true rfl) (Nat.le_of_ble_eq_true rfl) ?_
      have h := so_ h
      subst h
      exact W.iret hx hb hr (fun t ht hW => hQ _ _ _ t hM hS ht hW) hS.2.2 dX0_isFalse_59
    · have h := in_ c4 h
      refine lv_iload_n hx hb dX0_isFalse_16 rfl (lv_at hl 1 rfl) ?_
      refine lv_iload_n hx hb dX0_isFalse_17 rfl (lv_at hl 2 rfl) ?_
      refine lv_icmp_eq (tgt := 57) hx hb dX0_isFalse_18 (by decide) (fun c5 => ?_) (fun c5 => ?_)
      · have h := ip_ c5 h
        refine lv_bipush (v := -2) hx hb dX0_isFalse_57 (by decide) ?_
        refine W.widen (k := 200) (n := 1600) (Nat.le_of_ble_eq_true rfl) (Nat.le_of_ble_eq_true rfl) ?_
        have h := so_ h
        subst h
        exact W.iret hx hb hr (fun t ht hW => hQ _ _ _ t hM hS ht hW) hS.2.2 dX0_isFalse_59
      · have h := in_ c5 h
        refine lv_aload_n hx hb dX0_isFalse_21 rfl (lv_at hl 0 rfl) ?_
        refine gc17 X hM dX0_isFalse_22 ?_
        refine lv_iload_n hx hb dX0_isFalse_25 rfl (lv_at hl 1 rfl) ?_
        obtain ⟨v6, q_v6, h⟩ := bd_e h
        refine f_roR (As := [.int x1]) (rest := []) X hM (c_recvL (j := 1) X hM (by decide)) hS.2.2 (cPD.fr hM) (cfL_get_met _ Z Y A C 1 x1 v6 q_v6) (lw_V q651 q652 q653 q85 q654) cfL_get_hd ⟨rfl, rfl⟩ ⟨Nat.le_trans (m := cp_isFalse_rm.frames) (Nat.le_of_ble_eq_true rfl) hR.1, Nat.le_trans (m := cp_isFalse_rm.locals) (Nat.le_of_ble_eq_true rfl) hR.2.1⟩ ⟨Nat.le_trans (m := 200) (Nat.le_of_ble_eq_true rfl) hR.2.2.1, Nat.le_trans (m := 1600) (Nat.le_of_ble_eq_true rfl) hR.2.2.2⟩ rfl hl.1 rfl (Nat.le_of_ble_eq_true rfl) dX0_isFalse_26 (fun locs hL => ?_)
        have hS : va_S A s.heap _ locs := ⟨hS.1, hS.2.1, hL⟩
        obtain ⟨b7, h⟩ := gd_e h
        refine c_castG X hM b7 (hts _ q838) dX0_isFalse_29 ?_
        refine lv_aload_n hx hb dX0_isFalse_32 rfl (lv_at hl 0 rfl) ?_
        refine gc17 X hM dX0_isFalse_33 ?_
        refine lv_iload_n hx hb dX0_isFalse_36 rfl (lv_at hl 2 rfl) ?_
        obtain ⟨v8, q_v8, h⟩ := bd_e h
        refine f_roR (As := [.int x2]) (rest := [.ref (cDa Y (200 + v6))]) X hM (c_recvL (j := 1) X hM (by decide)) hS.2.2 (cPD.fr hM) (cfL_get_met _ Z Y A C 1 x2 v8 q_v8) (lw_V q651 q652 q653 q85 q654) cfL_get_hd ⟨rfl, rfl⟩ ⟨Nat.le_trans (m := cp_isFalse_rm.frames) (Nat.le_of_ble_eq_true rfl) hR.1, Nat.le_trans (m := cp_isFalse_rm.locals) (Nat.le_of_ble_eq_true rfl) hR.2.1⟩ ⟨Nat.le_trans (m := 200) (Nat.le_of_ble_eq_true rfl) hR.2.2.1, Nat.le_trans (m := 1600) (Nat.le_of_ble_eq_true rfl) hR.2.2.2⟩ rfl hl.1 rfl (Nat.le_of_ble_eq_true rfl) dX0_isFalse_37 (fun locs hL => ?_)
        have hS : va_S A s.heap _ locs := ⟨hS.1, hS.2.1, hL⟩
        obtain ⟨b9, h⟩ := gd_e h
        refine c_castG X hM b9 (hts _ q838) dX0_isFalse_40 ?_
        obtain ⟨b10, h⟩ := gd_e h
        obtain ⟨v11, q_v11, h⟩ := bd_e h
        refine f_roI (As := [.ref (cDa Y (200 + v8))]) (rest := []) X hM (c_recvG X hM b10) hS.2.2 (cPD.fr hM) (cfG_isFalse_met _ Z Y A C v6 v8 v11 q_v11) (lw_V q863 q864 q865 q100 q866) cfG_isFalse_hd ⟨rfl, rfl⟩ ⟨Nat.le_trans (m := cp_isFalse_rm.frames) (Nat.le_of_ble_eq_true rfl) hR.1, Nat.le_trans (m := cp_isFalse_rm.locals) (Nat.le_of_ble_eq_true rfl) hR.2.1⟩ ⟨Nat.le_trans (m := 200) (Nat.le_of_ble_eq_true rfl) hR.2.2.1, Nat.le_trans (m := 1600) (Nat.le_of_ble_eq_true rfl) hR.2.2.2⟩ rfl hl.1 rfl (Nat.le_of_ble_eq_true rfl) dX0_isFalse_43 (fun locs hL => ?_)
        have hS : va_S A s.heap _ locs := ⟨hS.1, hS.2.1, hL⟩
        refine lv_if_eq (tgt := 53) hx hb dX0_isFalse_46 (by decide) (fun c12 => ?_) (fun c12 => ?_)
        · have h := ip_ c12 h
          refine lv_iconst (v := 0) hx hb dX0_isFalse_53 (by decide) ?_
          refine lv_goto (tgt := 59) hx hb dX0_isFalse_54 (by decide) ?_
          refine W.widen (k := 200) (n := 1600) (Nat.le_of_ble_eq_true rfl) (Nat.le_of_ble_eq_true rfl) ?_
          have h := so_ h
          subst h
          exact W.iret hx hb hr (fun t ht hW => hQ _ _ _ t hM hS ht hW) hS.2.2 dX0_isFalse_59
        · have h := in_ c12 h
          refine lv_iconst (v := 1) hx hb dX0_isFalse_49 (by decide) ?_
          refine lv_goto (tgt := 59) hx hb dX0_isFalse_50 (by decide) ?_
          refine W.widen (k := 200) (n := 1600) (Nat.le_of_ble_eq_true rfl) (Nat.le_of_ble_eq_true rfl) ?_
          have h := so_ h
          subst h
          exact W.iret hx hb hr (fun t ht hW => hQ _ _ _ t hM hS ht hW) hS.2.2 dX0_isFalse_59
theorem cp_isFalse_met (l : Launch) (Z : CZ) (Y : CY) (C : St) (sz : Nat) (x1 : Int32) (x2 : Int32) (r : (Int32 × St)) (h : cp_isFalse x1 x2 C = some r) : Met l yX0_isFalse (ws_ yX0_isFalse cX0_isFalse 3 (some .int)) cp_isFalse_rm (va_Pc [.ref (cSa Z 0), .int x1, .int x2] (cSx Z Y C sz)) (Qcw (some (.int r.1)) Z (va_A (cWs Z Y C) sz) r.2) 200 1600 (va_A (cWs Z Y C) sz) := by
  refine Met.ofW (cc := cX0_isFalse) (maxL := 3) (ret := some .int) (by decide) rfl ?_
  intro p e s m args below meth c s₁ B hml hv
  obtain ⟨rfl, ⟨hsz, hv⟩, hE⟩ := hv
  subst hsz
  have hts := atoms_spec (ws := ws_ yX0_isFalse cX0_isFalse 3 (some .int)) B.pre
  have hts : ∀ w ∈ lw_all, w.before _ s = true := fun w h => hts w (List.mem_cons_of_mem _ h)
  have X : CCx p s m _ meth c cX0_isFalse 3 (some .int) RX0 Z := ⟨⟨B.exec, B.bytes, B.returns, B.notSynchronized, hml, findClass_of_methodNamed B.named, hts⟩, hv.2⟩
  have hl := lv_entry [.ref (cSa Z 0), .int x1, .int x2] (n := 3) (Nat.le_of_ble_eq_true rfl)
  rw [lg_entry_eq]
  generalize (lg_sl [.ref (cSa Z 0), .int x1, .int x2] ++ List.replicate (3 - (lg_sl [.ref (cSa Z 0), .int x1, .int x2]).length) Slot.unset).toArray = ls at hl ⊢
  exact cp_isFalse_w0 X ⟨Nat.le_refl _, Nat.le_refl _, Nat.le_refl _, Nat.le_refl _⟩ (fun q h => Or.inr h) hE (fun Y H locs t hM hS ht hW => ⟨rfl, ⟨Y, by rw [ht]; exact hM, cKs.warm hW X.2⟩, hS.F ht⟩) x1 x2 Y C _ _ ls (cPD.self hv.1) va_S.rf hl h

/-! SecondChances.hats(I)I, on any state -/
def cp_hats_rm : Room := { frames := 5, cells := 200, slots := 1600, locals := 112 }
def cp_hats (x1 : Int32) (C : St) : Option (Int32 × St) :=
  bd_ (cf_isTwo x1) fun v1 =>
  if v1 = 0 then (some ((-2 : Int32), C))
  else (bd_ (cf_hatsOf C x1) fun v3 =>
    some (v3, C))
set_option maxHeartbeats 4000000 in
theorem cp_hats_w0 {p : Program} {l : Launch} {e : Env} {R : Room} {s : State} {m : MethodId} {args : Array Value} {below : List Frame} {meth : Method} {c : Code} {Z : CZ} {A : Nat → Prop} {Qc : Array Value → State → Outcome → State → Prop} (X : CCx p s m args meth c cX0_hats 2 (some .int) RX0 Z) (hR : cp_hats_rm.frames ≤ R.frames ∧ cp_hats_rm.locals ≤ R.locals ∧ 200 ≤ R.cells ∧ 1600 ≤ R.slots) (hA : ∀ q, s.heap.size ≤ q → A q) (hE : cE Z A s s.heap) {r : (Int32 × St)} (hQ : ∀ (Y : CY) (H : Heap) (locs : List Loc) (t : State), cPD Z Y A r.2 H → va_S A s.heap H locs → t.heap = H → s.WarmedH t.vm → Qc args s (.returned (some (.int r.1))) t) (x1 : Int32) (Y : CY) (C : St) (H : Heap) (locs : List Loc) (ls : Array Slot) (hM : cPD Z Y A C H) (hS : va_S A s.heap H locs) (hl : lv_has ls 2 [(0, .ref (cSa Z 0)), (1, .int x1)]) (h : cp_hats x1 C = some r) : W p l e R s m args below meth c H locs 0 0 (MQ below Qc args s 200 1600 A) (F0 m 0 ls []) := by
  obtain ⟨⟨hx, hb, hr, hlocks, hml, hown, hts⟩, hK⟩ := id X
  unfold cp_hats at h
  refine lv_iload_n hx hb dX0_hats_0 rfl (lv_at hl 1 rfl) ?_
  obtain ⟨v1, q_v1, h⟩ := bd_e h
  refine s_roI (As := [.int x1]) (rest := []) X.1 (cf_isTwo_met _ x1 v1 q_v1) (lw_S q311 q312 q79 q313) cf_isTwo_hd ⟨rfl, rfl⟩ ⟨Nat.le_trans (m := cp_hats_rm.frames) (Nat.le_of_ble_eq_true rfl) hR.1, Nat.le_trans (m := cp_hats_rm.locals) (Nat.le_of_ble_eq_true rfl) hR.2.1⟩ ⟨Nat.le_trans (m := 200) (Nat.le_of_ble_eq_true rfl) hR.2.2.1, Nat.le_trans (m := 1600) (Nat.le_of_ble_eq_true rfl) hR.2.2.2⟩ rfl hl.1 rfl (Nat.le_of_ble_eq_true rfl) dX0_hats_1 ?_
  refine lv_if_eq (tgt := 15) hx hb dX0_hats_4 (by decide) (fun c2 => ?_) (fun c2 => ?_)
  · have h := ip_ c2 h
    refine lv_bipush (v := -2) hx hb dX0_hats_15 (by decide) ?_
    refine W.widen (k := 200) (n := 1600) (Nat.le_of_ble_eq_true rfl) (Nat.le_of_ble_eq_true rfl) ?_
    have h := so_ h
    subst h
    exact W.iret hx hb hr (fun t ht hW => hQ _ _ _ t hM hS ht hW) hS.2.2 dX0_hats_17
  · have h := in_ c2 h
    refine lv_aload_n hx hb dX0_hats_7 rfl (lv_at hl 0 rfl) ?_
    refine lv_iload_n hx hb dX0_hats_8 rfl (lv_at hl 1 rfl) ?_
    obtain ⟨v3, q_v3, h⟩ := bd_e h
    refine f_roI (As := [.int x1]) (rest := []) X hM (c_recv0 X hM) hS.2.2 (cPD.fr hM) (cf_hatsOf_met _ Z Y A C x1 v3 q_v3) (lw_V q874 q876 qs34 q79 q877) cf_hatsOf_hd ⟨rfl, rfl⟩ ⟨Nat.le_trans (m := cp_hats_rm.frames) (Nat.le_of_ble_eq_true rfl) hR.1, Nat.le_trans (m := cp_hats_rm.locals) (Nat.le_of_ble_eq_true rfl) hR.2.1⟩ ⟨Nat.le_trans (m := 200) (Nat.le_of_ble_eq_true rfl) hR.2.2.1, Nat.le_trans (m := 1600) (Nat.le_of_ble_eq_true rfl) hR.2.2.2⟩ rfl hl.1 rfl (Nat.le_of_ble_eq_true rfl) dX0_hats_9 (fun locs hL => ?_)
    have hS : va_S A s.heap _ locs := ⟨hS.1, hS.2.1, hL⟩
    refine lv_goto (tgt := 17) hx hb dX0_hats_12 (by decide) ?_
    refine W.widen (k := 200) (n := 1600) (Nat.le_of_ble_eq_true rfl) (Nat.le_of_ble_eq_true rfl) ?_
    have h := so_ h
    subst h
    exact W.iret hx hb hr (fun t ht hW => hQ _ _ _ t hM hS ht hW) hS.2.2 dX0_hats_17
theorem cp_hats_met (l : Launch) (Z : CZ) (Y : CY) (C : St) (sz : Nat) (x1 : Int32) (r : (Int32 × St)) (h : cp_hats x1 C = some r) : Met l yX0_hats (ws_ yX0_hats cX0_hats 2 (some .int)) cp_hats_rm (va_Pc [.ref (cSa Z 0), .int x1] (cSx Z Y C sz)) (Qcw (some (.int r.1)) Z (va_A (cWs Z Y C) sz) r.2) 200 1600 (va_A (cWs Z Y C) sz) := by
  refine Met.ofW (cc := cX0_hats) (maxL := 2) (ret := some .int) (by decide) rfl ?_
  intro p e s m args below meth c s₁ B hml hv
  obtain ⟨rfl, ⟨hsz, hv⟩, hE⟩ := hv
  subst hsz
  have hts := atoms_spec (ws := ws_ yX0_hats cX0_hats 2 (some .int)) B.pre
  have hts : ∀ w ∈ lw_all, w.before _ s = true := fun w h => hts w (List.mem_cons_of_mem _ h)
  have X : CCx p s m _ meth c cX0_hats 2 (some .int) RX0 Z := ⟨⟨B.exec, B.bytes, B.returns, B.notSynchronized, hml, findClass_of_methodNamed B.named, hts⟩, hv.2⟩
  have hl := lv_entry [.ref (cSa Z 0), .int x1] (n := 2) (Nat.le_of_ble_eq_true rfl)
  rw [lg_entry_eq]
  generalize (lg_sl [.ref (cSa Z 0), .int x1] ++ List.replicate (2 - (lg_sl [.ref (cSa Z 0), .int x1]).length) Slot.unset).toArray = ls at hl ⊢
  exact cp_hats_w0 X ⟨Nat.le_refl _, Nat.le_refl _, Nat.le_refl _, Nat.le_refl _⟩ (fun q h => Or.inr h) hE (fun Y H locs t hM hS ht hW => ⟨rfl, ⟨Y, by rw [ht]; exact hM, cKs.warm hW X.2⟩, hS.F ht⟩) x1 Y C _ _ ls (cPD.self hv.1) va_S.rf hl h

/-! SecondChances.spared(I)I, on any state -/
def cp_spared_rm : Room := { frames := 12, cells := 200, slots := 1600, locals := 291 }
def cp_spared (x1 : Int32) (C : St) : Option (Int32 × St) :=
  bd2_ (cp_deeds C) fun v2 C1 =>
  bd_ (cf_in (x1.toInt64) (0 : Int64) ((((1 : Int32) <<< (v2 &&& 31)) - (1 : Int32)).toInt64)) fun v3 =>
  if v3 = 0 then (some ((-2 : Int32), C1))
  else (bd_ (cf_sparedOf C1 x1) fun v5 =>
    some (v5, C1))
set_option maxHeartbeats 4000000 in
theorem cp_spared_w0 {p : Program} {l : Launch} {e : Env} {R : Room} {s : State} {m : MethodId} {args : Array Value} {below : List Frame} {meth : Method} {c : Code} {Z : CZ} {A : Nat → Prop} {Qc : Array Value → State → Outcome → State → Prop} (X : CCx p s m args meth c cX0_spared 2 (some .int) RX0 Z) (hR : cp_spared_rm.frames ≤ R.frames ∧ cp_spared_rm.locals ≤ R.locals ∧ 200 ≤ R.cells ∧ 1600 ≤ R.slots) (hA : ∀ q, s.heap.size ≤ q → A q) (hE : cE Z A s s.heap) {r : (Int32 × St)} (hQ : ∀ (Y : CY) (H : Heap) (locs : List Loc) (t : State), cPD Z Y A r.2 H → va_S A s.heap H locs → t.heap = H → s.WarmedH t.vm → Qc args s (.returned (some (.int r.1))) t) (x1 : Int32) (Y : CY) (C : St) (H : Heap) (locs : List Loc) (ls : Array Slot) (hM : cPD Z Y A C H) (hS : va_S A s.heap H locs) (hl : lv_has ls 2 [(0, .ref (cSa Z 0)), (1, .int x1)]) (h : cp_spared x1 C = some r) : W p l e R s m args below meth c H locs 0 0 (MQ below Qc args s 200 1600 A) (F0 m 0 ls []) := by
  obtain ⟨⟨hx, hb, hr, hlocks, hml, hown, hts⟩, hK⟩ := id X
  unfold cp_spared at h
  refine lv_iload_n hx hb dX0_spared_0 rfl (lv_at hl 1 rfl) ?_
  refine lv_i2l hx hb dX0_spared_1 rfl ?_
  refine lv_lconst (v := 0) hx hb dX0_spared_2 (by decide) ?_
  refine lv_iconst (v := 1) hx hb dX0_spared_3 (by decide) ?_
  refine lv_aload_n hx hb dX0_spared_4 rfl (lv_at hl 0 rfl) ?_
  obtain ⟨v2, C1, q_C1, h⟩ := bd2_e h
  refine p_callI (As := []) (rest := [.int (1 : Int32), .long (0 : Int64), .long (x1.toInt64)]) X hM hS hA hE (cp_deeds_met _ Z _ C _ (v2, C1) q_C1) (lw_V q630 q632 qs7 q79 q633) cf_deeds_hd ⟨rfl, rfl⟩ ⟨Nat.le_trans (m := cp_spared_rm.frames) (Nat.le_of_ble_eq_true rfl) hR.1, Nat.le_trans (m := cp_spared_rm.locals) (Nat.le_of_ble_eq_true rfl) hR.2.1⟩ ⟨Nat.le_trans (m := 200) (Nat.le_of_ble_eq_true rfl) hR.2.2.1, Nat.le_trans (m := 1600) (Nat.le_of_ble_eq_true rfl) hR.2.2.2⟩ rfl hl.1 rfl (Nat.le_of_ble_eq_true rfl) dX0_spared_5 (fun Y H locs hM hS => ?_)
  refine W.widen (k := 200) (n := 1600) (Nat.le_of_ble_eq_true rfl) (Nat.le_of_ble_eq_true rfl) ?_
  refine lv_ishl hx hb dX0_spared_8 ?_
  refine lv_iconst (v := 1) hx hb dX0_spared_9 (by decide) ?_
  refine lv_isub hx hb dX0_spared_10 ?_
  refine lv_i2l hx hb dX0_spared_11 rfl ?_
  obtain ⟨v3, q_v3, h⟩ := bd_e h
  refine s_roI (As := [.long (x1.toInt64), .long (0 : Int64), .long ((((1 : Int32) <<< (v2 &&& 31)) - (1 : Int32)).toInt64)]) (rest := []) X.1 (cf_in_met _ (x1.toInt64) (0 : Int64) ((((1 : Int32) <<< (v2 &&& 31)) - (1 : Int32)).toInt64) v3 q_v3) (lw_S q298 q299 q79 q300) cf_in_hd ⟨rfl, rfl⟩ ⟨Nat.le_trans (m := cp_spared_rm.frames) (Nat.le_of_ble_eq_true rfl) hR.1, Nat.le_trans (m := cp_spared_rm.locals) (Nat.le_of_ble_eq_true rfl) hR.2.1⟩ ⟨Nat.le_trans (m := 200) (Nat.le_of_ble_eq_true rfl) hR.2.2.1, Nat.le_trans (m := 1600) (Nat.le_of_ble_eq_true rfl) hR.2.2.2⟩ rfl hl.1 rfl (Nat.le_of_ble_eq_true rfl) dX0_spared_12 ?_
  refine lv_if_eq (tgt := 26) hx hb dX0_spared_15 (by decide) (fun c4 => ?_) (fun c4 => ?_)
  · have h := ip_ c4 h
    refine lv_bipush (v := -2) hx hb dX0_spared_26 (by decide) ?_
    have h := so_ h
    subst h
    exact W.iret hx hb hr (fun t ht hW => hQ _ _ _ t hM hS ht hW) hS.2.2 dX0_spared_28
  · have h := in_ c4 h
    refine lv_aload_n hx hb dX0_spared_18 rfl (lv_at hl 0 rfl) ?_
    refine lv_iload_n hx hb dX0_spared_19 rfl (lv_at hl 1 rfl) ?_
    obtain ⟨v5, q_v5, h⟩ := bd_e h
    refine f_roI (As := [.int x1]) (rest := []) X hM (c_recv0 X hM) hS.2.2 (cPD.fr hM) (cf_sparedOf_met _ Z Y A C1 x1 v5 q_v5) (lw_V q898 q900 qs36 q79 q901) cf_sparedOf_hd ⟨rfl, rfl⟩ ⟨Nat.le_trans (m := cp_spared_rm.frames) (Nat.le_of_ble_eq_true rfl) hR.1, Nat.le_trans (m := cp_spared_rm.locals) (Nat.le_of_ble_eq_true rfl) hR.2.1⟩ ⟨Nat.le_trans (m := 200) (Nat.le_of_ble_eq_true rfl) hR.2.2.1, Nat.le_trans (m := 1600) (Nat.le_of_ble_eq_true rfl) hR.2.2.2⟩ rfl hl.1 rfl (Nat.le_of_ble_eq_true rfl) dX0_spared_20 (fun locs hL => ?_)
    have hS : va_S A s.heap _ locs := ⟨hS.1, hS.2.1, hL⟩
    refine lv_goto (tgt := 28) hx hb dX0_spared_23 (by decide) ?_
    have h := so_ h
    subst h
    exact W.iret hx hb hr (fun t ht hW => hQ _ _ _ t hM hS ht hW) hS.2.2 dX0_spared_28
theorem cp_spared_met (l : Launch) (Z : CZ) (Y : CY) (C : St) (sz : Nat) (x1 : Int32) (r : (Int32 × St)) (h : cp_spared x1 C = some r) : Met l yX0_spared (ws_ yX0_spared cX0_spared 2 (some .int)) cp_spared_rm (va_Pc [.ref (cSa Z 0), .int x1] (cSx Z Y C sz)) (Qcw (some (.int r.1)) Z (va_A (cWs Z Y C) sz) r.2) 200 1600 (va_A (cWs Z Y C) sz) := by
  refine Met.ofW (cc := cX0_spared) (maxL := 2) (ret := some .int) (by decide) rfl ?_
  intro p e s m args below meth c s₁ B hml hv
  obtain ⟨rfl, ⟨hsz, hv⟩, hE⟩ := hv
  subst hsz
  have hts := atoms_spec (ws := ws_ yX0_spared cX0_spared 2 (some .int)) B.pre
  have hts : ∀ w ∈ lw_all, w.before _ s = true := fun w h => hts w (List.mem_cons_of_mem _ h)
  have X : CCx p s m _ meth c cX0_spared 2 (some .int) RX0 Z := ⟨⟨B.exec, B.bytes, B.returns, B.notSynchronized, hml, findClass_of_methodNamed B.named, hts⟩, hv.2⟩
  have hl := lv_entry [.ref (cSa Z 0), .int x1] (n := 2) (Nat.le_of_ble_eq_true rfl)
  rw [lg_entry_eq]
  generalize (lg_sl [.ref (cSa Z 0), .int x1] ++ List.replicate (2 - (lg_sl [.ref (cSa Z 0), .int x1]).length) Slot.unset).toArray = ls at hl ⊢
  exact cp_spared_w0 X ⟨Nat.le_refl _, Nat.le_refl _, Nat.le_refl _, Nat.le_refl _⟩ (fun q h => Or.inr h) hE (fun Y H locs t hM hS ht hW => ⟨rfl, ⟨Y, by rw [ht]; exact hM, cKs.warm hW X.2⟩, hS.F ht⟩) x1 Y C _ _ ls (cPD.self hv.1) va_S.rf hl h

/-! SecondChances.best()I, on any state -/
def cp_best_rm : Room := { frames := 13, cells := 200, slots := 1600, locals := 315 }
def cp_best (C : St) : Option (Int32 × St) :=
  bd2_ (cp_bestNow C) fun v2 C1 =>
  some (v2, C1)
set_option maxHeartbeats 4000000 in
theorem cp_best_w0 {p : Program} {l : Launch} {e : Env} {R : Room} {s : State} {m : MethodId} {args : Array Value} {below : List Frame} {meth : Method} {c : Code} {Z : CZ} {A : Nat → Prop} {Qc : Array Value → State → Outcome → State → Prop} (X : CCx p s m args meth c cX0_best 1 (some .int) RX0 Z) (hR : cp_best_rm.frames ≤ R.frames ∧ cp_best_rm.locals ≤ R.locals ∧ 200 ≤ R.cells ∧ 1600 ≤ R.slots) (hA : ∀ q, s.heap.size ≤ q → A q) (hE : cE Z A s s.heap) {r : (Int32 × St)} (hQ : ∀ (Y : CY) (H : Heap) (locs : List Loc) (t : State), cPD Z Y A r.2 H → va_S A s.heap H locs → t.heap = H → s.WarmedH t.vm → Qc args s (.returned (some (.int r.1))) t) (Y : CY) (C : St) (H : Heap) (locs : List Loc) (ls : Array Slot) (hM : cPD Z Y A C H) (hS : va_S A s.heap H locs) (hl : lv_has ls 1 [(0, .ref (cSa Z 0))]) (h : cp_best C = some r) : W p l e R s m args below meth c H locs 0 0 (MQ below Qc args s 200 1600 A) (F0 m 0 ls []) := by
  obtain ⟨⟨hx, hb, hr, hlocks, hml, hown, hts⟩, hK⟩ := id X
  unfold cp_best at h
  refine lv_aload_n hx hb dX0_best_0 rfl (lv_at hl 0 rfl) ?_
  obtain ⟨v2, C1, q_C1, h⟩ := bd2_e h
  refine p_callI (As := []) (rest := []) X hM hS hA hE (cp_bestNow_met _ Z _ C _ (v2, C1) q_C1) (lw_V q911 q913 qs38 q79 q914) cf_bestNow_hd ⟨rfl, rfl⟩ ⟨Nat.le_trans (m := cp_best_rm.frames) (Nat.le_of_ble_eq_true rfl) hR.1, Nat.le_trans (m := cp_best_rm.locals) (Nat.le_of_ble_eq_true rfl) hR.2.1⟩ ⟨Nat.le_trans (m := 200) (Nat.le_of_ble_eq_true rfl) hR.2.2.1, Nat.le_trans (m := 1600) (Nat.le_of_ble_eq_true rfl) hR.2.2.2⟩ rfl hl.1 rfl (Nat.le_of_ble_eq_true rfl) dX0_best_1 (fun Y H locs hM hS => ?_)
  refine W.widen (k := 200) (n := 1600) (Nat.le_of_ble_eq_true rfl) (Nat.le_of_ble_eq_true rfl) ?_
  have h := so_ h
  subst h
  exact W.iret hx hb hr (fun t ht hW => hQ _ _ _ t hM hS ht hW) hS.2.2 dX0_best_4
theorem cp_best_met (l : Launch) (Z : CZ) (Y : CY) (C : St) (sz : Nat) (r : (Int32 × St)) (h : cp_best C = some r) : Met l yX0_best (ws_ yX0_best cX0_best 1 (some .int)) cp_best_rm (va_Pc [.ref (cSa Z 0)] (cSx Z Y C sz)) (Qcw (some (.int r.1)) Z (va_A (cWs Z Y C) sz) r.2) 200 1600 (va_A (cWs Z Y C) sz) := by
  refine Met.ofW (cc := cX0_best) (maxL := 1) (ret := some .int) (by decide) rfl ?_
  intro p e s m args below meth c s₁ B hml hv
  obtain ⟨rfl, ⟨hsz, hv⟩, hE⟩ := hv
  subst hsz
  have hts := atoms_spec (ws := ws_ yX0_best cX0_best 1 (some .int)) B.pre
  have hts : ∀ w ∈ lw_all, w.before _ s = true := fun w h => hts w (List.mem_cons_of_mem _ h)
  have X : CCx p s m _ meth c cX0_best 1 (some .int) RX0 Z := ⟨⟨B.exec, B.bytes, B.returns, B.notSynchronized, hml, findClass_of_methodNamed B.named, hts⟩, hv.2⟩
  have hl := lv_entry [.ref (cSa Z 0)] (n := 1) (Nat.le_of_ble_eq_true rfl)
  rw [lg_entry_eq]
  generalize (lg_sl [.ref (cSa Z 0)] ++ List.replicate (1 - (lg_sl [.ref (cSa Z 0)]).length) Slot.unset).toArray = ls at hl ⊢
  exact cp_best_w0 X ⟨Nat.le_refl _, Nat.le_refl _, Nat.le_refl _, Nat.le_refl _⟩ (fun q h => Or.inr h) hE (fun Y H locs t hM hS ht hW => ⟨rfl, ⟨Y, by rw [ht]; exact hM, cKs.warm hW X.2⟩, hS.F ht⟩)  Y C _ _ ls (cPD.self hv.1) va_S.rf hl h

/-! SecondChances.regrets(II)J, on any state -/
def cp_regrets_rm : Room := { frames := 103, cells := 200, slots := 1600, locals := 2371 }
def cp_regrets (x1 : Int32) (x2 : Int32) (C : St) : Option (Int64 × St) :=
  bd_ (cf_in (x1.toInt64) (0 : Int64) (8 : Int64)) fun v1 =>
  if v1 = 0 then (bd_ (cf_no (-2 : Int32)) fun v3 =>
    some (v3, C))
  else (bd_ (cf_isTwo x2) fun v4 =>
    if v4 = 0 then (bd_ (cf_no (-2 : Int32)) fun v6 =>
      some (v6, C))
    else (bd2_ (cp_regretsOf x1 x2 C) fun v8 C7 =>
      some (v8, C7)))
set_option maxHeartbeats 4000000 in
theorem cp_regrets_w0 {p : Program} {l : Launch} {e : Env} {R : Room} {s : State} {m : MethodId} {args : Array Value} {below : List Frame} {meth : Method} {c : Code} {Z : CZ} {A : Nat → Prop} {Qc : Array Value → State → Outcome → State → Prop} (X : CCx p s m args meth c cX0_regrets 3 (some .long) RX0 Z) (hR : cp_regrets_rm.frames ≤ R.frames ∧ cp_regrets_rm.locals ≤ R.locals ∧ 200 ≤ R.cells ∧ 1600 ≤ R.slots) (hA : ∀ q, s.heap.size ≤ q → A q) (hE : cE Z A s s.heap) {r : (Int64 × St)} (hQ : ∀ (Y : CY) (H : Heap) (locs : List Loc) (t : State), cPD Z Y A r.2 H → va_S A s.heap H locs → t.heap = H → s.WarmedH t.vm → Qc args s (.returned (some (.long r.1))) t) (x1 : Int32) (x2 : Int32) (Y : CY) (C : St) (H : Heap) (locs : List Loc) (ls : Array Slot) (hM : cPD Z Y A C H) (hS : va_S A s.heap H locs) (hl : lv_has ls 3 [(0, .ref (cSa Z 0)), (1, .int x1), (2, .int x2)]) (h : cp_regrets x1 x2 C = some r) : W p l e R s m args below meth c H locs 0 0 (MQ below Qc args s 200 1600 A) (F0 m 0 ls []) := by
  obtain ⟨⟨hx, hb, hr, hlocks, hml, hown, hts⟩, hK⟩ := id X
  unfold cp_regrets at h
  refine lv_iload_n hx hb dX0_regrets_0 rfl (lv_at hl 1 rfl) ?_
  refine lv_i2l hx hb dX0_regrets_1 rfl ?_
  refine lv_lconst (v := 0) hx hb dX0_regrets_2 (by decide) ?_
  refine lv_ldc2 (v := 8) hx hb hown (hts _ q920) dX0_regrets_3 ?_
  obtain ⟨v1, q_v1, h⟩ := bd_e h
  refine s_roI (As := [.long (x1.toInt64), .long (0 : Int64), .long (8 : Int64)]) (rest := []) X.1 (cf_in_met _ (x1.toInt64) (0 : Int64) (8 : Int64) v1 q_v1) (lw_S q298 q299 q79 q300) cf_in_hd ⟨rfl, rfl⟩ ⟨Nat.le_trans (m := cp_regrets_rm.frames) (Nat.le_of_ble_eq_true rfl) hR.1, Nat.le_trans (m := cp_regrets_rm.locals) (Nat.le_of_ble_eq_true rfl) hR.2.1⟩ ⟨Nat.le_trans (m := 200) (Nat.le_of_ble_eq_true rfl) hR.2.2.1, Nat.le_trans (m := 1600) (Nat.le_of_ble_eq_true rfl) hR.2.2.2⟩ rfl hl.1 rfl (Nat.le_of_ble_eq_true rfl) dX0_regrets_6 ?_
  refine lv_if_eq (tgt := 28) hx hb dX0_regrets_9 (by decide) (fun c2 => ?_) (fun c2 => ?_)
  · have h := ip_ c2 h
    refine lv_bipush (v := -2) hx hb dX0_regrets_28 (by decide) ?_
    obtain ⟨v3, q_v3, h⟩ := bd_e h
    refine s_roJ (As := [.int (-2 : Int32)]) (rest := []) X.1 (cf_no_met _ (-2 : Int32) v3 q_v3) (lw_S q822 q823 q79 q824) cf_no_hd ⟨rfl, rfl⟩ ⟨Nat.le_trans (m := cp_regrets_rm.frames) (Nat.le_of_ble_eq_true rfl) hR.1, Nat.le_trans (m := cp_regrets_rm.locals) (Nat.le_of_ble_eq_true rfl) hR.2.1⟩ ⟨Nat.le_trans (m := 200) (Nat.le_of_ble_eq_true rfl) hR.2.2.1, Nat.le_trans (m := 1600) (Nat.le_of_ble_eq_true rfl) hR.2.2.2⟩ rfl hl.1 rfl (Nat.le_of_ble_eq_true rfl) dX0_regrets_30 ?_
    refine W.widen (k := 200) (n := 1600) (Nat.le_of_ble_eq_true rfl) (Nat.le_of_ble_eq_true rfl) ?_
    have h := so_ h
    subst h
    exact W.lret hx hb hr (fun t ht hW => hQ _ _ _ t hM hS ht hW) hS.2.2 dX0_regrets_33
  · have h := in_ c2 h
    refine lv_iload_n hx hb dX0_regrets_12 rfl (lv_at hl 2 rfl) ?_
    obtain ⟨v4, q_v4, h⟩ := bd_e h
    refine s_roI (As := [.int x2]) (rest := []) X.1 (cf_isTwo_met _ x2 v4 q_v4) (lw_S q311 q312 q79 q313) cf_isTwo_hd ⟨rfl, rfl⟩ ⟨Nat.le_trans (m := cp_regrets_rm.frames) (Nat.le_of_ble_eq_true rfl) hR.1, Nat.le_trans (m := cp_regrets_rm.locals) (Nat.le_of_ble_eq_true rfl) hR.2.1⟩ ⟨Nat.le_trans (m := 200) (Nat.le_of_ble_eq_true rfl) hR.2.2.1, Nat.le_trans (m := 1600) (Nat.le_of_ble_eq_true rfl) hR.2.2.2⟩ rfl hl.1 rfl (Nat.le_of_ble_eq_true rfl) dX0_regrets_13 ?_
    refine lv_if_eq (tgt := 28) hx hb dX0_regrets_16 (by decide) (fun c5 => ?_) (fun c5 => ?_)
    · have h := ip_ c5 h
      refine lv_bipush (v := -2) hx hb dX0_regrets_28 (by decide) ?_
      obtain ⟨v6, q_v6, h⟩ := bd_e h
      refine s_roJ (As := [.int (-2 : Int32)]) (rest := []) X.1 (cf_no_met _ (-2 : Int32) v6 q_v6) (lw_S q822 q823 q79 q824) cf_no_hd ⟨rfl, rfl⟩ ⟨Nat.le_trans (m := cp_regrets_rm.frames) (Nat.le_of_ble_eq_true rfl) hR.1, Nat.le_trans (m := cp_regrets_rm.locals) (Nat.le_of_ble_eq_true rfl) hR.2.1⟩ ⟨Nat.le_trans (m := 200) (Nat.le_of_ble_eq_true rfl) hR.2.2.1, Nat.le_trans (m := 1600) (Nat.le_of_ble_eq_true rfl) hR.2.2.2⟩ rfl hl.1 rfl (Nat.le_of_ble_eq_true rfl) dX0_regrets_30 ?_
      refine W.widen (k := 200) (n := 1600) (Nat.le_of_ble_eq_true rfl) (Nat.le_of_ble_eq_true rfl) ?_
      have h := so_ h
      subst h
      exact W.lret hx hb hr (fun t ht hW => hQ _ _ _ t hM hS ht hW) hS.2.2 dX0_regrets_33
    · have h := in_ c5 h
      refine lv_aload_n hx hb dX0_regrets_19 rfl (lv_at hl 0 rfl) ?_
      refine lv_iload_n hx hb dX0_regrets_20 rfl (lv_at hl 1 rfl) ?_
      refine lv_iload_n hx hb dX0_regrets_21 rfl (lv_at hl 2 rfl) ?_
      obtain ⟨v8, C7, q_C7, h⟩ := bd2_e h
      refine p_callJ (As := [.int x1, .int x2]) (rest := []) X hM hS hA hE (cp_regretsOf_met _ Z _ C _ x1 x2 (v8, C7) q_C7) (lw_V q921 q923 qs39 q79 q924) cf_regretsOf_hd ⟨rfl, rfl⟩ ⟨Nat.le_trans (m := cp_regrets_rm.frames) (Nat.le_of_ble_eq_true rfl) hR.1, Nat.le_trans (m := cp_regrets_rm.locals) (Nat.le_of_ble_eq_true rfl) hR.2.1⟩ ⟨Nat.le_trans (m := 200) (Nat.le_of_ble_eq_true rfl) hR.2.2.1, Nat.le_trans (m := 1600) (Nat.le_of_ble_eq_true rfl) hR.2.2.2⟩ rfl hl.1 rfl (Nat.le_of_ble_eq_true rfl) dX0_regrets_22 (fun Y H locs hM hS => ?_)
      refine W.widen (k := 200) (n := 1600) (Nat.le_of_ble_eq_true rfl) (Nat.le_of_ble_eq_true rfl) ?_
      refine lv_goto (tgt := 33) hx hb dX0_regrets_25 (by decide) ?_
      have h := so_ h
      subst h
      exact W.lret hx hb hr (fun t ht hW => hQ _ _ _ t hM hS ht hW) hS.2.2 dX0_regrets_33
theorem cp_regrets_met (l : Launch) (Z : CZ) (Y : CY) (C : St) (sz : Nat) (x1 : Int32) (x2 : Int32) (r : (Int64 × St)) (h : cp_regrets x1 x2 C = some r) : Met l yX0_regrets (ws_ yX0_regrets cX0_regrets 3 (some .long)) cp_regrets_rm (va_Pc [.ref (cSa Z 0), .int x1, .int x2] (cSx Z Y C sz)) (Qcw (some (.long r.1)) Z (va_A (cWs Z Y C) sz) r.2) 200 1600 (va_A (cWs Z Y C) sz) := by
  refine Met.ofW (cc := cX0_regrets) (maxL := 3) (ret := some .long) (by decide) rfl ?_
  intro p e s m args below meth c s₁ B hml hv
  obtain ⟨rfl, ⟨hsz, hv⟩, hE⟩ := hv
  subst hsz
  have hts := atoms_spec (ws := ws_ yX0_regrets cX0_regrets 3 (some .long)) B.pre
  have hts : ∀ w ∈ lw_all, w.before _ s = true := fun w h => hts w (List.mem_cons_of_mem _ h)
  have X : CCx p s m _ meth c cX0_regrets 3 (some .long) RX0 Z := ⟨⟨B.exec, B.bytes, B.returns, B.notSynchronized, hml, findClass_of_methodNamed B.named, hts⟩, hv.2⟩
  have hl := lv_entry [.ref (cSa Z 0), .int x1, .int x2] (n := 3) (Nat.le_of_ble_eq_true rfl)
  rw [lg_entry_eq]
  generalize (lg_sl [.ref (cSa Z 0), .int x1, .int x2] ++ List.replicate (3 - (lg_sl [.ref (cSa Z 0), .int x1, .int x2]).length) Slot.unset).toArray = ls at hl ⊢
  exact cp_regrets_w0 X ⟨Nat.le_refl _, Nat.le_refl _, Nat.le_refl _, Nat.le_refl _⟩ (fun q h => Or.inr h) hE (fun Y H locs t hM hS ht hW => ⟨rfl, ⟨Y, by rw [ht]; exact hM, cKs.warm hW X.2⟩, hS.F ht⟩) x1 x2 Y C _ _ ls (cPD.self hv.1) va_S.rf hl h

/-! SecondChances.digest()J, on any state -/
def cp_digest_rm : Room := { frames := 103, cells := 200, slots := 1600, locals := 2376 }
def cp_digest (C : St) : Option (Int64 × St) :=
  if (8 : Int32) ≤ (0 : Int32) then (none)
  else (bd2_ (cp_count (0 : Int32) C) fun v3 C2 =>
    cf_digest_b22 (cf_digest_l6 2999) (0 : Int32) v3 ((31 : Int64) * (17 : Int64)) C2)
set_option maxHeartbeats 4000000 in
theorem cp_digest_w0 {p : Program} {l : Launch} {e : Env} {R : Room} {s : State} {m : MethodId} {args : Array Value} {below : List Frame} {meth : Method} {c : Code} {Z : CZ} {A : Nat → Prop} {Qc : Array Value → State → Outcome → State → Prop} (X : CCx p s m args meth c cX0_digest 5 (some .long) RX0 Z) (hR : cp_digest_rm.frames ≤ R.frames ∧ cp_digest_rm.locals ≤ R.locals ∧ 200 ≤ R.cells ∧ 1600 ≤ R.slots) (hA : ∀ q, s.heap.size ≤ q → A q) (hE : cE Z A s s.heap) {r : (Int64 × St)} (hQ : ∀ (Y : CY) (H : Heap) (locs : List Loc) (t : State), cPD Z Y A r.2 H → va_S A s.heap H locs → t.heap = H → s.WarmedH t.vm → Qc args s (.returned (some (.long r.1))) t) (Y : CY) (C : St) (H : Heap) (locs : List Loc) (ls : Array Slot) (hM : cPD Z Y A C H) (hS : va_S A s.heap H locs) (hl : lv_has ls 5 [(0, .ref (cSa Z 0))]) (h : cp_digest C = some r) : W p l e R s m args below meth c H locs 0 0 (MQ below Qc args s 200 1600 A) (F0 m 0 ls []) := by
  obtain ⟨⟨hx, hb, hr, hlocks, hml, hown, hts⟩, hK⟩ := id X
  unfold cp_digest at h
  refine lv_ldc2 (v := 17) hx hb hown (hts _ q1037) dX0_digest_0 ?_
  refine lv_lstore_n (lv' := [(1, .long (17 : Int64)), (0, .ref (cSa Z 0))]) hx hb dX0_digest_3 rfl hl (by decide) rfl (fun ls hl => ?_)
  refine lv_iconst (v := 0) hx hb dX0_digest_4 (by decide) ?_
  refine lv_istore_n (lv' := [(3, .int (0 : Int32)), (1, .long (17 : Int64)), (0, .ref (cSa Z 0))]) hx hb dX0_digest_5 rfl hl (by decide) rfl (fun ls hl => ?_)
  refine lv_iload_n hx hb dX0_digest_6 rfl (lv_at hl 0 rfl) ?_
  refine lv_bipush (v := 8) hx hb dX0_digest_7 (by decide) ?_
  refine lv_icmp_ge (tgt := 31) hx hb dX0_digest_9 (by decide) (fun c1 => ?_) (fun c1 => ?_)
  · have h := ip_ c1 h
    exact no_ h
  · have h := in_ c1 h
    refine lv_ldc2 (v := 31) hx hb hown (hts _ q1038) dX0_digest_12 ?_
    refine lv_lload_n hx hb dX0_digest_15 rfl (lv_at hl 1 rfl) ?_
    refine lv_lmul hx hb dX0_digest_16 ?_
    refine lv_aload_n hx hb dX0_digest_17 rfl (lv_at hl 2 rfl) ?_
    refine lv_iload_n hx hb dX0_digest_18 rfl (lv_at hl 0 rfl) ?_
    obtain ⟨v3, C2, q_C2, h⟩ := bd2_e h
    refine p_callI (As := [.int (0 : Int32)]) (rest := [.long ((31 : Int64) * (17 : Int64))]) X hM hS hA hE (cp_count_met _ Z _ C _ (0 : Int32) (v3, C2) q_C2) (lw_V q1039 q1030 q1031 q79 q1032) cf_count_hd ⟨rfl, rfl⟩ ⟨Nat.le_trans (m := cp_digest_rm.frames) (Nat.le_of_ble_eq_true rfl) hR.1, Nat.le_trans (m := cp_digest_rm.locals) (Nat.le_of_ble_eq_true rfl) hR.2.1⟩ ⟨Nat.le_trans (m := 200) (Nat.le_of_ble_eq_true rfl) hR.2.2.1, Nat.le_trans (m := 1600) (Nat.le_of_ble_eq_true rfl) hR.2.2.2⟩ rfl hl.1 rfl (Nat.le_of_ble_eq_true rfl) dX0_digest_19 (fun Y H locs hM hS => ?_)
    refine W.widen (k := 200) (n := 1600) (Nat.le_of_ble_eq_true rfl) (Nat.le_of_ble_eq_true rfl) ?_
    exact cf_digest_w22 X ⟨Nat.le_trans (m := cp_digest_rm.frames) (Nat.le_of_ble_eq_true rfl) hR.1, Nat.le_trans (m := cp_digest_rm.locals) (Nat.le_of_ble_eq_true rfl) hR.2.1, hR.2.2.1, hR.2.2.2⟩ hA hQ (cf_digest_lw6 X ⟨Nat.le_trans (m := cp_digest_rm.frames) (Nat.le_of_ble_eq_true rfl) hR.1, Nat.le_trans (m := cp_digest_rm.locals) (Nat.le_of_ble_eq_true rfl) hR.2.1, hR.2.2.1, hR.2.2.2⟩ hA hQ 2999) (0 : Int32) v3 ((31 : Int64) * (17 : Int64)) _ C2 _ _ ls hM hS (lv_sub hl [2, 0] rfl) h
theorem cp_digest_met (l : Launch) (Z : CZ) (Y : CY) (C : St) (sz : Nat) (r : (Int64 × St)) (h : cp_digest C = some r) : Met l yX0_digest (ws_ yX0_digest cX0_digest 5 (some .long)) cp_digest_rm (va_Pc [.ref (cSa Z 0)] (cSx Z Y C sz)) (Qcw (some (.long r.1)) Z (va_A (cWs Z Y C) sz) r.2) 200 1600 (va_A (cWs Z Y C) sz) := by
  refine Met.ofW (cc := cX0_digest) (maxL := 5) (ret := some .long) (by decide) rfl ?_
  intro p e s m args below meth c s₁ B hml hv
  obtain ⟨rfl, ⟨hsz, hv⟩, hE⟩ := hv
  subst hsz
  have hts := atoms_spec (ws := ws_ yX0_digest cX0_digest 5 (some .long)) B.pre
  have hts : ∀ w ∈ lw_all, w.before _ s = true := fun w h => hts w (List.mem_cons_of_mem _ h)
  have X : CCx p s m _ meth c cX0_digest 5 (some .long) RX0 Z := ⟨⟨B.exec, B.bytes, B.returns, B.notSynchronized, hml, findClass_of_methodNamed B.named, hts⟩, hv.2⟩
  have hl := lv_entry [.ref (cSa Z 0)] (n := 5) (Nat.le_of_ble_eq_true rfl)
  rw [lg_entry_eq]
  generalize (lg_sl [.ref (cSa Z 0)] ++ List.replicate (5 - (lg_sl [.ref (cSa Z 0)]).length) Slot.unset).toArray = ls at hl ⊢
  exact cp_digest_w0 X ⟨Nat.le_refl _, Nat.le_refl _, Nat.le_refl _, Nat.le_refl _⟩ (fun q h => Or.inr h) hE (fun Y H locs t hM hS ht hW => ⟨rfl, ⟨Y, by rw [ht]; exact hM, cKs.warm hW X.2⟩, hS.F ht⟩)  Y C _ _ ls (cPD.self hv.1) va_S.rf hl h
