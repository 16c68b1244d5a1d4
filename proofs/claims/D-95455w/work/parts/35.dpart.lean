/-! Deeds.part, the side that returns -/
set_option maxRecDepth 100000
def cfD_fin (x1 pl rf : Int32) (C : St) : Option St :=
  bd2_ (cfT_figure 0 1 9 C) fun w C1 => bd2_ (cfD_lp FU 0 C1) fun t C2 => if t = 0 then none else gd_ (cNn C2 0 < 10) <| some (addC C2 0 (ldG x1 pl (if rf = 0 then 0 else 1) w t))
def cfD_part (x1 : Int32) (C : St) : Option St :=
  bd2_ (cfT_figure 0 0 5 C) fun pl C1 => bd2_ (cfT_passes 0 114 C1) fun rf C2 => if rf = 0 then (bd2_ (cfT_passes 0 100 C2) fun q C3 => if q = 0 then none else cfD_fin x1 pl rf C3) else cfD_fin x1 pl rf C2
def cfD_part_rm : Room := { frames := 6, cells := 2, slots := 15, locals := 180 }
def dpS (Z : CZ) (Y : CY) (C : St) (sz : Nat) (U : State) : Prop := cSw Z Y C sz U ∧ emZ Z (va_A (cWs Z Y C) sz) U U.heap ∧ va_Nw (.castable RX8 "java/lang/Object") U
theorem dpS.blind {Z : CZ} {Y : CY} {C : St} {sz : Nat} {av : List Value} : FrameBlind (va_Pc av (dpS Z Y C sz)) := fun a U f mk q => ⟨q.1, (cSw.blind a U f mk ⟨q.1, q.2.1⟩).2, emZ.moved (u := U) (U := U.calling f mk a) (Vm.Alike.refl U.vm) q.2.2.1, va_Nw.same (u := U) (U := U.calling f mk a) rfl rfl q.2.2.2⟩
set_option maxHeartbeats 4000000 in
theorem cfD_finw {p : Program} {l : Launch} {e : Env} {R : Room} {s : State} {m : MethodId} {args : Array Value} {below : List Frame} {meth : Method} {c : Code} {cells slots : Nat} {Qc : Array Value → State → Outcome → State → Prop} {Z : CZ} {A : Nat → Prop} (X : CCx p s m args meth c cX3_part 6 none RX3 Z) (hA : ∀ q, s.heap.size ≤ q → A q) (hE : emZ Z A s s.heap) (hca : va_Nw (.castable RX8 "java/lang/Object") s) (hR : 6 ≤ R.frames ∧ 180 ≤ R.locals ∧ cells + 2 ≤ R.cells ∧ slots + 15 ≤ R.slots) {r : St}
    (hQ : ∀ (Y : CY) (H : Heap) (locs : List Loc) (t : State), cPD Z Y A r H → va_S A s.heap H locs → t.heap = H → s.WarmedH t.vm → Qc args s (.returned none) t)
    (x1 pl rf : Int32) (Y : CY) (C : St) (H : Heap) (locs : List Loc) (ls : Array Slot) (hM : cPD Z Y A C H) (hS : va_S A s.heap H locs) (hl : lv_has ls 6 [(0, .ref (cSa Z 40)), (1, .int x1), (2, .int pl), (3, .int rf)]) (h : cfD_fin x1 pl rf C = some r) :
    W p l e R s m args below meth c H locs cells slots (MQ below Qc args s (cells + 2) (slots + 15) A) (F0 m 32 ls []) := by
  obtain ⟨⟨hx, hb, hr, hlocks, hml, hown, hts⟩, hK⟩ := id X
  unfold cfD_fin at h
  obtain ⟨w, C1, q_C1, h⟩ := bd2_e h
  obtain ⟨t, C2, q_C2, h⟩ := bd2_e h
  refine ld_new X hM hS hA ⟨by omega, by omega⟩ dX3_part_32 (fun v H hL hS => ?_)
  refine lv_dup hx hb dX3_part_35 rfl ?_
  refine lv_iload_n hx hb dX3_part_36 rfl (lv_at hl 1 rfl) ?_
  refine lv_iload_n hx hb dX3_part_37 rfl (lv_at hl 2 rfl) ?_
  refine lv_iload_n hx hb dX3_part_38 rfl (lv_at hl 3 rfl) ?_
  have go : ∀ d : Int32, d = (if rf = 0 then 0 else 1) → W p l e R s m args below meth c H locs (cells + 1) (slots + 5) (MQ below Qc args s (cells + 2) (slots + 15) A) (F0 m 47 ls [.int d, .int pl, .int x1, .ref v, .ref v]) := by
    intro d hd
    refine lv_aload_n hx hb dX3_part_47 rfl (lv_at hl 0 rfl) ?_
    refine lv_iconst (v := 1) hx hb dX3_part_48 (by decide) ?_
    refine lv_bipush (v := 9) hx hb dX3_part_49 (by decide) ?_
    refine w_lm (n := 2) (As := [.int 1, .int 9]) (rest := [.int d, .int pl, .int x1, .ref v, .ref v]) (v := some (.int w)) (owner := RX2) (x := ⟨RX3, "figure", "(II)I"⟩) X hL hS hA (c_recvX0 X hL.1) (cfT_figure_met _ Z _ C _ 0 1 9 (w, C1) q_C1) (lw_U q500 q501 q503 q504 q81 q505) rfl (by decide +kernel) ⟨rfl, rfl⟩ ⟨Nat.le_trans (m := 6) (Nat.le_of_ble_eq_true rfl) hR.1, Nat.le_trans (m := 180) (Nat.le_of_ble_eq_true rfl) hR.2.1⟩ ⟨by omega, by omega⟩ rfl hl.1 rfl (Nat.le_of_ble_eq_true rfl) dX3_part_51 (fun Y H locs hL hS => ?_)
    refine ld_init (rest := [.ref v]) (a := x1) (b := pl) (d := d) (w := w) X hL hS ⟨by omega, by omega⟩ ⟨by omega, by omega⟩ hl.1 rfl (Nat.le_of_ble_eq_true rfl) dX3_part_54 (fun H locs hL hS => ?_)
    refine lv_astore (lv' := [(4, .ref v), (0, .ref (cSa Z 40)), (1, .int x1), (2, .int pl), (3, .int rf)]) hx hb dX3_part_57 hl (by decide) rfl (fun ls hl => ?_)
    refine cfD_lpw (r := (t, C2)) X hA ⟨by omega, by omega, by omega, by omega⟩ (fun Y H locs ls hL hS hl => ?_) FU 0 Y C1 H locs ls hL hS (lv_sub hl [1, 0] rfl) q_C2
    refine lv_aload hx hb dX3_part_125 (lv_at hl 1 rfl) ?_
    refine ld_get X hL dX3_part_127 ?_
    refine lv_if_ne (tgt := 138) hx hb dX3_part_130 (by decide) (fun c5 => ?_) (fun c5 => no_ (ip_ c5 h))
    have h := in_ c5 h
    obtain ⟨b1, h⟩ := gd_e h
    have h := so_ h
    subst h
    subst hd
    refine lv_aload_n hx hb dX3_part_138 rfl (lv_at hl 0 rfl) ?_
    refine gdd5 X hL.1 dX3_part_139 ?_
    refine lv_aload hx hb dX3_part_142 (lv_at hl 1 rfl) ?_
    refine ld_add (rest := []) X hL hS hA hE hca b1 ⟨by omega, by omega⟩ ⟨by omega, by omega⟩ hl.1 rfl (Nat.le_of_ble_eq_true rfl) dX3_part_144 (fun Y H locs hM hS => ?_)
    refine lv_pop hx hb dX3_part_147 rfl ?_
    exact W.vret hx hb hr (fun t ht hW => hQ _ _ _ t hM hS ht hW) hS.2.2 dX3_part_148
  refine lv_if_eq (tgt := 46) hx hb dX3_part_39 (by decide) (fun c5 => ?_) (fun c5 => ?_)
  · refine lv_iconst (v := 0) hx hb dX3_part_46 (by decide) ?_
    exact go 0 (if_pos c5).symm
  · refine lv_iconst (v := 1) hx hb dX3_part_42 (by decide) ?_
    refine lv_goto (tgt := 47) hx hb dX3_part_43 (by decide) ?_
    exact go 1 (if_neg c5).symm
