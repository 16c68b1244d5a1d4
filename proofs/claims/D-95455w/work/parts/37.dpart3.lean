/-! Deeds.part, the side that throws -/
set_option maxRecDepth 100000
def orE_ {β : Type} (a b : Option β) : Option β := match a with
  | some r => some r
  | none => b
theorem orE_e {β : Type} {a b : Option β} {r : β} (h : orE_ a b = some r) : a = some r ∨ (a = none ∧ b = some r) := by
  cases a with
  | none => exact Or.inr ⟨rfl, h⟩
  | some x => exact Or.inl h
def cfD_finx (C : St) : Option (Int32 × St) :=
  orE_ (cfT_figure_x 0 1 9 C) (bd2_ (cfT_figure 0 1 9 C) fun _ C1 => bd2_ (cfD_lp FU 0 C1) fun t C2 => if t = 0 then some (C2 40 2, C2) else none)
def cfD_part_x (C : St) : Option (Int32 × St) :=
  orE_ (cfT_figure_x 0 0 5 C) (bd2_ (cfT_figure 0 0 5 C) fun _ C1 => bd2_ (cfT_passes 0 114 C1) fun rf C2 => if rf = 0 then (bd2_ (cfT_passes 0 100 C2) fun q C3 => if q = 0 then some (C3 40 2, C3) else cfD_finx C3) else cfD_finx C2)
def cfD_part_xrm : Room := { frames := 7, cells := 2, slots := 12, locals := 180 }
set_option maxHeartbeats 4000000 in
theorem cfD_finxw {p : Program} {l : Launch} {e : Env} {R : Room} {s : State} {m : MethodId} {args : Array Value} {below : List Frame} {meth : Method} {c : Code} {cells slots : Nat} {Qc : Array Value → State → Outcome → State → Prop} {Z : CZ} {A : Nat → Prop} (X : CCx p s m args meth c cX3_part 6 none RX3 Z) (hA : ∀ q, s.heap.size ≤ q → A q) (hZ : tnUS A s s.heap) (hout : ∀ pc : Nat, ∀ z ∈ c.exceptionTable.toList, covers z pc = false) (hR : 7 ≤ R.frames ∧ 180 ≤ R.locals ∧ cells + 2 ≤ R.cells ∧ slots + 12 ≤ R.slots) {r : Int32 × St}
    (hQ : ∀ (Y : CY) (H : Heap) (locs : List Loc) (z : Nat) (t : State), cPD Z Y A r.2 H → va_S A s.heap H locs → tnO Z Y r.2 z r.1 H → t.heap = H → s.WarmedH t.vm → Qc args s (.threw z) t)
    (x1 pl rf : Int32) (Y : CY) (C : St) (H : Heap) (locs : List Loc) (ls : Array Slot) (hM : cPD Z Y A C H) (hS : va_S A s.heap H locs) (hl : lv_has ls 6 [(0, .ref (cSa Z 40)), (1, .int x1), (2, .int pl), (3, .int rf)]) (h : cfD_finx C = some r) :
    W p l e R s m args below meth c H locs cells slots (MQX below Qc args s (cells + 2) (slots + 12) A) (F0 m 32 ls []) := by
  obtain ⟨⟨hx, hb, hr, hlocks, hml, hown, hts⟩, hK⟩ := id X
  unfold cfD_finx at h
  refine ld_new X hM hS hA ⟨by omega, by omega⟩ dX3_part_32 (fun v H hL hS => ?_)
  refine lv_dup hx hb dX3_part_35 rfl ?_
  refine lv_iload_n hx hb dX3_part_36 rfl (lv_at hl 1 rfl) ?_
  refine lv_iload_n hx hb dX3_part_37 rfl (lv_at hl 2 rfl) ?_
  refine lv_iload_n hx hb dX3_part_38 rfl (lv_at hl 3 rfl) ?_
  have go : ∀ d : Int32, W p l e R s m args below meth c H locs (cells + 1) (slots + 5) (MQX below Qc args s (cells + 2) (slots + 12) A) (F0 m 47 ls [.int d, .int pl, .int x1, .ref v, .ref v]) := by
    intro d
    refine lv_aload_n hx hb dX3_part_47 rfl (lv_at hl 0 rfl) ?_
    refine lv_iconst (v := 1) hx hb dX3_part_48 (by decide) ?_
    refine lv_bipush (v := 9) hx hb dX3_part_49 (by decide) ?_
    rcases orE_e h with h | ⟨-, h⟩
    · refine x_tx (n := 2) (As := [.int 1, .int 9]) (rest := [.int d, .int pl, .int x1, .ref v, .ref v]) (owner := RX2) (x := ⟨RX3, "figure", "(II)I"⟩) X hL.1 hS hA hZ (c_recvX0 X hL.1) (cfT_figure_metx _ Z Y C _ 0 1 9 r h) (lw_U q500 q501 q503 q504 q81 q505) rfl (by decide +kernel) ⟨rfl, rfl⟩ ⟨Nat.le_trans (m := 7) (Nat.le_of_ble_eq_true rfl) hR.1, Nat.le_trans (m := 180) (Nat.le_of_ble_eq_true rfl) hR.2.1⟩ ⟨by omega, by omega⟩ rfl hl.1 rfl (Nat.le_of_ble_eq_true rfl) dX3_part_51 (fun z Y1 H1 locs1 hM hS hT => ?_)
      exact WT.leave rfl rfl rfl (hout _) hlocks (fun t ht hW => hQ Y1 H1 locs1 z t hM hS hT ht hW) hS.2.2
    · obtain ⟨w, C1, q_C1, h⟩ := bd2_e h
      obtain ⟨t, C2, q_C2, h⟩ := bd2_e h
      refine w_lm (n := 2) (As := [.int 1, .int 9]) (rest := [.int d, .int pl, .int x1, .ref v, .ref v]) (v := some (.int w)) (owner := RX2) (x := ⟨RX3, "figure", "(II)I"⟩) X hL hS hA (c_recvX0 X hL.1) (cfT_figure_met _ Z _ C _ 0 1 9 (w, C1) q_C1) (lw_U q500 q501 q503 q504 q81 q505) rfl (by decide +kernel) ⟨rfl, rfl⟩ ⟨Nat.le_trans (m := 7) (Nat.le_of_ble_eq_true rfl) hR.1, Nat.le_trans (m := 180) (Nat.le_of_ble_eq_true rfl) hR.2.1⟩ ⟨by omega, by omega⟩ rfl hl.1 rfl (Nat.le_of_ble_eq_true rfl) dX3_part_51 (fun Y H locs hL hS => ?_)
      refine ld_init (rest := [.ref v]) (a := x1) (b := pl) (d := d) (w := w) X hL hS ⟨by omega, by omega⟩ ⟨by omega, by omega⟩ hl.1 rfl (Nat.le_of_ble_eq_true rfl) dX3_part_54 (fun H locs hL hS => ?_)
      refine lv_astore (lv' := [(4, .ref v), (0, .ref (cSa Z 40)), (1, .int x1), (2, .int pl), (3, .int rf)]) hx hb dX3_part_57 hl (by decide) rfl (fun ls hl => ?_)
      refine cfD_lpw (r := (t, C2)) X hA ⟨by omega, by omega, by omega, by omega⟩ (fun Y H locs ls hL hS hl => ?_) FU 0 Y C1 H locs ls hL hS (lv_sub hl [1, 0] rfl) q_C2
      refine lv_aload hx hb dX3_part_125 (lv_at hl 1 rfl) ?_
      refine ld_get X hL dX3_part_127 ?_
      refine lv_if_ne (tgt := 138) hx hb dX3_part_130 (by decide) (fun c5 => no_ (in_ c5 h)) (fun c5 => ?_)
      have h := so_ (ip_ c5 h)
      subst h
      refine lv_aload_n hx hb dX3_part_133 rfl (lv_at hl 0 rfl) ?_
      refine x_torn (q := 0) (rest := []) (x := ⟨RX3, "torn", "()LSecondChances$Torn;"⟩) X hL.1 hS hA hZ (by decide) rfl (c_recvX0 X hL.1) (lw_U q513 q514 q516 q424 q81 q428) rfl (by decide +kernel) ⟨Nat.le_trans (m := 7) (Nat.le_of_ble_eq_true rfl) hR.1, Nat.le_trans (m := 180) (Nat.le_of_ble_eq_true rfl) hR.2.1⟩ ⟨by omega, by omega⟩ hl.1 rfl (Nat.le_of_ble_eq_true rfl) dX3_part_134 (fun z H1 locs1 hM hS hT => ?_)
      exact W.thr hx hb dX3_part_137 (WT.leave rfl rfl rfl (hout _) hlocks (fun t ht hW => hQ _ H1 locs1 z t hM hS hT ht hW) hS.2.2)
  refine lv_if_eq (tgt := 46) hx hb dX3_part_39 (by decide) (fun c5 => ?_) (fun c5 => ?_)
  · refine lv_iconst (v := 0) hx hb dX3_part_46 (by decide) ?_
    exact go 0
  · refine lv_iconst (v := 1) hx hb dX3_part_42 (by decide) ?_
    refine lv_goto (tgt := 47) hx hb dX3_part_43 (by decide) ?_
    exact go 1
