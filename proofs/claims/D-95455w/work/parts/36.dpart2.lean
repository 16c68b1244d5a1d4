/-! Deeds.part: its contract, the side that returns -/
set_option maxRecDepth 100000
theorem cfD_part_hd : yX3_part.cls = RX3 ∧ yX3_part.cls ≠ "java/lang/invoke/MethodHandle" ∧ yX3_part.cls ≠ "java/lang/invoke/VarHandle" ∧ (parseMethodDescriptor yX3_part.desc).map (fun d => d.parameters.length) = some 1 := by decide +kernel
set_option maxHeartbeats 4000000 in
theorem cfD_part_met (l : Launch) (Z : CZ) (Y : CY) (C : St) (sz : Nat) (x1 : Int32) (r : St) (h : cfD_part x1 C = some r) : Met l yX3_part (ws_ yX3_part cX3_part 6 none) cfD_part_rm (va_Pc [.ref (cSa Z 40), .int x1] (dpS Z Y C sz)) (Qcw none Z (va_A (cWs Z Y C) sz) r) 2 15 (va_A (cWs Z Y C) sz) := by
  refine Met.ofW (cc := cX3_part) (maxL := 6) (ret := none) (by decide) rfl ?_
  intro p e s m args below meth c s₁ B hml hv
  obtain ⟨rfl, ⟨hsz, hv⟩, hE, hca⟩ := hv
  subst hsz
  have hts := atoms_spec (ws := ws_ yX3_part cX3_part 6 none) B.pre
  have hts : ∀ w ∈ lw_all, w.before _ s = true := fun w h => hts w (List.mem_cons_of_mem _ h)
  have X : CCx p s m _ meth c cX3_part 6 none RX3 Z := ⟨⟨B.exec, B.bytes, B.returns, B.notSynchronized, hml, findClass_of_methodNamed B.named, hts⟩, hv.2⟩
  have hl := lv_entry [.ref (cSa Z 40), .int x1] (n := 6) (Nat.le_of_ble_eq_true rfl)
  rw [lg_entry_eq]
  generalize (lg_sl [.ref (cSa Z 40), .int x1] ++ List.replicate (6 - (lg_sl [.ref (cSa Z 40), .int x1]).length) Slot.unset).toArray = ls at hl ⊢
  have hl : lv_has ls 6 [(0, .ref (cSa Z 40)), (1, .int x1)] := hl
  obtain ⟨⟨hx, hb, hr, hlocks, hml, hown, -⟩, hK⟩ := id X
  have hM : cPD Z Y (va_A (cWs Z Y C) s.heap.size) C s.heap := cPD.self hv.1
  have hS : va_S (va_A (cWs Z Y C) s.heap.size) s.heap s.heap [] := va_S.rf
  have hA : ∀ q, s.heap.size ≤ q → va_A (cWs Z Y C) s.heap.size q := fun q h => Or.inr h
  unfold cfD_part at h
  obtain ⟨pl, C1, q_C1, h⟩ := bd2_e h
  obtain ⟨rf, C2, q_C2, h⟩ := bd2_e h
  refine lv_aload_n hx hb dX3_part_0 rfl (lv_at hl 0 rfl) ?_
  refine lv_iconst (v := 0) hx hb dX3_part_1 (by decide) ?_
  refine lv_iconst (v := 5) hx hb dX3_part_2 (by decide) ?_
  refine w_wrUI (n := 2) (As := [.int 0, .int 5]) (rest := []) (owner := RX2) (x := ⟨RX3, "figure", "(II)I"⟩) X hM hS hA (c_recvX0 X hM) (cfT_figure_met _ Z _ C _ 0 0 5 (pl, C1) q_C1) (lw_U q500 q501 q503 q504 q81 q505) rfl (by decide +kernel) ⟨rfl, rfl⟩ ⟨Nat.le_of_ble_eq_true rfl, Nat.le_of_ble_eq_true rfl⟩ ⟨Nat.zero_le _, Nat.zero_le _⟩ rfl hl.1 rfl (Nat.le_of_ble_eq_true rfl) dX3_part_3 (fun Y H locs hM hS => ?_)
  refine lv_istore_n (lv' := [(2, .int pl), (0, .ref (cSa Z 40)), (1, .int x1)]) hx hb dX3_part_6 rfl hl (by decide) rfl (fun ls hl => ?_)
  refine lv_aload_n hx hb dX3_part_7 rfl (lv_at hl 1 rfl) ?_
  refine lv_bipush (v := 114) hx hb dX3_part_8 (by decide) ?_
  refine w_wrUI (n := 1) (As := [.int 114]) (rest := []) (owner := RX2) (x := ⟨RX3, "passes", "(I)Z"⟩) X hM hS hA (c_recvX0 X hM) (cfT_passes_met _ Z _ C1 _ 0 114 (rf, C2) q_C2) (lw_U q507 q508 q510 q511 q81 q512) rfl (by decide +kernel) ⟨rfl, rfl⟩ ⟨Nat.le_of_ble_eq_true rfl, Nat.le_of_ble_eq_true rfl⟩ ⟨Nat.zero_le _, Nat.zero_le _⟩ rfl hl.1 rfl (Nat.le_of_ble_eq_true rfl) dX3_part_10 (fun Y H locs hM hS => ?_)
  refine lv_istore_n (lv' := [(3, .int rf), (2, .int pl), (0, .ref (cSa Z 40)), (1, .int x1)]) hx hb dX3_part_13 rfl hl (by decide) rfl (fun ls hl => ?_)
  refine lv_iload_n hx hb dX3_part_14 rfl (lv_at hl 0 rfl) ?_
  refine lv_if_ne (tgt := 32) hx hb dX3_part_15 (by decide) (fun c5 => ?_) (fun c5 => ?_)
  · have h := in_ c5 h
    exact cfD_finw (cells := 0) (slots := 0) X hA hE hca ⟨Nat.le_of_ble_eq_true rfl, Nat.le_of_ble_eq_true rfl, Nat.le_of_ble_eq_true rfl, Nat.le_of_ble_eq_true rfl⟩ (fun Y H locs t hM hS ht hW => ⟨rfl, ⟨Y, by rw [ht]; exact hM, cKs.warm hW X.2⟩, hS.F ht⟩) x1 pl rf _ C2 _ _ ls hM hS (lv_sub hl [2, 3, 1, 0] rfl) h
  · have h := ip_ c5 h
    obtain ⟨q, C3, q_C3, h⟩ := bd2_e h
    refine lv_aload_n hx hb dX3_part_18 rfl (lv_at hl 2 rfl) ?_
    refine lv_bipush (v := 100) hx hb dX3_part_19 (by decide) ?_
    refine w_wrUI (n := 1) (As := [.int 100]) (rest := []) (owner := RX2) (x := ⟨RX3, "passes", "(I)Z"⟩) X hM hS hA (c_recvX0 X hM) (cfT_passes_met _ Z _ C2 _ 0 100 (q, C3) q_C3) (lw_U q507 q508 q510 q511 q81 q512) rfl (by decide +kernel) ⟨rfl, rfl⟩ ⟨Nat.le_of_ble_eq_true rfl, Nat.le_of_ble_eq_true rfl⟩ ⟨Nat.zero_le _, Nat.zero_le _⟩ rfl hl.1 rfl (Nat.le_of_ble_eq_true rfl) dX3_part_21 (fun Y H locs hM hS => ?_)
    refine lv_if_ne (tgt := 32) hx hb dX3_part_24 (by decide) (fun c6 => ?_) (fun c6 => no_ (ip_ c6 h))
    have h := in_ c6 h
    exact cfD_finw (cells := 0) (slots := 0) X hA hE hca ⟨Nat.le_of_ble_eq_true rfl, Nat.le_of_ble_eq_true rfl, Nat.le_of_ble_eq_true rfl, Nat.le_of_ble_eq_true rfl⟩ (fun Y H locs t hM hS ht hW => ⟨rfl, ⟨Y, by rw [ht]; exact hM, cKs.warm hW X.2⟩, hS.F ht⟩) x1 pl rf _ C3 _ _ ls hM hS (lv_sub hl [2, 3, 1, 0] rfl) h
