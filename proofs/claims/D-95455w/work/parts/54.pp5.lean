set_option maxRecDepth 100000
/-! SecondChances.lose(I)I, on any state -/
def cp_lose_rm : Room := { frames := 2, cells := 200, slots := 1600, locals := 45 }
def cp_lose (x1 : Int32) (C : St) : Option (Int32 × St) :=
  bd_ (cf_isSheet x1) fun v1 =>
  if v1 = 0 then (some ((-2 : Int32), C))
  else (ix_ 4 x1 fun q3 =>
    if C (60 + q3) 0 = 1 then (ix_ 4 x1 fun q5 =>
      bd_ (cfS_size C q5 ) fun v6 =>
      ix_ 4 x1 fun q7 =>
      lt_ (upd2 C (60 + q7) 0 0) fun C8 =>
      some (v6, C8))
    else (bd2_ (cf_met (1 : Int32) C) fun v10 C9 =>
      some (v10, C9)))
set_option maxHeartbeats 4000000 in
theorem cp_lose_w0 {p : Program} {l : Launch} {e : Env} {R : Room} {s : State} {m : MethodId} {args : Array Value} {below : List Frame} {meth : Method} {c : Code} {Z : CZ} {A : Nat → Prop} {Qc : Array Value → State → Outcome → State → Prop} (X : CCx p s m args meth c cX0_lose 3 (some .int) RX0 Z) (hR : cp_lose_rm.frames ≤ R.frames ∧ cp_lose_rm.locals ≤ R.locals ∧ 200 ≤ R.cells ∧ 1600 ≤ R.slots) (hA : ∀ q, s.heap.size ≤ q → A q) (hE : cE Z A s s.heap) {r : (Int32 × St)} (hQ : ∀ (Y : CY) (H : Heap) (locs : List Loc) (t : State), cPD Z Y A r.2 H → va_S A s.heap H locs → t.heap = H → s.WarmedH t.vm → Qc args s (.returned (some (.int r.1))) t) (x1 : Int32) (Y : CY) (C : St) (H : Heap) (locs : List Loc) (ls : Array Slot) (hM : cPD Z Y A C H) (hS : va_S A s.heap H locs) (hl : lv_has ls 3 [(0, .ref (cSa Z 0)), (1, .int x1)]) (h : cp_lose x1 C = some r) : W p l e R s m args below meth c H locs 0 0 (MQ below Qc args s 200 1600 A) (F0 m 0 ls []) := by
  obtain ⟨⟨hx, hb, hr, hlocks, hml, hown, hts⟩, hK⟩ := id X
  unfold cp_lose at h
  refine lv_iload_n hx hb dX0_lose_0 rfl (lv_at hl 1 rfl) ?_
  obtain ⟨v1, q_v1, h⟩ := bd_e h
  refine s_roI (As := [.int x1]) (rest := []) X.1 (cf_isSheet_met _ x1 v1 q_v1) (lw_S q324 q325 q79 q326) cf_isSheet_hd ⟨rfl, rfl⟩ ⟨Nat.le_trans (m := cp_lose_rm.frames) (Nat.le_of_ble_eq_true rfl) hR.1, Nat.le_trans (m := cp_lose_rm.locals) (Nat.le_of_ble_eq_true rfl) hR.2.1⟩ ⟨Nat.le_trans (m := 200) (Nat.le_of_ble_eq_true rfl) hR.2.2.1, Nat.le_trans (m := 1600) (Nat.le_of_ble_eq_true rfl) hR.2.2.2⟩ rfl hl.1 rfl (Nat.le_of_ble_eq_true rfl) dX0_lose_1 ?_
  refine lv_if_ne (tgt := 10) hx hb dX0_lose_4 (by decide) (fun c2 => ?_) (fun c2 => ?_)
  · have h := in_ c2 h
    refine lv_aload_n hx hb dX0_lose_10 rfl (lv_at hl 0 rfl) ?_
    refine gc19 X hM dX0_lose_11 ?_
    refine lv_iload_n hx hb dX0_lose_14 rfl (lv_at hl 1 rfl) ?_
    obtain ⟨i_q3, b_q3, h⟩ := ix_e h
    refine c_aldH X hM i_q3 dX0_lose_15 (fun q3 e_q3 => ?_)
    have h := h q3 e_q3
    rw [← e_q3] at b_q3
    by_cases c4 : C (60 + q3) 0 = 1
    · have h := ip_ c4 h
      refine gsY X hM b_q3 c4 dX0_lose_16 ?_
      refine lv_ifnonnull (tgt := 28) hx hb dX0_lose_19 (by decide) ?_
      refine lv_aload_n hx hb dX0_lose_28 rfl (lv_at hl 0 rfl) ?_
      refine gc19 X hM dX0_lose_29 ?_
      refine lv_iload_n hx hb dX0_lose_32 rfl (lv_at hl 1 rfl) ?_
      obtain ⟨i_q5, b_q5, h⟩ := ix_e h
      refine c_aldH X hM i_q5 dX0_lose_33 (fun q5 e_q5 => ?_)
      have h := h q5 e_q5
      rw [← e_q5] at b_q5
      obtain ⟨v6, q_v6, h⟩ := bd_e h
      refine f_roI (As := []) (rest := []) X hM (c_recvH (q := q5) X hM b_q5) hS.2.2 (cPD.fr hM) (cfS_size_met _ Z Y A C q5  v6 q_v6) (lw_V q331 q332 q333 q87 q334) cfS_size_hd ⟨rfl, rfl⟩ ⟨Nat.le_trans (m := cp_lose_rm.frames) (Nat.le_of_ble_eq_true rfl) hR.1, Nat.le_trans (m := cp_lose_rm.locals) (Nat.le_of_ble_eq_true rfl) hR.2.1⟩ ⟨Nat.le_trans (m := 200) (Nat.le_of_ble_eq_true rfl) hR.2.2.1, Nat.le_trans (m := 1600) (Nat.le_of_ble_eq_true rfl) hR.2.2.2⟩ rfl hl.1 rfl (Nat.le_of_ble_eq_true rfl) dX0_lose_34 (fun locs hL => ?_)
      have hS : va_S A s.heap _ locs := ⟨hS.1, hS.2.1, hL⟩
      refine lv_istore_n (lv' := [(2, .int v6), (0, .ref (cSa Z 0)), (1, .int x1)]) hx hb dX0_lose_37 rfl hl (by decide) rfl (fun ls hl => ?_)
      refine lv_aload_n hx hb dX0_lose_38 rfl (lv_at hl 1 rfl) ?_
      refine gc19 X hM dX0_lose_39 ?_
      refine lv_iload_n hx hb dX0_lose_42 rfl (lv_at hl 2 rfl) ?_
      obtain ⟨i_q7, b_q7, h⟩ := ix_e h
      refine c_aldH X hM i_q7 dX0_lose_43 (fun q7 e_q7 => ?_)
      have h := h q7 e_q7
      rw [← e_q7] at b_q7
      refine lv_null hx hb dX0_lose_44 ?_
      refine sh_nul X hM hS b_q7 dX0_lose_45 (fun H locs C8 e_C8 hM hS => ?_)
      have h := lt_i h e_C8
      refine lv_iload_n hx hb dX0_lose_48 rfl (lv_at hl 0 rfl) ?_
      refine W.widen (k := 200) (n := 1600) (Nat.le_of_ble_eq_true rfl) (Nat.le_of_ble_eq_true rfl) ?_
      have h := so_ h
      subst h
      exact W.iret hx hb hr (fun t ht hW => hQ _ _ _ t hM hS ht hW) hS.2.2 dX0_lose_49
    · have h := in_ c4 h
      refine gsN X hM b_q3 c4 dX0_lose_16 ?_
      refine lv_ifnonnullN hx hb dX0_lose_19 ?_
      refine lv_aload_n hx hb dX0_lose_22 rfl (lv_at hl 0 rfl) ?_
      refine lv_iconst (v := 1) hx hb dX0_lose_23 (by decide) ?_
      obtain ⟨v10, C9, q_C9, h⟩ := bd2_e h
      refine w_wrI (As := [.int (1 : Int32)]) (rest := []) X hM hS hA (c_recv0 X hM) (cf_met_met _ Z _ C _ (1 : Int32) (v10, C9) q_C9) (lw_V q327 q329 qs0 q79 q330) cf_met_hd ⟨rfl, rfl⟩ ⟨Nat.le_trans (m := cp_lose_rm.frames) (Nat.le_of_ble_eq_true rfl) hR.1, Nat.le_trans (m := cp_lose_rm.locals) (Nat.le_of_ble_eq_true rfl) hR.2.1⟩ ⟨Nat.le_trans (m := 200) (Nat.le_of_ble_eq_true rfl) hR.2.2.1, Nat.le_trans (m := 1600) (Nat.le_of_ble_eq_true rfl) hR.2.2.2⟩ rfl hl.1 rfl (Nat.le_of_ble_eq_true rfl) dX0_lose_24 (fun Y H locs hM hS => ?_)
      refine W.widen (k := 200) (n := 1600) (Nat.le_of_ble_eq_true rfl) (Nat.le_of_ble_eq_true rfl) ?_
      have h := so_ h
      subst h
      exact W.iret hx hb hr (fun t ht hW => hQ _ _ _ t hM hS ht hW) hS.2.2 dX0_lose_27
  · have h := ip_ c2 h
    refine lv_bipush (v := -2) hx hb dX0_lose_7 (by decide) ?_
    refine W.widen (k := 200) (n := 1600) (Nat.le_of_ble_eq_true rfl) (Nat.le_of_ble_eq_true rfl) ?_
    have h := so_ h
    subst h
    exact W.iret hx hb hr (fun t ht hW => hQ _ _ _ t hM hS ht hW) hS.2.2 dX0_lose_9
theorem cp_lose_met (l : Launch) (Z : CZ) (Y : CY) (C : St) (sz : Nat) (x1 : Int32) (r : (Int32 × St)) (h : cp_lose x1 C = some r) : Met l yX0_lose (ws_ yX0_lose cX0_lose 3 (some .int)) cp_lose_rm (va_Pc [.ref (cSa Z 0), .int x1] (cSx Z Y C sz)) (Qcw (some (.int r.1)) Z (va_A (cWs Z Y C) sz) r.2) 200 1600 (va_A (cWs Z Y C) sz) := by
  refine Met.ofW (cc := cX0_lose) (maxL := 3) (ret := some .int) (by decide) rfl ?_
  intro p e s m args below meth c s₁ B hml hv
  obtain ⟨rfl, ⟨hsz, hv⟩, hE⟩ := hv
  subst hsz
  have hts := atoms_spec (ws := ws_ yX0_lose cX0_lose 3 (some .int)) B.pre
  have hts : ∀ w ∈ lw_all, w.before _ s = true := fun w h => hts w (List.mem_cons_of_mem _ h)
  have X : CCx p s m _ meth c cX0_lose 3 (some .int) RX0 Z := ⟨⟨B.exec, B.bytes, B.returns, B.notSynchronized, hml, findClass_of_methodNamed B.named, hts⟩, hv.2⟩
  have hl := lv_entry [.ref (cSa Z 0), .int x1] (n := 3) (Nat.le_of_ble_eq_true rfl)
  rw [lg_entry_eq]
  generalize (lg_sl [.ref (cSa Z 0), .int x1] ++ List.replicate (3 - (lg_sl [.ref (cSa Z 0), .int x1]).length) Slot.unset).toArray = ls at hl ⊢
  exact cp_lose_w0 X ⟨Nat.le_refl _, Nat.le_refl _, Nat.le_refl _, Nat.le_refl _⟩ (fun q h => Or.inr h) hE (fun Y H locs t hM hS ht hW => ⟨rfl, ⟨Y, by rw [ht]; exact hM, cKs.warm hW X.2⟩, hS.F ht⟩) x1 Y C _ _ ls (cPD.self hv.1) va_S.rf hl h
