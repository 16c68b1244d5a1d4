/-! methods that throw a Torn -/
set_option maxRecDepth 100000
theorem no_tab {p : Program} {l : Launch} {y : MethodName} {S : Spec} {cc : ByteArray} {maxL : Nat} {ret : Option FieldType} {e : Env} {s : State} {m : MethodId} {args : Array Value} {below : List Frame} {meth : Method} {c : Code} {s₁ : State} (B : BodyLoose p l y S cc maxL ret e s m args below meth c s₁) (hw : (Cond.code y cc maxL ret).before args s = true) (pc : Nat) : ∀ z ∈ c.exceptionTable.toList, covers z pc = false := by
  obtain ⟨meth', c', h1, h2, -, -, -, -, h7, -⟩ := Cond.code_spec B.named hw
  have h := B.here.code
  rw [B.state] at h
  have h' : s.code? m = some c := h
  have h3 : s.code? m = some c' := by
    rw [State.code?_eq, h1]
    exact h2
  cases h3.symm.trans h'
  intro z hz
  rw [Array.isEmpty_iff] at h7
  rw [h7] at hz
  cases hz
def txS (Z : CZ) (Y : CY) (C : St) (sz : Nat) (U : State) : Prop := cSw Z Y C sz U ∧ tnUS (va_A (cWs Z Y C) sz) U U.heap
theorem txS.blind {Z : CZ} {Y : CY} {C : St} {sz : Nat} {av : List Value} : FrameBlind (va_Pc av (txS Z Y C sz)) := fun a U g mk q => ⟨q.1, (cSw.blind a U g mk ⟨q.1, q.2.1⟩).2, va_Zq.same (u := U) (U := U.calling g mk a) rfl q.2.2.1, va_Zq.same (u := U) (U := U.calling g mk a) rfl q.2.2.2⟩
/-- a Torn, apart from the world -/
def tnO (Z : CZ) (Y : CY) (C : St) (x : Nat) (pl : Int32) (H : Heap) : Prop := tnX Z x pl H ∧ ∀ k, k ∈ cHs Y C → cAr Z Y k ≠ x
def Qtx (Z : CZ) (A : Nat → Prop) (pl : Int32) (C : St) : Array Value → State → Outcome → State → Prop := fun _ st o t => (∃ (x : Nat) (Y : CY), o = .threw x ∧ cS Z Y A C t ∧ tnO Z Y C x pl t.heap) ∧ va_F A st t
section XT
variable {p : Program} {l : Launch} {e : Env} {R : Room} {s : State} {m : MethodId} {args : Array Value} {below : List Frame} {meth : Method} {c : Code} {H : Heap} {locs : List Loc} {cells slots : Nat} {Q : State → Prop}
variable {pc : Nat} {ls : Array Slot} {rest st0 : List Value} {cc : ByteArray} {nL index : Nat} {ret : Option FieldType} {own : String} {Z : CZ} {Y : CY} {A : Nat → Prop} {C : St}
theorem x_torn {q : Nat} {b : Addr} {Cn : String} {x : MethodName} (X : CCx p s m args meth c cc nL ret own Z) (hM : cPD Z Y A C H) (hS : va_S A s.heap H locs) (hA : ∀ q, s.heap.size ≤ q → A q) (hZ : tnUS A s s.heap) (h8 : q < 2) (hbq : b = cSa Z (40 + q)) (hrc : ∃ cell : Cell, H[b]? = some cell ∧ cell.vm.isStatics = false ∧ s.vm.findClass Cn = some cell.cls)
    (hq : GoodIn lw_all (va_wsU own index Cn RX2 x yX2_torn (ws_ yX2_torn cX2_torn 1 (some (.object "SecondChances$Torn"))))) (hyx : yX2_torn = ⟨RX2, x.name, x.desc⟩) (hd : (parseMethodDescriptor x.desc).map (fun d => d.parameters.length) = some 0)
    (hR : cfT_torn_rm.frames + 1 ≤ R.frames ∧ 8 + (1 + 11) + cfT_torn_rm.locals ≤ R.locals) (hc : cells + 1 ≤ R.cells ∧ slots + 7 ≤ R.slots) (hs : ls.size = nL) (hst : st0 = .ref b :: rest) (hw : (rest.map fun v => v.category).sum ≤ 8) (hdg : decode cc pc = .ok (.invokevirtual index, 3))
    (kk : ∀ (z : Nat) (H1 : Heap) (locs1 : List Loc), cPD Z Y A C H1 → va_S A s.heap H1 locs1 → tnO Z Y C z (C (40 + q) 2) H1 → W p l e R s m args below meth c H1 locs1 (cells + 1) (slots + 7) Q (F0 m (pc + 3) ls (.ref z :: rest))) : W p l e R s m args below meth c H locs cells slots Q (F0 m pc ls st0) := by
  subst hbq
  have hup : ∀ q, upA H.size q → A q := fun q h => hA q (Nat.le_trans hS.1 h)
  refine va_callr (va_runU (As := []) (rest := rest) X.1.fix (cfT_torn_met l Z Y C H.size q h8) (va_cwU 0 X.1.2.2.2.2.2.2 hq rfl rfl rfl hyx ⟨by decide, by decide, hd⟩ hR) ⟨tqS.blind, hrc, fun U hU hW => ⟨rfl, ⟨by rw [hU], by rw [hU]; exact hM.weaken (fun _ _ => trivial), cKs.warm hW X.2⟩, ?_, ?_⟩⟩ rfl rfl hs hst (lv_room hw) hdg hc) hS (fun q _ h => hup q h) hup (fun u z t H1 locs1 ht _ _ hB _ hk hS1 => kk z H1 locs1 (hM.kept (fun q hq => hk q hq (fun w => absurd w (Nat.not_le.mpr hq)))) hS1 ⟨by rw [← ht]; exact hB.2, fun k hk e => absurd (cPD_lt hM hk) (by rw [e]; exact Nat.not_lt.mpr hB.1)⟩)
  · rw [hU]
    exact va_Zq.moved hW.alike ((va_Zq.kept hZ.1 hS.2.1).narrow hup)
  · rw [hU]
    exact va_Zq.moved hW.alike ((va_Zq.kept hZ.2 hS.2.1).narrow hup)
end XT
/-! Text.figure, the side that throws -/
def cfT_figure_x (x0 : Nat) (x1 : Int32) (x2 : Int32) (C : St) : Option (Int32 × St) :=
  gd_ (x0 < 2) <|
  bd_ (cfT_here C x0) fun v2 =>
  lt_ (v2 - (48 : Int32)) fun v3 =>
  bd_ (cf_in (v3.toInt64) (x1.toInt64) (x2.toInt64)) fun v4 =>
  if v4 = 0 then some (C (40 + x0) 2, C) else none
def cfT_figure_xrm : Room := { frames := 5, cells := 1, slots := 7, locals := 130 }
set_option maxHeartbeats 4000000 in
theorem cfT_figure_metx (l : Launch) (Z : CZ) (Y : CY) (C : St) (sz : Nat) (x0 : Nat) (x1 : Int32) (x2 : Int32) (r : (Int32 × St)) (h : cfT_figure_x x0 x1 x2 C = some r) : MetX l yX2_figure (ws_ yX2_figure cX2_figure 4 (some .int)) cfT_figure_xrm (va_Pc [.ref (cSa Z (40 + x0)), .int x1, .int x2] (txS Z Y C sz)) (Qtx Z (va_A (cWs Z Y C) sz) r.1 r.2) 1 7 (va_A (cWs Z Y C) sz) := by
  refine MetX.ofW (cc := cX2_figure) (maxL := 4) (ret := some .int) (by decide) rfl ?_
  intro p e s m args below meth c s₁ B hml hv
  obtain ⟨rfl, ⟨hsz, hv⟩, hZ⟩ := hv
  subst hsz
  have hts0 := atoms_spec (ws := ws_ yX2_figure cX2_figure 4 (some .int)) B.pre
  have hout := no_tab B (hts0 _ List.mem_cons_self)
  have hts : ∀ w ∈ lw_all, w.before _ s = true := fun w h => hts0 w (List.mem_cons_of_mem _ h)
  have X : CCx p s m _ meth c cX2_figure 4 (some .int) RX2 Z := ⟨⟨B.exec, B.bytes, B.returns, B.notSynchronized, hml, findClass_of_methodNamed B.named, hts⟩, hv.2⟩
  have hl := lv_entry [.ref (cSa Z (40 + x0)), .int x1, .int x2] (n := 4) (Nat.le_of_ble_eq_true rfl)
  rw [lg_entry_eq]
  generalize (lg_sl [.ref (cSa Z (40 + x0)), .int x1, .int x2] ++ List.replicate (4 - (lg_sl [.ref (cSa Z (40 + x0)), .int x1, .int x2]).length) Slot.unset).toArray = ls at hl ⊢
  have hl : lv_has ls 4 [(0, .ref (cSa Z (40 + x0))), (1, .int x1), (2, .int x2)] := hl
  obtain ⟨⟨hx, hb, hr, hlocks, hml, hown, -⟩, hK⟩ := id X
  have hM : cPD Z Y (va_A (cWs Z Y C) s.heap.size) C s.heap := cPD.self hv.1
  have hS : va_S (va_A (cWs Z Y C) s.heap.size) s.heap s.heap [] := va_S.rf
  have hA : ∀ q, s.heap.size ≤ q → va_A (cWs Z Y C) s.heap.size q := fun q h => Or.inr h
  unfold cfT_figure_x at h
  refine lv_aload_n hx hb dX2_figure_0 rfl (lv_at hl 0 rfl) ?_
  obtain ⟨b1, h⟩ := gd_e h
  obtain ⟨v2, q_v2, h⟩ := bd_e h
  refine f_roXI (As := []) (rest := []) (owner := RX2) (x := ⟨RX2, "here", "()I"⟩) X hM b1 hS.2.2 (cPD.fr hM) (cfT_here_met _ Z Y _ C x0 v2 q_v2) (lw_U q405 q407 q408 q406 q81 q410) (lw_U q405 q407 q409 q406 q81 q410) rfl (by decide +kernel) ⟨rfl, rfl⟩ ⟨Nat.le_of_ble_eq_true rfl, Nat.le_of_ble_eq_true rfl⟩ ⟨Nat.zero_le _, Nat.zero_le _⟩ rfl hl.1 rfl (Nat.le_of_ble_eq_true rfl) dX2_figure_1 (fun locs hL => ?_)
  have hS : va_S (va_A (cWs Z Y C) s.heap.size) s.heap _ locs := ⟨hS.1, hS.2.1, hL⟩
  refine lv_bipush (v := 48) hx hb dX2_figure_4 (by decide) ?_
  refine lv_isub hx hb dX2_figure_6 ?_
  refine lv_topi (fun v3 e_v3 => ?_)
  have h := lt_i h e_v3
  refine lv_istore_n (lv' := [(3, .int v3), (0, .ref (cSa Z (40 + x0))), (1, .int x1), (2, .int x2)]) hx hb dX2_figure_7 rfl hl (by decide) rfl (fun ls hl => ?_)
  refine lv_iload_n hx hb dX2_figure_8 rfl (lv_at hl 0 rfl) ?_
  refine lv_i2l hx hb dX2_figure_9 rfl ?_
  refine lv_iload_n hx hb dX2_figure_10 rfl (lv_at hl 2 rfl) ?_
  refine lv_i2l hx hb dX2_figure_11 rfl ?_
  refine lv_iload_n hx hb dX2_figure_12 rfl (lv_at hl 3 rfl) ?_
  refine lv_i2l hx hb dX2_figure_13 rfl ?_
  obtain ⟨v4, q_v4, h⟩ := bd_e h
  refine s_roNI (As := [.long (v3.toInt64), .long (x1.toInt64), .long (x2.toInt64)]) (rest := []) (host := "SecondChances") X (cf_in_met _ (v3.toInt64) (x1.toInt64) (x2.toInt64) v4 q_v4) (X.2.2 _ (List.mem_of_getElem? (i := 16) rfl)) (lw_meth q300) q299 q79 cf_in_hd ⟨rfl, rfl⟩ ⟨Nat.le_of_ble_eq_true rfl, Nat.le_of_ble_eq_true rfl⟩ ⟨Nat.zero_le _, Nat.zero_le _⟩ rfl hl.1 rfl (Nat.le_of_ble_eq_true rfl) dX2_figure_14 ?_
  refine lv_if_ne (tgt := 25) hx hb dX2_figure_17 (by decide) (fun c5 => ?_) (fun c5 => ?_)
  · exact no_ (in_ c5 h)
  · have h := ip_ c5 h
    have h := so_ h
    subst h
    refine lv_aload_n hx hb dX2_figure_20 rfl (lv_at hl 1 rfl) ?_
    have fin : ∀ (z : Nat) (H1 : Heap) (locs1 : List Loc), cPD Z Y (va_A (cWs Z Y C) s.heap.size) C H1 → va_S (va_A (cWs Z Y C) s.heap.size) s.heap H1 locs1 → tnO Z Y C z (C (40 + x0) 2) H1 → W p l e (headSpec (ws_ yX2_figure cX2_figure 4 (some .int)) cfT_figure_xrm).room s m ([.ref (cSa Z (40 + x0)), .int x1, .int x2] : List Value).toArray below meth c H1 locs1 (0 + 1) (0 + 7) (MQX below (Qtx Z (va_A (cWs Z Y C) s.heap.size) (C (40 + x0) 2) C) ([.ref (cSa Z (40 + x0)), .int x1, .int x2] : List Value).toArray s 1 7 (va_A (cWs Z Y C) s.heap.size)) (F0 m (21 + 3) ls (.ref z :: [])) := fun z H1 locs1 hM hS hT => W.thr hx hb dX2_figure_24 (WT.leave rfl rfl rfl (hout _) hlocks (fun t ht hW => ⟨⟨z, Y, rfl, ⟨by rw [ht]; exact hM, cKs.warm hW X.2⟩, by rw [ht]; exact hT⟩, hS.F ht⟩) hS.2.2)
    match x0, b1 with
    | 0, b1 => exact x_torn (q := 0) (x := ⟨RX2, "torn", "()LSecondChances$Torn;"⟩) X hM hS hA hZ b1 rfl (c_recvX0 X hM) (lw_U q423 q425 q426 q424 q81 q428) rfl (by decide +kernel) ⟨Nat.le_of_ble_eq_true rfl, Nat.le_of_ble_eq_true rfl⟩ ⟨Nat.le_of_ble_eq_true rfl, Nat.le_of_ble_eq_true rfl⟩ hl.1 rfl (Nat.le_of_ble_eq_true rfl) dX2_figure_21 fin
    | 1, b1 => exact x_torn (q := 1) (x := ⟨RX2, "torn", "()LSecondChances$Torn;"⟩) X hM hS hA hZ b1 rfl (c_recvX1 X hM) (lw_U q423 q425 q427 q424 q81 q428) rfl (by decide +kernel) ⟨Nat.le_of_ble_eq_true rfl, Nat.le_of_ble_eq_true rfl⟩ ⟨Nat.le_of_ble_eq_true rfl, Nat.le_of_ble_eq_true rfl⟩ hl.1 rfl (Nat.le_of_ble_eq_true rfl) dX2_figure_21 fin
