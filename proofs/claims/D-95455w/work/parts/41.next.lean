/-! Text.next -/
set_option maxRecDepth 100000
theorem lw_O {own C owner : String} {idx : Nat} {x y : MethodName} {b : ByteArray} {L : Nat} {r : Option FieldType} (h1 : Cond.methodLink own idx x ∈ lw_all) (h2 : Cond.sameMethod x.cls owner x.name x.desc ∈ lw_all) (h0 : Cond.instanceMethod ⟨owner, x.name, x.desc⟩ ∈ lw_all) (h3 : Cond.selects C x y ∈ lw_all) (h4 : Cond.instanceMethod y ∈ lw_all) (h5 : Cond.initialized y.cls ∈ lw_all) (h6 : Cond.code y b L r ∈ lw_all) : GoodIn lw_all (va_wsO own idx C owner x y (ws_ y b L r)) := by
  refine lw_app ?_ (lw_meth h6)
  intro w hw
  simp only [List.mem_cons, List.not_mem_nil, or_false] at hw
  rcases hw with e | e | e | e | e | e
  · rw [e]; exact h1
  · rw [e]; exact h2
  · rw [e]; exact h0
  · rw [e]; exact h3
  · rw [e]; exact h4
  · rw [e]; exact h5
def cfT_hr (C : St) (q : Nat) : Option Int32 := if q = 0 then cfD_hasRoom C else cfT_hasRoom C q
def cfT_pt (q : Nat) (k : Int32) (C : St) : Option St := if q = 0 then cfD_part k C else cfR_part k C
def cfT_ptx (q : Nat) (C : St) : Option (Int32 × St) := if q = 0 then cfD_part_x C else cfR_part_x C
def cfT_cl (q : Nat) (C : St) : Option St := if q = 0 then cfD_clears C else cfR_clears C
section PX
variable {p : Program} {l : Launch} {e : Env} {R : Room} {s : State} {m : MethodId} {args : Array Value} {below : List Frame} {meth : Method} {c : Code} {H : Heap} {locs : List Loc} {cells slots : Nat} {Q : State → Prop}
variable {pc : Nat} {ls : Array Slot} {rest st0 As : List Value} {cc bytes : ByteArray} {nL maxL index n : Nat} {ret ret' : Option FieldType} {own : String} {y : MethodName} {rm : Room} {Z : CZ} {Y : CY} {A : Nat → Prop} {C : St}
theorem st_sx (X : CCx p s m args meth c cc nL ret own Z) (hM : cPD Z Y A C H) (hS : va_S A s.heap H locs) (hA : ∀ q, s.heap.size ≤ q → A q) (hE : cE Z A s s.heap) {U : State} (hU : U.heap = H) (hW : s.WarmedH U.vm) : cSx Z Y C H.size U := ⟨⟨by rw [hU], by rw [hU]; exact hM.weaken (fun _ _ => trivial), cKs.warm hW X.2⟩, by rw [hU]; exact ((hE.kept hS.2.1).narrow (w_free hM hS hA)).moved hW.alike⟩
theorem w_runK {v : Option Value} {C' : St} {mc ms : Nat} {a : Array Value} (hM : cPD Z Y A C H) (hS : va_S A s.heap H locs) (hA : ∀ q, s.heap.size ≤ q → A q) (hr : va_Run p l e R s m args below meth c H locs cells slots mc ms (F0 m pc ls st0) rest (Qcw v Z (va_A (cWs Z Y C) H.size) C' a) (va_A (cWs Z Y C) H.size))
    (kk : ∀ (Y' : CY) (H1 : Heap) (locs1 : List Loc), cPD Z Y' A C' H1 → va_S A s.heap H1 locs1 → (∀ a : Nat, a < H.size → ¬ va_A (cWs Z Y C) H.size a → H1[a]? = H[a]?) → cPD Z Y' (va_A (cWs Z Y C) H.size) C' H1 → W p l e R s m args below meth c H1 locs1 (cells + mc) (slots + ms) Q (F0 m (pc + 3) ls (v.toList ++ rest))) : W p l e R s m args below meth c H locs cells slots Q (F0 m pc ls st0) :=
  c_wr hr hS (fun q _ h => w_free hM hS hA q h) (fun q h => w_free hM hS hA q h) (fun t H1 locs1 ht _ hB _ hk hS1 => by
    obtain ⟨Y1, hB⟩ := hB
    have hB1 : cPD Z Y1 (va_A (cWs Z Y C) H.size) C' H1 := by rw [← ht]; exact hB.1
    exact kk Y1 H1 locs1 (hB1.weaken (w_free hM hS hA)) hS1 hk hB1)
theorem w_run {v : Option Value} {C' : St} {mc ms : Nat} {a : Array Value} (hM : cPD Z Y A C H) (hS : va_S A s.heap H locs) (hA : ∀ q, s.heap.size ≤ q → A q) (hr : va_Run p l e R s m args below meth c H locs cells slots mc ms (F0 m pc ls st0) rest (Qcw v Z (va_A (cWs Z Y C) H.size) C' a) (va_A (cWs Z Y C) H.size))
    (kk : ∀ (Y : CY) (H1 : Heap) (locs1 : List Loc), cPD Z Y A C' H1 → va_S A s.heap H1 locs1 → W p l e R s m args below meth c H1 locs1 (cells + mc) (slots + ms) Q (F0 m (pc + 3) ls (v.toList ++ rest))) : W p l e R s m args below meth c H locs cells slots Q (F0 m pc ls st0) :=
  w_runK hM hS hA hr (fun Y H1 locs1 h1 h2 _ _ => kk Y H1 locs1 h1 h2)
theorem x_txC {S : State → Prop} {pl : Int32} {C' : St} {mc ms : Nat} {b : Addr} {Cn owner : String} {x : MethodName} (X : CCx p s m args meth c cc nL ret own Z) (hM : cPD Z Y A C H) (hS : va_S A s.heap H locs) (hA : ∀ q, s.heap.size ≤ q → A q) (hrc : ∃ cell : Cell, H[b]? = some cell ∧ cell.vm.isStatics = false ∧ s.vm.findClass Cn = some cell.cls)
    (hT : MetX l y (ws_ y bytes maxL ret') rm (va_Pc (.ref b :: As) S) (Qtx Z (va_A (cWs Z Y C) H.size) pl C') mc ms (va_A (cWs Z Y C) H.size)) (hbl : FrameBlind (va_Pc (.ref b :: As) S)) (hSt : ∀ U : State, U.heap = H → s.WarmedH U.vm → S U) (cw : va_CU R s args own Cn owner index x y bytes maxL ret' (ws_ y bytes maxL ret') rm mc ms n)
    (hc : cells + mc ≤ R.cells ∧ slots + ms ≤ R.slots) (hn : As.length = n) (hs : ls.size = nL) (hst : st0 = As.reverse ++ .ref b :: rest) (hw : (rest.map fun v => v.category).sum ≤ 8) (hdg : decode cc pc = .ok (.invokevirtual index, 3))
    (kk : ∀ (z : Nat) (Y : CY) (H1 : Heap) (locs1 : List Loc), cPD Z Y A C' H1 → va_S A s.heap H1 locs1 → tnO Z Y C' z pl H1 → WT p l e R s m args below meth c H1 locs1 (cells + mc) (slots + ms) Q z (F0 m pc ls rest)) : W p l e R s m args below meth c H locs cells slots Q (F0 m pc ls st0) := by
  have hfr := w_free hM hS hA
  refine x_callT X.1.fix hT (fun _ _ _ _ h => ?_) cw ⟨hbl, hrc, fun U hU hW => ⟨rfl, hSt U hU hW⟩⟩ hn hs hst hw hdg hc (fun z st0 t H1 L h0 ht _ hL hq => ?_)
  · obtain ⟨⟨z, _, h, _⟩, _⟩ := h
    exact ⟨z, h⟩
  · obtain ⟨⟨w, Y1, ho, hcs, hx⟩, hF⟩ := hq
    cases ho
    refine kk z Y1 H1 (locs ++ L) (by rw [← ht]; exact hcs.1.weaken hfr) ⟨?_, fun q h1 h2 => ?_, fun q hq => ?_⟩ (by rw [← ht]; exact hx)
    · have := hF.1
      rw [h0, ht] at this
      exact Nat.le_trans hS.1 this
    · have := hF.2 q (by rw [h0]; exact Nat.lt_of_lt_of_le h1 hS.1) (fun w => h2 (hfr q w))
      rw [h0, ht] at this
      exact this.trans (hS.2.1 q h1 h2)
    · rcases List.mem_append.mp hq with h | h
      · exact hS.2.2 q h
      · exact hfr _ (hL q h)
theorem x_tornQ {q : Nat} (X : CCx p s m args meth c cc nL ret RX2 Z) (hM : cPD Z Y A C H) (hS : va_S A s.heap H locs) (hA : ∀ q, s.heap.size ≤ q → A q) (hE : cE Z A s s.heap) (h8 : q < 2) (hR : 5 ≤ R.frames ∧ 130 ≤ R.locals) (hc : cells + 1 ≤ R.cells ∧ slots + 7 ≤ R.slots) (hs : ls.size = nL) (hw : (rest.map fun v => v.category).sum ≤ 8) (hdg : decode cc pc = .ok (.invokevirtual 39, 3))
    (kk : ∀ (z : Nat) (H1 : Heap) (locs1 : List Loc), cPD Z Y A C H1 → va_S A s.heap H1 locs1 → tnO Z Y C z (C (40 + q) 2) H1 → W p l e R s m args below meth c H1 locs1 (cells + 1) (slots + 7) Q (F0 m (pc + 3) ls (.ref z :: rest))) : W p l e R s m args below meth c H locs cells slots Q (F0 m pc ls (.ref (cSa Z (40 + q)) :: rest)) := by
  match q, h8 with
  | 0, b1 => exact x_torn (q := 0) (x := ⟨RX2, "torn", "()LSecondChances$Torn;"⟩) X hM hS hA hE.2.1 b1 rfl (c_recvX0 X hM) (lw_U q423 q425 q426 q424 q81 q428) rfl (by decide +kernel) hR hc hs rfl hw hdg kk
  | 1, b1 => exact x_torn (q := 1) (x := ⟨RX2, "torn", "()LSecondChances$Torn;"⟩) X hM hS hA hE.2.1 b1 rfl (c_recvX1 X hM) (lw_U q423 q425 q427 q424 q81 q428) rfl (by decide +kernel) hR hc hs rfl hw hdg kk
theorem w_hr {q : Nat} {v : Int32} (X : CCx p s m args meth c cc nL ret RX2 Z) (hM : cPD Z Y A C H) (hS : va_S A s.heap H locs) (h8 : q < 2) (h : cfT_hr C q = some v) (hR : 2 ≤ R.frames ∧ 40 ≤ R.locals) (hc : cells ≤ R.cells ∧ slots ≤ R.slots) (hs : ls.size = nL) (hw : (rest.map fun v => v.category).sum ≤ 8) (hdg : decode cc pc = .ok (.invokevirtual 43, 3))
    (kk : ∀ locs1 : List Loc, va_S A s.heap H locs1 → W p l e R s m args below meth c H locs1 cells slots Q (F0 m (pc + 3) ls (.int v :: rest))) : W p l e R s m args below meth c H locs cells slots Q (F0 m pc ls (.ref (cSa Z (40 + q)) :: rest)) := by
  match q, h8 with
  | 0, _ => exact c_rof (va_runU (As := []) (rest := rest) (owner := RX2) (x := ⟨RX2, "hasRoom", "()Z"⟩) X.1.fix (cfD_hasRoom_met l Z Y A C v h) (va_cwO 0 X.1.2.2.2.2.2.2 (lw_O q411 q413 q412 q414 q415 q82 q416) rfl rfl rfl q422 ⟨by decide, by decide, by decide +kernel⟩ hR) ⟨cS.blind, c_recvX0 X hM, fun U hU hW => ⟨rfl, by rw [hU]; exact hM, cKs.warm hW X.2⟩⟩ rfl rfl hs rfl (lv_room hw) hdg hc) hS.2.2 (cPD.fr hM) (fun locs1 hL => kk locs1 ⟨hS.1, hS.2.1, hL⟩)
  | 1, _ => exact f_roUI (As := []) (rest := rest) (owner := RX2) (x := ⟨RX2, "hasRoom", "()Z"⟩) X hM (c_recvX1 X hM) hS.2.2 (cPD.fr hM) (cfT_hasRoom_met _ Z Y A C 1 v h) (lw_U q411 q413 q421 q412 q81 q422) rfl (by decide +kernel) ⟨rfl, rfl⟩ ⟨Nat.le_trans (Nat.le_of_ble_eq_true rfl) hR.1, Nat.le_trans (Nat.le_of_ble_eq_true rfl) hR.2⟩ hc rfl hs rfl hw hdg (fun locs1 hL => kk locs1 ⟨hS.1, hS.2.1, hL⟩)
theorem w_pt {q : Nat} {k : Int32} {C' : St} (X : CCx p s m args meth c cc nL ret RX2 Z) (hM : cPD Z Y A C H) (hS : va_S A s.heap H locs) (hA : ∀ q, s.heap.size ≤ q → A q) (hE : cE Z A s s.heap) (h8 : q < 2) (h : cfT_pt q k C = some C') (hR : 7 ≤ R.frames ∧ 205 ≤ R.locals) (hc : cells + 2 ≤ R.cells ∧ slots + 15 ≤ R.slots) (hs : ls.size = nL) (hw : (rest.map fun v => v.category).sum ≤ 8) (hdg : decode cc pc = .ok (.invokevirtual 47, 3))
    (kk : ∀ (Y : CY) (H1 : Heap) (locs1 : List Loc), cPD Z Y A C' H1 → va_S A s.heap H1 locs1 → W p l e R s m args below meth c H1 locs1 (cells + 2) (slots + 15) Q (F0 m (pc + 3) ls rest)) : W p l e R s m args below meth c H locs cells slots Q (F0 m pc ls (.int k :: .ref (cSa Z (40 + q)) :: rest)) := by
  match q, h8 with
  | 0, _ => exact w_run hM hS hA (va_runU (As := [.int k]) (rest := rest) (owner := RX2) (x := ⟨RX2, "part", "(I)V"⟩) X.1.fix (cfD_part_met l Z Y C H.size k C' h) (va_cwA 1 X.1.2.2.2.2.2.2 (lw_U q494 q496 q497 q498 q82 q499) rfl rfl rfl (hE.nw 8 rfl) ⟨by decide, by decide, by decide +kernel⟩ hR) ⟨dpS.blind, c_recvX0 X hM, fun U hU hW => ⟨rfl, (st_sx X hM hS hA hE hU hW).dp⟩⟩ rfl rfl hs rfl (lv_room hw) hdg hc) kk
  | 1, _ =>
    refine W.widen (k := cells + 2) (n := slots + 15) (Nat.le_add_right _ _) (Nat.le_add_right _ _) ?_
    exact w_run hM hS hA (va_runU (As := [.int k]) (rest := rest) (owner := RX2) (x := ⟨RX2, "part", "(I)V"⟩) X.1.fix (cfR_part_met l Z Y C H.size k C' h) (va_cwA 1 X.1.2.2.2.2.2.2 (lw_U q494 q496 q612 q613 q86 q614) rfl rfl rfl (hE.nw 8 rfl) ⟨by decide, by decide, by decide +kernel⟩ ⟨Nat.le_trans (Nat.le_of_ble_eq_true rfl) hR.1, Nat.le_trans (Nat.le_of_ble_eq_true rfl) hR.2⟩) ⟨cSw.blind, c_recvX1 X hM, fun U hU hW => ⟨rfl, (st_sx X hM hS hA hE hU hW).sw⟩⟩ rfl rfl hs rfl (lv_room hw) hdg hc) kk
theorem w_ptx {q : Nat} {k : Int32} {r : Int32 × St} (X : CCx p s m args meth c cc nL ret RX2 Z) (hM : cPD Z Y A C H) (hS : va_S A s.heap H locs) (hA : ∀ q, s.heap.size ≤ q → A q) (hE : cE Z A s s.heap) (h8 : q < 2) (h : cfT_ptx q C = some r) (hR : 8 ≤ R.frames ∧ 205 ≤ R.locals) (hc : cells + 2 ≤ R.cells ∧ slots + 12 ≤ R.slots) (hs : ls.size = nL) (hw : (rest.map fun v => v.category).sum ≤ 8) (hdg : decode cc pc = .ok (.invokevirtual 47, 3))
    (kk : ∀ (z : Nat) (Y : CY) (H1 : Heap) (locs1 : List Loc), cPD Z Y A r.2 H1 → va_S A s.heap H1 locs1 → tnO Z Y r.2 z r.1 H1 → WT p l e R s m args below meth c H1 locs1 (cells + 2) (slots + 12) Q z (F0 m pc ls rest)) : W p l e R s m args below meth c H locs cells slots Q (F0 m pc ls (.int k :: .ref (cSa Z (40 + q)) :: rest)) := by
  match q, h8 with
  | 0, _ => exact x_txC (As := [.int k]) (rest := rest) (owner := RX2) (x := ⟨RX2, "part", "(I)V"⟩) X hM hS hA (c_recvX0 X hM) (cfD_part_metx l Z Y C H.size k r h) txS.blind (fun U hU hW => (st_sx X hM hS hA hE hU hW).tx) (va_cwA 1 X.1.2.2.2.2.2.2 (lw_U q494 q496 q497 q498 q82 q499) rfl rfl rfl (hE.nw 8 rfl) ⟨by decide, by decide, by decide +kernel⟩ hR) hc rfl hs rfl hw hdg kk
  | 1, _ =>
    refine W.widen (k := cells + 1) (n := slots + 5) (Nat.le_add_right _ _) (Nat.le_add_right _ _) ?_
    exact x_txC (As := [.int k]) (rest := rest) (owner := RX2) (x := ⟨RX2, "part", "(I)V"⟩) X hM hS hA (c_recvX1 X hM) (cfR_part_metx l Z Y C H.size k r h) txS.blind (fun U hU hW => (st_sx X hM hS hA hE hU hW).tx) (va_cwA 1 X.1.2.2.2.2.2.2 (lw_U q494 q496 q612 q613 q86 q614) rfl rfl rfl (hE.nw 8 rfl) ⟨by decide, by decide, by decide +kernel⟩ ⟨Nat.le_trans (Nat.le_of_ble_eq_true rfl) hR.1, Nat.le_trans (Nat.le_of_ble_eq_true rfl) hR.2⟩) hc rfl hs rfl hw hdg kk
theorem w_cl {q : Nat} {C' : St} (X : CCx p s m args meth c cc nL ret RX2 Z) (hM : cPD Z Y A C H) (hS : va_S A s.heap H locs) (hA : ∀ q, s.heap.size ≤ q → A q) (hE : cE Z A s s.heap) (h8 : q < 2) (h : cfT_cl q C = some C') (hR : 2 ≤ R.frames ∧ 43 ≤ R.locals) (hc : cells ≤ R.cells ∧ slots ≤ R.slots) (hs : ls.size = nL) (hw : (rest.map fun v => v.category).sum ≤ 8) (hdg : decode cc pc = .ok (.invokevirtual 50, 3))
    (kk : ∀ (Y' : CY) (H1 : Heap) (locs1 : List Loc), cPD Z Y' A C' H1 → va_S A s.heap H1 locs1 → (∀ a : Nat, a < H.size → ¬ va_A (cWs Z Y C) H.size a → H1[a]? = H[a]?) → W p l e R s m args below meth c H1 locs1 cells slots Q (F0 m (pc + 3) ls rest)) : W p l e R s m args below meth c H locs cells slots Q (F0 m pc ls (.ref (cSa Z (40 + q)) :: rest)) := by
  match q, h8 with
  | 0, _ => exact w_runK hM hS hA (va_runU (As := []) (rest := rest) (owner := RX2) (x := ⟨RX2, "clears", "()V"⟩) X.1.fix (cfD_clears_met l Z Y C H.size C' h) (va_cwA 0 X.1.2.2.2.2.2.2 (lw_U q388 q390 q391 q392 q82 q393) rfl rfl rfl (hE.nw 9 rfl) ⟨by decide, by decide, by decide +kernel⟩ hR) ⟨cSw.blind, c_recvX0 X hM, fun U hU hW => ⟨rfl, (st_sx X hM hS hA hE hU hW).sw⟩⟩ rfl rfl hs rfl (lv_room hw) hdg hc) (fun Y' H1 locs1 h1 h2 h3 _ => kk Y' H1 locs1 h1 h2 h3)
  | 1, _ => exact w_runK hM hS hA (va_runU (As := []) (rest := rest) (owner := RX2) (x := ⟨RX2, "clears", "()V"⟩) X.1.fix (cfR_clears_met l Z Y C H.size C' h) (va_cwA 0 X.1.2.2.2.2.2.2 (lw_U q388 q390 q398 q399 q86 q400) rfl rfl rfl (hE.nw 9 rfl) ⟨by decide, by decide, by decide +kernel⟩ ⟨Nat.le_trans (Nat.le_of_ble_eq_true rfl) hR.1, Nat.le_trans (Nat.le_of_ble_eq_true rfl) hR.2⟩) ⟨cSw.blind, c_recvX1 X hM, fun U hU hW => ⟨rfl, (st_sx X hM hS hA hE hU hW).sw⟩⟩ rfl rfl hs rfl (lv_room hw) hdg hc) (fun Y' H1 locs1 h1 h2 h3 _ => kk Y' H1 locs1 h1 h2 h3)
end PX
def kdOf (b : Int32) : Int32 := if b = 112 then 0 else if b = 114 then 1 else if b = 116 then 2 else if b = 115 then 3 else -1
def cfT_nx (q : Nat) (C : St) : Option St := gd_ (q < 2) <| bd_ (cfT_here C q) fun b => if kdOf b = -1 then none else bd_ (cfT_hr C q) fun r => if r = 0 then none else lt_ (upd2 C (40 + q) 2 (C (40 + q) 2 + 1)) fun C1 => cfT_pt q (kdOf b) C1
def cfT_nxx (q : Nat) (C : St) : Option (Int32 × St) := gd_ (q < 2) <| bd_ (cfT_here C q) fun b => if kdOf b = -1 then some (C (40 + q) 2, C) else bd_ (cfT_hr C q) fun r => if r = 0 then some (C (40 + q) 2, C) else lt_ (upd2 C (40 + q) 2 (C (40 + q) 2 + 1)) fun C1 => cfT_ptx q C1
def cfT_nx_rm : Room := { frames := 7, cells := 2, slots := 15, locals := 205 }
def cfT_nx_xrm : Room := { frames := 8, cells := 2, slots := 12, locals := 205 }
theorem cfT_nx_pre {p : Program} {l : Launch} {e : Env} {R : Room} {s : State} {m : MethodId} {args : Array Value} {below : List Frame} {meth : Method} {c : Code} {H : Heap} {locs : List Loc} {cells slots : Nat} {Q : State → Prop} {ls : Array Slot} {Z : CZ} {Y : CY} {A : Nat → Prop} {C : St} {q : Nat} {b : Int32} (X : CCx p s m args meth c cX2_next 3 none RX2 Z) (hM : cPD Z Y A C H) (hS : va_S A s.heap H locs) (h8 : q < 2) (hq : cfT_here C q = some b) (hR : 2 ≤ R.frames ∧ 40 ≤ R.locals) (hc : cells ≤ R.cells ∧ slots ≤ R.slots) (hl : lv_has ls 3 [(0, .ref (cSa Z (40 + q)))])
    (kk : ∀ (locs : List Loc) (ls : Array Slot), va_S A s.heap H locs → lv_has ls 3 [(2, .int (kdOf b)), (0, .ref (cSa Z (40 + q)))] → W p l e R s m args below meth c H locs cells slots Q (F0 m 47 ls [])) : W p l e R s m args below meth c H locs cells slots Q (F0 m 0 ls []) := by
  obtain ⟨⟨hx, hb, hr, hlocks, hml, hown, hts⟩, hK⟩ := id X
  refine lv_aload_n hx hb dX2_next_0 rfl (lv_at hl 0 rfl) ?_
  refine f_roXI (As := []) (rest := []) (owner := RX2) (x := ⟨RX2, "here", "()I"⟩) X hM h8 hS.2.2 (cPD.fr hM) (cfT_here_met _ Z Y A C q b hq) (lw_U q405 q407 q408 q406 q81 q410) (lw_U q405 q407 q409 q406 q81 q410) rfl (by decide +kernel) ⟨rfl, rfl⟩ ⟨Nat.le_trans (Nat.le_of_ble_eq_true rfl) hR.1, Nat.le_trans (Nat.le_of_ble_eq_true rfl) hR.2⟩ hc rfl hl.1 rfl (Nat.le_of_ble_eq_true rfl) dX2_next_1 (fun locs hL => ?_)
  have hS : va_S A s.heap _ locs := ⟨hS.1, hS.2.1, hL⟩
  refine lv_istore_n (lv' := [(1, .int b), (0, .ref (cSa Z (40 + q)))]) hx hb dX2_next_4 rfl hl (by decide) rfl (fun ls hl => ?_)
  have fin : ∀ k : Int32, k = kdOf b → W p l e R s m args below meth c H locs cells slots Q (F0 m 46 ls [.int k]) := by
    intro k hk
    subst hk
    refine lv_istore_n (lv' := [(2, .int (kdOf b)), (1, .int b), (0, .ref (cSa Z (40 + q)))]) hx hb dX2_next_46 rfl hl (by decide) rfl (fun ls hl => ?_)
    exact kk locs ls hS (lv_sub hl [0, 2] rfl)
  refine lv_iload_n hx hb dX2_next_5 rfl (lv_at hl 0 rfl) ?_
  refine lv_bipush (v := 112) hx hb dX2_next_6 (by decide) ?_
  refine lv_icmp_ne (tgt := 15) hx hb dX2_next_8 (by decide) (fun c1 => ?_) (fun c1 => ?_)
  · refine lv_iload_n hx hb dX2_next_15 rfl (lv_at hl 0 rfl) ?_
    refine lv_bipush (v := 114) hx hb dX2_next_16 (by decide) ?_
    refine lv_icmp_ne (tgt := 25) hx hb dX2_next_18 (by decide) (fun c2 => ?_) (fun c2 => ?_)
    · refine lv_iload_n hx hb dX2_next_25 rfl (lv_at hl 0 rfl) ?_
      refine lv_bipush (v := 116) hx hb dX2_next_26 (by decide) ?_
      refine lv_icmp_ne (tgt := 35) hx hb dX2_next_28 (by decide) (fun c3 => ?_) (fun c3 => ?_)
      · refine lv_iload_n hx hb dX2_next_35 rfl (lv_at hl 0 rfl) ?_
        refine lv_bipush (v := 115) hx hb dX2_next_36 (by decide) ?_
        refine lv_icmp_ne (tgt := 45) hx hb dX2_next_38 (by decide) (fun c4 => ?_) (fun c4 => ?_)
        · refine lv_iconst (v := -1) hx hb dX2_next_45 (by decide) ?_
          exact fin (-1) (by unfold kdOf; rw [if_neg c1, if_neg c2, if_neg c3, if_neg c4])
        · refine lv_iconst (v := 3) hx hb dX2_next_41 (by decide) ?_
          refine lv_goto (tgt := 46) hx hb dX2_next_42 (by decide) ?_
          exact fin 3 (by unfold kdOf; rw [if_neg c1, if_neg c2, if_neg c3, if_pos c4])
      · refine lv_iconst (v := 2) hx hb dX2_next_31 (by decide) ?_
        refine lv_goto (tgt := 46) hx hb dX2_next_32 (by decide) ?_
        exact fin 2 (by unfold kdOf; rw [if_neg c1, if_neg c2, if_pos c3])
    · refine lv_iconst (v := 1) hx hb dX2_next_21 (by decide) ?_
      refine lv_goto (tgt := 46) hx hb dX2_next_22 (by decide) ?_
      exact fin 1 (by unfold kdOf; rw [if_neg c1, if_pos c2])
  · refine lv_iconst (v := 0) hx hb dX2_next_11 (by decide) ?_
    refine lv_goto (tgt := 46) hx hb dX2_next_12 (by decide) ?_
    exact fin 0 (by unfold kdOf; rw [if_pos c1])
set_option maxHeartbeats 4000000 in
theorem cfT_nx_met (l : Launch) (Z : CZ) (Y : CY) (C : St) (sz q : Nat) (r : St) (h : cfT_nx q C = some r) : Met l yX2_next (ws_ yX2_next cX2_next 3 none) cfT_nx_rm (va_Pc [.ref (cSa Z (40 + q))] (cSx Z Y C sz)) (Qcw none Z (va_A (cWs Z Y C) sz) r) 2 15 (va_A (cWs Z Y C) sz) := by
  refine Met.ofW (cc := cX2_next) (maxL := 3) (ret := none) (by decide) rfl ?_
  intro p e s m args below meth c s₁ B hml hv
  obtain ⟨rfl, ⟨hsz, hv⟩, hE⟩ := hv
  subst hsz
  have hts := atoms_spec (ws := ws_ yX2_next cX2_next 3 none) B.pre
  have hts : ∀ w ∈ lw_all, w.before _ s = true := fun w h => hts w (List.mem_cons_of_mem _ h)
  have X : CCx p s m _ meth c cX2_next 3 none RX2 Z := ⟨⟨B.exec, B.bytes, B.returns, B.notSynchronized, hml, findClass_of_methodNamed B.named, hts⟩, hv.2⟩
  have hl := lv_entry [.ref (cSa Z (40 + q))] (n := 3) (Nat.le_of_ble_eq_true rfl)
  rw [lg_entry_eq]
  generalize (lg_sl [.ref (cSa Z (40 + q))] ++ List.replicate (3 - (lg_sl [.ref (cSa Z (40 + q))]).length) Slot.unset).toArray = ls at hl ⊢
  have hl : lv_has ls 3 [(0, .ref (cSa Z (40 + q)))] := hl
  obtain ⟨⟨hx, hb, hr, hlocks, hml, hown, -⟩, hK⟩ := id X
  have hM : cPD Z Y (va_A (cWs Z Y C) s.heap.size) C s.heap := cPD.self hv.1
  have hS : va_S (va_A (cWs Z Y C) s.heap.size) s.heap s.heap [] := va_S.rf
  have hA : ∀ q, s.heap.size ≤ q → va_A (cWs Z Y C) s.heap.size q := fun q h => Or.inr h
  unfold cfT_nx at h
  obtain ⟨h8, h⟩ := gd_e h
  obtain ⟨b, q_b, h⟩ := bd_e h
  refine cfT_nx_pre X hM hS h8 q_b ⟨Nat.le_of_ble_eq_true rfl, Nat.le_of_ble_eq_true rfl⟩ ⟨Nat.zero_le _, Nat.zero_le _⟩ hl (fun locs ls hS hl => ?_)
  refine lv_iload_n hx hb dX2_next_47 rfl (lv_at hl 0 rfl) ?_
  refine lv_iconst (v := -1) hx hb dX2_next_48 (by decide) ?_
  refine lv_icmp_eq (tgt := 59) hx hb dX2_next_49 (by decide) (fun c1 => no_ (ip_ c1 h)) (fun c1 => ?_)
  have h := in_ c1 h
  obtain ⟨v, q_v, h⟩ := bd_e h
  refine lv_aload_n hx hb dX2_next_52 rfl (lv_at hl 1 rfl) ?_
  refine w_hr X hM hS h8 q_v ⟨Nat.le_of_ble_eq_true rfl, Nat.le_of_ble_eq_true rfl⟩ ⟨Nat.zero_le _, Nat.zero_le _⟩ hl.1 (Nat.le_of_ble_eq_true rfl) dX2_next_53 (fun locs hS => ?_)
  refine lv_if_ne (tgt := 64) hx hb dX2_next_56 (by decide) (fun c2 => ?_) (fun c2 => no_ (ip_ c2 h))
  have h := in_ c2 h
  refine lv_aload_n hx hb dX2_next_64 rfl (lv_at hl 1 rfl) ?_
  refine lv_dup hx hb dX2_next_65 rfl ?_
  refine gt2 X hM h8 dX2_next_66 ?_
  refine lv_iconst (v := 1) hx hb dX2_next_69 (by decide) ?_
  refine lv_iadd hx hb dX2_next_70 ?_
  refine pt2 X hM hS h8 dX2_next_71 (fun H locs C1 e_C1 hM hS => ?_)
  have h := lt_i h e_C1
  refine lv_aload_n hx hb dX2_next_74 rfl (lv_at hl 1 rfl) ?_
  refine lv_iload_n hx hb dX2_next_75 rfl (lv_at hl 0 rfl) ?_
  refine w_pt X hM hS hA hE h8 h ⟨Nat.le_of_ble_eq_true rfl, Nat.le_of_ble_eq_true rfl⟩ ⟨Nat.le_of_ble_eq_true rfl, Nat.le_of_ble_eq_true rfl⟩ hl.1 (Nat.le_of_ble_eq_true rfl) dX2_next_76 (fun Y H locs hM hS => ?_)
  exact W.vret hx hb hr (fun t ht hW => ⟨rfl, ⟨Y, by rw [ht]; exact hM, cKs.warm hW X.2⟩, hS.F ht⟩) hS.2.2 dX2_next_79
set_option maxHeartbeats 4000000 in
theorem cfT_nx_metx (l : Launch) (Z : CZ) (Y : CY) (C : St) (sz q : Nat) (r : Int32 × St) (h : cfT_nxx q C = some r) : MetX l yX2_next (ws_ yX2_next cX2_next 3 none) cfT_nx_xrm (va_Pc [.ref (cSa Z (40 + q))] (cSx Z Y C sz)) (Qtx Z (va_A (cWs Z Y C) sz) r.1 r.2) 2 12 (va_A (cWs Z Y C) sz) := by
  refine MetX.ofW (cc := cX2_next) (maxL := 3) (ret := none) (by decide) rfl ?_
  intro p e s m args below meth c s₁ B hml hv
  obtain ⟨rfl, ⟨hsz, hv⟩, hE⟩ := hv
  subst hsz
  have hts0 := atoms_spec (ws := ws_ yX2_next cX2_next 3 none) B.pre
  have hout := no_tab B (hts0 _ List.mem_cons_self)
  have hts : ∀ w ∈ lw_all, w.before _ s = true := fun w h => hts0 w (List.mem_cons_of_mem _ h)
  have X : CCx p s m _ meth c cX2_next 3 none RX2 Z := ⟨⟨B.exec, B.bytes, B.returns, B.notSynchronized, hml, findClass_of_methodNamed B.named, hts⟩, hv.2⟩
  have hl := lv_entry [.ref (cSa Z (40 + q))] (n := 3) (Nat.le_of_ble_eq_true rfl)
  rw [lg_entry_eq]
  generalize (lg_sl [.ref (cSa Z (40 + q))] ++ List.replicate (3 - (lg_sl [.ref (cSa Z (40 + q))]).length) Slot.unset).toArray = ls at hl ⊢
  have hl : lv_has ls 3 [(0, .ref (cSa Z (40 + q)))] := hl
  obtain ⟨⟨hx, hb, hr, hlocks, hml, hown, -⟩, hK⟩ := id X
  have hM : cPD Z Y (va_A (cWs Z Y C) s.heap.size) C s.heap := cPD.self hv.1
  have hS : va_S (va_A (cWs Z Y C) s.heap.size) s.heap s.heap [] := va_S.rf
  have hA : ∀ q, s.heap.size ≤ q → va_A (cWs Z Y C) s.heap.size q := fun q h => Or.inr h
  have hQ : ∀ (Y1 : CY) (H1 : Heap) (locs1 : List Loc) (z : Nat) (t : State), cPD Z Y1 (va_A (cWs Z Y C) s.heap.size) r.2 H1 → va_S (va_A (cWs Z Y C) s.heap.size) s.heap H1 locs1 → tnO Z Y1 r.2 z r.1 H1 → t.heap = H1 → s.WarmedH t.vm → Qtx Z (va_A (cWs Z Y C) s.heap.size) r.1 r.2 ([.ref (cSa Z (40 + q))] : List Value).toArray s (.threw z) t := fun Y1 H1 locs1 z t hM hS hT ht hW => ⟨⟨z, Y1, rfl, ⟨by rw [ht]; exact hM, cKs.warm hW X.2⟩, by rw [ht]; exact hT⟩, hS.F ht⟩
  unfold cfT_nxx at h
  obtain ⟨h8, h⟩ := gd_e h
  obtain ⟨b, q_b, h⟩ := bd_e h
  refine cfT_nx_pre X hM hS h8 q_b ⟨Nat.le_of_ble_eq_true rfl, Nat.le_of_ble_eq_true rfl⟩ ⟨Nat.zero_le _, Nat.zero_le _⟩ hl (fun locs ls hS hl => ?_)
  have tear : ∀ locs : List Loc, va_S (va_A (cWs Z Y C) s.heap.size) s.heap s.heap locs → (C (40 + q) 2, C) = r → W p l e (headSpec (ws_ yX2_next cX2_next 3 none) cfT_nx_xrm).room s m ([.ref (cSa Z (40 + q))] : List Value).toArray below meth c s.heap locs 0 0 (MQX below (Qtx Z (va_A (cWs Z Y C) s.heap.size) r.1 r.2) ([.ref (cSa Z (40 + q))] : List Value).toArray s 2 12 (va_A (cWs Z Y C) s.heap.size)) (F0 m 59 ls []) := by
    intro locs hS e1
    subst e1
    refine W.widen (k := 1) (n := 5) (Nat.zero_le _) (Nat.zero_le _) ?_
    refine lv_aload_n hx hb dX2_next_59 rfl (lv_at hl 1 rfl) ?_
    refine x_tornQ X hM hS hA hE h8 ⟨Nat.le_of_ble_eq_true rfl, Nat.le_of_ble_eq_true rfl⟩ ⟨Nat.le_of_ble_eq_true rfl, Nat.le_of_ble_eq_true rfl⟩ hl.1 (Nat.le_of_ble_eq_true rfl) dX2_next_60 (fun z H1 locs1 hM hS hT => ?_)
    exact W.thr hx hb dX2_next_63 (WT.leave rfl rfl rfl (hout _) hlocks (fun t ht hW => hQ _ H1 locs1 z t hM hS hT ht hW) hS.2.2)
  refine lv_iload_n hx hb dX2_next_47 rfl (lv_at hl 0 rfl) ?_
  refine lv_iconst (v := -1) hx hb dX2_next_48 (by decide) ?_
  refine lv_icmp_eq (tgt := 59) hx hb dX2_next_49 (by decide) (fun c1 => tear locs hS (so_ (ip_ c1 h))) (fun c1 => ?_)
  have h := in_ c1 h
  obtain ⟨v, q_v, h⟩ := bd_e h
  refine lv_aload_n hx hb dX2_next_52 rfl (lv_at hl 1 rfl) ?_
  refine w_hr X hM hS h8 q_v ⟨Nat.le_of_ble_eq_true rfl, Nat.le_of_ble_eq_true rfl⟩ ⟨Nat.zero_le _, Nat.zero_le _⟩ hl.1 (Nat.le_of_ble_eq_true rfl) dX2_next_53 (fun locs hS => ?_)
  refine lv_if_ne (tgt := 64) hx hb dX2_next_56 (by decide) (fun c2 => ?_) (fun c2 => tear locs hS (so_ (ip_ c2 h)))
  have h := in_ c2 h
  refine lv_aload_n hx hb dX2_next_64 rfl (lv_at hl 1 rfl) ?_
  refine lv_dup hx hb dX2_next_65 rfl ?_
  refine gt2 X hM h8 dX2_next_66 ?_
  refine lv_iconst (v := 1) hx hb dX2_next_69 (by decide) ?_
  refine lv_iadd hx hb dX2_next_70 ?_
  refine pt2 X hM hS h8 dX2_next_71 (fun H locs C1 e_C1 hM hS => ?_)
  have h := lt_i h e_C1
  refine lv_aload_n hx hb dX2_next_74 rfl (lv_at hl 1 rfl) ?_
  refine lv_iload_n hx hb dX2_next_75 rfl (lv_at hl 0 rfl) ?_
  refine w_ptx X hM hS hA hE h8 h ⟨Nat.le_of_ble_eq_true rfl, Nat.le_of_ble_eq_true rfl⟩ ⟨Nat.le_of_ble_eq_true rfl, Nat.le_of_ble_eq_true rfl⟩ hl.1 (Nat.le_of_ble_eq_true rfl) dX2_next_76 (fun z Y1 H1 locs1 hM hS hT => ?_)
  exact WT.leave rfl rfl rfl (hout _) hlocks (fun t ht hW => hQ Y1 H1 locs1 z t hM hS hT ht hW) hS.2.2
