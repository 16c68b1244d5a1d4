/-! a call of a method that throws a Torn -/
set_option maxRecDepth 100000
section XU
variable {p : Program} {l : Launch} {e : Env} {R : Room} {s : State} {m : MethodId} {args : Array Value} {below : List Frame} {meth : Method} {c : Code} {H : Heap} {locs : List Loc} {cells slots : Nat} {Q : State → Prop}
variable {pc : Nat} {ls : Array Slot} {rest st0 As : List Value} {cc bytes : ByteArray} {nL maxL index n : Nat} {ret ret' : Option FieldType} {own : String} {y : MethodName} {rm : Room} {Z : CZ} {Y : CY} {A : Nat → Prop} {C : St}
theorem x_tx {pl : Int32} {C' : St} {mc ms : Nat} {b : Addr} {Cn owner : String} {x : MethodName} (X : CCx p s m args meth c cc nL ret own Z) (hM : cPD Z Y A C H) (hS : va_S A s.heap H locs) (hA : ∀ q, s.heap.size ≤ q → A q) (hZ : tnUS A s s.heap) (hrc : ∃ cell : Cell, H[b]? = some cell ∧ cell.vm.isStatics = false ∧ s.vm.findClass Cn = some cell.cls)
    (hT : MetX l y (ws_ y bytes maxL ret') rm (va_Pc (.ref b :: As) (txS Z Y C H.size)) (Qtx Z (va_A (cWs Z Y C) H.size) pl C') mc ms (va_A (cWs Z Y C) H.size)) (hq : GoodIn lw_all (va_wsU own index Cn owner x y (ws_ y bytes maxL ret'))) (hyx : y = ⟨owner, x.name, x.desc⟩)
    (hd : owner ≠ "java/lang/invoke/MethodHandle" ∧ owner ≠ "java/lang/invoke/VarHandle" ∧ (parseMethodDescriptor x.desc).map (fun d => d.parameters.length) = some n)
    (hrm : rm.cells = mc ∧ rm.slots = ms) (hR : rm.frames + 1 ≤ R.frames ∧ 8 + (maxL + 11) + rm.locals ≤ R.locals) (hc : cells + mc ≤ R.cells ∧ slots + ms ≤ R.slots) (hn : As.length = n) (hs : ls.size = nL) (hst : st0 = As.reverse ++ .ref b :: rest) (hw : (rest.map fun v => v.category).sum ≤ 8) (hdg : decode cc pc = .ok (.invokevirtual index, 3))
    (kk : ∀ (z : Nat) (Y : CY) (H1 : Heap) (locs1 : List Loc), cPD Z Y A C' H1 → va_S A s.heap H1 locs1 → tnO Z Y C' z pl H1 → WT p l e R s m args below meth c H1 locs1 (cells + mc) (slots + ms) Q z (F0 m pc ls rest)) : W p l e R s m args below meth c H locs cells slots Q (F0 m pc ls st0) := by
  have hfr := w_free hM hS hA
  refine x_callT X.1.fix hT (fun _ _ _ _ h => ?_) (va_cwU n X.1.2.2.2.2.2.2 hq rfl hrm.1 hrm.2 hyx hd hR) ⟨txS.blind, hrc, fun U hU hW => ⟨rfl, ⟨by rw [hU], by rw [hU]; exact hM.weaken (fun _ _ => trivial), cKs.warm hW X.2⟩, ?_, ?_⟩⟩ hn hs hst hw hdg hc (fun z st0 t H1 L h0 ht _ hL hq => ?_)
  · obtain ⟨⟨z, _, h, _⟩, _⟩ := h
    exact ⟨z, h⟩
  · rw [hU]
    exact va_Zq.moved hW.alike ((va_Zq.kept hZ.1 hS.2.1).narrow hfr)
  · rw [hU]
    exact va_Zq.moved hW.alike ((va_Zq.kept hZ.2 hS.2.1).narrow hfr)
  · obtain ⟨⟨w, Y1, ho, hcs, hx⟩, hF⟩ := hq
    cases ho
    refine kk z Y1 H1 (locs ++ L) (by rw [← ht]; exact hcs.1.weaken hfr) ⟨?_, fun q h1 h2 => ?_, fun q hq => ?_⟩ (by rw [← ht]; exact hx)
    · have := hF.1
      rw [h0, ht] at this
      exact Nat.le_trans hS.1 this
    · have := hF.2 q (by rw [h0]; exact Nat.lt_of_lt_of_le h1 hS.1) (fun w => h2 (hfr q w))
      rw [h0, ht] at this
      exact this.trans (hS.2.1 q h1 h2)
    · rcases List.mem_append.mp hq with h | h
      · exact hS.2.2 q h
      · exact hfr _ (hL q h)
end XU
/-! Rules.part, the side that throws -/
def cfR_part_x (C : St) : Option (Int32 × St) := cfT_figure_x 1 0 4 C
def cfR_part_xrm : Room := { frames := 6, cells := 1, slots := 7, locals := 153 }
set_option maxHeartbeats 4000000 in
theorem cfR_part_metx (l : Launch) (Z : CZ) (Y : CY) (C : St) (sz : Nat) (x1 : Int32) (r : (Int32 × St)) (h : cfR_part_x C = some r) : MetX l yX4_part (ws_ yX4_part cX4_part 2 none) cfR_part_xrm (va_Pc [.ref (cSa Z 41), .int x1] (txS Z Y C sz)) (Qtx Z (va_A (cWs Z Y C) sz) r.1 r.2) 1 7 (va_A (cWs Z Y C) sz) := by
  refine MetX.ofW (cc := cX4_part) (maxL := 2) (ret := none) (by decide) rfl ?_
  intro p e s m args below meth c s₁ B hml hv
  obtain ⟨rfl, ⟨hsz, hv⟩, hZ⟩ := hv
  subst hsz
  have hts0 := atoms_spec (ws := ws_ yX4_part cX4_part 2 none) B.pre
  have hout := no_tab B (hts0 _ List.mem_cons_self)
  have hts : ∀ w ∈ lw_all, w.before _ s = true := fun w h => hts0 w (List.mem_cons_of_mem _ h)
  have X : CCx p s m _ meth c cX4_part 2 none RX4 Z := ⟨⟨B.exec, B.bytes, B.returns, B.notSynchronized, hml, findClass_of_methodNamed B.named, hts⟩, hv.2⟩
  have hl := lv_entry [.ref (cSa Z 41), .int x1] (n := 2) (Nat.le_of_ble_eq_true rfl)
  rw [lg_entry_eq]
  generalize (lg_sl [.ref (cSa Z 41), .int x1] ++ List.replicate (2 - (lg_sl [.ref (cSa Z 41), .int x1]).length) Slot.unset).toArray = ls at hl ⊢
  have hl : lv_has ls 2 [(0, .ref (cSa Z 41)), (1, .int x1)] := hl
  obtain ⟨⟨hx, hb, hr, hlocks, hml, hown, -⟩, hK⟩ := id X
  have hM : cPD Z Y (va_A (cWs Z Y C) s.heap.size) C s.heap := cPD.self hv.1
  have hS : va_S (va_A (cWs Z Y C) s.heap.size) s.heap s.heap [] := va_S.rf
  have hA : ∀ q, s.heap.size ≤ q → va_A (cWs Z Y C) s.heap.size q := fun q h => Or.inr h
  unfold cfR_part_x at h
  refine lv_aload_n hx hb dX4_part_0 rfl (lv_at hl 0 rfl) ?_
  refine grr5 X hM dX4_part_1 ?_
  refine lv_iload_n hx hb dX4_part_4 rfl (lv_at hl 1 rfl) ?_
  refine lv_aload_n hx hb dX4_part_5 rfl (lv_at hl 0 rfl) ?_
  refine lv_iconst (v := 0) hx hb dX4_part_6 (by decide) ?_
  refine lv_iconst (v := 4) hx hb dX4_part_7 (by decide) ?_
  refine x_tx (As := [.int (0 : Int32), .int (4 : Int32)]) (rest := [.int x1, .ref (cSa Z 44)]) (owner := RX2) (x := ⟨RX4, "figure", "(II)I"⟩) X hM hS hA hZ (c_recvX1 X hM) (cfT_figure_metx _ Z Y C _ 1 (0 : Int32) (4 : Int32) r h) (lw_U q615 q616 q617 q504 q81 q505) rfl (by decide +kernel) ⟨rfl, rfl⟩ ⟨Nat.le_of_ble_eq_true rfl, Nat.le_of_ble_eq_true rfl⟩ ⟨Nat.le_of_ble_eq_true rfl, Nat.le_of_ble_eq_true rfl⟩ rfl hl.1 rfl (Nat.le_of_ble_eq_true rfl) dX4_part_8 (fun z Y1 H1 locs1 hM hS hT => ?_)
  exact WT.leave rfl rfl rfl (hout _) hlocks (fun t ht hW => ⟨⟨z, Y1, rfl, ⟨by rw [ht]; exact hM, cKs.warm hW X.2⟩, by rw [ht]; exact hT⟩, hS.F ht⟩) hS.2.2
