/-! Sheet.item and Sheet.lay, the throwing sides -/
set_option maxRecDepth 100000
def shxR : Room := { frames := 8, cells := 3, slots := 222, locals := 10300 }
theorem cfS_item_cx (l : Launch) (htr : l.stackTraces = false) (Z : CZ) (Y : CY) (C : St) (sz : Nat) (x0 : Nat) (x1 : Int32) (x2 : Int32) (h8 : x0 < 4) (h1 : C (60 + x0) 0 = 1) (hne : cRt (C (60 + x0) 1) ≠ cRt x1) : MetX l yX5_item (ws_ yX5_item cX5_item 3 (some .int)) shxR (va_Pc [.ref (cSa Z (90 + x0)), .int x1, .int x2] (cSx Z Y C sz)) (Qmx "java/lang/ClassCastException") 3 222 (fun _ => False) := by
  refine MetX.ofW (cc := cX5_item) (maxL := 3) (ret := some .int) (by decide) rfl ?_
  intro p e s m args below meth c s₁ B hml hv
  obtain ⟨rfl, ⟨hsz, hv⟩, hE⟩ := hv
  subst hsz
  have hts0 := atoms_spec (ws := ws_ yX5_item cX5_item 3 (some .int)) B.pre
  have hout := no_tab B (hts0 _ List.mem_cons_self)
  have hts : ∀ w ∈ lw_all, w.before _ s = true := fun w h => hts0 w (List.mem_cons_of_mem _ h)
  have X : CCx p s m _ meth c cX5_item 3 (some .int) RX5 Z := ⟨⟨B.exec, B.bytes, B.returns, B.notSynchronized, hml, findClass_of_methodNamed B.named, hts⟩, hv.2⟩
  have hl := lv_entry [.ref (cSa Z (90 + x0)), .int x1, .int x2] (n := 3) (Nat.le_of_ble_eq_true rfl)
  rw [lg_entry_eq]
  generalize (lg_sl [.ref (cSa Z (90 + x0)), .int x1, .int x2] ++ List.replicate (3 - (lg_sl [.ref (cSa Z (90 + x0)), .int x1, .int x2]).length) Slot.unset).toArray = ls at hl ⊢
  have hl : lv_has ls 3 [(0, .ref (cSa Z (90 + x0))), (1, .int x1), (2, .int x2)] := hl
  obtain ⟨⟨hx, hb, hr, hlocks, hml, hown, -⟩, hK⟩ := id X
  have hM : cPD Z Y (va_A (cWs Z Y C) s.heap.size) C s.heap := cPD.self hv.1
  have hR : 8 ≤ (headSpec (ws_ yX5_item cX5_item 3 (some .int)) shxR).room.frames ∧ 10300 ≤ (headSpec (ws_ yX5_item cX5_item 3 (some .int)) shxR).room.locals ∧ 3 ≤ (headSpec (ws_ yX5_item cX5_item 3 (some .int)) shxR).room.cells ∧ 222 ≤ (headSpec (ws_ yX5_item cX5_item 3 (some .int)) shxR).room.slots := ⟨Nat.le_refl _, Nat.le_refl _, Nat.le_refl _, Nat.le_refl _⟩
  refine lv_iload_n hx hb dX5_item_0 rfl (lv_at hl 1 rfl) ?_
  by_cases c1 : x1 = 0
  · refine lv_lookup (off := 27) (tgt := 28) hx hb dX5_item_1 (by decide) (by first | (rw [c1]; done) | (rw [c1]; rfl)) (by decide) ?_
    refine lv_aload_n hx hb dX5_item_28 rfl (lv_at hl 0 rfl) ?_
    refine gs7 X hM h8 h1 dX5_item_29 ?_
    exact sh_cx X hM hE htr hout h8 h1 hne (nm := "[B") (by rw [(show cRt x1 = 2 by rw [c1]; rfl)]; rfl) (hts _ q339) hl.1 hR (Nat.le_of_ble_eq_true rfl) dX5_item_32
  by_cases c6 : x1 = 1
  · refine lv_lookup (off := 37) (tgt := 38) hx hb dX5_item_1 (by decide) (by first | (rw [c6]; done) | (rw [c6]; rfl)) (by decide) ?_
    refine lv_aload_n hx hb dX5_item_38 rfl (lv_at hl 0 rfl) ?_
    refine gs7 X hM h8 h1 dX5_item_39 ?_
    exact sh_cx X hM hE htr hout h8 h1 hne (nm := "[S") (by rw [(show cRt x1 = 3 by rw [c6]; rfl)]; rfl) (hts _ q340) hl.1 hR (Nat.le_of_ble_eq_true rfl) dX5_item_42
  refine lv_lookup (off := 47) (tgt := 48) hx hb dX5_item_1 (by decide) ((lv_osw (a := 0) (o := 27) (d := 47) (r := [(1, 37)]) c1 rfl).trans ((lv_osw (a := 1) (o := 37) (d := 47) (r := []) c6 rfl).trans rfl)) (by decide) ?_
  refine lv_aload_n hx hb dX5_item_48 rfl (lv_at hl 0 rfl) ?_
  refine gs7 X hM h8 h1 dX5_item_49 ?_
  exact sh_cx X hM hE htr hout h8 h1 hne (nm := "[I") (by rw [(show cRt x1 = 0 by unfold cRt; rw [if_neg c1, if_neg c6])]; rfl) (hts _ q341) hl.1 hR (Nat.le_of_ble_eq_true rfl) dX5_item_52
theorem cfS_item_ax (l : Launch) (htr : l.stackTraces = false) (Z : CZ) (Y : CY) (C : St) (sz : Nat) (x0 : Nat) (x1 : Int32) (x2 : Int32) (h8 : x0 < 4) (h1 : C (60 + x0) 0 = 1) (heq : cRt (C (60 + x0) 1) = cRt x1) (hi : ¬ vp_in x2 (C (60 + x0) 2).toNatClampNeg) : MetX l yX5_item (ws_ yX5_item cX5_item 3 (some .int)) shxR (va_Pc [.ref (cSa Z (90 + x0)), .int x1, .int x2] (cSx Z Y C sz)) (Qmx "java/lang/ArrayIndexOutOfBoundsException") 3 222 (fun _ => False) := by
  refine MetX.ofW (cc := cX5_item) (maxL := 3) (ret := some .int) (by decide) rfl ?_
  intro p e s m args below meth c s₁ B hml hv
  obtain ⟨rfl, ⟨hsz, hv⟩, hE⟩ := hv
  subst hsz
  have hts0 := atoms_spec (ws := ws_ yX5_item cX5_item 3 (some .int)) B.pre
  have hout := no_tab B (hts0 _ List.mem_cons_self)
  have hts : ∀ w ∈ lw_all, w.before _ s = true := fun w h => hts0 w (List.mem_cons_of_mem _ h)
  have X : CCx p s m _ meth c cX5_item 3 (some .int) RX5 Z := ⟨⟨B.exec, B.bytes, B.returns, B.notSynchronized, hml, findClass_of_methodNamed B.named, hts⟩, hv.2⟩
  have hl := lv_entry [.ref (cSa Z (90 + x0)), .int x1, .int x2] (n := 3) (Nat.le_of_ble_eq_true rfl)
  rw [lg_entry_eq]
  generalize (lg_sl [.ref (cSa Z (90 + x0)), .int x1, .int x2] ++ List.replicate (3 - (lg_sl [.ref (cSa Z (90 + x0)), .int x1, .int x2]).length) Slot.unset).toArray = ls at hl ⊢
  have hl : lv_has ls 3 [(0, .ref (cSa Z (90 + x0))), (1, .int x1), (2, .int x2)] := hl
  obtain ⟨⟨hx, hb, hr, hlocks, hml, hown, -⟩, hK⟩ := id X
  have hM : cPD Z Y (va_A (cWs Z Y C) s.heap.size) C s.heap := cPD.self hv.1
  have hR : 8 ≤ (headSpec (ws_ yX5_item cX5_item 3 (some .int)) shxR).room.frames ∧ 10300 ≤ (headSpec (ws_ yX5_item cX5_item 3 (some .int)) shxR).room.locals ∧ 3 ≤ (headSpec (ws_ yX5_item cX5_item 3 (some .int)) shxR).room.cells ∧ 222 ≤ (headSpec (ws_ yX5_item cX5_item 3 (some .int)) shxR).room.slots := ⟨Nat.le_refl _, Nat.le_refl _, Nat.le_refl _, Nat.le_refl _⟩
  refine lv_iload_n hx hb dX5_item_0 rfl (lv_at hl 1 rfl) ?_
  by_cases c1 : x1 = 0
  · refine lv_lookup (off := 27) (tgt := 28) hx hb dX5_item_1 (by decide) (by first | (rw [c1]; done) | (rw [c1]; rfl)) (by decide) ?_
    refine lv_aload_n hx hb dX5_item_28 rfl (lv_at hl 0 rfl) ?_
    refine gs7 X hM h8 h1 dX5_item_29 ?_
    have f := heq.trans (show cRt x1 = 2 by rw [c1]; rfl)
    refine sh_cast X hM h8 h1 (nm := "[B") (by rw [f]; rfl) (hts _ q339) dX5_item_32 ?_
    refine lv_iload_n hx hb dX5_item_35 rfl (lv_at hl 2 rfl) ?_
    exact sh_x_baload X hM hE htr hout h8 h1 f hi hl.1 hR (Nat.le_of_ble_eq_true rfl) dX5_item_36
  by_cases c6 : x1 = 1
  · refine lv_lookup (off := 37) (tgt := 38) hx hb dX5_item_1 (by decide) (by first | (rw [c6]; done) | (rw [c6]; rfl)) (by decide) ?_
    refine lv_aload_n hx hb dX5_item_38 rfl (lv_at hl 0 rfl) ?_
    refine gs7 X hM h8 h1 dX5_item_39 ?_
    have f := heq.trans (show cRt x1 = 3 by rw [c6]; rfl)
    refine sh_cast X hM h8 h1 (nm := "[S") (by rw [f]; rfl) (hts _ q340) dX5_item_42 ?_
    refine lv_iload_n hx hb dX5_item_45 rfl (lv_at hl 2 rfl) ?_
    exact sh_x_saload X hM hE htr hout h8 h1 f hi hl.1 hR (Nat.le_of_ble_eq_true rfl) dX5_item_46
  refine lv_lookup (off := 47) (tgt := 48) hx hb dX5_item_1 (by decide) ((lv_osw (a := 0) (o := 27) (d := 47) (r := [(1, 37)]) c1 rfl).trans ((lv_osw (a := 1) (o := 37) (d := 47) (r := []) c6 rfl).trans rfl)) (by decide) ?_
  refine lv_aload_n hx hb dX5_item_48 rfl (lv_at hl 0 rfl) ?_
  refine gs7 X hM h8 h1 dX5_item_49 ?_
  have f := heq.trans (show cRt x1 = 0 by unfold cRt; rw [if_neg c1, if_neg c6])
  refine sh_cast X hM h8 h1 (nm := "[I") (by rw [f]; rfl) (hts _ q341) dX5_item_52 ?_
  refine lv_iload_n hx hb dX5_item_55 rfl (lv_at hl 2 rfl) ?_
  exact sh_x_iaload X hM hE htr hout h8 h1 f hi hl.1 hR (Nat.le_of_ble_eq_true rfl) dX5_item_56
theorem cfS_lay_cx (l : Launch) (htr : l.stackTraces = false) (Z : CZ) (Y : CY) (C : St) (sz : Nat) (x0 : Nat) (x1 : Int32) (x2 : Int32) (x3 : Int32) (h8 : x0 < 4) (h1 : C (60 + x0) 0 = 1) (hne : cRt (C (60 + x0) 1) ≠ cRt x1) : MetX l yX5_lay (ws_ yX5_lay cX5_lay 4 (none)) shxR (va_Pc [.ref (cSa Z (90 + x0)), .int x1, .int x2, .int x3] (cSx Z Y C sz)) (Qmx "java/lang/ClassCastException") 3 222 (fun _ => False) := by
  refine MetX.ofW (cc := cX5_lay) (maxL := 4) (ret := none) (by decide) rfl ?_
  intro p e s m args below meth c s₁ B hml hv
  obtain ⟨rfl, ⟨hsz, hv⟩, hE⟩ := hv
  subst hsz
  have hts0 := atoms_spec (ws := ws_ yX5_lay cX5_lay 4 (none)) B.pre
  have hout := no_tab B (hts0 _ List.mem_cons_self)
  have hts : ∀ w ∈ lw_all, w.before _ s = true := fun w h => hts0 w (List.mem_cons_of_mem _ h)
  have X : CCx p s m _ meth c cX5_lay 4 (none) RX5 Z := ⟨⟨B.exec, B.bytes, B.returns, B.notSynchronized, hml, findClass_of_methodNamed B.named, hts⟩, hv.2⟩
  have hl := lv_entry [.ref (cSa Z (90 + x0)), .int x1, .int x2, .int x3] (n := 4) (Nat.le_of_ble_eq_true rfl)
  rw [lg_entry_eq]
  generalize (lg_sl [.ref (cSa Z (90 + x0)), .int x1, .int x2, .int x3] ++ List.replicate (4 - (lg_sl [.ref (cSa Z (90 + x0)), .int x1, .int x2, .int x3]).length) Slot.unset).toArray = ls at hl ⊢
  have hl : lv_has ls 4 [(0, .ref (cSa Z (90 + x0))), (1, .int x1), (2, .int x2), (3, .int x3)] := hl
  obtain ⟨⟨hx, hb, hr, hlocks, hml, hown, -⟩, hK⟩ := id X
  have hM : cPD Z Y (va_A (cWs Z Y C) s.heap.size) C s.heap := cPD.self hv.1
  have hR : 8 ≤ (headSpec (ws_ yX5_lay cX5_lay 4 (none)) shxR).room.frames ∧ 10300 ≤ (headSpec (ws_ yX5_lay cX5_lay 4 (none)) shxR).room.locals ∧ 3 ≤ (headSpec (ws_ yX5_lay cX5_lay 4 (none)) shxR).room.cells ∧ 222 ≤ (headSpec (ws_ yX5_lay cX5_lay 4 (none)) shxR).room.slots := ⟨Nat.le_refl _, Nat.le_refl _, Nat.le_refl _, Nat.le_refl _⟩
  refine lv_iload_n hx hb dX5_lay_0 rfl (lv_at hl 1 rfl) ?_
  by_cases c1 : x1 = 0
  · refine lv_lookup (off := 27) (tgt := 28) hx hb dX5_lay_1 (by decide) (by first | (rw [c1]; done) | (rw [c1]; rfl)) (by decide) ?_
    refine lv_aload_n hx hb dX5_lay_28 rfl (lv_at hl 0 rfl) ?_
    refine gs7 X hM h8 h1 dX5_lay_29 ?_
    exact sh_cx X hM hE htr hout h8 h1 hne (nm := "[B") (by rw [(show cRt x1 = 2 by rw [c1]; rfl)]; rfl) (hts _ q339) hl.1 hR (Nat.le_of_ble_eq_true rfl) dX5_lay_32
  by_cases c6 : x1 = 1
  · refine lv_lookup (off := 41) (tgt := 42) hx hb dX5_lay_1 (by decide) (by first | (rw [c6]; done) | (rw [c6]; rfl)) (by decide) ?_
    refine lv_aload_n hx hb dX5_lay_42 rfl (lv_at hl 0 rfl) ?_
    refine gs7 X hM h8 h1 dX5_lay_43 ?_
    exact sh_cx X hM hE htr hout h8 h1 hne (nm := "[S") (by rw [(show cRt x1 = 3 by rw [c6]; rfl)]; rfl) (hts _ q340) hl.1 hR (Nat.le_of_ble_eq_true rfl) dX5_lay_46
  refine lv_lookup (off := 55) (tgt := 56) hx hb dX5_lay_1 (by decide) ((lv_osw (a := 0) (o := 27) (d := 55) (r := [(1, 41)]) c1 rfl).trans ((lv_osw (a := 1) (o := 41) (d := 55) (r := []) c6 rfl).trans rfl)) (by decide) ?_
  refine lv_aload_n hx hb dX5_lay_56 rfl (lv_at hl 0 rfl) ?_
  refine gs7 X hM h8 h1 dX5_lay_57 ?_
  exact sh_cx X hM hE htr hout h8 h1 hne (nm := "[I") (by rw [(show cRt x1 = 0 by unfold cRt; rw [if_neg c1, if_neg c6])]; rfl) (hts _ q341) hl.1 hR (Nat.le_of_ble_eq_true rfl) dX5_lay_60
theorem cfS_lay_ax (l : Launch) (htr : l.stackTraces = false) (Z : CZ) (Y : CY) (C : St) (sz : Nat) (x0 : Nat) (x1 : Int32) (x2 : Int32) (x3 : Int32) (h8 : x0 < 4) (h1 : C (60 + x0) 0 = 1) (heq : cRt (C (60 + x0) 1) = cRt x1) (hi : ¬ vp_in x2 (C (60 + x0) 2).toNatClampNeg) : MetX l yX5_lay (ws_ yX5_lay cX5_lay 4 (none)) shxR (va_Pc [.ref (cSa Z (90 + x0)), .int x1, .int x2, .int x3] (cSx Z Y C sz)) (Qmx "java/lang/ArrayIndexOutOfBoundsException") 3 222 (fun _ => False) := by
  refine MetX.ofW (cc := cX5_lay) (maxL := 4) (ret := none) (by decide) rfl ?_
  intro p e s m args below meth c s₁ B hml hv
  obtain ⟨rfl, ⟨hsz, hv⟩, hE⟩ := hv
  subst hsz
  have hts0 := atoms_spec (ws := ws_ yX5_lay cX5_lay 4 (none)) B.pre
  have hout := no_tab B (hts0 _ List.mem_cons_self)
  have hts : ∀ w ∈ lw_all, w.before _ s = true := fun w h => hts0 w (List.mem_cons_of_mem _ h)
  have X : CCx p s m _ meth c cX5_lay 4 (none) RX5 Z := ⟨⟨B.exec, B.bytes, B.returns, B.notSynchronized, hml, findClass_of_methodNamed B.named, hts⟩, hv.2⟩
  have hl := lv_entry [.ref (cSa Z (90 + x0)), .int x1, .int x2, .int x3] (n := 4) (Nat.le_of_ble_eq_true rfl)
  rw [lg_entry_eq]
  generalize (lg_sl [.ref (cSa Z (90 + x0)), .int x1, .int x2, .int x3] ++ List.replicate (4 - (lg_sl [.ref (cSa Z (90 + x0)), .int x1, .int x2, .int x3]).length) Slot.unset).toArray = ls at hl ⊢
  have hl : lv_has ls 4 [(0, .ref (cSa Z (90 + x0))), (1, .int x1), (2, .int x2), (3, .int x3)] := hl
  obtain ⟨⟨hx, hb, hr, hlocks, hml, hown, -⟩, hK⟩ := id X
  have hM : cPD Z Y (va_A (cWs Z Y C) s.heap.size) C s.heap := cPD.self hv.1
  have hR : 8 ≤ (headSpec (ws_ yX5_lay cX5_lay 4 (none)) shxR).room.frames ∧ 10300 ≤ (headSpec (ws_ yX5_lay cX5_lay 4 (none)) shxR).room.locals ∧ 3 ≤ (headSpec (ws_ yX5_lay cX5_lay 4 (none)) shxR).room.cells ∧ 222 ≤ (headSpec (ws_ yX5_lay cX5_lay 4 (none)) shxR).room.slots := ⟨Nat.le_refl _, Nat.le_refl _, Nat.le_refl _, Nat.le_refl _⟩
  refine lv_iload_n hx hb dX5_lay_0 rfl (lv_at hl 1 rfl) ?_
  by_cases c1 : x1 = 0
  · refine lv_lookup (off := 27) (tgt := 28) hx hb dX5_lay_1 (by decide) (by first | (rw [c1]; done) | (rw [c1]; rfl)) (by decide) ?_
    refine lv_aload_n hx hb dX5_lay_28 rfl (lv_at hl 0 rfl) ?_
    refine gs7 X hM h8 h1 dX5_lay_29 ?_
    have f := heq.trans (show cRt x1 = 2 by rw [c1]; rfl)
    refine sh_cast X hM h8 h1 (nm := "[B") (by rw [f]; rfl) (hts _ q339) dX5_lay_32 ?_
    refine lv_iload_n hx hb dX5_lay_35 rfl (lv_at hl 2 rfl) ?_
    refine lv_iload_n hx hb dX5_lay_36 rfl (lv_at hl 3 rfl) ?_
    refine lv_i2b hx hb dX5_lay_37 rfl ?_
    exact sh_x_bastore X hM hE htr hout h8 h1 f hi hl.1 hR (Nat.le_of_ble_eq_true rfl) dX5_lay_38
  by_cases c6 : x1 = 1
  · refine lv_lookup (off := 41) (tgt := 42) hx hb dX5_lay_1 (by decide) (by first | (rw [c6]; done) | (rw [c6]; rfl)) (by decide) ?_
    refine lv_aload_n hx hb dX5_lay_42 rfl (lv_at hl 0 rfl) ?_
    refine gs7 X hM h8 h1 dX5_lay_43 ?_
    have f := heq.trans (show cRt x1 = 3 by rw [c6]; rfl)
    refine sh_cast X hM h8 h1 (nm := "[S") (by rw [f]; rfl) (hts _ q340) dX5_lay_46 ?_
    refine lv_iload_n hx hb dX5_lay_49 rfl (lv_at hl 2 rfl) ?_
    refine lv_iload_n hx hb dX5_lay_50 rfl (lv_at hl 3 rfl) ?_
    refine lv_i2s hx hb dX5_lay_51 rfl ?_
    exact sh_x_sastore X hM hE htr hout h8 h1 f hi hl.1 hR (Nat.le_of_ble_eq_true rfl) dX5_lay_52
  refine lv_lookup (off := 55) (tgt := 56) hx hb dX5_lay_1 (by decide) ((lv_osw (a := 0) (o := 27) (d := 55) (r := [(1, 41)]) c1 rfl).trans ((lv_osw (a := 1) (o := 41) (d := 55) (r := []) c6 rfl).trans rfl)) (by decide) ?_
  refine lv_aload_n hx hb dX5_lay_56 rfl (lv_at hl 0 rfl) ?_
  refine gs7 X hM h8 h1 dX5_lay_57 ?_
  have f := heq.trans (show cRt x1 = 0 by unfold cRt; rw [if_neg c1, if_neg c6])
  refine sh_cast X hM h8 h1 (nm := "[I") (by rw [f]; rfl) (hts _ q341) dX5_lay_60 ?_
  refine lv_iload_n hx hb dX5_lay_63 rfl (lv_at hl 2 rfl) ?_
  refine lv_iload_n hx hb dX5_lay_64 rfl (lv_at hl 3 rfl) ?_
  exact sh_x_iastore X hM hE htr hout h8 h1 f hi hl.1 hR (Nat.le_of_ble_eq_true rfl) dX5_lay_65
