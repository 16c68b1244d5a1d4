/-! Deed.<init> -/
def ddS (Z : CZ) (h : Nat) (fs : List Value) (U : State) : Prop := va_P Z.1 clA [(h, .inr (7, fs))] U.heap ∧ va_K Z.1 clA (tysA (cAc Z)) U
theorem ddS.blind {Z : CZ} {h : Nat} {fs : List Value} {av : List Value} : FrameBlind (va_Pc av (ddS Z h fs)) := fun a U g mk q => ⟨q.1, q.2.1, va_K.moved (u := U) (U := U.calling g mk a) (Vm.Alike.refl U.vm) q.2.2⟩
set_option maxHeartbeats 4000000 in
theorem dd_init (l : Launch) (Z : CZ) (h : Nat) (f0 f1 f2 f3 f4 : Value) (a b c0 d : Int32) : Met l yX8_init (ws_ yX8_init cX8_init 5 none) ({ frames := 1, cells := 0, slots := 0, locals := 20 }) (va_Pc [.ref h, .int a, .int b, .int c0, .int d] (ddS Z h [f0, f1, f2, f3, f4])) (Qwr none (fun t => va_P Z.1 clA [(h, .inr (7, [.int a, .int b, .int c0, .int d, f4]))] t.heap) (tnA h)) 0 0 (tnA h) := by
  refine Met.ofW (cc := cX8_init) (maxL := 5) (ret := none) (by decide) rfl ?_
  intro p e s m args below meth c s₁ B hml hv
  obtain ⟨rfl, hP, hK⟩ := hv
  have hts := atoms_spec (ws := ws_ yX8_init cX8_init 5 none) B.pre
  have hts : ∀ w ∈ lw_all, w.before _ s = true := fun w h => hts w (List.mem_cons_of_mem _ h)
  have C : SCx p s m _ meth c cX8_init 5 none RX8 := ⟨B.exec, B.bytes, B.returns, B.notSynchronized, hml, findClass_of_methodNamed B.named, hts⟩
  obtain ⟨hx, hb, hr, hlocks, hml, hown, -⟩ := id C
  have hin : meth.name = "<init>" := (name_of_methodNamed B.named B.method).1
  have hS : va_S (tnA h) s.heap s.heap [] := va_S.rf
  have hl := lv_entry ([.ref h, .int a, .int b, .int c0, .int d]) (n := 5) (Nat.le_of_ble_eq_true rfl)
  rw [lg_entry_eq]
  generalize (lg_sl ([.ref h, .int a, .int b, .int c0, .int d]) ++ List.replicate (5 - (lg_sl ([.ref h, .int a, .int b, .int c0, .int d])).length) Slot.unset).toArray = ls at hl ⊢
  have hl : lv_has ls 5 [(0, .ref h), (1, .int a), (2, .int b), (3, .int c0), (4, .int d)] := hl
  refine lv_aload_n hx hb dX8_init_0 rfl (lv_at hl 0 rfl) ?_
  refine W.objInit hx hb hown (hts _ q522) (hts _ q113) (hts _ q114) rfl (by rw [hml]; exact hl.1) rfl dX8_init_1 (Nat.le_of_ble_eq_true rfl) (Nat.le_of_ble_eq_true rfl) ?_
  refine W.eq (g2 := F0 m 4 ls []) rfl ?_
  refine lv_aload_n hx hb dX8_init_4 rfl (lv_at hl 0 rfl) ?_
  refine lv_iload_n hx hb dX8_init_5 rfl (lv_at hl 1 rfl) ?_
  refine va_putF hx hb hts in_X8 tyX8 tyX8_ok nmX8 hown hK hP tnD hS 0 rfl rfl 0 (by decide) (hts _ q523) (fun _ h => h) rfl hin rfl (ty := .int) rfl rfl rfl (Nat.le_of_ble_eq_true rfl) dX8_init_6 (fun H locs hP hD hS => ?_)
  refine lv_aload_n hx hb dX8_init_9 rfl (lv_at hl 0 rfl) ?_
  refine lv_iload_n hx hb dX8_init_10 rfl (lv_at hl 2 rfl) ?_
  refine va_putF hx hb hts in_X8 tyX8 tyX8_ok nmX8 hown hK hP tnD hS 0 rfl rfl 1 (by decide) (hts _ q525) (fun _ h => h) rfl hin rfl (ty := .int) rfl rfl rfl (Nat.le_of_ble_eq_true rfl) dX8_init_11 (fun H locs hP hD hS => ?_)
  refine lv_aload_n hx hb dX8_init_14 rfl (lv_at hl 0 rfl) ?_
  refine lv_iload_n hx hb dX8_init_15 rfl (lv_at hl 3 rfl) ?_
  refine va_putF hx hb hts in_X8 tyX8 tyX8_ok nmX8 hown hK hP tnD hS 0 rfl rfl 2 (by decide) (hts _ q527) (fun _ h => h) rfl hin rfl (ty := .int) rfl rfl rfl (Nat.le_of_ble_eq_true rfl) dX8_init_16 (fun H locs hP hD hS => ?_)
  refine lv_aload_n hx hb dX8_init_19 rfl (lv_at hl 0 rfl) ?_
  refine lv_iload hx hb dX8_init_20 (lv_at hl 4 rfl) ?_
  refine va_putF hx hb hts in_X8 tyX8 tyX8_ok nmX8 hown hK hP tnD hS 0 rfl rfl 3 (by decide) (hts _ q529) (fun _ h => h) rfl hin rfl (ty := .int) rfl rfl rfl (Nat.le_of_ble_eq_true rfl) dX8_init_22 (fun H locs hP hD hS => ?_)
  exact W.vret hx hb hr (fun t ht hW => ⟨rfl, by show va_P _ _ _ t.heap; rw [ht]; exact hP, hS.F ht⟩) hS.2.2 dX8_init_25
