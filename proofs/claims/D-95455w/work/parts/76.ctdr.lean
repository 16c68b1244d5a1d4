/-! Deeds and Rules: constructors -/
set_option maxRecDepth 100000
theorem emB {Z : CZ} {B : Nat → Prop} : ∀ (a : Array Value) (U : State) (g : JFrame) (mk : MethodId), emZ Z B U U.heap → emZ Z B (U.calling g mk a) (U.calling g mk a).heap := fun a U g mk h => emZ.moved (u := U) (U := U.calling g mk a) (Vm.Alike.refl U.vm) h
theorem ct_deeds (l : Launch) (Z : CZ) (h sz : Nat) : Met l yX3_init (ws_ yX3_init cX3_init 1 none) { frames := 4, cells := 2, slots := 83, locals := 260 } (va_Pc [.ref h] (ctS Z h (.inr (3, [.null, .int 0, .int 0, .int 0, .int 0, .null])) sz (fun U => emZ Z (va_A [(h, .inr (3, [.null, .int 0, .int 0, .int 0, .int 0, .null]))] sz) U U.heap))) (Qct Z h (.inr (3, [.null, .int 0, .int 0, .int 0, .int 0, .null])) sz (fun E1 es => ∃ q v : Nat, E1 = .inr (3, [.ref q, .int 0, .int 0, .int 0, .int 0, .ref v]) ∧ es = [(q, .inl (cAc Z 0, 80, .inl (fun _ => 0))), (v, .inr (9, [.int 0, .ref Z.2.2.2, .int 0]))])) 2 83 (va_A [(h, .inr (3, [.null, .int 0, .int 0, .int 0, .int 0, .null]))] sz) := by
  refine Met.ofW (cc := cX3_init) (maxL := 1) (ret := none) (by decide) rfl ?_
  intro p e s m args below meth c s₁ B hml hv
  obtain ⟨rfl, hsz, hP, hK, hXt⟩ := hv
  subst hsz
  have hts := atoms_spec (ws := ws_ yX3_init cX3_init 1 none) B.pre
  have hts : ∀ w ∈ lw_all, w.before _ s = true := fun w h => hts w (List.mem_cons_of_mem _ h)
  have C : SCx p s m _ meth c cX3_init 1 none RX3 := ⟨B.exec, B.bytes, B.returns, B.notSynchronized, hml, findClass_of_methodNamed B.named, hts⟩
  obtain ⟨hx, hb, hr, hlocks, hml, hown, -⟩ := id C
  have hin : meth.name = "<init>" := (name_of_methodNamed B.named B.method).1
  have hD : va_D (va_A [(h, .inr (3, [.null, .int 0, .int 0, .int 0, .int 0, .null]))] s.heap.size) [(h, .inr (3, [.null, .int 0, .int 0, .int 0, .int 0, .null]))] := va_D1
  have hS : va_S (va_A [(h, .inr (3, [.null, .int 0, .int 0, .int 0, .int 0, .null]))] s.heap.size) s.heap s.heap [] := va_S.rf
  have hA : ∀ q, s.heap.size ≤ q → va_A [(h, .inr (3, [.null, .int 0, .int 0, .int 0, .int 0, .null]))] s.heap.size q := fun q h => Or.inr h
  have hl := lv_entry ([.ref h]) (n := 1) (Nat.le_of_ble_eq_true rfl)
  rw [lg_entry_eq]
  generalize (lg_sl ([.ref h]) ++ List.replicate (1 - (lg_sl ([.ref h])).length) Slot.unset).toArray = ls at hl ⊢
  have hl : lv_has ls 1 [(0, .ref h)] := hl
  refine lv_aload_n hx hb dX3_init_0 rfl (lv_at hl 0 rfl) ?_
  refine lv_bipush (v := 80) hx hb dX3_init_1 (by decide) ?_
  refine ct_callI (As := [.int 80]) (rest := []) C hK hP hD hS hA 0 rfl (ct_text0 l Z h s.heap.size) (fun _ _ _ _ h => h) (fun _ _ _ => trivial) (cwI 1 hts (lw_meth q135) rfl rfl rfl (hts _ q81) (hts _ q133) (hts _ q134) rfl (by decide +kernel) ⟨Nat.le_of_ble_eq_true rfl, Nat.le_of_ble_eq_true rfl⟩) ⟨Nat.le_of_ble_eq_true rfl, Nat.le_of_ble_eq_true rfl⟩ rfl hl.1 rfl (Nat.le_of_ble_eq_true rfl) dX3_init_3 (fun E1 es H locs hmk hP hD hS => ?_)
  obtain ⟨q, rfl, rfl⟩ := hmk
  refine lv_aload_n hx hb dX3_init_6 rfl (lv_at hl 0 rfl) ?_
  refine va_new (ci := 9) (fs := [.int 0, .null, .int 0]) hx hb hts in_J2 tyJ2 tyJ2_ok hown (hts _ q137) (hts _ q138) (hts _ q85) hK hP hD hS hA rfl (by decide) (Nat.le_of_ble_eq_true rfl) (Nat.le_of_ble_eq_true rfl) dX3_init_7 (fun v H hP hD hS => ?_)
  refine lv_dup hx hb dX3_init_10 rfl ?_
  refine ct_callI (As := []) (rest := [.ref v, .ref h]) C hK hP hD hS hA 2 rfl (ct_list l Z v H.size) emB (fun U hU hW => by rw [hU]; exact ((hXt.kept hS.2.1).narrow (fun q z => (va_A1 z).elim (fun z => by rw [z]; exact hD.2 2 _ rfl) (fun z => Or.inr (Nat.le_trans hS.1 z)))).moved hW.alike) (cwI 0 hts (lw_meth q141) rfl rfl rfl (hts _ q85) (hts _ q139) (hts _ q140) rfl (by decide +kernel) ⟨Nat.le_of_ble_eq_true rfl, Nat.le_of_ble_eq_true rfl⟩) ⟨Nat.le_of_ble_eq_true rfl, Nat.le_of_ble_eq_true rfl⟩ rfl hl.1 rfl (Nat.le_of_ble_eq_true rfl) dX3_init_11 (fun E1 es H locs hmk hP hD hS => ?_)
  obtain ⟨rfl, rfl⟩ := hmk
  refine va_putF hx hb hts in_X3 tyX3 tyX3_ok nmX3 hown hK hP hD hS 0 rfl rfl 5 (by decide) (hts _ q163) (fun _ h => h) rfl hin rfl (ty := .object "java/util/ArrayList") rfl rfl rfl (Nat.le_of_ble_eq_true rfl) dX3_init_14 (fun H locs hP hD hS => ?_)
  exact W.vret hx hb hr (fun t ht hW => ⟨rfl, ⟨_, _, ⟨q, v, rfl, rfl⟩, by rw [ht]; exact hP, hD⟩, hS.F ht⟩) hS.2.2 dX3_init_17
theorem ct_rules (l : Launch) (Z : CZ) (h sz : Nat) : Met l yX4_init (ws_ yX4_init cX4_init 1 none) { frames := 4, cells := 4, slots := 52, locals := 260 } (va_Pc [.ref h] (ctS Z h (.inr (4, [.null, .int 0, .int 0, .int 0, .int 0, .null, .null, .null, .int 0])) sz (fun _ => True))) (Qct Z h (.inr (4, [.null, .int 0, .int 0, .int 0, .int 0, .null, .null, .null, .int 0])) sz (fun E1 es => ∃ q a b d : Nat, E1 = .inr (4, [.ref q, .int 0, .int 0, .int 0, .int 0, .ref a, .ref b, .ref d, .int 0]) ∧ es = [(q, .inl (cAc Z 0, 40, .inl (fun _ => 0))), (a, .inl (cAc Z 0, 4, .inl (fun _ => 0))), (b, .inl (cAc Z 1, 4, .inl (fun _ => 0))), (d, .inl (cAc Z 1, 4, .inl (fun _ => 0)))])) 4 52 (va_A [(h, .inr (4, [.null, .int 0, .int 0, .int 0, .int 0, .null, .null, .null, .int 0]))] sz) := by
  refine Met.ofW (cc := cX4_init) (maxL := 1) (ret := none) (by decide) rfl ?_
  intro p e s m args below meth c s₁ B hml hv
  obtain ⟨rfl, hsz, hP, hK, hXt⟩ := hv
  subst hsz
  have hts := atoms_spec (ws := ws_ yX4_init cX4_init 1 none) B.pre
  have hts : ∀ w ∈ lw_all, w.before _ s = true := fun w h => hts w (List.mem_cons_of_mem _ h)
  have C : SCx p s m _ meth c cX4_init 1 none RX4 := ⟨B.exec, B.bytes, B.returns, B.notSynchronized, hml, findClass_of_methodNamed B.named, hts⟩
  obtain ⟨hx, hb, hr, hlocks, hml, hown, -⟩ := id C
  have hin : meth.name = "<init>" := (name_of_methodNamed B.named B.method).1
  have hD : va_D (va_A [(h, .inr (4, [.null, .int 0, .int 0, .int 0, .int 0, .null, .null, .null, .int 0]))] s.heap.size) [(h, .inr (4, [.null, .int 0, .int 0, .int 0, .int 0, .null, .null, .null, .int 0]))] := va_D1
  have hS : va_S (va_A [(h, .inr (4, [.null, .int 0, .int 0, .int 0, .int 0, .null, .null, .null, .int 0]))] s.heap.size) s.heap s.heap [] := va_S.rf
  have hA : ∀ q, s.heap.size ≤ q → va_A [(h, .inr (4, [.null, .int 0, .int 0, .int 0, .int 0, .null, .null, .null, .int 0]))] s.heap.size q := fun q h => Or.inr h
  have hl := lv_entry ([.ref h]) (n := 1) (Nat.le_of_ble_eq_true rfl)
  rw [lg_entry_eq]
  generalize (lg_sl ([.ref h]) ++ List.replicate (1 - (lg_sl ([.ref h])).length) Slot.unset).toArray = ls at hl ⊢
  have hl : lv_has ls 1 [(0, .ref h)] := hl
  refine lv_aload_n hx hb dX4_init_0 rfl (lv_at hl 0 rfl) ?_
  refine lv_bipush (v := 40) hx hb dX4_init_1 (by decide) ?_
  refine ct_callI (As := [.int 40]) (rest := []) C hK hP hD hS hA 0 rfl (ct_text1 l Z h s.heap.size) (fun _ _ _ _ h => h) (fun _ _ _ => trivial) (cwI 1 hts (lw_meth q135) rfl rfl rfl (hts _ q81) (hts _ q189) (hts _ q134) rfl (by decide +kernel) ⟨Nat.le_of_ble_eq_true rfl, Nat.le_of_ble_eq_true rfl⟩) ⟨Nat.le_of_ble_eq_true rfl, Nat.le_of_ble_eq_true rfl⟩ rfl hl.1 rfl (Nat.le_of_ble_eq_true rfl) dX4_init_3 (fun E1 es H locs hmk hP hD hS => ?_)
  obtain ⟨q, rfl, rfl⟩ := hmk
  refine lv_aload_n hx hb dX4_init_6 rfl (lv_at hl 0 rfl) ?_
  refine lv_iconst (v := 4) hx hb dX4_init_7 (by decide) ?_
  refine va_newa (atype := .int) (ty := .int) (N' := 4) (a0 := (4, .inl (fun _ => 0))) hx hb (hts _ q127) rfl hK hP hD hS hA (fun _ => rfl) (by decide) rfl (Nat.le_of_ble_eq_true rfl) (Nat.le_of_ble_eq_true rfl) (Nat.le_of_ble_eq_true rfl) dX4_init_8 (fun a cA H hK1 hP hD hS => ?_)
  have e1 : cA = cAc Z 0 := Option.some.inj ((hK1.2 8 _ rfl).2.symm.trans (hK.2 0 _ rfl).2)
  subst e1
  refine va_putF hx hb hts in_X4 tyX4 tyX4_ok nmX4 hown hK hP hD hS 0 rfl rfl 5 (by decide) (hts _ q190) (fun _ h => h) rfl hin rfl (ty := .array .int) rfl rfl rfl (Nat.le_of_ble_eq_true rfl) dX4_init_10 (fun H locs hP hD hS => ?_)
  refine lv_aload_n hx hb dX4_init_13 rfl (lv_at hl 0 rfl) ?_
  refine lv_iconst (v := 4) hx hb dX4_init_14 (by decide) ?_
  refine va_newa (atype := .boolean) (ty := .boolean) (N' := 4) (a0 := (4, .inl (fun _ => 0))) hx hb (hts _ q212) rfl hK hP hD hS hA (fun _ => rfl) (by decide) rfl (Nat.le_of_ble_eq_true rfl) (Nat.le_of_ble_eq_true rfl) (Nat.le_of_ble_eq_true rfl) dX4_init_15 (fun b cA H hK1 hP hD hS => ?_)
  have e1 : cA = cAc Z 1 := Option.some.inj ((hK1.2 8 _ rfl).2.symm.trans (hK.2 1 _ rfl).2)
  subst e1
  refine va_putF hx hb hts in_X4 tyX4 tyX4_ok nmX4 hown hK hP hD hS 0 rfl rfl 6 (by decide) (hts _ q192) (fun _ h => h) rfl hin rfl (ty := .array .boolean) rfl rfl rfl (Nat.le_of_ble_eq_true rfl) dX4_init_17 (fun H locs hP hD hS => ?_)
  refine lv_aload_n hx hb dX4_init_20 rfl (lv_at hl 0 rfl) ?_
  refine lv_iconst (v := 4) hx hb dX4_init_21 (by decide) ?_
  refine va_newa (atype := .boolean) (ty := .boolean) (N' := 4) (a0 := (4, .inl (fun _ => 0))) hx hb (hts _ q212) rfl hK hP hD hS hA (fun _ => rfl) (by decide) rfl (Nat.le_of_ble_eq_true rfl) (Nat.le_of_ble_eq_true rfl) (Nat.le_of_ble_eq_true rfl) dX4_init_22 (fun d cA H hK1 hP hD hS => ?_)
  have e1 : cA = cAc Z 1 := Option.some.inj ((hK1.2 8 _ rfl).2.symm.trans (hK.2 1 _ rfl).2)
  subst e1
  refine va_putF hx hb hts in_X4 tyX4 tyX4_ok nmX4 hown hK hP hD hS 0 rfl rfl 7 (by decide) (hts _ q194) (fun _ h => h) rfl hin rfl (ty := .array .boolean) rfl rfl rfl (Nat.le_of_ble_eq_true rfl) dX4_init_24 (fun H locs hP hD hS => ?_)
  exact W.vret hx hb hr (fun t ht hW => ⟨rfl, ⟨_, _, ⟨q, a, b, d, rfl, rfl⟩, by rw [ht]; exact hP, hD⟩, hS.F ht⟩) hS.2.2 dX4_init_27
