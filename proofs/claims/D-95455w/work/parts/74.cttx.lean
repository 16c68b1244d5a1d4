/-! Text, and the lists: constructors -/
set_option maxRecDepth 100000
theorem ct_text0 (l : Launch) (Z : CZ) (h sz : Nat) : Met l yX2_init (ws_ yX2_init cX2_init 2 none) { frames := 1, cells := 1, slots := 80, locals := 60 } (va_Pc [.ref h, .int 80] (ctS Z h (.inr (3, [.null, .int 0, .int 0, .int 0, .int 0, .null])) sz (fun _ => True))) (Qct Z h (.inr (3, [.null, .int 0, .int 0, .int 0, .int 0, .null])) sz (fun E1 es => ∃ q : Nat, E1 = .inr (3, [.ref q, .int 0, .int 0, .int 0, .int 0, .null]) ∧ es = [(q, .inl (cAc Z 0, 80, .inl (fun _ => 0)))])) 1 80 (va_A [(h, .inr (3, [.null, .int 0, .int 0, .int 0, .int 0, .null]))] sz) := by
  refine Met.ofW (cc := cX2_init) (maxL := 2) (ret := none) (by decide) rfl ?_
  intro p e s m args below meth c s₁ B hml hv
  obtain ⟨rfl, hsz, hP, hK, hXt⟩ := hv
  subst hsz
  have hts := atoms_spec (ws := ws_ yX2_init cX2_init 2 none) B.pre
  have hts : ∀ w ∈ lw_all, w.before _ s = true := fun w h => hts w (List.mem_cons_of_mem _ h)
  have C : SCx p s m _ meth c cX2_init 2 none RX2 := ⟨B.exec, B.bytes, B.returns, B.notSynchronized, hml, findClass_of_methodNamed B.named, hts⟩
  obtain ⟨hx, hb, hr, hlocks, hml, hown, -⟩ := id C
  have hin : meth.name = "<init>" := (name_of_methodNamed B.named B.method).1
  have hD : va_D (va_A [(h, .inr (3, [.null, .int 0, .int 0, .int 0, .int 0, .null]))] s.heap.size) [(h, .inr (3, [.null, .int 0, .int 0, .int 0, .int 0, .null]))] := va_D1
  have hS : va_S (va_A [(h, .inr (3, [.null, .int 0, .int 0, .int 0, .int 0, .null]))] s.heap.size) s.heap s.heap [] := va_S.rf
  have hA : ∀ q, s.heap.size ≤ q → va_A [(h, .inr (3, [.null, .int 0, .int 0, .int 0, .int 0, .null]))] s.heap.size q := fun q h => Or.inr h
  have hl := lv_entry ([.ref h, .int 80]) (n := 2) (Nat.le_of_ble_eq_true rfl)
  rw [lg_entry_eq]
  generalize (lg_sl ([.ref h, .int 80]) ++ List.replicate (2 - (lg_sl ([.ref h, .int 80])).length) Slot.unset).toArray = ls at hl ⊢
  have hl : lv_has ls 2 [(0, .ref h), (1, .int 80)] := hl
  refine lv_aload_n hx hb dX2_init_0 rfl (lv_at hl 0 rfl) ?_
  refine W.objInit hx hb hown (hts _ q136) (hts _ q113) (hts _ q114) rfl (by rw [hml]; exact hl.1) rfl dX2_init_1 (Nat.le_of_ble_eq_true rfl) (Nat.le_of_ble_eq_true rfl) ?_
  refine W.eq (g2 := F0 m 4 ls []) rfl ?_
  refine lv_aload_n hx hb dX2_init_4 rfl (lv_at hl 0 rfl) ?_
  refine lv_iload_n hx hb dX2_init_5 rfl (lv_at hl 1 rfl) ?_
  refine va_newa (atype := .int) (ty := .int) (N' := 80) (a0 := (80, .inl (fun _ => 0))) hx hb (hts _ q127) rfl hK hP hD hS hA (fun _ => rfl) (by decide) rfl (Nat.le_of_ble_eq_true rfl) (Nat.le_of_ble_eq_true rfl) (Nat.le_of_ble_eq_true rfl) dX2_init_6 (fun q cA H hK1 hP hD hS => ?_)
  have e1 : cA = cAc Z 0 := Option.some.inj ((hK1.2 8 _ rfl).2.symm.trans (hK.2 0 _ rfl).2)
  subst e1
  refine va_putF hx hb hts in_X3 tyX3 tyX3_ok nmX3 hown hK hP hD hS 0 rfl rfl 0 (by decide) (hts _ q165) (fun _ h => h) rfl hin rfl (ty := .array .int) rfl rfl rfl (Nat.le_of_ble_eq_true rfl) dX2_init_8 (fun H locs hP hD hS => ?_)
  exact W.vret hx hb hr (fun t ht hW => ⟨rfl, ⟨_, _, ⟨q, rfl, rfl⟩, by rw [ht]; exact hP, hD⟩, hS.F ht⟩) hS.2.2 dX2_init_11
theorem ct_text1 (l : Launch) (Z : CZ) (h sz : Nat) : Met l yX2_init (ws_ yX2_init cX2_init 2 none) { frames := 1, cells := 1, slots := 40, locals := 60 } (va_Pc [.ref h, .int 40] (ctS Z h (.inr (4, [.null, .int 0, .int 0, .int 0, .int 0, .null, .null, .null, .int 0])) sz (fun _ => True))) (Qct Z h (.inr (4, [.null, .int 0, .int 0, .int 0, .int 0, .null, .null, .null, .int 0])) sz (fun E1 es => ∃ q : Nat, E1 = .inr (4, [.ref q, .int 0, .int 0, .int 0, .int 0, .null, .null, .null, .int 0]) ∧ es = [(q, .inl (cAc Z 0, 40, .inl (fun _ => 0)))])) 1 40 (va_A [(h, .inr (4, [.null, .int 0, .int 0, .int 0, .int 0, .null, .null, .null, .int 0]))] sz) := by
  refine Met.ofW (cc := cX2_init) (maxL := 2) (ret := none) (by decide) rfl ?_
  intro p e s m args below meth c s₁ B hml hv
  obtain ⟨rfl, hsz, hP, hK, hXt⟩ := hv
  subst hsz
  have hts := atoms_spec (ws := ws_ yX2_init cX2_init 2 none) B.pre
  have hts : ∀ w ∈ lw_all, w.before _ s = true := fun w h => hts w (List.mem_cons_of_mem _ h)
  have C : SCx p s m _ meth c cX2_init 2 none RX2 := ⟨B.exec, B.bytes, B.returns, B.notSynchronized, hml, findClass_of_methodNamed B.named, hts⟩
  obtain ⟨hx, hb, hr, hlocks, hml, hown, -⟩ := id C
  have hin : meth.name = "<init>" := (name_of_methodNamed B.named B.method).1
  have hD : va_D (va_A [(h, .inr (4, [.null, .int 0, .int 0, .int 0, .int 0, .null, .null, .null, .int 0]))] s.heap.size) [(h, .inr (4, [.null, .int 0, .int 0, .int 0, .int 0, .null, .null, .null, .int 0]))] := va_D1
  have hS : va_S (va_A [(h, .inr (4, [.null, .int 0, .int 0, .int 0, .int 0, .null, .null, .null, .int 0]))] s.heap.size) s.heap s.heap [] := va_S.rf
  have hA : ∀ q, s.heap.size ≤ q → va_A [(h, .inr (4, [.null, .int 0, .int 0, .int 0, .int 0, .null, .null, .null, .int 0]))] s.heap.size q := fun q h => Or.inr h
  have hl := lv_entry ([.ref h, .int 40]) (n := 2) (Nat.le_of_ble_eq_true rfl)
  rw [lg_entry_eq]
  generalize (lg_sl ([.ref h, .int 40]) ++ List.replicate (2 - (lg_sl ([.ref h, .int 40])).length) Slot.unset).toArray = ls at hl ⊢
  have hl : lv_has ls 2 [(0, .ref h), (1, .int 40)] := hl
  refine lv_aload_n hx hb dX2_init_0 rfl (lv_at hl 0 rfl) ?_
  refine W.objInit hx hb hown (hts _ q136) (hts _ q113) (hts _ q114) rfl (by rw [hml]; exact hl.1) rfl dX2_init_1 (Nat.le_of_ble_eq_true rfl) (Nat.le_of_ble_eq_true rfl) ?_
  refine W.eq (g2 := F0 m 4 ls []) rfl ?_
  refine lv_aload_n hx hb dX2_init_4 rfl (lv_at hl 0 rfl) ?_
  refine lv_iload_n hx hb dX2_init_5 rfl (lv_at hl 1 rfl) ?_
  refine va_newa (atype := .int) (ty := .int) (N' := 40) (a0 := (40, .inl (fun _ => 0))) hx hb (hts _ q127) rfl hK hP hD hS hA (fun _ => rfl) (by decide) rfl (Nat.le_of_ble_eq_true rfl) (Nat.le_of_ble_eq_true rfl) (Nat.le_of_ble_eq_true rfl) dX2_init_6 (fun q cA H hK1 hP hD hS => ?_)
  have e1 : cA = cAc Z 0 := Option.some.inj ((hK1.2 8 _ rfl).2.symm.trans (hK.2 0 _ rfl).2)
  subst e1
  refine va_putF hx hb hts in_X4 tyX4 tyX4_ok nmX4 hown hK hP hD hS 0 rfl rfl 0 (by decide) (hts _ q165) (fun _ h => h) rfl hin rfl (ty := .array .int) rfl rfl rfl (Nat.le_of_ble_eq_true rfl) dX2_init_8 (fun H locs hP hD hS => ?_)
  exact W.vret hx hb hr (fun t ht hW => ⟨rfl, ⟨_, _, ⟨q, rfl, rfl⟩, by rw [ht]; exact hP, hD⟩, hS.F ht⟩) hS.2.2 dX2_init_11
theorem ct_acoll (l : Launch) (Z : CZ) (h sz : Nat) : Met l yJ0_init (ws_ yJ0_init cJ0_init 1 none) { frames := 1, cells := 0, slots := 0, locals := 60 } (va_Pc [.ref h] (ctS Z h (.inr (9, [.int 0, .null, .int 0])) sz (fun _ => True))) (Qct Z h (.inr (9, [.int 0, .null, .int 0])) sz (fun E1 es => E1 = .inr (9, [.int 0, .null, .int 0]) ∧ es = [])) 0 0 (va_A [(h, .inr (9, [.int 0, .null, .int 0]))] sz) := by
  refine Met.ofW (cc := cJ0_init) (maxL := 1) (ret := none) (by decide) rfl ?_
  intro p e s m args below meth c s₁ B hml hv
  obtain ⟨rfl, hsz, hP, hK, hXt⟩ := hv
  subst hsz
  have hts := atoms_spec (ws := ws_ yJ0_init cJ0_init 1 none) B.pre
  have hts : ∀ w ∈ lw_all, w.before _ s = true := fun w h => hts w (List.mem_cons_of_mem _ h)
  have C : SCx p s m _ meth c cJ0_init 1 none RJ0 := ⟨B.exec, B.bytes, B.returns, B.notSynchronized, hml, findClass_of_methodNamed B.named, hts⟩
  obtain ⟨hx, hb, hr, hlocks, hml, hown, -⟩ := id C
  have hin : meth.name = "<init>" := (name_of_methodNamed B.named B.method).1
  have hD : va_D (va_A [(h, .inr (9, [.int 0, .null, .int 0]))] s.heap.size) [(h, .inr (9, [.int 0, .null, .int 0]))] := va_D1
  have hS : va_S (va_A [(h, .inr (9, [.int 0, .null, .int 0]))] s.heap.size) s.heap s.heap [] := va_S.rf
  have hA : ∀ q, s.heap.size ≤ q → va_A [(h, .inr (9, [.int 0, .null, .int 0]))] s.heap.size q := fun q h => Or.inr h
  have hl := lv_entry ([.ref h]) (n := 1) (Nat.le_of_ble_eq_true rfl)
  rw [lg_entry_eq]
  generalize (lg_sl ([.ref h]) ++ List.replicate (1 - (lg_sl ([.ref h])).length) Slot.unset).toArray = ls at hl ⊢
  have hl : lv_has ls 1 [(0, .ref h)] := hl
  refine lv_aload_n hx hb dJ0_init_0 rfl (lv_at hl 0 rfl) ?_
  refine W.objInit hx hb hown (hts _ q148) (hts _ q113) (hts _ q114) rfl (by rw [hml]; exact hl.1) rfl dJ0_init_1 (Nat.le_of_ble_eq_true rfl) (Nat.le_of_ble_eq_true rfl) ?_
  refine W.eq (g2 := F0 m 4 ls []) rfl ?_
  exact W.vret hx hb hr (fun t ht hW => ⟨rfl, ⟨_, [], ⟨rfl, rfl⟩, by rw [ht]; exact hP, hD⟩, hS.F ht⟩) hS.2.2 dJ0_init_4
