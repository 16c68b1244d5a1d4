/-! the small constructors -/
set_option maxRecDepth 100000
theorem ct_sheet (l : Launch) (Z : CZ) (h sz : Nat) : Met l yX5_init (ws_ yX5_init cX5_init 1 none) { frames := 1, cells := 0, slots := 0, locals := 60 } (va_Pc [.ref h] (ctS Z h (.inr (5, [.null])) sz (fun _ => True))) (Qct Z h (.inr (5, [.null])) sz (fun E1 es => E1 = .inr (5, [.null]) ∧ es = [])) 0 0 (va_A [(h, .inr (5, [.null]))] sz) := by
  refine Met.ofW (cc := cX5_init) (maxL := 1) (ret := none) (by decide) rfl ?_
  intro p e s m args below meth c s₁ B hml hv
  obtain ⟨rfl, hsz, hP, hK, hXt⟩ := hv
  subst hsz
  have hts := atoms_spec (ws := ws_ yX5_init cX5_init 1 none) B.pre
  have hts : ∀ w ∈ lw_all, w.before _ s = true := fun w h => hts w (List.mem_cons_of_mem _ h)
  have C : SCx p s m _ meth c cX5_init 1 none RX5 := ⟨B.exec, B.bytes, B.returns, B.notSynchronized, hml, findClass_of_methodNamed B.named, hts⟩
  obtain ⟨hx, hb, hr, hlocks, hml, hown, -⟩ := id C
  have hin : meth.name = "<init>" := (name_of_methodNamed B.named B.method).1
  have hD : va_D (va_A [(h, .inr (5, [.null]))] s.heap.size) [(h, .inr (5, [.null]))] := va_D1
  have hS : va_S (va_A [(h, .inr (5, [.null]))] s.heap.size) s.heap s.heap [] := va_S.rf
  have hA : ∀ q, s.heap.size ≤ q → va_A [(h, .inr (5, [.null]))] s.heap.size q := fun q h => Or.inr h
  have hl := lv_entry ([.ref h]) (n := 1) (Nat.le_of_ble_eq_true rfl)
  rw [lg_entry_eq]
  generalize (lg_sl ([.ref h]) ++ List.replicate (1 - (lg_sl ([.ref h])).length) Slot.unset).toArray = ls at hl ⊢
  have hl : lv_has ls 1 [(0, .ref h)] := hl
  refine lv_aload_n hx hb dX5_init_0 rfl (lv_at hl 0 rfl) ?_
  refine W.objInit hx hb hown (hts _ q223) (hts _ q113) (hts _ q114) rfl (by rw [hml]; exact hl.1) rfl dX5_init_1 (Nat.le_of_ble_eq_true rfl) (Nat.le_of_ble_eq_true rfl) ?_
  refine W.eq (g2 := F0 m 4 ls []) rfl ?_
  exact W.vret hx hb hr (fun t ht hW => ⟨rfl, ⟨_, [], ⟨rfl, rfl⟩, by rw [ht]; exact hP, hD⟩, hS.F ht⟩) hS.2.2 dX5_init_4
def psG : Nat → Int32 := upd (upd (upd (upd (fun _ => 0) 0 0) 1 8) 2 1) 3 16
theorem ct_person (l : Launch) (Z : CZ) (h sz : Nat) : Met l yX1_init (ws_ yX1_init cX1_init 1 none) { frames := 1, cells := 1, slots := 4, locals := 60 } (va_Pc [.ref h] (ctS Z h (.inr (2, [.null])) sz (fun _ => True))) (Qct Z h (.inr (2, [.null])) sz (fun E1 es => ∃ q : Nat, E1 = .inr (2, [.ref q]) ∧ es = [(q, .inl (cAc Z 0, 4, .inl psG))])) 1 4 (va_A [(h, .inr (2, [.null]))] sz) := by
  refine Met.ofW (cc := cX1_init) (maxL := 1) (ret := none) (by decide) rfl ?_
  intro p e s m args below meth c s₁ B hml hv
  obtain ⟨rfl, hsz, hP, hK, hXt⟩ := hv
  subst hsz
  have hts := atoms_spec (ws := ws_ yX1_init cX1_init 1 none) B.pre
  have hts : ∀ w ∈ lw_all, w.before _ s = true := fun w h => hts w (List.mem_cons_of_mem _ h)
  have C : SCx p s m _ meth c cX1_init 1 none RX1 := ⟨B.exec, B.bytes, B.returns, B.notSynchronized, hml, findClass_of_methodNamed B.named, hts⟩
  obtain ⟨hx, hb, hr, hlocks, hml, hown, -⟩ := id C
  have hin : meth.name = "<init>" := (name_of_methodNamed B.named B.method).1
  have hD : va_D (va_A [(h, .inr (2, [.null]))] s.heap.size) [(h, .inr (2, [.null]))] := va_D1
  have hS : va_S (va_A [(h, .inr (2, [.null]))] s.heap.size) s.heap s.heap [] := va_S.rf
  have hA : ∀ q, s.heap.size ≤ q → va_A [(h, .inr (2, [.null]))] s.heap.size q := fun q h => Or.inr h
  have hl := lv_entry ([.ref h]) (n := 1) (Nat.le_of_ble_eq_true rfl)
  rw [lg_entry_eq]
  generalize (lg_sl ([.ref h]) ++ List.replicate (1 - (lg_sl ([.ref h])).length) Slot.unset).toArray = ls at hl ⊢
  have hl : lv_has ls 1 [(0, .ref h)] := hl
  refine lv_aload_n hx hb dX1_init_0 rfl (lv_at hl 0 rfl) ?_
  refine W.objInit hx hb hown (hts _ q121) (hts _ q113) (hts _ q114) rfl (by rw [hml]; exact hl.1) rfl dX1_init_1 (Nat.le_of_ble_eq_true rfl) (Nat.le_of_ble_eq_true rfl) ?_
  refine W.eq (g2 := F0 m 4 ls []) rfl ?_
  refine lv_aload_n hx hb dX1_init_4 rfl (lv_at hl 0 rfl) ?_
  refine lv_iconst (v := 4) hx hb dX1_init_5 (by decide) ?_
  refine va_newa (atype := .int) (ty := .int) (N' := 4) (a0 := (4, .inl (fun _ => 0))) hx hb (hts _ q127) rfl hK hP hD hS hA (fun _ => rfl) (by decide) rfl (Nat.le_of_ble_eq_true rfl) (Nat.le_of_ble_eq_true rfl) (Nat.le_of_ble_eq_true rfl) dX1_init_6 (fun q cA H hK1 hP hD hS => ?_)
  have e1 : cA = cAc Z 0 := Option.some.inj ((hK1.2 8 _ rfl).2.symm.trans (hK.2 0 _ rfl).2)
  subst e1
  refine lv_dup hx hb dX1_init_8 rfl ?_
  refine lv_iconst (v := 0) hx hb dX1_init_9 (by decide) ?_
  refine lv_iconst (v := 0) hx hb dX1_init_10 (by decide) ?_
  refine va_iast hx hb hK hP hD hS 1 0 rfl rfl (by unfold vp_in; decide) dX1_init_11 (fun H locs hP hD hS => ?_)
  refine lv_dup hx hb dX1_init_12 rfl ?_
  refine lv_iconst (v := 1) hx hb dX1_init_13 (by decide) ?_
  refine lv_bipush (v := 8) hx hb dX1_init_14 (by decide) ?_
  refine va_iast hx hb hK hP hD hS 1 0 rfl rfl (by unfold vp_in; decide) dX1_init_16 (fun H locs hP hD hS => ?_)
  refine lv_dup hx hb dX1_init_17 rfl ?_
  refine lv_iconst (v := 2) hx hb dX1_init_18 (by decide) ?_
  refine lv_iconst (v := 1) hx hb dX1_init_19 (by decide) ?_
  refine va_iast hx hb hK hP hD hS 1 0 rfl rfl (by unfold vp_in; decide) dX1_init_20 (fun H locs hP hD hS => ?_)
  refine lv_dup hx hb dX1_init_21 rfl ?_
  refine lv_iconst (v := 3) hx hb dX1_init_22 (by decide) ?_
  refine lv_bipush (v := 16) hx hb dX1_init_23 (by decide) ?_
  refine va_iast hx hb hK hP hD hS 1 0 rfl rfl (by unfold vp_in; decide) dX1_init_25 (fun H locs hP hD hS => ?_)
  refine va_putF hx hb hts in_X1 tyX1 tyX1_ok nmX1 hown hK hP hD hS 0 rfl rfl 0 (by decide) (hts _ q122) (fun _ h => h) rfl hin rfl (ty := .array .int) rfl rfl rfl (Nat.le_of_ble_eq_true rfl) dX1_init_26 (fun H locs hP hD hS => ?_)
  exact W.vret hx hb hr (fun t ht hW => ⟨rfl, ⟨_, _, ⟨q, rfl, rfl⟩, by rw [ht]; exact hP, hD⟩, hS.F ht⟩) hS.2.2 dX1_init_29
