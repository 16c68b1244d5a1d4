/-! AbstractList and ArrayList: constructors -/
set_option maxRecDepth 100000
theorem ct_alist (l : Launch) (Z : CZ) (h sz : Nat) : Met l yJ1_init (ws_ yJ1_init cJ1_init 1 none) { frames := 2, cells := 0, slots := 0, locals := 120 } (va_Pc [.ref h] (ctS Z h (.inr (9, [.int 0, .null, .int 0])) sz (fun _ => True))) (Qct Z h (.inr (9, [.int 0, .null, .int 0])) sz (fun E1 es => E1 = .inr (9, [.int 0, .null, .int 0]) ∧ es = [])) 0 0 (va_A [(h, .inr (9, [.int 0, .null, .int 0]))] sz) := by
  refine Met.ofW (cc := cJ1_init) (maxL := 1) (ret := none) (by decide) rfl ?_
  intro p e s m args below meth c s₁ B hml hv
  obtain ⟨rfl, hsz, hP, hK, hXt⟩ := hv
  subst hsz
  have hts := atoms_spec (ws := ws_ yJ1_init cJ1_init 1 none) B.pre
  have hts : ∀ w ∈ lw_all, w.before _ s = true := fun w h => hts w (List.mem_cons_of_mem _ h)
  have C : SCx p s m _ meth c cJ1_init 1 none RJ1 := ⟨B.exec, B.bytes, B.returns, B.notSynchronized, hml, findClass_of_methodNamed B.named, hts⟩
  obtain ⟨hx, hb, hr, hlocks, hml, hown, -⟩ := id C
  have hin : meth.name = "<init>" := (name_of_methodNamed B.named B.method).1
  have hD : va_D (va_A [(h, .inr (9, [.int 0, .null, .int 0]))] s.heap.size) [(h, .inr (9, [.int 0, .null, .int 0]))] := va_D1
  have hS : va_S (va_A [(h, .inr (9, [.int 0, .null, .int 0]))] s.heap.size) s.heap s.heap [] := va_S.rf
  have hA : ∀ q, s.heap.size ≤ q → va_A [(h, .inr (9, [.int 0, .null, .int 0]))] s.heap.size q := fun q h => Or.inr h
  have hl := lv_entry ([.ref h]) (n := 1) (Nat.le_of_ble_eq_true rfl)
  rw [lg_entry_eq]
  generalize (lg_sl ([.ref h]) ++ List.replicate (1 - (lg_sl ([.ref h])).length) Slot.unset).toArray = ls at hl ⊢
  have hl : lv_has ls 1 [(0, .ref h)] := hl
  refine lv_aload_n hx hb dJ1_init_0 rfl (lv_at hl 0 rfl) ?_
  refine ct_callI (As := []) (rest := []) C hK hP hD hS hA 0 rfl (ct_acoll l Z h s.heap.size) (fun _ _ _ _ h => h) (fun _ _ _ => trivial) (cwI 0 hts (lw_meth q147) rfl rfl rfl (hts _ q83) (hts _ q145) (hts _ q146) rfl (by decide +kernel) ⟨Nat.le_of_ble_eq_true rfl, Nat.le_of_ble_eq_true rfl⟩) ⟨Nat.le_of_ble_eq_true rfl, Nat.le_of_ble_eq_true rfl⟩ rfl hl.1 rfl (Nat.le_of_ble_eq_true rfl) dJ1_init_1 (fun E1 es H locs hmk hP hD hS => ?_)
  obtain ⟨rfl, rfl⟩ := hmk
  refine lv_aload_n hx hb dJ1_init_4 rfl (lv_at hl 0 rfl) ?_
  refine lv_iconst (v := 0) hx hb dJ1_init_5 (by decide) ?_
  refine va_put hx hb hts in_J2 tyJ2 tyJ2_ok nmJ2 hown hK hP hD hS 0 rfl rfl 0 (by decide) (hts _ q153) (fun _ h => h) rfl (ty := .int) rfl rfl rfl (Nat.le_of_ble_eq_true rfl) dJ1_init_6 (fun H locs hP hD hS => ?_)
  exact W.vret hx hb hr (fun t ht hW => ⟨rfl, ⟨_, [], ⟨rfl, rfl⟩, by rw [ht]; exact hP, hD⟩, hS.F ht⟩) hS.2.2 dJ1_init_9
theorem ct_list (l : Launch) (Z : CZ) (h sz : Nat) : Met l yJ2_init (ws_ yJ2_init cJ2_init 1 none) { frames := 3, cells := 0, slots := 0, locals := 180 } (va_Pc [.ref h] (ctS Z h (.inr (9, [.int 0, .null, .int 0])) sz (fun U => emZ Z (va_A [(h, .inr (9, [.int 0, .null, .int 0]))] sz) U U.heap))) (Qct Z h (.inr (9, [.int 0, .null, .int 0])) sz (fun E1 es => E1 = .inr (9, [.int 0, .ref Z.2.2.2, .int 0]) ∧ es = [])) 0 0 (va_A [(h, .inr (9, [.int 0, .null, .int 0]))] sz) := by
  refine Met.ofW (cc := cJ2_init) (maxL := 1) (ret := none) (by decide) rfl ?_
  intro p e s m args below meth c s₁ B hml hv
  obtain ⟨rfl, hsz, hP, hK, hXt⟩ := hv
  subst hsz
  have hts := atoms_spec (ws := ws_ yJ2_init cJ2_init 1 none) B.pre
  have hts : ∀ w ∈ lw_all, w.before _ s = true := fun w h => hts w (List.mem_cons_of_mem _ h)
  have C : SCx p s m _ meth c cJ2_init 1 none RJ2 := ⟨B.exec, B.bytes, B.returns, B.notSynchronized, hml, findClass_of_methodNamed B.named, hts⟩
  obtain ⟨hx, hb, hr, hlocks, hml, hown, -⟩ := id C
  have hin : meth.name = "<init>" := (name_of_methodNamed B.named B.method).1
  have hD : va_D (va_A [(h, .inr (9, [.int 0, .null, .int 0]))] s.heap.size) [(h, .inr (9, [.int 0, .null, .int 0]))] := va_D1
  have hS : va_S (va_A [(h, .inr (9, [.int 0, .null, .int 0]))] s.heap.size) s.heap s.heap [] := va_S.rf
  have hA : ∀ q, s.heap.size ≤ q → va_A [(h, .inr (9, [.int 0, .null, .int 0]))] s.heap.size q := fun q h => Or.inr h
  have hl := lv_entry ([.ref h]) (n := 1) (Nat.le_of_ble_eq_true rfl)
  rw [lg_entry_eq]
  generalize (lg_sl ([.ref h]) ++ List.replicate (1 - (lg_sl ([.ref h])).length) Slot.unset).toArray = ls at hl ⊢
  have hl : lv_has ls 1 [(0, .ref h)] := hl
  refine lv_aload_n hx hb dJ2_init_0 rfl (lv_at hl 0 rfl) ?_
  refine ct_callI (As := []) (rest := []) C hK hP hD hS hA 0 rfl (ct_alist l Z h s.heap.size) (fun _ _ _ _ h => h) (fun _ _ _ => trivial) (cwI 0 hts (lw_meth q144) rfl rfl rfl (hts _ q84) (hts _ q142) (hts _ q143) rfl (by decide +kernel) ⟨Nat.le_of_ble_eq_true rfl, Nat.le_of_ble_eq_true rfl⟩) ⟨Nat.le_of_ble_eq_true rfl, Nat.le_of_ble_eq_true rfl⟩ rfl hl.1 rfl (Nat.le_of_ble_eq_true rfl) dJ2_init_1 (fun E1 es H locs hmk hP hD hS => ?_)
  obtain ⟨rfl, rfl⟩ := hmk
  refine lv_aload_n hx hb dJ2_init_4 rfl (lv_at hl 0 rfl) ?_
  refine va_gets hx hb hXt.1 hS hown (hts _ q149) (fun _ h => h) dJ2_init_5 ?_
  refine va_put hx hb hts in_J2 tyJ2 tyJ2_ok nmJ2 hown hK hP hD hS 0 rfl rfl 1 (by decide) (hts _ q151) (fun _ h => h) rfl (ty := .array (.object "java/lang/Object")) rfl rfl rfl (Nat.le_of_ble_eq_true rfl) dJ2_init_8 (fun H locs hP hD hS => ?_)
  exact W.vret hx hb hr (fun t ht hW => ⟨rfl, ⟨_, [], ⟨rfl, rfl⟩, by rw [ht]; exact hP, hD⟩, hS.F ht⟩) hS.2.2 dJ2_init_11
