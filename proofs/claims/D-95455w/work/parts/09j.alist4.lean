/-! ArrayList.add where the array has room -/
theorem va_Any.moved {E : String} {u U : State} {H : Heap} {a : Nat} (hvm : u.vm.Alike U.vm) (h : va_Any E u H a) : va_Any E U H a := by
  obtain ⟨cell, h1, h2, ⟨k, h3⟩, h4⟩ := h
  obtain ⟨k', hk', -⟩ := hvm.2.2 _ _ h3
  exact ⟨cell, h1, h2, ⟨k', hk'⟩, fun comp hc => by rw [hvm.assignable]; exact h4 comp (by rw [← hvm.findClass]; exact hc)⟩
theorem va_Any.kept {E : String} {U : State} {H H1 : Heap} {a : Nat} (h : va_Any E U H a) (e : H1[a]? = H[a]?) : va_Any E U H1 a := by
  obtain ⟨cell, h1, h2⟩ := h
  exact ⟨cell, e.trans h1, h2⟩
theorem va_Any.lt {E : String} {U : State} {H : Heap} {a : Nat} (h : va_Any E U H a) : a < H.size := by
  obtain ⟨cell, h1, -⟩ := h
  exact (Array.getElem?_eq_some_iff.mp h1).1
def laS (Z : CZ) (a e : Nat) (mo sz : Int32) (f : Nat → Option Nat) (v : Nat) (U : State) : Prop := lcS Z a e mo sz f U ∧ va_Any "java/lang/Object" U U.heap v
theorem laS.blind {Z : CZ} {a e : Nat} {mo sz : Int32} {f : Nat → Option Nat} {v : Nat} {av : List Value} : FrameBlind (va_Pc av (laS Z a e mo sz f v)) := fun b U g mk q => ⟨q.1, ⟨q.2.1.1, va_K.moved (u := U) (U := U.calling g mk b) (Vm.Alike.refl U.vm) q.2.1.2⟩, va_Any.moved (u := U) (U := U.calling g mk b) (Vm.Alike.refl U.vm) q.2.2⟩
set_option maxHeartbeats 4000000 in
theorem al_add2 (l : Launch) (Z : CZ) (a e v : Nat) (mo : Int32) (N : Nat) (hN : N < 10) (f : Nat → Option Nat) (hae : a ≠ e) : Met l yJ2_add_2 (ws_ yJ2_add_2 cJ2_add_2 4 none) ({ frames := 0, cells := 0, slots := 0, locals := 0 }) (va_Pc [.ref a, .ref v, .ref e, .int (nI N)] (laS Z a e mo (nI N) f v)) (Qwr none (fun t => va_P Z.1 clA (lcW Z a e mo (nI (N + 1)) (va_up f N (some v))) t.heap) (lcA a e)) 0 0 (lcA a e) := by
  refine Met.ofW (cc := cJ2_add_2) (maxL := 4) (ret := none) (by decide) rfl ?_
  intro p e0 s m args below meth c s₁ B hml hv
  obtain ⟨rfl, ⟨hP, hK⟩, hAny⟩ := hv
  have hts := atoms_spec (ws := ws_ yJ2_add_2 cJ2_add_2 4 none) B.pre
  have hts : ∀ w ∈ lw_all, w.before _ s = true := fun w h => hts w (List.mem_cons_of_mem _ h)
  have C : SCx p s m _ meth c cJ2_add_2 4 none RJ2 := ⟨B.exec, B.bytes, B.returns, B.notSynchronized, hml, findClass_of_methodNamed B.named, hts⟩
  obtain ⟨hx, hb, hr, hlocks, hml, hown, -⟩ := id C
  have hS : va_S (lcA a e) s.heap s.heap [] := va_S.rf
  have hl := lv_entry ([.ref a, .ref v, .ref e, .int (nI N)]) (n := 4) (Nat.le_of_ble_eq_true rfl)
  rw [lg_entry_eq]
  generalize (lg_sl ([.ref a, .ref v, .ref e, .int (nI N)]) ++ List.replicate (4 - (lg_sl ([.ref a, .ref v, .ref e, .int (nI N)])).length) Slot.unset).toArray = ls at hl ⊢
  have hl : lv_has ls 4 [(0, .ref a), (1, .ref v), (2, .ref e), (3, .int (nI N))] := hl
  refine lv_iload_n hx hb dJ2_add_2_0 rfl (lv_at hl 3 rfl) ?_
  refine lv_aload_n hx hb dJ2_add_2_1 rfl (lv_at hl 2 rfl) ?_
  refine va_alen (v := nI 10) hx hb hK hP 1 6 rfl rfl rfl dJ2_add_2_2 ?_
  refine lv_icmp_ne (tgt := 11) hx hb dJ2_add_2_3 (by decide) (fun _ => ?_) (fun c1 => absurd ((nI_eq (by omega) (by omega)).mp c1) (by omega))
  refine lv_aload_n hx hb dJ2_add_2_11 rfl (lv_at hl 2 rfl) ?_
  refine lv_iload_n hx hb dJ2_add_2_12 rfl (lv_at hl 3 rfl) ?_
  refine lv_aload_n hx hb dJ2_add_2_13 rfl (lv_at hl 1 rfl) ?_
  refine va_astqM hx hb hK hP (lcD hae) hS 1 6 rfl rfl hAny (vp_in_nI (by omega) (by omega)) dJ2_add_2_14 (fun H locs hP hD hS => ?_)
  have hP : va_P Z.1 clA (lcW Z a e mo (nI N) (va_up f (nI N).toNatClampNeg (some v))) H := hP
  rw [nI_clamp (by omega)] at hP
  refine lv_aload_n hx hb dJ2_add_2_15 rfl (lv_at hl 0 rfl) ?_
  refine lv_iload_n hx hb dJ2_add_2_16 rfl (lv_at hl 3 rfl) ?_
  refine lv_iconst (v := 1) hx hb dJ2_add_2_17 (by decide) ?_
  refine lv_iadd hx hb dJ2_add_2_18 ?_
  refine va_put hx hb hts in_J2 tyJ2 tyJ2_ok nmJ2 hown hK hP (lcD hae) hS 0 rfl rfl 2 (by decide) (hts _ q152) (fun _ h => h) rfl (ty := .int) rfl rfl rfl (Nat.le_of_ble_eq_true rfl) dJ2_add_2_19 (fun H locs hP hD hS => ?_)
  have hP : va_P Z.1 clA (lcW Z a e mo (nI N + 1) (va_up f N (some v))) H := hP
  rw [nI_1] at hP
  exact W.vret hx hb hr (fun t ht hW => ⟨rfl, by show va_P _ _ _ t.heap; rw [ht]; exact hP, hS.F ht⟩) hS.2.2 dJ2_add_2_22
set_option maxHeartbeats 4000000 in
theorem al_add (l : Launch) (Z : CZ) (a e v : Nat) (mo : Int32) (N : Nat) (hN : N < 10) (f : Nat → Option Nat) (hae : a ≠ e) (hva : v ≠ a) (hve : v ≠ e) : Met l yJ2_add (ws_ yJ2_add cJ2_add 2 (some .boolean)) ({ frames := 1, cells := 0, slots := 0, locals := 23 }) (va_Pc [.ref a, .ref v] (laS Z a e mo (nI N) f v)) (Qwr (some (.int 1)) (fun t => va_P Z.1 clA (lcW Z a e (mo + 1) (nI (N + 1)) (va_up f N (some v))) t.heap) (lcA a e)) 0 0 (lcA a e) := by
  refine Met.ofW (cc := cJ2_add) (maxL := 2) (ret := some .boolean) (by decide) rfl ?_
  intro p e0 s m args below meth c s₁ B hml hv
  obtain ⟨rfl, ⟨hP, hK⟩, hAny⟩ := hv
  have hts := atoms_spec (ws := ws_ yJ2_add cJ2_add 2 (some .boolean)) B.pre
  have hts : ∀ w ∈ lw_all, w.before _ s = true := fun w h => hts w (List.mem_cons_of_mem _ h)
  have C : SCx p s m _ meth c cJ2_add 2 (some .boolean) RJ2 := ⟨B.exec, B.bytes, B.returns, B.notSynchronized, hml, findClass_of_methodNamed B.named, hts⟩
  obtain ⟨hx, hb, hr, hlocks, hml, hown, -⟩ := id C
  have hS : va_S (lcA a e) s.heap s.heap [] := va_S.rf
  have hl := lv_entry ([.ref a, .ref v]) (n := 2) (Nat.le_of_ble_eq_true rfl)
  rw [lg_entry_eq]
  generalize (lg_sl ([.ref a, .ref v]) ++ List.replicate (2 - (lg_sl ([.ref a, .ref v])).length) Slot.unset).toArray = ls at hl ⊢
  have hl : lv_has ls 2 [(0, .ref a), (1, .ref v)] := hl
  refine lv_aload_n hx hb dJ2_add_0 rfl (lv_at hl 0 rfl) ?_
  refine lv_dup hx hb dJ2_add_1 rfl ?_
  refine va_get hx hb hts in_J2 hown hK hP 0 rfl rfl 0 (by decide) (hts _ q154) (u_same (hts _ q155)) rfl dJ2_add_2 ?_
  refine lv_iconst (v := 1) hx hb dJ2_add_5 (by decide) ?_
  refine lv_iadd hx hb dJ2_add_6 ?_
  refine va_put hx hb hts in_J2 tyJ2 tyJ2_ok nmJ2 hown hK hP (lcD hae) hS 0 rfl rfl 0 (by decide) (hts _ q154) (u_same (hts _ q155)) rfl (ty := .int) rfl rfl rfl (Nat.le_of_ble_eq_true rfl) dJ2_add_7 (fun H locs hP hD hS => ?_)
  have hP : va_P Z.1 clA (lcW Z a e (mo + 1) (nI N) f) H := hP
  refine lv_aload_n hx hb dJ2_add_10 rfl (lv_at hl 0 rfl) ?_
  refine lv_aload_n hx hb dJ2_add_11 rfl (lv_at hl 1 rfl) ?_
  refine lv_aload_n hx hb dJ2_add_12 rfl (lv_at hl 0 rfl) ?_
  refine va_get hx hb hts in_J2 hown hK hP 0 rfl rfl 1 (by decide) (hts _ q151) (fun _ h => h) rfl dJ2_add_13 ?_
  refine lv_aload_n hx hb dJ2_add_16 rfl (lv_at hl 0 rfl) ?_
  refine va_get hx hb hts in_J2 hown hK hP 0 rfl rfl 2 (by decide) (hts _ q152) (fun _ h => h) rfl dJ2_add_17 ?_
  have hAny1 : va_Any "java/lang/Object" s H v := hAny.kept (hS.2.1 v hAny.lt (fun z => z.elim hva hve))
  refine c_wr (va_runV (As := [.ref v, .ref e, .int (nI N)]) (rest := []) C.fix (al_add2 l Z a e v (mo + 1) N hN f hae) (cwV 3 hts (lw_V q556 q558 qs3 q85 q559) rfl rfl rfl (by decide +kernel) ⟨Nat.le_of_ble_eq_true rfl, Nat.le_of_ble_eq_true rfl⟩) ⟨laS.blind, va_recv (ci := 9) (q0 := 0) hK hP rfl rfl, fun U hU hW => ⟨rfl, ⟨by rw [hU]; exact hP, va_K.moved hW.alike hK⟩, by rw [hU]; exact va_Any.moved hW.alike hAny1⟩⟩ rfl rfl hl.1 rfl (lv_room (Nat.le_of_ble_eq_true rfl)) dJ2_add_20 ⟨Nat.le_refl _, Nat.le_refl _⟩) hS (fun _ _ h => h) (fun _ h => h) (fun t H1 locs1 ht _ hB _ _ hS => ?_)
  rw [ht] at hB
  refine lv_iconst (v := 1) hx hb dJ2_add_23 (by decide) ?_
  exact W.zret hx hb hr rfl (fun t ht hW => ⟨rfl, by show va_P _ _ _ t.heap; rw [ht]; exact hB, hS.F ht⟩) hS.2.2 dJ2_add_24
