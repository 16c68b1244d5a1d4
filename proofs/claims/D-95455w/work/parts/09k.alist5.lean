/-! ArrayList.add, the first of all: ten places are made -/
def lgA (a sz : Nat) : Nat → Prop := fun q => q = a ∨ sz ≤ q
theorem lgD {a sz : Nat} {e : va_E} : va_D (lgA a sz) [(a, e)] := tnD.weaken (fun _ _ _ h => Or.inl h)
abbrev emZ (Z : CZ) (A : Nat → Prop) (U : State) (H : Heap) : Prop := va_Z "java/util/ArrayList" "DEFAULTCAPACITY_EMPTY_ELEMENTDATA" "[Ljava/lang/Object;" (.ref Z.2.2.2) A U H ∧ va_T (.object "java/lang/Object") Z.2.2.2 0 (fun _ => .null) A U H ∧ va_AO "java/lang/Object" U
theorem emZ.moved {Z : CZ} {A : Nat → Prop} {u U : State} {H : Heap} (hvm : u.vm.Alike U.vm) (h : emZ Z A u H) : emZ Z A U H := ⟨va_Z.moved hvm h.1, va_T.moved hvm h.2.1, va_AO.moved hvm h.2.2⟩
theorem emZ.kept {Z : CZ} {A : Nat → Prop} {U : State} {H H1 : Heap} (h : emZ Z A U H) (hq : ∀ a : Nat, a < H.size → ¬ A a → H1[a]? = H[a]?) : emZ Z A U H1 := ⟨h.1.kept hq, h.2.1.kept hq, h.2.2⟩
theorem emZ.narrow {Z : CZ} {A B : Nat → Prop} {U : State} {H : Heap} (h : emZ Z A U H) (hAB : ∀ q, B q → A q) : emZ Z B U H := ⟨h.1.narrow hAB, h.2.1.narrow hAB, h.2.2⟩
abbrev lgW (Z : CZ) (a : Nat) (mo : Int32) : va_W := [(a, .inr (9, [.int mo, .ref Z.2.2.2, .int 0]))]
def lgS (Z : CZ) (a sz : Nat) (mo : Int32) (U : State) : Prop := U.heap.size = sz ∧ va_P Z.1 clA (lgW Z a mo) U.heap ∧ va_K Z.1 clA (tysA (cAc Z)) U ∧ emZ Z (lgA a sz) U U.heap
theorem lgS.blind {Z : CZ} {a sz : Nat} {mo : Int32} {av : List Value} : FrameBlind (va_Pc av (lgS Z a sz mo)) := fun b U g mk q => ⟨q.1, q.2.1, q.2.2.1, va_K.moved (u := U) (U := U.calling g mk b) (Vm.Alike.refl U.vm) q.2.2.2.1, emZ.moved (u := U) (U := U.calling g mk b) (Vm.Alike.refl U.vm) q.2.2.2.2⟩
abbrev lgQ (Z : CZ) (a sz : Nat) (mo : Int32) : Array Value → State → Outcome → State → Prop := va_Qr (fun _ : Unit => True) (fun _ q t => sz ≤ q ∧ va_P Z.1 clA (lcW Z a q mo 0 (fun _ => none)) t.heap) (lgA a sz)
set_option maxHeartbeats 4000000 in
theorem al_grow2 (l : Launch) (Z : CZ) (a sz : Nat) (mo : Int32) : Met l yJ2_grow_2 (ws_ yJ2_grow_2 cJ2_grow_2 4 (some (.array (.object "java/lang/Object")))) ({ frames := 1, cells := 1, slots := 10, locals := 30 }) (va_Pc [.ref a, .int 1] (lgS Z a sz mo)) (lgQ Z a sz mo) 1 10 (lgA a sz) := by
  refine Met.ofW (cc := cJ2_grow_2) (maxL := 4) (ret := some (.array (.object "java/lang/Object"))) (by decide) rfl ?_
  intro p e0 s m args below meth c s₁ B hml hv
  obtain ⟨rfl, hsz, hP, hK, hZ, hT, hAO⟩ := hv
  subst hsz
  have hts := atoms_spec (ws := ws_ yJ2_grow_2 cJ2_grow_2 4 (some (.array (.object "java/lang/Object")))) B.pre
  have hts : ∀ w ∈ lw_all, w.before _ s = true := fun w h => hts w (List.mem_cons_of_mem _ h)
  have C : SCx p s m _ meth c cJ2_grow_2 4 (some (.array (.object "java/lang/Object"))) RJ2 := ⟨B.exec, B.bytes, B.returns, B.notSynchronized, hml, findClass_of_methodNamed B.named, hts⟩
  obtain ⟨hx, hb, hr, hlocks, hml, hown, -⟩ := id C
  have hS : va_S (lgA a s.heap.size) s.heap s.heap [] := va_S.rf
  have hA : ∀ q, s.heap.size ≤ q → lgA a s.heap.size q := fun q h => Or.inr h
  have hl := lv_entry ([.ref a, .int 1]) (n := 4) (Nat.le_of_ble_eq_true rfl)
  rw [lg_entry_eq]
  generalize (lg_sl ([.ref a, .int 1]) ++ List.replicate (4 - (lg_sl ([.ref a, .int 1])).length) Slot.unset).toArray = ls at hl ⊢
  have hl : lv_has ls 4 [(0, .ref a), (1, .int 1)] := hl
  refine lv_aload_n hx hb dJ2_grow_2_0 rfl (lv_at hl 0 rfl) ?_
  refine va_get hx hb hts in_J2 hown hK hP 0 rfl rfl 1 (by decide) (hts _ q151) (fun _ h => h) rfl dJ2_grow_2_1 ?_
  refine va_tlen (v := 0) hx hb hT hS rfl dJ2_grow_2_4 ?_
  refine lv_istore_n (lv' := [(2, .int 0), (0, .ref a), (1, .int 1)]) hx hb dJ2_grow_2_5 rfl hl (by decide) rfl (fun ls hl => ?_)
  refine lv_iload_n hx hb dJ2_grow_2_6 rfl (lv_at hl 0 rfl) ?_
  refine lv_if_gt (tgt := 20) hx hb dJ2_grow_2_7 (by decide) (fun c1 => absurd c1 (by decide)) (fun _ => ?_)
  refine lv_aload_n hx hb dJ2_grow_2_10 rfl (lv_at hl 1 rfl) ?_
  refine va_get hx hb hts in_J2 hown hK hP 0 rfl rfl 1 (by decide) (hts _ q151) (fun _ h => h) rfl dJ2_grow_2_11 ?_
  refine va_gets hx hb hZ hS hown (hts _ q149) (fun _ h => h) dJ2_grow_2_14 ?_
  refine lv_acmp_eq (rx := some Z.2.2.2) (ry := some Z.2.2.2) (tgt := 45) hx hb dJ2_grow_2_17 (by decide) (fun _ => ?_) (fun c1 => absurd rfl c1)
  refine lv_aload_n hx hb dJ2_grow_2_45 rfl (lv_at hl 1 rfl) ?_
  refine lv_bipush (v := 10) hx hb dJ2_grow_2_46 (by decide) ?_
  refine lv_iload_n hx hb dJ2_grow_2_48 rfl (lv_at hl 2 rfl) ?_
  refine va_mmax (rest := [.ref a]) hx hb (hml.trans hl.1.symm) hown (hts _ q610) (hts _ q572) (hts _ q94) (hts _ q573) (Nat.le_of_ble_eq_true rfl) (Nat.le_of_ble_eq_true rfl) (Nat.zero_le _) (Nat.zero_le _) dJ2_grow_2_49 ?_
  refine va_newq (N' := 10) hx hb hown (hts _ q611) hAO hK hP lgD hS hA (by decide) rfl (by decide) (Nat.le_of_ble_eq_true rfl) (Nat.le_of_ble_eq_true rfl) dJ2_grow_2_52 (fun q cA H hK2 hP hD hS => ?_)
  have hcA : cA = cAc Z 6 := by
    obtain ⟨k1, c1, -, -, -, g1⟩ := (hK2.2 8 _ rfl).2
    obtain ⟨k2, c2, -, -, -, g2⟩ := (hK.2 6 _ rfl).2
    exact Option.some.inj (g1.symm.trans g2)
  subst hcA
  have hq : s.heap.size ≤ q := by
    rcases hD.2 1 _ rfl with z | z
    · exact absurd (hD.1 0 1 _ _ rfl rfl z.symm) (by decide)
    · exact z
  refine lv_dup_x1 hx hb dJ2_grow_2_55 rfl rfl ?_
  refine va_put hx hb hts in_J2 tyJ2 tyJ2_ok nmJ2 hown hK hP hD hS 0 rfl rfl 1 (by decide) (hts _ q151) (fun _ h => h) rfl (ty := .array (.object "java/lang/Object")) rfl rfl rfl (Nat.le_of_ble_eq_true rfl) dJ2_grow_2_56 (fun H locs hP hD hS => ?_)
  exact W.aret hx hb hr (Or.inr ⟨_, rfl⟩) (Or.inr ⟨_, rfl⟩) (fun t ht hW => ⟨⟨(), q, rfl, trivial, hq, by rw [ht]; exact hP⟩, hS.F ht⟩) hS.2.2 dJ2_grow_2_59
set_option maxHeartbeats 4000000 in
theorem al_grow (l : Launch) (Z : CZ) (a sz : Nat) (mo : Int32) : Met l yJ2_grow (ws_ yJ2_grow cJ2_grow 1 (some (.array (.object "java/lang/Object")))) ({ frames := 2, cells := 1, slots := 10, locals := 60 }) (va_Pc [.ref a] (lgS Z a sz mo)) (lgQ Z a sz mo) 1 10 (lgA a sz) := by
  refine Met.ofW (cc := cJ2_grow) (maxL := 1) (ret := some (.array (.object "java/lang/Object"))) (by decide) rfl ?_
  intro p e0 s m args below meth c s₁ B hml hv
  obtain ⟨rfl, hsz, hP, hK, hE⟩ := hv
  subst hsz
  have hts := atoms_spec (ws := ws_ yJ2_grow cJ2_grow 1 (some (.array (.object "java/lang/Object")))) B.pre
  have hts : ∀ w ∈ lw_all, w.before _ s = true := fun w h => hts w (List.mem_cons_of_mem _ h)
  have C : SCx p s m _ meth c cJ2_grow 1 (some (.array (.object "java/lang/Object"))) RJ2 := ⟨B.exec, B.bytes, B.returns, B.notSynchronized, hml, findClass_of_methodNamed B.named, hts⟩
  obtain ⟨hx, hb, hr, hlocks, hml, hown, -⟩ := id C
  have hS : va_S (lgA a s.heap.size) s.heap s.heap [] := va_S.rf
  have hl := lv_entry ([.ref a]) (n := 1) (Nat.le_of_ble_eq_true rfl)
  rw [lg_entry_eq]
  generalize (lg_sl ([.ref a]) ++ List.replicate (1 - (lg_sl ([.ref a])).length) Slot.unset).toArray = ls at hl ⊢
  have hl : lv_has ls 1 [(0, .ref a)] := hl
  refine lv_aload_n hx hb dJ2_grow_0 rfl (lv_at hl 0 rfl) ?_
  refine lv_aload_n hx hb dJ2_grow_1 rfl (lv_at hl 0 rfl) ?_
  refine va_get hx hb hts in_J2 hown hK hP 0 rfl rfl 2 (by decide) (hts _ q152) (fun _ h => h) rfl dJ2_grow_2 ?_
  refine lv_iconst (v := 1) hx hb dJ2_grow_5 (by decide) ?_
  refine lv_iadd hx hb dJ2_grow_6 ?_
  refine va_callr (va_runV (As := [.int ((0 : Int32) + 1)]) (rest := []) C.fix (al_grow2 l Z a s.heap.size mo) (cwV 1 hts (lw_V q564 q566 qs5 q85 q567) rfl rfl rfl (by decide +kernel) ⟨Nat.le_of_ble_eq_true rfl, Nat.le_of_ble_eq_true rfl⟩) ⟨lgS.blind, va_recv (ci := 9) (q0 := 0) hK hP rfl rfl, fun U hU hW => ⟨rfl, by rw [hU], by rw [hU]; exact hP, va_K.moved hW.alike hK, by rw [hU]; exact hE.moved hW.alike⟩⟩ rfl rfl hl.1 rfl (lv_room (Nat.le_of_ble_eq_true rfl)) dJ2_grow_7 ⟨Nat.le_of_ble_eq_true rfl, Nat.le_of_ble_eq_true rfl⟩) hS (fun _ _ h => h) (fun _ h => h) (fun u q t H1 locs1 ht _ _ hB _ _ hS => ?_)
  obtain ⟨hq, hP⟩ := hB
  rw [ht] at hP
  exact W.aret hx hb hr (Or.inr ⟨_, rfl⟩) (Or.inr ⟨_, rfl⟩) (fun t ht hW => ⟨⟨(), q, rfl, trivial, hq, by rw [ht]; exact hP⟩, hS.F ht⟩) hS.2.2 dJ2_grow_10
