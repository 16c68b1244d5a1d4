/-! ArrayList.add, the first of all (it goes on) -/
def lhS (Z : CZ) (a sz : Nat) (mo : Int32) (v : Nat) (U : State) : Prop := lgS Z a sz mo U ∧ va_Any "java/lang/Object" U U.heap v
theorem lhS.blind {Z : CZ} {a sz : Nat} {mo : Int32} {v : Nat} {av : List Value} : FrameBlind (va_Pc av (lhS Z a sz mo v)) := fun b U g mk q => ⟨q.1, (lgS.blind b U g mk ⟨q.1, q.2.1⟩).2, va_Any.moved (u := U) (U := U.calling g mk b) (Vm.Alike.refl U.vm) q.2.2⟩
abbrev lhB (Z : CZ) (a sz : Nat) (mo : Int32) (v : Nat) (t : State) : Prop := ∃ q, sz ≤ q ∧ va_P Z.1 clA (lcW Z a q mo (nI 1) (va_up (fun _ => none) 0 (some v))) t.heap
theorem lgD2 {Z : CZ} {a q sz : Nat} {mo x : Int32} {f : Nat → Option Nat} (hq : sz ≤ q) (h : a ≠ q) : va_D (lgA a sz) (lcW Z a q mo x f) := (lcD h).weaken (fun _ _ _ z => z.elim Or.inl (fun e => Or.inr (by rw [e]; exact hq)))
set_option maxHeartbeats 4000000 in
theorem al_add2g (l : Launch) (Z : CZ) (a sz v : Nat) (mo : Int32) (hva : v ≠ a) (hs : a < sz) (hvs : v < sz) : Met l yJ2_add_2 (ws_ yJ2_add_2 cJ2_add_2 4 none) ({ frames := 3, cells := 1, slots := 10, locals := 90 }) (va_Pc [.ref a, .ref v, .ref Z.2.2.2, .int 0] (lhS Z a sz mo v)) (Qwr none (lhB Z a sz mo v) (lgA a sz)) 1 10 (lgA a sz) := by
  refine Met.ofW (cc := cJ2_add_2) (maxL := 4) (ret := none) (by decide) rfl ?_
  intro p e0 s m args below meth c s₁ B hml hv
  obtain ⟨rfl, ⟨hsz, hP, hK, hE⟩, hAny⟩ := hv
  subst hsz
  have hts := atoms_spec (ws := ws_ yJ2_add_2 cJ2_add_2 4 none) B.pre
  have hts : ∀ w ∈ lw_all, w.before _ s = true := fun w h => hts w (List.mem_cons_of_mem _ h)
  have C : SCx p s m _ meth c cJ2_add_2 4 none RJ2 := ⟨B.exec, B.bytes, B.returns, B.notSynchronized, hml, findClass_of_methodNamed B.named, hts⟩
  obtain ⟨hx, hb, hr, hlocks, hml, hown, -⟩ := id C
  have hS : va_S (lgA a s.heap.size) s.heap s.heap [] := va_S.rf
  have hl := lv_entry ([.ref a, .ref v, .ref Z.2.2.2, .int 0]) (n := 4) (Nat.le_of_ble_eq_true rfl)
  rw [lg_entry_eq]
  generalize (lg_sl ([.ref a, .ref v, .ref Z.2.2.2, .int 0]) ++ List.replicate (4 - (lg_sl ([.ref a, .ref v, .ref Z.2.2.2, .int 0])).length) Slot.unset).toArray = ls at hl ⊢
  have hl : lv_has ls 4 [(0, .ref a), (1, .ref v), (2, .ref Z.2.2.2), (3, .int 0)] := hl
  refine lv_iload_n hx hb dJ2_add_2_0 rfl (lv_at hl 3 rfl) ?_
  refine lv_aload_n hx hb dJ2_add_2_1 rfl (lv_at hl 2 rfl) ?_
  refine va_tlen (v := 0) hx hb hE.2.1 hS rfl dJ2_add_2_2 ?_
  refine lv_icmp_ne (tgt := 11) hx hb dJ2_add_2_3 (by decide) (fun c1 => absurd rfl c1) (fun _ => ?_)
  refine lv_aload_n hx hb dJ2_add_2_6 rfl (lv_at hl 0 rfl) ?_
  refine va_callr (va_runV (As := []) (rest := []) C.fix (al_grow l Z a s.heap.size mo) (cwV 0 hts (lw_V q560 q562 qs4 q85 q563) rfl rfl rfl (by decide +kernel) ⟨Nat.le_of_ble_eq_true rfl, Nat.le_of_ble_eq_true rfl⟩) ⟨lgS.blind, va_recv (ci := 9) (q0 := 0) hK hP rfl rfl, fun U hU hW => ⟨rfl, by rw [hU], by rw [hU]; exact hP, va_K.moved hW.alike hK, by rw [hU]; exact hE.moved hW.alike⟩⟩ rfl rfl hl.1 rfl (lv_room (Nat.le_of_ble_eq_true rfl)) dJ2_add_2_7 ⟨Nat.le_of_ble_eq_true rfl, Nat.le_of_ble_eq_true rfl⟩) hS (fun _ _ h => h) (fun _ h => h) (fun u q t H1 locs1 ht _ _ hB _ _ hS => ?_)
  obtain ⟨hq, hP⟩ := hB
  rw [ht] at hP
  have haq : a ≠ q := fun z => by omega
  have hAny1 : va_Any "java/lang/Object" s H1 v := hAny.kept (hS.2.1 v hvs (fun z => z.elim hva (fun z => by omega)))
  refine lv_astore_n (lv' := [(2, .ref q), (0, .ref a), (1, .ref v), (3, .int 0)]) hx hb dJ2_add_2_10 rfl hl (by decide) rfl (fun ls hl => ?_)
  refine lv_aload_n hx hb dJ2_add_2_11 rfl (lv_at hl 0 rfl) ?_
  refine lv_iload_n hx hb dJ2_add_2_12 rfl (lv_at hl 3 rfl) ?_
  refine lv_aload_n hx hb dJ2_add_2_13 rfl (lv_at hl 2 rfl) ?_
  refine va_astqM hx hb hK hP (lgD2 hq haq) hS 1 6 rfl rfl hAny1 (by unfold vp_in; decide) dJ2_add_2_14 (fun H locs hP hD hS => ?_)
  have hP : va_P Z.1 clA (lcW Z a q mo 0 (va_up (fun _ => none) 0 (some v))) H := hP
  refine lv_aload_n hx hb dJ2_add_2_15 rfl (lv_at hl 1 rfl) ?_
  refine lv_iload_n hx hb dJ2_add_2_16 rfl (lv_at hl 3 rfl) ?_
  refine lv_iconst (v := 1) hx hb dJ2_add_2_17 (by decide) ?_
  refine lv_iadd hx hb dJ2_add_2_18 ?_
  refine va_put hx hb hts in_J2 tyJ2 tyJ2_ok nmJ2 hown hK hP (lgD2 hq haq) hS 0 rfl rfl 2 (by decide) (hts _ q152) (fun _ h => h) rfl (ty := .int) rfl rfl rfl (Nat.le_of_ble_eq_true rfl) dJ2_add_2_19 (fun H locs hP hD hS => ?_)
  have hP : va_P Z.1 clA (lcW Z a q mo (nI 1) (va_up (fun _ => none) 0 (some v))) H := hP
  exact W.vret hx hb hr (fun t ht hW => ⟨rfl, ⟨q, hq, by rw [ht]; exact hP⟩, hS.F ht⟩) hS.2.2 dJ2_add_2_22
set_option maxHeartbeats 4000000 in
theorem al_addg (l : Launch) (Z : CZ) (a sz v : Nat) (mo : Int32) (hva : v ≠ a) (hs : a < sz) (hvs : v < sz) : Met l yJ2_add (ws_ yJ2_add cJ2_add 2 (some .boolean)) ({ frames := 4, cells := 1, slots := 10, locals := 120 }) (va_Pc [.ref a, .ref v] (lhS Z a sz mo v)) (Qwr (some (.int 1)) (lhB Z a sz (mo + 1) v) (lgA a sz)) 1 10 (lgA a sz) := by
  refine Met.ofW (cc := cJ2_add) (maxL := 2) (ret := some .boolean) (by decide) rfl ?_
  intro p e0 s m args below meth c s₁ B hml hv
  obtain ⟨rfl, ⟨hsz, hP, hK, hE⟩, hAny⟩ := hv
  subst hsz
  have hts := atoms_spec (ws := ws_ yJ2_add cJ2_add 2 (some .boolean)) B.pre
  have hts : ∀ w ∈ lw_all, w.before _ s = true := fun w h => hts w (List.mem_cons_of_mem _ h)
  have C : SCx p s m _ meth c cJ2_add 2 (some .boolean) RJ2 := ⟨B.exec, B.bytes, B.returns, B.notSynchronized, hml, findClass_of_methodNamed B.named, hts⟩
  obtain ⟨hx, hb, hr, hlocks, hml, hown, -⟩ := id C
  have hS : va_S (lgA a s.heap.size) s.heap s.heap [] := va_S.rf
  have hl := lv_entry ([.ref a, .ref v]) (n := 2) (Nat.le_of_ble_eq_true rfl)
  rw [lg_entry_eq]
  generalize (lg_sl ([.ref a, .ref v]) ++ List.replicate (2 - (lg_sl ([.ref a, .ref v])).length) Slot.unset).toArray = ls at hl ⊢
  have hl : lv_has ls 2 [(0, .ref a), (1, .ref v)] := hl
  refine lv_aload_n hx hb dJ2_add_0 rfl (lv_at hl 0 rfl) ?_
  refine lv_dup hx hb dJ2_add_1 rfl ?_
  refine va_get hx hb hts in_J2 hown hK hP 0 rfl rfl 0 (by decide) (hts _ q154) (u_same (hts _ q155)) rfl dJ2_add_2 ?_
  refine lv_iconst (v := 1) hx hb dJ2_add_5 (by decide) ?_
  refine lv_iadd hx hb dJ2_add_6 ?_
  -- the write keeps the size: only the list's own cell is touched
  refine va_put (A := tnA a) (H0 := s.heap) hx hb hts in_J2 tyJ2 tyJ2_ok nmJ2 hown hK hP tnD va_S.rf 0 rfl rfl 0 (by decide) (hts _ q154) (u_same (hts _ q155)) rfl (ty := .int) rfl rfl rfl (Nat.le_of_ble_eq_true rfl) dJ2_add_7 (fun H locs hP hD hS0 => ?_)
  have hP : va_P Z.1 clA (lgW Z a (mo + 1)) H := hP
  have hS : va_S (lgA a s.heap.size) s.heap H locs := ⟨hS0.1, fun q h1 h2 => hS0.2.1 q h1 (fun z => h2 (Or.inl z)), fun q hq => Or.inl (hS0.2.2 q hq)⟩
  refine lv_aload_n hx hb dJ2_add_10 rfl (lv_at hl 0 rfl) ?_
  refine lv_aload_n hx hb dJ2_add_11 rfl (lv_at hl 1 rfl) ?_
  refine lv_aload_n hx hb dJ2_add_12 rfl (lv_at hl 0 rfl) ?_
  refine va_get hx hb hts in_J2 hown hK hP 0 rfl rfl 1 (by decide) (hts _ q151) (fun _ h => h) rfl dJ2_add_13 ?_
  refine lv_aload_n hx hb dJ2_add_16 rfl (lv_at hl 0 rfl) ?_
  refine va_get hx hb hts in_J2 hown hK hP 0 rfl rfl 2 (by decide) (hts _ q152) (fun _ h => h) rfl dJ2_add_17 ?_
  have hAny1 : va_Any "java/lang/Object" s H v := hAny.kept (hS0.2.1 v hvs hva)
  have hE1 : emZ Z (lgA a H.size) s H := (hE.kept hS.2.1).narrow (fun q z => z.imp_right (fun z => Nat.le_trans hS.1 z))
  refine c_wr (va_runV (As := [.ref v, .ref Z.2.2.2, .int 0]) (rest := []) C.fix (al_add2g l Z a H.size v (mo + 1) hva (Nat.lt_of_lt_of_le hs hS.1) (Nat.lt_of_lt_of_le hvs hS.1)) (cwV 3 hts (lw_V q556 q558 qs3 q85 q559) rfl rfl rfl (by decide +kernel) ⟨Nat.le_of_ble_eq_true rfl, Nat.le_of_ble_eq_true rfl⟩) ⟨lhS.blind, va_recv (ci := 9) (q0 := 0) hK hP rfl rfl, fun U hU hW => ⟨rfl, ⟨by rw [hU], by rw [hU]; exact hP, va_K.moved hW.alike hK, by rw [hU]; exact hE1.moved hW.alike⟩, by rw [hU]; exact va_Any.moved hW.alike hAny1⟩⟩ rfl rfl hl.1 rfl (lv_room (Nat.le_of_ble_eq_true rfl)) dJ2_add_20 ⟨Nat.le_of_ble_eq_true rfl, Nat.le_of_ble_eq_true rfl⟩) hS (fun q _ z => z.imp_right (fun z => Nat.le_trans hS.1 z)) (fun q z => z.imp_right (fun z => Nat.le_trans hS.1 z)) (fun t H1 locs1 ht _ hB _ _ hS1 => ?_)
  obtain ⟨q, hq, hB⟩ := hB
  rw [ht] at hB
  refine lv_iconst (v := 1) hx hb dJ2_add_23 (by decide) ?_
  exact W.zret hx hb hr rfl (fun t ht hW => ⟨rfl, ⟨q, Nat.le_trans hS.1 hq, by rw [ht]; exact hB⟩, hS1.F ht⟩) hS1.2.2 dJ2_add_24
