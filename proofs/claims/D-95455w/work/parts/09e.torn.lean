/-! Torn: its constructors -/
def tnA (h : Nat) : Nat → Prop := fun q => q = h
theorem tnD {h : Nat} {e : va_E} : va_D (tnA h) [(h, e)] := by
  refine ⟨fun i j p q hp hq _ => ?_, fun k q hk => ?_⟩
  · match i, j, hp, hq with
    | 0, 0, _, _ => rfl
    | 0, j + 1, _, hq => simp at hq
    | i + 1, _, hp, _ => simp at hp
  · match k, hk with
    | 0, hk => cases hk; rfl
    | k + 1, hk => simp at hk
abbrev tnUS (A : Nat → Prop) (U : State) (H : Heap) : Prop := va_Zq "java/lang/Throwable" "UNASSIGNED_STACK" "[Ljava/lang/StackTraceElement;" A U H ∧ va_Zq "java/lang/Throwable" "SUPPRESSED_SENTINEL" "Ljava/util/List;" A U H
def tnS (Z : CZ) (h : Nat) (fs : List Value) (U : State) : Prop := va_P Z.1 clA [(h, .inr (6, fs))] U.heap ∧ va_K Z.1 clA (tysA (cAc Z)) U ∧ tnUS (tnA h) U U.heap
theorem va_Zq.same {C n d : String} {A : Nat → Prop} {u U : State} (hv : u.vm = U.vm) {H : Heap} (h : va_Zq C n d A u H) : va_Zq C n d A U H := va_Zq.moved (by rw [hv]; exact Vm.Alike.refl _) h
theorem tnS.blind {Z : CZ} {h : Nat} {fs : List Value} {av : List Value} : FrameBlind (va_Pc av (tnS Z h fs)) := fun a U g mk q => ⟨q.1, q.2.1, va_K.moved (u := U) (U := U.calling g mk a) (Vm.Alike.refl U.vm) q.2.2.1, va_Zq.same (u := U) (U := U.calling g mk a) rfl q.2.2.2.1, va_Zq.same (u := U) (U := U.calling g mk a) rfl q.2.2.2.2⟩
section TN
variable {p : Program} {l : Launch} {e : Env} {R : Room} {s : State} {m : MethodId} {args : Array Value} {below : List Frame} {meth : Method} {c : Code} {H : Heap} {locs : List Loc} {cells slots : Nat} {Q : State → Prop} {cc : ByteArray} {pc : Nat} {ls : Array Slot} {rest : List Value} {A : Nat → Prop}
theorem va_getsq (hexec : p.tables.exec = Jvm.exec) (hb : c.code = cc) {C n d own ref : String} {index : Nat} (hZ : va_Zq C n d A s s.heap) (hS : va_S A s.heap H locs) (hown : s.vm.findClass own = some m.cls) (hlink : (Cond.fieldLink own index ref n d).before args s = true) (hsame : ∀ x, s.fieldFound? C n d = some x → s.fieldFound? ref n d = some x) (hdg : decode cc pc = .ok (.getstatic index, 3))
    (kk : ∀ r : Option Nat, W p l e R s m args below meth c H locs cells slots Q (F0 m (pc + 3) ls (va_rf r :: rest))) : W p l e R s m args below meth c H locs cells slots Q (F0 m pc ls rest) := by
  rcases hZ with hZ | ⟨t, hZ⟩
  · exact va_gets hexec hb hZ hS hown hlink hsame hdg (kk none)
  · exact va_gets hexec hb hZ hS hown hlink hsame hdg (kk (some t))
end TN
set_option maxHeartbeats 4000000 in
theorem tn_thr (l : Launch) (Z : CZ) (h : Nat) (f0 f1 f2 f3 f4 f5 f6 : Value) : Met l yJ3_init_2 (ws_ yJ3_init_2 cJ3_init_2 5 none) ({ frames := 1, cells := 0, slots := 0, locals := 20 }) (va_Pc [.ref h, .null, .null, .int 0, .int 0] (tnS Z h [f0, f1, f2, f3, f4, f5, f6])) (Qwr none (fun t => va_P Z.1 clA [(h, .inr (6, [.null, .null, .null, .null, f4, f5, f6]))] t.heap) (tnA h)) 0 0 (tnA h) := by
  refine Met.ofW (cc := cJ3_init_2) (maxL := 5) (ret := none) (by decide) rfl ?_
  intro p e s m args below meth c s₁ B hml hv
  obtain ⟨rfl, hP, hK, hZ1, hZ2⟩ := hv
  have hx := B.exec
  have hb := B.bytes
  have hr := B.returns
  have hts := atoms_spec (ws := ws_ yJ3_init_2 cJ3_init_2 5 none) B.pre
  have hts : ∀ w ∈ lw_all, w.before _ s = true := fun w h => hts w (List.mem_cons_of_mem _ h)
  have hown : s.vm.findClass RJ3 = some m.cls := findClass_of_methodNamed B.named
  have hlocks := B.notSynchronized
  have hD : va_D (tnA h) [(h, .inr (6, [f0, f1, f2, f3, f4, f5, f6]))] := tnD
  have hS : va_S (tnA h) s.heap s.heap [] := va_S.rf
  have hl := lv_entry ([.ref h, .null, .null, .int 0, .int 0]) (n := 5) (Nat.le_of_ble_eq_true rfl)
  rw [lg_entry_eq]
  generalize (lg_sl ([.ref h, .null, .null, .int 0, .int 0]) ++ List.replicate (5 - (lg_sl ([.ref h, .null, .null, .int 0, .int 0])).length) Slot.unset).toArray = ls at hl ⊢
  have hl : lv_has ls 5 [(0, .ref h), (1, .null), (2, .null), (3, .int 0), (4, .int 0)] := hl
  refine lv_aload_n hx hb dJ3_init_2_0 rfl (lv_at hl 0 rfl) ?_
  refine W.objInit hx hb hown (hts _ q451) (hts _ q113) (hts _ q114) rfl (by rw [hml]; exact hl.1) rfl dJ3_init_2_1 (Nat.le_of_ble_eq_true rfl) (Nat.le_of_ble_eq_true rfl) ?_
  refine W.eq (g2 := F0 m 4 ls []) rfl ?_
  refine lv_aload_n hx hb dJ3_init_2_4 rfl (lv_at hl 0 rfl) ?_
  refine lv_aload_n hx hb dJ3_init_2_5 rfl (lv_at hl 0 rfl) ?_
  refine va_put hx hb hts in_X7 tyX7 tyX7_ok nmX7 hown hK hP hD hS 0 rfl rfl 0 (by decide) (hts _ q481) (fun _ h => h) rfl (ty := .object "java/lang/Throwable") rfl rfl rfl (Nat.le_of_ble_eq_true rfl) dJ3_init_2_6 (fun H locs hP hD hS => ?_)
  refine lv_aload_n hx hb dJ3_init_2_9 rfl (lv_at hl 0 rfl) ?_
  refine va_getsq hx hb hZ1 hS hown (hts _ q452) (fun _ h => h) dJ3_init_2_10 (fun r1 => ?_)
  refine va_put hx hb hts in_X7 tyX7 tyX7_ok nmX7 hown hK hP hD hS 0 rfl rfl 1 (by decide) (hts _ q482) (fun _ h => h) rfl (ty := .array (.object "java/lang/StackTraceElement")) rfl (by cases r1 <;> rfl) (by cases r1 <;> rfl) (Nat.le_of_ble_eq_true rfl) dJ3_init_2_13 (fun H locs hP hD hS => ?_)
  refine lv_aload_n hx hb dJ3_init_2_16 rfl (lv_at hl 0 rfl) ?_
  refine va_getsq hx hb hZ2 hS hown (hts _ q454) (fun _ h => h) dJ3_init_2_17 (fun r2 => ?_)
  refine va_put hx hb hts in_X7 tyX7 tyX7_ok nmX7 hown hK hP hD hS 0 rfl rfl 2 (by decide) (hts _ q483) (fun _ h => h) rfl (ty := .object "java/util/List") rfl (by cases r2 <;> rfl) (by cases r2 <;> rfl) (Nat.le_of_ble_eq_true rfl) dJ3_init_2_20 (fun H locs hP hD hS => ?_)
  refine lv_iload hx hb dJ3_init_2_23 (lv_at hl 4 rfl) ?_
  refine lv_if_eq (tgt := 36) hx hb dJ3_init_2_25 (by decide) (fun _ => ?_) (fun c1 => absurd rfl c1)
  refine lv_aload_n hx hb dJ3_init_2_36 rfl (lv_at hl 0 rfl) ?_
  refine lv_null hx hb dJ3_init_2_37 ?_
  refine va_put hx hb hts in_X7 tyX7 tyX7_ok nmX7 hown hK hP hD hS 0 rfl rfl 1 (by decide) (hts _ q482) (fun _ h => h) rfl (ty := .array (.object "java/lang/StackTraceElement")) rfl rfl rfl (Nat.le_of_ble_eq_true rfl) dJ3_init_2_38 (fun H locs hP hD hS => ?_)
  refine lv_aload_n hx hb dJ3_init_2_41 rfl (lv_at hl 0 rfl) ?_
  refine lv_aload_nN hx hb dJ3_init_2_42 rfl (lv_at hl 1 rfl) ?_
  refine va_put hx hb hts in_X7 tyX7 tyX7_ok nmX7 hown hK hP hD hS 0 rfl rfl 3 (by decide) (hts _ q480) (fun _ h => h) rfl (ty := .object "java/lang/String") rfl rfl rfl (Nat.le_of_ble_eq_true rfl) dJ3_init_2_43 (fun H locs hP hD hS => ?_)
  refine lv_aload_n hx hb dJ3_init_2_46 rfl (lv_at hl 0 rfl) ?_
  refine lv_aload_nN hx hb dJ3_init_2_47 rfl (lv_at hl 2 rfl) ?_
  refine va_put hx hb hts in_X7 tyX7 tyX7_ok nmX7 hown hK hP hD hS 0 rfl rfl 0 (by decide) (hts _ q481) (fun _ h => h) rfl (ty := .object "java/lang/Throwable") rfl rfl rfl (Nat.le_of_ble_eq_true rfl) dJ3_init_2_48 (fun H locs hP hD hS => ?_)
  refine lv_iload_n hx hb dJ3_init_2_51 rfl (lv_at hl 3 rfl) ?_
  refine lv_if_ne (tgt := 60) hx hb dJ3_init_2_52 (by decide) (fun c1 => absurd rfl c1) (fun _ => ?_)
  refine lv_aload_n hx hb dJ3_init_2_55 rfl (lv_at hl 0 rfl) ?_
  refine lv_null hx hb dJ3_init_2_56 ?_
  refine va_put hx hb hts in_X7 tyX7 tyX7_ok nmX7 hown hK hP hD hS 0 rfl rfl 2 (by decide) (hts _ q483) (fun _ h => h) rfl (ty := .object "java/util/List") rfl rfl rfl (Nat.le_of_ble_eq_true rfl) dJ3_init_2_57 (fun H locs hP hD hS => ?_)
  exact W.vret hx hb hr (fun t ht hW => ⟨rfl, by show va_P _ _ _ t.heap; rw [ht]; exact hP, hS.F ht⟩) hS.2.2 dJ3_init_2_60
section TN2
variable {p : Program} {l : Launch} {e : Env} {R : Room} {s : State} {m : MethodId} {args : Array Value} {below : List Frame} {meth : Method} {c : Code} {H : Heap} {locs : List Loc} {cells slots : Nat} {Q : State → Prop} {cc bytes : ByteArray} {pc nL maxL index n : Nat} {ls : Array Slot} {rest st0 As : List Value} {own : String} {y : MethodName} {rm : Room} {Z : CZ} {h : Nat} {fs fs' : List Value} {ret : Option FieldType}
/-- a constructor of a Torn calls the next one up -/
theorem tn_call (C : SCx p s m args meth c cc nL ret own) (hK : va_K Z.1 clA (tysA (cAc Z)) s) (hZ : tnUS (tnA h) s s.heap) (hP : va_P Z.1 clA [(h, .inr (6, fs))] H) (hS : va_S (tnA h) s.heap H locs) (hT : Met l y (ws_ y bytes maxL none) rm (va_Pc (.ref h :: As) (tnS Z h fs)) (Qwr none (fun t => va_P Z.1 clA [(h, .inr (6, fs'))] t.heap) (tnA h)) 0 0 (tnA h)) (hq : GoodIn lw_all (ws_ y bytes maxL none)) (hini : Cond.initialized y.cls ∈ lw_all) (hlk : Cond.methodLink own index y ∈ lw_all) (hin : Cond.instanceMethod y ∈ lw_all) (hy : y.name = "<init>")
    (hd : y.cls ≠ "java/lang/invoke/MethodHandle" ∧ y.cls ≠ "java/lang/invoke/VarHandle" ∧ (parseMethodDescriptor y.desc).map (fun d => d.parameters.length) = some n)
    (hrm : rm.cells = 0 ∧ rm.slots = 0) (hR : rm.frames + 1 ≤ R.frames ∧ 8 + (maxL + 11) + rm.locals ≤ R.locals) (hc : cells ≤ R.cells ∧ slots ≤ R.slots) (hn : As.length = n) (hs : ls.size = nL) (hst : st0 = As.reverse ++ .ref h :: rest) (hw : (rest.map fun v => v.category).sum ≤ 8) (hdg : decode cc pc = .ok (.invokespecial index, 3))
    (kk : ∀ (H1 : Heap) (locs1 : List Loc), va_P Z.1 clA [(h, .inr (6, fs'))] H1 → va_S (tnA h) s.heap H1 locs1 → W p l e R s m args below meth c H1 locs1 cells slots Q (F0 m (pc + 3) ls rest)) : W p l e R s m args below meth c H locs cells slots Q (F0 m pc ls st0) := by
  have hts := C.2.2.2.2.2.2
  refine c_wr (va_runI (As := As) (rest := rest) C.fix hT (cwI n hts hq rfl hrm.1 hrm.2 (hts _ hini) (hts _ hlk) (hts _ hin) hy hd hR) ⟨tnS.blind, fun U hU hW => ⟨rfl, by rw [hU]; exact hP, va_K.moved hW.alike hK, ?_, ?_⟩⟩ rfl hn hs hst (lv_room hw) hdg hc) hS (fun _ _ h => h) (fun _ h => h) (fun t H1 locs1 ht _ hB _ _ hS1 => kk H1 locs1 (by rw [← ht]; exact hB) hS1)
  · rw [hU]
    exact va_Zq.moved hW.alike (va_Zq.kept hZ.1 hS.2.1)
  · rw [hU]
    exact va_Zq.moved hW.alike (va_Zq.kept hZ.2 hS.2.1)
end TN2
set_option maxHeartbeats 4000000 in
theorem tn_exc (l : Launch) (Z : CZ) (h : Nat) (f0 f1 f2 f3 f4 f5 f6 : Value) : Met l yJ4_init (ws_ yJ4_init cJ4_init 5 none) ({ frames := 2, cells := 0, slots := 0, locals := 50 }) (va_Pc [.ref h, .null, .null, .int 0, .int 0] (tnS Z h [f0, f1, f2, f3, f4, f5, f6])) (Qwr none (fun t => va_P Z.1 clA [(h, .inr (6, [.null, .null, .null, .null, f4, f5, f6]))] t.heap) (tnA h)) 0 0 (tnA h) := by
  refine Met.ofW (cc := cJ4_init) (maxL := 5) (ret := none) (by decide) rfl ?_
  intro p e s m args below meth c s₁ B hml hv
  obtain ⟨rfl, hP, hK, hZ⟩ := hv
  have hx := B.exec
  have hb := B.bytes
  have hr := B.returns
  have hts := atoms_spec (ws := ws_ yJ4_init cJ4_init 5 none) B.pre
  have hts : ∀ w ∈ lw_all, w.before _ s = true := fun w h => hts w (List.mem_cons_of_mem _ h)
  have C : SCx p s m _ meth c cJ4_init 5 none RJ4 := ⟨B.exec, B.bytes, B.returns, B.notSynchronized, hml, findClass_of_methodNamed B.named, hts⟩
  have hlocks := B.notSynchronized
  have hS : va_S (tnA h) s.heap s.heap [] := va_S.rf
  have hl := lv_entry ([.ref h, .null, .null, .int 0, .int 0]) (n := 5) (Nat.le_of_ble_eq_true rfl)
  rw [lg_entry_eq]
  generalize (lg_sl ([.ref h, .null, .null, .int 0, .int 0]) ++ List.replicate (5 - (lg_sl ([.ref h, .null, .null, .int 0, .int 0])).length) Slot.unset).toArray = ls at hl ⊢
  have hl : lv_has ls 5 [(0, .ref h), (1, .null), (2, .null), (3, .int 0), (4, .int 0)] := hl
  refine lv_aload_n hx hb dJ4_init_0 rfl (lv_at hl 0 rfl) ?_
  refine lv_aload_nN hx hb dJ4_init_1 rfl (lv_at hl 1 rfl) ?_
  refine lv_aload_nN hx hb dJ4_init_2 rfl (lv_at hl 2 rfl) ?_
  refine lv_iload_n hx hb dJ4_init_3 rfl (lv_at hl 3 rfl) ?_
  refine lv_iload hx hb dJ4_init_4 (lv_at hl 4 rfl) ?_
  refine tn_call (As := [.null, .null, .int 0, .int 0]) (rest := []) C hK hZ hP hS (tn_thr l Z h f0 f1 f2 f3 f4 f5 f6) (lw_meth q476) q89 q474 q475 rfl (by decide +kernel) ⟨rfl, rfl⟩ ⟨Nat.le_of_ble_eq_true rfl, Nat.le_of_ble_eq_true rfl⟩ ⟨Nat.le_refl _, Nat.le_refl _⟩ rfl hl.1 rfl (Nat.le_of_ble_eq_true rfl) dJ4_init_6 (fun H locs hP hS => ?_)
  exact W.vret hx hb hr (fun t ht hW => ⟨rfl, by show va_P _ _ _ t.heap; rw [ht]; exact hP, hS.F ht⟩) hS.2.2 dJ4_init_9
set_option maxHeartbeats 4000000 in
theorem tn_init (l : Launch) (Z : CZ) (h : Nat) (f0 f1 f2 f3 f4 f5 f6 : Value) (pl : Int32) : Met l yX7_init (ws_ yX7_init cX7_init 2 none) ({ frames := 3, cells := 0, slots := 0, locals := 80 }) (va_Pc [.ref h, .int pl] (tnS Z h [f0, f1, f2, f3, f4, f5, f6])) (Qwr none (fun t => va_P Z.1 clA [(h, .inr (6, [.null, .null, .null, .null, f4, f5, .int pl]))] t.heap) (tnA h)) 0 0 (tnA h) := by
  refine Met.ofW (cc := cX7_init) (maxL := 2) (ret := none) (by decide) rfl ?_
  intro p e s m args below meth c s₁ B hml hv
  obtain ⟨rfl, hP, hK, hZ⟩ := hv
  have hx := B.exec
  have hb := B.bytes
  have hr := B.returns
  have hts := atoms_spec (ws := ws_ yX7_init cX7_init 2 none) B.pre
  have hts : ∀ w ∈ lw_all, w.before _ s = true := fun w h => hts w (List.mem_cons_of_mem _ h)
  have C : SCx p s m _ meth c cX7_init 2 none RX7 := ⟨B.exec, B.bytes, B.returns, B.notSynchronized, hml, findClass_of_methodNamed B.named, hts⟩
  have hown : s.vm.findClass RX7 = some m.cls := findClass_of_methodNamed B.named
  have hin : meth.name = "<init>" := (name_of_methodNamed B.named B.method).1
  have hlocks := B.notSynchronized
  have hS : va_S (tnA h) s.heap s.heap [] := va_S.rf
  have hl := lv_entry ([.ref h, .int pl]) (n := 2) (Nat.le_of_ble_eq_true rfl)
  rw [lg_entry_eq]
  generalize (lg_sl ([.ref h, .int pl]) ++ List.replicate (2 - (lg_sl ([.ref h, .int pl])).length) Slot.unset).toArray = ls at hl ⊢
  have hl : lv_has ls 2 [(0, .ref h), (1, .int pl)] := hl
  refine lv_aload_n hx hb dX7_init_0 rfl (lv_at hl 0 rfl) ?_
  refine lv_null hx hb dX7_init_1 ?_
  refine lv_null hx hb dX7_init_2 ?_
  refine lv_iconst (v := 0) hx hb dX7_init_3 (by decide) ?_
  refine lv_iconst (v := 0) hx hb dX7_init_4 (by decide) ?_
  refine tn_call (As := [.null, .null, .int 0, .int 0]) (rest := []) C hK hZ hP hS (tn_exc l Z h f0 f1 f2 f3 f4 f5 f6) (lw_meth q473) q90 q471 q472 rfl (by decide +kernel) ⟨rfl, rfl⟩ ⟨Nat.le_of_ble_eq_true rfl, Nat.le_of_ble_eq_true rfl⟩ ⟨Nat.le_refl _, Nat.le_refl _⟩ rfl hl.1 rfl (Nat.le_of_ble_eq_true rfl) dX7_init_5 (fun H locs hP hS => ?_)
  refine lv_aload_n hx hb dX7_init_8 rfl (lv_at hl 0 rfl) ?_
  refine lv_iload_n hx hb dX7_init_9 rfl (lv_at hl 1 rfl) ?_
  refine va_putF hx hb hts in_X7 tyX7 tyX7_ok nmX7 hown hK hP tnD hS 0 rfl rfl 6 (by decide) (hts _ q477) (fun _ h => h) rfl hin rfl (ty := .int) rfl rfl rfl (Nat.le_of_ble_eq_true rfl) dX7_init_10 (fun H locs hP hD hS => ?_)
  exact W.vret hx hb hr (fun t ht hW => ⟨rfl, by show va_P _ _ _ t.heap; rw [ht]; exact hP, hS.F ht⟩) hS.2.2 dX7_init_13
