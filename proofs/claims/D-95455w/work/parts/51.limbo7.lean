/-! limbo: a new Sight, a new pair -/
set_option maxRecDepth 100000
set_option maxHeartbeats 4000000 in
theorem sg_init (l : Launch) (Z : CZ) (h : Nat) (f0 f1 f2 : Value) (a b d : Int32) : Met l yX9_init (ws_ yX9_init cX9_init 4 none) ({ frames := 1, cells := 0, slots := 0, locals := 20 }) (va_Pc [.ref h, .int a, .int b, .int d] (fun U => va_P Z.1 clA [(h, .inr (8, [f0, f1, f2]))] U.heap ∧ va_K Z.1 clA (tysA (cAc Z)) U)) (Qwr none (fun t => va_P Z.1 clA [(h, .inr (8, [.int a, .int b, .int d]))] t.heap) (tnA h)) 0 0 (tnA h) := by
  refine Met.ofW (cc := cX9_init) (maxL := 4) (ret := none) (by decide) rfl ?_
  intro p e s m args below meth c s₁ B hml hv
  obtain ⟨rfl, hP, hK⟩ := hv
  have hts := atoms_spec (ws := ws_ yX9_init cX9_init 4 none) B.pre
  have hts : ∀ w ∈ lw_all, w.before _ s = true := fun w h => hts w (List.mem_cons_of_mem _ h)
  have C : SCx p s m _ meth c cX9_init 4 none RX9 := ⟨B.exec, B.bytes, B.returns, B.notSynchronized, hml, findClass_of_methodNamed B.named, hts⟩
  obtain ⟨hx, hb, hr, hlocks, hml, hown, -⟩ := id C
  have hin : meth.name = "<init>" := (name_of_methodNamed B.named B.method).1
  have hS : va_S (tnA h) s.heap s.heap [] := va_S.rf
  have hl := lv_entry ([.ref h, .int a, .int b, .int d]) (n := 4) (Nat.le_of_ble_eq_true rfl)
  rw [lg_entry_eq]
  generalize (lg_sl ([.ref h, .int a, .int b, .int d]) ++ List.replicate (4 - (lg_sl ([.ref h, .int a, .int b, .int d])).length) Slot.unset).toArray = ls at hl ⊢
  have hl : lv_has ls 4 [(0, .ref h), (1, .int a), (2, .int b), (3, .int d)] := hl
  refine lv_aload_n hx hb dX9_init_0 rfl (lv_at hl 0 rfl) ?_
  refine W.objInit hx hb hown (hts _ q843) (hts _ q113) (hts _ q114) rfl (by rw [hml]; exact hl.1) rfl dX9_init_1 (Nat.le_of_ble_eq_true rfl) (Nat.le_of_ble_eq_true rfl) ?_
  refine W.eq (g2 := F0 m 4 ls []) rfl ?_
  refine lv_aload_n hx hb dX9_init_4 rfl (lv_at hl 0 rfl) ?_
  refine lv_iload_n hx hb dX9_init_5 rfl (lv_at hl 1 rfl) ?_
  refine va_putF hx hb hts in_X9 tyX9 tyX9_ok nmX9 hown hK hP tnD hS 0 rfl rfl 0 (by decide) (hts _ q844) (fun _ h => h) rfl hin rfl (ty := .int) rfl rfl rfl (Nat.le_of_ble_eq_true rfl) dX9_init_6 (fun H locs hP hD hS => ?_)
  refine lv_aload_n hx hb dX9_init_9 rfl (lv_at hl 0 rfl) ?_
  refine lv_iload_n hx hb dX9_init_10 rfl (lv_at hl 2 rfl) ?_
  refine va_putF hx hb hts in_X9 tyX9 tyX9_ok nmX9 hown hK hP tnD hS 0 rfl rfl 1 (by decide) (hts _ q845) (fun _ h => h) rfl hin rfl (ty := .int) rfl rfl rfl (Nat.le_of_ble_eq_true rfl) dX9_init_11 (fun H locs hP hD hS => ?_)
  refine lv_aload_n hx hb dX9_init_14 rfl (lv_at hl 0 rfl) ?_
  refine lv_iload_n hx hb dX9_init_15 rfl (lv_at hl 3 rfl) ?_
  refine va_putF hx hb hts in_X9 tyX9 tyX9_ok nmX9 hown hK hP tnD hS 0 rfl rfl 2 (by decide) (hts _ q846) (fun _ h => h) rfl hin rfl (ty := .int) rfl rfl rfl (Nat.le_of_ble_eq_true rfl) dX9_init_16 (fun H locs hP hD hS => ?_)
  exact W.vret hx hb hr (fun t ht hW => ⟨rfl, by show va_P _ _ _ t.heap; rw [ht]; exact hP, hS.F ht⟩) hS.2.2 dX9_init_19
abbrev sgE (a b d : Int32) : va_E := .inr (8, [.int a, .int b, .int d])
def sgG (a b d : Int32) : Nat → Int32 := fun i => match i with | 0 => a | 1 => b | _ => d
abbrev paE (Z : CZ) (g : Nat → Int32) : va_E := .inl (cAc Z 0, 2, .inl g)
theorem cE.el {Z : CZ} {A : Nat → Prop} {U : State} {H : Heap} (h : cE Z A U H) {j : Nat} (hj : j < 3) : va_Nw (.castable (elN j) "java/lang/Object") U := by
  match j, hj with
  | 0, _ => exact h.nw 0 rfl
  | 1, _ => exact h.nw 1 rfl
  | 2, _ => exact h.nw 2 rfl
section LG
variable {p : Program} {l : Launch} {e : Env} {R : Room} {s : State} {m : MethodId} {args : Array Value} {below : List Frame} {meth : Method} {c : Code} {H : Heap} {locs : List Loc} {cells slots : Nat} {Q : State → Prop}
variable {pc : Nat} {ls : Array Slot} {rest st0 : List Value} {cc : ByteArray} {nL : Nat} {ret : Option FieldType} {Z : CZ} {Y : CY} {A : Nat → Prop} {C : St} {H0 : Heap} {v : Nat}
theorem lg_new (X : CCx p s m args meth c cc nL ret RX0 Z) (hM : cPD Z Y A C H) (hS : va_S A s.heap H locs) (hA : ∀ q, s.heap.size ≤ q → A q) (hc : cells + 1 ≤ R.cells ∧ slots + 3 ≤ R.slots) (hdg : decode cc pc = .ok (.new 331, 3)) (kk : ∀ (v : Nat) (H1 : Heap), lmD Z Y A C v (sgE 0 0 0) H1 → va_S A s.heap H1 locs → W p l e R s m args below meth c H1 locs (cells + 1) (slots + 3) Q (F0 m (pc + 3) ls (.ref v :: rest))) : W p l e R s m args below meth c H locs cells slots Q (F0 m pc ls rest) :=
  va_new (ci := 8) (fs := [.int 0, .int 0, .int 0]) X.1.1 X.1.2.1 X.1.2.2.2.2.2.2 in_X9 tyX9 tyX9_ok X.1.2.2.2.2.2.1 (X.1.2.2.2.2.2.2 _ q838) (X.1.2.2.2.2.2.2 _ q839) (X.1.2.2.2.2.2.2 _ q100) X.2.1 hM.1 hM.2.1 hS hA rfl (by decide) hc.1 hc.2 hdg (fun v H1 hP hD hS1 => kk v H1 (lm_of hM.2.2 hP hD) hS1)
theorem lg_init {a b d : Int32} (X : CCx p s m args meth c cc nL ret RX0 Z) (hL : lmD Z Y A C v (sgE 0 0 0) H) (hS : va_S A H0 H locs) (hR : 2 ≤ R.frames ∧ 8 + (4 + 11) + 20 ≤ R.locals) (hc : cells ≤ R.cells ∧ slots ≤ R.slots) (hs : ls.size = nL) (hst : st0 = [.int d, .int b, .int a] ++ .ref v :: rest) (hw : (rest.map fun v => v.category).sum ≤ 8) (hdg : decode cc pc = .ok (.invokespecial 333, 3))
    (kk : ∀ (H1 : Heap) (locs1 : List Loc), lmD Z Y A C v (sgE a b d) H1 → va_S A H0 H1 locs1 → W p l e R s m args below meth c H1 locs1 cells slots Q (F0 m (pc + 3) ls rest)) : W p l e R s m args below meth c H locs cells slots Q (F0 m pc ls st0) := by
  have hP : va_P Z.1 clA [(v, sgE 0 0 0)] H := by
    intro k q hk
    match k, hk with
    | 0, hk => cases hk; exact hL.2.1
    | k + 1, hk => simp at hk
  refine c_wr (va_runI (As := [.int a, .int b, .int d]) (rest := rest) X.1.fix (sg_init l Z v (.int 0) (.int 0) (.int 0) a b d) (cwI 3 X.1.2.2.2.2.2.2 (lw_meth q842) rfl rfl rfl (X.1.2.2.2.2.2.2 _ q100) (X.1.2.2.2.2.2.2 _ q840) (X.1.2.2.2.2.2.2 _ q841) rfl (by decide +kernel) hR) ⟨fun a U g mk q => ⟨q.1, q.2.1, va_K.moved (u := U) (U := U.calling g mk a) (Vm.Alike.refl U.vm) q.2.2⟩, fun U hU hW => ⟨rfl, by rw [hU]; exact hP, va_K.moved hW.alike X.2.1⟩⟩ rfl rfl hs hst (lv_room hw) hdg hc) hS (fun q _ z => by rw [show q = v from z]; exact hL.2.2.1) (fun q z => by rw [show q = v from z]; exact hL.2.2.1) (fun t H1 locs1 ht _ hB _ hk hS1 => ?_)
  have hB1 : va_P Z.1 clA [(v, sgE a b d)] H1 := by rw [← ht]; exact hB
  refine kk H1 locs1 ⟨⟨hL.1.1.kept (fun k x hx => ?_), hL.1.2⟩, hB1 0 _ rfl, hL.2.2.1, hL.2.2.2⟩ hS1
  refine hk _ ((hL.1.1 k x hx).lt) (fun z => ?_)
  obtain ⟨j, hj, e⟩ := cWs_mem (Z := Z) (v := x.1) (e := x.2) hx
  exact hL.2.2.2 j hj (e.trans z)
theorem la_new (X : CCx p s m args meth c cc nL ret RX0 Z) (hM : cPD Z Y A C H) (hS : va_S A s.heap H locs) (hA : ∀ q, s.heap.size ≤ q → A q) (hc : cells + 1 ≤ R.cells ∧ slots + 2 ≤ R.slots) (hdg : decode cc pc = .ok (.newarray .int, 2)) (kk : ∀ (v : Nat) (H1 : Heap), lmD Z Y A C v (paE Z (fun _ => 0)) H1 → va_S A s.heap H1 locs → W p l e R s m args below meth c H1 locs (cells + 1) (slots + 2) Q (F0 m (pc + 2) ls (.ref v :: rest))) : W p l e R s m args below meth c H locs cells slots Q (F0 m pc ls (.int 2 :: rest)) := by
  refine va_newa (atype := .int) (ty := .int) (N' := 2) (a0 := (2, .inl (fun _ => 0))) X.1.1 X.1.2.1 (X.1.2.2.2.2.2.2 _ q127) rfl X.2.1 hM.1 hM.2.1 hS hA (fun _ => rfl) (by decide) rfl (Nat.le_of_ble_eq_true rfl) hc.1 hc.2 hdg (fun v cA H1 hK1 hP hD hS1 => ?_)
  have e1 : cA = cAc Z 0 := Option.some.inj ((hK1.2 8 _ rfl).2.symm.trans (X.2.1.2 0 _ rfl).2)
  subst e1
  exact kk v H1 (lm_of hM.2.2 hP hD) hS1
theorem la_put {g : Nat → Int32} {i x : Int32} (X : CCx p s m args meth c cc nL ret RX0 Z) (hL : lmD Z Y A C v (paE Z g) H) (hS : va_S A H0 H locs) (hi : vp_in i 2) (hdg : decode cc pc = .ok (.iastore, 1)) (kk : ∀ (H1 : Heap) (locs1 : List Loc), lmD Z Y A C v (paE Z (upd g i.toNatClampNeg x)) H1 → va_S A H0 H1 locs1 → W p l e R s m args below meth c H1 locs1 cells slots Q (F0 m (pc + 1) ls rest)) : W p l e R s m args below meth c H locs cells slots Q (F0 m pc ls (.int x :: .int i :: .ref v :: rest)) := by
  refine va_iast X.1.1 X.1.2.1 X.2.1 (lm_to hL).1 (lm_to hL).2 hS (cWs Z Y C).length 0 (ld_at Z Y C v _) rfl hi hdg (fun H1 locs1 hP hD hS1 => kk H1 locs1 ?_ hS1)
  have es : ∀ E : va_E, (cWs Z Y C ++ [(v, paE Z g)]).set (cWs Z Y C).length (v, E) = cWs Z Y C ++ [(v, E)] := fun E => by
    rw [List.set_append_right _ _ (Nat.le_refl _), Nat.sub_self]
    rfl
  rw [es] at hP hD
  exact lm_of hL.1.2.2 hP hD
theorem lx_add {j : Nat} {g : Nat → Int32} (X : CCx p s m args meth c cc nL ret RX0 Z) (hL : lmD Z Y A C v (elC Z j g) H) (hS : va_S A s.heap H locs) (hA : ∀ q, s.heap.size ≤ q → A q) (hE : cE Z A s s.heap) (hj : j < 3) (hn : cNn C j < 10) (hR : 5 ≤ R.frames ∧ 141 ≤ R.locals) (hc : cells + 1 ≤ R.cells ∧ slots + 10 ≤ R.slots) (hs : ls.size = nL) (hst : st0 = [.ref v] ++ .ref (cSa Z (50 + j)) :: rest) (hw : (rest.map fun v => v.category).sum ≤ 8) (hdg : decode cc pc = .ok (.invokevirtual 336, 3))
    (kk : ∀ (Y : CY) (H1 : Heap) (locs1 : List Loc), cPD Z Y A (addC C j g) H1 → va_S A s.heap H1 locs1 → W p l e R s m args below meth c H1 locs1 (cells + 1) (slots + 10) Q (F0 m (pc + 3) ls (.int 1 :: rest))) : W p l e R s m args below meth c H locs cells slots Q (F0 m pc ls st0) := by
  have hfr := w_free hL.1 hS hA
  have hfr2 : ∀ q, va_A (cWs Z Y C) H.size q ∨ q = v → A q := fun q h => h.elim (hfr q) (fun e => by rw [e]; exact hL.2.2.1)
  have h50 : 50 + j ∈ cHs Y C := cHs_S (cS_l hj)
  have has : cSa Z (50 + j) < H.size := by
    have := cPD_lt hL.1 h50
    rw [cAr_s (by omega)] at this
    exact this
  have hae : Y.2 j = true → cSa Z (50 + j) ≠ cDa Y (400 + j) := fun hy e => by
    have := cPD_inj hL.1 h50 (cHs_E hj hy) (by rw [cAr_s (by omega), cAr_d (by omega)]; exact e)
    omega
  have hca : va_Nw (.castable (elN j) "java/lang/Object") s := hE.el hj
  refine c_wr (va_runV (As := [.ref v]) (rest := rest) X.1.fix (cfL_add_met l Z Y C H.size j v g hj hn hL.2.2.2 hL.2.1.lt has hae) (cwV 1 X.1.2.2.2.2.2.2 (lw_V q854 q553 q554 q85 q555) rfl rfl rfl cfL_add_hd hR) ⟨adS.blind, c_recvL (j := j) X hL.1 hj, fun U hU hW => ⟨rfl, ⟨by rw [hU], by rw [hU]; exact hL.1.weaken (fun _ _ => trivial), cKs.warm hW X.2⟩, by rw [hU]; exact hL.2.1, by rw [hU]; exact ((hE.1.kept hS.2.1).narrow hfr).moved hW.alike, va_Nw.warmC hW hca⟩⟩ rfl rfl hs hst (lv_room hw) hdg hc) hS (fun q _ h => hfr2 q h) (fun q h => hfr q h) (fun t H1 locs1 ht _ hB _ _ hS1 => ?_)
  obtain ⟨Y1, hB⟩ := hB
  exact kk Y1 H1 locs1 (by rw [← ht]; exact hB.1.weaken hfr2) hS1
end LG
