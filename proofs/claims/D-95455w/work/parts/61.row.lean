/-! rowOf: a new row, or a NegativeArraySizeException -/
set_option maxRecDepth 100000
abbrev rwE (Z : CZ) (f n : Int32) : va_E := .inl (cAc Z (cRt f), n.toNatClampNeg, .inl (fun _ => 0))
def Qrw (Z : CZ) (Y : CY) (A : Nat → Prop) (C : St) (E : va_E) : Array Value → State → Outcome → State → Prop := fun _ st o t => ∃ v : Nat, o = .returned (some (.ref v)) ∧ lmD Z Y A C v E t.heap ∧ va_F A st t
theorem n60 {n : Int32} (h : ¬ n < 0) (h6 : n ≤ 60) : n.toNatClampNeg ≤ 60 := by
  have e : n.toNatClampNeg = n.toInt.toNat := rfl
  have := Int32.le_iff_toInt_le.mp h6
  have e6 : (60 : Int32).toInt = 60 := by decide
  omega
theorem neg_text (n : Int32) : (toString n == notModelled) = false ∧ (stringBytes (stringToUtf16 (toString n))).size ≤ 212 := by
  have b1 := stringBytes_size_le (stringToUtf16 (toString n))
  have b2 := utf16_size_le (toString n)
  have b3 := int32_print n
  refine ⟨?_, by omega⟩
  rw [beq_eq_false_iff_ne]
  intro h
  have h2 : (toString n).toList.length = notModelled.toList.length := by rw [h]
  have h4 : notModelled.toList.length = 32 := by decide
  omega
section RW
variable {p : Program} {l : Launch} {e : Env} {R : Room} {s : State} {m : MethodId} {args : Array Value} {below : List Frame} {meth : Method} {c : Code} {H : Heap} {locs : List Loc} {cells slots : Nat} {Q : State → Prop}
variable {pc : Nat} {ls : Array Slot} {rest st0 As : List Value} {cc bytes : ByteArray} {nL maxL index mc ms : Nat} {ret ret' : Option FieldType} {own : String} {y : MethodName} {rm : Room} {Z : CZ} {Y : CY} {A : Nat → Prop} {C : St} {free : Addr → Prop}
theorem rw_new2 {n : Int32} (X : CCx p s m args meth c cc nL ret own Z) (hM : cPD Z Y A C H) (hS : va_S A s.heap H locs) (hA : ∀ q, s.heap.size ≤ q → A q) (hn : ¬ n < 0) (h6 : n ≤ 60) (hc : cells + 1 ≤ R.cells ∧ slots + 60 ≤ R.slots) (hdg : decode cc pc = .ok (.newarray .byte, 2)) (kk : ∀ (v : Nat) (H1 : Heap), lmD Z Y A C v (.inl (cAc Z 2, n.toNatClampNeg, .inl (fun _ => 0))) H1 → va_S A s.heap H1 locs → W p l e R s m args below meth c H1 locs (cells + 1) (slots + 60) Q (F0 m (pc + 2) ls (.ref v :: rest))) : W p l e R s m args below meth c H locs cells slots Q (F0 m pc ls (.int n :: rest)) := by
  have h60 := n60 hn h6
  refine va_newa (atype := .byte) (ty := .byte) (N' := n.toNatClampNeg) (a0 := (n.toNatClampNeg, .inl (fun _ => 0))) X.1.1 X.1.2.1 (X.1.2.2.2.2.2.2 _ q957) rfl X.2.1 hM.1 hM.2.1 hS hA (fun _ => rfl) hn rfl (by show _ * 1 ≤ _; omega) hc.1 (by omega) hdg (fun v cA H1 hK1 hP hD hS1 => ?_)
  have e1 : cA = cAc Z 2 := Option.some.inj ((hK1.2 8 _ rfl).2.symm.trans (X.2.1.2 2 _ rfl).2)
  subst e1
  exact W.widen (k := cells + 1) (n := slots + 60) (Nat.le_refl _) (by omega) (kk v H1 (lm_of hM.2.2 hP hD) hS1)
theorem rw_new3 {n : Int32} (X : CCx p s m args meth c cc nL ret own Z) (hM : cPD Z Y A C H) (hS : va_S A s.heap H locs) (hA : ∀ q, s.heap.size ≤ q → A q) (hn : ¬ n < 0) (h6 : n ≤ 60) (hc : cells + 1 ≤ R.cells ∧ slots + 60 ≤ R.slots) (hdg : decode cc pc = .ok (.newarray .short, 2)) (kk : ∀ (v : Nat) (H1 : Heap), lmD Z Y A C v (.inl (cAc Z 3, n.toNatClampNeg, .inl (fun _ => 0))) H1 → va_S A s.heap H1 locs → W p l e R s m args below meth c H1 locs (cells + 1) (slots + 60) Q (F0 m (pc + 2) ls (.ref v :: rest))) : W p l e R s m args below meth c H locs cells slots Q (F0 m pc ls (.int n :: rest)) := by
  have h60 := n60 hn h6
  refine va_newa (atype := .short) (ty := .short) (N' := n.toNatClampNeg) (a0 := (n.toNatClampNeg, .inl (fun _ => 0))) X.1.1 X.1.2.1 (X.1.2.2.2.2.2.2 _ q965) rfl X.2.1 hM.1 hM.2.1 hS hA (fun _ => rfl) hn rfl (by show _ * 2 ≤ _; omega) hc.1 (by omega) hdg (fun v cA H1 hK1 hP hD hS1 => ?_)
  have e1 : cA = cAc Z 3 := Option.some.inj ((hK1.2 8 _ rfl).2.symm.trans (X.2.1.2 3 _ rfl).2)
  subst e1
  exact W.widen (k := cells + 1) (n := slots + 60) (Nat.le_refl _) (by omega) (kk v H1 (lm_of hM.2.2 hP hD) hS1)
theorem rw_new0 {n : Int32} (X : CCx p s m args meth c cc nL ret own Z) (hM : cPD Z Y A C H) (hS : va_S A s.heap H locs) (hA : ∀ q, s.heap.size ≤ q → A q) (hn : ¬ n < 0) (h6 : n ≤ 60) (hc : cells + 1 ≤ R.cells ∧ slots + 60 ≤ R.slots) (hdg : decode cc pc = .ok (.newarray .int, 2)) (kk : ∀ (v : Nat) (H1 : Heap), lmD Z Y A C v (.inl (cAc Z 0, n.toNatClampNeg, .inl (fun _ => 0))) H1 → va_S A s.heap H1 locs → W p l e R s m args below meth c H1 locs (cells + 1) (slots + 60) Q (F0 m (pc + 2) ls (.ref v :: rest))) : W p l e R s m args below meth c H locs cells slots Q (F0 m pc ls (.int n :: rest)) := by
  have h60 := n60 hn h6
  refine va_newa (atype := .int) (ty := .int) (N' := n.toNatClampNeg) (a0 := (n.toNatClampNeg, .inl (fun _ => 0))) X.1.1 X.1.2.1 (X.1.2.2.2.2.2.2 _ q127) rfl X.2.1 hM.1 hM.2.1 hS hA (fun _ => rfl) hn rfl (by show _ * 4 ≤ _; omega) hc.1 (by omega) hdg (fun v cA H1 hK1 hP hD hS1 => ?_)
  have e1 : cA = cAc Z 0 := Option.some.inj ((hK1.2 8 _ rfl).2.symm.trans (X.2.1.2 0 _ rfl).2)
  subst e1
  exact W.widen (k := cells + 1) (n := slots + 60) (Nat.le_refl _) (by omega) (kk v H1 (lm_of hM.2.2 hP hD) hS1)
theorem rw_neg {n : Int32} {at_ : ArrayType} (X : CCx p s m args meth c cc nL ret own Z) (hE : cE Z A s s.heap) (htr : l.stackTraces = false) (hnt : ∀ pc, ∀ x ∈ c.exceptionTable.toList, covers x pc = false) (hn : n < 0) (hsz : ls.size = nL) (hR : 8 ≤ R.frames ∧ 10300 ≤ R.locals ∧ 3 ≤ R.cells ∧ 222 ≤ R.slots) (hw : (List.map (fun v => v.category) rest).sum ≤ 8) (hdg : decode cc pc = .ok (.newarray at_, 2)) :
    W p l e R s m args below meth c s.heap [] 0 0 (MQX below (Qmx "java/lang/NegativeArraySizeException") args s 3 222 free) (F0 m pc ls (.int n :: rest)) := by
  refine W.arm (rest := rest) X.1.1 htr (by decide +kernel) (by decide +kernel) rfl rfl (am_N X.1.2.2.2.2.2.2 hE) (hsz.trans X.1.2.2.2.2.1.symm) (hnt pc) (by decide) hR hw X.1.2.2.2.1 (fun T hT XT => ?_)
  exact ⟨T, _, XT, (neg_text n).1, (neg_text n).2, XT.newarrayNegative X.1.1 (g := F0 m pc ls (.int n :: rest)) rfl hn rfl (by rw [X.1.2.1]; exact hdg)⟩
theorem rw_run {E : va_E} {a : Array Value} (hM : cPD Z Y A C H) (hS : va_S A s.heap H locs) (hA : ∀ q, s.heap.size ≤ q → A q) (hr : va_Run p l e R s m args below meth c H locs cells slots mc ms (F0 m pc ls st0) rest (Qrw Z Y (va_A (cWs Z Y C) H.size) C E a) (va_A (cWs Z Y C) H.size))
    (kk : ∀ (v : Nat) (H1 : Heap) (locs1 : List Loc), lmD Z Y A C v E H1 → va_S A s.heap H1 locs1 → W p l e R s m args below meth c H1 locs1 (cells + mc) (slots + ms) Q (F0 m (pc + 3) ls (.ref v :: rest))) : W p l e R s m args below meth c H locs cells slots Q (F0 m pc ls st0) := by
  have hf := w_free hM hS hA
  intro T hT X
  obtain ⟨v, st₀, t, T', L, e0, X', hL, e1, e2, ⟨v', g0, g1, g2⟩, hgo⟩ := hr T hT X
  cases g0
  obtain ⟨t2, a1, b1⟩ := kk v' t.heap (locs ++ L) ⟨g1.1.weaken hf, g1.2.1, hf _ g1.2.2.1, g1.2.2.2⟩ ⟨Nat.le_trans hS.1 (by rw [← e0]; exact g2.1), fun q h1 h2 => by rw [g2.2 q (by rw [e0]; exact Nat.lt_of_lt_of_le h1 hS.1) (fun z => h2 (hf q z)), e0]; exact hS.2.1 q h1 h2, fun q hq => (List.mem_append.mp hq).elim (hS.2.2 q) (fun h => hf _ (hL q h))⟩ T' e1 X'
  exact ⟨t2, hgo t2 a1, b1⟩
end RW
def rowR : Room := { frames := 0, cells := 1, slots := 60, locals := 0 }
theorem cf_rowOf_met (l : Launch) (Z : CZ) (Y : CY) (C : St) (sz : Nat) (f n : Int32) (hn : ¬ n < 0) (h6 : n ≤ 60) : Met l yX0_rowOf (ws_ yX0_rowOf cX0_rowOf 2 (some (.object "java/lang/Object"))) rowR (va_Pc [.int f, .int n] (cSx Z Y C sz)) (Qrw Z Y (va_A (cWs Z Y C) sz) C (rwE Z f n)) 1 60 (va_A (cWs Z Y C) sz) := by
  refine Met.ofW (cc := cX0_rowOf) (maxL := 2) (ret := some (.object "java/lang/Object")) (by decide) rfl ?_
  intro p e s m args below meth c s₁ B hml hv
  obtain ⟨rfl, ⟨hsz, hv⟩, hE⟩ := hv
  subst hsz
  have hts0 := atoms_spec (ws := ws_ yX0_rowOf cX0_rowOf 2 (some (.object "java/lang/Object"))) B.pre
  have hout := no_tab B (hts0 _ List.mem_cons_self)
  have hts : ∀ w ∈ lw_all, w.before _ s = true := fun w h => hts0 w (List.mem_cons_of_mem _ h)
  have X : CCx p s m _ meth c cX0_rowOf 2 (some (.object "java/lang/Object")) RX0 Z := ⟨⟨B.exec, B.bytes, B.returns, B.notSynchronized, hml, findClass_of_methodNamed B.named, hts⟩, hv.2⟩
  have hl := lv_entry [.int f, .int n] (n := 2) (Nat.le_of_ble_eq_true rfl)
  rw [lg_entry_eq]
  generalize (lg_sl [.int f, .int n] ++ List.replicate (2 - (lg_sl [.int f, .int n]).length) Slot.unset).toArray = ls at hl ⊢
  have hl : lv_has ls 2 [(0, .int f), (1, .int n)] := hl
  obtain ⟨⟨hx, hb, hr, hlocks, hml, hown, -⟩, hK⟩ := id X
  have hM : cPD Z Y (va_A (cWs Z Y C) s.heap.size) C s.heap := cPD.self hv.1
  have hS : va_S (va_A (cWs Z Y C) s.heap.size) s.heap s.heap [] := va_S.rf
  have hA : ∀ q, s.heap.size ≤ q → va_A (cWs Z Y C) s.heap.size q := fun q h => Or.inr h
  refine lv_iload_n hx hb dX0_rowOf_0 rfl (lv_at hl 0 rfl) ?_
  have hR : 0 + 1 ≤ (headSpec (ws_ yX0_rowOf cX0_rowOf 2 (some (.object "java/lang/Object"))) rowR).room.cells ∧ 0 + 60 ≤ (headSpec (ws_ yX0_rowOf cX0_rowOf 2 (some (.object "java/lang/Object"))) rowR).room.slots := ⟨Nat.le_refl _, Nat.le_refl _⟩
  by_cases c1 : f = 0
  · refine lv_lookup (off := 27) (tgt := 28) hx hb dX0_rowOf_1 (by decide) (by first | (rw [c1]; done) | (rw [c1]; rfl)) (by decide) ?_
    refine lv_iload_n hx hb dX0_rowOf_28 rfl (lv_at hl 1 rfl) ?_
    have f0 := (show cRt f = 2 by rw [c1]; rfl)
    refine rw_new2 X hM hS hA hn h6 hR dX0_rowOf_29 (fun v H hL hS => ?_)
    exact W.aret hx hb hr (Or.inl ⟨_, rfl⟩) (Or.inr ⟨_, rfl⟩) (fun t ht hW => ⟨v, rfl, by rw [ht]; show lmD _ _ _ _ _ (.inl (cAc Z (cRt f), _, _)) _; rw [f0]; exact hL, hS.F ht⟩) hS.2.2 dX0_rowOf_31
  by_cases c6 : f = 1
  · refine lv_lookup (off := 31) (tgt := 32) hx hb dX0_rowOf_1 (by decide) (by first | (rw [c6]; done) | (rw [c6]; rfl)) (by decide) ?_
    refine lv_iload_n hx hb dX0_rowOf_32 rfl (lv_at hl 1 rfl) ?_
    have f0 := (show cRt f = 3 by rw [c6]; rfl)
    refine rw_new3 X hM hS hA hn h6 hR dX0_rowOf_33 (fun v H hL hS => ?_)
    exact W.aret hx hb hr (Or.inl ⟨_, rfl⟩) (Or.inr ⟨_, rfl⟩) (fun t ht hW => ⟨v, rfl, by rw [ht]; show lmD _ _ _ _ _ (.inl (cAc Z (cRt f), _, _)) _; rw [f0]; exact hL, hS.F ht⟩) hS.2.2 dX0_rowOf_35
  refine lv_lookup (off := 35) (tgt := 36) hx hb dX0_rowOf_1 (by decide) ((lv_osw (a := 0) (o := 27) (d := 35) (r := [(1, 31)]) c1 rfl).trans ((lv_osw (a := 1) (o := 31) (d := 35) (r := []) c6 rfl).trans rfl)) (by decide) ?_
  refine lv_iload_n hx hb dX0_rowOf_36 rfl (lv_at hl 1 rfl) ?_
  have f0 := (show cRt f = 0 by unfold cRt; rw [if_neg c1, if_neg c6])
  refine rw_new0 X hM hS hA hn h6 hR dX0_rowOf_37 (fun v H hL hS => ?_)
  exact W.aret hx hb hr (Or.inl ⟨_, rfl⟩) (Or.inr ⟨_, rfl⟩) (fun t ht hW => ⟨v, rfl, by rw [ht]; show lmD _ _ _ _ _ (.inl (cAc Z (cRt f), _, _)) _; rw [f0]; exact hL, hS.F ht⟩) hS.2.2 dX0_rowOf_39
theorem cf_rowOf_nx (l : Launch) (htr : l.stackTraces = false) (Z : CZ) (Y : CY) (C : St) (sz : Nat) (f n : Int32) (hn : n < 0) : MetX l yX0_rowOf (ws_ yX0_rowOf cX0_rowOf 2 (some (.object "java/lang/Object"))) shxR (va_Pc [.int f, .int n] (cSx Z Y C sz)) (Qmx "java/lang/NegativeArraySizeException") 3 222 (fun _ => False) := by
  refine MetX.ofW (cc := cX0_rowOf) (maxL := 2) (ret := some (.object "java/lang/Object")) (by decide) rfl ?_
  intro p e s m args below meth c s₁ B hml hv
  obtain ⟨rfl, ⟨hsz, hv⟩, hE⟩ := hv
  subst hsz
  have hts0 := atoms_spec (ws := ws_ yX0_rowOf cX0_rowOf 2 (some (.object "java/lang/Object"))) B.pre
  have hout := no_tab B (hts0 _ List.mem_cons_self)
  have hts : ∀ w ∈ lw_all, w.before _ s = true := fun w h => hts0 w (List.mem_cons_of_mem _ h)
  have X : CCx p s m _ meth c cX0_rowOf 2 (some (.object "java/lang/Object")) RX0 Z := ⟨⟨B.exec, B.bytes, B.returns, B.notSynchronized, hml, findClass_of_methodNamed B.named, hts⟩, hv.2⟩
  have hl := lv_entry [.int f, .int n] (n := 2) (Nat.le_of_ble_eq_true rfl)
  rw [lg_entry_eq]
  generalize (lg_sl [.int f, .int n] ++ List.replicate (2 - (lg_sl [.int f, .int n]).length) Slot.unset).toArray = ls at hl ⊢
  have hl : lv_has ls 2 [(0, .int f), (1, .int n)] := hl
  obtain ⟨⟨hx, hb, hr, hlocks, hml, hown, -⟩, hK⟩ := id X
  have hM : cPD Z Y (va_A (cWs Z Y C) s.heap.size) C s.heap := cPD.self hv.1
  have hS : va_S (va_A (cWs Z Y C) s.heap.size) s.heap s.heap [] := va_S.rf
  have hA : ∀ q, s.heap.size ≤ q → va_A (cWs Z Y C) s.heap.size q := fun q h => Or.inr h
  refine lv_iload_n hx hb dX0_rowOf_0 rfl (lv_at hl 0 rfl) ?_
  have hR : 8 ≤ (headSpec (ws_ yX0_rowOf cX0_rowOf 2 (some (.object "java/lang/Object"))) shxR).room.frames ∧ 10300 ≤ (headSpec (ws_ yX0_rowOf cX0_rowOf 2 (some (.object "java/lang/Object"))) shxR).room.locals ∧ 3 ≤ (headSpec (ws_ yX0_rowOf cX0_rowOf 2 (some (.object "java/lang/Object"))) shxR).room.cells ∧ 222 ≤ (headSpec (ws_ yX0_rowOf cX0_rowOf 2 (some (.object "java/lang/Object"))) shxR).room.slots := ⟨Nat.le_refl _, Nat.le_refl _, Nat.le_refl _, Nat.le_refl _⟩
  by_cases c1 : f = 0
  · refine lv_lookup (off := 27) (tgt := 28) hx hb dX0_rowOf_1 (by decide) (by first | (rw [c1]; done) | (rw [c1]; rfl)) (by decide) ?_
    refine lv_iload_n hx hb dX0_rowOf_28 rfl (lv_at hl 1 rfl) ?_
    exact rw_neg X hE htr hout hn hl.1 hR (Nat.le_of_ble_eq_true rfl) dX0_rowOf_29
  by_cases c6 : f = 1
  · refine lv_lookup (off := 31) (tgt := 32) hx hb dX0_rowOf_1 (by decide) (by first | (rw [c6]; done) | (rw [c6]; rfl)) (by decide) ?_
    refine lv_iload_n hx hb dX0_rowOf_32 rfl (lv_at hl 1 rfl) ?_
    exact rw_neg X hE htr hout hn hl.1 hR (Nat.le_of_ble_eq_true rfl) dX0_rowOf_33
  refine lv_lookup (off := 35) (tgt := 36) hx hb dX0_rowOf_1 (by decide) ((lv_osw (a := 0) (o := 27) (d := 35) (r := [(1, 31)]) c1 rfl).trans ((lv_osw (a := 1) (o := 31) (d := 35) (r := []) c6 rfl).trans rfl)) (by decide) ?_
  refine lv_iload_n hx hb dX0_rowOf_36 rfl (lv_at hl 1 rfl) ?_
  exact rw_neg X hE htr hout hn hl.1 hR (Nat.le_of_ble_eq_true rfl) dX0_rowOf_37
theorem cf_rowOf_hd : yX0_rowOf.cls ≠ "java/lang/invoke/MethodHandle" ∧ yX0_rowOf.cls ≠ "java/lang/invoke/VarHandle" ∧ (parseMethodDescriptor yX0_rowOf.desc).map (fun d => d.parameters.length) = some 2 := by decide +kernel
