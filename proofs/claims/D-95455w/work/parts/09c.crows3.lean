/-! methods that write -/
def cSw (Z : CZ) (Y : CY) (C : St) (sz : Nat) (U : State) : Prop := U.heap.size = sz ∧ cS Z Y (fun _ => True) C U
theorem cSw.blind {Z : CZ} {Y : CY} {C : St} {sz : Nat} {av : List Value} : FrameBlind (va_Pc av (cSw Z Y C sz)) := fun a U g mk q => ⟨q.1, q.2.1, q.2.2.1, cKs.same (u := U) (U := U.calling g mk a) rfl q.2.2.2⟩
/-- the end of a method that writes -/
def Qcw (v : Option Value) (Z : CZ) (A : Nat → Prop) (C : St) : Array Value → State → Outcome → State → Prop := Qwr v (fun t => ∃ Y : CY, cS Z Y A C t) A
theorem cPD.weaken {Z : CZ} {Y : CY} {A B : Nat → Prop} {C : St} {H : Heap} (h : ∀ q, A q → B q) (hM : cPD Z Y A C H) : cPD Z Y B C H := ⟨hM.1, hM.2.1.weaken (fun k q _ hq => h _ hq), hM.2.2⟩
theorem cPD.self {Z : CZ} {Y : CY} {A : Nat → Prop} {C : St} {H : Heap} {sz : Nat} (hM : cPD Z Y A C H) : cPD Z Y (va_A (cWs Z Y C) sz) C H := ⟨hM.1, hM.2.1.self, hM.2.2⟩
theorem w_free {Z : CZ} {Y : CY} {A : Nat → Prop} {C : St} {H H0 : Heap} {locs : List Loc} (hM : cPD Z Y A C H) (hS : va_S A H0 H locs) (hA : ∀ q, H0.size ≤ q → A q) : ∀ q, va_A (cWs Z Y C) H.size q → A q := by
  intro q h
  rcases h with ⟨k, e, h⟩ | h
  · exact hM.2.1.2 k _ h
  · exact hA q (Nat.le_trans hS.1 h)
theorem cPD.fr {Z : CZ} {Y : CY} {A : Nat → Prop} {C : St} {H : Heap} (hM : cPD Z Y A C H) : ∀ q, cFr Z q → A q := by
  intro q h
  rcases h with rfl | rfl
  · obtain ⟨pos, hp, hq⟩ := cWs_at (Z := Z) (cHs_S (Y := Y) (C := C) (show 40 ∈ cS0 by decide))
    exact hM.2.1.2 pos _ hq
  · obtain ⟨pos, hp, hq⟩ := cWs_at (Z := Z) (cHs_S (Y := Y) (C := C) (show 41 ∈ cS0 by decide))
    exact hM.2.1.2 pos _ hq
def up1 (C : St) (k : Nat) (f : Nat → Int32) : St := fun a => if a = k then f else C a
theorem up1_same (C : St) (k : Nat) (f : Nat → Int32) : up1 C k f k = f := if_pos rfl
theorem up1_other (C : St) {k a : Nat} (f : Nat → Int32) (h : a ≠ k) : up1 C k f a = C a := if_neg h
theorem cPD_up1 {Z : CZ} {Y : CY} {A : Nat → Prop} {C : St} {k pos : Nat} {f : Nat → Int32} {H1 : Heap} (hw : cWf Y C) (hk : k < 50 ∨ 80 ≤ k) (hp : (cHs Y C)[pos]? = some k)
    (h1 : va_P Z.1 clA ((cWs Z Y C).set pos (cAr Z Y k, cCo Z Y (up1 C k f) k)) H1) (h2 : va_D A ((cWs Z Y C).set pos (cAr Z Y k, cCo Z Y (up1 C k f) k))) : cPD Z Y A (up1 C k f) H1 := by
  have h5 : ∀ b, 50 ≤ b → b < 80 → up1 C k f b = C b := fun b h1 h2 => up1_other C f (by omega)
  rw [cWs_set hw hp (cHs_congr h5) (fun k' hk' hne => cCo_congr hw hk' (up1_other C f hne) h5)] at h1 h2
  exact ⟨h1, h2, cWf_congr h5 hw⟩
def cpOk (sp dp n : Int32) : Bool := !decide (sp < 0) && !decide (dp < 0) && !decide (n < 0) && decide (sp.toNatClampNeg + n.toNatClampNeg ≤ 256) && decide (dp.toNatClampNeg + n.toNatClampNeg ≤ 256)
theorem cpOk_e {sp dp n : Int32} (h : cpOk sp dp n = true) : ¬ sp < 0 ∧ ¬ dp < 0 ∧ ¬ n < 0 ∧ sp.toNatClampNeg + n.toNatClampNeg ≤ 256 ∧ dp.toNatClampNeg + n.toNatClampNeg ≤ 256 := by
  unfold cpOk at h
  simp only [Bool.and_eq_true, Bool.not_eq_true', decide_eq_false_iff_not, decide_eq_true_eq] at h
  exact ⟨h.1.1.1.1, h.1.1.1.2, h.1.1.2, h.1.2, h.2⟩
def cpy_ {β : Type} (C : St) (sp dp n : Int32) (k : St → Option β) : Option β := if cpOk sp dp n = true then k (up1 C 10 (va_cpy (C 9) (C 10) sp.toNatClampNeg dp.toNatClampNeg n.toNatClampNeg)) else none
theorem cpy_e {β : Type} {C : St} {sp dp n : Int32} {k : St → Option β} {r : β} (h : cpy_ C sp dp n k = some r) : cpOk sp dp n = true ∧ ∀ J, J = up1 C 10 (va_cpy (C 9) (C 10) sp.toNatClampNeg dp.toNatClampNeg n.toNatClampNeg) → k J = some r := by
  unfold cpy_ at h
  by_cases q : cpOk sp dp n = true
  · rw [if_pos q] at h
    exact ⟨q, fun J e => by rw [e]; exact h⟩
  · rw [if_neg q] at h
    cases h
section CWW
variable {p : Program} {l : Launch} {e : Env} {R : Room} {s : State} {m : MethodId} {args : Array Value} {below : List Frame} {meth : Method} {c : Code} {H : Heap} {locs : List Loc} {cells slots : Nat} {Q : State → Prop}
variable {pc : Nat} {ls : Array Slot} {rest st0 As : List Value} {cc bytes : ByteArray} {nL maxL index n : Nat} {ret ret' : Option FieldType} {own : String} {y : MethodName} {rm : Room} {Z : CZ} {Y : CY} {A : Nat → Prop} {C : St} {H0 : Heap}
theorem w_wr {v : Option Value} {C' : St} {mc ms : Nat} {b : Addr} {Cn : String} (X : CCx p s m args meth c cc nL ret own Z) (hM : cPD Z Y A C H) (hS : va_S A H0 H locs) (hA : ∀ q, H0.size ≤ q → A q) (hrc : ∃ cell : Cell, H[b]? = some cell ∧ cell.vm.isStatics = false ∧ s.vm.findClass Cn = some cell.cls) (hT : Met l y (ws_ y bytes maxL ret') rm (va_Pc (.ref b :: As) (cSw Z Y C H.size)) (Qcw v Z (va_A (cWs Z Y C) H.size) C') mc ms (va_A (cWs Z Y C) H.size)) (hq : GoodIn lw_all (wsV own index Cn y (ws_ y bytes maxL ret')))
    (hd : y.cls = Cn ∧ y.cls ≠ "java/lang/invoke/MethodHandle" ∧ y.cls ≠ "java/lang/invoke/VarHandle" ∧ (parseMethodDescriptor y.desc).map (fun d => d.parameters.length) = some n)
    (hrm : rm.cells = mc ∧ rm.slots = ms) (hR : rm.frames + 1 ≤ R.frames ∧ 8 + (maxL + 11) + rm.locals ≤ R.locals) (hc : cells + mc ≤ R.cells ∧ slots + ms ≤ R.slots) (hn : As.length = n) (hs : ls.size = nL) (hst : st0 = As.reverse ++ .ref b :: rest) (hw : (rest.map fun v => v.category).sum ≤ 8) (hdg : decode cc pc = .ok (.invokevirtual index, 3))
    (kk : ∀ (Y : CY) (H1 : Heap) (locs1 : List Loc), cPD Z Y A C' H1 → va_S A H0 H1 locs1 → W p l e R s m args below meth c H1 locs1 (cells + mc) (slots + ms) Q (F0 m (pc + 3) ls (v.toList ++ rest))) : W p l e R s m args below meth c H locs cells slots Q (F0 m pc ls st0) :=
  c_wr (va_runV (As := As) (rest := rest) X.1.fix hT (cwV n X.1.2.2.2.2.2.2 hq rfl hrm.1 hrm.2 hd hR) ⟨cSw.blind, hrc, fun U hU hW => ⟨rfl, by rw [hU], by rw [hU]; exact hM.weaken (fun _ _ => trivial), cKs.warm hW X.2⟩⟩ rfl hn hs hst (lv_room hw) hdg hc) hS (fun q _ h => w_free hM hS hA q h) (fun q h => w_free hM hS hA q h)
    (fun t H1 locs1 ht _ hB _ _ hS1 => by
      obtain ⟨Y1, hB⟩ := hB
      exact kk Y1 H1 locs1 (by rw [← ht]; exact hB.1.weaken (w_free hM hS hA)) hS1)
theorem w_wrI {v : Int32} {C' : St} {mc ms : Nat} {b : Addr} {Cn : String} (X : CCx p s m args meth c cc nL ret own Z) (hM : cPD Z Y A C H) (hS : va_S A H0 H locs) (hA : ∀ q, H0.size ≤ q → A q) (hrc : ∃ cell : Cell, H[b]? = some cell ∧ cell.vm.isStatics = false ∧ s.vm.findClass Cn = some cell.cls) (hT : Met l y (ws_ y bytes maxL ret') rm (va_Pc (.ref b :: As) (cSw Z Y C H.size)) (Qcw (some (.int v)) Z (va_A (cWs Z Y C) H.size) C') mc ms (va_A (cWs Z Y C) H.size)) (hq : GoodIn lw_all (wsV own index Cn y (ws_ y bytes maxL ret')))
    (hd : y.cls = Cn ∧ y.cls ≠ "java/lang/invoke/MethodHandle" ∧ y.cls ≠ "java/lang/invoke/VarHandle" ∧ (parseMethodDescriptor y.desc).map (fun d => d.parameters.length) = some n)
    (hrm : rm.cells = mc ∧ rm.slots = ms) (hR : rm.frames + 1 ≤ R.frames ∧ 8 + (maxL + 11) + rm.locals ≤ R.locals) (hc : cells + mc ≤ R.cells ∧ slots + ms ≤ R.slots) (hn : As.length = n) (hs : ls.size = nL) (hst : st0 = As.reverse ++ .ref b :: rest) (hw : (rest.map fun v => v.category).sum ≤ 8) (hdg : decode cc pc = .ok (.invokevirtual index, 3))
    (kk : ∀ (Y : CY) (H1 : Heap) (locs1 : List Loc), cPD Z Y A C' H1 → va_S A H0 H1 locs1 → W p l e R s m args below meth c H1 locs1 (cells + mc) (slots + ms) Q (F0 m (pc + 3) ls (.int v :: rest))) : W p l e R s m args below meth c H locs cells slots Q (F0 m pc ls st0) :=
  w_wr X hM hS hA hrc hT hq hd hrm hR hc hn hs hst hw hdg kk
theorem w_wrJ {v : Int64} {C' : St} {mc ms : Nat} {b : Addr} {Cn : String} (X : CCx p s m args meth c cc nL ret own Z) (hM : cPD Z Y A C H) (hS : va_S A H0 H locs) (hA : ∀ q, H0.size ≤ q → A q) (hrc : ∃ cell : Cell, H[b]? = some cell ∧ cell.vm.isStatics = false ∧ s.vm.findClass Cn = some cell.cls) (hT : Met l y (ws_ y bytes maxL ret') rm (va_Pc (.ref b :: As) (cSw Z Y C H.size)) (Qcw (some (.long v)) Z (va_A (cWs Z Y C) H.size) C') mc ms (va_A (cWs Z Y C) H.size)) (hq : GoodIn lw_all (wsV own index Cn y (ws_ y bytes maxL ret')))
    (hd : y.cls = Cn ∧ y.cls ≠ "java/lang/invoke/MethodHandle" ∧ y.cls ≠ "java/lang/invoke/VarHandle" ∧ (parseMethodDescriptor y.desc).map (fun d => d.parameters.length) = some n)
    (hrm : rm.cells = mc ∧ rm.slots = ms) (hR : rm.frames + 1 ≤ R.frames ∧ 8 + (maxL + 11) + rm.locals ≤ R.locals) (hc : cells + mc ≤ R.cells ∧ slots + ms ≤ R.slots) (hn : As.length = n) (hs : ls.size = nL) (hst : st0 = As.reverse ++ .ref b :: rest) (hw : (rest.map fun v => v.category).sum ≤ 8) (hdg : decode cc pc = .ok (.invokevirtual index, 3))
    (kk : ∀ (Y : CY) (H1 : Heap) (locs1 : List Loc), cPD Z Y A C' H1 → va_S A H0 H1 locs1 → W p l e R s m args below meth c H1 locs1 (cells + mc) (slots + ms) Q (F0 m (pc + 3) ls (.long v :: rest))) : W p l e R s m args below meth c H locs cells slots Q (F0 m pc ls st0) :=
  w_wr X hM hS hA hrc hT hq hd hrm hR hc hn hs hst hw hdg kk
theorem w_wrV {C' : St} {mc ms : Nat} {b : Addr} {Cn : String} (X : CCx p s m args meth c cc nL ret own Z) (hM : cPD Z Y A C H) (hS : va_S A H0 H locs) (hA : ∀ q, H0.size ≤ q → A q) (hrc : ∃ cell : Cell, H[b]? = some cell ∧ cell.vm.isStatics = false ∧ s.vm.findClass Cn = some cell.cls) (hT : Met l y (ws_ y bytes maxL ret') rm (va_Pc (.ref b :: As) (cSw Z Y C H.size)) (Qcw none Z (va_A (cWs Z Y C) H.size) C') mc ms (va_A (cWs Z Y C) H.size)) (hq : GoodIn lw_all (wsV own index Cn y (ws_ y bytes maxL ret')))
    (hd : y.cls = Cn ∧ y.cls ≠ "java/lang/invoke/MethodHandle" ∧ y.cls ≠ "java/lang/invoke/VarHandle" ∧ (parseMethodDescriptor y.desc).map (fun d => d.parameters.length) = some n)
    (hrm : rm.cells = mc ∧ rm.slots = ms) (hR : rm.frames + 1 ≤ R.frames ∧ 8 + (maxL + 11) + rm.locals ≤ R.locals) (hc : cells + mc ≤ R.cells ∧ slots + ms ≤ R.slots) (hn : As.length = n) (hs : ls.size = nL) (hst : st0 = As.reverse ++ .ref b :: rest) (hw : (rest.map fun v => v.category).sum ≤ 8) (hdg : decode cc pc = .ok (.invokevirtual index, 3))
    (kk : ∀ (Y : CY) (H1 : Heap) (locs1 : List Loc), cPD Z Y A C' H1 → va_S A H0 H1 locs1 → W p l e R s m args below meth c H1 locs1 (cells + mc) (slots + ms) Q (F0 m (pc + 3) ls rest)) : W p l e R s m args below meth c H locs cells slots Q (F0 m pc ls st0) :=
  w_wr X hM hS hA hrc hT hq hd hrm hR hc hn hs hst hw hdg kk
theorem w_wrR {v : Nat} {C' : St} {mc ms : Nat} {b : Addr} {Cn : String} (X : CCx p s m args meth c cc nL ret own Z) (hM : cPD Z Y A C H) (hS : va_S A H0 H locs) (hA : ∀ q, H0.size ≤ q → A q) (hrc : ∃ cell : Cell, H[b]? = some cell ∧ cell.vm.isStatics = false ∧ s.vm.findClass Cn = some cell.cls) (hT : Met l y (ws_ y bytes maxL ret') rm (va_Pc (.ref b :: As) (cSw Z Y C H.size)) (Qcw (some (.ref v)) Z (va_A (cWs Z Y C) H.size) C') mc ms (va_A (cWs Z Y C) H.size)) (hq : GoodIn lw_all (wsV own index Cn y (ws_ y bytes maxL ret')))
    (hd : y.cls = Cn ∧ y.cls ≠ "java/lang/invoke/MethodHandle" ∧ y.cls ≠ "java/lang/invoke/VarHandle" ∧ (parseMethodDescriptor y.desc).map (fun d => d.parameters.length) = some n)
    (hrm : rm.cells = mc ∧ rm.slots = ms) (hR : rm.frames + 1 ≤ R.frames ∧ 8 + (maxL + 11) + rm.locals ≤ R.locals) (hc : cells + mc ≤ R.cells ∧ slots + ms ≤ R.slots) (hn : As.length = n) (hs : ls.size = nL) (hst : st0 = As.reverse ++ .ref b :: rest) (hw : (rest.map fun v => v.category).sum ≤ 8) (hdg : decode cc pc = .ok (.invokevirtual index, 3))
    (kk : ∀ (Y : CY) (H1 : Heap) (locs1 : List Loc), cPD Z Y A C' H1 → va_S A H0 H1 locs1 → W p l e R s m args below meth c H1 locs1 (cells + mc) (slots + ms) Q (F0 m (pc + 3) ls (.ref v :: rest))) : W p l e R s m args below meth c H locs cells slots Q (F0 m pc ls st0) :=
  w_wr X hM hS hA hrc hT hq hd hrm hR hc hn hs hst hw hdg kk
/-- cheapest, copied into before -/
theorem c_cpy (X : CCx p s m args meth c cc nL ret RX0 Z) (hM : cPD Z Y A C H) (hS : va_S A H0 H locs) (hml : c.maxLocals = ls.size) {sp dp n : Int32} (h : cpOk sp dp n = true) (hf : 1 ≤ R.frames) (hlo : (rest.map fun v => v.category).sum + (nativeFrameWords "java/lang/System" "arraycopy" 5 + 11) ≤ R.locals) (hdg : decode cc pc = .ok (.invokestatic 258, 3))
    (kk : ∀ (H1 : Heap) (locs1 : List Loc) (J : St), J = up1 C 10 (va_cpy (C 9) (C 10) sp.toNatClampNeg dp.toNatClampNeg n.toNatClampNeg) → cPD Z Y A J H1 → va_S A H0 H1 locs1 → W p l e R s m args below meth c H1 locs1 cells slots Q (F0 m (pc + 3) ls rest)) : W p l e R s m args below meth c H locs cells slots Q (F0 m pc ls (.int n :: .int dp :: .ref (cSa Z 10) :: .int sp :: .ref (cSa Z 9) :: rest)) := by
  obtain ⟨h1, h2, h3, h4, h5⟩ := cpOk_e h
  obtain ⟨p9, hp9, hq9⟩ := cWs_at (Z := Z) (cHs_S (Y := Y) (C := C) (show 9 ∈ cS0 by decide))
  obtain ⟨p10, hp10, hq10⟩ := cWs_at (Z := Z) (cHs_S (Y := Y) (C := C) (show 10 ∈ cS0 by decide))
  refine va_copyi X.1.1 X.1.2.1 hml X.1.2.2.2.2.2.1 (X.1.2.2.2.2.2.2 _ q768) (X.1.2.2.2.2.2.2 _ q609) (X.1.2.2.2.2.2.2 _ q608) (X.1.2.2.2.2.2.2 _ q96) X.2.1 hM.1 hM.2.1 hS p9 p10 0 0 (ty := .int) hq9 hq10 rfl rfl rfl h1 h2 h3 h4 h5 (fun _ _ => rfl) hf hlo hdg (fun H1 locs1 g1 g2 g3 => ?_)
  exact kk H1 locs1 _ rfl (cPD_up1 hM.2.2 (by decide) hp10 g1 g2) g3
theorem c_alenB (X : CCx p s m args meth c cc nL ret own Z) (hM : cPD Z Y A C H) {q : Nat} (h8 : q < 2) (hdg : decode cc pc = .ok (.arraylength, 1)) (kk : ∀ v : Int32, v = Int32.ofNat (cBl q) → W p l e R s m args below meth c H locs cells slots Q (F0 m (pc + 1) ls (.int v :: rest))) : W p l e R s m args below meth c H locs cells slots Q (F0 m pc ls (.ref (cSa Z (42 + q)) :: rest)) := by
  obtain ⟨pos, hp, hq⟩ := cWs_at (Z := Z) (cHs_S (Y := Y) (C := C) (cS_b h8))
  rw [cArr_b h8, cAr_s (by omega)] at hq
  exact va_alen X.1.1 X.1.2.1 X.2.1 hM.1 pos 0 hq rfl rfl hdg (kk _ rfl)
end CWW
