/-! the law: its calls -/
set_option maxRecDepth 100000
section L2
variable {p : Program} {l : Launch} {e : Env} {R : Room} {s : State} {m : MethodId} {args : Array Value} {below : List Frame} {meth : Method} {c : Code} {H : Heap} {locs : List Loc} {cells slots mc ms : Nat} {Q : State → Prop}
variable {pc : Nat} {ls : Array Slot} {rest st0 As : List Value} {cc bytes : ByteArray} {nL maxL index n : Nat} {ret ret' : Option FieldType} {own Cn : String} {y : MethodName} {rm : Room} {Z : CZ} {Y : CY} {A : Nat → Prop} {C C' I I' : St} {Zm : MZ} {v : Option Value} {Qc : Array Value → State → Outcome → State → Prop} {Pc : Array Value → State → Prop} {free : Addr → Prop} {Ts : List Cond}
/-- a call of a method of the receiver's own class, by way of a 'Back' -/
theorem x_runW {b : Addr} (S : CallFix p m c cc nL s args Ts own) (hK : Back l R p e below s args y 3 8 (PreOf R mc ms Pc) (PostOf Qc mc ms free)) (hlink : (Cond.methodLink own index y).before args s = true) (hd0 : va_Decl s y) (hy : y.cls ≠ "java/lang/invoke/MethodHandle" ∧ y.cls ≠ "java/lang/invoke/VarHandle") (hsel : (Cond.selects Cn y y).before args s = true) (hinst : (Cond.instanceMethod y).before args s = true) (hlen : (parseMethodDescriptor y.desc).map (fun d => d.parameters.length) = some n) (hp : PreV s H Cn b Pc As)
    (hn : As.length = n) (hsize : ls.size = nL) (hstack : st0 = As.reverse ++ .ref b :: rest) (hw : (rest.map fun v => v.category).sum ≤ 8) (hdg : decode cc pc = .ok (.invokevirtual index, 3)) (hf : cells + mc ≤ R.cells ∧ slots + ms ≤ R.slots) :
    va_Run p l e R s m args below meth c H locs cells slots mc ms (F0 m pc ls st0) rest (Qc (Value.ref b :: As).toArray) free := by
  subst hstack
  obtain ⟨hx, hb, hml, ho, -⟩ := S
  obtain ⟨-, ⟨cellB, hcB, hoB, hclB⟩, hPc⟩ := hp
  intro T hT X
  obtain ⟨r0, r, hnn, hrm, hstR, hsigR⟩ := hd0
  obtain ⟨mk, methM, hnamed, hmethM, hstM, habM⟩ := Cond.instanceMethod_spec hinst
  cases hnn.symm.trans hnamed
  cases hrm.symm.trans hmethM
  obtain ⟨c2, r2, m2, q1, q2, q3, q4, kP, hkP, hkPi⟩ := Cond.selects_spec hsel
  cases hclB.symm.trans q1
  cases (State.methodFound?_of_named hnamed hy).symm.trans q2
  cases hnamed.symm.trans q3
  have hselP : selectMethod e.platform s.vm cellB.cls r0 = .method r0 := by rw [Launch.admits_selectMethod X.admits]; exact q4
  have hl2 : As.length = r.sig.parameters.length := by
    rw [show parseMethodDescriptor y.desc = some r.sig from hsigR] at hlen
    exact hn.trans (Option.some.inj hlen).symm
  obtain ⟨vm₁, X₁, hstep₁⟩ := X.invokevirtual hx ho hlink hnamed hmethM hstM hkP hkPi hy (a := b) (cell := cellB) (by rw [hT]; exact hcB)
    (fun z h => by rw [h] at hoB; cases hoB) hselP hmethM habM hkP hkPi (g := F0 m pc ls (As.reverse ++ .ref b :: rest)) rfl (argsL := As) (rest := rest) hl2 rfl (by rw [hb]; exact hdg)
  obtain ⟨v, ⟨U', l2, c2', s2⟩, X', ⟨g', mk', t, L, e1, e2, hq, h1, hL, h2, h3⟩, hsteps⟩ := hK m meth c ⟨T.setVm vm₁, locs, cells, slots⟩ (F0 m pc ls rest) (.invokevirtual index) r0 (Value.ref b :: As).toArray X₁ rfl (hsize.trans hml.symm) (by rw [hb]; exact hdg) (lv_room hw) (X₁.named hnamed) ⟨hf.1, hf.2, hPc (T.setVm vm₁) hT X₁.warmed⟩
  dsimp only [Pt.U, Pt.locs, Pt.cells, Pt.slots] at X' e1 e2 h1 h2 h3 hsteps
  subst h1; subst h2; subst h3
  exact ⟨v, (T.setVm vm₁).calling g' mk' (Value.ref b :: As).toArray, t, U', L, hT, X', hL, e1, e2, hq, fun target h => hstep₁ _ fun acts => by rw [doInvoke_state]; exact hsteps.trans h⟩
theorem lw_c (X : CCx p s m args meth c cc nL ret own Z) (hI : lwI Z Y A C Zm I H) (hS : va_S A s.heap H locs) (hA : ∀ q, s.heap.size ≤ q → A q) (hE : cE Z A s s.heap) (hT : Met l y (ws_ y bytes maxL ret') rm (va_Pc (.ref (cSa Z 0) :: As) (cSx Z Y C H.size)) (Qcw v Z (va_A (cWs Z Y C) H.size) C') mc ms (va_A (cWs Z Y C) H.size)) (hq : GoodIn lw_all (wsV own index RX0 y (ws_ y bytes maxL ret')))
    (hd : y.cls = RX0 ∧ y.cls ≠ "java/lang/invoke/MethodHandle" ∧ y.cls ≠ "java/lang/invoke/VarHandle" ∧ (parseMethodDescriptor y.desc).map (fun d => d.parameters.length) = some n)
    (hrm : rm.cells = mc ∧ rm.slots = ms) (hR : rm.frames + 1 ≤ R.frames ∧ 8 + (maxL + 11) + rm.locals ≤ R.locals) (hc : cells + mc ≤ R.cells ∧ slots + ms ≤ R.slots) (hn : As.length = n) (hs : ls.size = nL) (hst : st0 = As.reverse ++ .ref (cSa Z 0) :: rest) (hw : (rest.map fun v => v.category).sum ≤ 8) (hdg : decode cc pc = .ok (.invokevirtual index, 3))
    (kk : ∀ (Y : CY) (H1 : Heap) (locs1 : List Loc), lwI Z Y A C' Zm I H1 → va_S A s.heap H1 locs1 → W p l e R s m args below meth c H1 locs1 (cells + mc) (slots + ms) Q (F0 m (pc + 3) ls (v.toList ++ rest))) : W p l e R s m args below meth c H locs cells slots Q (F0 m pc ls st0) :=
  lw_cc hI hS hA (va_runV (As := As) (rest := rest) X.1.fix hT (cwV n X.1.2.2.2.2.2.2 hq rfl hrm.1 hrm.2 hd hR) ⟨cSx.blind, c_recv0 X hI.1, fun U hU hW => ⟨rfl, st_sx X hI.1 hS hA hE hU hW⟩⟩ rfl hn hs hst (lv_room hw) hdg hc) kk
theorem lw_cW {hh : List (Nat × Nat × Nat × Nat)} (X : CCx p s m args meth c cc nL ret own Z) (hI : lwI Z Y A C Zm I H) (hS : va_S A s.heap H locs) (hA : ∀ q, s.heap.size ≤ q → A q) (hE : cE Z A s s.heap) (hT : Met l y (wsW_ y bytes maxL ret' hh) rm (va_Pc (.ref (cSa Z 0) :: As) (cSx Z Y C H.size)) (Qcw v Z (va_A (cWs Z Y C) H.size) C') mc ms (va_A (cWs Z Y C) H.size)) (hcw : Cond.codeWith y bytes maxL ret' hh ∈ lw_all) (hlk : Cond.methodLink own index y ∈ lw_all) (hin : Cond.instanceMethod y ∈ lw_all) (hsl : Cond.selects RX0 y y ∈ lw_all) (hini : Cond.initialized y.cls ∈ lw_all)
    (hd : y.cls ≠ "java/lang/invoke/MethodHandle" ∧ y.cls ≠ "java/lang/invoke/VarHandle") (hlen : (parseMethodDescriptor y.desc).map (fun d => d.parameters.length) = some n)
    (hrm : rm.cells = mc ∧ rm.slots = ms) (hR : rm.frames + 1 ≤ R.frames ∧ 8 + (maxL + 11) + rm.locals ≤ R.locals) (hc : cells + mc ≤ R.cells ∧ slots + ms ≤ R.slots) (hn : As.length = n) (hs : ls.size = nL) (hst : st0 = As.reverse ++ .ref (cSa Z 0) :: rest) (hw : (rest.map fun v => v.category).sum ≤ 8) (hdg : decode cc pc = .ok (.invokevirtual index, 3))
    (kk : ∀ (Y : CY) (H1 : Heap) (locs1 : List Loc), lwI Z Y A C' Zm I H1 → va_S A s.heap H1 locs1 → W p l e R s m args below meth c H1 locs1 (cells + mc) (slots + ms) Q (F0 m (pc + 3) ls (v.toList ++ rest))) : W p l e R s m args below meth c H locs cells slots Q (F0 m pc ls st0) := by
  have hts := X.1.2.2.2.2.2.2
  have hini' := hts _ hini
  exact lw_cc hI hS hA (x_runW (As := As) (rest := rest) (n := n) X.1.fix
    (va_backW (hh := hh) (bytes := bytes) (maxL := maxL) (ret := ret') hT cSx.blind hrm.1 hrm.2 hR.1 hR.2 (pay_in hts (lw_methW hcw)) List.mem_cons_self (fun a' U hW => word_at hW (Or.inl (by first | rfl | simp [Cond.onTables, Cond.keeps, Cond.steady])) hini'))
    (hts _ hlk) (decl_W (hts _ hin) (hts _ hcw)) hd (hts _ hsl) (hts _ hin) hlen ⟨cSx.blind, c_recv0 X hI.1, fun U hU hW => ⟨rfl, st_sx X hI.1 hS hA hE hU hW⟩⟩ hn hs hst hw hdg hc) kk
end L2
