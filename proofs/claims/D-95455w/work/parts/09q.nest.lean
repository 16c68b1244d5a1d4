/-! a static method of a nest mate -/
section SN
variable {p : Program} {l : Launch} {e : Env} {R : Room} {s : State} {m : MethodId} {args : Array Value} {below : List Frame} {meth : Method} {c : Code} {H : Heap} {locs : List Loc} {cells slots : Nat} {Q : State → Prop}
variable {pc : Nat} {ls : Array Slot} {rest st0 As : List Value} {cc bytes : ByteArray} {nL maxL index n : Nat} {ret ret' : Option FieldType} {own host : String} {y : MethodName} {rm : Room} {Z : CZ}
theorem s_roN {v : Option Value} (X : CCx p s m args meth c cc nL ret own Z) (hM : Met l y (ws_ y bytes maxL ret') rm (va_Pc As (fun _ => True)) (Qro v) 0 0 (fun _ => False)) (hN : va_Nw (.methodLinkNest own index y host) s) (hq : GoodIn lw_all (ws_ y bytes maxL ret')) (hsq : Cond.static y ∈ lw_all) (hini : Cond.initialized y.cls ∈ lw_all)
    (hd : y.cls ≠ "java/lang/invoke/MethodHandle" ∧ y.cls ≠ "java/lang/invoke/VarHandle" ∧ (parseMethodDescriptor y.desc).map (fun d => d.parameters.length) = some n)
    (hrm : rm.cells = 0 ∧ rm.slots = 0) (hR : rm.frames + 1 ≤ R.frames ∧ 8 + (maxL + 11) + rm.locals ≤ R.locals) (hc : cells ≤ R.cells ∧ slots ≤ R.slots) (hn : As.length = n) (hs : ls.size = nL) (hst : st0 = As.reverse ++ rest) (hw : (rest.map fun v => v.category).sum ≤ 8) (hdg : decode cc pc = .ok (.invokestatic index, 3))
    (kk : W p l e R s m args below meth c H locs cells slots Q (F0 m (pc + 3) ls (v.toList ++ rest))) : W p l e R s m args below meth c H locs cells slots Q (F0 m pc ls st0) :=
  c_ro (va_runSN (As := As) (rest := rest) X.1.fix hM ⟨va_cnB n X.1.2.2.2.2.2.2 hq rfl hrm.1 hrm.2 hN (X.1.2.2.2.2.2.2 _ hini) hd hR, X.1.2.2.2.2.2.2 _ hsq, trivial⟩ ⟨fun _ _ _ _ h => h, fun _ _ _ => ⟨rfl, trivial⟩⟩ rfl hn hs hst (lv_room hw) hdg hc) kk
theorem s_roNI {v : Int32} (X : CCx p s m args meth c cc nL ret own Z) (hM : Met l y (ws_ y bytes maxL ret') rm (va_Pc As (fun _ => True)) (Qro (some (.int v))) 0 0 (fun _ => False)) (hN : va_Nw (.methodLinkNest own index y host) s) (hq : GoodIn lw_all (ws_ y bytes maxL ret')) (hsq : Cond.static y ∈ lw_all) (hini : Cond.initialized y.cls ∈ lw_all)
    (hd : y.cls ≠ "java/lang/invoke/MethodHandle" ∧ y.cls ≠ "java/lang/invoke/VarHandle" ∧ (parseMethodDescriptor y.desc).map (fun d => d.parameters.length) = some n)
    (hrm : rm.cells = 0 ∧ rm.slots = 0) (hR : rm.frames + 1 ≤ R.frames ∧ 8 + (maxL + 11) + rm.locals ≤ R.locals) (hc : cells ≤ R.cells ∧ slots ≤ R.slots) (hn : As.length = n) (hs : ls.size = nL) (hst : st0 = As.reverse ++ rest) (hw : (rest.map fun v => v.category).sum ≤ 8) (hdg : decode cc pc = .ok (.invokestatic index, 3))
    (kk : W p l e R s m args below meth c H locs cells slots Q (F0 m (pc + 3) ls (.int v :: rest))) : W p l e R s m args below meth c H locs cells slots Q (F0 m pc ls st0) :=
  s_roN X hM hN hq hsq hini hd hrm hR hc hn hs hst hw hdg kk
end SN
