/-! calls of constructors -/
set_option maxRecDepth 100000
theorem ctS.blind {Z : CZ} {h : Nat} {E : va_E} {sz : Nat} {Xt : State → Prop} {av : List Value} (hX : ∀ (a : Array Value) (U : State) (g : JFrame) (mk : MethodId), Xt U → Xt (U.calling g mk a)) : FrameBlind (va_Pc av (ctS Z h E sz Xt)) := fun a U g mk q => ⟨q.1, q.2.1, q.2.2.1, va_K.moved (u := U) (U := U.calling g mk a) (Vm.Alike.refl U.vm) q.2.2.2.1, hX a U g mk q.2.2.2.2⟩
section CI
variable {p : Program} {l : Launch} {e : Env} {R : Room} {s : State} {m : MethodId} {args : Array Value} {below : List Frame} {meth : Method} {c : Code} {H : Heap} {locs : List Loc} {cells slots mc ms : Nat} {Q : State → Prop}
variable {pc : Nat} {ls : Array Slot} {rest st0 As : List Value} {cc bytes : ByteArray} {nL maxL index n : Nat} {ret : Option FieldType} {own host : String} {y : MethodName} {rm : Room} {Z : CZ} {A : Nat → Prop} {h q0 : Nat} {E : va_E} {mk : va_E → va_W → Prop} {ws : va_W} {Xt : State → Prop}
theorem ct_callI (C : SCx p s m args meth c cc nL ret own) (hK : va_K Z.1 clA (tysA (cAc Z)) s) (hP : va_P Z.1 clA ws H) (hD : va_D A ws) (hS : va_S A s.heap H locs) (hA : ∀ q, s.heap.size ≤ q → A q) (q0 : Nat) (he : ws[q0]? = some (h, E)) (hT : Met l y (ws_ y bytes maxL none) rm (va_Pc (.ref h :: As) (ctS Z h E H.size Xt)) (Qct Z h E H.size mk) mc ms (va_A [(h, E)] H.size)) (hXb : ∀ (a : Array Value) (U : State) (g : JFrame) (mk : MethodId), Xt U → Xt (U.calling g mk a)) (hX : ∀ U : State, U.heap = H → s.WarmedH U.vm → Xt U)
    (cw : CallB R s args own index y bytes maxL none (ws_ y bytes maxL none) rm mc ms n ∧ y.name = "<init>" ∧ (Cond.instanceMethod y).before args s = true) (hc : cells + mc ≤ R.cells ∧ slots + ms ≤ R.slots) (hn : As.length = n) (hs : ls.size = nL) (hst : st0 = As.reverse ++ .ref h :: rest) (hw : (rest.map fun v => v.category).sum ≤ 8) (hdg : decode cc pc = .ok (.invokespecial index, 3))
    (kk : ∀ (E1 : va_E) (es : va_W) (H1 : Heap) (locs1 : List Loc), mk E1 es → va_P Z.1 clA (ws.set q0 (h, E1) ++ es) H1 → va_D A (ws.set q0 (h, E1) ++ es) → va_S A s.heap H1 locs1 → W p l e R s m args below meth c H1 locs1 (cells + mc) (slots + ms) Q (F0 m (pc + 3) ls rest)) : W p l e R s m args below meth c H locs cells slots Q (F0 m pc ls st0) :=
  ct_run hP hD hS hA he (va_runI (As := As) (rest := rest) C.fix hT cw ⟨ctS.blind hXb, fun U hU hW => ⟨rfl, by rw [hU], fun k x hk => by
      match k, hk with
      | 0, hk => cases hk; rw [hU]; exact hP q0 _ he
      | k + 1, hk => simp at hk, va_K.moved hW.alike hK, hX U hU hW⟩⟩ rfl hn hs hst (lv_room hw) hdg hc) kk
theorem ct_callN (C : SCx p s m args meth c cc nL ret own) (hK : va_K Z.1 clA (tysA (cAc Z)) s) (hP : va_P Z.1 clA ws H) (hD : va_D A ws) (hS : va_S A s.heap H locs) (hA : ∀ q, s.heap.size ≤ q → A q) (q0 : Nat) (he : ws[q0]? = some (h, E)) (hT : Met l y (ws_ y bytes maxL none) rm (va_Pc (.ref h :: As) (ctS Z h E H.size Xt)) (Qct Z h E H.size mk) mc ms (va_A [(h, E)] H.size)) (hXb : ∀ (a : Array Value) (U : State) (g : JFrame) (mk : MethodId), Xt U → Xt (U.calling g mk a)) (hX : ∀ U : State, U.heap = H → s.WarmedH U.vm → Xt U)
    (cw : va_CN R s args own index y host bytes maxL none (ws_ y bytes maxL none) rm mc ms n ∧ y.name = "<init>" ∧ (Cond.instanceMethod y).before args s = true) (hc : cells + mc ≤ R.cells ∧ slots + ms ≤ R.slots) (hn : As.length = n) (hs : ls.size = nL) (hst : st0 = As.reverse ++ .ref h :: rest) (hw : (rest.map fun v => v.category).sum ≤ 8) (hdg : decode cc pc = .ok (.invokespecial index, 3))
    (kk : ∀ (E1 : va_E) (es : va_W) (H1 : Heap) (locs1 : List Loc), mk E1 es → va_P Z.1 clA (ws.set q0 (h, E1) ++ es) H1 → va_D A (ws.set q0 (h, E1) ++ es) → va_S A s.heap H1 locs1 → W p l e R s m args below meth c H1 locs1 (cells + mc) (slots + ms) Q (F0 m (pc + 3) ls rest)) : W p l e R s m args below meth c H locs cells slots Q (F0 m pc ls st0) :=
  ct_run hP hD hS hA he (va_runIN (As := As) (rest := rest) C.fix hT cw ⟨ctS.blind hXb, fun U hU hW => ⟨rfl, by rw [hU], fun k x hk => by
      match k, hk with
      | 0, hk => cases hk; rw [hU]; exact hP q0 _ he
      | k + 1, hk => simp at hk, va_K.moved hW.alike hK, hX U hU hW⟩⟩ rfl hn hs hst (lv_room hw) hdg hc) kk
end CI
