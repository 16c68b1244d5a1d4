/-! limbo: Deed.<init> called from Deeds.part -/
section LI
variable {p : Program} {l : Launch} {e : Env} {R : Room} {s : State} {m : MethodId} {args : Array Value} {below : List Frame} {meth : Method} {c : Code} {H : Heap} {locs : List Loc} {cells slots : Nat} {Q : State → Prop}
variable {pc : Nat} {ls : Array Slot} {rest st0 : List Value} {cc : ByteArray} {nL : Nat} {ret : Option FieldType} {Z : CZ} {Y : CY} {A : Nat → Prop} {C : St} {H0 : Heap} {v : Nat}
theorem ld_init {a b d w : Int32} (X : CCx p s m args meth c cc nL ret RX3 Z) (hL : lmD Z Y A C v (ldE 0 0 0 0 0) H) (hS : va_S A H0 H locs) (hR : 2 ≤ R.frames ∧ 8 + (5 + 11) + 20 ≤ R.locals) (hc : cells ≤ R.cells ∧ slots ≤ R.slots) (hs : ls.size = nL) (hst : st0 = [.int w, .int d, .int b, .int a] ++ .ref v :: rest) (hw : (rest.map fun v => v.category).sum ≤ 8) (hdg : decode cc pc = .ok (.invokespecial 41, 3))
    (kk : ∀ (H1 : Heap) (locs1 : List Loc), lmD Z Y A C v (ldE a b d w 0) H1 → va_S A H0 H1 locs1 → W p l e R s m args below meth c H1 locs1 cells slots Q (F0 m (pc + 3) ls rest)) : W p l e R s m args below meth c H locs cells slots Q (F0 m pc ls st0) := by
  have hP : va_P Z.1 clA [(v, ldE 0 0 0 0 0)] H := by
    intro k q hk
    match k, hk with
    | 0, hk => cases hk; exact hL.2.1
    | k + 1, hk => simp at hk
  refine c_wr (va_runI (As := [.int a, .int b, .int d, .int w]) (rest := rest) X.1.fix (dd_init l Z v (.int 0) (.int 0) (.int 0) (.int 0) (.int 0) a b d w) (cwI 4 X.1.2.2.2.2.2.2 (lw_meth q521) rfl rfl rfl (X.1.2.2.2.2.2.2 _ q92) (X.1.2.2.2.2.2.2 _ q519) (X.1.2.2.2.2.2.2 _ q520) rfl (by decide +kernel) hR) ⟨ddS.blind, fun U hU hW => ⟨rfl, by rw [hU]; exact hP, va_K.moved hW.alike X.2.1⟩⟩ rfl rfl hs hst (lv_room hw) hdg hc) hS (fun q _ z => by rw [show q = v from z]; exact hL.2.2.1) (fun q z => by rw [show q = v from z]; exact hL.2.2.1) (fun t H1 locs1 ht _ hB _ hk hS1 => ?_)
  have hB1 : va_P Z.1 clA [(v, ldE a b d w 0)] H1 := by rw [← ht]; exact hB
  refine kk H1 locs1 ⟨⟨hL.1.1.kept (fun k x hx => ?_), hL.1.2⟩, hB1 0 _ rfl, hL.2.2.1, hL.2.2.2⟩ hS1
  refine hk _ ((hL.1.1 k x hx).lt) (fun z => ?_)
  obtain ⟨j, hj, e⟩ := cWs_mem (Z := Z) (v := x.1) (e := x.2) hx
  exact hL.2.2.2 j hj (e.trans z)
end LI
