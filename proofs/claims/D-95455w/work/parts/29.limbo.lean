/-! a cell in limbo beside the world -/
def lmD (Z : CZ) (Y : CY) (A : Nat → Prop) (C : St) (v : Nat) (E : va_E) (H : Heap) : Prop := cPD Z Y A C H ∧ va_at Z.1 clA (v, E) H ∧ A v ∧ ∀ k, k ∈ cHs Y C → cAr Z Y k ≠ v
theorem cWs_mem {Z : CZ} {Y : CY} {C : St} {k v : Nat} {e : va_E} (h : (cWs Z Y C)[k]? = some (v, e)) : ∃ j, j ∈ cHs Y C ∧ cAr Z Y j = v := by
  unfold cWs at h
  rw [List.getElem?_map] at h
  cases hk : (cHs Y C)[k]? with
  | none => rw [hk] at h; cases h
  | some j =>
    rw [hk] at h
    have h2 : cCell Z Y C j = (v, e) := Option.some.inj h
    exact ⟨j, List.mem_of_getElem? hk, congrArg Prod.fst h2⟩
theorem lmD.out {Z : CZ} {Y : CY} {A : Nat → Prop} {C : St} {v : Nat} {E : va_E} {H : Heap} (h : lmD Z Y A C v E H) : ¬ va_A (cWs Z Y C) H.size v := by
  rintro (⟨k, e, hk⟩ | hk)
  · obtain ⟨j, hj, e⟩ := cWs_mem hk
    exact h.2.2.2 j hj e
  · exact absurd h.2.1.lt (Nat.not_lt.mpr hk)
section LM
variable {p : Program} {l : Launch} {e : Env} {R : Room} {s : State} {m : MethodId} {args : Array Value} {below : List Frame} {meth : Method} {c : Code} {H : Heap} {locs : List Loc} {cells slots : Nat} {Q : State → Prop}
variable {pc : Nat} {ls : Array Slot} {rest st0 As : List Value} {cc bytes : ByteArray} {nL maxL index n : Nat} {ret ret' : Option FieldType} {own : String} {y : MethodName} {rm : Room} {Z : CZ} {Y : CY} {A : Nat → Prop} {C : St} {H0 : Heap}
/-- a call on the world leaves the cell in limbo alone -/
theorem w_lm {lv : Nat} {E : va_E} {v : Option Value} {C' : St} {mc ms : Nat} {b : Addr} {Cn owner : String} {x : MethodName} (X : CCx p s m args meth c cc nL ret own Z) (hL : lmD Z Y A C lv E H) (hS : va_S A H0 H locs) (hA : ∀ q, H0.size ≤ q → A q) (hrc : ∃ cell : Cell, H[b]? = some cell ∧ cell.vm.isStatics = false ∧ s.vm.findClass Cn = some cell.cls) (hT : Met l y (ws_ y bytes maxL ret') rm (va_Pc (.ref b :: As) (cSw Z Y C H.size)) (Qcw v Z (va_A (cWs Z Y C) H.size) C') mc ms (va_A (cWs Z Y C) H.size)) (hq : GoodIn lw_all (va_wsU own index Cn owner x y (ws_ y bytes maxL ret'))) (hyx : y = ⟨owner, x.name, x.desc⟩)
    (hd : owner ≠ "java/lang/invoke/MethodHandle" ∧ owner ≠ "java/lang/invoke/VarHandle" ∧ (parseMethodDescriptor x.desc).map (fun d => d.parameters.length) = some n)
    (hrm : rm.cells = mc ∧ rm.slots = ms) (hR : rm.frames + 1 ≤ R.frames ∧ 8 + (maxL + 11) + rm.locals ≤ R.locals) (hc : cells + mc ≤ R.cells ∧ slots + ms ≤ R.slots) (hn : As.length = n) (hs : ls.size = nL) (hst : st0 = As.reverse ++ .ref b :: rest) (hw : (rest.map fun v => v.category).sum ≤ 8) (hdg : decode cc pc = .ok (.invokevirtual index, 3))
    (kk : ∀ (Y : CY) (H1 : Heap) (locs1 : List Loc), lmD Z Y A C' lv E H1 → va_S A H0 H1 locs1 → W p l e R s m args below meth c H1 locs1 (cells + mc) (slots + ms) Q (F0 m (pc + 3) ls (v.toList ++ rest))) : W p l e R s m args below meth c H locs cells slots Q (F0 m pc ls st0) :=
  c_wr (va_runU (As := As) (rest := rest) X.1.fix hT (va_cwU n X.1.2.2.2.2.2.2 hq rfl hrm.1 hrm.2 hyx hd hR) ⟨cSw.blind, hrc, fun U hU hW => ⟨rfl, by rw [hU], by rw [hU]; exact hL.1.weaken (fun _ _ => trivial), cKs.warm hW X.2⟩⟩ rfl hn hs hst (lv_room hw) hdg hc) hS (fun q _ h => w_free hL.1 hS hA q h) (fun q h => w_free hL.1 hS hA q h)
    (fun t H1 locs1 ht _ hB _ hk hS1 => by
      obtain ⟨Y1, hB⟩ := hB
      have hB1 : cPD Z Y1 (va_A (cWs Z Y C) H.size) C' H1 := by rw [← ht]; exact hB.1
      exact kk Y1 H1 locs1 ⟨hB1.weaken (w_free hL.1 hS hA), hL.2.1.kept (hk lv hL.2.1.lt hL.out), hL.2.2.1, fun k hk' e => hL.out (by rw [← e]; exact cPD_A hB1 hk')⟩ hS1)
end LM
