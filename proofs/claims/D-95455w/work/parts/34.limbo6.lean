/-! limbo: the new Deed goes into the list -/
set_option maxRecDepth 100000
def ldG (k p w x t : Int32) : Nat → Int32 := fun i => match i with | 0 => k | 1 => p | 2 => w | 3 => x | _ => t
section LA
variable {p : Program} {l : Launch} {e : Env} {R : Room} {s : State} {m : MethodId} {args : Array Value} {below : List Frame} {meth : Method} {c : Code} {H : Heap} {locs : List Loc} {cells slots : Nat} {Q : State → Prop}
variable {pc : Nat} {ls : Array Slot} {rest st0 : List Value} {cc : ByteArray} {nL : Nat} {ret : Option FieldType} {Z : CZ} {Y : CY} {A : Nat → Prop} {C : St} {v : Nat} {dk dp dw dx dt : Int32}
theorem ld_add (X : CCx p s m args meth c cc nL ret RX3 Z) (hL : lmD Z Y A C v (ldE dk dp dw dx dt) H) (hS : va_S A s.heap H locs) (hA : ∀ q, s.heap.size ≤ q → A q) (hE : emZ Z A s s.heap) (hca : va_Nw (.castable RX8 "java/lang/Object") s) (hn : cNn C 0 < 10) (hR : 5 ≤ R.frames ∧ 141 ≤ R.locals) (hc : cells + 1 ≤ R.cells ∧ slots + 10 ≤ R.slots) (hs : ls.size = nL) (hst : st0 = [.ref v] ++ .ref (cSa Z 50) :: rest) (hw : (rest.map fun v => v.category).sum ≤ 8) (hdg : decode cc pc = .ok (.invokevirtual 58, 3))
    (kk : ∀ (Y : CY) (H1 : Heap) (locs1 : List Loc), cPD Z Y A (addC C 0 (ldG dk dp dw dx dt)) H1 → va_S A s.heap H1 locs1 → W p l e R s m args below meth c H1 locs1 (cells + 1) (slots + 10) Q (F0 m (pc + 3) ls (.int 1 :: rest))) : W p l e R s m args below meth c H locs cells slots Q (F0 m pc ls st0) := by
  have hfr := w_free hL.1 hS hA
  have hfr2 : ∀ q, va_A (cWs Z Y C) H.size q ∨ q = v → A q := fun q h => h.elim (hfr q) (fun e => by rw [e]; exact hL.2.2.1)
  have h50 : 50 ∈ cHs Y C := cHs_S (cS_l (j := 0) (by decide))
  have has : cSa Z (50 + 0) < H.size := by
    have := cPD_lt hL.1 h50
    rw [cAr_s (by decide)] at this
    exact this
  have hae : Y.2 0 = true → cSa Z (50 + 0) ≠ cDa Y (400 + 0) := fun hy e => by
    have := cPD_inj hL.1 h50 (cHs_E (j := 0) (by decide) hy) (by rw [cAr_s (by decide), cAr_d (by decide)]; exact e)
    omega
  refine c_wr (va_runV (As := [.ref v]) (rest := rest) X.1.fix (cfL_add_met l Z Y C H.size 0 v (ldG dk dp dw dx dt) (by decide) hn hL.2.2.2 hL.2.1.lt has hae) (cwV 1 X.1.2.2.2.2.2.2 (lw_V q552 q553 q554 q85 q555) rfl rfl rfl cfL_add_hd hR) ⟨adS.blind, c_recvL (j := 0) X hL.1 (by decide), fun U hU hW => ⟨rfl, ⟨by rw [hU], by rw [hU]; exact hL.1.weaken (fun _ _ => trivial), cKs.warm hW X.2⟩, by rw [hU]; exact hL.2.1, by rw [hU]; exact ((hE.kept hS.2.1).narrow hfr).moved hW.alike, va_Nw.warmC hW hca⟩⟩ rfl rfl hs hst (lv_room hw) hdg hc) hS (fun q _ h => hfr2 q h) (fun q h => hfr q h) (fun t H1 locs1 ht _ hB _ _ hS1 => ?_)
  obtain ⟨Y1, hB⟩ := hB
  exact kk Y1 H1 locs1 (by rw [← ht]; exact hB.1.weaken hfr2) hS1
end LA
