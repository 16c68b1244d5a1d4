/-! limbo: rows of Deeds.part for the new Deed -/
abbrev ldE (k p w x t : Int32) : va_E := .inr (7, [.int k, .int p, .int w, .int x, .int t])
section LD
variable {p : Program} {l : Launch} {e : Env} {R : Room} {s : State} {m : MethodId} {args : Array Value} {below : List Frame} {meth : Method} {c : Code} {H : Heap} {locs : List Loc} {cells slots : Nat} {Q : State → Prop}
variable {pc : Nat} {ls : Array Slot} {rest st0 : List Value} {cc : ByteArray} {nL : Nat} {ret : Option FieldType} {Z : CZ} {Y : CY} {A : Nat → Prop} {C : St} {H0 : Heap} {v : Nat} {dk dp dw dx dt : Int32}
theorem ld_at (Z : CZ) (Y : CY) (C : St) (v : Nat) (E : va_E) : (cWs Z Y C ++ [(v, E)])[(cWs Z Y C).length]? = some (v, E) := by
  rw [List.getElem?_append_right (Nat.le_refl _), Nat.sub_self]
  rfl
theorem ld_get (X : CCx p s m args meth c cc nL ret RX3 Z) (hL : lmD Z Y A C v (ldE dk dp dw dx dt) H) (hdg : decode cc pc = .ok (.getfield 50, 3)) (kk : W p l e R s m args below meth c H locs cells slots Q (F0 m (pc + 3) ls (.int dt :: rest))) : W p l e R s m args below meth c H locs cells slots Q (F0 m pc ls (.ref v :: rest)) :=
  va_getN (host := "SecondChances") X.1.1 X.1.2.1 X.1.2.2.2.2.2.2 in_X8 X.1.2.2.2.2.2.1 X.2.1 (lm_to hL).1 (cWs Z Y C).length (ld_at Z Y C v _) rfl 4 (by decide) (va_Nw.use rfl (X.2.2 _ (List.mem_of_getElem? (i := 17) rfl))) (fun _ h => h) rfl hdg kk
theorem ld_put {t : Int32} (X : CCx p s m args meth c cc nL ret RX3 Z) (hL : lmD Z Y A C v (ldE dk dp dw dx dt) H) (hS : va_S A H0 H locs) (hdg : decode cc pc = .ok (.putfield 50, 3)) (kk : ∀ (H1 : Heap) (locs1 : List Loc), lmD Z Y A C v (ldE dk dp dw dx t) H1 → va_S A H0 H1 locs1 → W p l e R s m args below meth c H1 locs1 cells slots Q (F0 m (pc + 3) ls rest)) : W p l e R s m args below meth c H locs cells slots Q (F0 m pc ls (.int t :: .ref v :: rest)) := by
  refine va_putN (host := "SecondChances") X.1.1 X.1.2.1 X.1.2.2.2.2.2.2 in_X8 tyX8 tyX8_ok nmX8 X.1.2.2.2.2.2.1 X.2.1 (lm_to hL).1 (lm_to hL).2 hS (cWs Z Y C).length (ld_at Z Y C v _) rfl 4 (by decide) (va_Nw.use rfl (X.2.2 _ (List.mem_of_getElem? (i := 17) rfl))) (fun _ h => h) rfl (ty := .int) rfl rfl rfl (Nat.le_of_ble_eq_true rfl) hdg (fun H1 locs1 hP hD hS1 => kk H1 locs1 ?_ hS1)
  have es : ∀ E : va_E, (cWs Z Y C ++ [(v, ldE dk dp dw dx dt)]).set (cWs Z Y C).length (v, E) = cWs Z Y C ++ [(v, E)] := fun E => by
    rw [List.set_append_right _ _ (Nat.le_refl _), Nat.sub_self]
    rfl
  rw [es] at hP hD
  exact lm_of hL.1.2.2 hP hD
theorem ld_new (X : CCx p s m args meth c cc nL ret RX3 Z) (hM : cPD Z Y A C H) (hS : va_S A s.heap H locs) (hA : ∀ q, s.heap.size ≤ q → A q) (hc : cells + 1 ≤ R.cells ∧ slots + 5 ≤ R.slots) (hdg : decode cc pc = .ok (.new 39, 3)) (kk : ∀ (v : Nat) (H1 : Heap), lmD Z Y A C v (ldE 0 0 0 0 0) H1 → va_S A s.heap H1 locs → W p l e R s m args below meth c H1 locs (cells + 1) (slots + 5) Q (F0 m (pc + 3) ls (.ref v :: rest))) : W p l e R s m args below meth c H locs cells slots Q (F0 m pc ls rest) :=
  va_new (ci := 7) (fs := [.int 0, .int 0, .int 0, .int 0, .int 0]) X.1.1 X.1.2.1 X.1.2.2.2.2.2.2 in_X8 tyX8 tyX8_ok X.1.2.2.2.2.2.1 (X.1.2.2.2.2.2.2 _ q517) (X.1.2.2.2.2.2.2 _ q518) (X.1.2.2.2.2.2.2 _ q92) X.2.1 hM.1 hM.2.1 hS hA rfl (by decide) hc.1 hc.2 hdg (fun v H1 hP hD hS1 => kk v H1 (lm_of hM.2.2 hP hD) hS1)
end LD
