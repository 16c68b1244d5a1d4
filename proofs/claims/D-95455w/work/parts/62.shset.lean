/-! a sheet gets a new row -/
set_option maxRecDepth 100000
def shSet (C : St) (q : Nat) (f n : Int32) : St := fun b => if b = 60 + q then (fun i => match i with | 0 => 1 | 1 => f | 2 => n | _ => 0) else if b = 70 + q then (fun _ => 0) else C b
def shY (Y : CY) (q v : Nat) : CY := (fun k => if k = 500 + q then v else Y.1 k, Y.2)
section SS
variable {p : Program} {l : Launch} {e : Env} {R : Room} {s : State} {m : MethodId} {args : Array Value} {below : List Frame} {meth : Method} {c : Code} {H : Heap} {locs : List Loc} {cells slots : Nat} {Q : State → Prop}
variable {pc : Nat} {ls : Array Slot} {rest st0 As : List Value} {cc bytes : ByteArray} {nL maxL index : Nat} {ret ret' : Option FieldType} {own : String} {Z : CZ} {Y : CY} {A : Nat → Prop} {C : St} {H0 : Heap}
theorem sh_set {v : Nat} {f n : Int32} (X : CCx p s m args meth c cc nL ret RX0 Z) (hL : lmD Z Y A C v (rwE Z f n) H) (hS : va_S A H0 H locs) {q : Nat} (h8 : q < 4) (hdg : decode cc pc = .ok (.putfield 119, 3)) (kk : ∀ (Y : CY) (H1 : Heap) (locs1 : List Loc) (J : St), J = shSet C q f n → cPD Z Y A J H1 → va_S A H0 H1 locs1 → W p l e R s m args below meth c H1 locs1 cells slots Q (F0 m (pc + 3) ls rest)) : W p l e R s m args below meth c H locs cells slots Q (F0 m pc ls (.ref v :: .ref (cSa Z (90 + q)) :: rest)) := by
  obtain ⟨pos, hp, hq⟩ := cWs_at (Z := Z) (cHs_S (Y := Y) (C := C) (cS_h h8))
  have hlt : pos < (cWs Z Y C).length := (List.getElem?_eq_some_iff.mp hq).1
  have hq2 : (cWs Z Y C ++ [(v, rwE Z f n)])[pos]? = some (cSa Z (90 + q), .inr (5, [va_rf (if C (60 + q) 0 = 1 then some (cDa Y (500 + q)) else none)])) := by
    rw [List.getElem?_append_left hlt, hq, cCo_h h8, cAr_s (by omega)]
  refine va_putN (host := "SecondChances") X.1.1 X.1.2.1 X.1.2.2.2.2.2.2 in_X5 tyX5 tyX5_ok nmX5 X.1.2.2.2.2.2.1 X.2.1 (lm_to hL).1 (lm_to hL).2 hS pos hq2 rfl 0 (by decide) (va_Nw.use rfl (X.2.2 _ (List.mem_of_getElem? (i := 9) rfl))) (fun _ h => h) rfl (ty := .object "java/lang/Object") rfl rfl rfl (Nat.le_of_ble_eq_true rfl) hdg (fun H1 locs1 h1 h2 h3 => kk (shY Y q v) H1 locs1 _ rfl ?_ h3)
  have hw := hL.1.2.2
  have at_ : ∀ (k : Nat) (x : Nat × va_E), k ≠ pos → (cWs Z Y C ++ [(v, rwE Z f n)])[k]? = some x → va_at Z.1 clA x H1 := fun k x hk hx => h1 k x (by rw [List.getElem?_set_ne (fun e => hk e.symm)]; exact hx)
  refine sh_mk h8 hL.1 (fun b n1 n2 => by unfold shSet; rw [if_neg n1, if_neg n2]) rfl (fun b hb => if_neg hb) ?_ (fun k hk hne => ?_) (fun _ => ⟨?_, ?_, ?_⟩)
  · have e0 : shSet C q f n (60 + q) 0 = 1 := by unfold shSet; rw [if_pos rfl]; rfl
    rw [if_pos e0]
    have e1 : cDa (shY Y q v) (500 + q) = v := if_pos rfl
    rw [e1]
    exact h1 pos _ (by rw [List.getElem?_set_self (by rw [List.length_append]; omega)]; rfl)
  · obtain ⟨pk, g1, g2⟩ := cWs_at (Z := Z) hk
    refine at_ pk _ (fun e => hne ?_) (by rw [List.getElem?_append_left (List.getElem?_eq_some_iff.mp g2).1]; exact g2)
    subst e
    exact Option.some.inj (g1.symm.trans hp)
  · have e1 : cDa (shY Y q v) (500 + q) = v := if_pos rfl
    have e2 : cCo Z (shY Y q v) (shSet C q f n) (500 + q) = rwE Z f n := by
      rw [cCo_r]
      have a1 : shSet C q f n (60 + q) = (fun i => match i with | 0 => 1 | 1 => f | 2 => n | _ => 0) := if_pos rfl
      have a2 : shSet C q f n (70 + q) = (fun _ => 0) := by unfold shSet; rw [if_neg (by omega), if_pos rfl]
      rw [a1, a2]
      rfl
    rw [e1, e2]
    exact at_ (cWs Z Y C).length _ (by omega) (by rw [List.getElem?_append_right (Nat.le_refl _), Nat.sub_self]; rfl)
  · rw [show cDa (shY Y q v) (500 + q) = v from if_pos rfl]
    exact hL.2.2.1
  · intro k hk hne
    rw [show cDa (shY Y q v) (500 + q) = v from if_pos rfl]
    exact hL.2.2.2 k hk
end SS
