/-! the component's world, put together anew -/
theorem cPD_at {Z : CZ} {Y : CY} {A : Nat → Prop} {C : St} {H : Heap} (hM : cPD Z Y A C H) {k : Nat} (hk : k ∈ cHs Y C) : va_at Z.1 clA (cAr Z Y k, cCo Z Y C k) H := by
  obtain ⟨pos, -, hq⟩ := cWs_at (Z := Z) hk
  exact hM.1 pos _ hq
theorem cPD_A {Z : CZ} {Y : CY} {A : Nat → Prop} {C : St} {H : Heap} (hM : cPD Z Y A C H) {k : Nat} (hk : k ∈ cHs Y C) : A (cAr Z Y k) := by
  obtain ⟨pos, -, hq⟩ := cWs_at (Z := Z) hk
  exact hM.2.1.2 pos _ hq
theorem cPD_lt {Z : CZ} {Y : CY} {A : Nat → Prop} {C : St} {H : Heap} (hM : cPD Z Y A C H) {k : Nat} (hk : k ∈ cHs Y C) : cAr Z Y k < H.size := (cPD_at hM hk).lt
theorem cPD_inj {Z : CZ} {Y : CY} {A : Nat → Prop} {C : St} {H : Heap} (hM : cPD Z Y A C H) {k k' : Nat} (hk : k ∈ cHs Y C) (hk' : k' ∈ cHs Y C) (h : cAr Z Y k = cAr Z Y k') : k = k' := by
  obtain ⟨p1, g1, q1⟩ := cWs_at (Z := Z) hk
  obtain ⟨p2, g2, q2⟩ := cWs_at (Z := Z) hk'
  have e := hM.2.1.1 p1 p2 _ _ q1 q2 h
  subst e
  exact Option.some.inj (g1.symm.trans g2)
theorem cPD_va {Z : CZ} {Y : CY} {C : St} {sz : Nat} {k : Nat} (hk : k ∈ cHs Y C) : va_A (cWs Z Y C) sz (cAr Z Y k) := by
  obtain ⟨pos, -, hq⟩ := cWs_at (Z := Z) hk
  exact Or.inl ⟨pos, _, hq⟩
theorem cPD_mk {Z : CZ} {Y : CY} {A : Nat → Prop} {C : St} {H : Heap} (hw : cWf Y C) (h1 : ∀ k, k ∈ cHs Y C → va_at Z.1 clA (cAr Z Y k, cCo Z Y C k) H) (h2 : ∀ k, k ∈ cHs Y C → A (cAr Z Y k)) (h3 : ∀ k k', k ∈ cHs Y C → k' ∈ cHs Y C → cAr Z Y k = cAr Z Y k' → k = k') : cPD Z Y A C H := by
  have e : ∀ (i : Nat) (q : Nat × va_E), (cWs Z Y C)[i]? = some q → ∃ k, (cHs Y C)[i]? = some k ∧ q = (cAr Z Y k, cCo Z Y C k) := by
    intro i q hq
    unfold cWs at hq
    rw [List.getElem?_map] at hq
    cases hm : (cHs Y C)[i]? with
    | none => rw [hm] at hq; cases hq
    | some k => rw [hm] at hq; cases hq; exact ⟨k, rfl, rfl⟩
  refine ⟨fun i q hq => ?_, ⟨fun i j x y hx hy hxy => ?_, fun i q hq => ?_⟩, hw⟩
  · obtain ⟨k, hk, rfl⟩ := e i q hq
    exact h1 k (List.mem_of_getElem? hk)
  · obtain ⟨k, hk, rfl⟩ := e i x hx
    obtain ⟨k', hk', rfl⟩ := e j y hy
    have q := h3 k k' (List.mem_of_getElem? hk) (List.mem_of_getElem? hk') hxy
    subst q
    exact nd_inj (cHs_nd hw) hk hk'
  · obtain ⟨k, hk, rfl⟩ := e i q hq
    exact h2 k (List.mem_of_getElem? hk)
theorem cSt_congr6 {Z : CZ} {Y : CY} {C C' : St} {k : Nat} (h : C' k = C k) (h6 : ∀ b, 60 ≤ b → b < 64 → C' b = C b) : cSt Z Y C' k = cSt Z Y C k := by
  have e60 := h6 60 (by decide) (by decide)
  have e61 := h6 61 (by decide) (by decide)
  have e62 := h6 62 (by decide) (by decide)
  have e63 := h6 63 (by decide) (by decide)
  unfold cSt
  split <;> first | rfl | (rw [h]; done) | (rw [e60]; done) | (rw [e61]; done) | (rw [e62]; done) | (rw [e63]; done) | (simp only [h])
theorem Met.conseq {l : Launch} {y : MethodName} {ws : List Cond} {rm : Room} {Pc Pc1 : Array Value → State → Prop} {Qc Qc1 : Array Value → State → Outcome → State → Prop} {mc ms : Nat} {free free1 : Addr → Prop} (h : Met l y ws rm Pc1 Qc1 mc ms free1) (hP : ∀ a s, Pc a s → Pc1 a s) (hQ : ∀ a s o t, Pc a s → s.WarmedH t.vm → Qc1 a s o t → Qc a s o t) (hf : ∀ q, free1 q → free q) : Met l y ws rm Pc Qc mc ms free := by
  intro p e ha hc hk s m args below hfr happ hPc hK
  obtain ⟨n, o, h1, h2, h3, hq, L, hF, hL⟩ := h p e ha hc hk s m args below hfr happ (hP _ _ hPc) hK
  exact ⟨n, o, h1, h2, h3, hQ _ _ _ _ hPc hF.2.1 hq, L, hF, fun q hq => hf _ (hL q hq)⟩
set_option maxHeartbeats 4000000 in
/-- a list without an array of its own: nothing is in it -/
theorem al_clear0 (l : Launch) (Z : CZ) (a e : Nat) (mo : Int32) : Met l yJ2_clear (ws_ yJ2_clear cJ2_clear 4 none) ({ frames := 0, cells := 0, slots := 0, locals := 0 }) (va_Pc [.ref a] (fun U => va_P Z.1 clA [(a, .inr (9, [.int mo, .ref e, .int 0]))] U.heap ∧ va_K Z.1 clA (tysA (cAc Z)) U)) (Qwr none (fun t => va_P Z.1 clA [(a, .inr (9, [.int (mo + 1), .ref e, .int 0]))] t.heap) (tnA a)) 0 0 (tnA a) := by
  refine Met.ofW (cc := cJ2_clear) (maxL := 4) (ret := none) (by decide) rfl ?_
  intro p e0 s m args below meth c s₁ B hml hv
  obtain ⟨rfl, hP, hK⟩ := hv
  have hts := atoms_spec (ws := ws_ yJ2_clear cJ2_clear 4 none) B.pre
  have hts : ∀ w ∈ lw_all, w.before _ s = true := fun w h => hts w (List.mem_cons_of_mem _ h)
  have C : SCx p s m _ meth c cJ2_clear 4 none RJ2 := ⟨B.exec, B.bytes, B.returns, B.notSynchronized, hml, findClass_of_methodNamed B.named, hts⟩
  obtain ⟨hx, hb, hr, hlocks, hml, hown, -⟩ := id C
  have hS : va_S (tnA a) s.heap s.heap [] := va_S.rf
  have hl := lv_entry ([.ref a]) (n := 4) (Nat.le_of_ble_eq_true rfl)
  rw [lg_entry_eq]
  generalize (lg_sl ([.ref a]) ++ List.replicate (4 - (lg_sl ([.ref a])).length) Slot.unset).toArray = ls at hl ⊢
  have hl : lv_has ls 4 [(0, .ref a)] := hl
  refine lv_aload_n hx hb dJ2_clear_0 rfl (lv_at hl 0 rfl) ?_
  refine lv_dup hx hb dJ2_clear_1 rfl ?_
  refine va_get hx hb hts in_J2 hown hK hP 0 rfl rfl 0 (by decide) (hts _ q154) (u_same (hts _ q155)) rfl dJ2_clear_2 ?_
  refine lv_iconst (v := 1) hx hb dJ2_clear_5 (by decide) ?_
  refine lv_iadd hx hb dJ2_clear_6 ?_
  refine va_put hx hb hts in_J2 tyJ2 tyJ2_ok nmJ2 hown hK hP tnD hS 0 rfl rfl 0 (by decide) (hts _ q154) (u_same (hts _ q155)) rfl (ty := .int) rfl rfl rfl (Nat.le_of_ble_eq_true rfl) dJ2_clear_7 (fun H locs hP hD hS => ?_)
  have hP : va_P Z.1 clA [(a, .inr (9, [.int (mo + 1), .ref e, .int 0]))] H := hP
  refine lv_aload_n hx hb dJ2_clear_10 rfl (lv_at hl 0 rfl) ?_
  refine va_get hx hb hts in_J2 hown hK hP 0 rfl rfl 1 (by decide) (hts _ q151) (fun _ h => h) rfl dJ2_clear_11 ?_
  refine lv_astore_n (lv' := [(1, .ref e), (0, .ref a)]) hx hb dJ2_clear_14 rfl hl (by decide) rfl (fun ls hl => ?_)
  refine lv_aload_n hx hb dJ2_clear_15 rfl (lv_at hl 1 rfl) ?_
  refine va_get hx hb hts in_J2 hown hK hP 0 rfl rfl 2 (by decide) (hts _ q152) (fun _ h => h) rfl dJ2_clear_16 ?_
  refine lv_istore_n (lv' := [(2, .int 0), (1, .ref e), (0, .ref a)]) hx hb dJ2_clear_19 rfl hl (by decide) rfl (fun ls hl => ?_)
  refine lv_aload_n hx hb dJ2_clear_20 rfl (lv_at hl 2 rfl) ?_
  refine lv_iconst (v := 0) hx hb dJ2_clear_21 (by decide) ?_
  refine lv_dup_x1 hx hb dJ2_clear_22 rfl rfl ?_
  refine va_put hx hb hts in_J2 tyJ2 tyJ2_ok nmJ2 hown hK hP tnD hS 0 rfl rfl 2 (by decide) (hts _ q152) (fun _ h => h) rfl (ty := .int) rfl rfl rfl (Nat.le_of_ble_eq_true rfl) dJ2_clear_23 (fun H locs hP hD hS => ?_)
  refine lv_istore_n (lv' := [(3, .int 0), (2, .int 0), (1, .ref e), (0, .ref a)]) hx hb dJ2_clear_26 rfl hl (by decide) rfl (fun ls hl => ?_)
  refine lv_iload_n hx hb dJ2_clear_27 rfl (lv_at hl 0 rfl) ?_
  refine lv_iload_n hx hb dJ2_clear_28 rfl (lv_at hl 1 rfl) ?_
  refine lv_icmp_ge (tgt := 42) hx hb dJ2_clear_29 (by decide) (fun _ => ?_) (fun c1 => absurd (by decide) c1)
  exact W.vret hx hb hr (fun t ht hW => ⟨rfl, by show va_P _ _ _ t.heap; rw [ht]; exact hP, hS.F ht⟩) hS.2.2 dJ2_clear_42
