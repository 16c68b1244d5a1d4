/-! ArrayList.add over the component's world -/
def elN (j : Nat) : String := if j = 0 then RX8 else if j = 1 then RX9 else "[I"
def adS (Z : CZ) (Y : CY) (C : St) (sz j v : Nat) (g : Nat → Int32) (U : State) : Prop := cSw Z Y C sz U ∧ va_at Z.1 clA (v, elC Z j g) U.heap ∧ emZ Z (va_A (cWs Z Y C) sz) U U.heap ∧ va_Nw (.castable (elN j) "java/lang/Object") U
theorem adS.blind {Z : CZ} {Y : CY} {C : St} {sz j v : Nat} {g : Nat → Int32} {av : List Value} : FrameBlind (va_Pc av (adS Z Y C sz j v g)) := fun a U f mk q => ⟨q.1, (cSw.blind a U f mk ⟨q.1, q.2.1⟩).2, q.2.2.1, emZ.moved (u := U) (U := U.calling f mk a) (Vm.Alike.refl U.vm) q.2.2.2.1, va_Nw.same (u := U) (U := U.calling f mk a) rfl rfl q.2.2.2.2⟩
theorem el_any {Z : CZ} {j v : Nat} {g : Nat → Int32} {U : State} {H : Heap} (hj : j < 3) (hK : va_K Z.1 clA (tysA (cAc Z)) U) (h : va_at Z.1 clA (v, elC Z j g) H) (hc : va_Nw (.castable (elN j) "java/lang/Object") U) : va_Any "java/lang/Object" U H v := by
  have hP : va_P Z.1 clA [(v, elC Z j g)] H := by
    intro k q hk
    match k, hk with
    | 0, hk => cases hk; exact h
    | k + 1, hk => simp at hk
  match j, hj with
  | 0, _ => exact va_rAny (q0 := 0) (ci := 7) hK hP rfl rfl (fun comp c0 h1 h2 => vb_asgC hc comp c0 h1 h2)
  | 1, _ => exact va_rAny (q0 := 0) (ci := 8) hK hP rfl rfl (fun comp c0 h1 h2 => vb_asgC hc comp c0 h1 h2)
  | 2, _ =>
    have hf : U.vm.findClass "[I" = some (cAc Z 0) := (hK.2 0 _ rfl).2
    obtain ⟨k, hk, -⟩ := Vm.findClass_spec hf
    exact ⟨_, h, rfl, ⟨k, hk⟩, fun comp hco => vb_asgC hc comp (cAc Z 0) hco hf⟩
theorem cfL_add_hd : yJ2_add.cls = RJ2 ∧ yJ2_add.cls ≠ "java/lang/invoke/MethodHandle" ∧ yJ2_add.cls ≠ "java/lang/invoke/VarHandle" ∧ (parseMethodDescriptor yJ2_add.desc).map (fun d => d.parameters.length) = some 1 := by decide +kernel
def cfL_add_rm : Room := { frames := 4, cells := 1, slots := 10, locals := 120 }
set_option maxHeartbeats 1000000 in
theorem cfL_add_met (l : Launch) (Z : CZ) (Y : CY) (C : St) (sz j v : Nat) (g : Nat → Int32) (hj : j < 3) (hn : cNn C j < 10) (hv : ∀ k, k ∈ cHs Y C → cAr Z Y k ≠ v) (hvs : v < sz) (has : cSa Z (50 + j) < sz) (hae : Y.2 j = true → cSa Z (50 + j) ≠ cDa Y (400 + j)) :
    Met l yJ2_add (ws_ yJ2_add cJ2_add 2 (some .boolean)) cfL_add_rm (va_Pc [.ref (cSa Z (50 + j)), .ref v] (adS Z Y C sz j v g)) (Qcw (some (.int 1)) Z (fun q => va_A (cWs Z Y C) sz q ∨ q = v) (addC C j g)) 1 10 (va_A (cWs Z Y C) sz) := by
  have hAo : ∀ q, q = cSa Z (50 + j) → va_A (cWs Z Y C) sz q := fun q e => by
    rw [e, ← cAr_s (Z := Z) (Y := Y) (by omega : 50 + j < 100)]
    exact cPD_va (cHs_S (cS_l hj))
  have hva : v ≠ cSa Z (50 + j) := fun e => hv (50 + j) (cHs_S (cS_l hj)) (by rw [cAr_s (by omega)]; exact e.symm)
  by_cases hy : Y.2 j = true
  · have hAe : ∀ q, q = cDa Y (400 + j) → va_A (cWs Z Y C) sz q := fun q e => by
      rw [e, ← cAr_d (Z := Z) (Y := Y) (by omega : 100 ≤ 400 + j)]
      exact cPD_va (cHs_E hj hy)
    have hA : ∀ q, lcA (cSa Z (50 + j)) (cDa Y (400 + j)) q → va_A (cWs Z Y C) sz q := fun q e => e.elim (hAo q) (hAe q)
    have hve : v ≠ cDa Y (400 + j) := fun e => hv (400 + j) (cHs_E hj hy) (by rw [cAr_d (by omega)]; exact e.symm)
    refine Met.conseq (al_addR l Z (cSa Z (50 + j)) (cDa Y (400 + j)) v (C (50 + j) 0) (cNn C j) hn (fun i => if i < cNn C j then some (cDa Y (100 * (j + 1) + i)) else none) (hae hy) hva hve) (fun a s hv0 => ?_) (fun a s o t hv0 hW hq => ?_) hA
    · obtain ⟨ha, ⟨hsz, hM, hKs⟩, hel, -, hca⟩ := hv0
      refine ⟨ha, ⟨fun k q hk => ?_, hKs.1⟩, el_any hj hKs.1 hel hca⟩
      match k, hk with
      | 0, hk =>
        cases hk
        have e := cPD_at hM (cHs_S (cS_l hj))
        rw [cCo_l hj, cAr_s (by omega), nn_int hM.2.2 hj, show cEl Z Y j = cDa Y (400 + j) from if_pos hy] at e
        exact e
      | 1, hk =>
        cases hk
        have e := cPD_at hM (cHs_E hj hy)
        rw [cCo_e (by omega), cAr_d (by omega)] at e
        exact e
      | k + 2, hk => simp at hk
    · obtain ⟨ha, ⟨hsz, hM, hKs⟩, hel, -, hca⟩ := hv0
      obtain ⟨ho, hP, hF⟩ := hq
      subst hsz
      refine ⟨ho, ⟨addY Y C j v (cDa Y (400 + j)), ?_, cKs.warm hW hKs⟩, hF.1, fun q h1 h2 => hF.2 q h1 (fun z => h2 (Or.inl (hA q z)))⟩
      refine add_world hj hn (hM.self.weaken (fun _ z => Or.inl z)) hv (fun _ => rfl) (fun z => absurd hy z) hve (hP 0 _ rfl) ?_ (hel.kept (hF.2 v hvs (fun z => z.elim hva hve))) (fun q h1 h2 h3 => hF.2 q h1 (fun z => z.elim h2 h3)) (Or.inr rfl) (Or.inl (hAe _ rfl))
      have e := hP 1 _ rfl
      have ef : va_up (fun i => if i < cNn C j then some (cDa Y (100 * (j + 1) + i)) else none) (cNn C j) (some v) = (fun i => if i < cNn C j + 1 then some (if i = cNn C j then v else cDa Y (100 * (j + 1) + i)) else none) := by
        funext i
        unfold va_up
        by_cases z : i = cNn C j
        · rw [if_pos z, if_pos (by omega), if_pos z]
        · rw [if_neg z]
          by_cases w : i < cNn C j
          · rw [if_pos (by omega), if_neg z]
            exact if_pos w
          · rw [if_neg (by omega)]
            exact if_neg w
      rw [ef] at e
      exact e
  · have hA : ∀ q, lgA (cSa Z (50 + j)) sz q → va_A (cWs Z Y C) sz q := fun q e => e.elim (hAo q) Or.inr
    refine Met.conseq (al_addg l Z (cSa Z (50 + j)) sz v (C (50 + j) 0) hva has hvs) (fun a s hv0 => ?_) (fun a s o t hv0 hW hq => ?_) hA
    · obtain ⟨ha, ⟨hsz, hM, hKs⟩, hel, hE, hca⟩ := hv0
      refine ⟨ha, ⟨hsz, fun k q hk => ?_, hKs.1, hE.narrow hA⟩, el_any hj hKs.1 hel hca⟩
      match k, hk with
      | 0, hk =>
        cases hk
        have e := cPD_at hM (cHs_S (cS_l hj))
        have hz : cNn C j = 0 := by
          rcases Nat.eq_zero_or_pos (cNn C j) with z | z
          · exact z
          · exact absurd ((hM.2.2 j hj).2.2 z) hy
        rw [cCo_l hj, cAr_s (by omega), nn_int hM.2.2 hj, hz, show cEl Z Y j = Z.2.2.2 from if_neg hy] at e
        exact e
      | k + 1, hk => simp at hk
    · obtain ⟨ha, ⟨hsz, hM, hKs⟩, hel, hE, hca⟩ := hv0
      obtain ⟨ho, ⟨q, hq, hP⟩, hF⟩ := hq
      have hz : cNn C j = 0 := by
        rcases Nat.eq_zero_or_pos (cNn C j) with z | z
        · exact z
        · exact absurd ((hM.2.2 j hj).2.2 z) hy
      subst hsz
      refine ⟨ho, ⟨addY Y C j v q, ?_, cKs.warm hW hKs⟩, hF.1, fun x h1 h2 => hF.2 x h1 (fun z => h2 (Or.inl (hA x z)))⟩
      refine add_world hj hn (hM.self.weaken (fun _ z => Or.inl z)) hv (fun z => absurd z hy) (fun _ k hk z => ?_) (fun z => by omega) ?_ ?_ (hel.kept (hF.2 v hvs (fun z => z.elim hva (fun z => by omega)))) (fun x h1 h2 h3 => hF.2 x h1 (fun z => z.elim h2 (fun z => by omega))) (Or.inr rfl) (Or.inl (Or.inr hq))
      · have := cPD_lt hM hk
        omega
      · rw [hz]
        exact hP 0 _ rfl
      · have e := hP 1 _ rfl
        have ef : va_up (fun _ => none) 0 (some v) = (fun i => if i < cNn C j + 1 then some (if i = cNn C j then v else cDa Y (100 * (j + 1) + i)) else none) := by
          rw [hz]
          funext i
          unfold va_up
          by_cases z : i = 0
          · rw [if_pos z, if_pos (by omega), if_pos z]
          · rw [if_neg z, if_neg (by omega)]
        rw [ef] at e
        exact e
