/-! a list of the component's is emptied -/
def clr (C : St) (j : Nat) : St := upd2 (upd2 C (50 + j) 0 (C (50 + j) 0 + 1)) (50 + j) 2 0
theorem clr_other {C : St} {j b : Nat} (h : b ≠ 50 + j) : clr C j b = C b := by
  unfold clr
  rw [upd2_other _ _ _ h, upd2_other _ _ _ h]
theorem clr_0 (C : St) (j : Nat) : clr C j (50 + j) 0 = C (50 + j) 0 + 1 := by
  unfold clr
  rw [upd2_same]
  show (if (0 : Nat) = 2 then (0 : Int32) else upd2 C (50 + j) 0 (C (50 + j) 0 + 1) (50 + j) 0) = _
  rw [if_neg (by decide), upd2_same]
  exact if_pos rfl
theorem clr_2 (C : St) (j : Nat) : clr C j (50 + j) 2 = 0 := by
  unfold clr
  rw [upd2_same]
  exact if_pos rfl
theorem clr_nn {C : St} {j i : Nat} : cNn (clr C j) i = if i = j then 0 else cNn C i := by
  unfold cNn
  by_cases h : i = j
  · subst h
    rw [if_pos rfl, clr_2]
    rfl
  · rw [if_neg h, clr_other (by omega)]
theorem clr_wf {Y : CY} {C : St} {j : Nat} (hw : cWf Y C) : cWf Y (clr C j) := by
  intro i hi
  have h := hw i hi
  by_cases e : i = j
  · subst e
    rw [clr_nn, if_pos rfl, clr_2]
    exact ⟨by omega, by decide, fun q => absurd q (by omega)⟩
  · rw [clr_nn, if_neg e, clr_other (by omega)]
    exact h
theorem clr_hs {Y : CY} {C : St} {j k : Nat} (hw : cWf Y C) (h : k ∈ cHs Y (clr C j)) (hj : j < 3) : k ∈ cHs Y C := by
  have sub : ∀ {i d : Nat}, d < cNn (clr C j) i → d < cNn C i := by
    intro i d q
    rw [clr_nn] at q
    by_cases e : i = j
    · rw [if_pos e] at q; omega
    · rw [if_neg e] at q; exact q
  rcases cHs_ge (clr_wf hw) h with ⟨q, -⟩ | ⟨d, q, rfl⟩ | ⟨d, q, rfl⟩ | ⟨d, q, rfl⟩ | ⟨i, hi, q, rfl⟩ | ⟨s, hs, q, rfl⟩
  · exact cHs_S q
  · exact cHs_D (sub q)
  · exact cHs_G (sub q)
  · exact cHs_A (sub q)
  · exact cHs_E hi q
  · exact cHs_R hs (by rw [clr_other (by omega)] at q; exact q)
theorem clr_co {Z : CZ} {Y : CY} {C : St} {j k : Nat} (hw : cWf Y C) (hj : j < 3) (hk : k ∈ cHs Y (clr C j)) (h1 : k ≠ 50 + j) (h2 : k ≠ 400 + j) : cCo Z Y (clr C j) k = cCo Z Y C k := by
  have hb0 := (hw 0 (by decide)).1
  have hb1 := (hw 1 (by decide)).1
  have hb2 := (hw 2 (by decide)).1
  have hk0 := clr_hs hw hk hj
  rcases cHs_ge hw hk0 with ⟨-, q⟩ | ⟨d, q, rfl⟩ | ⟨d, q, rfl⟩ | ⟨d, q, rfl⟩ | ⟨i, hi, q, rfl⟩ | ⟨s, hs, q, rfl⟩
  · unfold cCo
    rw [if_pos q, if_pos q]
    exact cSt_congr6 (clr_other h1) (fun b g1 g2 => clr_other (by omega))
  · rw [cCo_d (by omega), cCo_d (by omega), clr_other (by omega)]
  · rw [cCo_g (by omega), cCo_g (by omega), clr_other (by omega)]
  · rw [cCo_a (by omega), cCo_a (by omega), clr_other (by omega)]
  · rw [cCo_e (by omega), cCo_e (by omega), clr_nn, if_neg (by omega)]
  · rw [cCo_r, cCo_r, clr_other (by omega), clr_other (by omega)]
theorem cCo_l {Z : CZ} {Y : CY} {C : St} {j : Nat} (hj : j < 3) : cCo Z Y C (50 + j) = .inr (9, [.int (C (50 + j) 0), .ref (cEl Z Y j), .int (C (50 + j) 2)]) := by
  match j, hj with
  | 0, _ | 1, _ | 2, _ => rfl
theorem cS_l {j : Nat} (hj : j < 3) : 50 + j ∈ cS0 := by
  match j, hj with
  | 0, _ | 1, _ | 2, _ => decide
theorem clr_world {Z : CZ} {Y : CY} {A : Nat → Prop} {C : St} {H H1 : Heap} {j : Nat} (hj : j < 3) (hM : cPD Z Y A C H) (ho : va_at Z.1 clA (cSa Z (50 + j), .inr (9, [.int (C (50 + j) 0 + 1), .ref (cEl Z Y j), .int 0])) H1)
    (ha : Y.2 j = true → va_at Z.1 clA (cDa Y (400 + j), .inl (cAc Z 6, 10, .inr (.inr (.inr (.inr (fun _ => none)))))) H1)
    (hq : ∀ q : Nat, q < H.size → q ≠ cSa Z (50 + j) → (Y.2 j = true → q ≠ cDa Y (400 + j)) → H1[q]? = H[q]?) : cPD Z Y A (clr C j) H1 := by
  have hw := hM.2.2
  refine cPD_mk (clr_wf hw) (fun k hk => ?_) (fun k hk => cPD_A hM (clr_hs hw hk hj)) (fun k k' hk hk' e => cPD_inj hM (clr_hs hw hk hj) (clr_hs hw hk' hj) e)
  have hk0 := clr_hs hw hk hj
  by_cases e1 : k = 50 + j
  · subst e1
    rw [cCo_l hj, clr_0, clr_2, cAr_s (by omega)]
    exact ho
  by_cases e2 : k = 400 + j
  · subst e2
    have hy : Y.2 j = true := by
      rcases cHs_ge hw hk0 with ⟨-, q⟩ | ⟨d, q, e⟩ | ⟨d, q, e⟩ | ⟨d, q, e⟩ | ⟨i, hi, q, e⟩ | ⟨s, hs, q, e⟩
      · omega
      · have := (hw 0 (by decide)).1; omega
      · have := (hw 1 (by decide)).1; omega
      · have := (hw 2 (by decide)).1; omega
      · have : i = j := by omega
        subst this
        exact q
      · omega
    rw [cCo_e (by omega), cAr_d (by omega), clr_nn, if_pos rfl]
    have ef : (fun i : Nat => if i < 0 then some (cDa Y (100 * (j + 1) + i)) else none) = fun _ => none := by
      funext i
      rw [if_neg (by omega)]
    rw [ef]
    exact ha hy
  rw [clr_co hw hj hk e1 e2]
  refine (cPD_at hM hk0).kept (hq _ (cPD_lt hM hk0) (fun e => ?_) (fun hy e => ?_))
  · exact e1 (cPD_inj hM hk0 (cHs_S (cS_l hj)) (e.trans (cAr_s (by omega)).symm))
  · exact e2 (cPD_inj hM hk0 (cHs_E hj hy) (e.trans (cAr_d (by omega)).symm))
def cfL_clear (j : Nat) (C : St) : Option St := if j < 3 then some (clr C j) else none
def cfL_clear_rm : Room := { frames := 0, cells := 0, slots := 0, locals := 0 }
theorem cfL_clear_hd : yJ2_clear.cls = RJ2 ∧ yJ2_clear.cls ≠ "java/lang/invoke/MethodHandle" ∧ yJ2_clear.cls ≠ "java/lang/invoke/VarHandle" ∧ (parseMethodDescriptor yJ2_clear.desc).map (fun d => d.parameters.length) = some 0 := by decide +kernel
theorem nn_int {Y : CY} {C : St} {j : Nat} (hw : cWf Y C) (hj : j < 3) : C (50 + j) 2 = nI (cNn C j) := by
  obtain ⟨k, hk, e⟩ := nI_of (hw j hj).2.1
  unfold cNn
  rw [e, nI_clamp hk]
set_option maxHeartbeats 1000000 in
theorem cfL_clear_met (l : Launch) (Z : CZ) (Y : CY) (C : St) (sz : Nat) (x0 : Nat) (r : St) (h : cfL_clear x0 C = some r) : Met l yJ2_clear (ws_ yJ2_clear cJ2_clear 4 none) cfL_clear_rm (va_Pc [.ref (cSa Z (50 + x0))] (cSw Z Y C sz)) (Qcw none Z (va_A (cWs Z Y C) sz) r) 0 0 (va_A (cWs Z Y C) sz) := by
  unfold cfL_clear at h
  by_cases hj : x0 < 3
  case neg => rw [if_neg hj] at h; cases h
  rw [if_pos hj] at h
  cases h
  have hAo : ∀ q, q = cSa Z (50 + x0) → va_A (cWs Z Y C) sz q := fun q e => by
    rw [e, ← cAr_s (Z := Z) (Y := Y) (by omega : 50 + x0 < 100)]
    exact cPD_va (cHs_S (cS_l hj))
  by_cases hy : Y.2 x0 = true
  · have hAe : ∀ q, q = cDa Y (400 + x0) → va_A (cWs Z Y C) sz q := fun q e => by
      rw [e, ← cAr_d (Z := Z) (Y := Y) (by omega : 100 ≤ 400 + x0)]
      exact cPD_va (cHs_E hj hy)
    have hA : ∀ q, lcA (cSa Z (50 + x0)) (cDa Y (400 + x0)) q → va_A (cWs Z Y C) sz q := fun q e => e.elim (hAo q) (hAe q)
    by_cases hne : cSa Z (50 + x0) = cDa Y (400 + x0)
    · -- the addresses are apart in any world
      refine Met.conseq (Pc1 := fun _ _ => False) (Qc1 := fun _ _ _ _ => True) (free1 := fun _ => False) (fun p e _ _ _ s m args below _ _ hP => hP.elim) (fun a s hv => ?_) (fun a s o t hv => ?_) (fun _ q => q.elim)
      · obtain ⟨-, -, hM, -⟩ := hv
        have := cPD_inj hM (cHs_S (cS_l hj)) (cHs_E hj hy) (by rw [cAr_s (by omega), cAr_d (by omega)]; exact hne)
        omega
      · obtain ⟨-, -, hM, -⟩ := hv
        have := cPD_inj hM (cHs_S (cS_l hj)) (cHs_E hj hy) (by rw [cAr_s (by omega), cAr_d (by omega)]; exact hne)
        omega
    by_cases hN : cNn C x0 ≤ 10
    case neg =>
      refine Met.conseq (Pc1 := fun _ _ => False) (Qc1 := fun _ _ _ _ => True) (free1 := fun _ => False) (fun p e _ _ _ s m args below _ _ hP => hP.elim) (fun a s hv => ?_) (fun a s o t hv => ?_) (fun _ q => q.elim)
      · exact hN (hv.2.2.1.2.2 x0 hj).1
      · exact absurd (hv.2.2.1.2.2 x0 hj).1 hN
    refine Met.conseq (al_clear l Z (cSa Z (50 + x0)) (cDa Y (400 + x0)) (C (50 + x0) 0) (cNn C x0) hN (fun i => if i < cNn C x0 then some (cDa Y (100 * (x0 + 1) + i)) else none) hne) (fun a s hv => ?_) (fun a s o t hv hW hq => ?_) hA
    · obtain ⟨ha, hsz, hM, hKs⟩ := hv
      refine ⟨ha, fun k q hk => ?_, hKs.1⟩
      match k, hk with
      | 0, hk =>
        cases hk
        have e := cPD_at hM (cHs_S (cS_l hj))
        rw [cCo_l hj, cAr_s (by omega), nn_int hM.2.2 hj, show cEl Z Y x0 = cDa Y (400 + x0) from if_pos hy] at e
        exact e
      | 1, hk =>
        cases hk
        have e := cPD_at hM (cHs_E hj hy)
        rw [cCo_e (by omega), cAr_d (by omega)] at e
        exact e
      | k + 2, hk => simp at hk
    · obtain ⟨ha, hsz, hM, hKs⟩ := hv
      obtain ⟨ho, hP, hF⟩ := hq
      subst hsz
      refine ⟨ho, ⟨Y, ?_, cKs.warm hW hKs⟩, hF.1, fun q h1 h2 => hF.2 q h1 (fun z => h2 (hA q z))⟩
      refine clr_world hj hM.self ?_ (fun _ => ?_) (fun q h1 h2 h3 => hF.2 q h1 (fun z => z.elim h2 (h3 hy)))
      · have e := hP 0 _ rfl
        rw [show cEl Z Y x0 = cDa Y (400 + x0) from if_pos hy]
        exact e
      · have e := hP 1 _ rfl
        have ef : lcut (fun i => if i < cNn C x0 then some (cDa Y (100 * (x0 + 1) + i)) else none) (cNn C x0) = fun _ => none := by
          funext i
          unfold lcut
          by_cases h : i < cNn C x0
          · rw [if_pos h]
          · rw [if_neg h]; exact if_neg h
        rw [ef] at e
        exact e
  · refine Met.conseq (al_clear0 l Z (cSa Z (50 + x0)) (cEl Z Y x0) (C (50 + x0) 0)) (fun a s hv => ?_) (fun a s o t hv hW hq => ?_) hAo
    · obtain ⟨ha, hsz, hM, hKs⟩ := hv
      refine ⟨ha, fun k q hk => ?_, hKs.1⟩
      match k, hk with
      | 0, hk =>
        cases hk
        have e := cPD_at hM (cHs_S (cS_l hj))
        have hz : cNn C x0 = 0 := by
          rcases Nat.eq_zero_or_pos (cNn C x0) with z | z
          · exact z
          · exact absurd ((hM.2.2 x0 hj).2.2 z) hy
        rw [cCo_l hj, cAr_s (by omega), nn_int hM.2.2 hj, hz] at e
        exact e
      | k + 1, hk => simp at hk
    · obtain ⟨ha, hsz, hM, hKs⟩ := hv
      obtain ⟨ho, hP, hF⟩ := hq
      subst hsz
      refine ⟨ho, ⟨Y, ?_, cKs.warm hW hKs⟩, hF.1, fun q h1 h2 => hF.2 q h1 (fun z => h2 (hAo q z))⟩
      exact clr_world hj hM.self (hP 0 _ rfl) (fun z => absurd z hy) (fun q h1 h2 h3 => hF.2 q h1 (fun z => h2 z))
