/-! a list of the component's gets one more: its world -/
theorem cSt_congrY {Z : CZ} {Y Y' : CY} {C C' : St} {k : Nat} (h : C' k = C k) (h6 : ∀ b, 60 ≤ b → b < 64 → C' b = C b) (hY : ∀ i, i < 3 → k = 50 + i → cEl Z Y' i = cEl Z Y i) (hR : ∀ s, s < 4 → cDa Y' (500 + s) = cDa Y (500 + s)) : cSt Z Y' C' k = cSt Z Y C k := by
  have e60 := h6 60 (by decide) (by decide)
  have e61 := h6 61 (by decide) (by decide)
  have e62 := h6 62 (by decide) (by decide)
  have e63 := h6 63 (by decide) (by decide)
  have r0 : cDa Y' 500 = cDa Y 500 := hR 0 (by decide)
  have r1 : cDa Y' 501 = cDa Y 501 := hR 1 (by decide)
  have r2 : cDa Y' 502 = cDa Y 502 := hR 2 (by decide)
  have r3 : cDa Y' 503 = cDa Y 503 := hR 3 (by decide)
  have y0 := hY 0 (by decide)
  have y1 := hY 1 (by decide)
  have y2 := hY 2 (by decide)
  unfold cSt
  split <;> first | rfl | (rw [h]; done) | (rw [e60, r0]; done) | (rw [e61, r1]; done) | (rw [e62, r2]; done) | (rw [e63, r3]; done) | (rw [h, y0 rfl]; done) | (rw [h, y1 rfl]; done) | (rw [h, y2 rfl]; done) | (simp only [h])
theorem addY_da {Y : CY} {C : St} {j v e k : Nat} (h1 : k ≠ 400 + j) (h2 : k ≠ 100 * (j + 1) + cNn C j) : cDa (addY Y C j v e) k = cDa Y k := by
  show (if k = 100 * (j + 1) + cNn C j then v else if k = 400 + j then e else Y.1 k) = Y.1 k
  rw [if_neg h2, if_neg h1]
theorem addY_co {Z : CZ} {Y : CY} {C : St} {j v e k : Nat} (hj : j < 3) (hn : cNn C j < 10) (g : Nat → Int32) (hw : cWf Y C) (hk : k ∈ cHs Y C) (h1 : k ≠ 50 + j) (h2 : k ≠ 400 + j) (h3 : k ≠ 100 * (j + 1) + cNn C j) : cCo Z (addY Y C j v e) (addC C j g) k = cCo Z Y C k := by
  have b0 := (hw 0 (by decide)).1
  have b1 := (hw 1 (by decide)).1
  have b2 := (hw 2 (by decide)).1
  rcases cHs_ge hw hk with ⟨-, q⟩ | ⟨d, q, rfl⟩ | ⟨d, q, rfl⟩ | ⟨d, q, rfl⟩ | ⟨i, hi, q, rfl⟩ | ⟨s, hs, q, rfl⟩
  · unfold cCo
    rw [if_pos q, if_pos q]
    refine cSt_congrY (addC_other g h1 h3) (fun b g1 g2 => addC_other g (by omega) (by omega)) (fun i hi e1 => ?_) (fun s hs => addY_da (by omega) (by omega))
    have hij : i ≠ j := by omega
    unfold cEl
    rw [show (addY Y C j v e).2 i = Y.2 i from if_neg hij, addY_da (by omega) (by omega)]
  · rw [cCo_d (by omega), cCo_d (by omega), addC_other g (by omega) h3]
  · rw [cCo_g (by omega), cCo_g (by omega), addC_other g (by omega) h3]
  · rw [cCo_a (by omega), cCo_a (by omega), addC_other g (by omega) h3]
  · have hij : i ≠ j := by omega
    have bi := (hw i hi).1
    rw [cCo_e (by omega), cCo_e (by omega), addC_nn hi hj hn, if_neg hij]
    have ef : (fun x : Nat => if x < cNn C i then some (cDa (addY Y C j v e) (100 * (i + 1) + x)) else none) = (fun x : Nat => if x < cNn C i then some (cDa Y (100 * (i + 1) + x)) else none) := by
      funext x
      by_cases z : x < cNn C i
      · rw [if_pos z, if_pos z, addY_da (by omega) (by
          have : j = 0 ∨ j = 1 ∨ j = 2 := by omega
          have : i = 0 ∨ i = 1 ∨ i = 2 := by omega
          omega)]
      · rw [if_neg z, if_neg z]
    rw [ef]
  · rw [cCo_r, cCo_r, addC_other g (by omega) (by omega), addC_other g (by omega) (by omega)]
theorem cCo_el {Z : CZ} {Y : CY} {C : St} {j n : Nat} (hj : j < 3) (hn : n < 100) : cCo Z Y C (100 * (j + 1) + n) = elC Z j (C (100 * (j + 1) + n)) := by
  match j, hj with
  | 0, _ =>
    have e := cCo_d (Z := Z) (Y := Y) (C := C) hn
    exact e
  | 1, _ =>
    have e := cCo_g (Z := Z) (Y := Y) (C := C) hn
    exact e
  | 2, _ =>
    have e := cCo_a (Z := Z) (Y := Y) (C := C) hn
    exact e
theorem add_world {Z : CZ} {Y : CY} {A : Nat → Prop} {C : St} {H H1 : Heap} {j v e : Nat} {g : Nat → Int32} (hj : j < 3) (hn : cNn C j < 10) (hM : cPD Z Y A C H) (hv : ∀ k, k ∈ cHs Y C → cAr Z Y k ≠ v) (he : Y.2 j = true → e = cDa Y (400 + j)) (hen : ¬ Y.2 j = true → ∀ k, k ∈ cHs Y C → cAr Z Y k ≠ e) (hve : v ≠ e)
    (ho : va_at Z.1 clA (cSa Z (50 + j), .inr (9, [.int (C (50 + j) 0 + 1), .ref e, .int (nI (cNn C j + 1))])) H1)
    (ha : va_at Z.1 clA (e, .inl (cAc Z 6, 10, .inr (.inr (.inr (.inr (fun i => if i < cNn C j + 1 then some (if i = cNn C j then v else cDa Y (100 * (j + 1) + i)) else none)))))) H1)
    (hel : va_at Z.1 clA (v, elC Z j g) H1) (hq : ∀ q : Nat, q < H.size → q ≠ cSa Z (50 + j) → q ≠ e → H1[q]? = H[q]?) (hAv : A v) (hAe : A e) : cPD Z (addY Y C j v e) A (addC C j g) H1 := by
  have hw := hM.2.2
  have bj := (hw j hj).1
  have an : cAr Z (addY Y C j v e) (100 * (j + 1) + cNn C j) = v := by
    rw [cAr_d (by omega)]
    exact if_pos rfl
  have ae : cAr Z (addY Y C j v e) (400 + j) = e := by
    rw [cAr_d (by omega)]
    show (if 400 + j = 100 * (j + 1) + cNn C j then v else if 400 + j = 400 + j then e else Y.1 (400 + j)) = e
    rw [if_neg (by omega), if_pos rfl]
  have eld : ∀ k, k ∈ cHs Y C → k ≠ 400 + j → cAr Z Y k ≠ e := by
    intro k hk hne z
    by_cases hy : Y.2 j = true
    · exact hne (cPD_inj hM hk (cHs_E hj hy) (z.trans ((he hy).trans (cAr_d (by omega)).symm)))
    · exact hen hy k hk z
  refine cPD_mk (addY_wf hj hn g hw) (fun k hk => ?_) (fun k hk => ?_) (fun k k' hk hk' z => ?_)
  · rcases addY_hs hj hn g hw hk with rfl | rfl | ⟨h1, h2, h3⟩
    · rw [an, cCo_el hj (by omega), addC_new hj]
      exact hel
    · rw [ae, cCo_e (by omega), addC_nn hj hj hn, if_pos rfl]
      have ef : (fun i : Nat => if i < cNn C j + 1 then some (cDa (addY Y C j v e) (100 * (j + 1) + i)) else none) = (fun i : Nat => if i < cNn C j + 1 then some (if i = cNn C j then v else cDa Y (100 * (j + 1) + i)) else none) := by
        funext i
        by_cases z : i < cNn C j + 1
        · rw [if_pos z, if_pos z]
          by_cases w : i = cNn C j
          · rw [if_pos w, w]
            exact congrArg some (if_pos rfl)
          · rw [if_neg w, addY_da (by omega) (by omega)]
        · rw [if_neg z, if_neg z]
      rw [ef]
      exact ha
    · rw [addY_ar h2 h3]
      by_cases e1 : k = 50 + j
      · subst e1
        rw [cCo_l hj, addC_0, addC_2, cAr_s (by omega)]
        have ee : cEl Z (addY Y C j v e) j = e := by
          unfold cEl
          rw [show (addY Y C j v e).2 j = true from if_pos rfl, if_pos rfl]
          have := ae
          rw [cAr_d (by omega)] at this
          exact this
        rw [ee]
        exact ho
      · rw [addY_co hj hn g hw h1 e1 h2 h3]
        refine (cPD_at hM h1).kept (hq _ (cPD_lt hM h1) (fun z => ?_) (eld k h1 h2))
        exact e1 (cPD_inj hM h1 (cHs_S (cS_l hj)) (z.trans (cAr_s (by omega)).symm))
  · rcases addY_hs hj hn g hw hk with rfl | rfl | ⟨h1, h2, h3⟩
    · rw [an]; exact hAv
    · rw [ae]; exact hAe
    · rw [addY_ar h2 h3]; exact cPD_A hM h1
  · rcases addY_hs hj hn g hw hk with rfl | rfl | ⟨h1, h2, h3⟩ <;> rcases addY_hs hj hn g hw hk' with rfl | rfl | ⟨h1', h2', h3'⟩
    · rfl
    · rw [an, ae] at z; exact absurd z hve
    · rw [an, addY_ar h2' h3'] at z; exact absurd z.symm (hv _ h1')
    · rw [an, ae] at z; exact absurd z.symm hve
    · rfl
    · rw [ae, addY_ar h2' h3'] at z; exact absurd z.symm (eld _ h1' h2')
    · rw [an, addY_ar h2 h3] at z; exact absurd z (hv _ h1)
    · rw [ae, addY_ar h2 h3] at z; exact absurd z (eld _ h1 h2)
    · rw [addY_ar h2 h3, addY_ar h2' h3'] at z
      exact cPD_inj hM h1 h1' z
