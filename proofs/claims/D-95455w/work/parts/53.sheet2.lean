/-! sheets: a row is set or lost -/
set_option maxRecDepth 100000
theorem cSt_sh0 {Z : CZ} {Y Y' : CY} {C C' : St} {k : Nat} (hk : k ≠ 90 + 0) (h : ∀ b, b ≠ 60 + 0 → b ≠ 70 + 0 → C' b = C b) (hy : Y'.2 = Y.2) (hd : ∀ b, b ≠ 500 + 0 → cDa Y' b = cDa Y b) : cSt Z Y' C' k = cSt Z Y C k := by
  have e0 := h 0 (by decide) (by decide)
  have e2 := h 2 (by decide) (by decide)
  have e3 := h 3 (by decide) (by decide)
  have e8 := h 8 (by decide) (by decide)
  have e9 := h 9 (by decide) (by decide)
  have e10 := h 10 (by decide) (by decide)
  have e11 := h 11 (by decide) (by decide)
  have e16 := h 16 (by decide) (by decide)
  have e20 := h 20 (by decide) (by decide)
  have e21 := h 21 (by decide) (by decide)
  have e22 := h 22 (by decide) (by decide)
  have e23 := h 23 (by decide) (by decide)
  have e24 := h 24 (by decide) (by decide)
  have e25 := h 25 (by decide) (by decide)
  have e26 := h 26 (by decide) (by decide)
  have e27 := h 27 (by decide) (by decide)
  have e30 := h 30 (by decide) (by decide)
  have e31 := h 31 (by decide) (by decide)
  have e32 := h 32 (by decide) (by decide)
  have e33 := h 33 (by decide) (by decide)
  have e34 := h 34 (by decide) (by decide)
  have e35 := h 35 (by decide) (by decide)
  have e36 := h 36 (by decide) (by decide)
  have e37 := h 37 (by decide) (by decide)
  have e40 := h 40 (by decide) (by decide)
  have e41 := h 41 (by decide) (by decide)
  have e42 := h 42 (by decide) (by decide)
  have e43 := h 43 (by decide) (by decide)
  have e44 := h 44 (by decide) (by decide)
  have e45 := h 45 (by decide) (by decide)
  have e46 := h 46 (by decide) (by decide)
  have e50 := h 50 (by decide) (by decide)
  have e51 := h 51 (by decide) (by decide)
  have e52 := h 52 (by decide) (by decide)
  have e61 := h 61 (by decide) (by decide)
  have r1 : cDa Y' 501 = cDa Y 501 := hd 501 (by decide)
  have e62 := h 62 (by decide) (by decide)
  have r2 : cDa Y' 502 = cDa Y 502 := hd 502 (by decide)
  have e63 := h 63 (by decide) (by decide)
  have r3 : cDa Y' 503 = cDa Y 503 := hd 503 (by decide)
  have l0 : cEl Z Y' 0 = cEl Z Y 0 := by unfold cEl; rw [hy, hd (400 + 0) (by decide)]
  have l1 : cEl Z Y' 1 = cEl Z Y 1 := by unfold cEl; rw [hy, hd (400 + 1) (by decide)]
  have l2 : cEl Z Y' 2 = cEl Z Y 2 := by unfold cEl; rw [hy, hd (400 + 2) (by decide)]
  unfold cSt
  split <;> first | rfl | (simp only [e0, e2, e3, e8, e9, e10, e11, e16, e20, e21, e22, e23, e24, e25, e26, e27, e30, e31, e32, e33, e34, e35, e36, e37, e40, e41, e42, e43, e44, e45, e46, e50, e51, e52, e61, r1, e62, r2, e63, r3, l0, l1, l2]; done) | exact absurd rfl hk
theorem cSt_sh1 {Z : CZ} {Y Y' : CY} {C C' : St} {k : Nat} (hk : k ≠ 90 + 1) (h : ∀ b, b ≠ 60 + 1 → b ≠ 70 + 1 → C' b = C b) (hy : Y'.2 = Y.2) (hd : ∀ b, b ≠ 500 + 1 → cDa Y' b = cDa Y b) : cSt Z Y' C' k = cSt Z Y C k := by
  have e0 := h 0 (by decide) (by decide)
  have e2 := h 2 (by decide) (by decide)
  have e3 := h 3 (by decide) (by decide)
  have e8 := h 8 (by decide) (by decide)
  have e9 := h 9 (by decide) (by decide)
  have e10 := h 10 (by decide) (by decide)
  have e11 := h 11 (by decide) (by decide)
  have e16 := h 16 (by decide) (by decide)
  have e20 := h 20 (by decide) (by decide)
  have e21 := h 21 (by decide) (by decide)
  have e22 := h 22 (by decide) (by decide)
  have e23 := h 23 (by decide) (by decide)
  have e24 := h 24 (by decide) (by decide)
  have e25 := h 25 (by decide) (by decide)
  have e26 := h 26 (by decide) (by decide)
  have e27 := h 27 (by decide) (by decide)
  have e30 := h 30 (by decide) (by decide)
  have e31 := h 31 (by decide) (by decide)
  have e32 := h 32 (by decide) (by decide)
  have e33 := h 33 (by decide) (by decide)
  have e34 := h 34 (by decide) (by decide)
  have e35 := h 35 (by decide) (by decide)
  have e36 := h 36 (by decide) (by decide)
  have e37 := h 37 (by decide) (by decide)
  have e40 := h 40 (by decide) (by decide)
  have e41 := h 41 (by decide) (by decide)
  have e42 := h 42 (by decide) (by decide)
  have e43 := h 43 (by decide) (by decide)
  have e44 := h 44 (by decide) (by decide)
  have e45 := h 45 (by decide) (by decide)
  have e46 := h 46 (by decide) (by decide)
  have e50 := h 50 (by decide) (by decide)
  have e51 := h 51 (by decide) (by decide)
  have e52 := h 52 (by decide) (by decide)
  have e60 := h 60 (by decide) (by decide)
  have r0 : cDa Y' 500 = cDa Y 500 := hd 500 (by decide)
  have e62 := h 62 (by decide) (by decide)
  have r2 : cDa Y' 502 = cDa Y 502 := hd 502 (by decide)
  have e63 := h 63 (by decide) (by decide)
  have r3 : cDa Y' 503 = cDa Y 503 := hd 503 (by decide)
  have l0 : cEl Z Y' 0 = cEl Z Y 0 := by unfold cEl; rw [hy, hd (400 + 0) (by decide)]
  have l1 : cEl Z Y' 1 = cEl Z Y 1 := by unfold cEl; rw [hy, hd (400 + 1) (by decide)]
  have l2 : cEl Z Y' 2 = cEl Z Y 2 := by unfold cEl; rw [hy, hd (400 + 2) (by decide)]
  unfold cSt
  split <;> first | rfl | (simp only [e0, e2, e3, e8, e9, e10, e11, e16, e20, e21, e22, e23, e24, e25, e26, e27, e30, e31, e32, e33, e34, e35, e36, e37, e40, e41, e42, e43, e44, e45, e46, e50, e51, e52, e60, r0, e62, r2, e63, r3, l0, l1, l2]; done) | exact absurd rfl hk
theorem cSt_sh2 {Z : CZ} {Y Y' : CY} {C C' : St} {k : Nat} (hk : k ≠ 90 + 2) (h : ∀ b, b ≠ 60 + 2 → b ≠ 70 + 2 → C' b = C b) (hy : Y'.2 = Y.2) (hd : ∀ b, b ≠ 500 + 2 → cDa Y' b = cDa Y b) : cSt Z Y' C' k = cSt Z Y C k := by
  have e0 := h 0 (by decide) (by decide)
  have e2 := h 2 (by decide) (by decide)
  have e3 := h 3 (by decide) (by decide)
  have e8 := h 8 (by decide) (by decide)
  have e9 := h 9 (by decide) (by decide)
  have e10 := h 10 (by decide) (by decide)
  have e11 := h 11 (by decide) (by decide)
  have e16 := h 16 (by decide) (by decide)
  have e20 := h 20 (by decide) (by decide)
  have e21 := h 21 (by decide) (by decide)
  have e22 := h 22 (by decide) (by decide)
  have e23 := h 23 (by decide) (by decide)
  have e24 := h 24 (by decide) (by decide)
  have e25 := h 25 (by decide) (by decide)
  have e26 := h 26 (by decide) (by decide)
  have e27 := h 27 (by decide) (by decide)
  have e30 := h 30 (by decide) (by decide)
  have e31 := h 31 (by decide) (by decide)
  have e32 := h 32 (by decide) (by decide)
  have e33 := h 33 (by decide) (by decide)
  have e34 := h 34 (by decide) (by decide)
  have e35 := h 35 (by decide) (by decide)
  have e36 := h 36 (by decide) (by decide)
  have e37 := h 37 (by decide) (by decide)
  have e40 := h 40 (by decide) (by decide)
  have e41 := h 41 (by decide) (by decide)
  have e42 := h 42 (by decide) (by decide)
  have e43 := h 43 (by decide) (by decide)
  have e44 := h 44 (by decide) (by decide)
  have e45 := h 45 (by decide) (by decide)
  have e46 := h 46 (by decide) (by decide)
  have e50 := h 50 (by decide) (by decide)
  have e51 := h 51 (by decide) (by decide)
  have e52 := h 52 (by decide) (by decide)
  have e60 := h 60 (by decide) (by decide)
  have r0 : cDa Y' 500 = cDa Y 500 := hd 500 (by decide)
  have e61 := h 61 (by decide) (by decide)
  have r1 : cDa Y' 501 = cDa Y 501 := hd 501 (by decide)
  have e63 := h 63 (by decide) (by decide)
  have r3 : cDa Y' 503 = cDa Y 503 := hd 503 (by decide)
  have l0 : cEl Z Y' 0 = cEl Z Y 0 := by unfold cEl; rw [hy, hd (400 + 0) (by decide)]
  have l1 : cEl Z Y' 1 = cEl Z Y 1 := by unfold cEl; rw [hy, hd (400 + 1) (by decide)]
  have l2 : cEl Z Y' 2 = cEl Z Y 2 := by unfold cEl; rw [hy, hd (400 + 2) (by decide)]
  unfold cSt
  split <;> first | rfl | (simp only [e0, e2, e3, e8, e9, e10, e11, e16, e20, e21, e22, e23, e24, e25, e26, e27, e30, e31, e32, e33, e34, e35, e36, e37, e40, e41, e42, e43, e44, e45, e46, e50, e51, e52, e60, r0, e61, r1, e63, r3, l0, l1, l2]; done) | exact absurd rfl hk
theorem cSt_sh3 {Z : CZ} {Y Y' : CY} {C C' : St} {k : Nat} (hk : k ≠ 90 + 3) (h : ∀ b, b ≠ 60 + 3 → b ≠ 70 + 3 → C' b = C b) (hy : Y'.2 = Y.2) (hd : ∀ b, b ≠ 500 + 3 → cDa Y' b = cDa Y b) : cSt Z Y' C' k = cSt Z Y C k := by
  have e0 := h 0 (by decide) (by decide)
  have e2 := h 2 (by decide) (by decide)
  have e3 := h 3 (by decide) (by decide)
  have e8 := h 8 (by decide) (by decide)
  have e9 := h 9 (by decide) (by decide)
  have e10 := h 10 (by decide) (by decide)
  have e11 := h 11 (by decide) (by decide)
  have e16 := h 16 (by decide) (by decide)
  have e20 := h 20 (by decide) (by decide)
  have e21 := h 21 (by decide) (by decide)
  have e22 := h 22 (by decide) (by decide)
  have e23 := h 23 (by decide) (by decide)
  have e24 := h 24 (by decide) (by decide)
  have e25 := h 25 (by decide) (by decide)
  have e26 := h 26 (by decide) (by decide)
  have e27 := h 27 (by decide) (by decide)
  have e30 := h 30 (by decide) (by decide)
  have e31 := h 31 (by decide) (by decide)
  have e32 := h 32 (by decide) (by decide)
  have e33 := h 33 (by decide) (by decide)
  have e34 := h 34 (by decide) (by decide)
  have e35 := h 35 (by decide) (by decide)
  have e36 := h 36 (by decide) (by decide)
  have e37 := h 37 (by decide) (by decide)
  have e40 := h 40 (by decide) (by decide)
  have e41 := h 41 (by decide) (by decide)
  have e42 := h 42 (by decide) (by decide)
  have e43 := h 43 (by decide) (by decide)
  have e44 := h 44 (by decide) (by decide)
  have e45 := h 45 (by decide) (by decide)
  have e46 := h 46 (by decide) (by decide)
  have e50 := h 50 (by decide) (by decide)
  have e51 := h 51 (by decide) (by decide)
  have e52 := h 52 (by decide) (by decide)
  have e60 := h 60 (by decide) (by decide)
  have r0 : cDa Y' 500 = cDa Y 500 := hd 500 (by decide)
  have e61 := h 61 (by decide) (by decide)
  have r1 : cDa Y' 501 = cDa Y 501 := hd 501 (by decide)
  have e62 := h 62 (by decide) (by decide)
  have r2 : cDa Y' 502 = cDa Y 502 := hd 502 (by decide)
  have l0 : cEl Z Y' 0 = cEl Z Y 0 := by unfold cEl; rw [hy, hd (400 + 0) (by decide)]
  have l1 : cEl Z Y' 1 = cEl Z Y 1 := by unfold cEl; rw [hy, hd (400 + 1) (by decide)]
  have l2 : cEl Z Y' 2 = cEl Z Y 2 := by unfold cEl; rw [hy, hd (400 + 2) (by decide)]
  unfold cSt
  split <;> first | rfl | (simp only [e0, e2, e3, e8, e9, e10, e11, e16, e20, e21, e22, e23, e24, e25, e26, e27, e30, e31, e32, e33, e34, e35, e36, e37, e40, e41, e42, e43, e44, e45, e46, e50, e51, e52, e60, r0, e61, r1, e62, r2, l0, l1, l2]; done) | exact absurd rfl hk
theorem cSt_sh {Z : CZ} {Y Y' : CY} {C C' : St} {k q : Nat} (h8 : q < 4) (hk : k ≠ 90 + q) (h : ∀ b, b ≠ 60 + q → b ≠ 70 + q → C' b = C b) (hy : Y'.2 = Y.2) (hd : ∀ b, b ≠ 500 + q → cDa Y' b = cDa Y b) : cSt Z Y' C' k = cSt Z Y C k := by
  match q, h8 with
  | 0, _ => exact cSt_sh0 hk h hy hd
  | 1, _ => exact cSt_sh1 hk h hy hd
  | 2, _ => exact cSt_sh2 hk h hy hd
  | 3, _ => exact cSt_sh3 hk h hy hd
theorem sh_mk {Z : CZ} {Y Y' : CY} {A : Nat → Prop} {C C' : St} {H H1 : Heap} {q : Nat} (h8 : q < 4) (hM : cPD Z Y A C H) (h : ∀ b, b ≠ 60 + q → b ≠ 70 + q → C' b = C b) (hy : Y'.2 = Y.2) (hd : ∀ b, b ≠ 500 + q → cDa Y' b = cDa Y b)
    (hsh : va_at Z.1 clA (cSa Z (90 + q), .inr (5, [va_rf (if C' (60 + q) 0 = 1 then some (cDa Y' (500 + q)) else none)])) H1)
    (hrest : ∀ k, k ∈ cHs Y C → k ≠ 90 + q → va_at Z.1 clA (cAr Z Y k, cCo Z Y C k) H1)
    (hrow : C' (60 + q) 0 = 1 → va_at Z.1 clA (cDa Y' (500 + q), cCo Z Y' C' (500 + q)) H1 ∧ A (cDa Y' (500 + q)) ∧ ∀ k, k ∈ cHs Y C → k ≠ 500 + q → cAr Z Y k ≠ cDa Y' (500 + q)) : cPD Z Y' A C' H1 := by
  have hw := hM.2.2
  have en : ∀ j, j < 3 → cNn C' j = cNn C j := fun j hj => by unfold cNn; rw [h (50 + j) (by omega) (by omega)]
  have hw' : cWf Y' C' := fun j hj => by rw [en j hj, h (50 + j) (by omega) (by omega), hy]; exact hw j hj
  have b0 := (hw 0 (by decide)).1
  have b1 := (hw 1 (by decide)).1
  have b2 := (hw 2 (by decide)).1
  have key : ∀ k, k ∈ cHs Y' C' → k ≠ 90 + q → k ≠ 500 + q → k ∈ cHs Y C ∧ cAr Z Y' k = cAr Z Y k ∧ cCo Z Y' C' k = cCo Z Y C k := by
    intro k hk n1 n2
    rcases cHs_ge hw' hk with ⟨hs, z⟩ | ⟨d, hd0, rfl⟩ | ⟨d, hd0, rfl⟩ | ⟨d, hd0, rfl⟩ | ⟨j, hj, hyj, rfl⟩ | ⟨t, ht, h1, rfl⟩
    · refine ⟨cHs_S hs, by rw [cAr_s z, cAr_s z], ?_⟩
      unfold cCo
      rw [if_pos z, if_pos z]
      exact cSt_sh h8 n1 h hy hd
    · rw [en 0 (by decide)] at hd0
      exact ⟨cHs_D hd0, by rw [cAr_d (by omega), cAr_d (by omega), hd _ (by omega)], by rw [cCo_d (by omega), cCo_d (by omega), h _ (by omega) (by omega)]⟩
    · rw [en 1 (by decide)] at hd0
      exact ⟨cHs_G hd0, by rw [cAr_d (by omega), cAr_d (by omega), hd _ (by omega)], by rw [cCo_g (by omega), cCo_g (by omega), h _ (by omega) (by omega)]⟩
    · rw [en 2 (by decide)] at hd0
      exact ⟨cHs_A hd0, by rw [cAr_d (by omega), cAr_d (by omega), hd _ (by omega)], by rw [cCo_a (by omega), cCo_a (by omega), h _ (by omega) (by omega)]⟩
    · rw [hy] at hyj
      refine ⟨cHs_E hj hyj, by rw [cAr_d (by omega), cAr_d (by omega), hd _ (by omega)], ?_⟩
      rw [cCo_e (by omega), cCo_e (by omega), en j hj]
      have bj := (hw j hj).1
      have ef : (fun i : Nat => if i < cNn C j then some (cDa Y' (100 * (j + 1) + i)) else none) = (fun i : Nat => if i < cNn C j then some (cDa Y (100 * (j + 1) + i)) else none) := by
        funext i
        by_cases z : i < cNn C j
        · rw [if_pos z, if_pos z, hd _ (by omega)]
        · rw [if_neg z, if_neg z]
      rw [ef]
    · have ht2 : t ≠ q := fun e => n2 (by rw [e])
      rw [h (60 + t) (by omega) (by omega)] at h1
      exact ⟨cHs_R ht h1, by rw [cAr_d (by omega), cAr_d (by omega), hd _ (by omega)], by rw [cCo_r, cCo_r, h (60 + t) (by omega) (by omega), h (70 + t) (by omega) (by omega)]⟩
  have h90 : 90 + q ∈ cHs Y C := cHs_S (cS_h h8)
  have there : 500 + q ∈ cHs Y' C' → C' (60 + q) 0 = 1 := by
    intro hk
    rcases cHs_ge hw' hk with ⟨hs, z⟩ | ⟨d, hd0, e⟩ | ⟨d, hd0, e⟩ | ⟨d, hd0, e⟩ | ⟨j, hj, hyj, e⟩ | ⟨t, ht, h1, e⟩
    · omega
    · rw [en 0 (by decide)] at hd0; omega
    · rw [en 1 (by decide)] at hd0; omega
    · rw [en 2 (by decide)] at hd0; omega
    · omega
    · have : t = q := by omega
      rw [this] at h1
      exact h1
  have a90 : cAr Z Y' (90 + q) = cAr Z Y (90 + q) := by rw [cAr_s (by omega), cAr_s (by omega)]
  have a500 : cAr Z Y' (500 + q) = cDa Y' (500 + q) := cAr_d (by omega)
  have cls : ∀ k, k ∈ cHs Y' C' → (k ≠ 500 + q → k ∈ cHs Y C ∧ cAr Z Y' k = cAr Z Y k) := by
    intro k hk n2
    by_cases n1 : k = 90 + q
    · subst n1
      exact ⟨h90, a90⟩
    · obtain ⟨g1, g2, -⟩ := key k hk n1 n2
      exact ⟨g1, g2⟩
  refine cPD_mk hw' (fun k hk => ?_) (fun k hk => ?_) (fun k k' hk hk' e => ?_)
  · by_cases n1 : k = 90 + q
    · subst n1
      rw [cAr_s (by omega), cCo_h h8]
      exact hsh
    · by_cases n2 : k = 500 + q
      · subst n2
        rw [a500]
        exact (hrow (there hk)).1
      · obtain ⟨g1, g2, g3⟩ := key k hk n1 n2
        rw [g2, g3]
        exact hrest k g1 n1
  · by_cases n2 : k = 500 + q
    · subst n2
      rw [a500]
      exact (hrow (there hk)).2.1
    · obtain ⟨g1, g2⟩ := cls k hk n2
      rw [g2]
      exact cPD_A hM g1
  · by_cases n2 : k = 500 + q
    · subst n2
      by_cases n3 : k' = 500 + q
      · exact n3.symm
      · obtain ⟨g1, g2⟩ := cls k' hk' n3
        rw [a500, g2] at e
        exact absurd e.symm ((hrow (there hk)).2.2 k' g1 n3)
    · obtain ⟨g1, g2⟩ := cls k hk n2
      by_cases n3 : k' = 500 + q
      · subst n3
        rw [a500, g2] at e
        exact absurd e ((hrow (there hk')).2.2 k g1 n2)
      · obtain ⟨f1, f2⟩ := cls k' hk' n3
        rw [g2, f2] at e
        exact cPD_inj hM g1 f1 e
/-- one cell of the world gets another picture -/
theorem cPD_setk {Z : CZ} {Y : CY} {C : St} {H1 : Heap} {k0 pos : Nat} {E : va_E} (hw : cWf Y C) (hp : (cHs Y C)[pos]? = some k0) (h1 : va_P Z.1 clA ((cWs Z Y C).set pos (cAr Z Y k0, E)) H1) : (∀ k, k ∈ cHs Y C → k ≠ k0 → va_at Z.1 clA (cAr Z Y k, cCo Z Y C k) H1) ∧ va_at Z.1 clA (cAr Z Y k0, E) H1 := by
  have hl : pos < (cWs Z Y C).length := by
    unfold cWs
    rw [List.length_map]
    exact (List.getElem?_eq_some_iff.mp hp).1
  refine ⟨fun k hk hne => ?_, ?_⟩
  · obtain ⟨pk, g1, g2⟩ := cWs_at (Z := Z) hk
    refine h1 pk _ ?_
    rw [List.getElem?_set_ne (fun e => hne ?_)]
    · exact g2
    · subst e
      exact Option.some.inj (g1.symm.trans hp)
  · refine h1 pos _ ?_
    rw [List.getElem?_set_self hl]
section SHN
variable {p : Program} {l : Launch} {e : Env} {R : Room} {s : State} {m : MethodId} {args : Array Value} {below : List Frame} {meth : Method} {c : Code} {H : Heap} {locs : List Loc} {cells slots : Nat} {Q : State → Prop}
variable {pc : Nat} {ls : Array Slot} {rest st0 As : List Value} {cc bytes : ByteArray} {nL maxL index n : Nat} {ret ret' : Option FieldType} {own : String} {y : MethodName} {rm : Room} {Z : CZ} {Y : CY} {A : Nat → Prop} {C : St} {H0 : Heap}
theorem sh_nul (X : CCx p s m args meth c cc nL ret RX0 Z) (hM : cPD Z Y A C H) (hS : va_S A H0 H locs) {q : Nat} (h8 : q < 4) (hdg : decode cc pc = .ok (.putfield 119, 3)) (kk : ∀ (H1 : Heap) (locs1 : List Loc) (J : St), J = upd2 C (60 + q) 0 0 → cPD Z Y A J H1 → va_S A H0 H1 locs1 → W p l e R s m args below meth c H1 locs1 cells slots Q (F0 m (pc + 3) ls rest)) : W p l e R s m args below meth c H locs cells slots Q (F0 m pc ls (.null :: .ref (cSa Z (90 + q)) :: rest)) := by
  obtain ⟨pos, hp, hq⟩ := cWs_at (Z := Z) (cHs_S (Y := Y) (C := C) (cS_h h8))
  have hq2 := hq
  rw [cCo_h h8, cAr_s (by omega)] at hq2
  refine va_putN (host := "SecondChances") X.1.1 X.1.2.1 X.1.2.2.2.2.2.2 in_X5 tyX5 tyX5_ok nmX5 X.1.2.2.2.2.2.1 X.2.1 hM.1 hM.2.1 hS pos hq2 rfl 0 (by decide) (va_Nw.use rfl (X.2.2 _ (List.mem_of_getElem? (i := 9) rfl))) (fun _ h => h) rfl (ty := .object "java/lang/Object") rfl rfl rfl (Nat.le_of_ble_eq_true rfl) hdg (fun H1 locs1 h1 h2 h3 => kk H1 locs1 _ rfl ?_ h3)
  have e0 : ¬ upd2 C (60 + q) 0 0 (60 + q) 0 = 1 := by rw [upd2_same]; show ¬ upd _ 0 0 0 = 1; rw [show upd (C (60 + q)) 0 0 0 = 0 from pk_us]; decide
  rw [← cAr_s (Z := Z) (Y := Y) (show 90 + q < 100 by omega)] at h1
  obtain ⟨g1, g2⟩ := cPD_setk hM.2.2 hp h1
  rw [cAr_s (by omega)] at g2
  exact sh_mk h8 hM (fun b n1 _ => upd2_other C 0 0 n1) rfl (fun _ _ => rfl) (by rw [if_neg e0]; exact g2) g1 (fun z => absurd z e0)
end SHN
