/-! a list of the component's gets one more -/
set_option maxHeartbeats 4000000 in
theorem al_addR (l : Launch) (Z : CZ) (a e v : Nat) (mo : Int32) (N : Nat) (hN : N < 10) (f : Nat → Option Nat) (hae : a ≠ e) (hva : v ≠ a) (hve : v ≠ e) : Met l yJ2_add (ws_ yJ2_add cJ2_add 2 (some .boolean)) ({ frames := 4, cells := 1, slots := 10, locals := 120 }) (va_Pc [.ref a, .ref v] (laS Z a e mo (nI N) f v)) (Qwr (some (.int 1)) (fun t => va_P Z.1 clA (lcW Z a e (mo + 1) (nI (N + 1)) (va_up f N (some v))) t.heap) (lcA a e)) 1 10 (lcA a e) := by
  refine Met.ofW (cc := cJ2_add) (maxL := 2) (ret := some .boolean) (by decide) rfl ?_
  intro p e0 s m args below meth c s₁ B hml hv
  obtain ⟨rfl, ⟨hP, hK⟩, hAny⟩ := hv
  have hts := atoms_spec (ws := ws_ yJ2_add cJ2_add 2 (some .boolean)) B.pre
  have hts : ∀ w ∈ lw_all, w.before _ s = true := fun w h => hts w (List.mem_cons_of_mem _ h)
  have C : SCx p s m _ meth c cJ2_add 2 (some .boolean) RJ2 := ⟨B.exec, B.bytes, B.returns, B.notSynchronized, hml, findClass_of_methodNamed B.named, hts⟩
  obtain ⟨hx, hb, hr, hlocks, hml, hown, -⟩ := id C
  have hS : va_S (lcA a e) s.heap s.heap [] := va_S.rf
  have hl := lv_entry ([.ref a, .ref v]) (n := 2) (Nat.le_of_ble_eq_true rfl)
  rw [lg_entry_eq]
  generalize (lg_sl ([.ref a, .ref v]) ++ List.replicate (2 - (lg_sl ([.ref a, .ref v])).length) Slot.unset).toArray = ls at hl ⊢
  have hl : lv_has ls 2 [(0, .ref a), (1, .ref v)] := hl
  refine lv_aload_n hx hb dJ2_add_0 rfl (lv_at hl 0 rfl) ?_
  refine lv_dup hx hb dJ2_add_1 rfl ?_
  refine va_get hx hb hts in_J2 hown hK hP 0 rfl rfl 0 (by decide) (hts _ q154) (u_same (hts _ q155)) rfl dJ2_add_2 ?_
  refine lv_iconst (v := 1) hx hb dJ2_add_5 (by decide) ?_
  refine lv_iadd hx hb dJ2_add_6 ?_
  refine va_put hx hb hts in_J2 tyJ2 tyJ2_ok nmJ2 hown hK hP (lcD hae) hS 0 rfl rfl 0 (by decide) (hts _ q154) (u_same (hts _ q155)) rfl (ty := .int) rfl rfl rfl (Nat.le_of_ble_eq_true rfl) dJ2_add_7 (fun H locs hP hD hS => ?_)
  have hP : va_P Z.1 clA (lcW Z a e (mo + 1) (nI N) f) H := hP
  refine lv_aload_n hx hb dJ2_add_10 rfl (lv_at hl 0 rfl) ?_
  refine lv_aload_n hx hb dJ2_add_11 rfl (lv_at hl 1 rfl) ?_
  refine lv_aload_n hx hb dJ2_add_12 rfl (lv_at hl 0 rfl) ?_
  refine va_get hx hb hts in_J2 hown hK hP 0 rfl rfl 1 (by decide) (hts _ q151) (fun _ h => h) rfl dJ2_add_13 ?_
  refine lv_aload_n hx hb dJ2_add_16 rfl (lv_at hl 0 rfl) ?_
  refine va_get hx hb hts in_J2 hown hK hP 0 rfl rfl 2 (by decide) (hts _ q152) (fun _ h => h) rfl dJ2_add_17 ?_
  have hAny1 : va_Any "java/lang/Object" s H v := hAny.kept (hS.2.1 v hAny.lt (fun z => z.elim hva hve))
  refine c_wr (va_runV (As := [.ref v, .ref e, .int (nI N)]) (rest := []) C.fix (al_add2 l Z a e v (mo + 1) N hN f hae) (cwV 3 hts (lw_V q556 q558 qs3 q85 q559) rfl rfl rfl (by decide +kernel) ⟨Nat.le_of_ble_eq_true rfl, Nat.le_of_ble_eq_true rfl⟩) ⟨laS.blind, va_recv (ci := 9) (q0 := 0) hK hP rfl rfl, fun U hU hW => ⟨rfl, ⟨by rw [hU]; exact hP, va_K.moved hW.alike hK⟩, by rw [hU]; exact va_Any.moved hW.alike hAny1⟩⟩ rfl rfl hl.1 rfl (lv_room (Nat.le_of_ble_eq_true rfl)) dJ2_add_20 ⟨Nat.zero_le _, Nat.zero_le _⟩) hS (fun _ _ h => h) (fun _ h => h) (fun t H1 locs1 ht _ hB _ _ hS => ?_)
  rw [ht] at hB
  refine lv_iconst (v := 1) hx hb dJ2_add_23 (by decide) ?_
  refine W.widen (k := 1) (n := 10) (Nat.zero_le _) (Nat.zero_le _) ?_
  exact W.zret hx hb hr rfl (fun t ht hW => ⟨rfl, by show va_P _ _ _ t.heap; rw [ht]; exact hB, hS.F ht⟩) hS.2.2 dJ2_add_24

def elC (Z : CZ) (j : Nat) (g : Nat → Int32) : va_E := if j = 0 then .inr (7, [.int (g 0), .int (g 1), .int (g 2), .int (g 3), .int (g 4)]) else if j = 1 then .inr (8, [.int (g 0), .int (g 1), .int (g 2)]) else .inl (cAc Z 0, 2, .inl g)
def addC (C : St) (j : Nat) (g : Nat → Int32) : St := upd2 (upd2 (up1 C (100 * (j + 1) + cNn C j) g) (50 + j) 0 (C (50 + j) 0 + 1)) (50 + j) 2 (nI (cNn C j + 1))
def addY (Y : CY) (C : St) (j v e : Nat) : CY := (fun k => if k = 100 * (j + 1) + cNn C j then v else if k = 400 + j then e else Y.1 k, fun i => if i = j then true else Y.2 i)
theorem addC_0 (C : St) (j : Nat) (g : Nat → Int32) : addC C j g (50 + j) 0 = C (50 + j) 0 + 1 := by
  unfold addC
  rw [upd2_same]
  show (if (0 : Nat) = 2 then _ else _) = _
  rw [if_neg (by decide), upd2_same]
  exact if_pos rfl
theorem addC_2 (C : St) (j : Nat) (g : Nat → Int32) : addC C j g (50 + j) 2 = nI (cNn C j + 1) := by
  unfold addC
  rw [upd2_same]
  exact if_pos rfl
theorem addC_new {C : St} {j : Nat} (hj : j < 3) (g : Nat → Int32) : addC C j g (100 * (j + 1) + cNn C j) = g := by
  unfold addC
  rw [upd2_other _ _ _ (by omega), upd2_other _ _ _ (by omega), up1_same]
theorem addC_other {C : St} {j b : Nat} (g : Nat → Int32) (h1 : b ≠ 50 + j) (h2 : b ≠ 100 * (j + 1) + cNn C j) : addC C j g b = C b := by
  unfold addC
  rw [upd2_other _ _ _ h1, upd2_other _ _ _ h1, up1_other _ _ h2]
theorem addC_nn {C : St} {j i : Nat} (hi : i < 3) (hj : j < 3) (hn : cNn C j < 10) (g : Nat → Int32) : cNn (addC C j g) i = if i = j then cNn C j + 1 else cNn C i := by
  by_cases h : i = j
  · subst h
    rw [if_pos rfl]
    show (addC C i g (50 + i) 2).toNatClampNeg = _
    rw [addC_2, nI_clamp (by omega)]
  · rw [if_neg h]
    unfold cNn at hn ⊢
    show (addC C j g (50 + i) 2).toNatClampNeg = _
    rw [addC_other g (by omega) (by omega)]
theorem addY_wf {Y : CY} {C : St} {j v e : Nat} (hj : j < 3) (hn : cNn C j < 10) (g : Nat → Int32) (hw : cWf Y C) : cWf (addY Y C j v e) (addC C j g) := by
  intro i hi
  rw [addC_nn hi hj hn]
  by_cases h : i = j
  · subst h
    rw [if_pos rfl, addC_2]
    exact ⟨by omega, nI_pos (by omega), fun _ => if_pos rfl⟩
  · rw [if_neg h, addC_other g (by omega) (by omega)]
    obtain ⟨w1, w2, w3⟩ := hw i hi
    exact ⟨w1, w2, fun q => (if_neg h).trans (w3 q)⟩
/-- handles afterwards: the old ones, the new one, the list's array -/
theorem addY_hs {Y : CY} {C : St} {j v e k : Nat} (hj : j < 3) (hn : cNn C j < 10) (g : Nat → Int32) (hw : cWf Y C) (h : k ∈ cHs (addY Y C j v e) (addC C j g)) : k = 100 * (j + 1) + cNn C j ∨ k = 400 + j ∨ (k ∈ cHs Y C ∧ k ≠ 400 + j ∧ k ≠ 100 * (j + 1) + cNn C j) := by
  have b0 := (hw 0 (by decide)).1
  have b1 := (hw 1 (by decide)).1
  have b2 := (hw 2 (by decide)).1
  have hnj : cNn C j ≤ 10 := by omega
  have sub : ∀ {i d : Nat}, i < 3 → d < cNn (addC C j g) i → (i = j ∧ d = cNn C j) ∨ d < cNn C i := by
    intro i d hi q
    rw [addC_nn hi hj hn] at q
    by_cases e : i = j
    · subst e
      rw [if_pos rfl] at q
      by_cases z : d = cNn C i
      · exact Or.inl ⟨rfl, z⟩
      · exact Or.inr (by omega)
    · rw [if_neg e] at q
      exact Or.inr q
  rcases cHs_ge (addY_wf (v := v) (e := e) hj hn g hw) h with ⟨q, q2⟩ | ⟨d, q, rfl⟩ | ⟨d, q, rfl⟩ | ⟨d, q, rfl⟩ | ⟨i, hi, q, rfl⟩ | ⟨s, hs, q, rfl⟩
  · exact Or.inr (Or.inr ⟨cHs_S q, by omega, by omega⟩)
  · rcases sub (by decide) q with ⟨rfl, rfl⟩ | z
    · exact Or.inl rfl
    · exact Or.inr (Or.inr ⟨cHs_D z, by omega, by
        intro e
        have : j = 0 ∨ j = 1 ∨ j = 2 := by omega
        rcases this with rfl | rfl | rfl <;> omega⟩)
  · rcases sub (by decide) q with ⟨rfl, rfl⟩ | z
    · exact Or.inl rfl
    · exact Or.inr (Or.inr ⟨cHs_G z, by omega, by
        intro e
        have : j = 0 ∨ j = 1 ∨ j = 2 := by omega
        rcases this with rfl | rfl | rfl <;> omega⟩)
  · rcases sub (by decide) q with ⟨rfl, rfl⟩ | z
    · exact Or.inl rfl
    · exact Or.inr (Or.inr ⟨cHs_A z, by omega, by
        intro e
        have : j = 0 ∨ j = 1 ∨ j = 2 := by omega
        rcases this with rfl | rfl | rfl <;> omega⟩)
  · by_cases e : i = j
    · subst e
      exact Or.inr (Or.inl rfl)
    · exact Or.inr (Or.inr ⟨cHs_E hi ((if_neg e).symm.trans q), by omega, by omega⟩)
  · exact Or.inr (Or.inr ⟨cHs_R hs (by rw [addC_other g (by omega) (by omega)] at q; exact q), by omega, by omega⟩)
theorem addY_ar {Z : CZ} {Y : CY} {C : St} {j v e k : Nat} (h1 : k ≠ 400 + j) (h2 : k ≠ 100 * (j + 1) + cNn C j) : cAr Z (addY Y C j v e) k = cAr Z Y k := by
  unfold cAr
  by_cases h : k < 100
  · rw [if_pos h, if_pos h]
  · rw [if_neg h, if_neg h]
    show (if k = 100 * (j + 1) + cNn C j then v else if k = 400 + j then e else Y.1 k) = Y.1 k
    rw [if_neg h2, if_neg h1]
