/-! limbo: the cell at the end of the world's list -/
theorem lm_of {Z : CZ} {Y : CY} {A : Nat → Prop} {C : St} {v : Nat} {E : va_E} {H : Heap} (hw : cWf Y C) (hP : va_P Z.1 clA (cWs Z Y C ++ [(v, E)]) H) (hD : va_D A (cWs Z Y C ++ [(v, E)])) : lmD Z Y A C v E H := by
  have lft : ∀ {k : Nat} {q : Nat × va_E}, (cWs Z Y C)[k]? = some q → (cWs Z Y C ++ [(v, E)])[k]? = some q := fun {k q} h => by
    rw [List.getElem?_append_left (List.getElem?_eq_some_iff.mp h).1]
    exact h
  have lst : (cWs Z Y C ++ [(v, E)])[(cWs Z Y C).length]? = some (v, E) := by
    rw [List.getElem?_append_right (Nat.le_refl _), Nat.sub_self]
    rfl
  refine ⟨⟨fun k q h => hP k q (lft h), ⟨fun i j p q hp hq e => hD.1 i j p q (lft hp) (lft hq) e, fun k q h => hD.2 k q (lft h)⟩, hw⟩, hP _ _ lst, hD.2 _ _ lst, fun k hk e => ?_⟩
  obtain ⟨pos, -, hq⟩ := cWs_at (Z := Z) hk
  have := hD.1 pos _ _ _ (lft hq) lst e
  have h2 := (List.getElem?_eq_some_iff.mp hq).1
  omega
theorem lm_to {Z : CZ} {Y : CY} {A : Nat → Prop} {C : St} {v : Nat} {E : va_E} {H : Heap} (h : lmD Z Y A C v E H) : va_P Z.1 clA (cWs Z Y C ++ [(v, E)]) H ∧ va_D A (cWs Z Y C ++ [(v, E)]) := by
  have cs : ∀ {k : Nat} {q : Nat × va_E}, (cWs Z Y C ++ [(v, E)])[k]? = some q → (cWs Z Y C)[k]? = some q ∨ (k = (cWs Z Y C).length ∧ q = (v, E)) := fun {k q} hq => by
    by_cases z : k < (cWs Z Y C).length
    · rw [List.getElem?_append_left z] at hq
      exact Or.inl hq
    · rw [List.getElem?_append_right (Nat.le_of_not_lt z)] at hq
      have hz : k - (cWs Z Y C).length < 1 := (List.getElem?_eq_some_iff.mp hq).1
      have hk : k = (cWs Z Y C).length := by omega
      rw [hk, Nat.sub_self] at hq
      exact Or.inr ⟨hk, (Option.some.inj hq).symm⟩
  have ne : ∀ {k : Nat} {q : Nat × va_E}, (cWs Z Y C)[k]? = some q → q.1 ≠ v := fun {k q} hq e => by
    obtain ⟨j, hj, e2⟩ := cWs_mem (Z := Z) (v := q.1) (e := q.2) hq
    exact h.2.2.2 j hj (e2.trans e)
  refine ⟨fun k q hq => ?_, fun i j p q hp hq e => ?_, fun k q hq => ?_⟩
  · rcases cs hq with hq | ⟨-, rfl⟩
    · exact h.1.1 k q hq
    · exact h.2.1
  · rcases cs hp with hp | ⟨hi, rfl⟩
    · rcases cs hq with hq | ⟨hj, rfl⟩
      · exact h.1.2.1.1 i j p q hp hq e
      · exact absurd e (ne hp)
    · rcases cs hq with hq | ⟨hj, rfl⟩
      · exact absurd e.symm (ne hq)
      · rw [hi, hj]
  · rcases cs hq with hq | ⟨-, rfl⟩
    · exact h.1.2.1.2 k q hq
    · exact h.2.2.1
