/-! constructors: an object's own cell, and the cells that it makes -/
set_option maxRecDepth 100000
def ctS (Z : CZ) (h : Nat) (E : va_E) (sz : Nat) (Xt : State → Prop) (U : State) : Prop := U.heap.size = sz ∧ va_P Z.1 clA [(h, E)] U.heap ∧ va_K Z.1 clA (tysA (cAc Z)) U ∧ Xt U
def Qct (Z : CZ) (h : Nat) (E : va_E) (sz : Nat) (mk : va_E → va_W → Prop) : Array Value → State → Outcome → State → Prop := Qwr none (fun t => ∃ (E1 : va_E) (es : va_W), mk E1 es ∧ va_P Z.1 clA ((h, E1) :: es) t.heap ∧ va_D (va_A [(h, E)] sz) ((h, E1) :: es)) (va_A [(h, E)] sz)
theorem va_A1 {h sz q : Nat} {E : va_E} (z : va_A [(h, E)] sz q) : q = h ∨ sz ≤ q := by
  rcases z with ⟨k, e, hk⟩ | z
  · left
    match k, hk with
    | 0, hk => cases hk; rfl
    | k + 1, hk => simp at hk
  · exact Or.inr z
theorem va_D1 {h sz : Nat} {E : va_E} : va_D (va_A [(h, E)] sz) [(h, E)] := by
  refine ⟨fun i j p q hi hj _ => ?_, fun k q hk => Or.inl ⟨k, q.2, hk⟩⟩
  match i, j, hi, hj with
  | 0, 0, _, _ => rfl
  | i + 1, _, hi, _ => simp at hi
  | 0, j + 1, _, hj => simp at hj
section CT
variable {p : Program} {l : Launch} {e : Env} {R : Room} {s : State} {m : MethodId} {args : Array Value} {below : List Frame} {meth : Method} {c : Code} {H : Heap} {locs : List Loc} {cells slots mc ms : Nat} {Q : State → Prop}
variable {pc : Nat} {ls : Array Slot} {rest st0 : List Value} {Z : CZ} {A : Nat → Prop} {h q0 : Nat} {E : va_E} {mk : va_E → va_W → Prop} {ws : va_W} {a : Array Value}
theorem ct_run (hP : va_P Z.1 clA ws H) (hD : va_D A ws) (hS : va_S A s.heap H locs) (hA : ∀ q, s.heap.size ≤ q → A q) (he : ws[q0]? = some (h, E)) (hr : va_Run p l e R s m args below meth c H locs cells slots mc ms (F0 m pc ls st0) rest (Qct Z h E H.size mk a) (va_A [(h, E)] H.size))
    (kk : ∀ (E1 : va_E) (es : va_W) (H1 : Heap) (locs1 : List Loc), mk E1 es → va_P Z.1 clA (ws.set q0 (h, E1) ++ es) H1 → va_D A (ws.set q0 (h, E1) ++ es) → va_S A s.heap H1 locs1 → W p l e R s m args below meth c H1 locs1 (cells + mc) (slots + ms) Q (F0 m (pc + 3) ls rest)) : W p l e R s m args below meth c H locs cells slots Q (F0 m pc ls st0) := by
  have hsub : ∀ q, va_A [(h, E)] H.size q → A q := fun q z => by
    rcases va_A1 z with rfl | z
    · exact hD.2 q0 _ he
    · exact hA q (Nat.le_trans hS.1 z)
  refine c_wr hr hS (fun q _ z => hsub q z) hsub (fun t H1 locs1 ht _ hB hsz hk hS1 => ?_)
  obtain ⟨E1, es, hmk, hP1, hD1⟩ := hB
  rw [ht] at hP1
  have hl : q0 < ws.length := (List.getElem?_eq_some_iff.mp he).1
  have hes : ∀ (k : Nat) (x : Nat × va_E), es[k]? = some x → H.size ≤ x.1 := fun k x hx => by
    have h1 : ((h, E1) :: es)[k + 1]? = some x := hx
    rcases va_A1 (hD1.2 (k + 1) x h1) with z | z
    · have := hD1.1 (k + 1) 0 x (h, E1) h1 rfl z
      omega
    · exact z
  have hws : ∀ (k : Nat) (x : Nat × va_E), (ws.set q0 (h, E1))[k]? = some x → (k = q0 ∧ x = (h, E1)) ∨ (k ≠ q0 ∧ ws[k]? = some x) := fun k x hx => by
    by_cases z : k = q0
    · subst z
      rw [List.getElem?_set_self hl] at hx
      exact Or.inl ⟨rfl, (Option.some.inj hx).symm⟩
    · rw [List.getElem?_set_ne (fun e => z e.symm)] at hx
      exact Or.inr ⟨z, hx⟩
  have hsplit : ∀ (k : Nat) (x : Nat × va_E), (ws.set q0 (h, E1) ++ es)[k]? = some x → (k = q0 ∧ x = (h, E1)) ∨ (k ≠ q0 ∧ k < ws.length ∧ ws[k]? = some x) ∨ (ws.length ≤ k ∧ es[k - ws.length]? = some x) := fun k x hx => by
    by_cases z : k < ws.length
    · rw [List.getElem?_append_left (by rw [List.length_set]; exact z)] at hx
      rcases hws k x hx with g | g
      · exact Or.inl g
      · exact Or.inr (Or.inl ⟨g.1, z, g.2⟩)
    · rw [List.getElem?_append_right (by rw [List.length_set]; omega), List.length_set] at hx
      exact Or.inr (Or.inr ⟨by omega, hx⟩)
  have hne : ∀ (k : Nat) (x : Nat × va_E), k ≠ q0 → ws[k]? = some x → x.1 ≠ h := fun k x hk hx z => hk (hD.1 k q0 x (h, E) hx he z)
  have hlt : ∀ (k : Nat) (x : Nat × va_E), ws[k]? = some x → x.1 < H.size := fun k x hx => (hP k x hx).lt
  have hh : h < H.size := hlt q0 _ he
  refine kk E1 es H1 locs1 hmk (fun k x hx => ?_) ⟨fun i j x y hx hy z => ?_, fun k x hx => ?_⟩ hS1
  · rcases hsplit k x hx with ⟨rfl, rfl⟩ | ⟨g1, -, g2⟩ | ⟨-, g⟩
    · exact hP1 0 _ rfl
    · exact (hP k x g2).kept (hk _ (hlt k x g2) (fun z => by
        rcases va_A1 z with z | z
        · exact hne k x g1 g2 z
        · have := hlt k x g2
          omega))
    · exact hP1 (k - ws.length + 1) x g
  · rcases hsplit i x hx with ⟨rfl, rfl⟩ | ⟨g1, g1', g2⟩ | ⟨g1, g2⟩ <;> rcases hsplit j y hy with ⟨rfl, rfl⟩ | ⟨f1, f1', f2⟩ | ⟨f1, f2⟩
    · rfl
    · exact absurd z.symm (hne j y f1 f2)
    · have := hes _ _ f2
      have z' : h = y.1 := z
      omega
    · exact absurd z (hne i x g1 g2)
    · exact hD.1 i j x y g2 f2 z
    · have := hes _ _ f2
      have := hlt _ _ g2
      omega
    · have := hes _ _ g2
      have z' : x.1 = h := z
      omega
    · have := hes _ _ g2
      have := hlt _ _ f2
      omega
    · have := hD1.1 (i - ws.length + 1) (j - ws.length + 1) x y g2 f2 z
      omega
  · rcases hsplit k x hx with ⟨rfl, rfl⟩ | ⟨-, -, g2⟩ | ⟨-, g2⟩
    · exact (hD.2 _ (h, E) he : A h)
    · exact hD.2 k x g2
    · exact hA _ (Nat.le_trans hS.1 (hes _ _ g2))
end CT
