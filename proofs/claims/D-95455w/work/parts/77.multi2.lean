/-! multianewarray: the cells as entries of a list -/
set_option maxRecDepth 100000
abbrev mtE (cO : ClassId) (b i : Nat) : va_E := .inl (cO, 8, .inr (.inr (.inr (.inr (fun j => if j < i then some (b + 1 + j) else none)))))
theorem mtO_v (cO : ClassId) (b : Nat) : ∀ i, i ≤ 8 → mtO cO b i = arrV cO 8 (fun j => va_rf (if j < i then some (b + 1 + j) else none))
  | 0, _ => by
    have e1 : (fun j => va_rf (if j < 0 then some (b + 1 + j) else none)) = (fun _ : Nat => Value.null) := by
      funext j
      rw [if_neg (Nat.not_lt_zero j)]
      rfl
    rw [e1, ← arrV_new]
    unfold mtO
    congr 1
    apply Array.ext_getElem?
    intro k
    by_cases hk : k < 8 <;> simp [hk]
  | i + 1, h => by
    rw [← mtO_set cO b i (by omega), mtO_v cO b i (by omega), arrV_store]
    congr 1
    funext j
    unfold updV
    by_cases e : j = i
    · subst e
      simp [va_rf]
    · by_cases h1 : j < i
      · simp [e, h1, show j < i + 1 by omega]
      · simp [e, h1, show ¬ j < i + 1 by omega]
theorem mtI_v (cI : ClassId) : mtI cI = arrV cI 256 (fun _ => .int 0) := by
  rw [← arrV_new]
  rfl
theorem mt_at0 {D : va_G} {cl : List vw_C} {cO : ClassId} {b : Nat} {H1 : Heap} (h0 : H1[b]? = some (mtO cO b 8)) : va_at D cl (b, mtE cO b 8) H1 := by
  rw [mtO_v cO b 8 (Nat.le_refl _)] at h0
  exact h0
theorem mt_at1 {D : va_G} {cl : List vw_C} {cI : ClassId} {a : Nat} {H1 : Heap} (h0 : H1[a]? = some (mtI cI)) : va_at D cl (a, .inl (cI, 256, .inl (fun _ => 0))) H1 := by
  rw [mtI_v] at h0
  exact h0
def mtL (cO cI : ClassId) (b : Nat) : va_W := (b, mtE cO b 8) :: (List.range 8).map (fun j => (b + 1 + j, (.inl (cI, 256, .inl (fun _ => 0)) : va_E)))
theorem mtL_at {cO cI : ClassId} {b : Nat} {k : Nat} {x : Nat × va_E} (h : (mtL cO cI b)[k]? = some x) : x.1 = b + k ∧ k < 9 := by
  match k, h with
  | 0, h => cases h; exact ⟨rfl, by omega⟩
  | k + 1, h =>
    have h : ((List.range 8).map (fun j => (b + 1 + j, (.inl (cI, 256, .inl (fun _ => 0)) : va_E))))[k]? = some x := h
    rw [List.getElem?_map, Option.map_eq_some_iff] at h
    obtain ⟨j, hj, rfl⟩ := h
    obtain ⟨hl, rfl⟩ := List.getElem?_eq_some_iff.mp hj
    rw [List.length_range] at hl
    rw [List.getElem_range]
    exact ⟨by show b + 1 + k = _; omega, by omega⟩
section M2
variable {p : Program} {l : Launch} {e : Env} {R : Room} {s : State} {m : MethodId} {args : Array Value} {below : List Frame} {meth : Method} {c : Code} {H : Heap} {locs : List Loc} {cells slots : Nat} {Q : State → Prop}
variable {pc : Nat} {ls : Array Slot} {rest : List Value} {cc : ByteArray} {D : va_G} {cl : List vw_C} {A : Nat → Prop} {ws : va_W}
theorem mt_w {own : String} {index : Nat} (hexec : p.tables.exec = Jvm.exec) (hb : c.code = cc) (hown : s.vm.findClass own = some m.cls) (hlk : (Cond.classLink own index "[[I").before args s = true) (hov : (Cond.arrayOver (.array .int)).before args s = true) (harr : (Cond.arrayClass .int).before args s = true) (hP : va_P D cl ws H) (hD : va_D A ws) (hS : va_S A s.heap H locs) (hA : ∀ q, s.heap.size ≤ q → A q) (hcl : cells + 9 ≤ R.cells) (hsl : slots + 2056 ≤ R.slots) (hdg : decode cc pc = .ok (.multianewarray index 2, 4))
    (kk : ∀ (cO cI : ClassId) (b : Nat) (H1 : Heap) (locs1 : List Loc), s.vm.findClass "[[I" = some cO → s.vm.findClass "[I" = some cI → va_P D cl (ws ++ mtL cO cI b) H1 → va_D A (ws ++ mtL cO cI b) → va_S A s.heap H1 locs1 → W p l e R s m args below meth c H1 locs1 (cells + 9) (slots + 2056) Q (F0 m (pc + 4) ls (.ref b :: rest))) : W p l e R s m args below meth c H locs cells slots Q (F0 m pc ls (.int 256 :: .int 8 :: rest)) := by
  refine mt_row hexec hb hown hlk hov harr hcl hsl hdg (fun cO cI H1 hcO hcI hsz hold h0 hi => ?_)
  have hb0 := hS.1
  have hlt : ∀ (k : Nat) (x : Nat × va_E), ws[k]? = some x → x.1 < H.size := fun k x hx => (hP k x hx).lt
  have hsplit : ∀ (k : Nat) (x : Nat × va_E), (ws ++ mtL cO cI H.size)[k]? = some x → (k < ws.length ∧ ws[k]? = some x) ∨ (ws.length ≤ k ∧ (mtL cO cI H.size)[k - ws.length]? = some x) := fun k x hx => by
    by_cases z : k < ws.length
    · rw [List.getElem?_append_left z] at hx
      exact Or.inl ⟨z, hx⟩
    · rw [List.getElem?_append_right (by omega)] at hx
      exact Or.inr ⟨by omega, hx⟩
  refine kk cO cI H.size H1 _ hcO hcI ((hP.kept (fun k x hx => hold _ (hlt k x hx))).app (fun k x hx => ?_)) ⟨fun i j x y hx hy z => ?_, fun k x hx => ?_⟩ ⟨by omega, fun q hq hn => by rw [hold q (by omega)]; exact hS.2.1 q hq hn, fun q hq => ?_⟩
  · match k, hx with
    | 0, hx =>
      cases hx
      exact mt_at0 h0
    | k + 1, hx =>
      have hx : ((List.range 8).map (fun j => (H.size + 1 + j, (.inl (cI, 256, .inl (fun _ => 0)) : va_E))))[k]? = some x := hx
      rw [List.getElem?_map, Option.map_eq_some_iff] at hx
      obtain ⟨j, hj, rfl⟩ := hx
      obtain ⟨hl, rfl⟩ := List.getElem?_eq_some_iff.mp hj
      rw [List.length_range] at hl
      rw [List.getElem_range]
      exact mt_at1 (hi k hl)
  · rcases hsplit i x hx with ⟨g1, g2⟩ | ⟨g1, g2⟩ <;> rcases hsplit j y hy with ⟨f1, f2⟩ | ⟨f1, f2⟩
    · exact hD.1 i j x y g2 f2 z
    · have := hlt i x g2
      have := (mtL_at f2).1
      omega
    · have := hlt j y f2
      have := (mtL_at g2).1
      omega
    · have := (mtL_at g2).1
      have := (mtL_at f2).1
      omega
  · rcases hsplit k x hx with ⟨g1, g2⟩ | ⟨g1, g2⟩
    · exact hD.2 k x g2
    · have := (mtL_at g2).1
      exact hA _ (by omega)
  · rcases List.mem_append.mp hq with h | h
    · exact hS.2.2 q h
    · obtain ⟨j, -, rfl⟩ := List.mem_map.mp h
      exact hA _ (by show s.heap.size ≤ H.size; omega)
end M2
