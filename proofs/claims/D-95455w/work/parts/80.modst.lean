/-! the model's first state -/
set_option maxRecDepth 100000
def smI : St := fun k => match k with
  | 13 => (upd (upd (upd (upd (upd (upd (upd (upd (fun _ => 0) 0 8) 1 8) 2 8) 3 8) 4 8) 5 8) 6 8) 7 8)
  | 14 => (upd (upd (upd (upd (upd (upd (upd (upd (fun _ => 0) 0 1) 1 1) 2 1) 3 1) 4 1) 5 1) 6 1) 7 1)
  | 15 => (upd (upd (upd (upd (upd (upd (upd (upd (fun _ => 0) 0 16) 1 16) 2 16) 3 16) 4 16) 5 16) 6 16) 7 16)
  | 17 => (upd (upd (upd (fun _ => 0) 0 9) 2 999) 3 6)
  | _ => fun _ => 0
def smZ (Z : CZ) (h : Nat) (x : Nat → Nat) : MZ := (Z.1, Z.2.1, h, fun k => x (mIds.idxOf k))
theorem sm_w (Z : CZ) (h : Nat) (x : Nat → Nat) : mWs (smZ Z h x) smI = (h, smE x) :: smW Z x := rfl
theorem sm_pd {Z : CZ} {h : Nat} {x : Nat → Nat} {A : Nat → Prop} {H : Heap} (hP : va_P Z.1 clA ((h, smE x) :: smW Z x) H) (hD : va_D A ((h, smE x) :: smW Z x)) : mPD (smZ Z h x) smI H := by
  refine ⟨by rw [sm_w]; exact hP, ⟨by rw [sm_w]; exact hD.1, fun k q hk => ?_⟩⟩
  match k, hk with
  | 0, hk => cases hk; exact Or.inl rfl
  | k + 1, hk =>
    have hk : (mIds.map (mCell (smZ Z h x) smI))[k]? = some q := hk
    rw [List.getElem?_map, Option.map_eq_some_iff] at hk
    obtain ⟨j, hj, rfl⟩ := hk
    exact Or.inr ⟨j, List.mem_of_getElem? hj, rfl⟩
