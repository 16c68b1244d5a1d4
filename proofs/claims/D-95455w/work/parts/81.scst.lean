/-! the component's first world -/
set_option maxRecDepth 100000
def scA (h : Nat) (x : Nat → Nat) : Nat → Nat := fun k => match k with
  | 0 => h
  | 1 => x 0
  | 2 => x 17
  | 3 => x 18
  | 7 => x 27
  | 8 => x 36
  | 9 => x 37
  | 10 => x 38
  | 11 => x 39
  | 16 => x 40
  | 19 => x 43
  | 20 => x 2
  | 21 => x 4
  | 22 => x 6
  | 23 => x 8
  | 24 => x 10
  | 25 => x 12
  | 26 => x 14
  | 27 => x 16
  | 30 => x 27 + 1 + 0
  | 31 => x 27 + 1 + 1
  | 32 => x 27 + 1 + 2
  | 33 => x 27 + 1 + 3
  | 34 => x 27 + 1 + 4
  | 35 => x 27 + 1 + 5
  | 36 => x 27 + 1 + 6
  | 37 => x 27 + 1 + 7
  | 40 => x 19
  | 41 => x 22
  | 42 => x 20
  | 43 => x 23
  | 44 => x 24
  | 45 => x 25
  | 46 => x 26
  | 50 => x 21
  | 51 => x 41
  | 52 => x 42
  | 80 => x 1
  | 81 => x 3
  | 82 => x 5
  | 83 => x 7
  | 84 => x 9
  | 85 => x 11
  | 86 => x 13
  | 87 => x 15
  | 90 => x 44
  | 91 => x 45
  | 92 => x 46
  | 93 => x 47
  | _ => 0
def scZ (Z : CZ) (h : Nat) (x : Nat → Nat) : CZ := (Z.1, Z.2.1, scA h x, Z.2.2.2)
def scC : St := fun b => match b with
  | 0 => fun i => if i = 4 then 1 else 0
  | 3 => upd (upd (upd (upd (fun _ => 0) 0 9) 1 0) 2 999) 3 6
  | 20 => psG
  | 21 => psG
  | 22 => psG
  | 23 => psG
  | 24 => psG
  | 25 => psG
  | 26 => psG
  | 27 => psG
  | _ => fun _ => 0
def scY : CY := (fun _ => 0, fun _ => false)
theorem sc_hs : cHs scY scC = cS0 := by decide +kernel
def scP : Nat → Nat := fun k => match k with
  | 0 => 0
  | 1 => 1
  | 2 => 18
  | 3 => 19
  | 7 => 28
  | 8 => 37
  | 9 => 38
  | 10 => 39
  | 11 => 40
  | 16 => 41
  | 19 => 44
  | 20 => 3
  | 21 => 5
  | 22 => 7
  | 23 => 9
  | 24 => 11
  | 25 => 13
  | 26 => 15
  | 27 => 17
  | 30 => 29
  | 31 => 30
  | 32 => 31
  | 33 => 32
  | 34 => 33
  | 35 => 34
  | 36 => 35
  | 37 => 36
  | 40 => 20
  | 41 => 23
  | 42 => 21
  | 43 => 24
  | 44 => 25
  | 45 => 26
  | 46 => 27
  | 50 => 22
  | 51 => 42
  | 52 => 43
  | 80 => 2
  | 81 => 4
  | 82 => 6
  | 83 => 8
  | 84 => 10
  | 85 => 12
  | 86 => 14
  | 87 => 16
  | 90 => 45
  | 91 => 46
  | 92 => 47
  | 93 => 48
  | _ => 0
theorem sc_wf : cWf scY scC := by
  intro j hj
  match j, hj with
  | 0, _ => exact by decide
  | 1, _ => exact by decide
  | 2, _ => exact by decide
theorem arrV_cg {c : ClassId} {n : Nat} {f g : Nat → Value} (h : ∀ j, j < n → f j = g j) : arrV c n f = arrV c n g := by
  unfold arrV
  congr 1
  apply Array.ext_getElem?
  intro k
  by_cases hk : k < n
  · simp [hk, h k hk]
  · simp [hk]
theorem fb_n {P : Nat → Prop} : ∀ k ∈ ([] : List Nat), P k := fun _ h => by cases h
theorem fb_c {P : Nat → Prop} {a : Nat} {l : List Nat} (h : P a) (t : ∀ k ∈ l, P k) : ∀ k ∈ a :: l, P k := List.forall_mem_cons.mpr ⟨h, t⟩
theorem sc_rf {D : va_G} {cl : List vw_C} {c : ClassId} {n a : Nat} {f g : Nat → Option Nat} {H : Heap} (hfg : ∀ j, j < n → f j = g j) (h : va_at D cl (a, .inl (c, n, .inr (.inr (.inr (.inr f))))) H) : va_at D cl (a, .inl (c, n, .inr (.inr (.inr (.inr g))))) H := by
  have h : H[a]? = some (arrV c n (fun j => va_rf (f j))) := h
  rw [arrV_cg (g := fun j => va_rf (g j)) (fun j hj => congrArg va_rf (hfg j hj))] at h
  exact h
theorem sc_c1 {h : Nat} {x : Nat → Nat} : ∀ j, j < 8 → (va_up (va_up (va_up (va_up (va_up (va_up (va_up (va_up (fun _ => none) 0 (some (x 1))) 1 (some (x 3))) 2 (some (x 5))) 3 (some (x 7))) 4 (some (x 9))) 5 (some (x 11))) 6 (some (x 13))) 7 (some (x 15))) j = (fun j => some (scA h x (80 + j))) j := fun j hj => by
  match j, hj with
  | 0, _ => rfl
  | 1, _ => rfl
  | 2, _ => rfl
  | 3, _ => rfl
  | 4, _ => rfl
  | 5, _ => rfl
  | 6, _ => rfl
  | 7, _ => rfl
theorem sc_c7 {h : Nat} {x : Nat → Nat} : ∀ j, j < 8 → (fun j => if j < 8 then some (x 27 + 1 + j) else none) j = (fun j => some (scA h x (30 + j))) j := fun j hj => by
  match j, hj with
  | 0, _ => rfl
  | 1, _ => rfl
  | 2, _ => rfl
  | 3, _ => rfl
  | 4, _ => rfl
  | 5, _ => rfl
  | 6, _ => rfl
  | 7, _ => rfl
theorem sc_c19 {h : Nat} {x : Nat → Nat} : ∀ j, j < 4 → (va_up (va_up (va_up (va_up (fun _ => none) 0 (some (x 44))) 1 (some (x 45))) 2 (some (x 46))) 3 (some (x 47))) j = (fun j => some (scA h x (90 + j))) j := fun j hj => by
  match j, hj with
  | 0, _ => rfl
  | 1, _ => rfl
  | 2, _ => rfl
  | 3, _ => rfl
theorem sc_at {Z : CZ} {h : Nat} {x : Nat → Nat} {H : Heap} (hP : va_P Z.1 clA ((h, scE x) :: scW Z x) H) : ∀ k ∈ cS0, va_at Z.1 clA (cAr (scZ Z h x) scY k, cCo (scZ Z h x) scY scC k) H := fb_c (hP 0 _ rfl) (fb_c (sc_rf (sc_c1 (h := h) (x := x)) (hP 1 _ rfl)) (fb_c (hP 18 _ rfl) (fb_c (hP 19 _ rfl) (fb_c (sc_rf (sc_c7 (h := h) (x := x)) (hP 28 _ rfl)) (fb_c (hP 37 _ rfl) (fb_c (hP 38 _ rfl) (fb_c (hP 39 _ rfl) (fb_c (hP 40 _ rfl) (fb_c (hP 41 _ rfl) (fb_c (sc_rf (sc_c19 (h := h) (x := x)) (hP 44 _ rfl)) (fb_c (hP 3 _ rfl) (fb_c (hP 5 _ rfl) (fb_c (hP 7 _ rfl) (fb_c (hP 9 _ rfl) (fb_c (hP 11 _ rfl) (fb_c (hP 13 _ rfl) (fb_c (hP 15 _ rfl) (fb_c (hP 17 _ rfl) (fb_c (hP 29 _ rfl) (fb_c (hP 30 _ rfl) (fb_c (hP 31 _ rfl) (fb_c (hP 32 _ rfl) (fb_c (hP 33 _ rfl) (fb_c (hP 34 _ rfl) (fb_c (hP 35 _ rfl) (fb_c (hP 36 _ rfl) (fb_c (hP 20 _ rfl) (fb_c (hP 23 _ rfl) (fb_c (hP 21 _ rfl) (fb_c (hP 24 _ rfl) (fb_c (hP 25 _ rfl) (fb_c (hP 26 _ rfl) (fb_c (hP 27 _ rfl) (fb_c (hP 22 _ rfl) (fb_c (hP 42 _ rfl) (fb_c (hP 43 _ rfl) (fb_c (hP 2 _ rfl) (fb_c (hP 4 _ rfl) (fb_c (hP 6 _ rfl) (fb_c (hP 8 _ rfl) (fb_c (hP 10 _ rfl) (fb_c (hP 12 _ rfl) (fb_c (hP 14 _ rfl) (fb_c (hP 16 _ rfl) (fb_c (hP 45 _ rfl) (fb_c (hP 46 _ rfl) (fb_c (hP 47 _ rfl) (fb_c (hP 48 _ rfl) (fb_n)))))))))))))))))))))))))))))))))))))))))))))))))
theorem sc_ix (Z : CZ) (h : Nat) (x : Nat → Nat) : ∀ k ∈ cS0, ∃ e, ((h, scE x) :: scW Z x)[scP k]? = some (cAr (scZ Z h x) scY k, e) := fb_c ⟨_, rfl⟩ (fb_c ⟨_, rfl⟩ (fb_c ⟨_, rfl⟩ (fb_c ⟨_, rfl⟩ (fb_c ⟨_, rfl⟩ (fb_c ⟨_, rfl⟩ (fb_c ⟨_, rfl⟩ (fb_c ⟨_, rfl⟩ (fb_c ⟨_, rfl⟩ (fb_c ⟨_, rfl⟩ (fb_c ⟨_, rfl⟩ (fb_c ⟨_, rfl⟩ (fb_c ⟨_, rfl⟩ (fb_c ⟨_, rfl⟩ (fb_c ⟨_, rfl⟩ (fb_c ⟨_, rfl⟩ (fb_c ⟨_, rfl⟩ (fb_c ⟨_, rfl⟩ (fb_c ⟨_, rfl⟩ (fb_c ⟨_, rfl⟩ (fb_c ⟨_, rfl⟩ (fb_c ⟨_, rfl⟩ (fb_c ⟨_, rfl⟩ (fb_c ⟨_, rfl⟩ (fb_c ⟨_, rfl⟩ (fb_c ⟨_, rfl⟩ (fb_c ⟨_, rfl⟩ (fb_c ⟨_, rfl⟩ (fb_c ⟨_, rfl⟩ (fb_c ⟨_, rfl⟩ (fb_c ⟨_, rfl⟩ (fb_c ⟨_, rfl⟩ (fb_c ⟨_, rfl⟩ (fb_c ⟨_, rfl⟩ (fb_c ⟨_, rfl⟩ (fb_c ⟨_, rfl⟩ (fb_c ⟨_, rfl⟩ (fb_c ⟨_, rfl⟩ (fb_c ⟨_, rfl⟩ (fb_c ⟨_, rfl⟩ (fb_c ⟨_, rfl⟩ (fb_c ⟨_, rfl⟩ (fb_c ⟨_, rfl⟩ (fb_c ⟨_, rfl⟩ (fb_c ⟨_, rfl⟩ (fb_c ⟨_, rfl⟩ (fb_c ⟨_, rfl⟩ (fb_c ⟨_, rfl⟩ (fb_c ⟨_, rfl⟩ (fb_n)))))))))))))))))))))))))))))))))))))))))))))))))
theorem sc_pj : ∀ k ∈ cS0, ∀ k' ∈ cS0, scP k = scP k' → k = k' := by decide +kernel
theorem sc_pd {Z : CZ} {h : Nat} {x : Nat → Nat} {A : Nat → Prop} {H : Heap} (hP : va_P Z.1 clA ((h, scE x) :: scW Z x) H) (hD : va_D A ((h, scE x) :: scW Z x)) : cPD (scZ Z h x) scY A scC H := by
  refine cPD_mk sc_wf (fun k hk => ?_) (fun k hk => ?_) (fun k k' hk hk' e => ?_)
  · rw [sc_hs] at hk
    exact sc_at hP k hk
  · rw [sc_hs] at hk
    obtain ⟨e, he⟩ := sc_ix Z h x k hk
    exact hD.2 _ _ he
  · rw [sc_hs] at hk hk'
    obtain ⟨e1, he⟩ := sc_ix Z h x k hk
    obtain ⟨e2, he'⟩ := sc_ix Z h x k' hk'
    exact sc_pj k hk k' hk' (hD.1 _ _ _ _ he he' e)
