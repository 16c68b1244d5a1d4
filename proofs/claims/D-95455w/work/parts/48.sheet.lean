/-! sheets: rows, and the sides of Sheet's methods that return -/
set_option maxRecDepth 100000
def shT (f : Int32) : Int32 := if f = 0 then 0 else if f = 1 then 1 else 2
def shN (t : Nat) : String := if t = 2 then "[B" else if t = 3 then "[S" else "[I"
section SHR
variable {p : Program} {l : Launch} {e : Env} {R : Room} {s : State} {m : MethodId} {args : Array Value} {below : List Frame} {meth : Method} {c : Code} {H : Heap} {locs : List Loc} {cells slots : Nat} {Q : State → Prop}
variable {pc : Nat} {ls : Array Slot} {rest st0 As : List Value} {cc bytes : ByteArray} {nL maxL index n : Nat} {ret ret' : Option FieldType} {own : String} {y : MethodName} {rm : Room} {Z : CZ} {Y : CY} {A : Nat → Prop} {C : St} {H0 : Heap}
theorem gs7 (X : CCx p s m args meth c cc nL ret RX5 Z) (hM : cPD Z Y A C H) {q : Nat} (h8 : q < 4) (h1 : C (60 + q) 0 = 1) (hdg : decode cc pc = .ok (.getfield 7, 3)) (kk : W p l e R s m args below meth c H locs cells slots Q (F0 m (pc + 3) ls (.ref (cDa Y (500 + q)) :: rest))) : W p l e R s m args below meth c H locs cells slots Q (F0 m pc ls (.ref (cSa Z (90 + q)) :: rest)) := by
  obtain ⟨pos, hp, hq⟩ := cWs_at (Z := Z) (cHs_S (Y := Y) (C := C) (cS_h h8))
  rw [cCo_h h8, cAr_s (by omega), if_pos h1] at hq
  exact va_get X.1.1 X.1.2.1 X.1.2.2.2.2.2.2 in_X5 X.1.2.2.2.2.2.1 X.2.1 hM.1 pos hq rfl 0 (by decide) (X.1.2.2.2.2.2.2 _ q224) (fun _ h => h) rfl hdg kk
theorem gsY (X : CCx p s m args meth c cc nL ret RX0 Z) (hM : cPD Z Y A C H) {q : Nat} (h8 : q < 4) (h1 : C (60 + q) 0 = 1) (hdg : decode cc pc = .ok (.getfield 119, 3)) (kk : W p l e R s m args below meth c H locs cells slots Q (F0 m (pc + 3) ls (.ref (cDa Y (500 + q)) :: rest))) : W p l e R s m args below meth c H locs cells slots Q (F0 m pc ls (.ref (cSa Z (90 + q)) :: rest)) := by
  obtain ⟨pos, hp, hq⟩ := cWs_at (Z := Z) (cHs_S (Y := Y) (C := C) (cS_h h8))
  rw [cCo_h h8, cAr_s (by omega), if_pos h1] at hq
  exact va_getN (host := "SecondChances") X.1.1 X.1.2.1 X.1.2.2.2.2.2.2 in_X5 X.1.2.2.2.2.2.1 X.2.1 hM.1 pos hq rfl 0 (by decide) (va_Nw.use rfl (X.2.2 _ (List.mem_of_getElem? (i := 9) rfl))) (fun _ h => h) rfl hdg kk
theorem gsN (X : CCx p s m args meth c cc nL ret RX0 Z) (hM : cPD Z Y A C H) {q : Nat} (h8 : q < 4) (h1 : ¬ C (60 + q) 0 = 1) (hdg : decode cc pc = .ok (.getfield 119, 3)) (kk : W p l e R s m args below meth c H locs cells slots Q (F0 m (pc + 3) ls (.null :: rest))) : W p l e R s m args below meth c H locs cells slots Q (F0 m pc ls (.ref (cSa Z (90 + q)) :: rest)) := by
  obtain ⟨pos, hp, hq⟩ := cWs_at (Z := Z) (cHs_S (Y := Y) (C := C) (cS_h h8))
  rw [cCo_h h8, cAr_s (by omega), if_neg h1] at hq
  exact va_getN (host := "SecondChances") X.1.1 X.1.2.1 X.1.2.2.2.2.2.2 in_X5 X.1.2.2.2.2.2.1 X.2.1 hM.1 pos hq rfl 0 (by decide) (va_Nw.use rfl (X.2.2 _ (List.mem_of_getElem? (i := 9) rfl))) (fun _ h => h) rfl hdg kk
/-- a sheet's row in the world -/
theorem sh_at {q : Nat} (h8 : q < 4) (h1 : C (60 + q) 0 = 1) : ∃ pos : Nat, (cHs Y C)[pos]? = some (500 + q) ∧ (cWs Z Y C)[pos]? = some (cDa Y (500 + q), (.inl (cAc Z (cRt (C (60 + q) 1)), (C (60 + q) 2).toNatClampNeg, .inl (C (70 + q))) : va_E)) := by
  obtain ⟨pos, hp, hq⟩ := cWs_at (Z := Z) (cHs_R (Y := Y) (C := C) h8 h1)
  rw [cCo_r, cAr_d (by omega)] at hq
  exact ⟨pos, hp, hq⟩
theorem sh_nm (X : CCx p s m args meth c cc nL ret own Z) (f : Int32) : s.vm.findClass (shN (cRt f)) = some (cAc Z (cRt f)) := by
  unfold cRt
  by_cases h0 : f = 0
  · rw [if_pos h0]; exact (X.2.1.2 2 _ rfl).2
  · rw [if_neg h0]
    by_cases h1 : f = 1
    · rw [if_pos h1]; exact (X.2.1.2 3 _ rfl).2
    · rw [if_neg h1]; exact (X.2.1.2 0 _ rfl).2
theorem sh_rc (X : CCx p s m args meth c cc nL ret own Z) (hM : cPD Z Y A C H) {q : Nat} (h8 : q < 4) (h1 : C (60 + q) 0 = 1) : ∃ cell : Cell, H[cDa Y (500 + q)]? = some cell ∧ cell.vm.isStatics = false ∧ s.vm.findClass (shN (cRt (C (60 + q) 1))) = some cell.cls := by
  obtain ⟨pos, hp, hq⟩ := sh_at (Z := Z) (Y := Y) h8 h1
  exact ⟨vp_cell (cAc Z (cRt (C (60 + q) 1))) ((C (60 + q) 2).toNatClampNeg, .inl (C (70 + q))), hM.1 pos _ hq, rfl, sh_nm X _⟩
theorem sh_no (X : CCx p s m args meth c cc nL ret own Z) {a b : String} (i : Nat) (h : cNest[i]? = some (.not (.castable a b))) : va_Nc a b s := va_Nc.of (args := #[]) (X.2.2 _ (List.mem_of_getElem? h))
theorem sh_isY (X : CCx p s m args meth c cc nL ret RX5 Z) (hM : cPD Z Y A C H) {q : Nat} (h8 : q < 4) (h1 : C (60 + q) 0 = 1) {nm : String} (hn : shN (cRt (C (60 + q) 1)) = nm) (hlk : (Cond.classLink RX5 index nm).before args s = true) (hdg : decode cc pc = .ok (.instanceof index, 3)) (kk : W p l e R s m args below meth c H locs cells slots Q (F0 m (pc + 3) ls (.int 1 :: rest))) : W p l e R s m args below meth c H locs cells slots Q (F0 m pc ls (.ref (cDa Y (500 + q)) :: rest)) := by
  obtain ⟨cell, g1, g2, g3⟩ := sh_rc X hM h8 h1
  rw [hn] at g3
  intro T hT X'
  obtain ⟨vm', X2, st⟩ := X'.instanceofYes X.1.1 X.1.2.2.2.2.2.1 hlk (by rw [hT]; exact g1) g2 g3 (va_asg _ _) (g := F0 m pc ls (.ref (cDa Y (500 + q)) :: rest)) rfl rfl (by rw [X.1.2.1]; exact hdg)
  obtain ⟨t, a1, b1⟩ := kk (T.setVm vm') hT X2
  exact ⟨t, st t a1, b1⟩
theorem sh_isN (X : CCx p s m args meth c cc nL ret RX5 Z) (hM : cPD Z Y A C H) {q : Nat} (h8 : q < 4) (h1 : C (60 + q) 0 = 1) {a nm : String} (hn : shN (cRt (C (60 + q) 1)) = a) (hno : va_Nc a nm s) (hlk : (Cond.classLink RX5 index nm).before args s = true) (hdg : decode cc pc = .ok (.instanceof index, 3)) (kk : W p l e R s m args below meth c H locs cells slots Q (F0 m (pc + 3) ls (.int 0 :: rest))) : W p l e R s m args below meth c H locs cells slots Q (F0 m pc ls (.ref (cDa Y (500 + q)) :: rest)) := by
  have hr := sh_rc X hM h8 h1
  rw [hn] at hr
  exact va_instNo X.1.1 X.1.2.1 X.1.2.2.2.2.2.1 hlk hno hr hdg kk
theorem sh_cast (X : CCx p s m args meth c cc nL ret RX5 Z) (hM : cPD Z Y A C H) {q : Nat} (h8 : q < 4) (h1 : C (60 + q) 0 = 1) {nm : String} (hn : shN (cRt (C (60 + q) 1)) = nm) (hlk : (Cond.classLink RX5 index nm).before args s = true) (hdg : decode cc pc = .ok (.checkcast index, 3)) (kk : W p l e R s m args below meth c H locs cells slots Q (F0 m (pc + 3) ls (.ref (cDa Y (500 + q)) :: rest))) : W p l e R s m args below meth c H locs cells slots Q (F0 m pc ls (.ref (cDa Y (500 + q)) :: rest)) := by
  obtain ⟨pos, hp, hq⟩ := sh_at (Z := Z) (Y := Y) h8 h1
  exact va_castA X.1.1 X.1.2.1 X.1.2.2.2.2.2.1 hlk hM.1 pos hq (by rw [← hn]; exact sh_nm X _) hdg kk
theorem sh_len (X : CCx p s m args meth c cc nL ret own Z) (hM : cPD Z Y A C H) {q : Nat} (h8 : q < 4) (h1 : C (60 + q) 0 = 1) (hdg : decode cc pc = .ok (.arraylength, 1)) (kk : W p l e R s m args below meth c H locs cells slots Q (F0 m (pc + 1) ls (.int (Int32.ofNat (C (60 + q) 2).toNatClampNeg) :: rest))) : W p l e R s m args below meth c H locs cells slots Q (F0 m pc ls (.ref (cDa Y (500 + q)) :: rest)) := by
  obtain ⟨pos, hp, hq⟩ := sh_at (Z := Z) (Y := Y) h8 h1
  have ht : ∃ (t0 : Nat) (ty : FieldType), (tysA (cAc Z))[t0]? = some (cAc Z (cRt (C (60 + q) 1)), ty) := by
    unfold cRt
    by_cases h0 : C (60 + q) 1 = 0
    · rw [if_pos h0]; exact ⟨2, .byte, rfl⟩
    · rw [if_neg h0]
      by_cases h1 : C (60 + q) 1 = 1
      · rw [if_pos h1]; exact ⟨3, .short, rfl⟩
      · rw [if_neg h1]; exact ⟨0, .int, rfl⟩
  obtain ⟨t0, ty, ht⟩ := ht
  exact va_alen X.1.1 X.1.2.1 X.2.1 hM.1 pos t0 hq ht rfl hdg kk
/-- a row's world with another number at a place -/
theorem cPD_shu {q i pos : Nat} {v : Int32} {H1 : Heap} (h8 : q < 4) (hw : cWf Y C) (hp : (cHs Y C)[pos]? = some (500 + q))
    (h1 : va_P Z.1 clA ((cWs Z Y C).set pos (cDa Y (500 + q), .inl (cAc Z (cRt (C (60 + q) 1)), (C (60 + q) 2).toNatClampNeg, .inl (upd (C (70 + q)) i v)))) H1) (h2 : va_D A ((cWs Z Y C).set pos (cDa Y (500 + q), .inl (cAc Z (cRt (C (60 + q) 1)), (C (60 + q) 2).toNatClampNeg, .inl (upd (C (70 + q)) i v))))) : cPD Z Y A (upd2 C (70 + q) i v) H1 := by
  have e5 : ∀ b, b ≠ 70 + q → upd2 C (70 + q) i v b = C b := fun b h => upd2_other C i v h
  have eh : cHs Y (upd2 C (70 + q) i v) = cHs Y C := by
    have q0 : (List.range 4).filter (fun s => decide (upd2 C (70 + q) i v (60 + s) 0 = 1)) = (List.range 4).filter (fun s => decide (C (60 + s) 0 = 1)) := by
      apply List.filter_congr
      intro x hx
      have := List.mem_range.mp hx
      rw [e5 (60 + x) (by omega)]
    unfold cHs cNn
    rw [e5 (50 + 0) (by omega), e5 (50 + 1) (by omega), e5 (50 + 2) (by omega), q0]
  have ew : (cDa Y (500 + q), Sum.inl (cAc Z (cRt (C (60 + q) 1)), (C (60 + q) 2).toNatClampNeg, Sum.inl (upd (C (70 + q)) i v))) = (cAr Z Y (500 + q), cCo Z Y (upd2 C (70 + q) i v) (500 + q)) := by
    rw [cCo_r, cAr_d (by omega), e5 (60 + q) (by omega), upd2_same]
  have ec : ∀ k', k' ∈ cHs Y C → k' ≠ 500 + q → cCo Z Y (upd2 C (70 + q) i v) k' = cCo Z Y C k' := by
    intro k' hk' hne
    have b0 := (hw 0 (by decide)).1
    have b1 := (hw 1 (by decide)).1
    have b2 := (hw 2 (by decide)).1
    rcases cHs_ge hw hk' with ⟨hs, z⟩ | ⟨d, hd, rfl⟩ | ⟨d, hd, rfl⟩ | ⟨d, hd, rfl⟩ | ⟨j, hj, -, rfl⟩ | ⟨t, ht, -, rfl⟩
    · unfold cCo
      rw [if_pos z, if_pos z]
      have hne2 : k' ≠ 70 + q := by
        rintro rfl
        match q, h8, hs with
        | 0, _, hs => exact absurd hs (by decide)
        | 1, _, hs => exact absurd hs (by decide)
        | 2, _, hs => exact absurd hs (by decide)
        | 3, _, hs => exact absurd hs (by decide)
      exact cSt_congr6 (e5 k' hne2) (fun b g1 g2 => e5 b (by omega))
    · rw [cCo_d (by omega), cCo_d (by omega), e5 _ (by omega)]
    · rw [cCo_g (by omega), cCo_g (by omega), e5 _ (by omega)]
    · rw [cCo_a (by omega), cCo_a (by omega), e5 _ (by omega)]
    · rw [cCo_e (by omega), cCo_e (by omega), show cNn (upd2 C (70 + q) i v) j = cNn C j by unfold cNn; rw [e5 _ (by omega)]]
    · rw [cCo_r, cCo_r, e5 (60 + t) (by omega), e5 (70 + t) (by omega)]
  rw [ew, cWs_set hw hp eh ec] at h1 h2
  refine ⟨h1, h2, fun j hj => ?_⟩
  have := hw j hj
  unfold cNn at this ⊢
  rw [e5 (50 + j) (by omega)]
  exact this
theorem sh_ald2 (X : CCx p s m args meth c cc nL ret own Z) (hM : cPD Z Y A C H) {q : Nat} (h8 : q < 4) (h1 : C (60 + q) 0 = 1) (hf : cRt (C (60 + q) 1) = 2) {i : Int32} (hi : vp_in i (C (60 + q) 2).toNatClampNeg) (hdg : decode cc pc = .ok (.baload, 1)) (kk : ∀ v : Int32, v = C (70 + q) i.toNatClampNeg → W p l e R s m args below meth c H locs cells slots Q (F0 m (pc + 1) ls (.int v :: rest))) : W p l e R s m args below meth c H locs cells slots Q (F0 m pc ls (.int i :: .ref (cDa Y (500 + q)) :: rest)) := by
  obtain ⟨pos, hp, hq⟩ := sh_at (Z := Z) (Y := Y) h8 h1
  rw [hf] at hq
  exact va_bald X.1.1 X.1.2.1 X.2.1 hM.1 pos 2 hq rfl hi hdg (kk _ rfl)
theorem sh_ast2 (X : CCx p s m args meth c cc nL ret own Z) (hM : cPD Z Y A C H) (hS : va_S A H0 H locs) {q : Nat} (h8 : q < 4) (h1 : C (60 + q) 0 = 1) (hf : cRt (C (60 + q) 1) = 2) {i x : Int32} (hi : vp_in i (C (60 + q) 2).toNatClampNeg) (hdg : decode cc pc = .ok (.bastore, 1)) (kk : ∀ (H1 : Heap) (locs1 : List Loc) (J : St), J = upd2 C (70 + q) i.toNatClampNeg (vp_nar .byte x) → cPD Z Y A J H1 → va_S A H0 H1 locs1 → W p l e R s m args below meth c H1 locs1 cells slots Q (F0 m (pc + 1) ls rest)) : W p l e R s m args below meth c H locs cells slots Q (F0 m pc ls (.int x :: .int i :: .ref (cDa Y (500 + q)) :: rest)) := by
  obtain ⟨pos, hp, hq⟩ := sh_at (Z := Z) (Y := Y) h8 h1
  have hq2 := hq
  rw [hf] at hq2
  refine va_bast X.1.1 X.1.2.1 X.2.1 hM.1 hM.2.1 hS pos 2 hq2 rfl hi hdg (fun H1 locs1 g1 g2 g3 => kk H1 locs1 _ rfl (cPD_shu h8 hM.2.2 hp (by rw [hf]; exact g1) (by rw [hf]; exact g2)) g3)
theorem sh_ald3 (X : CCx p s m args meth c cc nL ret own Z) (hM : cPD Z Y A C H) {q : Nat} (h8 : q < 4) (h1 : C (60 + q) 0 = 1) (hf : cRt (C (60 + q) 1) = 3) {i : Int32} (hi : vp_in i (C (60 + q) 2).toNatClampNeg) (hdg : decode cc pc = .ok (.saload, 1)) (kk : ∀ v : Int32, v = C (70 + q) i.toNatClampNeg → W p l e R s m args below meth c H locs cells slots Q (F0 m (pc + 1) ls (.int v :: rest))) : W p l e R s m args below meth c H locs cells slots Q (F0 m pc ls (.int i :: .ref (cDa Y (500 + q)) :: rest)) := by
  obtain ⟨pos, hp, hq⟩ := sh_at (Z := Z) (Y := Y) h8 h1
  rw [hf] at hq
  exact va_sald X.1.1 X.1.2.1 X.2.1 hM.1 pos 3 hq rfl hi hdg (kk _ rfl)
theorem sh_ast3 (X : CCx p s m args meth c cc nL ret own Z) (hM : cPD Z Y A C H) (hS : va_S A H0 H locs) {q : Nat} (h8 : q < 4) (h1 : C (60 + q) 0 = 1) (hf : cRt (C (60 + q) 1) = 3) {i x : Int32} (hi : vp_in i (C (60 + q) 2).toNatClampNeg) (hdg : decode cc pc = .ok (.sastore, 1)) (kk : ∀ (H1 : Heap) (locs1 : List Loc) (J : St), J = upd2 C (70 + q) i.toNatClampNeg (vp_nar .short x) → cPD Z Y A J H1 → va_S A H0 H1 locs1 → W p l e R s m args below meth c H1 locs1 cells slots Q (F0 m (pc + 1) ls rest)) : W p l e R s m args below meth c H locs cells slots Q (F0 m pc ls (.int x :: .int i :: .ref (cDa Y (500 + q)) :: rest)) := by
  obtain ⟨pos, hp, hq⟩ := sh_at (Z := Z) (Y := Y) h8 h1
  have hq2 := hq
  rw [hf] at hq2
  refine va_sast X.1.1 X.1.2.1 X.2.1 hM.1 hM.2.1 hS pos 3 hq2 rfl hi hdg (fun H1 locs1 g1 g2 g3 => kk H1 locs1 _ rfl (cPD_shu h8 hM.2.2 hp (by rw [hf]; exact g1) (by rw [hf]; exact g2)) g3)
theorem sh_ald0 (X : CCx p s m args meth c cc nL ret own Z) (hM : cPD Z Y A C H) {q : Nat} (h8 : q < 4) (h1 : C (60 + q) 0 = 1) (hf : cRt (C (60 + q) 1) = 0) {i : Int32} (hi : vp_in i (C (60 + q) 2).toNatClampNeg) (hdg : decode cc pc = .ok (.iaload, 1)) (kk : ∀ v : Int32, v = C (70 + q) i.toNatClampNeg → W p l e R s m args below meth c H locs cells slots Q (F0 m (pc + 1) ls (.int v :: rest))) : W p l e R s m args below meth c H locs cells slots Q (F0 m pc ls (.int i :: .ref (cDa Y (500 + q)) :: rest)) := by
  obtain ⟨pos, hp, hq⟩ := sh_at (Z := Z) (Y := Y) h8 h1
  rw [hf] at hq
  exact va_iald X.1.1 X.1.2.1 X.2.1 hM.1 pos 0 hq rfl hi hdg (kk _ rfl)
theorem sh_ast0 (X : CCx p s m args meth c cc nL ret own Z) (hM : cPD Z Y A C H) (hS : va_S A H0 H locs) {q : Nat} (h8 : q < 4) (h1 : C (60 + q) 0 = 1) (hf : cRt (C (60 + q) 1) = 0) {i x : Int32} (hi : vp_in i (C (60 + q) 2).toNatClampNeg) (hdg : decode cc pc = .ok (.iastore, 1)) (kk : ∀ (H1 : Heap) (locs1 : List Loc) (J : St), J = upd2 C (70 + q) i.toNatClampNeg x → cPD Z Y A J H1 → va_S A H0 H1 locs1 → W p l e R s m args below meth c H1 locs1 cells slots Q (F0 m (pc + 1) ls rest)) : W p l e R s m args below meth c H locs cells slots Q (F0 m pc ls (.int x :: .int i :: .ref (cDa Y (500 + q)) :: rest)) := by
  obtain ⟨pos, hp, hq⟩ := sh_at (Z := Z) (Y := Y) h8 h1
  have hq2 := hq
  rw [hf] at hq2
  refine va_iast X.1.1 X.1.2.1 X.2.1 hM.1 hM.2.1 hS pos 0 hq2 rfl hi hdg (fun H1 locs1 g1 g2 g3 => kk H1 locs1 _ rfl (cPD_shu h8 hM.2.2 hp (by rw [hf]; exact g1) (by rw [hf]; exact g2)) g3)
end SHR
/-! Sheet.type -/
def cfS_type (C : St) (x0 : Nat) : Option Int32 := gd_ (x0 < 4) <| gd_ (C (60 + x0) 0 = 1) <| some (shT (C (60 + x0) 1))
def cfS_type_rm : Room := { frames := 0, cells := 0, slots := 0, locals := 0 }
theorem cfS_type_hd : yX5_type.cls = RX5 ∧ yX5_type.cls ≠ "java/lang/invoke/MethodHandle" ∧ yX5_type.cls ≠ "java/lang/invoke/VarHandle" ∧ (parseMethodDescriptor yX5_type.desc).map (fun d => d.parameters.length) = some 0 := by decide +kernel
set_option maxHeartbeats 4000000 in
theorem cfS_type_met (l : Launch) (Z : CZ) (Y : CY) (A : Nat → Prop) (C : St) (x0 : Nat) (r : Int32) (h : cfS_type C x0 = some r) : Met l yX5_type (ws_ yX5_type cX5_type 1 (some .int)) cfS_type_rm (va_Pc [.ref (cSa Z (90 + x0))] (cS Z Y A C)) (Qro (some (.int r))) 0 0 (cFr Z) := by
  refine Met.ofW (cc := cX5_type) (maxL := 1) (ret := some .int) (by decide) rfl ?_
  intro p e s m args below meth c s₁ B hml hv
  obtain ⟨rfl, hv⟩ := hv
  have hts := atoms_spec (ws := ws_ yX5_type cX5_type 1 (some .int)) B.pre
  have hts : ∀ w ∈ lw_all, w.before _ s = true := fun w h => hts w (List.mem_cons_of_mem _ h)
  have X : CCx p s m _ meth c cX5_type 1 (some .int) RX5 Z := ⟨⟨B.exec, B.bytes, B.returns, B.notSynchronized, hml, findClass_of_methodNamed B.named, hts⟩, hv.2⟩
  have hl := lv_entry [.ref (cSa Z (90 + x0))] (n := 1) (Nat.le_of_ble_eq_true rfl)
  rw [lg_entry_eq]
  generalize (lg_sl [.ref (cSa Z (90 + x0))] ++ List.replicate (1 - (lg_sl [.ref (cSa Z (90 + x0))]).length) Slot.unset).toArray = ls at hl ⊢
  have hl : lv_has ls 1 [(0, .ref (cSa Z (90 + x0)))] := hl
  obtain ⟨⟨hx, hb, hr, hlocks, hml, hown, -⟩, hK⟩ := id X
  have hM := hv.1
  unfold cfS_type at h
  obtain ⟨h8, h⟩ := gd_e h
  obtain ⟨h1, h⟩ := gd_e h
  have h := so_ h
  refine lv_aload_n hx hb dX5_type_0 rfl (lv_at hl 0 rfl) ?_
  refine gs7 X hM h8 h1 dX5_type_1 ?_
  by_cases c0 : C (60 + x0) 1 = 0
  · have er : r = 0 := by rw [← h]; exact if_pos c0
    subst er
    refine sh_isY X hM h8 h1 (nm := "[B") (by rw [show cRt (C (60 + x0) 1) = 2 from if_pos c0]; rfl) (hts _ q339) dX5_type_4 ?_
    refine lv_if_eq (tgt := 14) hx hb dX5_type_7 (by decide) (fun c1 => absurd c1 (by decide)) (fun _ => ?_)
    refine lv_iconst (v := 0) hx hb dX5_type_10 (by decide) ?_
    refine lv_goto (tgt := 29) hx hb dX5_type_11 (by decide) ?_
    exact W.iret hx hb hr (fun t ht hW => ⟨rfl, ht⟩) (fun q hq => by cases hq) dX5_type_29
  · by_cases c1 : C (60 + x0) 1 = 1
    · have er : r = 1 := by rw [← h]; exact (if_neg c0).trans (if_pos c1)
      have et : cRt (C (60 + x0) 1) = 3 := (if_neg c0).trans (if_pos c1)
      subst er
      refine sh_isN X hM h8 h1 (a := "[S") (nm := "[B") (by rw [et]; rfl) (sh_no X 20 rfl) (hts _ q339) dX5_type_4 ?_
      refine lv_if_eq (tgt := 14) hx hb dX5_type_7 (by decide) (fun _ => ?_) (fun c1 => absurd rfl c1)
      refine lv_aload_n hx hb dX5_type_14 rfl (lv_at hl 0 rfl) ?_
      refine gs7 X hM h8 h1 dX5_type_15 ?_
      refine sh_isY X hM h8 h1 (nm := "[S") (by rw [et]; rfl) (hts _ q340) dX5_type_18 ?_
      refine lv_if_eq (tgt := 28) hx hb dX5_type_21 (by decide) (fun c1 => absurd c1 (by decide)) (fun _ => ?_)
      refine lv_iconst (v := 1) hx hb dX5_type_24 (by decide) ?_
      refine lv_goto (tgt := 29) hx hb dX5_type_25 (by decide) ?_
      exact W.iret hx hb hr (fun t ht hW => ⟨rfl, ht⟩) (fun q hq => by cases hq) dX5_type_29
    · have er : r = 2 := by rw [← h]; exact (if_neg c0).trans (if_neg c1)
      have et : cRt (C (60 + x0) 1) = 0 := (if_neg c0).trans (if_neg c1)
      subst er
      refine sh_isN X hM h8 h1 (a := "[I") (nm := "[B") (by rw [et]; rfl) (sh_no X 21 rfl) (hts _ q339) dX5_type_4 ?_
      refine lv_if_eq (tgt := 14) hx hb dX5_type_7 (by decide) (fun _ => ?_) (fun c1 => absurd rfl c1)
      refine lv_aload_n hx hb dX5_type_14 rfl (lv_at hl 0 rfl) ?_
      refine gs7 X hM h8 h1 dX5_type_15 ?_
      refine sh_isN X hM h8 h1 (a := "[I") (nm := "[S") (by rw [et]; rfl) (sh_no X 22 rfl) (hts _ q340) dX5_type_18 ?_
      refine lv_if_eq (tgt := 28) hx hb dX5_type_21 (by decide) (fun _ => ?_) (fun c1 => absurd rfl c1)
      refine lv_iconst (v := 2) hx hb dX5_type_28 (by decide) ?_
      exact W.iret hx hb hr (fun t ht hW => ⟨rfl, ht⟩) (fun q hq => by cases hq) dX5_type_29
