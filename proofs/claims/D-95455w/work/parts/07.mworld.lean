/-! THE MODEL'S WORLD: one object, its arrays of numbers in banks -/
abbrev mLen : Nat → Nat := fun k => match k with
  | 0 => 2
  | 1 => 160
  | 3 => 9
  | 4 => 9
  | 5 => 9
  | 6 => 9
  | 7 => 9
  | 9 => 4
  | 10 => 4
  | 11 => 4
  | 12 => 8
  | 13 => 8
  | 14 => 8
  | 15 => 8
  | 16 => 8
  | 17 => 4
  | 18 => 2048
  | 19 => 256
  | 20 => 256
  | 21 => 8
  | 27 => 10
  | 28 => 10
  | 29 => 10
  | 31 => 10
  | 32 => 10
  | 33 => 4
  | 34 => 4
  | 35 => 4
  | 36 => 240
  | 37 => 60
  | _ => 0
abbrev mTy : Nat → Nat := fun k => match k with
  | 33 => 1
  | _ => 0
abbrev mIds : List Nat := [0, 1, 3, 4, 5, 6, 7, 9, 10, 11, 12, 13, 14, 15, 16, 17, 18, 19, 20, 21, 27, 28, 29, 31, 32, 33, 34, 35, 36, 37]
abbrev mArr (k : Nat) : Bool := mIds.contains k
abbrev MZ : Type := va_G × (Nat → ClassId) × Nat × (Nat → Nat)
abbrev mH (Z : MZ) : Nat := Z.2.2.1
abbrev mAd (Z : MZ) : Nat → Nat := Z.2.2.2
abbrev mAc (Z : MZ) : Nat → ClassId := Z.2.1
def mFs (Z : MZ) (I : St) : List Value := [.ref (mAd Z 0), .ref (mAd Z 1), .int (I 2 0), .ref (mAd Z 3), .ref (mAd Z 4), .ref (mAd Z 5), .ref (mAd Z 6), .ref (mAd Z 7), .int (I 8 0), .ref (mAd Z 9), .ref (mAd Z 10), .ref (mAd Z 11), .ref (mAd Z 12), .ref (mAd Z 13), .ref (mAd Z 14), .ref (mAd Z 15), .ref (mAd Z 16), .ref (mAd Z 17), .ref (mAd Z 18), .ref (mAd Z 19), .ref (mAd Z 20), .ref (mAd Z 21), .int (I 22 0), .int (I 23 0), .int (I 24 0), .int (I 25 0), .int (I 26 0), .ref (mAd Z 27), .ref (mAd Z 28), .ref (mAd Z 29), .int (I 30 0), .ref (mAd Z 31), .ref (mAd Z 32), .ref (mAd Z 33), .ref (mAd Z 34), .ref (mAd Z 35), .ref (mAd Z 36), .ref (mAd Z 37), .int (I 38 0)]
def mCell (Z : MZ) (I : St) (k : Nat) : Nat × va_E := (mAd Z k, .inl (mAc Z (mTy k), mLen k, .inl (I k)))
def mWs (Z : MZ) (I : St) : va_W := (mH Z, .inr (0, mFs Z I)) :: mIds.map (mCell Z I)
def mA (Z : MZ) : Nat → Prop := fun q => q = mH Z ∨ ∃ k, k ∈ mIds ∧ q = mAd Z k
def mPD (Z : MZ) (I : St) (H : Heap) : Prop := va_P Z.1 clA (mWs Z I) H ∧ va_D (mA Z) (mWs Z I)
def mIn (Z : MZ) (s : State) (I : St) (H : Heap) (locs : List Loc) : Prop := mPD Z I H ∧ va_S (mA Z) s.heap H locs
def mS (Z : MZ) (I : St) (U : State) : Prop := mPD Z I U.heap ∧ va_K Z.1 clA (tysA (mAc Z)) U
def MCx (p : Program) (s : State) (m : MethodId) (args : Array Value) (meth : Method) (c : Code) (cc : ByteArray) (nL : Nat) (ret : Option FieldType) (Z : MZ) : Prop := SCx p s m args meth c cc nL ret RX6 ∧ va_K Z.1 clA (tysA (mAc Z)) s
theorem mWs_at (Z : MZ) (I : St) {pos k : Nat} (h : mIds[pos]? = some k) : (mWs Z I)[pos + 1]? = some (mCell Z I k) := by
  show (mIds.map (mCell Z I))[pos]? = _
  rw [List.getElem?_map, h]
  rfl
theorem mIds_inj : ∀ i, i < 30 → ∀ j, j < 30 → mIds[i]? = mIds[j]? → i = j := by decide +kernel
theorem mFs_upd (Z : MZ) (I : St) {k : Nat} (hk : k ∈ mIds) (i : Nat) (v : Int32) : mFs Z (upd2 I k i v) = mFs Z I := by
  simp only [List.mem_cons, List.not_mem_nil, or_false] at hk
  rcases hk with rfl | rfl | rfl | rfl | rfl | rfl | rfl | rfl | rfl | rfl | rfl | rfl | rfl | rfl | rfl | rfl | rfl | rfl | rfl | rfl | rfl | rfl | rfl | rfl | rfl | rfl | rfl | rfl | rfl | rfl <;> rfl
theorem mWs_set (Z : MZ) (I : St) {pos k : Nat} (h : mIds[pos]? = some k) (i : Nat) (v : Int32) :
    (mWs Z I).set (pos + 1) (mAd Z k, .inl (mAc Z (mTy k), mLen k, .inl (upd (I k) i v))) = mWs Z (upd2 I k i v) := by
  show (mH Z, .inr (0, mFs Z I)) :: (mIds.map (mCell Z I)).set pos _ = (mH Z, .inr (0, mFs Z (upd2 I k i v))) :: mIds.map (mCell Z (upd2 I k i v))
  rw [mFs_upd Z I (List.mem_of_getElem? h)]
  congr 1
  apply List.ext_getElem?
  intro j
  rw [List.getElem?_set, List.getElem?_map, List.getElem?_map]
  have hp : pos < 30 := (List.getElem?_eq_some_iff.mp h).1
  by_cases hj : pos = j
  · subst hj
    rw [if_pos rfl, h]
    simp only [List.length_map]
    rw [if_pos (show pos < mIds.length from hp)]
    simp [mCell, upd2_same]
  · rw [if_neg hj]
    cases hm : mIds[j]? with
    | none => rfl
    | some k2 =>
      have hj2 : j < 30 := (List.getElem?_eq_some_iff.mp hm).1
      have hne : k2 ≠ k := by
        intro e
        subst e
        exact hj (mIds_inj pos hp j hj2 (by rw [h, hm]))
      simp [mCell, upd2_other I i v hne]
theorem mPD.alike {Z : MZ} {I J : St} {A : Nat → Prop} (h : va_D A (mWs Z I)) : va_D A (mWs Z J) := by
  have e : ∀ (k : Nat) (q : Nat × va_E), (mWs Z J)[k]? = some q → ∃ x, (mWs Z I)[k]? = some (q.1, x) := by
    intro k q hq
    cases k with
    | zero => cases hq; exact ⟨_, rfl⟩
    | succ k =>
      have hq : (mIds.map (mCell Z J))[k]? = some q := hq
      rw [List.getElem?_map] at hq
      cases hm : mIds[k]? with
      | none => rw [hm] at hq; cases hq
      | some k2 =>
        rw [hm] at hq
        cases hq
        exact ⟨_, mWs_at Z I hm⟩
  refine ⟨fun i j x y hx hy hxy => ?_, fun k q hq => ?_⟩
  · obtain ⟨x2, h1⟩ := e i x hx
    obtain ⟨y2, h2⟩ := e j y hy
    exact h.1 i j _ _ h1 h2 hxy
  · obtain ⟨x2, h1⟩ := e k q hq
    exact h.2 k (q.1, x2) h1
section MW
variable {p : Program} {l : Launch} {e : Env} {R : Room} {s : State} {m : MethodId} {args : Array Value} {below : List Frame} {meth : Method} {c : Code} {H : Heap} {locs : List Loc} {cells slots : Nat} {Q : State → Prop}
variable {pc : Nat} {ls : Array Slot} {rest st0 As : List Value} {cc bytes : ByteArray} {nL maxL index n : Nat} {ret ret' : Option FieldType} {y : MethodName} {rm : Room} {Z : MZ} {I : St}
theorem m_ald (C : MCx p s m args meth c cc nL ret Z) (hM : mPD Z I H) {pos k : Nat} (hk : mIds[pos]? = some k) (ht : mTy k = 0) {i : Int32} (hi : vp_in i (mLen k)) (hdg : decode cc pc = .ok (.iaload, 1))
    (kk : ∀ v : Int32, v = I k i.toNatClampNeg → W p l e R s m args below meth c H locs cells slots Q (F0 m (pc + 1) ls (.int v :: rest))) : W p l e R s m args below meth c H locs cells slots Q (F0 m pc ls (.int i :: .ref (mAd Z k) :: rest)) :=
  va_iald C.1.1 C.1.2.1 C.2 hM.1 (pos + 1) 0 (mWs_at Z I hk) (by rw [ht]; rfl) hi hdg (kk _ rfl)
theorem m_zald (C : MCx p s m args meth c cc nL ret Z) (hM : mPD Z I H) {pos k : Nat} (hk : mIds[pos]? = some k) (ht : mTy k = 1) {i : Int32} (hi : vp_in i (mLen k)) (hdg : decode cc pc = .ok (.baload, 1))
    (kk : ∀ v : Int32, v = I k i.toNatClampNeg → W p l e R s m args below meth c H locs cells slots Q (F0 m (pc + 1) ls (.int v :: rest))) : W p l e R s m args below meth c H locs cells slots Q (F0 m pc ls (.int i :: .ref (mAd Z k) :: rest)) :=
  va_zald C.1.1 C.1.2.1 C.2 hM.1 (pos + 1) 1 (mWs_at Z I hk) (by rw [ht]; rfl) hi hdg (kk _ rfl)
theorem m_ast (C : MCx p s m args meth c cc nL ret Z) (hM : mIn Z s I H locs) {pos k : Nat} (hk : mIds[pos]? = some k) (ht : mTy k = 0) {i x : Int32} (hi : vp_in i (mLen k)) (hdg : decode cc pc = .ok (.iastore, 1))
    (kk : ∀ (H1 : Heap) (locs1 : List Loc) (J : St), J = upd2 I k i.toNatClampNeg x → mIn Z s J H1 locs1 → W p l e R s m args below meth c H1 locs1 cells slots Q (F0 m (pc + 1) ls rest)) : W p l e R s m args below meth c H locs cells slots Q (F0 m pc ls (.int x :: .int i :: .ref (mAd Z k) :: rest)) :=
  va_iast C.1.1 C.1.2.1 C.2 hM.1.1 hM.1.2 hM.2 (pos + 1) 0 (mWs_at Z I hk) (by rw [ht]; rfl) hi hdg (fun H1 locs1 h1 h2 h3 => by
    rw [mWs_set Z I hk] at h1 h2
    exact kk H1 locs1 _ rfl ⟨⟨h1, h2⟩, h3⟩)
theorem m_zast (C : MCx p s m args meth c cc nL ret Z) (hM : mIn Z s I H locs) {pos k : Nat} (hk : mIds[pos]? = some k) (ht : mTy k = 1) {i x : Int32} (hi : vp_in i (mLen k)) (hdg : decode cc pc = .ok (.bastore, 1))
    (kk : ∀ (H1 : Heap) (locs1 : List Loc) (J : St), J = upd2 I k i.toNatClampNeg (x &&& 1) → mIn Z s J H1 locs1 → W p l e R s m args below meth c H1 locs1 cells slots Q (F0 m (pc + 1) ls rest)) : W p l e R s m args below meth c H locs cells slots Q (F0 m pc ls (.int x :: .int i :: .ref (mAd Z k) :: rest)) :=
  va_zast C.1.1 C.1.2.1 C.2 hM.1.1 hM.1.2 hM.2 (pos + 1) 1 (mWs_at Z I hk) (by rw [ht]; rfl) hi hdg (fun H1 locs1 h1 h2 h3 => by
    rw [mWs_set Z I hk] at h1 h2
    exact kk H1 locs1 _ rfl ⟨⟨h1, h2⟩, h3⟩)
theorem m_recv (C : MCx p s m args meth c cc nL ret Z) (hM : mPD Z I H) : ∃ cell : Cell, H[mH Z]? = some cell ∧ cell.vm.isStatics = false ∧ s.vm.findClass RX6 = some cell.cls := va_recv (ci := 0) (q0 := 0) C.2 hM.1 rfl rfl
theorem mS.blind {Z : MZ} {I : St} {av : List Value} : FrameBlind (va_Pc av (mS Z I)) := fun a U g mk q => ⟨q.1, q.2.1, va_K.moved (u := U) (U := U.calling g mk a) (Vm.Alike.refl U.vm) q.2.2⟩
/-- a call of a method that only reads -/
theorem m_ro {v : Option Value} (C : MCx p s m args meth c cc nL ret Z) (hM : mPD Z I H) (hT : Met l y (ws_ y bytes maxL ret') rm (va_Pc (.ref (mH Z) :: As) (mS Z I)) (Qro v) 0 0 (fun _ => False)) (hq : GoodIn lw_all (wsV RX6 index RX6 y (ws_ y bytes maxL ret')))
    (hd : y.cls = RX6 ∧ y.cls ≠ "java/lang/invoke/MethodHandle" ∧ y.cls ≠ "java/lang/invoke/VarHandle" ∧ (parseMethodDescriptor y.desc).map (fun d => d.parameters.length) = some n)
    (hrm : rm.cells = 0 ∧ rm.slots = 0) (hR : rm.frames + 1 ≤ R.frames ∧ 8 + (maxL + 11) + rm.locals ≤ R.locals) (hc : cells ≤ R.cells ∧ slots ≤ R.slots) (hn : As.length = n) (hs : ls.size = nL) (hst : st0 = As.reverse ++ .ref (mH Z) :: rest) (hw : (rest.map fun v => v.category).sum ≤ 8) (hdg : decode cc pc = .ok (.invokevirtual index, 3))
    (kk : W p l e R s m args below meth c H locs cells slots Q (F0 m (pc + 3) ls (v.toList ++ rest))) : W p l e R s m args below meth c H locs cells slots Q (F0 m pc ls st0) :=
  c_ro (va_runV (As := As) (rest := rest) C.1.fix hT (cwV n C.1.2.2.2.2.2.2 hq rfl hrm.1 hrm.2 hd hR) ⟨mS.blind, m_recv C hM, fun U hU hW => ⟨rfl, by rw [hU]; exact hM, va_K.moved hW.alike C.2⟩⟩ rfl hn hs hst (lv_room hw) hdg hc) kk
/-- a call of a method that writes -/
theorem m_wr {v : Option Value} {J : St} (C : MCx p s m args meth c cc nL ret Z) (hM : mIn Z s I H locs) (hT : Met l y (ws_ y bytes maxL ret') rm (va_Pc (.ref (mH Z) :: As) (mS Z I)) (Qwr v (mS Z J) (mA Z)) 0 0 (mA Z)) (hq : GoodIn lw_all (wsV RX6 index RX6 y (ws_ y bytes maxL ret')))
    (hd : y.cls = RX6 ∧ y.cls ≠ "java/lang/invoke/MethodHandle" ∧ y.cls ≠ "java/lang/invoke/VarHandle" ∧ (parseMethodDescriptor y.desc).map (fun d => d.parameters.length) = some n)
    (hrm : rm.cells = 0 ∧ rm.slots = 0) (hR : rm.frames + 1 ≤ R.frames ∧ 8 + (maxL + 11) + rm.locals ≤ R.locals) (hc : cells ≤ R.cells ∧ slots ≤ R.slots) (hn : As.length = n) (hs : ls.size = nL) (hst : st0 = As.reverse ++ .ref (mH Z) :: rest) (hw : (rest.map fun v => v.category).sum ≤ 8) (hdg : decode cc pc = .ok (.invokevirtual index, 3))
    (kk : ∀ (H1 : Heap) (locs1 : List Loc), mIn Z s J H1 locs1 → W p l e R s m args below meth c H1 locs1 cells slots Q (F0 m (pc + 3) ls (v.toList ++ rest))) : W p l e R s m args below meth c H locs cells slots Q (F0 m pc ls st0) :=
  c_wr (va_runV (As := As) (rest := rest) C.1.fix hT (cwV n C.1.2.2.2.2.2.2 hq rfl hrm.1 hrm.2 hd hR) ⟨mS.blind, m_recv C hM.1, fun U hU hW => ⟨rfl, by rw [hU]; exact hM.1, va_K.moved hW.alike C.2⟩⟩ rfl hn hs hst (lv_room hw) hdg hc) hM.2 (fun _ _ h => h) (fun _ h => h)
    (fun t H1 locs1 ht _ hB _ _ hS => kk H1 locs1 ⟨by rw [← ht]; exact hB.1, hS⟩)
theorem m_roI {v : Int32} (C : MCx p s m args meth c cc nL ret Z) (hM : mPD Z I H) (hT : Met l y (ws_ y bytes maxL ret') rm (va_Pc (.ref (mH Z) :: As) (mS Z I)) (Qro (some (.int v))) 0 0 (fun _ => False)) (hq : GoodIn lw_all (wsV RX6 index RX6 y (ws_ y bytes maxL ret')))
    (hd : y.cls = RX6 ∧ y.cls ≠ "java/lang/invoke/MethodHandle" ∧ y.cls ≠ "java/lang/invoke/VarHandle" ∧ (parseMethodDescriptor y.desc).map (fun d => d.parameters.length) = some n)
    (hrm : rm.cells = 0 ∧ rm.slots = 0) (hR : rm.frames + 1 ≤ R.frames ∧ 8 + (maxL + 11) + rm.locals ≤ R.locals) (hc : cells ≤ R.cells ∧ slots ≤ R.slots) (hn : As.length = n) (hs : ls.size = nL) (hst : st0 = As.reverse ++ .ref (mH Z) :: rest) (hw : (rest.map fun v => v.category).sum ≤ 8) (hdg : decode cc pc = .ok (.invokevirtual index, 3))
    (kk : W p l e R s m args below meth c H locs cells slots Q (F0 m (pc + 3) ls (.int v :: rest))) : W p l e R s m args below meth c H locs cells slots Q (F0 m pc ls st0) :=
  m_ro C hM hT hq hd hrm hR hc hn hs hst hw hdg kk
theorem m_roJ {v : Int64} (C : MCx p s m args meth c cc nL ret Z) (hM : mPD Z I H) (hT : Met l y (ws_ y bytes maxL ret') rm (va_Pc (.ref (mH Z) :: As) (mS Z I)) (Qro (some (.long v))) 0 0 (fun _ => False)) (hq : GoodIn lw_all (wsV RX6 index RX6 y (ws_ y bytes maxL ret')))
    (hd : y.cls = RX6 ∧ y.cls ≠ "java/lang/invoke/MethodHandle" ∧ y.cls ≠ "java/lang/invoke/VarHandle" ∧ (parseMethodDescriptor y.desc).map (fun d => d.parameters.length) = some n)
    (hrm : rm.cells = 0 ∧ rm.slots = 0) (hR : rm.frames + 1 ≤ R.frames ∧ 8 + (maxL + 11) + rm.locals ≤ R.locals) (hc : cells ≤ R.cells ∧ slots ≤ R.slots) (hn : As.length = n) (hs : ls.size = nL) (hst : st0 = As.reverse ++ .ref (mH Z) :: rest) (hw : (rest.map fun v => v.category).sum ≤ 8) (hdg : decode cc pc = .ok (.invokevirtual index, 3))
    (kk : W p l e R s m args below meth c H locs cells slots Q (F0 m (pc + 3) ls (.long v :: rest))) : W p l e R s m args below meth c H locs cells slots Q (F0 m pc ls st0) :=
  m_ro C hM hT hq hd hrm hR hc hn hs hst hw hdg kk
theorem m_wrI {v : Int32} {J : St} (C : MCx p s m args meth c cc nL ret Z) (hM : mIn Z s I H locs) (hT : Met l y (ws_ y bytes maxL ret') rm (va_Pc (.ref (mH Z) :: As) (mS Z I)) (Qwr (some (.int v)) (mS Z J) (mA Z)) 0 0 (mA Z)) (hq : GoodIn lw_all (wsV RX6 index RX6 y (ws_ y bytes maxL ret')))
    (hd : y.cls = RX6 ∧ y.cls ≠ "java/lang/invoke/MethodHandle" ∧ y.cls ≠ "java/lang/invoke/VarHandle" ∧ (parseMethodDescriptor y.desc).map (fun d => d.parameters.length) = some n)
    (hrm : rm.cells = 0 ∧ rm.slots = 0) (hR : rm.frames + 1 ≤ R.frames ∧ 8 + (maxL + 11) + rm.locals ≤ R.locals) (hc : cells ≤ R.cells ∧ slots ≤ R.slots) (hn : As.length = n) (hs : ls.size = nL) (hst : st0 = As.reverse ++ .ref (mH Z) :: rest) (hw : (rest.map fun v => v.category).sum ≤ 8) (hdg : decode cc pc = .ok (.invokevirtual index, 3))
    (kk : ∀ (H1 : Heap) (locs1 : List Loc), mIn Z s J H1 locs1 → W p l e R s m args below meth c H1 locs1 cells slots Q (F0 m (pc + 3) ls (.int v :: rest))) : W p l e R s m args below meth c H locs cells slots Q (F0 m pc ls st0) :=
  m_wr C hM hT hq hd hrm hR hc hn hs hst hw hdg kk
theorem m_wrJ {v : Int64} {J : St} (C : MCx p s m args meth c cc nL ret Z) (hM : mIn Z s I H locs) (hT : Met l y (ws_ y bytes maxL ret') rm (va_Pc (.ref (mH Z) :: As) (mS Z I)) (Qwr (some (.long v)) (mS Z J) (mA Z)) 0 0 (mA Z)) (hq : GoodIn lw_all (wsV RX6 index RX6 y (ws_ y bytes maxL ret')))
    (hd : y.cls = RX6 ∧ y.cls ≠ "java/lang/invoke/MethodHandle" ∧ y.cls ≠ "java/lang/invoke/VarHandle" ∧ (parseMethodDescriptor y.desc).map (fun d => d.parameters.length) = some n)
    (hrm : rm.cells = 0 ∧ rm.slots = 0) (hR : rm.frames + 1 ≤ R.frames ∧ 8 + (maxL + 11) + rm.locals ≤ R.locals) (hc : cells ≤ R.cells ∧ slots ≤ R.slots) (hn : As.length = n) (hs : ls.size = nL) (hst : st0 = As.reverse ++ .ref (mH Z) :: rest) (hw : (rest.map fun v => v.category).sum ≤ 8) (hdg : decode cc pc = .ok (.invokevirtual index, 3))
    (kk : ∀ (H1 : Heap) (locs1 : List Loc), mIn Z s J H1 locs1 → W p l e R s m args below meth c H1 locs1 cells slots Q (F0 m (pc + 3) ls (.long v :: rest))) : W p l e R s m args below meth c H locs cells slots Q (F0 m pc ls st0) :=
  m_wr C hM hT hq hd hrm hR hc hn hs hst hw hdg kk
theorem m_wrV {J : St} (C : MCx p s m args meth c cc nL ret Z) (hM : mIn Z s I H locs) (hT : Met l y (ws_ y bytes maxL ret') rm (va_Pc (.ref (mH Z) :: As) (mS Z I)) (Qwr none (mS Z J) (mA Z)) 0 0 (mA Z)) (hq : GoodIn lw_all (wsV RX6 index RX6 y (ws_ y bytes maxL ret')))
    (hd : y.cls = RX6 ∧ y.cls ≠ "java/lang/invoke/MethodHandle" ∧ y.cls ≠ "java/lang/invoke/VarHandle" ∧ (parseMethodDescriptor y.desc).map (fun d => d.parameters.length) = some n)
    (hrm : rm.cells = 0 ∧ rm.slots = 0) (hR : rm.frames + 1 ≤ R.frames ∧ 8 + (maxL + 11) + rm.locals ≤ R.locals) (hc : cells ≤ R.cells ∧ slots ≤ R.slots) (hn : As.length = n) (hs : ls.size = nL) (hst : st0 = As.reverse ++ .ref (mH Z) :: rest) (hw : (rest.map fun v => v.category).sum ≤ 8) (hdg : decode cc pc = .ok (.invokevirtual index, 3))
    (kk : ∀ (H1 : Heap) (locs1 : List Loc), mIn Z s J H1 locs1 → W p l e R s m args below meth c H1 locs1 cells slots Q (F0 m (pc + 3) ls rest)) : W p l e R s m args below meth c H locs cells slots Q (F0 m pc ls st0) :=
  m_wr C hM hT hq hd hrm hR hc hn hs hst hw hdg kk
theorem gm0 (C : MCx p s m args meth c cc nL ret Z) (hM : mPD Z I H) (hdg : decode cc pc = .ok (.getfield 7, 3)) (kk : W p l e R s m args below meth c H locs cells slots Q (F0 m (pc + 3) ls (.ref (mAd Z 0) :: rest))) : W p l e R s m args below meth c H locs cells slots Q (F0 m pc ls (.ref (mH Z) :: rest)) :=
  va_get C.1.1 C.1.2.1 C.1.2.2.2.2.2.2 in_X6 C.1.2.2.2.2.2.1 C.2 hM.1 0 rfl rfl 0 (by decide) (C.1.2.2.2.2.2.2 _ q1046) (fun _ h => h) rfl hdg kk
theorem gm1 (C : MCx p s m args meth c cc nL ret Z) (hM : mPD Z I H) (hdg : decode cc pc = .ok (.getfield 13, 3)) (kk : W p l e R s m args below meth c H locs cells slots Q (F0 m (pc + 3) ls (.ref (mAd Z 1) :: rest))) : W p l e R s m args below meth c H locs cells slots Q (F0 m pc ls (.ref (mH Z) :: rest)) :=
  va_get C.1.1 C.1.2.1 C.1.2.2.2.2.2.2 in_X6 C.1.2.2.2.2.2.1 C.2 hM.1 0 rfl rfl 1 (by decide) (C.1.2.2.2.2.2.2 _ q1047) (fun _ h => h) rfl hdg kk
theorem gm2 (C : MCx p s m args meth c cc nL ret Z) (hM : mPD Z I H) (hdg : decode cc pc = .ok (.getfield 107, 3)) (kk : W p l e R s m args below meth c H locs cells slots Q (F0 m (pc + 3) ls (.int (I 2 0) :: rest))) : W p l e R s m args below meth c H locs cells slots Q (F0 m pc ls (.ref (mH Z) :: rest)) :=
  va_get C.1.1 C.1.2.1 C.1.2.2.2.2.2.2 in_X6 C.1.2.2.2.2.2.1 C.2 hM.1 0 rfl rfl 2 (by decide) (C.1.2.2.2.2.2.2 _ q1048) (fun _ h => h) rfl hdg kk
theorem sm2 (Z : MZ) (I : St) (v : Int32) : (mWs Z I).set 0 (mH Z, .inr (0, (mFs Z I).set 2 (.int v))) = mWs Z (upd2 I 2 0 v) := rfl
theorem pm2 (C : MCx p s m args meth c cc nL ret Z) (hM : mIn Z s I H locs) (hdg : decode cc pc = .ok (.putfield 107, 3)) {v : Int32} (kk : ∀ (H1 : Heap) (locs1 : List Loc) (J : St), J = upd2 I 2 0 v → mIn Z s J H1 locs1 → W p l e R s m args below meth c H1 locs1 cells slots Q (F0 m (pc + 3) ls rest)) : W p l e R s m args below meth c H locs cells slots Q (F0 m pc ls (.int v :: .ref (mH Z) :: rest)) :=
  va_put C.1.1 C.1.2.1 C.1.2.2.2.2.2.2 in_X6 tyX6 tyX6_ok nmX6 C.1.2.2.2.2.2.1 C.2 hM.1.1 hM.1.2 hM.2 0 rfl rfl 2 (by decide) (C.1.2.2.2.2.2.2 _ q1048) (fun _ h => h) rfl (ty := .int) rfl rfl rfl (by simp [mFs]) hdg (fun H1 locs1 h1 h2 h3 => by
    rw [sm2] at h1 h2
    exact kk H1 locs1 _ rfl ⟨⟨h1, h2⟩, h3⟩)
theorem gm3 (C : MCx p s m args meth c cc nL ret Z) (hM : mPD Z I H) (hdg : decode cc pc = .ok (.getfield 16, 3)) (kk : W p l e R s m args below meth c H locs cells slots Q (F0 m (pc + 3) ls (.ref (mAd Z 3) :: rest))) : W p l e R s m args below meth c H locs cells slots Q (F0 m pc ls (.ref (mH Z) :: rest)) :=
  va_get C.1.1 C.1.2.1 C.1.2.2.2.2.2.2 in_X6 C.1.2.2.2.2.2.1 C.2 hM.1 0 rfl rfl 3 (by decide) (C.1.2.2.2.2.2.2 _ q1049) (fun _ h => h) rfl hdg kk
theorem gm4 (C : MCx p s m args meth c cc nL ret Z) (hM : mPD Z I H) (hdg : decode cc pc = .ok (.getfield 19, 3)) (kk : W p l e R s m args below meth c H locs cells slots Q (F0 m (pc + 3) ls (.ref (mAd Z 4) :: rest))) : W p l e R s m args below meth c H locs cells slots Q (F0 m pc ls (.ref (mH Z) :: rest)) :=
  va_get C.1.1 C.1.2.1 C.1.2.2.2.2.2.2 in_X6 C.1.2.2.2.2.2.1 C.2 hM.1 0 rfl rfl 4 (by decide) (C.1.2.2.2.2.2.2 _ q1050) (fun _ h => h) rfl hdg kk
theorem gm5 (C : MCx p s m args meth c cc nL ret Z) (hM : mPD Z I H) (hdg : decode cc pc = .ok (.getfield 22, 3)) (kk : W p l e R s m args below meth c H locs cells slots Q (F0 m (pc + 3) ls (.ref (mAd Z 5) :: rest))) : W p l e R s m args below meth c H locs cells slots Q (F0 m pc ls (.ref (mH Z) :: rest)) :=
  va_get C.1.1 C.1.2.1 C.1.2.2.2.2.2.2 in_X6 C.1.2.2.2.2.2.1 C.2 hM.1 0 rfl rfl 5 (by decide) (C.1.2.2.2.2.2.2 _ q1051) (fun _ h => h) rfl hdg kk
theorem gm6 (C : MCx p s m args meth c cc nL ret Z) (hM : mPD Z I H) (hdg : decode cc pc = .ok (.getfield 25, 3)) (kk : W p l e R s m args below meth c H locs cells slots Q (F0 m (pc + 3) ls (.ref (mAd Z 6) :: rest))) : W p l e R s m args below meth c H locs cells slots Q (F0 m pc ls (.ref (mH Z) :: rest)) :=
  va_get C.1.1 C.1.2.1 C.1.2.2.2.2.2.2 in_X6 C.1.2.2.2.2.2.1 C.2 hM.1 0 rfl rfl 6 (by decide) (C.1.2.2.2.2.2.2 _ q1052) (fun _ h => h) rfl hdg kk
theorem gm7 (C : MCx p s m args meth c cc nL ret Z) (hM : mPD Z I H) (hdg : decode cc pc = .ok (.getfield 28, 3)) (kk : W p l e R s m args below meth c H locs cells slots Q (F0 m (pc + 3) ls (.ref (mAd Z 7) :: rest))) : W p l e R s m args below meth c H locs cells slots Q (F0 m pc ls (.ref (mH Z) :: rest)) :=
  va_get C.1.1 C.1.2.1 C.1.2.2.2.2.2.2 in_X6 C.1.2.2.2.2.2.1 C.2 hM.1 0 rfl rfl 7 (by decide) (C.1.2.2.2.2.2.2 _ q1053) (fun _ h => h) rfl hdg kk
theorem gm8 (C : MCx p s m args meth c cc nL ret Z) (hM : mPD Z I H) (hdg : decode cc pc = .ok (.getfield 123, 3)) (kk : W p l e R s m args below meth c H locs cells slots Q (F0 m (pc + 3) ls (.int (I 8 0) :: rest))) : W p l e R s m args below meth c H locs cells slots Q (F0 m pc ls (.ref (mH Z) :: rest)) :=
  va_get C.1.1 C.1.2.1 C.1.2.2.2.2.2.2 in_X6 C.1.2.2.2.2.2.1 C.2 hM.1 0 rfl rfl 8 (by decide) (C.1.2.2.2.2.2.2 _ q1054) (fun _ h => h) rfl hdg kk
theorem sm8 (Z : MZ) (I : St) (v : Int32) : (mWs Z I).set 0 (mH Z, .inr (0, (mFs Z I).set 8 (.int v))) = mWs Z (upd2 I 8 0 v) := rfl
theorem pm8 (C : MCx p s m args meth c cc nL ret Z) (hM : mIn Z s I H locs) (hdg : decode cc pc = .ok (.putfield 123, 3)) {v : Int32} (kk : ∀ (H1 : Heap) (locs1 : List Loc) (J : St), J = upd2 I 8 0 v → mIn Z s J H1 locs1 → W p l e R s m args below meth c H1 locs1 cells slots Q (F0 m (pc + 3) ls rest)) : W p l e R s m args below meth c H locs cells slots Q (F0 m pc ls (.int v :: .ref (mH Z) :: rest)) :=
  va_put C.1.1 C.1.2.1 C.1.2.2.2.2.2.2 in_X6 tyX6 tyX6_ok nmX6 C.1.2.2.2.2.2.1 C.2 hM.1.1 hM.1.2 hM.2 0 rfl rfl 8 (by decide) (C.1.2.2.2.2.2.2 _ q1054) (fun _ h => h) rfl (ty := .int) rfl rfl rfl (by simp [mFs]) hdg (fun H1 locs1 h1 h2 h3 => by
    rw [sm8] at h1 h2
    exact kk H1 locs1 _ rfl ⟨⟨h1, h2⟩, h3⟩)
theorem gm9 (C : MCx p s m args meth c cc nL ret Z) (hM : mPD Z I H) (hdg : decode cc pc = .ok (.getfield 31, 3)) (kk : W p l e R s m args below meth c H locs cells slots Q (F0 m (pc + 3) ls (.ref (mAd Z 9) :: rest))) : W p l e R s m args below meth c H locs cells slots Q (F0 m pc ls (.ref (mH Z) :: rest)) :=
  va_get C.1.1 C.1.2.1 C.1.2.2.2.2.2.2 in_X6 C.1.2.2.2.2.2.1 C.2 hM.1 0 rfl rfl 9 (by decide) (C.1.2.2.2.2.2.2 _ q1055) (fun _ h => h) rfl hdg kk
theorem gm10 (C : MCx p s m args meth c cc nL ret Z) (hM : mPD Z I H) (hdg : decode cc pc = .ok (.getfield 34, 3)) (kk : W p l e R s m args below meth c H locs cells slots Q (F0 m (pc + 3) ls (.ref (mAd Z 10) :: rest))) : W p l e R s m args below meth c H locs cells slots Q (F0 m pc ls (.ref (mH Z) :: rest)) :=
  va_get C.1.1 C.1.2.1 C.1.2.2.2.2.2.2 in_X6 C.1.2.2.2.2.2.1 C.2 hM.1 0 rfl rfl 10 (by decide) (C.1.2.2.2.2.2.2 _ q1056) (fun _ h => h) rfl hdg kk
theorem gm11 (C : MCx p s m args meth c cc nL ret Z) (hM : mPD Z I H) (hdg : decode cc pc = .ok (.getfield 37, 3)) (kk : W p l e R s m args below meth c H locs cells slots Q (F0 m (pc + 3) ls (.ref (mAd Z 11) :: rest))) : W p l e R s m args below meth c H locs cells slots Q (F0 m pc ls (.ref (mH Z) :: rest)) :=
  va_get C.1.1 C.1.2.1 C.1.2.2.2.2.2.2 in_X6 C.1.2.2.2.2.2.1 C.2 hM.1 0 rfl rfl 11 (by decide) (C.1.2.2.2.2.2.2 _ q1057) (fun _ h => h) rfl hdg kk
theorem gm12 (C : MCx p s m args meth c cc nL ret Z) (hM : mPD Z I H) (hdg : decode cc pc = .ok (.getfield 40, 3)) (kk : W p l e R s m args below meth c H locs cells slots Q (F0 m (pc + 3) ls (.ref (mAd Z 12) :: rest))) : W p l e R s m args below meth c H locs cells slots Q (F0 m pc ls (.ref (mH Z) :: rest)) :=
  va_get C.1.1 C.1.2.1 C.1.2.2.2.2.2.2 in_X6 C.1.2.2.2.2.2.1 C.2 hM.1 0 rfl rfl 12 (by decide) (C.1.2.2.2.2.2.2 _ q1058) (fun _ h => h) rfl hdg kk
theorem gm13 (C : MCx p s m args meth c cc nL ret Z) (hM : mPD Z I H) (hdg : decode cc pc = .ok (.getfield 43, 3)) (kk : W p l e R s m args below meth c H locs cells slots Q (F0 m (pc + 3) ls (.ref (mAd Z 13) :: rest))) : W p l e R s m args below meth c H locs cells slots Q (F0 m pc ls (.ref (mH Z) :: rest)) :=
  va_get C.1.1 C.1.2.1 C.1.2.2.2.2.2.2 in_X6 C.1.2.2.2.2.2.1 C.2 hM.1 0 rfl rfl 13 (by decide) (C.1.2.2.2.2.2.2 _ q1059) (fun _ h => h) rfl hdg kk
theorem gm14 (C : MCx p s m args meth c cc nL ret Z) (hM : mPD Z I H) (hdg : decode cc pc = .ok (.getfield 46, 3)) (kk : W p l e R s m args below meth c H locs cells slots Q (F0 m (pc + 3) ls (.ref (mAd Z 14) :: rest))) : W p l e R s m args below meth c H locs cells slots Q (F0 m pc ls (.ref (mH Z) :: rest)) :=
  va_get C.1.1 C.1.2.1 C.1.2.2.2.2.2.2 in_X6 C.1.2.2.2.2.2.1 C.2 hM.1 0 rfl rfl 14 (by decide) (C.1.2.2.2.2.2.2 _ q1060) (fun _ h => h) rfl hdg kk
theorem gm15 (C : MCx p s m args meth c cc nL ret Z) (hM : mPD Z I H) (hdg : decode cc pc = .ok (.getfield 49, 3)) (kk : W p l e R s m args below meth c H locs cells slots Q (F0 m (pc + 3) ls (.ref (mAd Z 15) :: rest))) : W p l e R s m args below meth c H locs cells slots Q (F0 m pc ls (.ref (mH Z) :: rest)) :=
  va_get C.1.1 C.1.2.1 C.1.2.2.2.2.2.2 in_X6 C.1.2.2.2.2.2.1 C.2 hM.1 0 rfl rfl 15 (by decide) (C.1.2.2.2.2.2.2 _ q1061) (fun _ h => h) rfl hdg kk
theorem gm16 (C : MCx p s m args meth c cc nL ret Z) (hM : mPD Z I H) (hdg : decode cc pc = .ok (.getfield 52, 3)) (kk : W p l e R s m args below meth c H locs cells slots Q (F0 m (pc + 3) ls (.ref (mAd Z 16) :: rest))) : W p l e R s m args below meth c H locs cells slots Q (F0 m pc ls (.ref (mH Z) :: rest)) :=
  va_get C.1.1 C.1.2.1 C.1.2.2.2.2.2.2 in_X6 C.1.2.2.2.2.2.1 C.2 hM.1 0 rfl rfl 16 (by decide) (C.1.2.2.2.2.2.2 _ q1062) (fun _ h => h) rfl hdg kk
theorem gm17 (C : MCx p s m args meth c cc nL ret Z) (hM : mPD Z I H) (hdg : decode cc pc = .ok (.getfield 55, 3)) (kk : W p l e R s m args below meth c H locs cells slots Q (F0 m (pc + 3) ls (.ref (mAd Z 17) :: rest))) : W p l e R s m args below meth c H locs cells slots Q (F0 m pc ls (.ref (mH Z) :: rest)) :=
  va_get C.1.1 C.1.2.1 C.1.2.2.2.2.2.2 in_X6 C.1.2.2.2.2.2.1 C.2 hM.1 0 rfl rfl 17 (by decide) (C.1.2.2.2.2.2.2 _ q1063) (fun _ h => h) rfl hdg kk
theorem gm18 (C : MCx p s m args meth c cc nL ret Z) (hM : mPD Z I H) (hdg : decode cc pc = .ok (.getfield 58, 3)) (kk : W p l e R s m args below meth c H locs cells slots Q (F0 m (pc + 3) ls (.ref (mAd Z 18) :: rest))) : W p l e R s m args below meth c H locs cells slots Q (F0 m pc ls (.ref (mH Z) :: rest)) :=
  va_get C.1.1 C.1.2.1 C.1.2.2.2.2.2.2 in_X6 C.1.2.2.2.2.2.1 C.2 hM.1 0 rfl rfl 18 (by decide) (C.1.2.2.2.2.2.2 _ q1064) (fun _ h => h) rfl hdg kk
theorem gm19 (C : MCx p s m args meth c cc nL ret Z) (hM : mPD Z I H) (hdg : decode cc pc = .ok (.getfield 61, 3)) (kk : W p l e R s m args below meth c H locs cells slots Q (F0 m (pc + 3) ls (.ref (mAd Z 19) :: rest))) : W p l e R s m args below meth c H locs cells slots Q (F0 m pc ls (.ref (mH Z) :: rest)) :=
  va_get C.1.1 C.1.2.1 C.1.2.2.2.2.2.2 in_X6 C.1.2.2.2.2.2.1 C.2 hM.1 0 rfl rfl 19 (by decide) (C.1.2.2.2.2.2.2 _ q1065) (fun _ h => h) rfl hdg kk
theorem gm20 (C : MCx p s m args meth c cc nL ret Z) (hM : mPD Z I H) (hdg : decode cc pc = .ok (.getfield 64, 3)) (kk : W p l e R s m args below meth c H locs cells slots Q (F0 m (pc + 3) ls (.ref (mAd Z 20) :: rest))) : W p l e R s m args below meth c H locs cells slots Q (F0 m pc ls (.ref (mH Z) :: rest)) :=
  va_get C.1.1 C.1.2.1 C.1.2.2.2.2.2.2 in_X6 C.1.2.2.2.2.2.1 C.2 hM.1 0 rfl rfl 20 (by decide) (C.1.2.2.2.2.2.2 _ q1066) (fun _ h => h) rfl hdg kk
theorem gm21 (C : MCx p s m args meth c cc nL ret Z) (hM : mPD Z I H) (hdg : decode cc pc = .ok (.getfield 67, 3)) (kk : W p l e R s m args below meth c H locs cells slots Q (F0 m (pc + 3) ls (.ref (mAd Z 21) :: rest))) : W p l e R s m args below meth c H locs cells slots Q (F0 m pc ls (.ref (mH Z) :: rest)) :=
  va_get C.1.1 C.1.2.1 C.1.2.2.2.2.2.2 in_X6 C.1.2.2.2.2.2.1 C.2 hM.1 0 rfl rfl 21 (by decide) (C.1.2.2.2.2.2.2 _ q1067) (fun _ h => h) rfl hdg kk
theorem gm22 (C : MCx p s m args meth c cc nL ret Z) (hM : mPD Z I H) (hdg : decode cc pc = .ok (.getfield 189, 3)) (kk : W p l e R s m args below meth c H locs cells slots Q (F0 m (pc + 3) ls (.int (I 22 0) :: rest))) : W p l e R s m args below meth c H locs cells slots Q (F0 m pc ls (.ref (mH Z) :: rest)) :=
  va_get C.1.1 C.1.2.1 C.1.2.2.2.2.2.2 in_X6 C.1.2.2.2.2.2.1 C.2 hM.1 0 rfl rfl 22 (by decide) (C.1.2.2.2.2.2.2 _ q1068) (fun _ h => h) rfl hdg kk
theorem sm22 (Z : MZ) (I : St) (v : Int32) : (mWs Z I).set 0 (mH Z, .inr (0, (mFs Z I).set 22 (.int v))) = mWs Z (upd2 I 22 0 v) := rfl
theorem pm22 (C : MCx p s m args meth c cc nL ret Z) (hM : mIn Z s I H locs) (hdg : decode cc pc = .ok (.putfield 189, 3)) {v : Int32} (kk : ∀ (H1 : Heap) (locs1 : List Loc) (J : St), J = upd2 I 22 0 v → mIn Z s J H1 locs1 → W p l e R s m args below meth c H1 locs1 cells slots Q (F0 m (pc + 3) ls rest)) : W p l e R s m args below meth c H locs cells slots Q (F0 m pc ls (.int v :: .ref (mH Z) :: rest)) :=
  va_put C.1.1 C.1.2.1 C.1.2.2.2.2.2.2 in_X6 tyX6 tyX6_ok nmX6 C.1.2.2.2.2.2.1 C.2 hM.1.1 hM.1.2 hM.2 0 rfl rfl 22 (by decide) (C.1.2.2.2.2.2.2 _ q1068) (fun _ h => h) rfl (ty := .int) rfl rfl rfl (by simp [mFs]) hdg (fun H1 locs1 h1 h2 h3 => by
    rw [sm22] at h1 h2
    exact kk H1 locs1 _ rfl ⟨⟨h1, h2⟩, h3⟩)
theorem gm23 (C : MCx p s m args meth c cc nL ret Z) (hM : mPD Z I H) (hdg : decode cc pc = .ok (.getfield 192, 3)) (kk : W p l e R s m args below meth c H locs cells slots Q (F0 m (pc + 3) ls (.int (I 23 0) :: rest))) : W p l e R s m args below meth c H locs cells slots Q (F0 m pc ls (.ref (mH Z) :: rest)) :=
  va_get C.1.1 C.1.2.1 C.1.2.2.2.2.2.2 in_X6 C.1.2.2.2.2.2.1 C.2 hM.1 0 rfl rfl 23 (by decide) (C.1.2.2.2.2.2.2 _ q1069) (fun _ h => h) rfl hdg kk
theorem sm23 (Z : MZ) (I : St) (v : Int32) : (mWs Z I).set 0 (mH Z, .inr (0, (mFs Z I).set 23 (.int v))) = mWs Z (upd2 I 23 0 v) := rfl
theorem pm23 (C : MCx p s m args meth c cc nL ret Z) (hM : mIn Z s I H locs) (hdg : decode cc pc = .ok (.putfield 192, 3)) {v : Int32} (kk : ∀ (H1 : Heap) (locs1 : List Loc) (J : St), J = upd2 I 23 0 v → mIn Z s J H1 locs1 → W p l e R s m args below meth c H1 locs1 cells slots Q (F0 m (pc + 3) ls rest)) : W p l e R s m args below meth c H locs cells slots Q (F0 m pc ls (.int v :: .ref (mH Z) :: rest)) :=
  va_put C.1.1 C.1.2.1 C.1.2.2.2.2.2.2 in_X6 tyX6 tyX6_ok nmX6 C.1.2.2.2.2.2.1 C.2 hM.1.1 hM.1.2 hM.2 0 rfl rfl 23 (by decide) (C.1.2.2.2.2.2.2 _ q1069) (fun _ h => h) rfl (ty := .int) rfl rfl rfl (by simp [mFs]) hdg (fun H1 locs1 h1 h2 h3 => by
    rw [sm23] at h1 h2
    exact kk H1 locs1 _ rfl ⟨⟨h1, h2⟩, h3⟩)
theorem gm24 (C : MCx p s m args meth c cc nL ret Z) (hM : mPD Z I H) (hdg : decode cc pc = .ok (.getfield 205, 3)) (kk : W p l e R s m args below meth c H locs cells slots Q (F0 m (pc + 3) ls (.int (I 24 0) :: rest))) : W p l e R s m args below meth c H locs cells slots Q (F0 m pc ls (.ref (mH Z) :: rest)) :=
  va_get C.1.1 C.1.2.1 C.1.2.2.2.2.2.2 in_X6 C.1.2.2.2.2.2.1 C.2 hM.1 0 rfl rfl 24 (by decide) (C.1.2.2.2.2.2.2 _ q1070) (fun _ h => h) rfl hdg kk
theorem sm24 (Z : MZ) (I : St) (v : Int32) : (mWs Z I).set 0 (mH Z, .inr (0, (mFs Z I).set 24 (.int v))) = mWs Z (upd2 I 24 0 v) := rfl
theorem pm24 (C : MCx p s m args meth c cc nL ret Z) (hM : mIn Z s I H locs) (hdg : decode cc pc = .ok (.putfield 205, 3)) {v : Int32} (kk : ∀ (H1 : Heap) (locs1 : List Loc) (J : St), J = upd2 I 24 0 v → mIn Z s J H1 locs1 → W p l e R s m args below meth c H1 locs1 cells slots Q (F0 m (pc + 3) ls rest)) : W p l e R s m args below meth c H locs cells slots Q (F0 m pc ls (.int v :: .ref (mH Z) :: rest)) :=
  va_put C.1.1 C.1.2.1 C.1.2.2.2.2.2.2 in_X6 tyX6 tyX6_ok nmX6 C.1.2.2.2.2.2.1 C.2 hM.1.1 hM.1.2 hM.2 0 rfl rfl 24 (by decide) (C.1.2.2.2.2.2.2 _ q1070) (fun _ h => h) rfl (ty := .int) rfl rfl rfl (by simp [mFs]) hdg (fun H1 locs1 h1 h2 h3 => by
    rw [sm24] at h1 h2
    exact kk H1 locs1 _ rfl ⟨⟨h1, h2⟩, h3⟩)
theorem gm25 (C : MCx p s m args meth c cc nL ret Z) (hM : mPD Z I H) (hdg : decode cc pc = .ok (.getfield 208, 3)) (kk : W p l e R s m args below meth c H locs cells slots Q (F0 m (pc + 3) ls (.int (I 25 0) :: rest))) : W p l e R s m args below meth c H locs cells slots Q (F0 m pc ls (.ref (mH Z) :: rest)) :=
  va_get C.1.1 C.1.2.1 C.1.2.2.2.2.2.2 in_X6 C.1.2.2.2.2.2.1 C.2 hM.1 0 rfl rfl 25 (by decide) (C.1.2.2.2.2.2.2 _ q1071) (fun _ h => h) rfl hdg kk
theorem sm25 (Z : MZ) (I : St) (v : Int32) : (mWs Z I).set 0 (mH Z, .inr (0, (mFs Z I).set 25 (.int v))) = mWs Z (upd2 I 25 0 v) := rfl
theorem pm25 (C : MCx p s m args meth c cc nL ret Z) (hM : mIn Z s I H locs) (hdg : decode cc pc = .ok (.putfield 208, 3)) {v : Int32} (kk : ∀ (H1 : Heap) (locs1 : List Loc) (J : St), J = upd2 I 25 0 v → mIn Z s J H1 locs1 → W p l e R s m args below meth c H1 locs1 cells slots Q (F0 m (pc + 3) ls rest)) : W p l e R s m args below meth c H locs cells slots Q (F0 m pc ls (.int v :: .ref (mH Z) :: rest)) :=
  va_put C.1.1 C.1.2.1 C.1.2.2.2.2.2.2 in_X6 tyX6 tyX6_ok nmX6 C.1.2.2.2.2.2.1 C.2 hM.1.1 hM.1.2 hM.2 0 rfl rfl 25 (by decide) (C.1.2.2.2.2.2.2 _ q1071) (fun _ h => h) rfl (ty := .int) rfl rfl rfl (by simp [mFs]) hdg (fun H1 locs1 h1 h2 h3 => by
    rw [sm25] at h1 h2
    exact kk H1 locs1 _ rfl ⟨⟨h1, h2⟩, h3⟩)
theorem gm26 (C : MCx p s m args meth c cc nL ret Z) (hM : mPD Z I H) (hdg : decode cc pc = .ok (.getfield 243, 3)) (kk : W p l e R s m args below meth c H locs cells slots Q (F0 m (pc + 3) ls (.int (I 26 0) :: rest))) : W p l e R s m args below meth c H locs cells slots Q (F0 m pc ls (.ref (mH Z) :: rest)) :=
  va_get C.1.1 C.1.2.1 C.1.2.2.2.2.2.2 in_X6 C.1.2.2.2.2.2.1 C.2 hM.1 0 rfl rfl 26 (by decide) (C.1.2.2.2.2.2.2 _ q1072) (fun _ h => h) rfl hdg kk
theorem sm26 (Z : MZ) (I : St) (v : Int32) : (mWs Z I).set 0 (mH Z, .inr (0, (mFs Z I).set 26 (.int v))) = mWs Z (upd2 I 26 0 v) := rfl
theorem pm26 (C : MCx p s m args meth c cc nL ret Z) (hM : mIn Z s I H locs) (hdg : decode cc pc = .ok (.putfield 243, 3)) {v : Int32} (kk : ∀ (H1 : Heap) (locs1 : List Loc) (J : St), J = upd2 I 26 0 v → mIn Z s J H1 locs1 → W p l e R s m args below meth c H1 locs1 cells slots Q (F0 m (pc + 3) ls rest)) : W p l e R s m args below meth c H locs cells slots Q (F0 m pc ls (.int v :: .ref (mH Z) :: rest)) :=
  va_put C.1.1 C.1.2.1 C.1.2.2.2.2.2.2 in_X6 tyX6 tyX6_ok nmX6 C.1.2.2.2.2.2.1 C.2 hM.1.1 hM.1.2 hM.2 0 rfl rfl 26 (by decide) (C.1.2.2.2.2.2.2 _ q1072) (fun _ h => h) rfl (ty := .int) rfl rfl rfl (by simp [mFs]) hdg (fun H1 locs1 h1 h2 h3 => by
    rw [sm26] at h1 h2
    exact kk H1 locs1 _ rfl ⟨⟨h1, h2⟩, h3⟩)
theorem gm27 (C : MCx p s m args meth c cc nL ret Z) (hM : mPD Z I H) (hdg : decode cc pc = .ok (.getfield 70, 3)) (kk : W p l e R s m args below meth c H locs cells slots Q (F0 m (pc + 3) ls (.ref (mAd Z 27) :: rest))) : W p l e R s m args below meth c H locs cells slots Q (F0 m pc ls (.ref (mH Z) :: rest)) :=
  va_get C.1.1 C.1.2.1 C.1.2.2.2.2.2.2 in_X6 C.1.2.2.2.2.2.1 C.2 hM.1 0 rfl rfl 27 (by decide) (C.1.2.2.2.2.2.2 _ q1073) (fun _ h => h) rfl hdg kk
theorem gm28 (C : MCx p s m args meth c cc nL ret Z) (hM : mPD Z I H) (hdg : decode cc pc = .ok (.getfield 73, 3)) (kk : W p l e R s m args below meth c H locs cells slots Q (F0 m (pc + 3) ls (.ref (mAd Z 28) :: rest))) : W p l e R s m args below meth c H locs cells slots Q (F0 m pc ls (.ref (mH Z) :: rest)) :=
  va_get C.1.1 C.1.2.1 C.1.2.2.2.2.2.2 in_X6 C.1.2.2.2.2.2.1 C.2 hM.1 0 rfl rfl 28 (by decide) (C.1.2.2.2.2.2.2 _ q1074) (fun _ h => h) rfl hdg kk
theorem gm29 (C : MCx p s m args meth c cc nL ret Z) (hM : mPD Z I H) (hdg : decode cc pc = .ok (.getfield 76, 3)) (kk : W p l e R s m args below meth c H locs cells slots Q (F0 m (pc + 3) ls (.ref (mAd Z 29) :: rest))) : W p l e R s m args below meth c H locs cells slots Q (F0 m pc ls (.ref (mH Z) :: rest)) :=
  va_get C.1.1 C.1.2.1 C.1.2.2.2.2.2.2 in_X6 C.1.2.2.2.2.2.1 C.2 hM.1 0 rfl rfl 29 (by decide) (C.1.2.2.2.2.2.2 _ q1075) (fun _ h => h) rfl hdg kk
theorem gm30 (C : MCx p s m args meth c cc nL ret Z) (hM : mPD Z I H) (hdg : decode cc pc = .ok (.getfield 255, 3)) (kk : W p l e R s m args below meth c H locs cells slots Q (F0 m (pc + 3) ls (.int (I 30 0) :: rest))) : W p l e R s m args below meth c H locs cells slots Q (F0 m pc ls (.ref (mH Z) :: rest)) :=
  va_get C.1.1 C.1.2.1 C.1.2.2.2.2.2.2 in_X6 C.1.2.2.2.2.2.1 C.2 hM.1 0 rfl rfl 30 (by decide) (C.1.2.2.2.2.2.2 _ q1076) (fun _ h => h) rfl hdg kk
theorem sm30 (Z : MZ) (I : St) (v : Int32) : (mWs Z I).set 0 (mH Z, .inr (0, (mFs Z I).set 30 (.int v))) = mWs Z (upd2 I 30 0 v) := rfl
theorem pm30 (C : MCx p s m args meth c cc nL ret Z) (hM : mIn Z s I H locs) (hdg : decode cc pc = .ok (.putfield 255, 3)) {v : Int32} (kk : ∀ (H1 : Heap) (locs1 : List Loc) (J : St), J = upd2 I 30 0 v → mIn Z s J H1 locs1 → W p l e R s m args below meth c H1 locs1 cells slots Q (F0 m (pc + 3) ls rest)) : W p l e R s m args below meth c H locs cells slots Q (F0 m pc ls (.int v :: .ref (mH Z) :: rest)) :=
  va_put C.1.1 C.1.2.1 C.1.2.2.2.2.2.2 in_X6 tyX6 tyX6_ok nmX6 C.1.2.2.2.2.2.1 C.2 hM.1.1 hM.1.2 hM.2 0 rfl rfl 30 (by decide) (C.1.2.2.2.2.2.2 _ q1076) (fun _ h => h) rfl (ty := .int) rfl rfl rfl (by simp [mFs]) hdg (fun H1 locs1 h1 h2 h3 => by
    rw [sm30] at h1 h2
    exact kk H1 locs1 _ rfl ⟨⟨h1, h2⟩, h3⟩)
theorem gm31 (C : MCx p s m args meth c cc nL ret Z) (hM : mPD Z I H) (hdg : decode cc pc = .ok (.getfield 79, 3)) (kk : W p l e R s m args below meth c H locs cells slots Q (F0 m (pc + 3) ls (.ref (mAd Z 31) :: rest))) : W p l e R s m args below meth c H locs cells slots Q (F0 m pc ls (.ref (mH Z) :: rest)) :=
  va_get C.1.1 C.1.2.1 C.1.2.2.2.2.2.2 in_X6 C.1.2.2.2.2.2.1 C.2 hM.1 0 rfl rfl 31 (by decide) (C.1.2.2.2.2.2.2 _ q1077) (fun _ h => h) rfl hdg kk
theorem gm32 (C : MCx p s m args meth c cc nL ret Z) (hM : mPD Z I H) (hdg : decode cc pc = .ok (.getfield 82, 3)) (kk : W p l e R s m args below meth c H locs cells slots Q (F0 m (pc + 3) ls (.ref (mAd Z 32) :: rest))) : W p l e R s m args below meth c H locs cells slots Q (F0 m pc ls (.ref (mH Z) :: rest)) :=
  va_get C.1.1 C.1.2.1 C.1.2.2.2.2.2.2 in_X6 C.1.2.2.2.2.2.1 C.2 hM.1 0 rfl rfl 32 (by decide) (C.1.2.2.2.2.2.2 _ q1078) (fun _ h => h) rfl hdg kk
theorem gm33 (C : MCx p s m args meth c cc nL ret Z) (hM : mPD Z I H) (hdg : decode cc pc = .ok (.getfield 85, 3)) (kk : W p l e R s m args below meth c H locs cells slots Q (F0 m (pc + 3) ls (.ref (mAd Z 33) :: rest))) : W p l e R s m args below meth c H locs cells slots Q (F0 m pc ls (.ref (mH Z) :: rest)) :=
  va_get C.1.1 C.1.2.1 C.1.2.2.2.2.2.2 in_X6 C.1.2.2.2.2.2.1 C.2 hM.1 0 rfl rfl 33 (by decide) (C.1.2.2.2.2.2.2 _ q1079) (fun _ h => h) rfl hdg kk
theorem gm34 (C : MCx p s m args meth c cc nL ret Z) (hM : mPD Z I H) (hdg : decode cc pc = .ok (.getfield 89, 3)) (kk : W p l e R s m args below meth c H locs cells slots Q (F0 m (pc + 3) ls (.ref (mAd Z 34) :: rest))) : W p l e R s m args below meth c H locs cells slots Q (F0 m pc ls (.ref (mH Z) :: rest)) :=
  va_get C.1.1 C.1.2.1 C.1.2.2.2.2.2.2 in_X6 C.1.2.2.2.2.2.1 C.2 hM.1 0 rfl rfl 34 (by decide) (C.1.2.2.2.2.2.2 _ q1080) (fun _ h => h) rfl hdg kk
theorem gm35 (C : MCx p s m args meth c cc nL ret Z) (hM : mPD Z I H) (hdg : decode cc pc = .ok (.getfield 92, 3)) (kk : W p l e R s m args below meth c H locs cells slots Q (F0 m (pc + 3) ls (.ref (mAd Z 35) :: rest))) : W p l e R s m args below meth c H locs cells slots Q (F0 m pc ls (.ref (mH Z) :: rest)) :=
  va_get C.1.1 C.1.2.1 C.1.2.2.2.2.2.2 in_X6 C.1.2.2.2.2.2.1 C.2 hM.1 0 rfl rfl 35 (by decide) (C.1.2.2.2.2.2.2 _ q1081) (fun _ h => h) rfl hdg kk
theorem gm36 (C : MCx p s m args meth c cc nL ret Z) (hM : mPD Z I H) (hdg : decode cc pc = .ok (.getfield 95, 3)) (kk : W p l e R s m args below meth c H locs cells slots Q (F0 m (pc + 3) ls (.ref (mAd Z 36) :: rest))) : W p l e R s m args below meth c H locs cells slots Q (F0 m pc ls (.ref (mH Z) :: rest)) :=
  va_get C.1.1 C.1.2.1 C.1.2.2.2.2.2.2 in_X6 C.1.2.2.2.2.2.1 C.2 hM.1 0 rfl rfl 36 (by decide) (C.1.2.2.2.2.2.2 _ q1082) (fun _ h => h) rfl hdg kk
theorem gm37 (C : MCx p s m args meth c cc nL ret Z) (hM : mPD Z I H) (hdg : decode cc pc = .ok (.getfield 98, 3)) (kk : W p l e R s m args below meth c H locs cells slots Q (F0 m (pc + 3) ls (.ref (mAd Z 37) :: rest))) : W p l e R s m args below meth c H locs cells slots Q (F0 m pc ls (.ref (mH Z) :: rest)) :=
  va_get C.1.1 C.1.2.1 C.1.2.2.2.2.2.2 in_X6 C.1.2.2.2.2.2.1 C.2 hM.1 0 rfl rfl 37 (by decide) (C.1.2.2.2.2.2.2 _ q1083) (fun _ h => h) rfl hdg kk
theorem gm38 (C : MCx p s m args meth c cc nL ret Z) (hM : mPD Z I H) (hdg : decode cc pc = .ok (.getfield 274, 3)) (kk : W p l e R s m args below meth c H locs cells slots Q (F0 m (pc + 3) ls (.int (I 38 0) :: rest))) : W p l e R s m args below meth c H locs cells slots Q (F0 m pc ls (.ref (mH Z) :: rest)) :=
  va_get C.1.1 C.1.2.1 C.1.2.2.2.2.2.2 in_X6 C.1.2.2.2.2.2.1 C.2 hM.1 0 rfl rfl 38 (by decide) (C.1.2.2.2.2.2.2 _ q1084) (fun _ h => h) rfl hdg kk
theorem sm38 (Z : MZ) (I : St) (v : Int32) : (mWs Z I).set 0 (mH Z, .inr (0, (mFs Z I).set 38 (.int v))) = mWs Z (upd2 I 38 0 v) := rfl
theorem pm38 (C : MCx p s m args meth c cc nL ret Z) (hM : mIn Z s I H locs) (hdg : decode cc pc = .ok (.putfield 274, 3)) {v : Int32} (kk : ∀ (H1 : Heap) (locs1 : List Loc) (J : St), J = upd2 I 38 0 v → mIn Z s J H1 locs1 → W p l e R s m args below meth c H1 locs1 cells slots Q (F0 m (pc + 3) ls rest)) : W p l e R s m args below meth c H locs cells slots Q (F0 m pc ls (.int v :: .ref (mH Z) :: rest)) :=
  va_put C.1.1 C.1.2.1 C.1.2.2.2.2.2.2 in_X6 tyX6 tyX6_ok nmX6 C.1.2.2.2.2.2.1 C.2 hM.1.1 hM.1.2 hM.2 0 rfl rfl 38 (by decide) (C.1.2.2.2.2.2.2 _ q1084) (fun _ h => h) rfl (ty := .int) rfl rfl rfl (by simp [mFs]) hdg (fun H1 locs1 h1 h2 h3 => by
    rw [sm38] at h1 h2
    exact kk H1 locs1 _ rfl ⟨⟨h1, h2⟩, h3⟩)
end MW
