set_option maxRecDepth 100000
/-! SecondChancesModel.likenessOf(II)I -/
def mo_likenessOf_rm : Room := { frames := 3, cells := 0, slots := 0, locals := 71 }
def mo_likenessOf_P0 (p : Program) (l : Launch) (e : Env) (s : State) (m : MethodId) (args : Array Value) (below : List Frame) (meth : Method) (c : Code) (Z : MZ) (r : Int32) (f : Int32 → Int32 → Option Int32) : Prop := ∀ (x1 : Int32) (x2 : Int32) (ls : Array Slot), lv_has ls 5 [(0, .ref (mH Z)), (1, .int x1), (2, .int x2)] → f x1 x2 = some r → W p l e mo_likenessOf_rm s m args below meth c s.heap [] 0 0 (MQ below (Qro (some (.int r))) args s 0 0 (fun _ => False)) (F0 m 0 ls [])
def mo_likenessOf_P45 (p : Program) (l : Launch) (e : Env) (s : State) (m : MethodId) (args : Array Value) (below : List Frame) (meth : Method) (c : Code) (Z : MZ) (r : Int32) (f : Int32 → Int32 → Int32 → Option Int32) : Prop := ∀ (x1 : Int32) (x3 : Int32) (t0 : Int32) (ls : Array Slot), lv_has ls 5 [(0, .ref (mH Z)), (1, .int x1), (3, .int x3)] → f x1 x3 t0 = some r → W p l e mo_likenessOf_rm s m args below meth c s.heap [] 0 0 (MQ below (Qro (some (.int r))) args s 0 0 (fun _ => False)) (F0 m 45 ls [.int t0])
def mo_likenessOf_P67 (p : Program) (l : Launch) (e : Env) (s : State) (m : MethodId) (args : Array Value) (below : List Frame) (meth : Method) (c : Code) (Z : MZ) (r : Int32) (f : Int32 → Int32 → Int32 → Int32 → Option Int32) : Prop := ∀ (x1 : Int32) (x3 : Int32) (x4 : Int32) (t0 : Int32) (ls : Array Slot), lv_has ls 5 [(0, .ref (mH Z)), (1, .int x1), (3, .int x3), (4, .int x4)] → f x1 x3 x4 t0 = some r → W p l e mo_likenessOf_rm s m args below meth c s.heap [] 0 0 (MQ below (Qro (some (.int r))) args s 0 0 (fun _ => False)) (F0 m 67 ls [.int t0])
def mo_likenessOf_P77 (p : Program) (l : Launch) (e : Env) (s : State) (m : MethodId) (args : Array Value) (below : List Frame) (meth : Method) (c : Code) (Z : MZ) (r : Int32) (f : Int32 → Int32 → Int32 → Int32 → Option Int32) : Prop := ∀ (x1 : Int32) (x3 : Int32) (t0 : Int32) (t1 : Int32) (ls : Array Slot), lv_has ls 5 [(0, .ref (mH Z)), (1, .int x1), (3, .int x3)] → f x1 x3 t0 t1 = some r → W p l e mo_likenessOf_rm s m args below meth c s.heap [] 0 0 (MQ below (Qro (some (.int r))) args s 0 0 (fun _ => False)) (F0 m 77 ls [.int t0, .int t1])
def mo_likenessOf_b77 (I : St) (x1 : Int32) (x3 : Int32) (t0 : Int32) (t1 : Int32) : Option Int32 :=
  bd_ (mo_ones x3) fun v1 =>
  al_ 9 (I 7) x1 fun v2 =>
  bd_ (mo_ones v2) fun v3 =>
  if v3 = 0 then none else
  some ((t1 + t0) + (((3 : Int32) * v1) / v3))
theorem mo_likenessOf_w77 {p : Program} {l : Launch} {e : Env} {s : State} {m : MethodId} {args : Array Value} {below : List Frame} {meth : Method} {c : Code} {Z : MZ} {I : St} (C : MCx p s m args meth c cX6_likenessOf 5 (some .int) Z) (hM : mPD Z I s.heap) {r : Int32} : mo_likenessOf_P77 p l e s m args below meth c Z r (mo_likenessOf_b77 I) := by
  intro x1 x3 t0 t1 ls hl h
  obtain ⟨⟨hx, hb, hr, hlocks, hml, hown, hts⟩, hK⟩ := id C
  unfold mo_likenessOf_b77 at h
  refine lv_iadd hx hb dX6_likenessOf_77 ?_
  refine lv_iconst (v := 3) hx hb dX6_likenessOf_78 (by decide) ?_
  refine lv_iload_n hx hb dX6_likenessOf_79 rfl (lv_at hl 2 rfl) ?_
  obtain ⟨v1, q_v1, h⟩ := bd_e h
  refine s_roI (As := [.int x3]) (rest := [.int (3 : Int32), .int (t1 + t0)]) C.1 (mo_ones_met _ x3 v1 q_v1) (lw_S q1278 q1279 q88 q1280) mo_ones_hd ⟨rfl, rfl⟩ ⟨Nat.le_of_ble_eq_true rfl, Nat.le_of_ble_eq_true rfl⟩ ⟨Nat.le_refl _, Nat.le_refl _⟩ rfl hl.1 rfl (Nat.le_of_ble_eq_true rfl) dX6_likenessOf_80 ?_
  refine lv_imul hx hb dX6_likenessOf_83 ?_
  refine lv_aload_n hx hb dX6_likenessOf_84 rfl (lv_at hl 0 rfl) ?_
  refine gm7 C hM dX6_likenessOf_85 ?_
  refine lv_iload_n hx hb dX6_likenessOf_88 rfl (lv_at hl 1 rfl) ?_
  obtain ⟨i_v2, h⟩ := al_e h
  refine m_ald C hM (pos := 6) (k := 7) rfl rfl i_v2 dX6_likenessOf_89 (fun v2 e_v2 => ?_)
  have h := h v2 e_v2
  obtain ⟨v3, q_v3, h⟩ := bd_e h
  refine s_roI (As := [.int v2]) (rest := [.int ((3 : Int32) * v1), .int (t1 + t0)]) C.1 (mo_ones_met _ v2 v3 q_v3) (lw_S q1278 q1279 q88 q1280) mo_ones_hd ⟨rfl, rfl⟩ ⟨Nat.le_of_ble_eq_true rfl, Nat.le_of_ble_eq_true rfl⟩ ⟨Nat.le_refl _, Nat.le_refl _⟩ rfl hl.1 rfl (Nat.le_of_ble_eq_true rfl) dX6_likenessOf_90 ?_
  by_cases c4 : v3 = 0
  · exact no_ (ip_ c4 h)
  have h := in_ c4 h
  refine lv_idiv hx hb dX6_likenessOf_93 c4 ?_
  refine lv_iadd hx hb dX6_likenessOf_94 ?_
  have h := so_ h
  subst h
  exact W.iret hx hb hr (fun t ht hW => ⟨rfl, ht⟩) (fun q hq => by cases hq) dX6_likenessOf_95
def mo_likenessOf_b67 (I : St) (x1 : Int32) (x3 : Int32) (x4 : Int32) (t0 : Int32) : Option Int32 :=
  if x4 = 0 then (mo_likenessOf_b77 I x1 x3 (0 : Int32) t0)
  else (mo_likenessOf_b77 I x1 x3 (3 : Int32) t0)
theorem mo_likenessOf_w67 {p : Program} {l : Launch} {e : Env} {s : State} {m : MethodId} {args : Array Value} {below : List Frame} {meth : Method} {c : Code} {Z : MZ} {I : St} (C : MCx p s m args meth c cX6_likenessOf 5 (some .int) Z) (hM : mPD Z I s.heap) {r : Int32} : mo_likenessOf_P67 p l e s m args below meth c Z r (mo_likenessOf_b67 I) := by
  intro x1 x3 x4 t0 ls hl h
  obtain ⟨⟨hx, hb, hr, hlocks, hml, hown, hts⟩, hK⟩ := id C
  unfold mo_likenessOf_b67 at h
  refine lv_iload hx hb dX6_likenessOf_67 (lv_at hl 3 rfl) ?_
  refine lv_if_eq (tgt := 76) hx hb dX6_likenessOf_69 (by decide) (fun c1 => ?_) (fun c1 => ?_)
  · have h := ip_ c1 h
    refine lv_iconst (v := 0) hx hb dX6_likenessOf_76 (by decide) ?_
    exact mo_likenessOf_w77 C hM x1 x3 (0 : Int32) t0 ls (lv_sub hl [0, 1, 2] rfl) h
  · have h := in_ c1 h
    refine lv_iconst (v := 3) hx hb dX6_likenessOf_72 (by decide) ?_
    refine lv_goto (tgt := 77) hx hb dX6_likenessOf_73 (by decide) ?_
    exact mo_likenessOf_w77 C hM x1 x3 (3 : Int32) t0 ls (lv_sub hl [0, 1, 2] rfl) h
def mo_likenessOf_b45 (I : St) (x1 : Int32) (x3 : Int32) (t0 : Int32) : Option Int32 :=
  al_ 9 (I 3) x1 fun v1 =>
  al_ 4 (I 11) v1 fun v2 =>
  if v2 = (1 : Int32) then (mo_likenessOf_b67 I x1 x3 t0 (4 : Int32))
  else (mo_likenessOf_b67 I x1 x3 t0 (0 : Int32))
theorem mo_likenessOf_w45 {p : Program} {l : Launch} {e : Env} {s : State} {m : MethodId} {args : Array Value} {below : List Frame} {meth : Method} {c : Code} {Z : MZ} {I : St} (C : MCx p s m args meth c cX6_likenessOf 5 (some .int) Z) (hM : mPD Z I s.heap) {r : Int32} : mo_likenessOf_P45 p l e s m args below meth c Z r (mo_likenessOf_b45 I) := by
  intro x1 x3 t0 ls hl h
  obtain ⟨⟨hx, hb, hr, hlocks, hml, hown, hts⟩, hK⟩ := id C
  unfold mo_likenessOf_b45 at h
  refine lv_istore (lv' := [(4, .int t0), (0, .ref (mH Z)), (1, .int x1), (3, .int x3)]) hx hb dX6_likenessOf_45 hl (by decide) rfl (fun ls hl => ?_)
  refine lv_aload_n hx hb dX6_likenessOf_47 rfl (lv_at hl 1 rfl) ?_
  refine gm11 C hM dX6_likenessOf_48 ?_
  refine lv_aload_n hx hb dX6_likenessOf_51 rfl (lv_at hl 1 rfl) ?_
  refine gm3 C hM dX6_likenessOf_52 ?_
  refine lv_iload_n hx hb dX6_likenessOf_55 rfl (lv_at hl 2 rfl) ?_
  obtain ⟨i_v1, h⟩ := al_e h
  refine m_ald C hM (pos := 2) (k := 3) rfl rfl i_v1 dX6_likenessOf_56 (fun v1 e_v1 => ?_)
  have h := h v1 e_v1
  obtain ⟨i_v2, h⟩ := al_e h
  refine m_ald C hM (pos := 9) (k := 11) rfl rfl i_v2 dX6_likenessOf_57 (fun v2 e_v2 => ?_)
  have h := h v2 e_v2
  refine lv_iconst (v := 1) hx hb dX6_likenessOf_58 (by decide) ?_
  refine lv_icmp_ne (tgt := 66) hx hb dX6_likenessOf_59 (by decide) (fun c3 => ?_) (fun c3 => ?_)
  · have h := in_ c3 h
    refine lv_iconst (v := 0) hx hb dX6_likenessOf_66 (by decide) ?_
    exact mo_likenessOf_w67 C hM x1 x3 t0 (0 : Int32) ls (lv_sub hl [1, 2, 3, 0] rfl) h
  · have h := ip_ c3 h
    refine lv_iconst (v := 4) hx hb dX6_likenessOf_62 (by decide) ?_
    refine lv_goto (tgt := 67) hx hb dX6_likenessOf_63 (by decide) ?_
    exact mo_likenessOf_w67 C hM x1 x3 t0 (4 : Int32) ls (lv_sub hl [1, 2, 3, 0] rfl) h
def mo_likenessOf (I : St) (x1 : Int32) (x2 : Int32) : Option Int32 :=
  bd_ (mo_comesOf I x1 x2) fun v1 =>
  if v1 = (-3 : Int32) then (some (-3 : Int32))
  else (al_ 8 (I 16) x2 fun v3 =>
    al_ 9 (I 5) x1 fun v4 =>
    if v3 = v4 then (mo_likenessOf_b45 I x1 v1 (1 : Int32))
    else (bd_ (mo_isTurned I x1 x2) fun v6 =>
      if v6 = 0 then (mo_likenessOf_b45 I x1 v1 (0 : Int32))
      else (mo_likenessOf_b45 I x1 v1 (1 : Int32))))
theorem mo_likenessOf_w0 {p : Program} {l : Launch} {e : Env} {s : State} {m : MethodId} {args : Array Value} {below : List Frame} {meth : Method} {c : Code} {Z : MZ} {I : St} (C : MCx p s m args meth c cX6_likenessOf 5 (some .int) Z) (hM : mPD Z I s.heap) {r : Int32} : mo_likenessOf_P0 p l e s m args below meth c Z r (mo_likenessOf I) := by
  intro x1 x2 ls hl h
  obtain ⟨⟨hx, hb, hr, hlocks, hml, hown, hts⟩, hK⟩ := id C
  unfold mo_likenessOf at h
  refine lv_aload_n hx hb dX6_likenessOf_0 rfl (lv_at hl 0 rfl) ?_
  refine lv_iload_n hx hb dX6_likenessOf_1 rfl (lv_at hl 1 rfl) ?_
  refine lv_iload_n hx hb dX6_likenessOf_2 rfl (lv_at hl 2 rfl) ?_
  obtain ⟨v1, q_v1, h⟩ := bd_e h
  refine m_roI (As := [.int x1, .int x2]) (rest := []) C hM (mo_comesOf_met _ Z I x1 x2 v1 q_v1) (lw_V q1266 q1268 qs52 q88 q1269) mo_comesOf_hd ⟨rfl, rfl⟩ ⟨Nat.le_of_ble_eq_true rfl, Nat.le_of_ble_eq_true rfl⟩ ⟨Nat.le_refl _, Nat.le_refl _⟩ rfl hl.1 rfl (Nat.le_of_ble_eq_true rfl) dX6_likenessOf_3 ?_
  refine lv_istore_n (lv' := [(3, .int v1), (0, .ref (mH Z)), (1, .int x1), (2, .int x2)]) hx hb dX6_likenessOf_6 rfl hl (by decide) rfl (fun ls hl => ?_)
  refine lv_iload_n hx hb dX6_likenessOf_7 rfl (lv_at hl 0 rfl) ?_
  refine lv_bipush (v := -3) hx hb dX6_likenessOf_8 (by decide) ?_
  refine lv_icmp_ne (tgt := 16) hx hb dX6_likenessOf_10 (by decide) (fun c2 => ?_) (fun c2 => ?_)
  · have h := in_ c2 h
    refine lv_aload_n hx hb dX6_likenessOf_16 rfl (lv_at hl 1 rfl) ?_
    refine gm16 C hM dX6_likenessOf_17 ?_
    refine lv_iload_n hx hb dX6_likenessOf_20 rfl (lv_at hl 3 rfl) ?_
    obtain ⟨i_v3, h⟩ := al_e h
    refine m_ald C hM (pos := 14) (k := 16) rfl rfl i_v3 dX6_likenessOf_21 (fun v3 e_v3 => ?_)
    have h := h v3 e_v3
    refine lv_aload_n hx hb dX6_likenessOf_22 rfl (lv_at hl 1 rfl) ?_
    refine gm5 C hM dX6_likenessOf_23 ?_
    refine lv_iload_n hx hb dX6_likenessOf_26 rfl (lv_at hl 2 rfl) ?_
    obtain ⟨i_v4, h⟩ := al_e h
    refine m_ald C hM (pos := 4) (k := 5) rfl rfl i_v4 dX6_likenessOf_27 (fun v4 e_v4 => ?_)
    have h := h v4 e_v4
    refine lv_icmp_eq (tgt := 40) hx hb dX6_likenessOf_28 (by decide) (fun c5 => ?_) (fun c5 => ?_)
    · have h := ip_ c5 h
      refine lv_iconst (v := 1) hx hb dX6_likenessOf_40 (by decide) ?_
      refine lv_goto (tgt := 45) hx hb dX6_likenessOf_41 (by decide) ?_
      exact mo_likenessOf_w45 C hM x1 v1 (1 : Int32) ls (lv_sub hl [1, 2, 0] rfl) h
    · have h := in_ c5 h
      refine lv_aload_n hx hb dX6_likenessOf_31 rfl (lv_at hl 1 rfl) ?_
      refine lv_iload_n hx hb dX6_likenessOf_32 rfl (lv_at hl 2 rfl) ?_
      refine lv_iload_n hx hb dX6_likenessOf_33 rfl (lv_at hl 3 rfl) ?_
      obtain ⟨v6, q_v6, h⟩ := bd_e h
      refine m_roI (As := [.int x1, .int x2]) (rest := []) C hM (mo_isTurned_met _ Z I x1 x2 v6 q_v6) (lw_V q1270 q1272 qs53 q88 q1273) mo_isTurned_hd ⟨rfl, rfl⟩ ⟨Nat.le_of_ble_eq_true rfl, Nat.le_of_ble_eq_true rfl⟩ ⟨Nat.le_refl _, Nat.le_refl _⟩ rfl hl.1 rfl (Nat.le_of_ble_eq_true rfl) dX6_likenessOf_34 ?_
      refine lv_if_eq (tgt := 44) hx hb dX6_likenessOf_37 (by decide) (fun c7 => ?_) (fun c7 => ?_)
      · have h := ip_ c7 h
        refine lv_iconst (v := 0) hx hb dX6_likenessOf_44 (by decide) ?_
        exact mo_likenessOf_w45 C hM x1 v1 (0 : Int32) ls (lv_sub hl [1, 2, 0] rfl) h
      · have h := in_ c7 h
        refine lv_iconst (v := 1) hx hb dX6_likenessOf_40 (by decide) ?_
        refine lv_goto (tgt := 45) hx hb dX6_likenessOf_41 (by decide) ?_
        exact mo_likenessOf_w45 C hM x1 v1 (1 : Int32) ls (lv_sub hl [1, 2, 0] rfl) h
  · have h := ip_ c2 h
    refine lv_bipush (v := -3) hx hb dX6_likenessOf_13 (by decide) ?_
    have h := so_ h
    subst h
    exact W.iret hx hb hr (fun t ht hW => ⟨rfl, ht⟩) (fun q hq => by cases hq) dX6_likenessOf_15
theorem mo_likenessOf_hd : yX6_likenessOf.cls = RX6 ∧ yX6_likenessOf.cls ≠ "java/lang/invoke/MethodHandle" ∧ yX6_likenessOf.cls ≠ "java/lang/invoke/VarHandle" ∧ (parseMethodDescriptor yX6_likenessOf.desc).map (fun d => d.parameters.length) = some 2 := by decide +kernel
theorem mo_likenessOf_met (l : Launch) (Z : MZ) (I : St) (x1 : Int32) (x2 : Int32) (r : Int32) (h : mo_likenessOf I x1 x2 = some r) : Met l yX6_likenessOf (ws_ yX6_likenessOf cX6_likenessOf 5 (some .int)) mo_likenessOf_rm (va_Pc [.ref (mH Z), .int x1, .int x2] (mS Z I)) (Qro (some (.int r))) 0 0 (fun _ => False) := by
  refine Met.ofW (cc := cX6_likenessOf) (maxL := 5) (ret := some .int) (by decide) rfl ?_
  intro p e s m args below meth c s₁ B hml hv
  obtain ⟨rfl, hv⟩ := hv
  have hts := atoms_spec (ws := ws_ yX6_likenessOf cX6_likenessOf 5 (some .int)) B.pre
  have hts : ∀ w ∈ lw_all, w.before _ s = true := fun w h => hts w (List.mem_cons_of_mem _ h)
  have C : SCx p s m _ meth c cX6_likenessOf 5 (some .int) RX6 := ⟨B.exec, B.bytes, B.returns, B.notSynchronized, hml, findClass_of_methodNamed B.named, hts⟩
  have hl := lv_entry [.ref (mH Z), .int x1, .int x2] (n := 5) (Nat.le_of_ble_eq_true rfl)
  rw [lg_entry_eq]
  generalize (lg_sl [.ref (mH Z), .int x1, .int x2] ++ List.replicate (5 - (lg_sl [.ref (mH Z), .int x1, .int x2]).length) Slot.unset).toArray = ls at hl ⊢
  have C : MCx p s m _ meth c _ _ _ Z := ⟨C, hv.2⟩
  have hM := hv.1
  exact mo_likenessOf_w0 C hM x1 x2 ls hl h

/-! SecondChancesModel.likeness(II)I -/
def mo_likeness_rm : Room := { frames := 5, cells := 0, slots := 0, locals := 110 }
def mo_likeness_P0 (p : Program) (l : Launch) (e : Env) (s : State) (m : MethodId) (args : Array Value) (below : List Frame) (meth : Method) (c : Code) (Z : MZ) (r : (Int32 × St)) (f : Int32 → Int32 → St → Option (Int32 × St)) : Prop := ∀ (x1 : Int32) (x2 : Int32) (I : St) (H : Heap) (locs : List Loc) (ls : Array Slot), mIn Z s I H locs → lv_has ls 3 [(0, .ref (mH Z)), (1, .int x1), (2, .int x2)] → f x1 x2 I = some r → W p l e mo_likeness_rm s m args below meth c H locs 0 0 (MQ below (Qwr (some (.int r.1)) (mS Z r.2) (mA Z)) args s 0 0 (mA Z)) (F0 m 0 ls [])
def mo_likeness (x1 : Int32) (x2 : Int32) (I : St) : Option (Int32 × St) :=
  bd2_ (mo_isDeed x1 I) fun v2 I1 =>
  if v2 = 0 then (some ((-2 : Int32), I1))
  else (bd_ (mo_isHour x2) fun v4 =>
    if v4 = 0 then (some ((-2 : Int32), I1))
    else (bd_ (mo_likenessOf I1 x1 x2) fun v6 =>
      some (v6, I1)))
theorem mo_likeness_w0 {p : Program} {l : Launch} {e : Env} {s : State} {m : MethodId} {args : Array Value} {below : List Frame} {meth : Method} {c : Code} {Z : MZ} (C : MCx p s m args meth c cX6_likeness 3 (some .int) Z) {r : (Int32 × St)} : mo_likeness_P0 p l e s m args below meth c Z r (mo_likeness) := by
  intro x1 x2 I H locs ls hM hl h
  obtain ⟨⟨hx, hb, hr, hlocks, hml, hown, hts⟩, hK⟩ := id C
  unfold mo_likeness at h
  refine lv_aload_n hx hb dX6_likeness_0 rfl (lv_at hl 0 rfl) ?_
  refine lv_iload_n hx hb dX6_likeness_1 rfl (lv_at hl 1 rfl) ?_
  obtain ⟨v2, I1, q_I1, h⟩ := bd2_e h
  refine m_wrI (As := [.int x1]) (rest := []) C hM (mo_isDeed_met _ Z I x1 (v2, I1) q_I1) (lw_V q1209 q1211 qs46 q88 q1212) mo_isDeed_hd ⟨rfl, rfl⟩ ⟨Nat.le_of_ble_eq_true rfl, Nat.le_of_ble_eq_true rfl⟩ ⟨Nat.le_refl _, Nat.le_refl _⟩ rfl hl.1 rfl (Nat.le_of_ble_eq_true rfl) dX6_likeness_2 (fun H locs hM => ?_)
  refine lv_if_eq (tgt := 24) hx hb dX6_likeness_5 (by decide) (fun c3 => ?_) (fun c3 => ?_)
  · have h := ip_ c3 h
    refine lv_bipush (v := -2) hx hb dX6_likeness_24 (by decide) ?_
    have h := so_ h
    subst h
    exact W.iret hx hb hr (fun t ht hW => ⟨rfl, ⟨by rw [ht]; exact hM.1, va_K.moved hW.alike hK⟩, hM.2.F ht⟩) hM.2.2.2 dX6_likeness_26
  · have h := in_ c3 h
    refine lv_iload_n hx hb dX6_likeness_8 rfl (lv_at hl 2 rfl) ?_
    obtain ⟨v4, q_v4, h⟩ := bd_e h
    refine s_roI (As := [.int x2]) (rest := []) C.1 (mo_isHour_met _ x2 v4 q_v4) (lw_S q1240 q1241 q88 q1242) mo_isHour_hd ⟨rfl, rfl⟩ ⟨Nat.le_of_ble_eq_true rfl, Nat.le_of_ble_eq_true rfl⟩ ⟨Nat.le_refl _, Nat.le_refl _⟩ rfl hl.1 rfl (Nat.le_of_ble_eq_true rfl) dX6_likeness_9 ?_
    refine lv_if_eq (tgt := 24) hx hb dX6_likeness_12 (by decide) (fun c5 => ?_) (fun c5 => ?_)
    · have h := ip_ c5 h
      refine lv_bipush (v := -2) hx hb dX6_likeness_24 (by decide) ?_
      have h := so_ h
      subst h
      exact W.iret hx hb hr (fun t ht hW => ⟨rfl, ⟨by rw [ht]; exact hM.1, va_K.moved hW.alike hK⟩, hM.2.F ht⟩) hM.2.2.2 dX6_likeness_26
    · have h := in_ c5 h
      refine lv_aload_n hx hb dX6_likeness_15 rfl (lv_at hl 0 rfl) ?_
      refine lv_iload_n hx hb dX6_likeness_16 rfl (lv_at hl 1 rfl) ?_
      refine lv_iload_n hx hb dX6_likeness_17 rfl (lv_at hl 2 rfl) ?_
      obtain ⟨v6, q_v6, h⟩ := bd_e h
      refine m_roI (As := [.int x1, .int x2]) (rest := []) C hM.1 (mo_likenessOf_met _ Z I1 x1 x2 v6 q_v6) (lw_V q1362 q1364 qs66 q88 q1365) mo_likenessOf_hd ⟨rfl, rfl⟩ ⟨Nat.le_of_ble_eq_true rfl, Nat.le_of_ble_eq_true rfl⟩ ⟨Nat.le_refl _, Nat.le_refl _⟩ rfl hl.1 rfl (Nat.le_of_ble_eq_true rfl) dX6_likeness_18 ?_
      refine lv_goto (tgt := 26) hx hb dX6_likeness_21 (by decide) ?_
      have h := so_ h
      subst h
      exact W.iret hx hb hr (fun t ht hW => ⟨rfl, ⟨by rw [ht]; exact hM.1, va_K.moved hW.alike hK⟩, hM.2.F ht⟩) hM.2.2.2 dX6_likeness_26
theorem mo_likeness_hd : yX6_likeness.cls = RX6 ∧ yX6_likeness.cls ≠ "java/lang/invoke/MethodHandle" ∧ yX6_likeness.cls ≠ "java/lang/invoke/VarHandle" ∧ (parseMethodDescriptor yX6_likeness.desc).map (fun d => d.parameters.length) = some 2 := by decide +kernel
theorem mo_likeness_met (l : Launch) (Z : MZ) (I : St) (x1 : Int32) (x2 : Int32) (r : (Int32 × St)) (h : mo_likeness x1 x2 I = some r) : Met l yX6_likeness (ws_ yX6_likeness cX6_likeness 3 (some .int)) mo_likeness_rm (va_Pc [.ref (mH Z), .int x1, .int x2] (mS Z I)) (Qwr (some (.int r.1)) (mS Z r.2) (mA Z)) 0 0 (mA Z) := by
  refine Met.ofW (cc := cX6_likeness) (maxL := 3) (ret := some .int) (by decide) rfl ?_
  intro p e s m args below meth c s₁ B hml hv
  obtain ⟨rfl, hv⟩ := hv
  have hts := atoms_spec (ws := ws_ yX6_likeness cX6_likeness 3 (some .int)) B.pre
  have hts : ∀ w ∈ lw_all, w.before _ s = true := fun w h => hts w (List.mem_cons_of_mem _ h)
  have C : SCx p s m _ meth c cX6_likeness 3 (some .int) RX6 := ⟨B.exec, B.bytes, B.returns, B.notSynchronized, hml, findClass_of_methodNamed B.named, hts⟩
  have hl := lv_entry [.ref (mH Z), .int x1, .int x2] (n := 3) (Nat.le_of_ble_eq_true rfl)
  rw [lg_entry_eq]
  generalize (lg_sl [.ref (mH Z), .int x1, .int x2] ++ List.replicate (3 - (lg_sl [.ref (mH Z), .int x1, .int x2]).length) Slot.unset).toArray = ls at hl ⊢
  have C : MCx p s m _ meth c _ _ _ Z := ⟨C, hv.2⟩
  have hM : mIn Z s I s.heap [] := ⟨hv.1, va_S.rf⟩
  exact mo_likeness_w0 C x1 x2 I _ _ ls hM hl h

/-! SecondChancesModel.oddsOf(III)J -/
def mo_oddsOf_rm : Room := { frames := 4, cells := 0, slots := 0, locals := 95 }
def mo_oddsOf_P0 (p : Program) (l : Launch) (e : Env) (s : State) (m : MethodId) (args : Array Value) (below : List Frame) (meth : Method) (c : Code) (Z : MZ) (r : Int64) (f : Int32 → Int32 → Int32 → Option Int64) : Prop := ∀ (x1 : Int32) (x2 : Int32) (x3 : Int32) (ls : Array Slot), lv_has ls 11 [(0, .ref (mH Z)), (1, .int x1), (2, .int x2), (3, .int x3)] → f x1 x2 x3 = some r → W p l e mo_oddsOf_rm s m args below meth c s.heap [] 0 0 (MQ below (Qro (some (.long r))) args s 0 0 (fun _ => False)) (F0 m 0 ls [])
def mo_oddsOf_P38 (p : Program) (l : Launch) (e : Env) (s : State) (m : MethodId) (args : Array Value) (below : List Frame) (meth : Method) (c : Code) (Z : MZ) (r : Int64) (f : Int32 → Int32 → Int32 → Int64 → Int64 → Int32 → Option Int64) : Prop := ∀ (x3 : Int32) (x4 : Int32) (x5 : Int32) (x6 : Int64) (x8 : Int64) (x10 : Int32) (ls : Array Slot), lv_has ls 11 [(0, .ref (mH Z)), (3, .int x3), (4, .int x4), (5, .int x5), (6, .long x6), (8, .long x8), (10, .int x10)] → f x3 x4 x5 x6 x8 x10 = some r → W p l e mo_oddsOf_rm s m args below meth c s.heap [] 0 0 (MQ below (Qro (some (.long r))) args s 0 0 (fun _ => False)) (F0 m 38 ls [])
def mo_oddsOf_P90 (p : Program) (l : Launch) (e : Env) (s : State) (m : MethodId) (args : Array Value) (below : List Frame) (meth : Method) (c : Code) (Z : MZ) (r : Int64) (f : Int32 → Int32 → Int32 → Int64 → Int64 → Int32 → Option Int64) : Prop := ∀ (x3 : Int32) (x4 : Int32) (x5 : Int32) (x6 : Int64) (x8 : Int64) (x10 : Int32) (ls : Array Slot), lv_has ls 11 [(0, .ref (mH Z)), (3, .int x3), (4, .int x4), (5, .int x5), (6, .long x6), (8, .long x8), (10, .int x10)] → f x3 x4 x5 x6 x8 x10 = some r → W p l e mo_oddsOf_rm s m args below meth c s.heap [] 0 0 (MQ below (Qro (some (.long r))) args s 0 0 (fun _ => False)) (F0 m 90 ls [])
def mo_oddsOf_b90 (I : St) (k38 : Int32 → Int32 → Int32 → Int64 → Int64 → Int32 → Option Int64) (x3 : Int32) (x4 : Int32) (x5 : Int32) (x6 : Int64) (x8 : Int64) (x10 : Int32) : Option Int64 :=
  k38 x3 x4 x5 x6 x8 (x10 + 1)
theorem mo_oddsOf_w90 {p : Program} {l : Launch} {e : Env} {s : State} {m : MethodId} {args : Array Value} {below : List Frame} {meth : Method} {c : Code} {Z : MZ} {I : St} (C : MCx p s m args meth c cX6_oddsOf 11 (some .long) Z) (hM : mPD Z I s.heap) {r : Int64} {k38 : Int32 → Int32 → Int32 → Int64 → Int64 → Int32 → Option Int64} (hk38 : mo_oddsOf_P38 p l e s m args below meth c Z r k38) : mo_oddsOf_P90 p l e s m args below meth c Z r (mo_oddsOf_b90 I k38) := by
  intro x3 x4 x5 x6 x8 x10 ls hl h
  obtain ⟨⟨hx, hb, hr, hlocks, hml, hown, hts⟩, hK⟩ := id C
  unfold mo_oddsOf_b90 at h
  refine lv_iinc (v := (x10 + 1)) (lv' := [(10, .int (x10 + 1)), (0, .ref (mH Z)), (3, .int x3), (4, .int x4), (5, .int x5), (6, .long x6), (8, .long x8)]) hx hb dX6_oddsOf_90 hl (k := 6) rfl rfl (by decide) rfl (fun ls hl => ?_)
  refine lv_goto (tgt := 38) hx hb dX6_oddsOf_93 (by decide) ?_
  exact hk38 x3 x4 x5 x6 x8 (x10 + 1) ls (lv_sub hl [1, 2, 3, 4, 5, 6, 0] rfl) h
def mo_oddsOf_b38 (I : St) (k38 : Int32 → Int32 → Int32 → Int64 → Int64 → Int32 → Option Int64) (x3 : Int32) (x4 : Int32) (x5 : Int32) (x6 : Int64) (x8 : Int64) (x10 : Int32) : Option Int64 :=
  if (8 : Int32) ≤ x10 then (bd_ (mo_lowest x6 x8 x3) fun v2 =>
    some v2)
  else (bd_ (mo_isIn x5 x10) fun v3 =>
    if v3 = 0 then (mo_oddsOf_b90 I k38 x3 x4 x5 x6 x8 x10)
    else (al_ 4 (I 17) (3 : Int32) fun v5 =>
      if v5 ≤ x4 then (mo_oddsOf_b90 I k38 x3 x4 x5 x6 x8 x10)
      else (al_ 8 (I 15) x10 fun v7 =>
        lt_ (x6 * (((16 : Int32) - v7).toInt64)) fun v8 =>
        lt_ (x8 * (16 : Int64)) fun v9 =>
        mo_oddsOf_b90 I k38 x3 x4 x5 v8 v9 x10)))
theorem mo_oddsOf_w38 {p : Program} {l : Launch} {e : Env} {s : State} {m : MethodId} {args : Array Value} {below : List Frame} {meth : Method} {c : Code} {Z : MZ} {I : St} (C : MCx p s m args meth c cX6_oddsOf 11 (some .long) Z) (hM : mPD Z I s.heap) {r : Int64} {k38 : Int32 → Int32 → Int32 → Int64 → Int64 → Int32 → Option Int64} (hk38 : mo_oddsOf_P38 p l e s m args below meth c Z r k38) : mo_oddsOf_P38 p l e s m args below meth c Z r (mo_oddsOf_b38 I k38) := by
  intro x3 x4 x5 x6 x8 x10 ls hl h
  obtain ⟨⟨hx, hb, hr, hlocks, hml, hown, hts⟩, hK⟩ := id C
  unfold mo_oddsOf_b38 at h
  refine lv_iload hx hb dX6_oddsOf_38 (lv_at hl 6 rfl) ?_
  refine lv_bipush (v := 8) hx hb dX6_oddsOf_40 (by decide) ?_
  refine lv_icmp_ge (tgt := 96) hx hb dX6_oddsOf_42 (by decide) (fun c1 => ?_) (fun c1 => ?_)
  · have h := ip_ c1 h
    refine lv_lload hx hb dX6_oddsOf_96 (lv_at hl 4 rfl) ?_
    refine lv_lload hx hb dX6_oddsOf_98 (lv_at hl 5 rfl) ?_
    refine lv_iload_n hx hb dX6_oddsOf_100 rfl (lv_at hl 1 rfl) ?_
    obtain ⟨v2, q_v2, h⟩ := bd_e h
    refine s_roJ (As := [.long x6, .long x8, .int x3]) (rest := []) C.1 (mo_lowest_met _ x6 x8 x3 v2 q_v2) (lw_S q1379 q1380 q88 q1381) mo_lowest_hd ⟨rfl, rfl⟩ ⟨Nat.le_of_ble_eq_true rfl, Nat.le_of_ble_eq_true rfl⟩ ⟨Nat.le_refl _, Nat.le_refl _⟩ rfl hl.1 rfl (Nat.le_of_ble_eq_true rfl) dX6_oddsOf_101 ?_
    have h := so_ h
    subst h
    exact W.lret hx hb hr (fun t ht hW => ⟨rfl, ht⟩) (fun q hq => by cases hq) dX6_oddsOf_104
  · have h := in_ c1 h
    refine lv_iload hx hb dX6_oddsOf_45 (lv_at hl 3 rfl) ?_
    refine lv_iload hx hb dX6_oddsOf_47 (lv_at hl 6 rfl) ?_
    obtain ⟨v3, q_v3, h⟩ := bd_e h
    refine s_roI (As := [.int x5, .int x10]) (rest := []) C.1 (mo_isIn_met _ x5 x10 v3 q_v3) (lw_S q1194 q1195 q88 q1196) mo_isIn_hd ⟨rfl, rfl⟩ ⟨Nat.le_of_ble_eq_true rfl, Nat.le_of_ble_eq_true rfl⟩ ⟨Nat.le_refl _, Nat.le_refl _⟩ rfl hl.1 rfl (Nat.le_of_ble_eq_true rfl) dX6_oddsOf_49 ?_
    refine lv_if_eq (tgt := 90) hx hb dX6_oddsOf_52 (by decide) (fun c4 => ?_) (fun c4 => ?_)
    · have h := ip_ c4 h
      exact mo_oddsOf_w90 C hM hk38 x3 x4 x5 x6 x8 x10 ls (lv_sub hl [0, 1, 2, 3, 4, 5, 6] rfl) h
    · have h := in_ c4 h
      refine lv_iload hx hb dX6_oddsOf_55 (lv_at hl 2 rfl) ?_
      refine lv_aload_n hx hb dX6_oddsOf_57 rfl (lv_at hl 0 rfl) ?_
      refine gm17 C hM dX6_oddsOf_58 ?_
      refine lv_iconst (v := 3) hx hb dX6_oddsOf_61 (by decide) ?_
      obtain ⟨i_v5, h⟩ := al_e h
      refine m_ald C hM (pos := 15) (k := 17) rfl rfl i_v5 dX6_oddsOf_62 (fun v5 e_v5 => ?_)
      have h := h v5 e_v5
      refine lv_icmp_ge (tgt := 90) hx hb dX6_oddsOf_63 (by decide) (fun c6 => ?_) (fun c6 => ?_)
      · have h := ip_ c6 h
        exact mo_oddsOf_w90 C hM hk38 x3 x4 x5 x6 x8 x10 ls (lv_sub hl [0, 1, 2, 3, 4, 5, 6] rfl) h
      · have h := in_ c6 h
        refine lv_lload hx hb dX6_oddsOf_66 (lv_at hl 4 rfl) ?_
        refine lv_bipush (v := 16) hx hb dX6_oddsOf_68 (by decide) ?_
        refine lv_aload_n hx hb dX6_oddsOf_70 rfl (lv_at hl 0 rfl) ?_
        refine gm15 C hM dX6_oddsOf_71 ?_
        refine lv_iload hx hb dX6_oddsOf_74 (lv_at hl 6 rfl) ?_
        obtain ⟨i_v7, h⟩ := al_e h
        refine m_ald C hM (pos := 13) (k := 15) rfl rfl i_v7 dX6_oddsOf_76 (fun v7 e_v7 => ?_)
        have h := h v7 e_v7
        refine lv_isub hx hb dX6_oddsOf_77 ?_
        refine lv_i2l hx hb dX6_oddsOf_78 rfl ?_
        refine lv_lmul hx hb dX6_oddsOf_79 ?_
        refine lv_topl (fun v8 e_v8 => ?_)
        have h := lt_i h e_v8
        refine lv_lstore (lv' := [(6, .long v8), (0, .ref (mH Z)), (3, .int x3), (4, .int x4), (5, .int x5), (8, .long x8), (10, .int x10)]) hx hb dX6_oddsOf_80 hl (by decide) rfl (fun ls hl => ?_)
        refine lv_lload hx hb dX6_oddsOf_82 (lv_at hl 5 rfl) ?_
        refine lv_ldc2 (v := 16) hx hb hown (hts _ q1378) dX6_oddsOf_84 ?_
        refine lv_lmul hx hb dX6_oddsOf_87 ?_
        refine lv_topl (fun v9 e_v9 => ?_)
        have h := lt_i h e_v9
        refine lv_lstore (lv' := [(8, .long v9), (6, .long v8), (0, .ref (mH Z)), (3, .int x3), (4, .int x4), (5, .int x5), (10, .int x10)]) hx hb dX6_oddsOf_88 hl (by decide) rfl (fun ls hl => ?_)
        exact mo_oddsOf_w90 C hM hk38 x3 x4 x5 v8 v9 x10 ls (lv_sub hl [2, 3, 4, 5, 1, 0, 6] rfl) h
def mo_oddsOf_l38 (I : St) (n : Nat) : Int32 → Int32 → Int32 → Int64 → Int64 → Int32 → Option Int64 := lp (fun _ _ _ _ _ _ => none) (mo_oddsOf_b38 I) n
theorem mo_oddsOf_lw38 {p : Program} {l : Launch} {e : Env} {s : State} {m : MethodId} {args : Array Value} {below : List Frame} {meth : Method} {c : Code} {Z : MZ} {I : St} (C : MCx p s m args meth c cX6_oddsOf 11 (some .long) Z) (hM : mPD Z I s.heap) {r : Int64} : ∀ n : Nat, mo_oddsOf_P38 p l e s m args below meth c Z r (mo_oddsOf_l38 I n) := by
  intro n
  induction n with
  | zero => intro x3 x4 x5 x6 x8 x10 ls hl h; exact no_ h
  | succ n ih => exact mo_oddsOf_w38 C hM ih
def mo_oddsOf (I : St) (x1 : Int32) (x2 : Int32) (x3 : Int32) : Option Int64 :=
  bd_ (mo_likenessOf I x1 x2) fun v1 =>
  if v1 = (-3 : Int32) then (bd_ (mo_no (-3 : Int32)) fun v4 =>
    some v4)
  else (bd_ (mo_comesOf I x1 x2) fun v3 =>
    mo_oddsOf_l38 I FU x3 v1 v3 (1 : Int64) (1 : Int64) (0 : Int32))
theorem mo_oddsOf_w0 {p : Program} {l : Launch} {e : Env} {s : State} {m : MethodId} {args : Array Value} {below : List Frame} {meth : Method} {c : Code} {Z : MZ} {I : St} (C : MCx p s m args meth c cX6_oddsOf 11 (some .long) Z) (hM : mPD Z I s.heap) {r : Int64} : mo_oddsOf_P0 p l e s m args below meth c Z r (mo_oddsOf I) := by
  intro x1 x2 x3 ls hl h
  obtain ⟨⟨hx, hb, hr, hlocks, hml, hown, hts⟩, hK⟩ := id C
  unfold mo_oddsOf at h
  refine lv_aload_n hx hb dX6_oddsOf_0 rfl (lv_at hl 0 rfl) ?_
  refine lv_iload_n hx hb dX6_oddsOf_1 rfl (lv_at hl 1 rfl) ?_
  refine lv_iload_n hx hb dX6_oddsOf_2 rfl (lv_at hl 2 rfl) ?_
  obtain ⟨v1, q_v1, h⟩ := bd_e h
  refine m_roI (As := [.int x1, .int x2]) (rest := []) C hM (mo_likenessOf_met _ Z I x1 x2 v1 q_v1) (lw_V q1362 q1364 qs66 q88 q1365) mo_likenessOf_hd ⟨rfl, rfl⟩ ⟨Nat.le_of_ble_eq_true rfl, Nat.le_of_ble_eq_true rfl⟩ ⟨Nat.le_refl _, Nat.le_refl _⟩ rfl hl.1 rfl (Nat.le_of_ble_eq_true rfl) dX6_oddsOf_3 ?_
  refine lv_istore (lv' := [(4, .int v1), (0, .ref (mH Z)), (1, .int x1), (2, .int x2), (3, .int x3)]) hx hb dX6_oddsOf_6 hl (by decide) rfl (fun ls hl => ?_)
  refine lv_iload hx hb dX6_oddsOf_8 (lv_at hl 0 rfl) ?_
  refine lv_bipush (v := -3) hx hb dX6_oddsOf_10 (by decide) ?_
  refine lv_icmp_ne (tgt := 21) hx hb dX6_oddsOf_12 (by decide) (fun c2 => ?_) (fun c2 => ?_)
  · have h := in_ c2 h
    refine lv_aload_n hx hb dX6_oddsOf_21 rfl (lv_at hl 1 rfl) ?_
    refine lv_iload_n hx hb dX6_oddsOf_22 rfl (lv_at hl 2 rfl) ?_
    refine lv_iload_n hx hb dX6_oddsOf_23 rfl (lv_at hl 3 rfl) ?_
    obtain ⟨v3, q_v3, h⟩ := bd_e h
    refine m_roI (As := [.int x1, .int x2]) (rest := []) C hM (mo_comesOf_met _ Z I x1 x2 v3 q_v3) (lw_V q1266 q1268 qs52 q88 q1269) mo_comesOf_hd ⟨rfl, rfl⟩ ⟨Nat.le_of_ble_eq_true rfl, Nat.le_of_ble_eq_true rfl⟩ ⟨Nat.le_refl _, Nat.le_refl _⟩ rfl hl.1 rfl (Nat.le_of_ble_eq_true rfl) dX6_oddsOf_24 ?_
    refine lv_istore (lv' := [(5, .int v3), (4, .int v1), (0, .ref (mH Z)), (1, .int x1), (2, .int x2), (3, .int x3)]) hx hb dX6_oddsOf_27 hl (by decide) rfl (fun ls hl => ?_)
    refine lv_lconst (v := 1) hx hb dX6_oddsOf_29 (by decide) ?_
    refine lv_lstore (lv' := [(6, .long (1 : Int64)), (5, .int v3), (4, .int v1), (0, .ref (mH Z)), (1, .int x1), (2, .int x2), (3, .int x3)]) hx hb dX6_oddsOf_30 hl (by decide) rfl (fun ls hl => ?_)
    refine lv_lconst (v := 1) hx hb dX6_oddsOf_32 (by decide) ?_
    refine lv_lstore (lv' := [(8, .long (1 : Int64)), (6, .long (1 : Int64)), (5, .int v3), (4, .int v1), (0, .ref (mH Z)), (1, .int x1), (2, .int x2), (3, .int x3)]) hx hb dX6_oddsOf_33 hl (by decide) rfl (fun ls hl => ?_)
    refine lv_iconst (v := 0) hx hb dX6_oddsOf_35 (by decide) ?_
    refine lv_istore (lv' := [(10, .int (0 : Int32)), (8, .long (1 : Int64)), (6, .long (1 : Int64)), (5, .int v3), (4, .int v1), (0, .ref (mH Z)), (1, .int x1), (2, .int x2), (3, .int x3)]) hx hb dX6_oddsOf_36 hl (by decide) rfl (fun ls hl => ?_)
    exact mo_oddsOf_lw38 C hM FU x3 v1 v3 (1 : Int64) (1 : Int64) (0 : Int32) ls (lv_sub hl [5, 8, 4, 3, 2, 1, 0] rfl) h
  · have h := ip_ c2 h
    refine lv_bipush (v := -3) hx hb dX6_oddsOf_15 (by decide) ?_
    obtain ⟨v4, q_v4, h⟩ := bd_e h
    refine s_roJ (As := [.int (-3 : Int32)]) (rest := []) C.1 (mo_no_met _ (-3 : Int32) v4 q_v4) (lw_S q1374 q1375 q88 q1376) mo_no_hd ⟨rfl, rfl⟩ ⟨Nat.le_of_ble_eq_true rfl, Nat.le_of_ble_eq_true rfl⟩ ⟨Nat.le_refl _, Nat.le_refl _⟩ rfl hl.1 rfl (Nat.le_of_ble_eq_true rfl) dX6_oddsOf_17 ?_
    have h := so_ h
    subst h
    exact W.lret hx hb hr (fun t ht hW => ⟨rfl, ht⟩) (fun q hq => by cases hq) dX6_oddsOf_20
theorem mo_oddsOf_hd : yX6_oddsOf.cls = RX6 ∧ yX6_oddsOf.cls ≠ "java/lang/invoke/MethodHandle" ∧ yX6_oddsOf.cls ≠ "java/lang/invoke/VarHandle" ∧ (parseMethodDescriptor yX6_oddsOf.desc).map (fun d => d.parameters.length) = some 3 := by decide +kernel
theorem mo_oddsOf_met (l : Launch) (Z : MZ) (I : St) (x1 : Int32) (x2 : Int32) (x3 : Int32) (r : Int64) (h : mo_oddsOf I x1 x2 x3 = some r) : Met l yX6_oddsOf (ws_ yX6_oddsOf cX6_oddsOf 11 (some .long)) mo_oddsOf_rm (va_Pc [.ref (mH Z), .int x1, .int x2, .int x3] (mS Z I)) (Qro (some (.long r))) 0 0 (fun _ => False) := by
  refine Met.ofW (cc := cX6_oddsOf) (maxL := 11) (ret := some .long) (by decide) rfl ?_
  intro p e s m args below meth c s₁ B hml hv
  obtain ⟨rfl, hv⟩ := hv
  have hts := atoms_spec (ws := ws_ yX6_oddsOf cX6_oddsOf 11 (some .long)) B.pre
  have hts : ∀ w ∈ lw_all, w.before _ s = true := fun w h => hts w (List.mem_cons_of_mem _ h)
  have C : SCx p s m _ meth c cX6_oddsOf 11 (some .long) RX6 := ⟨B.exec, B.bytes, B.returns, B.notSynchronized, hml, findClass_of_methodNamed B.named, hts⟩
  have hl := lv_entry [.ref (mH Z), .int x1, .int x2, .int x3] (n := 11) (Nat.le_of_ble_eq_true rfl)
  rw [lg_entry_eq]
  generalize (lg_sl [.ref (mH Z), .int x1, .int x2, .int x3] ++ List.replicate (11 - (lg_sl [.ref (mH Z), .int x1, .int x2, .int x3]).length) Slot.unset).toArray = ls at hl ⊢
  have C : MCx p s m _ meth c _ _ _ Z := ⟨C, hv.2⟩
  have hM := hv.1
  exact mo_oddsOf_w0 C hM x1 x2 x3 ls hl h

/-! SecondChancesModel.odds(III)J -/
def mo_odds_rm : Room := { frames := 5, cells := 0, slots := 0, locals := 125 }
def mo_odds_P0 (p : Program) (l : Launch) (e : Env) (s : State) (m : MethodId) (args : Array Value) (below : List Frame) (meth : Method) (c : Code) (Z : MZ) (r : (Int64 × St)) (f : Int32 → Int32 → Int32 → St → Option (Int64 × St)) : Prop := ∀ (x1 : Int32) (x2 : Int32) (x3 : Int32) (I : St) (H : Heap) (locs : List Loc) (ls : Array Slot), mIn Z s I H locs → lv_has ls 4 [(0, .ref (mH Z)), (1, .int x1), (2, .int x2), (3, .int x3)] → f x1 x2 x3 I = some r → W p l e mo_odds_rm s m args below meth c H locs 0 0 (MQ below (Qwr (some (.long r.1)) (mS Z r.2) (mA Z)) args s 0 0 (mA Z)) (F0 m 0 ls [])
def mo_odds_P34 (p : Program) (l : Launch) (e : Env) (s : State) (m : MethodId) (args : Array Value) (below : List Frame) (meth : Method) (c : Code) (Z : MZ) (r : (Int64 × St)) (f : St → Option (Int64 × St)) : Prop := ∀ (I : St) (H : Heap) (locs : List Loc) (ls : Array Slot), mIn Z s I H locs → lv_has ls 4 [] → f  I = some r → W p l e mo_odds_rm s m args below meth c H locs 0 0 (MQ below (Qwr (some (.long r.1)) (mS Z r.2) (mA Z)) args s 0 0 (mA Z)) (F0 m 34 ls [])
def mo_odds_b34 (I : St) : Option (Int64 × St) :=
  bd_ (mo_no (-2 : Int32)) fun v1 =>
  some (v1, I)
theorem mo_odds_w34 {p : Program} {l : Launch} {e : Env} {s : State} {m : MethodId} {args : Array Value} {below : List Frame} {meth : Method} {c : Code} {Z : MZ} (C : MCx p s m args meth c cX6_odds 4 (some .long) Z) {r : (Int64 × St)} : mo_odds_P34 p l e s m args below meth c Z r (mo_odds_b34) := by
  intro I H locs ls hM hl h
  obtain ⟨⟨hx, hb, hr, hlocks, hml, hown, hts⟩, hK⟩ := id C
  unfold mo_odds_b34 at h
  refine lv_bipush (v := -2) hx hb dX6_odds_34 (by decide) ?_
  obtain ⟨v1, q_v1, h⟩ := bd_e h
  refine s_roJ (As := [.int (-2 : Int32)]) (rest := []) C.1 (mo_no_met _ (-2 : Int32) v1 q_v1) (lw_S q1374 q1375 q88 q1376) mo_no_hd ⟨rfl, rfl⟩ ⟨Nat.le_of_ble_eq_true rfl, Nat.le_of_ble_eq_true rfl⟩ ⟨Nat.le_refl _, Nat.le_refl _⟩ rfl hl.1 rfl (Nat.le_of_ble_eq_true rfl) dX6_odds_36 ?_
  have h := so_ h
  subst h
  exact W.lret hx hb hr (fun t ht hW => ⟨rfl, ⟨by rw [ht]; exact hM.1, va_K.moved hW.alike hK⟩, hM.2.F ht⟩) hM.2.2.2 dX6_odds_39
def mo_odds (x1 : Int32) (x2 : Int32) (x3 : Int32) (I : St) : Option (Int64 × St) :=
  bd2_ (mo_isDeed x1 I) fun v2 I1 =>
  if v2 = 0 then (mo_odds_b34  I1)
  else (bd_ (mo_isHour x2) fun v4 =>
    if v4 = 0 then (mo_odds_b34  I1)
    else (bd_ (mo_in x3 (0 : Int32) (1 : Int32)) fun v6 =>
      if v6 = 0 then (mo_odds_b34  I1)
      else (bd_ (mo_oddsOf I1 x1 x2 x3) fun v8 =>
        some (v8, I1))))
theorem mo_odds_w0 {p : Program} {l : Launch} {e : Env} {s : State} {m : MethodId} {args : Array Value} {below : List Frame} {meth : Method} {c : Code} {Z : MZ} (C : MCx p s m args meth c cX6_odds 4 (some .long) Z) {r : (Int64 × St)} : mo_odds_P0 p l e s m args below meth c Z r (mo_odds) := by
  intro x1 x2 x3 I H locs ls hM hl h
  obtain ⟨⟨hx, hb, hr, hlocks, hml, hown, hts⟩, hK⟩ := id C
  unfold mo_odds at h
  refine lv_aload_n hx hb dX6_odds_0 rfl (lv_at hl 0 rfl) ?_
  refine lv_iload_n hx hb dX6_odds_1 rfl (lv_at hl 1 rfl) ?_
  obtain ⟨v2, I1, q_I1, h⟩ := bd2_e h
  refine m_wrI (As := [.int x1]) (rest := []) C hM (mo_isDeed_met _ Z I x1 (v2, I1) q_I1) (lw_V q1209 q1211 qs46 q88 q1212) mo_isDeed_hd ⟨rfl, rfl⟩ ⟨Nat.le_of_ble_eq_true rfl, Nat.le_of_ble_eq_true rfl⟩ ⟨Nat.le_refl _, Nat.le_refl _⟩ rfl hl.1 rfl (Nat.le_of_ble_eq_true rfl) dX6_odds_2 (fun H locs hM => ?_)
  refine lv_if_eq (tgt := 34) hx hb dX6_odds_5 (by decide) (fun c3 => ?_) (fun c3 => ?_)
  · have h := ip_ c3 h
    exact mo_odds_w34 C  I1 _ _ ls hM (lv_sub hl [] rfl) h
  · have h := in_ c3 h
    refine lv_iload_n hx hb dX6_odds_8 rfl (lv_at hl 2 rfl) ?_
    obtain ⟨v4, q_v4, h⟩ := bd_e h
    refine s_roI (As := [.int x2]) (rest := []) C.1 (mo_isHour_met _ x2 v4 q_v4) (lw_S q1240 q1241 q88 q1242) mo_isHour_hd ⟨rfl, rfl⟩ ⟨Nat.le_of_ble_eq_true rfl, Nat.le_of_ble_eq_true rfl⟩ ⟨Nat.le_refl _, Nat.le_refl _⟩ rfl hl.1 rfl (Nat.le_of_ble_eq_true rfl) dX6_odds_9 ?_
    refine lv_if_eq (tgt := 34) hx hb dX6_odds_12 (by decide) (fun c5 => ?_) (fun c5 => ?_)
    · have h := ip_ c5 h
      exact mo_odds_w34 C  I1 _ _ ls hM (lv_sub hl [] rfl) h
    · have h := in_ c5 h
      refine lv_iload_n hx hb dX6_odds_15 rfl (lv_at hl 3 rfl) ?_
      refine lv_iconst (v := 0) hx hb dX6_odds_16 (by decide) ?_
      refine lv_iconst (v := 1) hx hb dX6_odds_17 (by decide) ?_
      obtain ⟨v6, q_v6, h⟩ := bd_e h
      refine s_roI (As := [.int x3, .int (0 : Int32), .int (1 : Int32)]) (rest := []) C.1 (mo_in_met _ x3 (0 : Int32) (1 : Int32) v6 q_v6) (lw_S q1168 q1169 q88 q1170) mo_in_hd ⟨rfl, rfl⟩ ⟨Nat.le_of_ble_eq_true rfl, Nat.le_of_ble_eq_true rfl⟩ ⟨Nat.le_refl _, Nat.le_refl _⟩ rfl hl.1 rfl (Nat.le_of_ble_eq_true rfl) dX6_odds_18 ?_
      refine lv_if_eq (tgt := 34) hx hb dX6_odds_21 (by decide) (fun c7 => ?_) (fun c7 => ?_)
      · have h := ip_ c7 h
        exact mo_odds_w34 C  I1 _ _ ls hM (lv_sub hl [] rfl) h
      · have h := in_ c7 h
        refine lv_aload_n hx hb dX6_odds_24 rfl (lv_at hl 0 rfl) ?_
        refine lv_iload_n hx hb dX6_odds_25 rfl (lv_at hl 1 rfl) ?_
        refine lv_iload_n hx hb dX6_odds_26 rfl (lv_at hl 2 rfl) ?_
        refine lv_iload_n hx hb dX6_odds_27 rfl (lv_at hl 3 rfl) ?_
        obtain ⟨v8, q_v8, h⟩ := bd_e h
        refine m_roJ (As := [.int x1, .int x2, .int x3]) (rest := []) C hM.1 (mo_oddsOf_met _ Z I1 x1 x2 x3 v8 q_v8) (lw_V q1370 q1372 qs67 q88 q1373) mo_oddsOf_hd ⟨rfl, rfl⟩ ⟨Nat.le_of_ble_eq_true rfl, Nat.le_of_ble_eq_true rfl⟩ ⟨Nat.le_refl _, Nat.le_refl _⟩ rfl hl.1 rfl (Nat.le_of_ble_eq_true rfl) dX6_odds_28 ?_
        refine lv_goto (tgt := 39) hx hb dX6_odds_31 (by decide) ?_
        have h := so_ h
        subst h
        exact W.lret hx hb hr (fun t ht hW => ⟨rfl, ⟨by rw [ht]; exact hM.1, va_K.moved hW.alike hK⟩, hM.2.F ht⟩) hM.2.2.2 dX6_odds_39
theorem mo_odds_hd : yX6_odds.cls = RX6 ∧ yX6_odds.cls ≠ "java/lang/invoke/MethodHandle" ∧ yX6_odds.cls ≠ "java/lang/invoke/VarHandle" ∧ (parseMethodDescriptor yX6_odds.desc).map (fun d => d.parameters.length) = some 3 := by decide +kernel
theorem mo_odds_met (l : Launch) (Z : MZ) (I : St) (x1 : Int32) (x2 : Int32) (x3 : Int32) (r : (Int64 × St)) (h : mo_odds x1 x2 x3 I = some r) : Met l yX6_odds (ws_ yX6_odds cX6_odds 4 (some .long)) mo_odds_rm (va_Pc [.ref (mH Z), .int x1, .int x2, .int x3] (mS Z I)) (Qwr (some (.long r.1)) (mS Z r.2) (mA Z)) 0 0 (mA Z) := by
  refine Met.ofW (cc := cX6_odds) (maxL := 4) (ret := some .long) (by decide) rfl ?_
  intro p e s m args below meth c s₁ B hml hv
  obtain ⟨rfl, hv⟩ := hv
  have hts := atoms_spec (ws := ws_ yX6_odds cX6_odds 4 (some .long)) B.pre
  have hts : ∀ w ∈ lw_all, w.before _ s = true := fun w h => hts w (List.mem_cons_of_mem _ h)
  have C : SCx p s m _ meth c cX6_odds 4 (some .long) RX6 := ⟨B.exec, B.bytes, B.returns, B.notSynchronized, hml, findClass_of_methodNamed B.named, hts⟩
  have hl := lv_entry [.ref (mH Z), .int x1, .int x2, .int x3] (n := 4) (Nat.le_of_ble_eq_true rfl)
  rw [lg_entry_eq]
  generalize (lg_sl [.ref (mH Z), .int x1, .int x2, .int x3] ++ List.replicate (4 - (lg_sl [.ref (mH Z), .int x1, .int x2, .int x3]).length) Slot.unset).toArray = ls at hl ⊢
  have C : MCx p s m _ meth c _ _ _ Z := ⟨C, hv.2⟩
  have hM : mIn Z s I s.heap [] := ⟨hv.1, va_S.rf⟩
  exact mo_odds_w0 C x1 x2 x3 I _ _ ls hM hl h

/-! SecondChancesModel.seen(III)I -/
def mo_seen_rm : Room := { frames := 2, cells := 0, slots := 0, locals := 42 }
def mo_seen_P0 (p : Program) (l : Launch) (e : Env) (s : State) (m : MethodId) (args : Array Value) (below : List Frame) (meth : Method) (c : Code) (Z : MZ) (r : (Int32 × St)) (f : Int32 → Int32 → Int32 → St → Option (Int32 × St)) : Prop := ∀ (x1 : Int32) (x2 : Int32) (x3 : Int32) (I : St) (H : Heap) (locs : List Loc) (ls : Array Slot), mIn Z s I H locs → lv_has ls 4 [(0, .ref (mH Z)), (1, .int x1), (2, .int x2), (3, .int x3)] → f x1 x2 x3 I = some r → W p l e mo_seen_rm s m args below meth c H locs 0 0 (MQ below (Qwr (some (.int r.1)) (mS Z r.2) (mA Z)) args s 0 0 (mA Z)) (F0 m 0 ls [])
def mo_seen (x1 : Int32) (x2 : Int32) (x3 : Int32) (I : St) : Option (Int32 × St) :=
  bd_ (mo_isPerson x1) fun v1 =>
  if v1 = 0 then (some ((-2 : Int32), I))
  else (bd_ (mo_in x2 (0 : Int32) (5 : Int32)) fun v3 =>
    if v3 = 0 then (some ((-2 : Int32), I))
    else (bd_ (mo_isHour x3) fun v5 =>
      if v5 = 0 then (some ((-2 : Int32), I))
      else (if (I 26 0) = (10 : Int32) then (some ((-4 : Int32), I))
        else (as_ 10 27 I (I 26 0) x1 fun I8 =>
          as_ 10 28 I8 (I8 26 0) x2 fun I9 =>
          as_ 10 29 I9 (I9 26 0) x3 fun I10 =>
          lt_ (upd2 I10 26 0 ((I10 26 0) + (1 : Int32))) fun I11 =>
          some (((I11 26 0) - (1 : Int32)), I11)))))
theorem mo_seen_w0 {p : Program} {l : Launch} {e : Env} {s : State} {m : MethodId} {args : Array Value} {below : List Frame} {meth : Method} {c : Code} {Z : MZ} (C : MCx p s m args meth c cX6_seen 4 (some .int) Z) {r : (Int32 × St)} : mo_seen_P0 p l e s m args below meth c Z r (mo_seen) := by
  intro x1 x2 x3 I H locs ls hM hl h
  obtain ⟨⟨hx, hb, hr, hlocks, hml, hown, hts⟩, hK⟩ := id C
  unfold mo_seen at h
  refine lv_iload_n hx hb dX6_seen_0 rfl (lv_at hl 1 rfl) ?_
  obtain ⟨v1, q_v1, h⟩ := bd_e h
  refine s_roI (As := [.int x1]) (rest := []) C.1 (mo_isPerson_met _ x1 v1 q_v1) (lw_S q1233 q1234 q88 q1235) mo_isPerson_hd ⟨rfl, rfl⟩ ⟨Nat.le_of_ble_eq_true rfl, Nat.le_of_ble_eq_true rfl⟩ ⟨Nat.le_refl _, Nat.le_refl _⟩ rfl hl.1 rfl (Nat.le_of_ble_eq_true rfl) dX6_seen_1 ?_
  refine lv_if_eq (tgt := 23) hx hb dX6_seen_4 (by decide) (fun c2 => ?_) (fun c2 => ?_)
  · have h := ip_ c2 h
    refine lv_bipush (v := -2) hx hb dX6_seen_23 (by decide) ?_
    have h := so_ h
    subst h
    exact W.iret hx hb hr (fun t ht hW => ⟨rfl, ⟨by rw [ht]; exact hM.1, va_K.moved hW.alike hK⟩, hM.2.F ht⟩) hM.2.2.2 dX6_seen_25
  · have h := in_ c2 h
    refine lv_iload_n hx hb dX6_seen_7 rfl (lv_at hl 2 rfl) ?_
    refine lv_iconst (v := 0) hx hb dX6_seen_8 (by decide) ?_
    refine lv_iconst (v := 5) hx hb dX6_seen_9 (by decide) ?_
    obtain ⟨v3, q_v3, h⟩ := bd_e h
    refine s_roI (As := [.int x2, .int (0 : Int32), .int (5 : Int32)]) (rest := []) C.1 (mo_in_met _ x2 (0 : Int32) (5 : Int32) v3 q_v3) (lw_S q1168 q1169 q88 q1170) mo_in_hd ⟨rfl, rfl⟩ ⟨Nat.le_of_ble_eq_true rfl, Nat.le_of_ble_eq_true rfl⟩ ⟨Nat.le_refl _, Nat.le_refl _⟩ rfl hl.1 rfl (Nat.le_of_ble_eq_true rfl) dX6_seen_10 ?_
    refine lv_if_eq (tgt := 23) hx hb dX6_seen_13 (by decide) (fun c4 => ?_) (fun c4 => ?_)
    · have h := ip_ c4 h
      refine lv_bipush (v := -2) hx hb dX6_seen_23 (by decide) ?_
      have h := so_ h
      subst h
      exact W.iret hx hb hr (fun t ht hW => ⟨rfl, ⟨by rw [ht]; exact hM.1, va_K.moved hW.alike hK⟩, hM.2.F ht⟩) hM.2.2.2 dX6_seen_25
    · have h := in_ c4 h
      refine lv_iload_n hx hb dX6_seen_16 rfl (lv_at hl 3 rfl) ?_
      obtain ⟨v5, q_v5, h⟩ := bd_e h
      refine s_roI (As := [.int x3]) (rest := []) C.1 (mo_isHour_met _ x3 v5 q_v5) (lw_S q1240 q1241 q88 q1242) mo_isHour_hd ⟨rfl, rfl⟩ ⟨Nat.le_of_ble_eq_true rfl, Nat.le_of_ble_eq_true rfl⟩ ⟨Nat.le_refl _, Nat.le_refl _⟩ rfl hl.1 rfl (Nat.le_of_ble_eq_true rfl) dX6_seen_17 ?_
      refine lv_if_ne (tgt := 26) hx hb dX6_seen_20 (by decide) (fun c6 => ?_) (fun c6 => ?_)
      · have h := in_ c6 h
        refine lv_aload_n hx hb dX6_seen_26 rfl (lv_at hl 0 rfl) ?_
        refine gm26 C hM.1 dX6_seen_27 ?_
        refine lv_bipush (v := 10) hx hb dX6_seen_30 (by decide) ?_
        refine lv_icmp_ne (tgt := 38) hx hb dX6_seen_32 (by decide) (fun c7 => ?_) (fun c7 => ?_)
        · have h := in_ c7 h
          refine lv_aload_n hx hb dX6_seen_38 rfl (lv_at hl 0 rfl) ?_
          refine gm27 C hM.1 dX6_seen_39 ?_
          refine lv_aload_n hx hb dX6_seen_42 rfl (lv_at hl 0 rfl) ?_
          refine gm26 C hM.1 dX6_seen_43 ?_
          refine lv_iload_n hx hb dX6_seen_46 rfl (lv_at hl 1 rfl) ?_
          obtain ⟨i_I8, h⟩ := as_e h
          refine m_ast C hM (pos := 20) (k := 27) rfl rfl i_I8 dX6_seen_47 (fun H locs I8 e_I8 hM => ?_)
          have h := h I8 e_I8
          refine lv_aload_n hx hb dX6_seen_48 rfl (lv_at hl 0 rfl) ?_
          refine gm28 C hM.1 dX6_seen_49 ?_
          refine lv_aload_n hx hb dX6_seen_52 rfl (lv_at hl 0 rfl) ?_
          refine gm26 C hM.1 dX6_seen_53 ?_
          refine lv_iload_n hx hb dX6_seen_56 rfl (lv_at hl 2 rfl) ?_
          obtain ⟨i_I9, h⟩ := as_e h
          refine m_ast C hM (pos := 21) (k := 28) rfl rfl i_I9 dX6_seen_57 (fun H locs I9 e_I9 hM => ?_)
          have h := h I9 e_I9
          refine lv_aload_n hx hb dX6_seen_58 rfl (lv_at hl 0 rfl) ?_
          refine gm29 C hM.1 dX6_seen_59 ?_
          refine lv_aload_n hx hb dX6_seen_62 rfl (lv_at hl 0 rfl) ?_
          refine gm26 C hM.1 dX6_seen_63 ?_
          refine lv_iload_n hx hb dX6_seen_66 rfl (lv_at hl 3 rfl) ?_
          obtain ⟨i_I10, h⟩ := as_e h
          refine m_ast C hM (pos := 22) (k := 29) rfl rfl i_I10 dX6_seen_67 (fun H locs I10 e_I10 hM => ?_)
          have h := h I10 e_I10
          refine lv_aload_n hx hb dX6_seen_68 rfl (lv_at hl 0 rfl) ?_
          refine lv_dup hx hb dX6_seen_69 rfl ?_
          refine gm26 C hM.1 dX6_seen_70 ?_
          refine lv_iconst (v := 1) hx hb dX6_seen_73 (by decide) ?_
          refine lv_iadd hx hb dX6_seen_74 ?_
          refine pm26 C hM dX6_seen_75 (fun H locs I11 e_I11 hM => ?_)
          have h := lt_i h e_I11
          refine lv_aload_n hx hb dX6_seen_78 rfl (lv_at hl 0 rfl) ?_
          refine gm26 C hM.1 dX6_seen_79 ?_
          refine lv_iconst (v := 1) hx hb dX6_seen_82 (by decide) ?_
          refine lv_isub hx hb dX6_seen_83 ?_
          have h := so_ h
          subst h
          exact W.iret hx hb hr (fun t ht hW => ⟨rfl, ⟨by rw [ht]; exact hM.1, va_K.moved hW.alike hK⟩, hM.2.F ht⟩) hM.2.2.2 dX6_seen_84
        · have h := ip_ c7 h
          refine lv_bipush (v := -4) hx hb dX6_seen_35 (by decide) ?_
          have h := so_ h
          subst h
          exact W.iret hx hb hr (fun t ht hW => ⟨rfl, ⟨by rw [ht]; exact hM.1, va_K.moved hW.alike hK⟩, hM.2.F ht⟩) hM.2.2.2 dX6_seen_37
      · have h := ip_ c6 h
        refine lv_bipush (v := -2) hx hb dX6_seen_23 (by decide) ?_
        have h := so_ h
        subst h
        exact W.iret hx hb hr (fun t ht hW => ⟨rfl, ⟨by rw [ht]; exact hM.1, va_K.moved hW.alike hK⟩, hM.2.F ht⟩) hM.2.2.2 dX6_seen_25
theorem mo_seen_hd : yX6_seen.cls = RX6 ∧ yX6_seen.cls ≠ "java/lang/invoke/MethodHandle" ∧ yX6_seen.cls ≠ "java/lang/invoke/VarHandle" ∧ (parseMethodDescriptor yX6_seen.desc).map (fun d => d.parameters.length) = some 3 := by decide +kernel
theorem mo_seen_met (l : Launch) (Z : MZ) (I : St) (x1 : Int32) (x2 : Int32) (x3 : Int32) (r : (Int32 × St)) (h : mo_seen x1 x2 x3 I = some r) : Met l yX6_seen (ws_ yX6_seen cX6_seen 4 (some .int)) mo_seen_rm (va_Pc [.ref (mH Z), .int x1, .int x2, .int x3] (mS Z I)) (Qwr (some (.int r.1)) (mS Z r.2) (mA Z)) 0 0 (mA Z) := by
  refine Met.ofW (cc := cX6_seen) (maxL := 4) (ret := some .int) (by decide) rfl ?_
  intro p e s m args below meth c s₁ B hml hv
  obtain ⟨rfl, hv⟩ := hv
  have hts := atoms_spec (ws := ws_ yX6_seen cX6_seen 4 (some .int)) B.pre
  have hts : ∀ w ∈ lw_all, w.before _ s = true := fun w h => hts w (List.mem_cons_of_mem _ h)
  have C : SCx p s m _ meth c cX6_seen 4 (some .int) RX6 := ⟨B.exec, B.bytes, B.returns, B.notSynchronized, hml, findClass_of_methodNamed B.named, hts⟩
  have hl := lv_entry [.ref (mH Z), .int x1, .int x2, .int x3] (n := 4) (Nat.le_of_ble_eq_true rfl)
  rw [lg_entry_eq]
  generalize (lg_sl [.ref (mH Z), .int x1, .int x2, .int x3] ++ List.replicate (4 - (lg_sl [.ref (mH Z), .int x1, .int x2, .int x3]).length) Slot.unset).toArray = ls at hl ⊢
  have C : MCx p s m _ meth c _ _ _ Z := ⟨C, hv.2⟩
  have hM : mIn Z s I s.heap [] := ⟨hv.1, va_S.rf⟩
  exact mo_seen_w0 C x1 x2 x3 I _ _ ls hM hl h

/-! SecondChancesModel.areFalse(II)Z -/
def mo_areFalse_rm : Room := { frames := 0, cells := 0, slots := 0, locals := 0 }
def mo_areFalse_P0 (p : Program) (l : Launch) (e : Env) (s : State) (m : MethodId) (args : Array Value) (below : List Frame) (meth : Method) (c : Code) (Z : MZ) (r : Int32) (f : Int32 → Int32 → Option Int32) : Prop := ∀ (x1 : Int32) (x2 : Int32) (ls : Array Slot), lv_has ls 6 [(0, .ref (mH Z)), (1, .int x1), (2, .int x2)] → f x1 x2 = some r → W p l e mo_areFalse_rm s m args below meth c s.heap [] 0 0 (MQ below (Qro (some (.int r))) args s 0 0 (fun _ => False)) (F0 m 0 ls [])
def mo_areFalse_P47 (p : Program) (l : Launch) (e : Env) (s : State) (m : MethodId) (args : Array Value) (below : List Frame) (meth : Method) (c : Code) (Z : MZ) (r : Int32) (f : Int32 → Int32 → Int32 → Int32 → Int32 → Option Int32) : Prop := ∀ (x1 : Int32) (x2 : Int32) (x3 : Int32) (x4 : Int32) (t0 : Int32) (ls : Array Slot), lv_has ls 6 [(0, .ref (mH Z)), (1, .int x1), (2, .int x2), (3, .int x3), (4, .int x4)] → f x1 x2 x3 x4 t0 = some r → W p l e mo_areFalse_rm s m args below meth c s.heap [] 0 0 (MQ below (Qro (some (.int r))) args s 0 0 (fun _ => False)) (F0 m 47 ls [.int t0])
def mo_areFalse_P73 (p : Program) (l : Launch) (e : Env) (s : State) (m : MethodId) (args : Array Value) (below : List Frame) (meth : Method) (c : Code) (Z : MZ) (r : Int32) (f : Int32 → Int32 → Option Int32) : Prop := ∀ (x3 : Int32) (x5 : Int32) (ls : Array Slot), lv_has ls 6 [(3, .int x3), (5, .int x5)] → f x3 x5 = some r → W p l e mo_areFalse_rm s m args below meth c s.heap [] 0 0 (MQ below (Qro (some (.int r))) args s 0 0 (fun _ => False)) (F0 m 73 ls [])
def mo_areFalse_P83 (p : Program) (l : Launch) (e : Env) (s : State) (m : MethodId) (args : Array Value) (below : List Frame) (meth : Method) (c : Code) (Z : MZ) (r : Int32) (f : Int32 → Option Int32) : Prop := ∀ (x5 : Int32) (ls : Array Slot), lv_has ls 6 [(5, .int x5)] → f x5 = some r → W p l e mo_areFalse_rm s m args below meth c s.heap [] 0 0 (MQ below (Qro (some (.int r))) args s 0 0 (fun _ => False)) (F0 m 83 ls [])
def mo_areFalse_b83 (I : St) (x5 : Int32) : Option Int32 :=
  if x5 = 0 then (some (0 : Int32))
  else (some (1 : Int32))
theorem mo_areFalse_w83 {p : Program} {l : Launch} {e : Env} {s : State} {m : MethodId} {args : Array Value} {below : List Frame} {meth : Method} {c : Code} {Z : MZ} {I : St} (C : MCx p s m args meth c cX6_areFalse 6 (some .boolean) Z) (hM : mPD Z I s.heap) {r : Int32} : mo_areFalse_P83 p l e s m args below meth c Z r (mo_areFalse_b83 I) := by
  intro x5 ls hl h
  obtain ⟨⟨hx, hb, hr, hlocks, hml, hown, hts⟩, hK⟩ := id C
  unfold mo_areFalse_b83 at h
  refine lv_iload hx hb dX6_areFalse_83 (lv_at hl 0 rfl) ?_
  refine lv_if_eq (tgt := 92) hx hb dX6_areFalse_85 (by decide) (fun c1 => ?_) (fun c1 => ?_)
  · have h := ip_ c1 h
    refine lv_iconst (v := 0) hx hb dX6_areFalse_92 (by decide) ?_
    have h := so_ h
    subst h
    exact W.zret hx hb hr rfl (fun t ht hW => ⟨rfl, ht⟩) (fun q hq => by cases hq) dX6_areFalse_93
  · have h := in_ c1 h
    refine lv_iconst (v := 1) hx hb dX6_areFalse_88 (by decide) ?_
    refine lv_goto (tgt := 93) hx hb dX6_areFalse_89 (by decide) ?_
    have h := so_ h
    subst h
    exact W.zret hx hb hr rfl (fun t ht hW => ⟨rfl, ht⟩) (fun q hq => by cases hq) dX6_areFalse_93
def mo_areFalse_b73 (I : St) (x3 : Int32) (x5 : Int32) : Option Int32 :=
  if x3 = (1 : Int32) then (mo_areFalse_b83 I x5)
  else (if x3 = (-1 : Int32) then (mo_areFalse_b83 I x5)
    else (some (0 : Int32)))
theorem mo_areFalse_w73 {p : Program} {l : Launch} {e : Env} {s : State} {m : MethodId} {args : Array Value} {below : List Frame} {meth : Method} {c : Code} {Z : MZ} {I : St} (C : MCx p s m args meth c cX6_areFalse 6 (some .boolean) Z) (hM : mPD Z I s.heap) {r : Int32} : mo_areFalse_P73 p l e s m args below meth c Z r (mo_areFalse_b73 I) := by
  intro x3 x5 ls hl h
  obtain ⟨⟨hx, hb, hr, hlocks, hml, hown, hts⟩, hK⟩ := id C
  unfold mo_areFalse_b73 at h
  refine lv_iload_n hx hb dX6_areFalse_73 rfl (lv_at hl 0 rfl) ?_
  refine lv_iconst (v := 1) hx hb dX6_areFalse_74 (by decide) ?_
  refine lv_icmp_eq (tgt := 83) hx hb dX6_areFalse_75 (by decide) (fun c1 => ?_) (fun c1 => ?_)
  · have h := ip_ c1 h
    exact mo_areFalse_w83 C hM x5 ls (lv_sub hl [1] rfl) h
  · have h := in_ c1 h
    refine lv_iload_n hx hb dX6_areFalse_78 rfl (lv_at hl 0 rfl) ?_
    refine lv_iconst (v := -1) hx hb dX6_areFalse_79 (by decide) ?_
    refine lv_icmp_ne (tgt := 92) hx hb dX6_areFalse_80 (by decide) (fun c2 => ?_) (fun c2 => ?_)
    · have h := in_ c2 h
      refine lv_iconst (v := 0) hx hb dX6_areFalse_92 (by decide) ?_
      have h := so_ h
      subst h
      exact W.zret hx hb hr rfl (fun t ht hW => ⟨rfl, ht⟩) (fun q hq => by cases hq) dX6_areFalse_93
    · have h := ip_ c2 h
      exact mo_areFalse_w83 C hM x5 ls (lv_sub hl [1] rfl) h
def mo_areFalse_b47 (I : St) (x1 : Int32) (x2 : Int32) (x3 : Int32) (x4 : Int32) (t0 : Int32) : Option Int32 :=
  al_ 10 (I 27) x1 fun v1 =>
  al_ 10 (I 27) x2 fun v2 =>
  if v1 = v2 then (if x3 = 0 then (if x4 = 0 then (mo_areFalse_b73 I x3 t0)
      else (some (1 : Int32)))
    else (mo_areFalse_b73 I x3 t0))
  else (some (0 : Int32))
theorem mo_areFalse_w47 {p : Program} {l : Launch} {e : Env} {s : State} {m : MethodId} {args : Array Value} {below : List Frame} {meth : Method} {c : Code} {Z : MZ} {I : St} (C : MCx p s m args meth c cX6_areFalse 6 (some .boolean) Z) (hM : mPD Z I s.heap) {r : Int32} : mo_areFalse_P47 p l e s m args below meth c Z r (mo_areFalse_b47 I) := by
  intro x1 x2 x3 x4 t0 ls hl h
  obtain ⟨⟨hx, hb, hr, hlocks, hml, hown, hts⟩, hK⟩ := id C
  unfold mo_areFalse_b47 at h
  refine lv_istore (lv' := [(5, .int t0), (0, .ref (mH Z)), (1, .int x1), (2, .int x2), (3, .int x3), (4, .int x4)]) hx hb dX6_areFalse_47 hl (by decide) rfl (fun ls hl => ?_)
  refine lv_aload_n hx hb dX6_areFalse_49 rfl (lv_at hl 1 rfl) ?_
  refine gm27 C hM dX6_areFalse_50 ?_
  refine lv_iload_n hx hb dX6_areFalse_53 rfl (lv_at hl 2 rfl) ?_
  obtain ⟨i_v1, h⟩ := al_e h
  refine m_ald C hM (pos := 20) (k := 27) rfl rfl i_v1 dX6_areFalse_54 (fun v1 e_v1 => ?_)
  have h := h v1 e_v1
  refine lv_aload_n hx hb dX6_areFalse_55 rfl (lv_at hl 1 rfl) ?_
  refine gm27 C hM dX6_areFalse_56 ?_
  refine lv_iload_n hx hb dX6_areFalse_59 rfl (lv_at hl 3 rfl) ?_
  obtain ⟨i_v2, h⟩ := al_e h
  refine m_ald C hM (pos := 20) (k := 27) rfl rfl i_v2 dX6_areFalse_60 (fun v2 e_v2 => ?_)
  have h := h v2 e_v2
  refine lv_icmp_ne (tgt := 92) hx hb dX6_areFalse_61 (by decide) (fun c3 => ?_) (fun c3 => ?_)
  · have h := in_ c3 h
    refine lv_iconst (v := 0) hx hb dX6_areFalse_92 (by decide) ?_
    have h := so_ h
    subst h
    exact W.zret hx hb hr rfl (fun t ht hW => ⟨rfl, ht⟩) (fun q hq => by cases hq) dX6_areFalse_93
  · have h := ip_ c3 h
    refine lv_iload_n hx hb dX6_areFalse_64 rfl (lv_at hl 4 rfl) ?_
    refine lv_if_ne (tgt := 73) hx hb dX6_areFalse_65 (by decide) (fun c4 => ?_) (fun c4 => ?_)
    · have h := in_ c4 h
      exact mo_areFalse_w73 C hM x3 t0 ls (lv_sub hl [4, 0] rfl) h
    · have h := ip_ c4 h
      refine lv_iload hx hb dX6_areFalse_68 (lv_at hl 5 rfl) ?_
      refine lv_if_ne (tgt := 88) hx hb dX6_areFalse_70 (by decide) (fun c5 => ?_) (fun c5 => ?_)
      · have h := in_ c5 h
        refine lv_iconst (v := 1) hx hb dX6_areFalse_88 (by decide) ?_
        refine lv_goto (tgt := 93) hx hb dX6_areFalse_89 (by decide) ?_
        have h := so_ h
        subst h
        exact W.zret hx hb hr rfl (fun t ht hW => ⟨rfl, ht⟩) (fun q hq => by cases hq) dX6_areFalse_93
      · have h := ip_ c5 h
        exact mo_areFalse_w73 C hM x3 t0 ls (lv_sub hl [4, 0] rfl) h
def mo_areFalse (I : St) (x1 : Int32) (x2 : Int32) : Option Int32 :=
  al_ 10 (I 29) x1 fun v1 =>
  al_ 10 (I 29) x2 fun v2 =>
  lt_ (v1 - v2) fun v3 =>
  al_ 10 (I 28) x1 fun v4 =>
  al_ 10 (I 28) x2 fun v5 =>
  lt_ (v4 - v5) fun v6 =>
  if (2 : Int32) < v6 then (mo_areFalse_b47 I x1 x2 v3 v6 (1 : Int32))
  else (if (-2 : Int32) ≤ v6 then (mo_areFalse_b47 I x1 x2 v3 v6 (0 : Int32))
    else (mo_areFalse_b47 I x1 x2 v3 v6 (1 : Int32)))
theorem mo_areFalse_w0 {p : Program} {l : Launch} {e : Env} {s : State} {m : MethodId} {args : Array Value} {below : List Frame} {meth : Method} {c : Code} {Z : MZ} {I : St} (C : MCx p s m args meth c cX6_areFalse 6 (some .boolean) Z) (hM : mPD Z I s.heap) {r : Int32} : mo_areFalse_P0 p l e s m args below meth c Z r (mo_areFalse I) := by
  intro x1 x2 ls hl h
  obtain ⟨⟨hx, hb, hr, hlocks, hml, hown, hts⟩, hK⟩ := id C
  unfold mo_areFalse at h
  refine lv_aload_n hx hb dX6_areFalse_0 rfl (lv_at hl 0 rfl) ?_
  refine gm29 C hM dX6_areFalse_1 ?_
  refine lv_iload_n hx hb dX6_areFalse_4 rfl (lv_at hl 1 rfl) ?_
  obtain ⟨i_v1, h⟩ := al_e h
  refine m_ald C hM (pos := 22) (k := 29) rfl rfl i_v1 dX6_areFalse_5 (fun v1 e_v1 => ?_)
  have h := h v1 e_v1
  refine lv_aload_n hx hb dX6_areFalse_6 rfl (lv_at hl 0 rfl) ?_
  refine gm29 C hM dX6_areFalse_7 ?_
  refine lv_iload_n hx hb dX6_areFalse_10 rfl (lv_at hl 2 rfl) ?_
  obtain ⟨i_v2, h⟩ := al_e h
  refine m_ald C hM (pos := 22) (k := 29) rfl rfl i_v2 dX6_areFalse_11 (fun v2 e_v2 => ?_)
  have h := h v2 e_v2
  refine lv_isub hx hb dX6_areFalse_12 ?_
  refine lv_topi (fun v3 e_v3 => ?_)
  have h := lt_i h e_v3
  refine lv_istore_n (lv' := [(3, .int v3), (0, .ref (mH Z)), (1, .int x1), (2, .int x2)]) hx hb dX6_areFalse_13 rfl hl (by decide) rfl (fun ls hl => ?_)
  refine lv_aload_n hx hb dX6_areFalse_14 rfl (lv_at hl 1 rfl) ?_
  refine gm28 C hM dX6_areFalse_15 ?_
  refine lv_iload_n hx hb dX6_areFalse_18 rfl (lv_at hl 2 rfl) ?_
  obtain ⟨i_v4, h⟩ := al_e h
  refine m_ald C hM (pos := 21) (k := 28) rfl rfl i_v4 dX6_areFalse_19 (fun v4 e_v4 => ?_)
  have h := h v4 e_v4
  refine lv_aload_n hx hb dX6_areFalse_20 rfl (lv_at hl 1 rfl) ?_
  refine gm28 C hM dX6_areFalse_21 ?_
  refine lv_iload_n hx hb dX6_areFalse_24 rfl (lv_at hl 3 rfl) ?_
  obtain ⟨i_v5, h⟩ := al_e h
  refine m_ald C hM (pos := 21) (k := 28) rfl rfl i_v5 dX6_areFalse_25 (fun v5 e_v5 => ?_)
  have h := h v5 e_v5
  refine lv_isub hx hb dX6_areFalse_26 ?_
  refine lv_topi (fun v6 e_v6 => ?_)
  have h := lt_i h e_v6
  refine lv_istore (lv' := [(4, .int v6), (3, .int v3), (0, .ref (mH Z)), (1, .int x1), (2, .int x2)]) hx hb dX6_areFalse_27 hl (by decide) rfl (fun ls hl => ?_)
  refine lv_iload hx hb dX6_areFalse_29 (lv_at hl 0 rfl) ?_
  refine lv_iconst (v := 2) hx hb dX6_areFalse_31 (by decide) ?_
  refine lv_icmp_gt (tgt := 42) hx hb dX6_areFalse_32 (by decide) (fun c7 => ?_) (fun c7 => ?_)
  · have h := ip_ c7 h
    refine lv_iconst (v := 1) hx hb dX6_areFalse_42 (by decide) ?_
    refine lv_goto (tgt := 47) hx hb dX6_areFalse_43 (by decide) ?_
    exact mo_areFalse_w47 C hM x1 x2 v3 v6 (1 : Int32) ls (lv_sub hl [2, 3, 4, 1, 0] rfl) h
  · have h := in_ c7 h
    refine lv_iload hx hb dX6_areFalse_35 (lv_at hl 0 rfl) ?_
    refine lv_bipush (v := -2) hx hb dX6_areFalse_37 (by decide) ?_
    refine lv_icmp_ge (tgt := 46) hx hb dX6_areFalse_39 (by decide) (fun c8 => ?_) (fun c8 => ?_)
    · have h := ip_ c8 h
      refine lv_iconst (v := 0) hx hb dX6_areFalse_46 (by decide) ?_
      exact mo_areFalse_w47 C hM x1 x2 v3 v6 (0 : Int32) ls (lv_sub hl [2, 3, 4, 1, 0] rfl) h
    · have h := in_ c8 h
      refine lv_iconst (v := 1) hx hb dX6_areFalse_42 (by decide) ?_
      refine lv_goto (tgt := 47) hx hb dX6_areFalse_43 (by decide) ?_
      exact mo_areFalse_w47 C hM x1 x2 v3 v6 (1 : Int32) ls (lv_sub hl [2, 3, 4, 1, 0] rfl) h
theorem mo_areFalse_hd : yX6_areFalse.cls = RX6 ∧ yX6_areFalse.cls ≠ "java/lang/invoke/MethodHandle" ∧ yX6_areFalse.cls ≠ "java/lang/invoke/VarHandle" ∧ (parseMethodDescriptor yX6_areFalse.desc).map (fun d => d.parameters.length) = some 2 := by decide +kernel
theorem mo_areFalse_met (l : Launch) (Z : MZ) (I : St) (x1 : Int32) (x2 : Int32) (r : Int32) (h : mo_areFalse I x1 x2 = some r) : Met l yX6_areFalse (ws_ yX6_areFalse cX6_areFalse 6 (some .boolean)) mo_areFalse_rm (va_Pc [.ref (mH Z), .int x1, .int x2] (mS Z I)) (Qro (some (.int r))) 0 0 (fun _ => False) := by
  refine Met.ofW (cc := cX6_areFalse) (maxL := 6) (ret := some .boolean) (by decide) rfl ?_
  intro p e s m args below meth c s₁ B hml hv
  obtain ⟨rfl, hv⟩ := hv
  have hts := atoms_spec (ws := ws_ yX6_areFalse cX6_areFalse 6 (some .boolean)) B.pre
  have hts : ∀ w ∈ lw_all, w.before _ s = true := fun w h => hts w (List.mem_cons_of_mem _ h)
  have C : SCx p s m _ meth c cX6_areFalse 6 (some .boolean) RX6 := ⟨B.exec, B.bytes, B.returns, B.notSynchronized, hml, findClass_of_methodNamed B.named, hts⟩
  have hl := lv_entry [.ref (mH Z), .int x1, .int x2] (n := 6) (Nat.le_of_ble_eq_true rfl)
  rw [lg_entry_eq]
  generalize (lg_sl [.ref (mH Z), .int x1, .int x2] ++ List.replicate (6 - (lg_sl [.ref (mH Z), .int x1, .int x2]).length) Slot.unset).toArray = ls at hl ⊢
  have C : MCx p s m _ meth c _ _ _ Z := ⟨C, hv.2⟩
  have hM := hv.1
  exact mo_areFalse_w0 C hM x1 x2 ls hl h

/-! SecondChancesModel.isSight(I)Z -/
def mo_isSight_rm : Room := { frames := 1, cells := 0, slots := 0, locals := 22 }
def mo_isSight_P0 (p : Program) (l : Launch) (e : Env) (s : State) (m : MethodId) (args : Array Value) (below : List Frame) (meth : Method) (c : Code) (Z : MZ) (r : Int32) (f : Int32 → Option Int32) : Prop := ∀ (x1 : Int32) (ls : Array Slot), lv_has ls 2 [(0, .ref (mH Z)), (1, .int x1)] → f x1 = some r → W p l e mo_isSight_rm s m args below meth c s.heap [] 0 0 (MQ below (Qro (some (.int r))) args s 0 0 (fun _ => False)) (F0 m 0 ls [])
def mo_isSight (I : St) (x1 : Int32) : Option Int32 :=
  bd_ (mo_in x1 (0 : Int32) ((I 26 0) - (1 : Int32))) fun v1 =>
  if zb v1 = true then some v1 else none
theorem mo_isSight_w0 {p : Program} {l : Launch} {e : Env} {s : State} {m : MethodId} {args : Array Value} {below : List Frame} {meth : Method} {c : Code} {Z : MZ} {I : St} (C : MCx p s m args meth c cX6_isSight 2 (some .boolean) Z) (hM : mPD Z I s.heap) {r : Int32} : mo_isSight_P0 p l e s m args below meth c Z r (mo_isSight I) := by
  intro x1 ls hl h
  obtain ⟨⟨hx, hb, hr, hlocks, hml, hown, hts⟩, hK⟩ := id C
  unfold mo_isSight at h
  refine lv_iload_n hx hb dX6_isSight_0 rfl (lv_at hl 1 rfl) ?_
  refine lv_iconst (v := 0) hx hb dX6_isSight_1 (by decide) ?_
  refine lv_aload_n hx hb dX6_isSight_2 rfl (lv_at hl 0 rfl) ?_
  refine gm26 C hM dX6_isSight_3 ?_
  refine lv_iconst (v := 1) hx hb dX6_isSight_6 (by decide) ?_
  refine lv_isub hx hb dX6_isSight_7 ?_
  obtain ⟨v1, q_v1, h⟩ := bd_e h
  refine s_roI (As := [.int x1, .int (0 : Int32), .int ((I 26 0) - (1 : Int32))]) (rest := []) C.1 (mo_in_met _ x1 (0 : Int32) ((I 26 0) - (1 : Int32)) v1 q_v1) (lw_S q1168 q1169 q88 q1170) mo_in_hd ⟨rfl, rfl⟩ ⟨Nat.le_of_ble_eq_true rfl, Nat.le_of_ble_eq_true rfl⟩ ⟨Nat.le_refl _, Nat.le_refl _⟩ rfl hl.1 rfl (Nat.le_of_ble_eq_true rfl) dX6_isSight_8 ?_
  by_cases c2 : zb v1 = true
  case neg => exact no_ (in_ c2 h)
  have h := ip_ c2 h
  have h := so_ h
  subst h
  exact W.zret hx hb hr (zb_n c2) (fun t ht hW => ⟨rfl, ht⟩) (fun q hq => by cases hq) dX6_isSight_11
theorem mo_isSight_hd : yX6_isSight.cls = RX6 ∧ yX6_isSight.cls ≠ "java/lang/invoke/MethodHandle" ∧ yX6_isSight.cls ≠ "java/lang/invoke/VarHandle" ∧ (parseMethodDescriptor yX6_isSight.desc).map (fun d => d.parameters.length) = some 1 := by decide +kernel
theorem mo_isSight_met (l : Launch) (Z : MZ) (I : St) (x1 : Int32) (r : Int32) (h : mo_isSight I x1 = some r) : Met l yX6_isSight (ws_ yX6_isSight cX6_isSight 2 (some .boolean)) mo_isSight_rm (va_Pc [.ref (mH Z), .int x1] (mS Z I)) (Qro (some (.int r))) 0 0 (fun _ => False) := by
  refine Met.ofW (cc := cX6_isSight) (maxL := 2) (ret := some .boolean) (by decide) rfl ?_
  intro p e s m args below meth c s₁ B hml hv
  obtain ⟨rfl, hv⟩ := hv
  have hts := atoms_spec (ws := ws_ yX6_isSight cX6_isSight 2 (some .boolean)) B.pre
  have hts : ∀ w ∈ lw_all, w.before _ s = true := fun w h => hts w (List.mem_cons_of_mem _ h)
  have C : SCx p s m _ meth c cX6_isSight 2 (some .boolean) RX6 := ⟨B.exec, B.bytes, B.returns, B.notSynchronized, hml, findClass_of_methodNamed B.named, hts⟩
  have hl := lv_entry [.ref (mH Z), .int x1] (n := 2) (Nat.le_of_ble_eq_true rfl)
  rw [lg_entry_eq]
  generalize (lg_sl [.ref (mH Z), .int x1] ++ List.replicate (2 - (lg_sl [.ref (mH Z), .int x1]).length) Slot.unset).toArray = ls at hl ⊢
  have C : MCx p s m _ meth c _ _ _ Z := ⟨C, hv.2⟩
  have hM := hv.1
  exact mo_isSight_w0 C hM x1 ls hl h

/-! SecondChancesModel.isFalse(II)I -/
def mo_isFalse_rm : Room := { frames := 2, cells := 0, slots := 0, locals := 43 }
def mo_isFalse_P0 (p : Program) (l : Launch) (e : Env) (s : State) (m : MethodId) (args : Array Value) (below : List Frame) (meth : Method) (c : Code) (Z : MZ) (r : Int32) (f : Int32 → Int32 → Option Int32) : Prop := ∀ (x1 : Int32) (x2 : Int32) (ls : Array Slot), lv_has ls 3 [(0, .ref (mH Z)), (1, .int x1), (2, .int x2)] → f x1 x2 = some r → W p l e mo_isFalse_rm s m args below meth c s.heap [] 0 0 (MQ below (Qro (some (.int r))) args s 0 0 (fun _ => False)) (F0 m 0 ls [])
def mo_isFalse (I : St) (x1 : Int32) (x2 : Int32) : Option Int32 :=
  bd_ (mo_isSight I x1) fun v1 =>
  if v1 = 0 then (some (-2 : Int32))
  else (bd_ (mo_isSight I x2) fun v3 =>
    if v3 = 0 then (some (-2 : Int32))
    else (if x1 = x2 then (some (-2 : Int32))
      else (bd_ (mo_areFalse I x1 x2) fun v6 =>
        if v6 = 0 then (some (0 : Int32))
        else (some (1 : Int32)))))
theorem mo_isFalse_w0 {p : Program} {l : Launch} {e : Env} {s : State} {m : MethodId} {args : Array Value} {below : List Frame} {meth : Method} {c : Code} {Z : MZ} {I : St} (C : MCx p s m args meth c cX6_isFalse 3 (some .int) Z) (hM : mPD Z I s.heap) {r : Int32} : mo_isFalse_P0 p l e s m args below meth c Z r (mo_isFalse I) := by
  intro x1 x2 ls hl h
  obtain ⟨⟨hx, hb, hr, hlocks, hml, hown, hts⟩, hK⟩ := id C
  unfold mo_isFalse at h
  refine lv_aload_n hx hb dX6_isFalse_0 rfl (lv_at hl 0 rfl) ?_
  refine lv_iload_n hx hb dX6_isFalse_1 rfl (lv_at hl 1 rfl) ?_
  obtain ⟨v1, q_v1, h⟩ := bd_e h
  refine m_roI (As := [.int x1]) (rest := []) C hM (mo_isSight_met _ Z I x1 v1 q_v1) (lw_V q1390 q1392 qs68 q88 q1393) mo_isSight_hd ⟨rfl, rfl⟩ ⟨Nat.le_of_ble_eq_true rfl, Nat.le_of_ble_eq_true rfl⟩ ⟨Nat.le_refl _, Nat.le_refl _⟩ rfl hl.1 rfl (Nat.le_of_ble_eq_true rfl) dX6_isFalse_2 ?_
  refine lv_if_eq (tgt := 21) hx hb dX6_isFalse_5 (by decide) (fun c2 => ?_) (fun c2 => ?_)
  · have h := ip_ c2 h
    refine lv_bipush (v := -2) hx hb dX6_isFalse_21 (by decide) ?_
    refine lv_goto (tgt := 40) hx hb dX6_isFalse_23 (by decide) ?_
    have h := so_ h
    subst h
    exact W.iret hx hb hr (fun t ht hW => ⟨rfl, ht⟩) (fun q hq => by cases hq) dX6_isFalse_40
  · have h := in_ c2 h
    refine lv_aload_n hx hb dX6_isFalse_8 rfl (lv_at hl 0 rfl) ?_
    refine lv_iload_n hx hb dX6_isFalse_9 rfl (lv_at hl 2 rfl) ?_
    obtain ⟨v3, q_v3, h⟩ := bd_e h
    refine m_roI (As := [.int x2]) (rest := []) C hM (mo_isSight_met _ Z I x2 v3 q_v3) (lw_V q1390 q1392 qs68 q88 q1393) mo_isSight_hd ⟨rfl, rfl⟩ ⟨Nat.le_of_ble_eq_true rfl, Nat.le_of_ble_eq_true rfl⟩ ⟨Nat.le_refl _, Nat.le_refl _⟩ rfl hl.1 rfl (Nat.le_of_ble_eq_true rfl) dX6_isFalse_10 ?_
    refine lv_if_eq (tgt := 21) hx hb dX6_isFalse_13 (by decide) (fun c4 => ?_) (fun c4 => ?_)
    · have h := ip_ c4 h
      refine lv_bipush (v := -2) hx hb dX6_isFalse_21 (by decide) ?_
      refine lv_goto (tgt := 40) hx hb dX6_isFalse_23 (by decide) ?_
      have h := so_ h
      subst h
      exact W.iret hx hb hr (fun t ht hW => ⟨rfl, ht⟩) (fun q hq => by cases hq) dX6_isFalse_40
    · have h := in_ c4 h
      refine lv_iload_n hx hb dX6_isFalse_16 rfl (lv_at hl 1 rfl) ?_
      refine lv_iload_n hx hb dX6_isFalse_17 rfl (lv_at hl 2 rfl) ?_
      refine lv_icmp_ne (tgt := 26) hx hb dX6_isFalse_18 (by decide) (fun c5 => ?_) (fun c5 => ?_)
      · have h := in_ c5 h
        refine lv_aload_n hx hb dX6_isFalse_26 rfl (lv_at hl 0 rfl) ?_
        refine lv_iload_n hx hb dX6_isFalse_27 rfl (lv_at hl 1 rfl) ?_
        refine lv_iload_n hx hb dX6_isFalse_28 rfl (lv_at hl 2 rfl) ?_
        obtain ⟨v6, q_v6, h⟩ := bd_e h
        refine m_roI (As := [.int x1, .int x2]) (rest := []) C hM (mo_areFalse_met _ Z I x1 x2 v6 q_v6) (lw_V q1394 q1396 qs69 q88 q1397) mo_areFalse_hd ⟨rfl, rfl⟩ ⟨Nat.le_of_ble_eq_true rfl, Nat.le_of_ble_eq_true rfl⟩ ⟨Nat.le_refl _, Nat.le_refl _⟩ rfl hl.1 rfl (Nat.le_of_ble_eq_true rfl) dX6_isFalse_29 ?_
        refine lv_if_eq (tgt := 39) hx hb dX6_isFalse_32 (by decide) (fun c7 => ?_) (fun c7 => ?_)
        · have h := ip_ c7 h
          refine lv_iconst (v := 0) hx hb dX6_isFalse_39 (by decide) ?_
          have h := so_ h
          subst h
          exact W.iret hx hb hr (fun t ht hW => ⟨rfl, ht⟩) (fun q hq => by cases hq) dX6_isFalse_40
        · have h := in_ c7 h
          refine lv_iconst (v := 1) hx hb dX6_isFalse_35 (by decide) ?_
          refine lv_goto (tgt := 40) hx hb dX6_isFalse_36 (by decide) ?_
          have h := so_ h
          subst h
          exact W.iret hx hb hr (fun t ht hW => ⟨rfl, ht⟩) (fun q hq => by cases hq) dX6_isFalse_40
      · have h := ip_ c5 h
        refine lv_bipush (v := -2) hx hb dX6_isFalse_21 (by decide) ?_
        refine lv_goto (tgt := 40) hx hb dX6_isFalse_23 (by decide) ?_
        have h := so_ h
        subst h
        exact W.iret hx hb hr (fun t ht hW => ⟨rfl, ht⟩) (fun q hq => by cases hq) dX6_isFalse_40
theorem mo_isFalse_hd : yX6_isFalse.cls = RX6 ∧ yX6_isFalse.cls ≠ "java/lang/invoke/MethodHandle" ∧ yX6_isFalse.cls ≠ "java/lang/invoke/VarHandle" ∧ (parseMethodDescriptor yX6_isFalse.desc).map (fun d => d.parameters.length) = some 2 := by decide +kernel
theorem mo_isFalse_met (l : Launch) (Z : MZ) (I : St) (x1 : Int32) (x2 : Int32) (r : Int32) (h : mo_isFalse I x1 x2 = some r) : Met l yX6_isFalse (ws_ yX6_isFalse cX6_isFalse 3 (some .int)) mo_isFalse_rm (va_Pc [.ref (mH Z), .int x1, .int x2] (mS Z I)) (Qro (some (.int r))) 0 0 (fun _ => False) := by
  refine Met.ofW (cc := cX6_isFalse) (maxL := 3) (ret := some .int) (by decide) rfl ?_
  intro p e s m args below meth c s₁ B hml hv
  obtain ⟨rfl, hv⟩ := hv
  have hts := atoms_spec (ws := ws_ yX6_isFalse cX6_isFalse 3 (some .int)) B.pre
  have hts : ∀ w ∈ lw_all, w.before _ s = true := fun w h => hts w (List.mem_cons_of_mem _ h)
  have C : SCx p s m _ meth c cX6_isFalse 3 (some .int) RX6 := ⟨B.exec, B.bytes, B.returns, B.notSynchronized, hml, findClass_of_methodNamed B.named, hts⟩
  have hl := lv_entry [.ref (mH Z), .int x1, .int x2] (n := 3) (Nat.le_of_ble_eq_true rfl)
  rw [lg_entry_eq]
  generalize (lg_sl [.ref (mH Z), .int x1, .int x2] ++ List.replicate (3 - (lg_sl [.ref (mH Z), .int x1, .int x2]).length) Slot.unset).toArray = ls at hl ⊢
  have C : MCx p s m _ meth c _ _ _ Z := ⟨C, hv.2⟩
  have hM := hv.1
  exact mo_isFalse_w0 C hM x1 x2 ls hl h

/-! SecondChancesModel.hatsOf(I)I -/
def mo_hatsOf_rm : Room := { frames := 1, cells := 0, slots := 0, locals := 25 }
def mo_hatsOf_P0 (p : Program) (l : Launch) (e : Env) (s : State) (m : MethodId) (args : Array Value) (below : List Frame) (meth : Method) (c : Code) (Z : MZ) (r : Int32) (f : Int32 → Option Int32) : Prop := ∀ (x1 : Int32) (ls : Array Slot), lv_has ls 7 [(0, .ref (mH Z)), (1, .int x1)] → f x1 = some r → W p l e mo_hatsOf_rm s m args below meth c s.heap [] 0 0 (MQ below (Qro (some (.int r))) args s 0 0 (fun _ => False)) (F0 m 0 ls [])
def mo_hatsOf_P4 (p : Program) (l : Launch) (e : Env) (s : State) (m : MethodId) (args : Array Value) (below : List Frame) (meth : Method) (c : Code) (Z : MZ) (r : Int32) (f : Int32 → Int32 → Int32 → Option Int32) : Prop := ∀ (x1 : Int32) (x2 : Int32) (x3 : Int32) (ls : Array Slot), lv_has ls 7 [(0, .ref (mH Z)), (1, .int x1), (2, .int x2), (3, .int x3)] → f x1 x2 x3 = some r → W p l e mo_hatsOf_rm s m args below meth c s.heap [] 0 0 (MQ below (Qro (some (.int r))) args s 0 0 (fun _ => False)) (F0 m 4 ls [])
def mo_hatsOf_P30 (p : Program) (l : Launch) (e : Env) (s : State) (m : MethodId) (args : Array Value) (below : List Frame) (meth : Method) (c : Code) (Z : MZ) (r : Int32) (f : Int32 → Int32 → Int32 → Option Int32) : Prop := ∀ (x1 : Int32) (x2 : Int32) (x3 : Int32) (ls : Array Slot), lv_has ls 7 [(0, .ref (mH Z)), (1, .int x1), (2, .int x2), (3, .int x3)] → f x1 x2 x3 = some r → W p l e mo_hatsOf_rm s m args below meth c s.heap [] 0 0 (MQ below (Qro (some (.int r))) args s 0 0 (fun _ => False)) (F0 m 30 ls [])
def mo_hatsOf_P36 (p : Program) (l : Launch) (e : Env) (s : State) (m : MethodId) (args : Array Value) (below : List Frame) (meth : Method) (c : Code) (Z : MZ) (r : Int32) (f : Int32 → Int32 → Int32 → Int32 → Int32 → Option Int32) : Prop := ∀ (x1 : Int32) (x2 : Int32) (x3 : Int32) (x4 : Int32) (x5 : Int32) (ls : Array Slot), lv_has ls 7 [(0, .ref (mH Z)), (1, .int x1), (2, .int x2), (3, .int x3), (4, .int x4), (5, .int x5)] → f x1 x2 x3 x4 x5 = some r → W p l e mo_hatsOf_rm s m args below meth c s.heap [] 0 0 (MQ below (Qro (some (.int r))) args s 0 0 (fun _ => False)) (F0 m 36 ls [])
def mo_hatsOf_P48 (p : Program) (l : Launch) (e : Env) (s : State) (m : MethodId) (args : Array Value) (below : List Frame) (meth : Method) (c : Code) (Z : MZ) (r : Int32) (f : Int32 → Int32 → Int32 → Int32 → Int32 → Int32 → Option Int32) : Prop := ∀ (x1 : Int32) (x2 : Int32) (x3 : Int32) (x4 : Int32) (x5 : Int32) (x6 : Int32) (ls : Array Slot), lv_has ls 7 [(0, .ref (mH Z)), (1, .int x1), (2, .int x2), (3, .int x3), (4, .int x4), (5, .int x5), (6, .int x6)] → f x1 x2 x3 x4 x5 x6 = some r → W p l e mo_hatsOf_rm s m args below meth c s.heap [] 0 0 (MQ below (Qro (some (.int r))) args s 0 0 (fun _ => False)) (F0 m 48 ls [])
def mo_hatsOf_P94 (p : Program) (l : Launch) (e : Env) (s : State) (m : MethodId) (args : Array Value) (below : List Frame) (meth : Method) (c : Code) (Z : MZ) (r : Int32) (f : Int32 → Int32 → Int32 → Int32 → Int32 → Int32 → Option Int32) : Prop := ∀ (x1 : Int32) (x2 : Int32) (x3 : Int32) (x5 : Int32) (x6 : Int32) (t0 : Int32) (ls : Array Slot), lv_has ls 7 [(0, .ref (mH Z)), (1, .int x1), (2, .int x2), (3, .int x3), (5, .int x5), (6, .int x6)] → f x1 x2 x3 x5 x6 t0 = some r → W p l e mo_hatsOf_rm s m args below meth c s.heap [] 0 0 (MQ below (Qro (some (.int r))) args s 0 0 (fun _ => False)) (F0 m 94 ls [.int t0])
def mo_hatsOf_P118 (p : Program) (l : Launch) (e : Env) (s : State) (m : MethodId) (args : Array Value) (below : List Frame) (meth : Method) (c : Code) (Z : MZ) (r : Int32) (f : Int32 → Int32 → Int32 → Option Int32) : Prop := ∀ (x1 : Int32) (x3 : Int32) (t0 : Int32) (ls : Array Slot), lv_has ls 7 [(0, .ref (mH Z)), (1, .int x1), (3, .int x3)] → f x1 x3 t0 = some r → W p l e mo_hatsOf_rm s m args below meth c s.heap [] 0 0 (MQ below (Qro (some (.int r))) args s 0 0 (fun _ => False)) (F0 m 118 ls [.int t0])
def mo_hatsOf_P119 (p : Program) (l : Launch) (e : Env) (s : State) (m : MethodId) (args : Array Value) (below : List Frame) (meth : Method) (c : Code) (Z : MZ) (r : Int32) (f : Int32 → Int32 → Int32 → Option Int32) : Prop := ∀ (x1 : Int32) (x2 : Int32) (x3 : Int32) (ls : Array Slot), lv_has ls 7 [(0, .ref (mH Z)), (1, .int x1), (2, .int x2), (3, .int x3)] → f x1 x2 x3 = some r → W p l e mo_hatsOf_rm s m args below meth c s.heap [] 0 0 (MQ below (Qro (some (.int r))) args s 0 0 (fun _ => False)) (F0 m 119 ls [])
def mo_hatsOf_b119 (I : St) (k4 : Int32 → Int32 → Int32 → Option Int32) (x1 : Int32) (x2 : Int32) (x3 : Int32) : Option Int32 :=
  k4 x1 x2 (x3 + 1)
theorem mo_hatsOf_w119 {p : Program} {l : Launch} {e : Env} {s : State} {m : MethodId} {args : Array Value} {below : List Frame} {meth : Method} {c : Code} {Z : MZ} {I : St} (C : MCx p s m args meth c cX6_hatsOf 7 (some .int) Z) (hM : mPD Z I s.heap) {r : Int32} {k4 : Int32 → Int32 → Int32 → Option Int32} (hk4 : mo_hatsOf_P4 p l e s m args below meth c Z r k4) : mo_hatsOf_P119 p l e s m args below meth c Z r (mo_hatsOf_b119 I k4) := by
  intro x1 x2 x3 ls hl h
  obtain ⟨⟨hx, hb, hr, hlocks, hml, hown, hts⟩, hK⟩ := id C
  unfold mo_hatsOf_b119 at h
  refine lv_iinc (v := (x3 + 1)) (lv' := [(3, .int (x3 + 1)), (0, .ref (mH Z)), (1, .int x1), (2, .int x2)]) hx hb dX6_hatsOf_119 hl (k := 3) rfl rfl (by decide) rfl (fun ls hl => ?_)
  refine lv_goto (tgt := 4) hx hb dX6_hatsOf_122 (by decide) ?_
  exact hk4 x1 x2 (x3 + 1) ls (lv_sub hl [1, 2, 3, 0] rfl) h
def mo_hatsOf_b118 (I : St) (k4 : Int32 → Int32 → Int32 → Option Int32) (x1 : Int32) (x3 : Int32) (t0 : Int32) : Option Int32 :=
  mo_hatsOf_b119 I k4 x1 t0 x3
theorem mo_hatsOf_w118 {p : Program} {l : Launch} {e : Env} {s : State} {m : MethodId} {args : Array Value} {below : List Frame} {meth : Method} {c : Code} {Z : MZ} {I : St} (C : MCx p s m args meth c cX6_hatsOf 7 (some .int) Z) (hM : mPD Z I s.heap) {r : Int32} {k4 : Int32 → Int32 → Int32 → Option Int32} (hk4 : mo_hatsOf_P4 p l e s m args below meth c Z r k4) : mo_hatsOf_P118 p l e s m args below meth c Z r (mo_hatsOf_b118 I k4) := by
  intro x1 x3 t0 ls hl h
  obtain ⟨⟨hx, hb, hr, hlocks, hml, hown, hts⟩, hK⟩ := id C
  unfold mo_hatsOf_b118 at h
  refine lv_istore_n (lv' := [(2, .int t0), (0, .ref (mH Z)), (1, .int x1), (3, .int x3)]) hx hb dX6_hatsOf_118 rfl hl (by decide) rfl (fun ls hl => ?_)
  exact mo_hatsOf_w119 C hM hk4 x1 t0 x3 ls (lv_sub hl [1, 2, 0, 3] rfl) h
def mo_hatsOf_b94 (I : St) (k4 : Int32 → Int32 → Int32 → Option Int32) (k36 : Int32 → Int32 → Int32 → Int32 → Int32 → Option Int32) (k48 : Int32 → Int32 → Int32 → Int32 → Int32 → Int32 → Option Int32) (x1 : Int32) (x2 : Int32) (x3 : Int32) (x5 : Int32) (x6 : Int32) (t0 : Int32) : Option Int32 :=
  k48 x1 x2 x3 t0 x5 (x6 + 1)
theorem mo_hatsOf_w94 {p : Program} {l : Launch} {e : Env} {s : State} {m : MethodId} {args : Array Value} {below : List Frame} {meth : Method} {c : Code} {Z : MZ} {I : St} (C : MCx p s m args meth c cX6_hatsOf 7 (some .int) Z) (hM : mPD Z I s.heap) {r : Int32} {k4 : Int32 → Int32 → Int32 → Option Int32} (hk4 : mo_hatsOf_P4 p l e s m args below meth c Z r k4) {k36 : Int32 → Int32 → Int32 → Int32 → Int32 → Option Int32} (hk36 : mo_hatsOf_P36 p l e s m args below meth c Z r k36) {k48 : Int32 → Int32 → Int32 → Int32 → Int32 → Int32 → Option Int32} (hk48 : mo_hatsOf_P48 p l e s m args below meth c Z r k48) : mo_hatsOf_P94 p l e s m args below meth c Z r (mo_hatsOf_b94 I k4 k36 k48) := by
  intro x1 x2 x3 x5 x6 t0 ls hl h
  obtain ⟨⟨hx, hb, hr, hlocks, hml, hown, hts⟩, hK⟩ := id C
  unfold mo_hatsOf_b94 at h
  refine lv_istore (lv' := [(4, .int t0), (0, .ref (mH Z)), (1, .int x1), (2, .int x2), (3, .int x3), (5, .int x5), (6, .int x6)]) hx hb dX6_hatsOf_94 hl (by decide) rfl (fun ls hl => ?_)
  refine lv_iinc (v := (x6 + 1)) (lv' := [(6, .int (x6 + 1)), (4, .int t0), (0, .ref (mH Z)), (1, .int x1), (2, .int x2), (3, .int x3), (5, .int x5)]) hx hb dX6_hatsOf_96 hl (k := 6) rfl rfl (by decide) rfl (fun ls hl => ?_)
  refine lv_goto (tgt := 48) hx hb dX6_hatsOf_99 (by decide) ?_
  exact hk48 x1 x2 x3 t0 x5 (x6 + 1) ls (lv_sub hl [2, 3, 4, 5, 1, 6, 0] rfl) h
def mo_hatsOf_b48 (I : St) (k4 : Int32 → Int32 → Int32 → Option Int32) (k36 : Int32 → Int32 → Int32 → Int32 → Int32 → Option Int32) (k48 : Int32 → Int32 → Int32 → Int32 → Int32 → Int32 → Option Int32) (x1 : Int32) (x2 : Int32) (x3 : Int32) (x4 : Int32) (x5 : Int32) (x6 : Int32) : Option Int32 :=
  if x5 ≤ x6 then (k36 x1 x2 x3 x4 (x5 + 1))
  else (if x4 = 0 then (mo_hatsOf_b94 I k4 k36 k48 x1 x2 x3 x5 x6 (0 : Int32))
    else (bd_ (mo_isIn x3 x5) fun v3 =>
      if v3 = 0 then (bd_ (mo_isIn x3 x6) fun v5 =>
        if v5 = 0 then (bd_ (mo_areFalse I x5 x6) fun v7 =>
          if v7 = 0 then (mo_hatsOf_b94 I k4 k36 k48 x1 x2 x3 x5 x6 (1 : Int32))
          else (mo_hatsOf_b94 I k4 k36 k48 x1 x2 x3 x5 x6 (0 : Int32)))
        else (mo_hatsOf_b94 I k4 k36 k48 x1 x2 x3 x5 x6 (1 : Int32)))
      else (mo_hatsOf_b94 I k4 k36 k48 x1 x2 x3 x5 x6 (1 : Int32))))
theorem mo_hatsOf_w48 {p : Program} {l : Launch} {e : Env} {s : State} {m : MethodId} {args : Array Value} {below : List Frame} {meth : Method} {c : Code} {Z : MZ} {I : St} (C : MCx p s m args meth c cX6_hatsOf 7 (some .int) Z) (hM : mPD Z I s.heap) {r : Int32} {k4 : Int32 → Int32 → Int32 → Option Int32} (hk4 : mo_hatsOf_P4 p l e s m args below meth c Z r k4) {k36 : Int32 → Int32 → Int32 → Int32 → Int32 → Option Int32} (hk36 : mo_hatsOf_P36 p l e s m args below meth c Z r k36) {k48 : Int32 → Int32 → Int32 → Int32 → Int32 → Int32 → Option Int32} (hk48 : mo_hatsOf_P48 p l e s m args below meth c Z r k48) : mo_hatsOf_P48 p l e s m args below meth c Z r (mo_hatsOf_b48 I k4 k36 k48) := by
  intro x1 x2 x3 x4 x5 x6 ls hl h
  obtain ⟨⟨hx, hb, hr, hlocks, hml, hown, hts⟩, hK⟩ := id C
  unfold mo_hatsOf_b48 at h
  refine lv_iload hx hb dX6_hatsOf_48 (lv_at hl 6 rfl) ?_
  refine lv_iload hx hb dX6_hatsOf_50 (lv_at hl 5 rfl) ?_
  refine lv_icmp_ge (tgt := 102) hx hb dX6_hatsOf_52 (by decide) (fun c1 => ?_) (fun c1 => ?_)
  · have h := ip_ c1 h
    refine lv_iinc (v := (x5 + 1)) (lv' := [(5, .int (x5 + 1)), (0, .ref (mH Z)), (1, .int x1), (2, .int x2), (3, .int x3), (4, .int x4), (6, .int x6)]) hx hb dX6_hatsOf_102 hl (k := 5) rfl rfl (by decide) rfl (fun ls hl => ?_)
    refine lv_goto (tgt := 36) hx hb dX6_hatsOf_105 (by decide) ?_
    exact hk36 x1 x2 x3 x4 (x5 + 1) ls (lv_sub hl [1, 2, 3, 4, 5, 0] rfl) h
  · have h := in_ c1 h
    refine lv_iload hx hb dX6_hatsOf_55 (lv_at hl 4 rfl) ?_
    refine lv_if_eq (tgt := 93) hx hb dX6_hatsOf_57 (by decide) (fun c2 => ?_) (fun c2 => ?_)
    · have h := ip_ c2 h
      refine lv_iconst (v := 0) hx hb dX6_hatsOf_93 (by decide) ?_
      exact mo_hatsOf_w94 C hM hk4 hk36 hk48 x1 x2 x3 x5 x6 (0 : Int32) ls (lv_sub hl [0, 1, 2, 3, 5, 6] rfl) h
    · have h := in_ c2 h
      refine lv_iload_n hx hb dX6_hatsOf_60 rfl (lv_at hl 3 rfl) ?_
      refine lv_iload hx hb dX6_hatsOf_61 (lv_at hl 5 rfl) ?_
      obtain ⟨v3, q_v3, h⟩ := bd_e h
      refine s_roI (As := [.int x3, .int x5]) (rest := []) C.1 (mo_isIn_met _ x3 x5 v3 q_v3) (lw_S q1194 q1195 q88 q1196) mo_isIn_hd ⟨rfl, rfl⟩ ⟨Nat.le_of_ble_eq_true rfl, Nat.le_of_ble_eq_true rfl⟩ ⟨Nat.le_refl _, Nat.le_refl _⟩ rfl hl.1 rfl (Nat.le_of_ble_eq_true rfl) dX6_hatsOf_63 ?_
      refine lv_if_ne (tgt := 89) hx hb dX6_hatsOf_66 (by decide) (fun c4 => ?_) (fun c4 => ?_)
      · have h := in_ c4 h
        refine lv_iconst (v := 1) hx hb dX6_hatsOf_89 (by decide) ?_
        refine lv_goto (tgt := 94) hx hb dX6_hatsOf_90 (by decide) ?_
        exact mo_hatsOf_w94 C hM hk4 hk36 hk48 x1 x2 x3 x5 x6 (1 : Int32) ls (lv_sub hl [0, 1, 2, 3, 5, 6] rfl) h
      · have h := ip_ c4 h
        refine lv_iload_n hx hb dX6_hatsOf_69 rfl (lv_at hl 3 rfl) ?_
        refine lv_iload hx hb dX6_hatsOf_70 (lv_at hl 6 rfl) ?_
        obtain ⟨v5, q_v5, h⟩ := bd_e h
        refine s_roI (As := [.int x3, .int x6]) (rest := []) C.1 (mo_isIn_met _ x3 x6 v5 q_v5) (lw_S q1194 q1195 q88 q1196) mo_isIn_hd ⟨rfl, rfl⟩ ⟨Nat.le_of_ble_eq_true rfl, Nat.le_of_ble_eq_true rfl⟩ ⟨Nat.le_refl _, Nat.le_refl _⟩ rfl hl.1 rfl (Nat.le_of_ble_eq_true rfl) dX6_hatsOf_72 ?_
        refine lv_if_ne (tgt := 89) hx hb dX6_hatsOf_75 (by decide) (fun c6 => ?_) (fun c6 => ?_)
        · have h := in_ c6 h
          refine lv_iconst (v := 1) hx hb dX6_hatsOf_89 (by decide) ?_
          refine lv_goto (tgt := 94) hx hb dX6_hatsOf_90 (by decide) ?_
          exact mo_hatsOf_w94 C hM hk4 hk36 hk48 x1 x2 x3 x5 x6 (1 : Int32) ls (lv_sub hl [0, 1, 2, 3, 5, 6] rfl) h
        · have h := ip_ c6 h
          refine lv_aload_n hx hb dX6_hatsOf_78 rfl (lv_at hl 0 rfl) ?_
          refine lv_iload hx hb dX6_hatsOf_79 (lv_at hl 5 rfl) ?_
          refine lv_iload hx hb dX6_hatsOf_81 (lv_at hl 6 rfl) ?_
          obtain ⟨v7, q_v7, h⟩ := bd_e h
          refine m_roI (As := [.int x5, .int x6]) (rest := []) C hM (mo_areFalse_met _ Z I x5 x6 v7 q_v7) (lw_V q1394 q1396 qs69 q88 q1397) mo_areFalse_hd ⟨rfl, rfl⟩ ⟨Nat.le_of_ble_eq_true rfl, Nat.le_of_ble_eq_true rfl⟩ ⟨Nat.le_refl _, Nat.le_refl _⟩ rfl hl.1 rfl (Nat.le_of_ble_eq_true rfl) dX6_hatsOf_83 ?_
          refine lv_if_ne (tgt := 93) hx hb dX6_hatsOf_86 (by decide) (fun c8 => ?_) (fun c8 => ?_)
          · have h := in_ c8 h
            refine lv_iconst (v := 0) hx hb dX6_hatsOf_93 (by decide) ?_
            exact mo_hatsOf_w94 C hM hk4 hk36 hk48 x1 x2 x3 x5 x6 (0 : Int32) ls (lv_sub hl [0, 1, 2, 3, 5, 6] rfl) h
          · have h := ip_ c8 h
            refine lv_iconst (v := 1) hx hb dX6_hatsOf_89 (by decide) ?_
            refine lv_goto (tgt := 94) hx hb dX6_hatsOf_90 (by decide) ?_
            exact mo_hatsOf_w94 C hM hk4 hk36 hk48 x1 x2 x3 x5 x6 (1 : Int32) ls (lv_sub hl [0, 1, 2, 3, 5, 6] rfl) h
def mo_hatsOf_l48 (I : St) (k4 : Int32 → Int32 → Int32 → Option Int32) (k36 : Int32 → Int32 → Int32 → Int32 → Int32 → Option Int32) (n : Nat) : Int32 → Int32 → Int32 → Int32 → Int32 → Int32 → Option Int32 := lp (fun _ _ _ _ _ _ => none) (mo_hatsOf_b48 I k4 k36) n
theorem mo_hatsOf_lw48 {p : Program} {l : Launch} {e : Env} {s : State} {m : MethodId} {args : Array Value} {below : List Frame} {meth : Method} {c : Code} {Z : MZ} {I : St} (C : MCx p s m args meth c cX6_hatsOf 7 (some .int) Z) (hM : mPD Z I s.heap) {r : Int32} {k4 : Int32 → Int32 → Int32 → Option Int32} (hk4 : mo_hatsOf_P4 p l e s m args below meth c Z r k4) {k36 : Int32 → Int32 → Int32 → Int32 → Int32 → Option Int32} (hk36 : mo_hatsOf_P36 p l e s m args below meth c Z r k36) : ∀ n : Nat, mo_hatsOf_P48 p l e s m args below meth c Z r (mo_hatsOf_l48 I k4 k36 n) := by
  intro n
  induction n with
  | zero => intro x1 x2 x3 x4 x5 x6 ls hl h; exact no_ h
  | succ n ih => exact mo_hatsOf_w48 C hM hk4 hk36 ih
def mo_hatsOf_b36 (I : St) (k4 : Int32 → Int32 → Int32 → Option Int32) (k36 : Int32 → Int32 → Int32 → Int32 → Int32 → Option Int32) (x1 : Int32) (x2 : Int32) (x3 : Int32) (x4 : Int32) (x5 : Int32) : Option Int32 :=
  if (I 26 0) ≤ x5 then (if x4 = 0 then (mo_hatsOf_b118 I k4 x1 x3 x2)
    else (mo_hatsOf_b118 I k4 x1 x3 x3))
  else (mo_hatsOf_l48 I k4 k36 FU x1 x2 x3 x4 x5 (0 : Int32))
theorem mo_hatsOf_w36 {p : Program} {l : Launch} {e : Env} {s : State} {m : MethodId} {args : Array Value} {below : List Frame} {meth : Method} {c : Code} {Z : MZ} {I : St} (C : MCx p s m args meth c cX6_hatsOf 7 (some .int) Z) (hM : mPD Z I s.heap) {r : Int32} {k4 : Int32 → Int32 → Int32 → Option Int32} (hk4 : mo_hatsOf_P4 p l e s m args below meth c Z r k4) {k36 : Int32 → Int32 → Int32 → Int32 → Int32 → Option Int32} (hk36 : mo_hatsOf_P36 p l e s m args below meth c Z r k36) : mo_hatsOf_P36 p l e s m args below meth c Z r (mo_hatsOf_b36 I k4 k36) := by
  intro x1 x2 x3 x4 x5 ls hl h
  obtain ⟨⟨hx, hb, hr, hlocks, hml, hown, hts⟩, hK⟩ := id C
  unfold mo_hatsOf_b36 at h
  refine lv_iload hx hb dX6_hatsOf_36 (lv_at hl 5 rfl) ?_
  refine lv_aload_n hx hb dX6_hatsOf_38 rfl (lv_at hl 0 rfl) ?_
  refine gm26 C hM dX6_hatsOf_39 ?_
  refine lv_icmp_ge (tgt := 108) hx hb dX6_hatsOf_42 (by decide) (fun c1 => ?_) (fun c1 => ?_)
  · have h := ip_ c1 h
    refine lv_iload hx hb dX6_hatsOf_108 (lv_at hl 4 rfl) ?_
    refine lv_if_eq (tgt := 117) hx hb dX6_hatsOf_110 (by decide) (fun c2 => ?_) (fun c2 => ?_)
    · have h := ip_ c2 h
      refine lv_iload_n hx hb dX6_hatsOf_117 rfl (lv_at hl 2 rfl) ?_
      exact mo_hatsOf_w118 C hM hk4 x1 x3 x2 ls (lv_sub hl [0, 1, 3] rfl) h
    · have h := in_ c2 h
      refine lv_iload_n hx hb dX6_hatsOf_113 rfl (lv_at hl 3 rfl) ?_
      refine lv_goto (tgt := 118) hx hb dX6_hatsOf_114 (by decide) ?_
      exact mo_hatsOf_w118 C hM hk4 x1 x3 x3 ls (lv_sub hl [0, 1, 3] rfl) h
  · have h := in_ c1 h
    refine lv_iconst (v := 0) hx hb dX6_hatsOf_45 (by decide) ?_
    refine lv_istore (lv' := [(6, .int (0 : Int32)), (0, .ref (mH Z)), (1, .int x1), (2, .int x2), (3, .int x3), (4, .int x4), (5, .int x5)]) hx hb dX6_hatsOf_46 hl (by decide) rfl (fun ls hl => ?_)
    exact mo_hatsOf_lw48 C hM hk4 hk36 FU x1 x2 x3 x4 x5 (0 : Int32) ls (lv_sub hl [1, 2, 3, 4, 5, 6, 0] rfl) h
def mo_hatsOf_l36 (I : St) (k4 : Int32 → Int32 → Int32 → Option Int32) (n : Nat) : Int32 → Int32 → Int32 → Int32 → Int32 → Option Int32 := lp (fun _ _ _ _ _ => none) (mo_hatsOf_b36 I k4) n
theorem mo_hatsOf_lw36 {p : Program} {l : Launch} {e : Env} {s : State} {m : MethodId} {args : Array Value} {below : List Frame} {meth : Method} {c : Code} {Z : MZ} {I : St} (C : MCx p s m args meth c cX6_hatsOf 7 (some .int) Z) (hM : mPD Z I s.heap) {r : Int32} {k4 : Int32 → Int32 → Int32 → Option Int32} (hk4 : mo_hatsOf_P4 p l e s m args below meth c Z r k4) : ∀ n : Nat, mo_hatsOf_P36 p l e s m args below meth c Z r (mo_hatsOf_l36 I k4 n) := by
  intro n
  induction n with
  | zero => intro x1 x2 x3 x4 x5 ls hl h; exact no_ h
  | succ n ih => exact mo_hatsOf_w36 C hM hk4 ih
def mo_hatsOf_b30 (I : St) (k4 : Int32 → Int32 → Int32 → Option Int32) (x1 : Int32) (x2 : Int32) (x3 : Int32) : Option Int32 :=
  mo_hatsOf_l36 I k4 FU x1 x2 x3 (1 : Int32) (0 : Int32)
theorem mo_hatsOf_w30 {p : Program} {l : Launch} {e : Env} {s : State} {m : MethodId} {args : Array Value} {below : List Frame} {meth : Method} {c : Code} {Z : MZ} {I : St} (C : MCx p s m args meth c cX6_hatsOf 7 (some .int) Z) (hM : mPD Z I s.heap) {r : Int32} {k4 : Int32 → Int32 → Int32 → Option Int32} (hk4 : mo_hatsOf_P4 p l e s m args below meth c Z r k4) : mo_hatsOf_P30 p l e s m args below meth c Z r (mo_hatsOf_b30 I k4) := by
  intro x1 x2 x3 ls hl h
  obtain ⟨⟨hx, hb, hr, hlocks, hml, hown, hts⟩, hK⟩ := id C
  unfold mo_hatsOf_b30 at h
  refine lv_iconst (v := 1) hx hb dX6_hatsOf_30 (by decide) ?_
  refine lv_istore (lv' := [(4, .int (1 : Int32)), (0, .ref (mH Z)), (1, .int x1), (2, .int x2), (3, .int x3)]) hx hb dX6_hatsOf_31 hl (by decide) rfl (fun ls hl => ?_)
  refine lv_iconst (v := 0) hx hb dX6_hatsOf_33 (by decide) ?_
  refine lv_istore (lv' := [(5, .int (0 : Int32)), (4, .int (1 : Int32)), (0, .ref (mH Z)), (1, .int x1), (2, .int x2), (3, .int x3)]) hx hb dX6_hatsOf_34 hl (by decide) rfl (fun ls hl => ?_)
  exact mo_hatsOf_lw36 C hM hk4 FU x1 x2 x3 (1 : Int32) (0 : Int32) ls (lv_sub hl [2, 3, 4, 5, 1, 0] rfl) h
def mo_hatsOf_b4 (I : St) (k4 : Int32 → Int32 → Int32 → Option Int32) (x1 : Int32) (x2 : Int32) (x3 : Int32) : Option Int32 :=
  if ((1 : Int32) <<< ((I 26 0) &&& 31)) ≤ x3 then (if x1 = 0 then (bd_ (mo_ones x2) fun v3 =>
      some v3)
    else (some x2))
  else (if x2 = (-1 : Int32) then (mo_hatsOf_b30 I k4 x1 x2 x3)
    else (bd_ (mo_ones x3) fun v5 =>
      bd_ (mo_ones x2) fun v6 =>
      if v6 ≤ v5 then (mo_hatsOf_b119 I k4 x1 x2 x3)
      else (mo_hatsOf_b30 I k4 x1 x2 x3)))
theorem mo_hatsOf_w4 {p : Program} {l : Launch} {e : Env} {s : State} {m : MethodId} {args : Array Value} {below : List Frame} {meth : Method} {c : Code} {Z : MZ} {I : St} (C : MCx p s m args meth c cX6_hatsOf 7 (some .int) Z) (hM : mPD Z I s.heap) {r : Int32} {k4 : Int32 → Int32 → Int32 → Option Int32} (hk4 : mo_hatsOf_P4 p l e s m args below meth c Z r k4) : mo_hatsOf_P4 p l e s m args below meth c Z r (mo_hatsOf_b4 I k4) := by
  intro x1 x2 x3 ls hl h
  obtain ⟨⟨hx, hb, hr, hlocks, hml, hown, hts⟩, hK⟩ := id C
  unfold mo_hatsOf_b4 at h
  refine lv_iload_n hx hb dX6_hatsOf_4 rfl (lv_at hl 3 rfl) ?_
  refine lv_iconst (v := 1) hx hb dX6_hatsOf_5 (by decide) ?_
  refine lv_aload_n hx hb dX6_hatsOf_6 rfl (lv_at hl 0 rfl) ?_
  refine gm26 C hM dX6_hatsOf_7 ?_
  refine lv_ishl hx hb dX6_hatsOf_10 ?_
  refine lv_icmp_ge (tgt := 125) hx hb dX6_hatsOf_11 (by decide) (fun c1 => ?_) (fun c1 => ?_)
  · have h := ip_ c1 h
    refine lv_iload_n hx hb dX6_hatsOf_125 rfl (lv_at hl 1 rfl) ?_
    refine lv_if_ne (tgt := 136) hx hb dX6_hatsOf_126 (by decide) (fun c2 => ?_) (fun c2 => ?_)
    · have h := in_ c2 h
      refine lv_iload_n hx hb dX6_hatsOf_136 rfl (lv_at hl 2 rfl) ?_
      have h := so_ h
      subst h
      exact W.iret hx hb hr (fun t ht hW => ⟨rfl, ht⟩) (fun q hq => by cases hq) dX6_hatsOf_137
    · have h := ip_ c2 h
      refine lv_iload_n hx hb dX6_hatsOf_129 rfl (lv_at hl 2 rfl) ?_
      obtain ⟨v3, q_v3, h⟩ := bd_e h
      refine s_roI (As := [.int x2]) (rest := []) C.1 (mo_ones_met _ x2 v3 q_v3) (lw_S q1278 q1279 q88 q1280) mo_ones_hd ⟨rfl, rfl⟩ ⟨Nat.le_of_ble_eq_true rfl, Nat.le_of_ble_eq_true rfl⟩ ⟨Nat.le_refl _, Nat.le_refl _⟩ rfl hl.1 rfl (Nat.le_of_ble_eq_true rfl) dX6_hatsOf_130 ?_
      refine lv_goto (tgt := 137) hx hb dX6_hatsOf_133 (by decide) ?_
      have h := so_ h
      subst h
      exact W.iret hx hb hr (fun t ht hW => ⟨rfl, ht⟩) (fun q hq => by cases hq) dX6_hatsOf_137
  · have h := in_ c1 h
    refine lv_iload_n hx hb dX6_hatsOf_14 rfl (lv_at hl 2 rfl) ?_
    refine lv_iconst (v := -1) hx hb dX6_hatsOf_15 (by decide) ?_
    refine lv_icmp_eq (tgt := 30) hx hb dX6_hatsOf_16 (by decide) (fun c4 => ?_) (fun c4 => ?_)
    · have h := ip_ c4 h
      exact mo_hatsOf_w30 C hM hk4 x1 x2 x3 ls (lv_sub hl [0, 1, 2, 3] rfl) h
    · have h := in_ c4 h
      refine lv_iload_n hx hb dX6_hatsOf_19 rfl (lv_at hl 3 rfl) ?_
      obtain ⟨v5, q_v5, h⟩ := bd_e h
      refine s_roI (As := [.int x3]) (rest := []) C.1 (mo_ones_met _ x3 v5 q_v5) (lw_S q1278 q1279 q88 q1280) mo_ones_hd ⟨rfl, rfl⟩ ⟨Nat.le_of_ble_eq_true rfl, Nat.le_of_ble_eq_true rfl⟩ ⟨Nat.le_refl _, Nat.le_refl _⟩ rfl hl.1 rfl (Nat.le_of_ble_eq_true rfl) dX6_hatsOf_20 ?_
      refine lv_iload_n hx hb dX6_hatsOf_23 rfl (lv_at hl 2 rfl) ?_
      obtain ⟨v6, q_v6, h⟩ := bd_e h
      refine s_roI (As := [.int x2]) (rest := [.int v5]) C.1 (mo_ones_met _ x2 v6 q_v6) (lw_S q1278 q1279 q88 q1280) mo_ones_hd ⟨rfl, rfl⟩ ⟨Nat.le_of_ble_eq_true rfl, Nat.le_of_ble_eq_true rfl⟩ ⟨Nat.le_refl _, Nat.le_refl _⟩ rfl hl.1 rfl (Nat.le_of_ble_eq_true rfl) dX6_hatsOf_24 ?_
      refine lv_icmp_ge (tgt := 119) hx hb dX6_hatsOf_27 (by decide) (fun c7 => ?_) (fun c7 => ?_)
      · have h := ip_ c7 h
        exact mo_hatsOf_w119 C hM hk4 x1 x2 x3 ls (lv_sub hl [0, 1, 2, 3] rfl) h
      · have h := in_ c7 h
        exact mo_hatsOf_w30 C hM hk4 x1 x2 x3 ls (lv_sub hl [0, 1, 2, 3] rfl) h
def mo_hatsOf_l4 (I : St) (n : Nat) : Int32 → Int32 → Int32 → Option Int32 := lp (fun _ _ _ => none) (mo_hatsOf_b4 I) n
theorem mo_hatsOf_lw4 {p : Program} {l : Launch} {e : Env} {s : State} {m : MethodId} {args : Array Value} {below : List Frame} {meth : Method} {c : Code} {Z : MZ} {I : St} (C : MCx p s m args meth c cX6_hatsOf 7 (some .int) Z) (hM : mPD Z I s.heap) {r : Int32} : ∀ n : Nat, mo_hatsOf_P4 p l e s m args below meth c Z r (mo_hatsOf_l4 I n) := by
  intro n
  induction n with
  | zero => intro x1 x2 x3 ls hl h; exact no_ h
  | succ n ih => exact mo_hatsOf_w4 C hM ih
def mo_hatsOf (I : St) (x1 : Int32) : Option Int32 :=
  mo_hatsOf_l4 I FU x1 (-1 : Int32) (0 : Int32)
theorem mo_hatsOf_w0 {p : Program} {l : Launch} {e : Env} {s : State} {m : MethodId} {args : Array Value} {below : List Frame} {meth : Method} {c : Code} {Z : MZ} {I : St} (C : MCx p s m args meth c cX6_hatsOf 7 (some .int) Z) (hM : mPD Z I s.heap) {r : Int32} : mo_hatsOf_P0 p l e s m args below meth c Z r (mo_hatsOf I) := by
  intro x1 ls hl h
  obtain ⟨⟨hx, hb, hr, hlocks, hml, hown, hts⟩, hK⟩ := id C
  unfold mo_hatsOf at h
  refine lv_iconst (v := -1) hx hb dX6_hatsOf_0 (by decide) ?_
  refine lv_istore_n (lv' := [(2, .int (-1 : Int32)), (0, .ref (mH Z)), (1, .int x1)]) hx hb dX6_hatsOf_1 rfl hl (by decide) rfl (fun ls hl => ?_)
  refine lv_iconst (v := 0) hx hb dX6_hatsOf_2 (by decide) ?_
  refine lv_istore_n (lv' := [(3, .int (0 : Int32)), (2, .int (-1 : Int32)), (0, .ref (mH Z)), (1, .int x1)]) hx hb dX6_hatsOf_3 rfl hl (by decide) rfl (fun ls hl => ?_)
  exact mo_hatsOf_lw4 C hM FU x1 (-1 : Int32) (0 : Int32) ls (lv_sub hl [2, 3, 1, 0] rfl) h
theorem mo_hatsOf_hd : yX6_hatsOf.cls = RX6 ∧ yX6_hatsOf.cls ≠ "java/lang/invoke/MethodHandle" ∧ yX6_hatsOf.cls ≠ "java/lang/invoke/VarHandle" ∧ (parseMethodDescriptor yX6_hatsOf.desc).map (fun d => d.parameters.length) = some 1 := by decide +kernel
theorem mo_hatsOf_met (l : Launch) (Z : MZ) (I : St) (x1 : Int32) (r : Int32) (h : mo_hatsOf I x1 = some r) : Met l yX6_hatsOf (ws_ yX6_hatsOf cX6_hatsOf 7 (some .int)) mo_hatsOf_rm (va_Pc [.ref (mH Z), .int x1] (mS Z I)) (Qro (some (.int r))) 0 0 (fun _ => False) := by
  refine Met.ofW (cc := cX6_hatsOf) (maxL := 7) (ret := some .int) (by decide) rfl ?_
  intro p e s m args below meth c s₁ B hml hv
  obtain ⟨rfl, hv⟩ := hv
  have hts := atoms_spec (ws := ws_ yX6_hatsOf cX6_hatsOf 7 (some .int)) B.pre
  have hts : ∀ w ∈ lw_all, w.before _ s = true := fun w h => hts w (List.mem_cons_of_mem _ h)
  have C : SCx p s m _ meth c cX6_hatsOf 7 (some .int) RX6 := ⟨B.exec, B.bytes, B.returns, B.notSynchronized, hml, findClass_of_methodNamed B.named, hts⟩
  have hl := lv_entry [.ref (mH Z), .int x1] (n := 7) (Nat.le_of_ble_eq_true rfl)
  rw [lg_entry_eq]
  generalize (lg_sl [.ref (mH Z), .int x1] ++ List.replicate (7 - (lg_sl [.ref (mH Z), .int x1]).length) Slot.unset).toArray = ls at hl ⊢
  have C : MCx p s m _ meth c _ _ _ Z := ⟨C, hv.2⟩
  have hM := hv.1
  exact mo_hatsOf_w0 C hM x1 ls hl h

/-! SecondChancesModel.hats(I)I -/
def mo_hats_rm : Room := { frames := 2, cells := 0, slots := 0, locals := 51 }
def mo_hats_P0 (p : Program) (l : Launch) (e : Env) (s : State) (m : MethodId) (args : Array Value) (below : List Frame) (meth : Method) (c : Code) (Z : MZ) (r : Int32) (f : Int32 → Option Int32) : Prop := ∀ (x1 : Int32) (ls : Array Slot), lv_has ls 2 [(0, .ref (mH Z)), (1, .int x1)] → f x1 = some r → W p l e mo_hats_rm s m args below meth c s.heap [] 0 0 (MQ below (Qro (some (.int r))) args s 0 0 (fun _ => False)) (F0 m 0 ls [])
def mo_hats (I : St) (x1 : Int32) : Option Int32 :=
  bd_ (mo_in x1 (0 : Int32) (1 : Int32)) fun v1 =>
  if v1 = 0 then (some (-2 : Int32))
  else (bd_ (mo_hatsOf I x1) fun v3 =>
    some v3)
theorem mo_hats_w0 {p : Program} {l : Launch} {e : Env} {s : State} {m : MethodId} {args : Array Value} {below : List Frame} {meth : Method} {c : Code} {Z : MZ} {I : St} (C : MCx p s m args meth c cX6_hats 2 (some .int) Z) (hM : mPD Z I s.heap) {r : Int32} : mo_hats_P0 p l e s m args below meth c Z r (mo_hats I) := by
  intro x1 ls hl h
  obtain ⟨⟨hx, hb, hr, hlocks, hml, hown, hts⟩, hK⟩ := id C
  unfold mo_hats at h
  refine lv_iload_n hx hb dX6_hats_0 rfl (lv_at hl 1 rfl) ?_
  refine lv_iconst (v := 0) hx hb dX6_hats_1 (by decide) ?_
  refine lv_iconst (v := 1) hx hb dX6_hats_2 (by decide) ?_
  obtain ⟨v1, q_v1, h⟩ := bd_e h
  refine s_roI (As := [.int x1, .int (0 : Int32), .int (1 : Int32)]) (rest := []) C.1 (mo_in_met _ x1 (0 : Int32) (1 : Int32) v1 q_v1) (lw_S q1168 q1169 q88 q1170) mo_in_hd ⟨rfl, rfl⟩ ⟨Nat.le_of_ble_eq_true rfl, Nat.le_of_ble_eq_true rfl⟩ ⟨Nat.le_refl _, Nat.le_refl _⟩ rfl hl.1 rfl (Nat.le_of_ble_eq_true rfl) dX6_hats_3 ?_
  refine lv_if_eq (tgt := 17) hx hb dX6_hats_6 (by decide) (fun c2 => ?_) (fun c2 => ?_)
  · have h := ip_ c2 h
    refine lv_bipush (v := -2) hx hb dX6_hats_17 (by decide) ?_
    have h := so_ h
    subst h
    exact W.iret hx hb hr (fun t ht hW => ⟨rfl, ht⟩) (fun q hq => by cases hq) dX6_hats_19
  · have h := in_ c2 h
    refine lv_aload_n hx hb dX6_hats_9 rfl (lv_at hl 0 rfl) ?_
    refine lv_iload_n hx hb dX6_hats_10 rfl (lv_at hl 1 rfl) ?_
    obtain ⟨v3, q_v3, h⟩ := bd_e h
    refine m_roI (As := [.int x1]) (rest := []) C hM (mo_hatsOf_met _ Z I x1 v3 q_v3) (lw_V q1402 q1404 qs70 q88 q1405) mo_hatsOf_hd ⟨rfl, rfl⟩ ⟨Nat.le_of_ble_eq_true rfl, Nat.le_of_ble_eq_true rfl⟩ ⟨Nat.le_refl _, Nat.le_refl _⟩ rfl hl.1 rfl (Nat.le_of_ble_eq_true rfl) dX6_hats_11 ?_
    refine lv_goto (tgt := 19) hx hb dX6_hats_14 (by decide) ?_
    have h := so_ h
    subst h
    exact W.iret hx hb hr (fun t ht hW => ⟨rfl, ht⟩) (fun q hq => by cases hq) dX6_hats_19
theorem mo_hats_hd : yX6_hats.cls = RX6 ∧ yX6_hats.cls ≠ "java/lang/invoke/MethodHandle" ∧ yX6_hats.cls ≠ "java/lang/invoke/VarHandle" ∧ (parseMethodDescriptor yX6_hats.desc).map (fun d => d.parameters.length) = some 1 := by decide +kernel
theorem mo_hats_met (l : Launch) (Z : MZ) (I : St) (x1 : Int32) (r : Int32) (h : mo_hats I x1 = some r) : Met l yX6_hats (ws_ yX6_hats cX6_hats 2 (some .int)) mo_hats_rm (va_Pc [.ref (mH Z), .int x1] (mS Z I)) (Qro (some (.int r))) 0 0 (fun _ => False) := by
  refine Met.ofW (cc := cX6_hats) (maxL := 2) (ret := some .int) (by decide) rfl ?_
  intro p e s m args below meth c s₁ B hml hv
  obtain ⟨rfl, hv⟩ := hv
  have hts := atoms_spec (ws := ws_ yX6_hats cX6_hats 2 (some .int)) B.pre
  have hts : ∀ w ∈ lw_all, w.before _ s = true := fun w h => hts w (List.mem_cons_of_mem _ h)
  have C : SCx p s m _ meth c cX6_hats 2 (some .int) RX6 := ⟨B.exec, B.bytes, B.returns, B.notSynchronized, hml, findClass_of_methodNamed B.named, hts⟩
  have hl := lv_entry [.ref (mH Z), .int x1] (n := 2) (Nat.le_of_ble_eq_true rfl)
  rw [lg_entry_eq]
  generalize (lg_sl [.ref (mH Z), .int x1] ++ List.replicate (2 - (lg_sl [.ref (mH Z), .int x1]).length) Slot.unset).toArray = ls at hl ⊢
  have C : MCx p s m _ meth c _ _ _ Z := ⟨C, hv.2⟩
  have hM := hv.1
  exact mo_hats_w0 C hM x1 ls hl h

/-! SecondChancesModel.after(II)I -/
def mo_after_rm : Room := { frames := 1, cells := 0, slots := 0, locals := 22 }
def mo_after_P0 (p : Program) (l : Launch) (e : Env) (s : State) (m : MethodId) (args : Array Value) (below : List Frame) (meth : Method) (c : Code) (Z : MZ) (r : (Int32 × St)) (f : Int32 → Int32 → St → Option (Int32 × St)) : Prop := ∀ (x1 : Int32) (x2 : Int32) (I : St) (H : Heap) (locs : List Loc) (ls : Array Slot), mIn Z s I H locs → lv_has ls 3 [(0, .ref (mH Z)), (1, .int x1), (2, .int x2)] → f x1 x2 I = some r → W p l e mo_after_rm s m args below meth c H locs 0 0 (MQ below (Qwr (some (.int r.1)) (mS Z r.2) (mA Z)) args s 0 0 (mA Z)) (F0 m 0 ls [])
def mo_after (x1 : Int32) (x2 : Int32) (I : St) : Option (Int32 × St) :=
  bd_ (mo_in x1 (0 : Int32) (7 : Int32)) fun v1 =>
  if v1 = 0 then (some ((-2 : Int32), I))
  else (bd_ (mo_in x2 (0 : Int32) (7 : Int32)) fun v3 =>
    if v3 = 0 then (some ((-2 : Int32), I))
    else (if x1 = x2 then (some ((-2 : Int32), I))
      else (if (I 30 0) = (10 : Int32) then (some ((-4 : Int32), I))
        else (as_ 10 31 I (I 30 0) x1 fun I7 =>
          as_ 10 32 I7 (I7 30 0) x2 fun I8 =>
          lt_ (upd2 I8 30 0 ((I8 30 0) + (1 : Int32))) fun I9 =>
          some ((I9 30 0), I9)))))
theorem mo_after_w0 {p : Program} {l : Launch} {e : Env} {s : State} {m : MethodId} {args : Array Value} {below : List Frame} {meth : Method} {c : Code} {Z : MZ} (C : MCx p s m args meth c cX6_after 3 (some .int) Z) {r : (Int32 × St)} : mo_after_P0 p l e s m args below meth c Z r (mo_after) := by
  intro x1 x2 I H locs ls hM hl h
  obtain ⟨⟨hx, hb, hr, hlocks, hml, hown, hts⟩, hK⟩ := id C
  unfold mo_after at h
  refine lv_iload_n hx hb dX6_after_0 rfl (lv_at hl 1 rfl) ?_
  refine lv_iconst (v := 0) hx hb dX6_after_1 (by decide) ?_
  refine lv_bipush (v := 7) hx hb dX6_after_2 (by decide) ?_
  obtain ⟨v1, q_v1, h⟩ := bd_e h
  refine s_roI (As := [.int x1, .int (0 : Int32), .int (7 : Int32)]) (rest := []) C.1 (mo_in_met _ x1 (0 : Int32) (7 : Int32) v1 q_v1) (lw_S q1168 q1169 q88 q1170) mo_in_hd ⟨rfl, rfl⟩ ⟨Nat.le_of_ble_eq_true rfl, Nat.le_of_ble_eq_true rfl⟩ ⟨Nat.le_refl _, Nat.le_refl _⟩ rfl hl.1 rfl (Nat.le_of_ble_eq_true rfl) dX6_after_4 ?_
  refine lv_if_eq (tgt := 25) hx hb dX6_after_7 (by decide) (fun c2 => ?_) (fun c2 => ?_)
  · have h := ip_ c2 h
    refine lv_bipush (v := -2) hx hb dX6_after_25 (by decide) ?_
    have h := so_ h
    subst h
    exact W.iret hx hb hr (fun t ht hW => ⟨rfl, ⟨by rw [ht]; exact hM.1, va_K.moved hW.alike hK⟩, hM.2.F ht⟩) hM.2.2.2 dX6_after_27
  · have h := in_ c2 h
    refine lv_iload_n hx hb dX6_after_10 rfl (lv_at hl 2 rfl) ?_
    refine lv_iconst (v := 0) hx hb dX6_after_11 (by decide) ?_
    refine lv_bipush (v := 7) hx hb dX6_after_12 (by decide) ?_
    obtain ⟨v3, q_v3, h⟩ := bd_e h
    refine s_roI (As := [.int x2, .int (0 : Int32), .int (7 : Int32)]) (rest := []) C.1 (mo_in_met _ x2 (0 : Int32) (7 : Int32) v3 q_v3) (lw_S q1168 q1169 q88 q1170) mo_in_hd ⟨rfl, rfl⟩ ⟨Nat.le_of_ble_eq_true rfl, Nat.le_of_ble_eq_true rfl⟩ ⟨Nat.le_refl _, Nat.le_refl _⟩ rfl hl.1 rfl (Nat.le_of_ble_eq_true rfl) dX6_after_14 ?_
    refine lv_if_eq (tgt := 25) hx hb dX6_after_17 (by decide) (fun c4 => ?_) (fun c4 => ?_)
    · have h := ip_ c4 h
      refine lv_bipush (v := -2) hx hb dX6_after_25 (by decide) ?_
      have h := so_ h
      subst h
      exact W.iret hx hb hr (fun t ht hW => ⟨rfl, ⟨by rw [ht]; exact hM.1, va_K.moved hW.alike hK⟩, hM.2.F ht⟩) hM.2.2.2 dX6_after_27
    · have h := in_ c4 h
      refine lv_iload_n hx hb dX6_after_20 rfl (lv_at hl 1 rfl) ?_
      refine lv_iload_n hx hb dX6_after_21 rfl (lv_at hl 2 rfl) ?_
      refine lv_icmp_ne (tgt := 28) hx hb dX6_after_22 (by decide) (fun c5 => ?_) (fun c5 => ?_)
      · have h := in_ c5 h
        refine lv_aload_n hx hb dX6_after_28 rfl (lv_at hl 0 rfl) ?_
        refine gm30 C hM.1 dX6_after_29 ?_
        refine lv_bipush (v := 10) hx hb dX6_after_32 (by decide) ?_
        refine lv_icmp_ne (tgt := 40) hx hb dX6_after_34 (by decide) (fun c6 => ?_) (fun c6 => ?_)
        · have h := in_ c6 h
          refine lv_aload_n hx hb dX6_after_40 rfl (lv_at hl 0 rfl) ?_
          refine gm31 C hM.1 dX6_after_41 ?_
          refine lv_aload_n hx hb dX6_after_44 rfl (lv_at hl 0 rfl) ?_
          refine gm30 C hM.1 dX6_after_45 ?_
          refine lv_iload_n hx hb dX6_after_48 rfl (lv_at hl 1 rfl) ?_
          obtain ⟨i_I7, h⟩ := as_e h
          refine m_ast C hM (pos := 23) (k := 31) rfl rfl i_I7 dX6_after_49 (fun H locs I7 e_I7 hM => ?_)
          have h := h I7 e_I7
          refine lv_aload_n hx hb dX6_after_50 rfl (lv_at hl 0 rfl) ?_
          refine gm32 C hM.1 dX6_after_51 ?_
          refine lv_aload_n hx hb dX6_after_54 rfl (lv_at hl 0 rfl) ?_
          refine gm30 C hM.1 dX6_after_55 ?_
          refine lv_iload_n hx hb dX6_after_58 rfl (lv_at hl 2 rfl) ?_
          obtain ⟨i_I8, h⟩ := as_e h
          refine m_ast C hM (pos := 24) (k := 32) rfl rfl i_I8 dX6_after_59 (fun H locs I8 e_I8 hM => ?_)
          have h := h I8 e_I8
          refine lv_aload_n hx hb dX6_after_60 rfl (lv_at hl 0 rfl) ?_
          refine lv_dup hx hb dX6_after_61 rfl ?_
          refine gm30 C hM.1 dX6_after_62 ?_
          refine lv_iconst (v := 1) hx hb dX6_after_65 (by decide) ?_
          refine lv_iadd hx hb dX6_after_66 ?_
          refine pm30 C hM dX6_after_67 (fun H locs I9 e_I9 hM => ?_)
          have h := lt_i h e_I9
          refine lv_aload_n hx hb dX6_after_70 rfl (lv_at hl 0 rfl) ?_
          refine gm30 C hM.1 dX6_after_71 ?_
          have h := so_ h
          subst h
          exact W.iret hx hb hr (fun t ht hW => ⟨rfl, ⟨by rw [ht]; exact hM.1, va_K.moved hW.alike hK⟩, hM.2.F ht⟩) hM.2.2.2 dX6_after_74
        · have h := ip_ c6 h
          refine lv_bipush (v := -4) hx hb dX6_after_37 (by decide) ?_
          have h := so_ h
          subst h
          exact W.iret hx hb hr (fun t ht hW => ⟨rfl, ⟨by rw [ht]; exact hM.1, va_K.moved hW.alike hK⟩, hM.2.F ht⟩) hM.2.2.2 dX6_after_39
      · have h := ip_ c5 h
        refine lv_bipush (v := -2) hx hb dX6_after_25 (by decide) ?_
        have h := so_ h
        subst h
        exact W.iret hx hb hr (fun t ht hW => ⟨rfl, ⟨by rw [ht]; exact hM.1, va_K.moved hW.alike hK⟩, hM.2.F ht⟩) hM.2.2.2 dX6_after_27
theorem mo_after_hd : yX6_after.cls = RX6 ∧ yX6_after.cls ≠ "java/lang/invoke/MethodHandle" ∧ yX6_after.cls ≠ "java/lang/invoke/VarHandle" ∧ (parseMethodDescriptor yX6_after.desc).map (fun d => d.parameters.length) = some 2 := by decide +kernel
theorem mo_after_met (l : Launch) (Z : MZ) (I : St) (x1 : Int32) (x2 : Int32) (r : (Int32 × St)) (h : mo_after x1 x2 I = some r) : Met l yX6_after (ws_ yX6_after cX6_after 3 (some .int)) mo_after_rm (va_Pc [.ref (mH Z), .int x1, .int x2] (mS Z I)) (Qwr (some (.int r.1)) (mS Z r.2) (mA Z)) 0 0 (mA Z) := by
  refine Met.ofW (cc := cX6_after) (maxL := 3) (ret := some .int) (by decide) rfl ?_
  intro p e s m args below meth c s₁ B hml hv
  obtain ⟨rfl, hv⟩ := hv
  have hts := atoms_spec (ws := ws_ yX6_after cX6_after 3 (some .int)) B.pre
  have hts : ∀ w ∈ lw_all, w.before _ s = true := fun w h => hts w (List.mem_cons_of_mem _ h)
  have C : SCx p s m _ meth c cX6_after 3 (some .int) RX6 := ⟨B.exec, B.bytes, B.returns, B.notSynchronized, hml, findClass_of_methodNamed B.named, hts⟩
  have hl := lv_entry [.ref (mH Z), .int x1, .int x2] (n := 3) (Nat.le_of_ble_eq_true rfl)
  rw [lg_entry_eq]
  generalize (lg_sl [.ref (mH Z), .int x1, .int x2] ++ List.replicate (3 - (lg_sl [.ref (mH Z), .int x1, .int x2]).length) Slot.unset).toArray = ls at hl ⊢
  have C : MCx p s m _ meth c _ _ _ Z := ⟨C, hv.2⟩
  have hM : mIn Z s I s.heap [] := ⟨hv.1, va_S.rf⟩
  exact mo_after_w0 C x1 x2 I _ _ ls hM hl h

/-! SecondChancesModel.forget(I)I -/
def mo_forget_rm : Room := { frames := 1, cells := 0, slots := 0, locals := 22 }
def mo_forget_P0 (p : Program) (l : Launch) (e : Env) (s : State) (m : MethodId) (args : Array Value) (below : List Frame) (meth : Method) (c : Code) (Z : MZ) (r : (Int32 × St)) (f : Int32 → St → Option (Int32 × St)) : Prop := ∀ (x1 : Int32) (I : St) (H : Heap) (locs : List Loc) (ls : Array Slot), mIn Z s I H locs → lv_has ls 3 [(0, .ref (mH Z)), (1, .int x1)] → f x1 I = some r → W p l e mo_forget_rm s m args below meth c H locs 0 0 (MQ below (Qwr (some (.int r.1)) (mS Z r.2) (mA Z)) args s 0 0 (mA Z)) (F0 m 0 ls [])
def mo_forget_P27 (p : Program) (l : Launch) (e : Env) (s : State) (m : MethodId) (args : Array Value) (below : List Frame) (meth : Method) (c : Code) (Z : MZ) (r : (Int32 × St)) (f : Int32 → Int32 → St → Option (Int32 × St)) : Prop := ∀ (x1 : Int32) (t0 : Int32) (I : St) (H : Heap) (locs : List Loc) (ls : Array Slot), mIn Z s I H locs → lv_has ls 3 [(0, .ref (mH Z)), (1, .int x1)] → f x1 t0 I = some r → W p l e mo_forget_rm s m args below meth c H locs 0 0 (MQ below (Qwr (some (.int r.1)) (mS Z r.2) (mA Z)) args s 0 0 (mA Z)) (F0 m 27 ls [.int t0])
def mo_forget_P41 (p : Program) (l : Launch) (e : Env) (s : State) (m : MethodId) (args : Array Value) (below : List Frame) (meth : Method) (c : Code) (Z : MZ) (r : (Int32 × St)) (f : Int32 → Int32 → Int32 → St → Option (Int32 × St)) : Prop := ∀ (x1 : Int32) (x2 : Int32) (t0 : Int32) (I : St) (H : Heap) (locs : List Loc) (ls : Array Slot), mIn Z s I H locs → lv_has ls 3 [(0, .ref (mH Z)), (1, .int x1), (2, .int x2)] → f x1 x2 t0 I = some r → W p l e mo_forget_rm s m args below meth c H locs 0 0 (MQ below (Qwr (some (.int r.1)) (mS Z r.2) (mA Z)) args s 0 0 (mA Z)) (F0 m 41 ls [.int t0, .ref (mH Z)])
def mo_forget_P58 (p : Program) (l : Launch) (e : Env) (s : State) (m : MethodId) (args : Array Value) (below : List Frame) (meth : Method) (c : Code) (Z : MZ) (r : (Int32 × St)) (f : Int32 → Int32 → St → Option (Int32 × St)) : Prop := ∀ (x2 : Int32) (t0 : Int32) (I : St) (H : Heap) (locs : List Loc) (ls : Array Slot), mIn Z s I H locs → lv_has ls 3 [(2, .int x2)] → f x2 t0 I = some r → W p l e mo_forget_rm s m args below meth c H locs 0 0 (MQ below (Qwr (some (.int r.1)) (mS Z r.2) (mA Z)) args s 0 0 (mA Z)) (F0 m 58 ls [.int t0, .ref (mH Z)])
def mo_forget_b58 (x2 : Int32) (t0 : Int32) (I : St) : Option (Int32 × St) :=
  lt_ (upd2 I 30 0 t0) fun I1 =>
  some (x2, I1)
theorem mo_forget_w58 {p : Program} {l : Launch} {e : Env} {s : State} {m : MethodId} {args : Array Value} {below : List Frame} {meth : Method} {c : Code} {Z : MZ} (C : MCx p s m args meth c cX6_forget 3 (some .int) Z) {r : (Int32 × St)} : mo_forget_P58 p l e s m args below meth c Z r (mo_forget_b58) := by
  intro x2 t0 I H locs ls hM hl h
  obtain ⟨⟨hx, hb, hr, hlocks, hml, hown, hts⟩, hK⟩ := id C
  unfold mo_forget_b58 at h
  refine pm30 C hM dX6_forget_58 (fun H locs I1 e_I1 hM => ?_)
  have h := lt_i h e_I1
  refine lv_iload_n hx hb dX6_forget_61 rfl (lv_at hl 0 rfl) ?_
  have h := so_ h
  subst h
  exact W.iret hx hb hr (fun t ht hW => ⟨rfl, ⟨by rw [ht]; exact hM.1, va_K.moved hW.alike hK⟩, hM.2.F ht⟩) hM.2.2.2 dX6_forget_62
def mo_forget_b41 (x1 : Int32) (x2 : Int32) (t0 : Int32) (I : St) : Option (Int32 × St) :=
  lt_ (upd2 I 26 0 t0) fun I1 =>
  if x1 = (1 : Int32) then (mo_forget_b58 x2 (0 : Int32) I1)
  else (mo_forget_b58 x2 (I1 30 0) I1)
theorem mo_forget_w41 {p : Program} {l : Launch} {e : Env} {s : State} {m : MethodId} {args : Array Value} {below : List Frame} {meth : Method} {c : Code} {Z : MZ} (C : MCx p s m args meth c cX6_forget 3 (some .int) Z) {r : (Int32 × St)} : mo_forget_P41 p l e s m args below meth c Z r (mo_forget_b41) := by
  intro x1 x2 t0 I H locs ls hM hl h
  obtain ⟨⟨hx, hb, hr, hlocks, hml, hown, hts⟩, hK⟩ := id C
  unfold mo_forget_b41 at h
  refine pm26 C hM dX6_forget_41 (fun H locs I1 e_I1 hM => ?_)
  have h := lt_i h e_I1
  refine lv_aload_n hx hb dX6_forget_44 rfl (lv_at hl 0 rfl) ?_
  refine lv_iload_n hx hb dX6_forget_45 rfl (lv_at hl 1 rfl) ?_
  refine lv_iconst (v := 1) hx hb dX6_forget_46 (by decide) ?_
  refine lv_icmp_ne (tgt := 54) hx hb dX6_forget_47 (by decide) (fun c2 => ?_) (fun c2 => ?_)
  · have h := in_ c2 h
    refine lv_aload_n hx hb dX6_forget_54 rfl (lv_at hl 0 rfl) ?_
    refine gm30 C hM.1 dX6_forget_55 ?_
    exact mo_forget_w58 C x2 (I1 30 0) I1 _ _ ls hM (lv_sub hl [2] rfl) h
  · have h := ip_ c2 h
    refine lv_iconst (v := 0) hx hb dX6_forget_50 (by decide) ?_
    refine lv_goto (tgt := 58) hx hb dX6_forget_51 (by decide) ?_
    exact mo_forget_w58 C x2 (0 : Int32) I1 _ _ ls hM (lv_sub hl [2] rfl) h
def mo_forget_b27 (x1 : Int32) (t0 : Int32) (I : St) : Option (Int32 × St) :=
  if x1 = 0 then (mo_forget_b41 x1 t0 (0 : Int32) I)
  else (mo_forget_b41 x1 t0 (I 26 0) I)
theorem mo_forget_w27 {p : Program} {l : Launch} {e : Env} {s : State} {m : MethodId} {args : Array Value} {below : List Frame} {meth : Method} {c : Code} {Z : MZ} (C : MCx p s m args meth c cX6_forget 3 (some .int) Z) {r : (Int32 × St)} : mo_forget_P27 p l e s m args below meth c Z r (mo_forget_b27) := by
  intro x1 t0 I H locs ls hM hl h
  obtain ⟨⟨hx, hb, hr, hlocks, hml, hown, hts⟩, hK⟩ := id C
  unfold mo_forget_b27 at h
  refine lv_istore_n (lv' := [(2, .int t0), (0, .ref (mH Z)), (1, .int x1)]) hx hb dX6_forget_27 rfl hl (by decide) rfl (fun ls hl => ?_)
  refine lv_aload_n hx hb dX6_forget_28 rfl (lv_at hl 1 rfl) ?_
  refine lv_iload_n hx hb dX6_forget_29 rfl (lv_at hl 2 rfl) ?_
  refine lv_if_ne (tgt := 37) hx hb dX6_forget_30 (by decide) (fun c1 => ?_) (fun c1 => ?_)
  · have h := in_ c1 h
    refine lv_aload_n hx hb dX6_forget_37 rfl (lv_at hl 1 rfl) ?_
    refine gm26 C hM.1 dX6_forget_38 ?_
    exact mo_forget_w41 C x1 t0 (I 26 0) I _ _ ls hM (lv_sub hl [1, 2, 0] rfl) h
  · have h := ip_ c1 h
    refine lv_iconst (v := 0) hx hb dX6_forget_33 (by decide) ?_
    refine lv_goto (tgt := 41) hx hb dX6_forget_34 (by decide) ?_
    exact mo_forget_w41 C x1 t0 (0 : Int32) I _ _ ls hM (lv_sub hl [1, 2, 0] rfl) h
def mo_forget (x1 : Int32) (I : St) : Option (Int32 × St) :=
  bd_ (mo_in x1 (0 : Int32) (1 : Int32)) fun v1 =>
  if v1 = 0 then (some ((-2 : Int32), I))
  else (if x1 = 0 then (mo_forget_b27 x1 (I 26 0) I)
    else (mo_forget_b27 x1 (I 30 0) I))
theorem mo_forget_w0 {p : Program} {l : Launch} {e : Env} {s : State} {m : MethodId} {args : Array Value} {below : List Frame} {meth : Method} {c : Code} {Z : MZ} (C : MCx p s m args meth c cX6_forget 3 (some .int) Z) {r : (Int32 × St)} : mo_forget_P0 p l e s m args below meth c Z r (mo_forget) := by
  intro x1 I H locs ls hM hl h
  obtain ⟨⟨hx, hb, hr, hlocks, hml, hown, hts⟩, hK⟩ := id C
  unfold mo_forget at h
  refine lv_iload_n hx hb dX6_forget_0 rfl (lv_at hl 1 rfl) ?_
  refine lv_iconst (v := 0) hx hb dX6_forget_1 (by decide) ?_
  refine lv_iconst (v := 1) hx hb dX6_forget_2 (by decide) ?_
  obtain ⟨v1, q_v1, h⟩ := bd_e h
  refine s_roI (As := [.int x1, .int (0 : Int32), .int (1 : Int32)]) (rest := []) C.1 (mo_in_met _ x1 (0 : Int32) (1 : Int32) v1 q_v1) (lw_S q1168 q1169 q88 q1170) mo_in_hd ⟨rfl, rfl⟩ ⟨Nat.le_of_ble_eq_true rfl, Nat.le_of_ble_eq_true rfl⟩ ⟨Nat.le_refl _, Nat.le_refl _⟩ rfl hl.1 rfl (Nat.le_of_ble_eq_true rfl) dX6_forget_3 ?_
  refine lv_if_ne (tgt := 12) hx hb dX6_forget_6 (by decide) (fun c2 => ?_) (fun c2 => ?_)
  · have h := in_ c2 h
    refine lv_iload_n hx hb dX6_forget_12 rfl (lv_at hl 1 rfl) ?_
    refine lv_if_ne (tgt := 23) hx hb dX6_forget_13 (by decide) (fun c3 => ?_) (fun c3 => ?_)
    · have h := in_ c3 h
      refine lv_aload_n hx hb dX6_forget_23 rfl (lv_at hl 0 rfl) ?_
      refine gm30 C hM.1 dX6_forget_24 ?_
      exact mo_forget_w27 C x1 (I 30 0) I _ _ ls hM (lv_sub hl [0, 1] rfl) h
    · have h := ip_ c3 h
      refine lv_aload_n hx hb dX6_forget_16 rfl (lv_at hl 0 rfl) ?_
      refine gm26 C hM.1 dX6_forget_17 ?_
      refine lv_goto (tgt := 27) hx hb dX6_forget_20 (by decide) ?_
      exact mo_forget_w27 C x1 (I 26 0) I _ _ ls hM (lv_sub hl [0, 1] rfl) h
  · have h := ip_ c2 h
    refine lv_bipush (v := -2) hx hb dX6_forget_9 (by decide) ?_
    have h := so_ h
    subst h
    exact W.iret hx hb hr (fun t ht hW => ⟨rfl, ⟨by rw [ht]; exact hM.1, va_K.moved hW.alike hK⟩, hM.2.F ht⟩) hM.2.2.2 dX6_forget_11
theorem mo_forget_hd : yX6_forget.cls = RX6 ∧ yX6_forget.cls ≠ "java/lang/invoke/MethodHandle" ∧ yX6_forget.cls ≠ "java/lang/invoke/VarHandle" ∧ (parseMethodDescriptor yX6_forget.desc).map (fun d => d.parameters.length) = some 1 := by decide +kernel
theorem mo_forget_met (l : Launch) (Z : MZ) (I : St) (x1 : Int32) (r : (Int32 × St)) (h : mo_forget x1 I = some r) : Met l yX6_forget (ws_ yX6_forget cX6_forget 3 (some .int)) mo_forget_rm (va_Pc [.ref (mH Z), .int x1] (mS Z I)) (Qwr (some (.int r.1)) (mS Z r.2) (mA Z)) 0 0 (mA Z) := by
  refine Met.ofW (cc := cX6_forget) (maxL := 3) (ret := some .int) (by decide) rfl ?_
  intro p e s m args below meth c s₁ B hml hv
  obtain ⟨rfl, hv⟩ := hv
  have hts := atoms_spec (ws := ws_ yX6_forget cX6_forget 3 (some .int)) B.pre
  have hts : ∀ w ∈ lw_all, w.before _ s = true := fun w h => hts w (List.mem_cons_of_mem _ h)
  have C : SCx p s m _ meth c cX6_forget 3 (some .int) RX6 := ⟨B.exec, B.bytes, B.returns, B.notSynchronized, hml, findClass_of_methodNamed B.named, hts⟩
  have hl := lv_entry [.ref (mH Z), .int x1] (n := 3) (Nat.le_of_ble_eq_true rfl)
  rw [lg_entry_eq]
  generalize (lg_sl [.ref (mH Z), .int x1] ++ List.replicate (3 - (lg_sl [.ref (mH Z), .int x1]).length) Slot.unset).toArray = ls at hl ⊢
  have C : MCx p s m _ meth c _ _ _ Z := ⟨C, hv.2⟩
  have hM : mIn Z s I s.heap [] := ⟨hv.1, va_S.rf⟩
  exact mo_forget_w0 C x1 I _ _ ls hM hl h

/-! SecondChancesModel.sparedOf(I)I -/
def mo_sparedOf_rm : Room := { frames := 2, cells := 0, slots := 0, locals := 44 }
def mo_sparedOf_P0 (p : Program) (l : Launch) (e : Env) (s : State) (m : MethodId) (args : Array Value) (below : List Frame) (meth : Method) (c : Code) (Z : MZ) (r : Int32) (f : Int32 → Option Int32) : Prop := ∀ (x1 : Int32) (ls : Array Slot), lv_has ls 5 [(0, .ref (mH Z)), (1, .int x1)] → f x1 = some r → W p l e mo_sparedOf_rm s m args below meth c s.heap [] 0 0 (MQ below (Qro (some (.int r))) args s 0 0 (fun _ => False)) (F0 m 0 ls [])
def mo_sparedOf_P4 (p : Program) (l : Launch) (e : Env) (s : State) (m : MethodId) (args : Array Value) (below : List Frame) (meth : Method) (c : Code) (Z : MZ) (r : Int32) (f : Int32 → Int32 → Int32 → Option Int32) : Prop := ∀ (x1 : Int32) (x2 : Int32) (x3 : Int32) (ls : Array Slot), lv_has ls 5 [(0, .ref (mH Z)), (1, .int x1), (2, .int x2), (3, .int x3)] → f x1 x2 x3 = some r → W p l e mo_sparedOf_rm s m args below meth c s.heap [] 0 0 (MQ below (Qro (some (.int r))) args s 0 0 (fun _ => False)) (F0 m 4 ls [])
def mo_sparedOf_P13 (p : Program) (l : Launch) (e : Env) (s : State) (m : MethodId) (args : Array Value) (below : List Frame) (meth : Method) (c : Code) (Z : MZ) (r : Int32) (f : Int32 → Int32 → Int32 → Int32 → Option Int32) : Prop := ∀ (x1 : Int32) (x2 : Int32) (x3 : Int32) (x4 : Int32) (ls : Array Slot), lv_has ls 5 [(0, .ref (mH Z)), (1, .int x1), (2, .int x2), (3, .int x3), (4, .int x4)] → f x1 x2 x3 x4 = some r → W p l e mo_sparedOf_rm s m args below meth c s.heap [] 0 0 (MQ below (Qro (some (.int r))) args s 0 0 (fun _ => False)) (F0 m 13 ls [])
def mo_sparedOf_P78 (p : Program) (l : Launch) (e : Env) (s : State) (m : MethodId) (args : Array Value) (below : List Frame) (meth : Method) (c : Code) (Z : MZ) (r : Int32) (f : Int32 → Int32 → Int32 → Int32 → Int32 → Option Int32) : Prop := ∀ (x1 : Int32) (x3 : Int32) (x4 : Int32) (t0 : Int32) (t1 : Int32) (ls : Array Slot), lv_has ls 5 [(0, .ref (mH Z)), (1, .int x1), (3, .int x3), (4, .int x4)] → f x1 x3 x4 t0 t1 = some r → W p l e mo_sparedOf_rm s m args below meth c s.heap [] 0 0 (MQ below (Qro (some (.int r))) args s 0 0 (fun _ => False)) (F0 m 78 ls [.int t0, .int t1])
def mo_sparedOf_b78 (I : St) (k4 : Int32 → Int32 → Int32 → Option Int32) (k13 : Int32 → Int32 → Int32 → Int32 → Option Int32) (x1 : Int32) (x3 : Int32) (x4 : Int32) (t0 : Int32) (t1 : Int32) : Option Int32 :=
  lt_ (t1 ||| t0) fun v1 =>
  k13 x1 v1 x3 (x4 + 1)
theorem mo_sparedOf_w78 {p : Program} {l : Launch} {e : Env} {s : State} {m : MethodId} {args : Array Value} {below : List Frame} {meth : Method} {c : Code} {Z : MZ} {I : St} (C : MCx p s m args meth c cX6_sparedOf 5 (some .int) Z) (hM : mPD Z I s.heap) {r : Int32} {k4 : Int32 → Int32 → Int32 → Option Int32} (hk4 : mo_sparedOf_P4 p l e s m args below meth c Z r k4) {k13 : Int32 → Int32 → Int32 → Int32 → Option Int32} (hk13 : mo_sparedOf_P13 p l e s m args below meth c Z r k13) : mo_sparedOf_P78 p l e s m args below meth c Z r (mo_sparedOf_b78 I k4 k13) := by
  intro x1 x3 x4 t0 t1 ls hl h
  obtain ⟨⟨hx, hb, hr, hlocks, hml, hown, hts⟩, hK⟩ := id C
  unfold mo_sparedOf_b78 at h
  refine lv_ior hx hb dX6_sparedOf_78 ?_
  refine lv_topi (fun v1 e_v1 => ?_)
  have h := lt_i h e_v1
  refine lv_istore_n (lv' := [(2, .int v1), (0, .ref (mH Z)), (1, .int x1), (3, .int x3), (4, .int x4)]) hx hb dX6_sparedOf_79 rfl hl (by decide) rfl (fun ls hl => ?_)
  refine lv_iinc (v := (x4 + 1)) (lv' := [(4, .int (x4 + 1)), (2, .int v1), (0, .ref (mH Z)), (1, .int x1), (3, .int x3)]) hx hb dX6_sparedOf_80 hl (k := 4) rfl rfl (by decide) rfl (fun ls hl => ?_)
  refine lv_goto (tgt := 13) hx hb dX6_sparedOf_83 (by decide) ?_
  exact hk13 x1 v1 x3 (x4 + 1) ls (lv_sub hl [2, 3, 1, 4, 0] rfl) h
def mo_sparedOf_b13 (I : St) (k4 : Int32 → Int32 → Int32 → Option Int32) (k13 : Int32 → Int32 → Int32 → Int32 → Option Int32) (x1 : Int32) (x2 : Int32) (x3 : Int32) (x4 : Int32) : Option Int32 :=
  if (I 30 0) ≤ x4 then (k4 x1 x2 (x3 + 1))
  else (al_ 10 (I 31) x4 fun v2 =>
    if (I 2 0) ≤ v2 then (mo_sparedOf_b78 I k4 k13 x1 x3 x4 (0 : Int32) x2)
    else (al_ 10 (I 32) x4 fun v4 =>
      if (I 2 0) ≤ v4 then (mo_sparedOf_b78 I k4 k13 x1 x3 x4 (0 : Int32) x2)
      else (al_ 10 (I 31) x4 fun v6 =>
        bd_ (mo_isIn x2 v6) fun v7 =>
        if v7 = 0 then (mo_sparedOf_b78 I k4 k13 x1 x3 x4 (0 : Int32) x2)
        else (al_ 10 (I 32) x4 fun v9 =>
          mo_sparedOf_b78 I k4 k13 x1 x3 x4 ((1 : Int32) <<< (v9 &&& 31)) x2))))
theorem mo_sparedOf_w13 {p : Program} {l : Launch} {e : Env} {s : State} {m : MethodId} {args : Array Value} {below : List Frame} {meth : Method} {c : Code} {Z : MZ} {I : St} (C : MCx p s m args meth c cX6_sparedOf 5 (some .int) Z) (hM : mPD Z I s.heap) {r : Int32} {k4 : Int32 → Int32 → Int32 → Option Int32} (hk4 : mo_sparedOf_P4 p l e s m args below meth c Z r k4) {k13 : Int32 → Int32 → Int32 → Int32 → Option Int32} (hk13 : mo_sparedOf_P13 p l e s m args below meth c Z r k13) : mo_sparedOf_P13 p l e s m args below meth c Z r (mo_sparedOf_b13 I k4 k13) := by
  intro x1 x2 x3 x4 ls hl h
  obtain ⟨⟨hx, hb, hr, hlocks, hml, hown, hts⟩, hK⟩ := id C
  unfold mo_sparedOf_b13 at h
  refine lv_iload hx hb dX6_sparedOf_13 (lv_at hl 4 rfl) ?_
  refine lv_aload_n hx hb dX6_sparedOf_15 rfl (lv_at hl 0 rfl) ?_
  refine gm30 C hM dX6_sparedOf_16 ?_
  refine lv_icmp_ge (tgt := 86) hx hb dX6_sparedOf_19 (by decide) (fun c1 => ?_) (fun c1 => ?_)
  · have h := ip_ c1 h
    refine lv_iinc (v := (x3 + 1)) (lv' := [(3, .int (x3 + 1)), (0, .ref (mH Z)), (1, .int x1), (2, .int x2), (4, .int x4)]) hx hb dX6_sparedOf_86 hl (k := 3) rfl rfl (by decide) rfl (fun ls hl => ?_)
    refine lv_goto (tgt := 4) hx hb dX6_sparedOf_89 (by decide) ?_
    exact hk4 x1 x2 (x3 + 1) ls (lv_sub hl [1, 2, 3, 0] rfl) h
  · have h := in_ c1 h
    refine lv_iload_n hx hb dX6_sparedOf_22 rfl (lv_at hl 2 rfl) ?_
    refine lv_aload_n hx hb dX6_sparedOf_23 rfl (lv_at hl 0 rfl) ?_
    refine gm31 C hM dX6_sparedOf_24 ?_
    refine lv_iload hx hb dX6_sparedOf_27 (lv_at hl 4 rfl) ?_
    obtain ⟨i_v2, h⟩ := al_e h
    refine m_ald C hM (pos := 23) (k := 31) rfl rfl i_v2 dX6_sparedOf_29 (fun v2 e_v2 => ?_)
    have h := h v2 e_v2
    refine lv_aload_n hx hb dX6_sparedOf_30 rfl (lv_at hl 0 rfl) ?_
    refine gm2 C hM dX6_sparedOf_31 ?_
    refine lv_icmp_ge (tgt := 77) hx hb dX6_sparedOf_34 (by decide) (fun c3 => ?_) (fun c3 => ?_)
    · have h := ip_ c3 h
      refine lv_iconst (v := 0) hx hb dX6_sparedOf_77 (by decide) ?_
      exact mo_sparedOf_w78 C hM hk4 hk13 x1 x3 x4 (0 : Int32) x2 ls (lv_sub hl [0, 1, 3, 4] rfl) h
    · have h := in_ c3 h
      refine lv_aload_n hx hb dX6_sparedOf_37 rfl (lv_at hl 0 rfl) ?_
      refine gm32 C hM dX6_sparedOf_38 ?_
      refine lv_iload hx hb dX6_sparedOf_41 (lv_at hl 4 rfl) ?_
      obtain ⟨i_v4, h⟩ := al_e h
      refine m_ald C hM (pos := 24) (k := 32) rfl rfl i_v4 dX6_sparedOf_43 (fun v4 e_v4 => ?_)
      have h := h v4 e_v4
      refine lv_aload_n hx hb dX6_sparedOf_44 rfl (lv_at hl 0 rfl) ?_
      refine gm2 C hM dX6_sparedOf_45 ?_
      refine lv_icmp_ge (tgt := 77) hx hb dX6_sparedOf_48 (by decide) (fun c5 => ?_) (fun c5 => ?_)
      · have h := ip_ c5 h
        refine lv_iconst (v := 0) hx hb dX6_sparedOf_77 (by decide) ?_
        exact mo_sparedOf_w78 C hM hk4 hk13 x1 x3 x4 (0 : Int32) x2 ls (lv_sub hl [0, 1, 3, 4] rfl) h
      · have h := in_ c5 h
        refine lv_iload_n hx hb dX6_sparedOf_51 rfl (lv_at hl 2 rfl) ?_
        refine lv_aload_n hx hb dX6_sparedOf_52 rfl (lv_at hl 0 rfl) ?_
        refine gm31 C hM dX6_sparedOf_53 ?_
        refine lv_iload hx hb dX6_sparedOf_56 (lv_at hl 4 rfl) ?_
        obtain ⟨i_v6, h⟩ := al_e h
        refine m_ald C hM (pos := 23) (k := 31) rfl rfl i_v6 dX6_sparedOf_58 (fun v6 e_v6 => ?_)
        have h := h v6 e_v6
        obtain ⟨v7, q_v7, h⟩ := bd_e h
        refine s_roI (As := [.int x2, .int v6]) (rest := [.int x2]) C.1 (mo_isIn_met _ x2 v6 v7 q_v7) (lw_S q1194 q1195 q88 q1196) mo_isIn_hd ⟨rfl, rfl⟩ ⟨Nat.le_of_ble_eq_true rfl, Nat.le_of_ble_eq_true rfl⟩ ⟨Nat.le_refl _, Nat.le_refl _⟩ rfl hl.1 rfl (Nat.le_of_ble_eq_true rfl) dX6_sparedOf_59 ?_
        refine lv_if_eq (tgt := 77) hx hb dX6_sparedOf_62 (by decide) (fun c8 => ?_) (fun c8 => ?_)
        · have h := ip_ c8 h
          refine lv_iconst (v := 0) hx hb dX6_sparedOf_77 (by decide) ?_
          exact mo_sparedOf_w78 C hM hk4 hk13 x1 x3 x4 (0 : Int32) x2 ls (lv_sub hl [0, 1, 3, 4] rfl) h
        · have h := in_ c8 h
          refine lv_iconst (v := 1) hx hb dX6_sparedOf_65 (by decide) ?_
          refine lv_aload_n hx hb dX6_sparedOf_66 rfl (lv_at hl 0 rfl) ?_
          refine gm32 C hM dX6_sparedOf_67 ?_
          refine lv_iload hx hb dX6_sparedOf_70 (lv_at hl 4 rfl) ?_
          obtain ⟨i_v9, h⟩ := al_e h
          refine m_ald C hM (pos := 24) (k := 32) rfl rfl i_v9 dX6_sparedOf_72 (fun v9 e_v9 => ?_)
          have h := h v9 e_v9
          refine lv_ishl hx hb dX6_sparedOf_73 ?_
          refine lv_goto (tgt := 78) hx hb dX6_sparedOf_74 (by decide) ?_
          exact mo_sparedOf_w78 C hM hk4 hk13 x1 x3 x4 ((1 : Int32) <<< (v9 &&& 31)) x2 ls (lv_sub hl [0, 1, 3, 4] rfl) h
def mo_sparedOf_l13 (I : St) (k4 : Int32 → Int32 → Int32 → Option Int32) (n : Nat) : Int32 → Int32 → Int32 → Int32 → Option Int32 := lp (fun _ _ _ _ => none) (mo_sparedOf_b13 I k4) n
theorem mo_sparedOf_lw13 {p : Program} {l : Launch} {e : Env} {s : State} {m : MethodId} {args : Array Value} {below : List Frame} {meth : Method} {c : Code} {Z : MZ} {I : St} (C : MCx p s m args meth c cX6_sparedOf 5 (some .int) Z) (hM : mPD Z I s.heap) {r : Int32} {k4 : Int32 → Int32 → Int32 → Option Int32} (hk4 : mo_sparedOf_P4 p l e s m args below meth c Z r k4) : ∀ n : Nat, mo_sparedOf_P13 p l e s m args below meth c Z r (mo_sparedOf_l13 I k4 n) := by
  intro n
  induction n with
  | zero => intro x1 x2 x3 x4 ls hl h; exact no_ h
  | succ n ih => exact mo_sparedOf_w13 C hM hk4 ih
def mo_sparedOf_b4 (I : St) (k4 : Int32 → Int32 → Int32 → Option Int32) (x1 : Int32) (x2 : Int32) (x3 : Int32) : Option Int32 :=
  if (8 : Int32) ≤ x3 then (bd_ (mo_worthBy I (x2 &&& (x1 ^^^ (-1 : Int32)))) fun v2 =>
    some v2)
  else (mo_sparedOf_l13 I k4 FU x1 x2 x3 (0 : Int32))
theorem mo_sparedOf_w4 {p : Program} {l : Launch} {e : Env} {s : State} {m : MethodId} {args : Array Value} {below : List Frame} {meth : Method} {c : Code} {Z : MZ} {I : St} (C : MCx p s m args meth c cX6_sparedOf 5 (some .int) Z) (hM : mPD Z I s.heap) {r : Int32} {k4 : Int32 → Int32 → Int32 → Option Int32} (hk4 : mo_sparedOf_P4 p l e s m args below meth c Z r k4) : mo_sparedOf_P4 p l e s m args below meth c Z r (mo_sparedOf_b4 I k4) := by
  intro x1 x2 x3 ls hl h
  obtain ⟨⟨hx, hb, hr, hlocks, hml, hown, hts⟩, hK⟩ := id C
  unfold mo_sparedOf_b4 at h
  refine lv_iload_n hx hb dX6_sparedOf_4 rfl (lv_at hl 3 rfl) ?_
  refine lv_bipush (v := 8) hx hb dX6_sparedOf_5 (by decide) ?_
  refine lv_icmp_ge (tgt := 92) hx hb dX6_sparedOf_7 (by decide) (fun c1 => ?_) (fun c1 => ?_)
  · have h := ip_ c1 h
    refine lv_aload_n hx hb dX6_sparedOf_92 rfl (lv_at hl 0 rfl) ?_
    refine lv_iload_n hx hb dX6_sparedOf_93 rfl (lv_at hl 2 rfl) ?_
    refine lv_iload_n hx hb dX6_sparedOf_94 rfl (lv_at hl 1 rfl) ?_
    refine lv_iconst (v := -1) hx hb dX6_sparedOf_95 (by decide) ?_
    refine lv_ixor hx hb dX6_sparedOf_96 ?_
    refine lv_iand hx hb dX6_sparedOf_97 ?_
    obtain ⟨v2, q_v2, h⟩ := bd_e h
    refine m_roI (As := [.int (x2 &&& (x1 ^^^ (-1 : Int32)))]) (rest := []) C hM (mo_worthBy_met _ Z I (x2 &&& (x1 ^^^ (-1 : Int32))) v2 q_v2) (lw_V q1322 q1324 qs61 q88 q1325) mo_worthBy_hd ⟨rfl, rfl⟩ ⟨Nat.le_of_ble_eq_true rfl, Nat.le_of_ble_eq_true rfl⟩ ⟨Nat.le_refl _, Nat.le_refl _⟩ rfl hl.1 rfl (Nat.le_of_ble_eq_true rfl) dX6_sparedOf_98 ?_
    have h := so_ h
    subst h
    exact W.iret hx hb hr (fun t ht hW => ⟨rfl, ht⟩) (fun q hq => by cases hq) dX6_sparedOf_101
  · have h := in_ c1 h
    refine lv_iconst (v := 0) hx hb dX6_sparedOf_10 (by decide) ?_
    refine lv_istore (lv' := [(4, .int (0 : Int32)), (0, .ref (mH Z)), (1, .int x1), (2, .int x2), (3, .int x3)]) hx hb dX6_sparedOf_11 hl (by decide) rfl (fun ls hl => ?_)
    exact mo_sparedOf_lw13 C hM hk4 FU x1 x2 x3 (0 : Int32) ls (lv_sub hl [1, 2, 3, 4, 0] rfl) h
def mo_sparedOf_l4 (I : St) (n : Nat) : Int32 → Int32 → Int32 → Option Int32 := lp (fun _ _ _ => none) (mo_sparedOf_b4 I) n
theorem mo_sparedOf_lw4 {p : Program} {l : Launch} {e : Env} {s : State} {m : MethodId} {args : Array Value} {below : List Frame} {meth : Method} {c : Code} {Z : MZ} {I : St} (C : MCx p s m args meth c cX6_sparedOf 5 (some .int) Z) (hM : mPD Z I s.heap) {r : Int32} : ∀ n : Nat, mo_sparedOf_P4 p l e s m args below meth c Z r (mo_sparedOf_l4 I n) := by
  intro n
  induction n with
  | zero => intro x1 x2 x3 ls hl h; exact no_ h
  | succ n ih => exact mo_sparedOf_w4 C hM ih
def mo_sparedOf (I : St) (x1 : Int32) : Option Int32 :=
  mo_sparedOf_l4 I FU x1 x1 (0 : Int32)
theorem mo_sparedOf_w0 {p : Program} {l : Launch} {e : Env} {s : State} {m : MethodId} {args : Array Value} {below : List Frame} {meth : Method} {c : Code} {Z : MZ} {I : St} (C : MCx p s m args meth c cX6_sparedOf 5 (some .int) Z) (hM : mPD Z I s.heap) {r : Int32} : mo_sparedOf_P0 p l e s m args below meth c Z r (mo_sparedOf I) := by
  intro x1 ls hl h
  obtain ⟨⟨hx, hb, hr, hlocks, hml, hown, hts⟩, hK⟩ := id C
  unfold mo_sparedOf at h
  refine lv_iload_n hx hb dX6_sparedOf_0 rfl (lv_at hl 1 rfl) ?_
  refine lv_istore_n (lv' := [(2, .int x1), (0, .ref (mH Z)), (1, .int x1)]) hx hb dX6_sparedOf_1 rfl hl (by decide) rfl (fun ls hl => ?_)
  refine lv_iconst (v := 0) hx hb dX6_sparedOf_2 (by decide) ?_
  refine lv_istore_n (lv' := [(3, .int (0 : Int32)), (2, .int x1), (0, .ref (mH Z)), (1, .int x1)]) hx hb dX6_sparedOf_3 rfl hl (by decide) rfl (fun ls hl => ?_)
  exact mo_sparedOf_lw4 C hM FU x1 x1 (0 : Int32) ls (lv_sub hl [2, 3, 1, 0] rfl) h
theorem mo_sparedOf_hd : yX6_sparedOf.cls = RX6 ∧ yX6_sparedOf.cls ≠ "java/lang/invoke/MethodHandle" ∧ yX6_sparedOf.cls ≠ "java/lang/invoke/VarHandle" ∧ (parseMethodDescriptor yX6_sparedOf.desc).map (fun d => d.parameters.length) = some 1 := by decide +kernel
theorem mo_sparedOf_met (l : Launch) (Z : MZ) (I : St) (x1 : Int32) (r : Int32) (h : mo_sparedOf I x1 = some r) : Met l yX6_sparedOf (ws_ yX6_sparedOf cX6_sparedOf 5 (some .int)) mo_sparedOf_rm (va_Pc [.ref (mH Z), .int x1] (mS Z I)) (Qro (some (.int r))) 0 0 (fun _ => False) := by
  refine Met.ofW (cc := cX6_sparedOf) (maxL := 5) (ret := some .int) (by decide) rfl ?_
  intro p e s m args below meth c s₁ B hml hv
  obtain ⟨rfl, hv⟩ := hv
  have hts := atoms_spec (ws := ws_ yX6_sparedOf cX6_sparedOf 5 (some .int)) B.pre
  have hts : ∀ w ∈ lw_all, w.before _ s = true := fun w h => hts w (List.mem_cons_of_mem _ h)
  have C : SCx p s m _ meth c cX6_sparedOf 5 (some .int) RX6 := ⟨B.exec, B.bytes, B.returns, B.notSynchronized, hml, findClass_of_methodNamed B.named, hts⟩
  have hl := lv_entry [.ref (mH Z), .int x1] (n := 5) (Nat.le_of_ble_eq_true rfl)
  rw [lg_entry_eq]
  generalize (lg_sl [.ref (mH Z), .int x1] ++ List.replicate (5 - (lg_sl [.ref (mH Z), .int x1]).length) Slot.unset).toArray = ls at hl ⊢
  have C : MCx p s m _ meth c _ _ _ Z := ⟨C, hv.2⟩
  have hM := hv.1
  exact mo_sparedOf_w0 C hM x1 ls hl h

/-! SecondChancesModel.allDeeds()I -/
def mo_allDeeds_rm : Room := { frames := 4, cells := 0, slots := 0, locals := 89 }
def mo_allDeeds_P0 (p : Program) (l : Launch) (e : Env) (s : State) (m : MethodId) (args : Array Value) (below : List Frame) (meth : Method) (c : Code) (Z : MZ) (r : (Int32 × St)) (f : St → Option (Int32 × St)) : Prop := ∀ (I : St) (H : Heap) (locs : List Loc) (ls : Array Slot), mIn Z s I H locs → lv_has ls 1 [(0, .ref (mH Z))] → f  I = some r → W p l e mo_allDeeds_rm s m args below meth c H locs 0 0 (MQ below (Qwr (some (.int r.1)) (mS Z r.2) (mA Z)) args s 0 0 (mA Z)) (F0 m 0 ls [])
def mo_allDeeds (I : St) : Option (Int32 × St) :=
  bd_ (mo_reads  I) fun I1 =>
  some ((((1 : Int32) <<< ((I1 2 0) &&& 31)) - (1 : Int32)), I1)
theorem mo_allDeeds_w0 {p : Program} {l : Launch} {e : Env} {s : State} {m : MethodId} {args : Array Value} {below : List Frame} {meth : Method} {c : Code} {Z : MZ} (C : MCx p s m args meth c cX6_allDeeds 1 (some .int) Z) {r : (Int32 × St)} : mo_allDeeds_P0 p l e s m args below meth c Z r (mo_allDeeds) := by
  intro I H locs ls hM hl h
  obtain ⟨⟨hx, hb, hr, hlocks, hml, hown, hts⟩, hK⟩ := id C
  unfold mo_allDeeds at h
  refine lv_aload_n hx hb dX6_allDeeds_0 rfl (lv_at hl 0 rfl) ?_
  obtain ⟨I1, q_I1, h⟩ := bd_e h
  refine m_wrV (As := []) (rest := []) C hM (mo_reads_met _ Z I  I1 q_I1) (lw_V q1213 q1215 qs47 q88 q1216) mo_reads_hd ⟨rfl, rfl⟩ ⟨Nat.le_of_ble_eq_true rfl, Nat.le_of_ble_eq_true rfl⟩ ⟨Nat.le_refl _, Nat.le_refl _⟩ rfl hl.1 rfl (Nat.le_of_ble_eq_true rfl) dX6_allDeeds_1 (fun H locs hM => ?_)
  refine lv_iconst (v := 1) hx hb dX6_allDeeds_4 (by decide) ?_
  refine lv_aload_n hx hb dX6_allDeeds_5 rfl (lv_at hl 0 rfl) ?_
  refine gm2 C hM.1 dX6_allDeeds_6 ?_
  refine lv_ishl hx hb dX6_allDeeds_9 ?_
  refine lv_iconst (v := 1) hx hb dX6_allDeeds_10 (by decide) ?_
  refine lv_isub hx hb dX6_allDeeds_11 ?_
  have h := so_ h
  subst h
  exact W.iret hx hb hr (fun t ht hW => ⟨rfl, ⟨by rw [ht]; exact hM.1, va_K.moved hW.alike hK⟩, hM.2.F ht⟩) hM.2.2.2 dX6_allDeeds_12
theorem mo_allDeeds_hd : yX6_allDeeds.cls = RX6 ∧ yX6_allDeeds.cls ≠ "java/lang/invoke/MethodHandle" ∧ yX6_allDeeds.cls ≠ "java/lang/invoke/VarHandle" ∧ (parseMethodDescriptor yX6_allDeeds.desc).map (fun d => d.parameters.length) = some 0 := by decide +kernel
theorem mo_allDeeds_met (l : Launch) (Z : MZ) (I : St) (r : (Int32 × St)) (h : mo_allDeeds I = some r) : Met l yX6_allDeeds (ws_ yX6_allDeeds cX6_allDeeds 1 (some .int)) mo_allDeeds_rm (va_Pc [.ref (mH Z)] (mS Z I)) (Qwr (some (.int r.1)) (mS Z r.2) (mA Z)) 0 0 (mA Z) := by
  refine Met.ofW (cc := cX6_allDeeds) (maxL := 1) (ret := some .int) (by decide) rfl ?_
  intro p e s m args below meth c s₁ B hml hv
  obtain ⟨rfl, hv⟩ := hv
  have hts := atoms_spec (ws := ws_ yX6_allDeeds cX6_allDeeds 1 (some .int)) B.pre
  have hts : ∀ w ∈ lw_all, w.before _ s = true := fun w h => hts w (List.mem_cons_of_mem _ h)
  have C : SCx p s m _ meth c cX6_allDeeds 1 (some .int) RX6 := ⟨B.exec, B.bytes, B.returns, B.notSynchronized, hml, findClass_of_methodNamed B.named, hts⟩
  have hl := lv_entry [.ref (mH Z)] (n := 1) (Nat.le_of_ble_eq_true rfl)
  rw [lg_entry_eq]
  generalize (lg_sl [.ref (mH Z)] ++ List.replicate (1 - (lg_sl [.ref (mH Z)]).length) Slot.unset).toArray = ls at hl ⊢
  have C : MCx p s m _ meth c _ _ _ Z := ⟨C, hv.2⟩
  have hM : mIn Z s I s.heap [] := ⟨hv.1, va_S.rf⟩
  exact mo_allDeeds_w0 C  I _ _ ls hM hl h

/-! SecondChancesModel.spared(I)I -/
def mo_spared_rm : Room := { frames := 5, cells := 0, slots := 0, locals := 109 }
def mo_spared_P0 (p : Program) (l : Launch) (e : Env) (s : State) (m : MethodId) (args : Array Value) (below : List Frame) (meth : Method) (c : Code) (Z : MZ) (r : (Int32 × St)) (f : Int32 → St → Option (Int32 × St)) : Prop := ∀ (x1 : Int32) (I : St) (H : Heap) (locs : List Loc) (ls : Array Slot), mIn Z s I H locs → lv_has ls 2 [(0, .ref (mH Z)), (1, .int x1)] → f x1 I = some r → W p l e mo_spared_rm s m args below meth c H locs 0 0 (MQ below (Qwr (some (.int r.1)) (mS Z r.2) (mA Z)) args s 0 0 (mA Z)) (F0 m 0 ls [])
def mo_spared (x1 : Int32) (I : St) : Option (Int32 × St) :=
  bd2_ (mo_allDeeds  I) fun v2 I1 =>
  bd_ (mo_in x1 (0 : Int32) v2) fun v3 =>
  if v3 = 0 then (some ((-2 : Int32), I1))
  else (bd_ (mo_sparedOf I1 x1) fun v5 =>
    some (v5, I1))
theorem mo_spared_w0 {p : Program} {l : Launch} {e : Env} {s : State} {m : MethodId} {args : Array Value} {below : List Frame} {meth : Method} {c : Code} {Z : MZ} (C : MCx p s m args meth c cX6_spared 2 (some .int) Z) {r : (Int32 × St)} : mo_spared_P0 p l e s m args below meth c Z r (mo_spared) := by
  intro x1 I H locs ls hM hl h
  obtain ⟨⟨hx, hb, hr, hlocks, hml, hown, hts⟩, hK⟩ := id C
  unfold mo_spared at h
  refine lv_iload_n hx hb dX6_spared_0 rfl (lv_at hl 1 rfl) ?_
  refine lv_iconst (v := 0) hx hb dX6_spared_1 (by decide) ?_
  refine lv_aload_n hx hb dX6_spared_2 rfl (lv_at hl 0 rfl) ?_
  obtain ⟨v2, I1, q_I1, h⟩ := bd2_e h
  refine m_wrI (As := []) (rest := [.int (0 : Int32), .int x1]) C hM (mo_allDeeds_met _ Z I  (v2, I1) q_I1) (lw_V q1418 q1420 qs71 q88 q1421) mo_allDeeds_hd ⟨rfl, rfl⟩ ⟨Nat.le_of_ble_eq_true rfl, Nat.le_of_ble_eq_true rfl⟩ ⟨Nat.le_refl _, Nat.le_refl _⟩ rfl hl.1 rfl (Nat.le_of_ble_eq_true rfl) dX6_spared_3 (fun H locs hM => ?_)
  obtain ⟨v3, q_v3, h⟩ := bd_e h
  refine s_roI (As := [.int x1, .int (0 : Int32), .int v2]) (rest := []) C.1 (mo_in_met _ x1 (0 : Int32) v2 v3 q_v3) (lw_S q1168 q1169 q88 q1170) mo_in_hd ⟨rfl, rfl⟩ ⟨Nat.le_of_ble_eq_true rfl, Nat.le_of_ble_eq_true rfl⟩ ⟨Nat.le_refl _, Nat.le_refl _⟩ rfl hl.1 rfl (Nat.le_of_ble_eq_true rfl) dX6_spared_6 ?_
  refine lv_if_eq (tgt := 20) hx hb dX6_spared_9 (by decide) (fun c4 => ?_) (fun c4 => ?_)
  · have h := ip_ c4 h
    refine lv_bipush (v := -2) hx hb dX6_spared_20 (by decide) ?_
    have h := so_ h
    subst h
    exact W.iret hx hb hr (fun t ht hW => ⟨rfl, ⟨by rw [ht]; exact hM.1, va_K.moved hW.alike hK⟩, hM.2.F ht⟩) hM.2.2.2 dX6_spared_22
  · have h := in_ c4 h
    refine lv_aload_n hx hb dX6_spared_12 rfl (lv_at hl 0 rfl) ?_
    refine lv_iload_n hx hb dX6_spared_13 rfl (lv_at hl 1 rfl) ?_
    obtain ⟨v5, q_v5, h⟩ := bd_e h
    refine m_roI (As := [.int x1]) (rest := []) C hM.1 (mo_sparedOf_met _ Z I1 x1 v5 q_v5) (lw_V q1422 q1424 qs72 q88 q1425) mo_sparedOf_hd ⟨rfl, rfl⟩ ⟨Nat.le_of_ble_eq_true rfl, Nat.le_of_ble_eq_true rfl⟩ ⟨Nat.le_refl _, Nat.le_refl _⟩ rfl hl.1 rfl (Nat.le_of_ble_eq_true rfl) dX6_spared_14 ?_
    refine lv_goto (tgt := 22) hx hb dX6_spared_17 (by decide) ?_
    have h := so_ h
    subst h
    exact W.iret hx hb hr (fun t ht hW => ⟨rfl, ⟨by rw [ht]; exact hM.1, va_K.moved hW.alike hK⟩, hM.2.F ht⟩) hM.2.2.2 dX6_spared_22
theorem mo_spared_hd : yX6_spared.cls = RX6 ∧ yX6_spared.cls ≠ "java/lang/invoke/MethodHandle" ∧ yX6_spared.cls ≠ "java/lang/invoke/VarHandle" ∧ (parseMethodDescriptor yX6_spared.desc).map (fun d => d.parameters.length) = some 1 := by decide +kernel
theorem mo_spared_met (l : Launch) (Z : MZ) (I : St) (x1 : Int32) (r : (Int32 × St)) (h : mo_spared x1 I = some r) : Met l yX6_spared (ws_ yX6_spared cX6_spared 2 (some .int)) mo_spared_rm (va_Pc [.ref (mH Z), .int x1] (mS Z I)) (Qwr (some (.int r.1)) (mS Z r.2) (mA Z)) 0 0 (mA Z) := by
  refine Met.ofW (cc := cX6_spared) (maxL := 2) (ret := some .int) (by decide) rfl ?_
  intro p e s m args below meth c s₁ B hml hv
  obtain ⟨rfl, hv⟩ := hv
  have hts := atoms_spec (ws := ws_ yX6_spared cX6_spared 2 (some .int)) B.pre
  have hts : ∀ w ∈ lw_all, w.before _ s = true := fun w h => hts w (List.mem_cons_of_mem _ h)
  have C : SCx p s m _ meth c cX6_spared 2 (some .int) RX6 := ⟨B.exec, B.bytes, B.returns, B.notSynchronized, hml, findClass_of_methodNamed B.named, hts⟩
  have hl := lv_entry [.ref (mH Z), .int x1] (n := 2) (Nat.le_of_ble_eq_true rfl)
  rw [lg_entry_eq]
  generalize (lg_sl [.ref (mH Z), .int x1] ++ List.replicate (2 - (lg_sl [.ref (mH Z), .int x1]).length) Slot.unset).toArray = ls at hl ⊢
  have C : MCx p s m _ meth c _ _ _ Z := ⟨C, hv.2⟩
  have hM : mIn Z s I s.heap [] := ⟨hv.1, va_S.rf⟩
  exact mo_spared_w0 C x1 I _ _ ls hM hl h

/-! SecondChancesModel.bestNow()I -/
def mo_bestNow_rm : Room := { frames := 4, cells := 0, slots := 0, locals := 89 }
def mo_bestNow_P0 (p : Program) (l : Launch) (e : Env) (s : State) (m : MethodId) (args : Array Value) (below : List Frame) (meth : Method) (c : Code) (Z : MZ) (r : (Int32 × St)) (f : St → Option (Int32 × St)) : Prop := ∀ (I : St) (H : Heap) (locs : List Loc) (ls : Array Slot), mIn Z s I H locs → lv_has ls 5 [(0, .ref (mH Z))] → f  I = some r → W p l e mo_bestNow_rm s m args below meth c H locs 0 0 (MQ below (Qwr (some (.int r.1)) (mS Z r.2) (mA Z)) args s 0 0 (mA Z)) (F0 m 0 ls [])
def mo_bestNow_P10 (p : Program) (l : Launch) (e : Env) (s : State) (m : MethodId) (args : Array Value) (below : List Frame) (meth : Method) (c : Code) (Z : MZ) (r : (Int32 × St)) (f : Int32 → Int32 → Int32 → St → Option (Int32 × St)) : Prop := ∀ (x1 : Int32) (x2 : Int32) (x3 : Int32) (I : St) (H : Heap) (locs : List Loc) (ls : Array Slot), mIn Z s I H locs → lv_has ls 5 [(0, .ref (mH Z)), (1, .int x1), (2, .int x2), (3, .int x3)] → f x1 x2 x3 I = some r → W p l e mo_bestNow_rm s m args below meth c H locs 0 0 (MQ below (Qwr (some (.int r.1)) (mS Z r.2) (mA Z)) args s 0 0 (mA Z)) (F0 m 10 ls [])
def mo_bestNow_P45 (p : Program) (l : Launch) (e : Env) (s : State) (m : MethodId) (args : Array Value) (below : List Frame) (meth : Method) (c : Code) (Z : MZ) (r : (Int32 × St)) (f : Int32 → Int32 → Int32 → Int32 → St → Option (Int32 × St)) : Prop := ∀ (x2 : Int32) (x3 : Int32) (x4 : Int32) (t0 : Int32) (I : St) (H : Heap) (locs : List Loc) (ls : Array Slot), mIn Z s I H locs → lv_has ls 5 [(0, .ref (mH Z)), (2, .int x2), (3, .int x3), (4, .int x4)] → f x2 x3 x4 t0 I = some r → W p l e mo_bestNow_rm s m args below meth c H locs 0 0 (MQ below (Qwr (some (.int r.1)) (mS Z r.2) (mA Z)) args s 0 0 (mA Z)) (F0 m 45 ls [.int t0])
def mo_bestNow_P58 (p : Program) (l : Launch) (e : Env) (s : State) (m : MethodId) (args : Array Value) (below : List Frame) (meth : Method) (c : Code) (Z : MZ) (r : (Int32 × St)) (f : Int32 → Int32 → Int32 → St → Option (Int32 × St)) : Prop := ∀ (x1 : Int32) (x3 : Int32) (t0 : Int32) (I : St) (H : Heap) (locs : List Loc) (ls : Array Slot), mIn Z s I H locs → lv_has ls 5 [(0, .ref (mH Z)), (1, .int x1), (3, .int x3)] → f x1 x3 t0 I = some r → W p l e mo_bestNow_rm s m args below meth c H locs 0 0 (MQ below (Qwr (some (.int r.1)) (mS Z r.2) (mA Z)) args s 0 0 (mA Z)) (F0 m 58 ls [.int t0])
def mo_bestNow_b58 (k10 : Int32 → Int32 → Int32 → St → Option (Int32 × St)) (x1 : Int32) (x3 : Int32) (t0 : Int32) (I : St) : Option (Int32 × St) :=
  k10 x1 t0 (x3 + 1) I
theorem mo_bestNow_w58 {p : Program} {l : Launch} {e : Env} {s : State} {m : MethodId} {args : Array Value} {below : List Frame} {meth : Method} {c : Code} {Z : MZ} (C : MCx p s m args meth c cX6_bestNow 5 (some .int) Z) {r : (Int32 × St)} {k10 : Int32 → Int32 → Int32 → St → Option (Int32 × St)} (hk10 : mo_bestNow_P10 p l e s m args below meth c Z r k10) : mo_bestNow_P58 p l e s m args below meth c Z r (mo_bestNow_b58 k10) := by
  intro x1 x3 t0 I H locs ls hM hl h
  obtain ⟨⟨hx, hb, hr, hlocks, hml, hown, hts⟩, hK⟩ := id C
  unfold mo_bestNow_b58 at h
  refine lv_istore_n (lv' := [(2, .int t0), (0, .ref (mH Z)), (1, .int x1), (3, .int x3)]) hx hb dX6_bestNow_58 rfl hl (by decide) rfl (fun ls hl => ?_)
  refine lv_iinc (v := (x3 + 1)) (lv' := [(3, .int (x3 + 1)), (2, .int t0), (0, .ref (mH Z)), (1, .int x1)]) hx hb dX6_bestNow_59 hl (k := 3) rfl rfl (by decide) rfl (fun ls hl => ?_)
  refine lv_goto (tgt := 10) hx hb dX6_bestNow_62 (by decide) ?_
  exact hk10 x1 t0 (x3 + 1) I _ _ ls hM (lv_sub hl [2, 3, 1, 0] rfl) h
def mo_bestNow_b45 (k10 : Int32 → Int32 → Int32 → St → Option (Int32 × St)) (x2 : Int32) (x3 : Int32) (x4 : Int32) (t0 : Int32) (I : St) : Option (Int32 × St) :=
  if x4 ≤ x2 then (mo_bestNow_b58 k10 t0 x3 x2 I)
  else (mo_bestNow_b58 k10 t0 x3 x4 I)
theorem mo_bestNow_w45 {p : Program} {l : Launch} {e : Env} {s : State} {m : MethodId} {args : Array Value} {below : List Frame} {meth : Method} {c : Code} {Z : MZ} (C : MCx p s m args meth c cX6_bestNow 5 (some .int) Z) {r : (Int32 × St)} {k10 : Int32 → Int32 → Int32 → St → Option (Int32 × St)} (hk10 : mo_bestNow_P10 p l e s m args below meth c Z r k10) : mo_bestNow_P45 p l e s m args below meth c Z r (mo_bestNow_b45 k10) := by
  intro x2 x3 x4 t0 I H locs ls hM hl h
  obtain ⟨⟨hx, hb, hr, hlocks, hml, hown, hts⟩, hK⟩ := id C
  unfold mo_bestNow_b45 at h
  refine lv_istore_n (lv' := [(1, .int t0), (0, .ref (mH Z)), (2, .int x2), (3, .int x3), (4, .int x4)]) hx hb dX6_bestNow_45 rfl hl (by decide) rfl (fun ls hl => ?_)
  refine lv_iload hx hb dX6_bestNow_46 (lv_at hl 4 rfl) ?_
  refine lv_iload_n hx hb dX6_bestNow_48 rfl (lv_at hl 2 rfl) ?_
  refine lv_icmp_le (tgt := 57) hx hb dX6_bestNow_49 (by decide) (fun c1 => ?_) (fun c1 => ?_)
  · have h := ip_ c1 h
    refine lv_iload_n hx hb dX6_bestNow_57 rfl (lv_at hl 2 rfl) ?_
    exact mo_bestNow_w58 C hk10 t0 x3 x2 I _ _ ls hM (lv_sub hl [1, 0, 3] rfl) h
  · have h := in_ c1 h
    refine lv_iload hx hb dX6_bestNow_52 (lv_at hl 4 rfl) ?_
    refine lv_goto (tgt := 58) hx hb dX6_bestNow_54 (by decide) ?_
    exact mo_bestNow_w58 C hk10 t0 x3 x4 I _ _ ls hM (lv_sub hl [1, 0, 3] rfl) h
def mo_bestNow_b10 (k10 : Int32 → Int32 → Int32 → St → Option (Int32 × St)) (x1 : Int32) (x2 : Int32) (x3 : Int32) (I : St) : Option (Int32 × St) :=
  if (I 2 0) ≤ x3 then (some (x1, I))
  else (al_ 9 (I 6) x3 fun v2 =>
    bd_ (mo_sparedOf I ((1 : Int32) <<< (x3 &&& 31))) fun v3 =>
    lt_ (v2 + v3) fun v4 =>
    if v4 ≤ x2 then (mo_bestNow_b45 k10 x2 x3 v4 x1 I)
    else (mo_bestNow_b45 k10 x2 x3 v4 x3 I))
theorem mo_bestNow_w10 {p : Program} {l : Launch} {e : Env} {s : State} {m : MethodId} {args : Array Value} {below : List Frame} {meth : Method} {c : Code} {Z : MZ} (C : MCx p s m args meth c cX6_bestNow 5 (some .int) Z) {r : (Int32 × St)} {k10 : Int32 → Int32 → Int32 → St → Option (Int32 × St)} (hk10 : mo_bestNow_P10 p l e s m args below meth c Z r k10) : mo_bestNow_P10 p l e s m args below meth c Z r (mo_bestNow_b10 k10) := by
  intro x1 x2 x3 I H locs ls hM hl h
  obtain ⟨⟨hx, hb, hr, hlocks, hml, hown, hts⟩, hK⟩ := id C
  unfold mo_bestNow_b10 at h
  refine lv_iload_n hx hb dX6_bestNow_10 rfl (lv_at hl 3 rfl) ?_
  refine lv_aload_n hx hb dX6_bestNow_11 rfl (lv_at hl 0 rfl) ?_
  refine gm2 C hM.1 dX6_bestNow_12 ?_
  refine lv_icmp_ge (tgt := 65) hx hb dX6_bestNow_15 (by decide) (fun c1 => ?_) (fun c1 => ?_)
  · have h := ip_ c1 h
    refine lv_iload_n hx hb dX6_bestNow_65 rfl (lv_at hl 1 rfl) ?_
    have h := so_ h
    subst h
    exact W.iret hx hb hr (fun t ht hW => ⟨rfl, ⟨by rw [ht]; exact hM.1, va_K.moved hW.alike hK⟩, hM.2.F ht⟩) hM.2.2.2 dX6_bestNow_66
  · have h := in_ c1 h
    refine lv_aload_n hx hb dX6_bestNow_18 rfl (lv_at hl 0 rfl) ?_
    refine gm6 C hM.1 dX6_bestNow_19 ?_
    refine lv_iload_n hx hb dX6_bestNow_22 rfl (lv_at hl 3 rfl) ?_
    obtain ⟨i_v2, h⟩ := al_e h
    refine m_ald C hM.1 (pos := 5) (k := 6) rfl rfl i_v2 dX6_bestNow_23 (fun v2 e_v2 => ?_)
    have h := h v2 e_v2
    refine lv_aload_n hx hb dX6_bestNow_24 rfl (lv_at hl 0 rfl) ?_
    refine lv_iconst (v := 1) hx hb dX6_bestNow_25 (by decide) ?_
    refine lv_iload_n hx hb dX6_bestNow_26 rfl (lv_at hl 3 rfl) ?_
    refine lv_ishl hx hb dX6_bestNow_27 ?_
    obtain ⟨v3, q_v3, h⟩ := bd_e h
    refine m_roI (As := [.int ((1 : Int32) <<< (x3 &&& 31))]) (rest := [.int v2]) C hM.1 (mo_sparedOf_met _ Z I ((1 : Int32) <<< (x3 &&& 31)) v3 q_v3) (lw_V q1422 q1424 qs72 q88 q1425) mo_sparedOf_hd ⟨rfl, rfl⟩ ⟨Nat.le_of_ble_eq_true rfl, Nat.le_of_ble_eq_true rfl⟩ ⟨Nat.le_refl _, Nat.le_refl _⟩ rfl hl.1 rfl (Nat.le_of_ble_eq_true rfl) dX6_bestNow_28 ?_
    refine lv_iadd hx hb dX6_bestNow_31 ?_
    refine lv_topi (fun v4 e_v4 => ?_)
    have h := lt_i h e_v4
    refine lv_istore (lv' := [(4, .int v4), (0, .ref (mH Z)), (1, .int x1), (2, .int x2), (3, .int x3)]) hx hb dX6_bestNow_32 hl (by decide) rfl (fun ls hl => ?_)
    refine lv_iload hx hb dX6_bestNow_34 (lv_at hl 0 rfl) ?_
    refine lv_iload_n hx hb dX6_bestNow_36 rfl (lv_at hl 3 rfl) ?_
    refine lv_icmp_le (tgt := 44) hx hb dX6_bestNow_37 (by decide) (fun c5 => ?_) (fun c5 => ?_)
    · have h := ip_ c5 h
      refine lv_iload_n hx hb dX6_bestNow_44 rfl (lv_at hl 2 rfl) ?_
      exact mo_bestNow_w45 C hk10 x2 x3 v4 x1 I _ _ ls hM (lv_sub hl [1, 3, 4, 0] rfl) h
    · have h := in_ c5 h
      refine lv_iload_n hx hb dX6_bestNow_40 rfl (lv_at hl 4 rfl) ?_
      refine lv_goto (tgt := 45) hx hb dX6_bestNow_41 (by decide) ?_
      exact mo_bestNow_w45 C hk10 x2 x3 v4 x3 I _ _ ls hM (lv_sub hl [1, 3, 4, 0] rfl) h
def mo_bestNow_l10 (n : Nat) : Int32 → Int32 → Int32 → St → Option (Int32 × St) := lp (fun _ _ _ _ => none) (mo_bestNow_b10) n
theorem mo_bestNow_lw10 {p : Program} {l : Launch} {e : Env} {s : State} {m : MethodId} {args : Array Value} {below : List Frame} {meth : Method} {c : Code} {Z : MZ} (C : MCx p s m args meth c cX6_bestNow 5 (some .int) Z) {r : (Int32 × St)} : ∀ n : Nat, mo_bestNow_P10 p l e s m args below meth c Z r (mo_bestNow_l10 n) := by
  intro n
  induction n with
  | zero => intro x1 x2 x3 I H locs ls hM hl h; exact no_ h
  | succ n ih => exact mo_bestNow_w10 C ih
def mo_bestNow (I : St) : Option (Int32 × St) :=
  bd_ (mo_reads  I) fun I1 =>
  mo_bestNow_l10 FU (-1 : Int32) (0 : Int32) (0 : Int32) I1
theorem mo_bestNow_w0 {p : Program} {l : Launch} {e : Env} {s : State} {m : MethodId} {args : Array Value} {below : List Frame} {meth : Method} {c : Code} {Z : MZ} (C : MCx p s m args meth c cX6_bestNow 5 (some .int) Z) {r : (Int32 × St)} : mo_bestNow_P0 p l e s m args below meth c Z r (mo_bestNow) := by
  intro I H locs ls hM hl h
  obtain ⟨⟨hx, hb, hr, hlocks, hml, hown, hts⟩, hK⟩ := id C
  unfold mo_bestNow at h
  refine lv_aload_n hx hb dX6_bestNow_0 rfl (lv_at hl 0 rfl) ?_
  obtain ⟨I1, q_I1, h⟩ := bd_e h
  refine m_wrV (As := []) (rest := []) C hM (mo_reads_met _ Z I  I1 q_I1) (lw_V q1213 q1215 qs47 q88 q1216) mo_reads_hd ⟨rfl, rfl⟩ ⟨Nat.le_of_ble_eq_true rfl, Nat.le_of_ble_eq_true rfl⟩ ⟨Nat.le_refl _, Nat.le_refl _⟩ rfl hl.1 rfl (Nat.le_of_ble_eq_true rfl) dX6_bestNow_1 (fun H locs hM => ?_)
  refine lv_iconst (v := -1) hx hb dX6_bestNow_4 (by decide) ?_
  refine lv_istore_n (lv' := [(1, .int (-1 : Int32)), (0, .ref (mH Z))]) hx hb dX6_bestNow_5 rfl hl (by decide) rfl (fun ls hl => ?_)
  refine lv_iconst (v := 0) hx hb dX6_bestNow_6 (by decide) ?_
  refine lv_istore_n (lv' := [(2, .int (0 : Int32)), (1, .int (-1 : Int32)), (0, .ref (mH Z))]) hx hb dX6_bestNow_7 rfl hl (by decide) rfl (fun ls hl => ?_)
  refine lv_iconst (v := 0) hx hb dX6_bestNow_8 (by decide) ?_
  refine lv_istore_n (lv' := [(3, .int (0 : Int32)), (2, .int (0 : Int32)), (1, .int (-1 : Int32)), (0, .ref (mH Z))]) hx hb dX6_bestNow_9 rfl hl (by decide) rfl (fun ls hl => ?_)
  exact mo_bestNow_lw10 C FU (-1 : Int32) (0 : Int32) (0 : Int32) I1 _ _ ls hM (lv_sub hl [3, 2, 1, 0] rfl) h
theorem mo_bestNow_hd : yX6_bestNow.cls = RX6 ∧ yX6_bestNow.cls ≠ "java/lang/invoke/MethodHandle" ∧ yX6_bestNow.cls ≠ "java/lang/invoke/VarHandle" ∧ (parseMethodDescriptor yX6_bestNow.desc).map (fun d => d.parameters.length) = some 0 := by decide +kernel
theorem mo_bestNow_met (l : Launch) (Z : MZ) (I : St) (r : (Int32 × St)) (h : mo_bestNow I = some r) : Met l yX6_bestNow (ws_ yX6_bestNow cX6_bestNow 5 (some .int)) mo_bestNow_rm (va_Pc [.ref (mH Z)] (mS Z I)) (Qwr (some (.int r.1)) (mS Z r.2) (mA Z)) 0 0 (mA Z) := by
  refine Met.ofW (cc := cX6_bestNow) (maxL := 5) (ret := some .int) (by decide) rfl ?_
  intro p e s m args below meth c s₁ B hml hv
  obtain ⟨rfl, hv⟩ := hv
  have hts := atoms_spec (ws := ws_ yX6_bestNow cX6_bestNow 5 (some .int)) B.pre
  have hts : ∀ w ∈ lw_all, w.before _ s = true := fun w h => hts w (List.mem_cons_of_mem _ h)
  have C : SCx p s m _ meth c cX6_bestNow 5 (some .int) RX6 := ⟨B.exec, B.bytes, B.returns, B.notSynchronized, hml, findClass_of_methodNamed B.named, hts⟩
  have hl := lv_entry [.ref (mH Z)] (n := 5) (Nat.le_of_ble_eq_true rfl)
  rw [lg_entry_eq]
  generalize (lg_sl [.ref (mH Z)] ++ List.replicate (5 - (lg_sl [.ref (mH Z)]).length) Slot.unset).toArray = ls at hl ⊢
  have C : MCx p s m _ meth c _ _ _ Z := ⟨C, hv.2⟩
  have hM : mIn Z s I s.heap [] := ⟨hv.1, va_S.rf⟩
  exact mo_bestNow_w0 C  I _ _ ls hM hl h

/-! SecondChancesModel.best()I -/
def mo_best_rm : Room := { frames := 5, cells := 0, slots := 0, locals := 113 }
def mo_best_P0 (p : Program) (l : Launch) (e : Env) (s : State) (m : MethodId) (args : Array Value) (below : List Frame) (meth : Method) (c : Code) (Z : MZ) (r : (Int32 × St)) (f : St → Option (Int32 × St)) : Prop := ∀ (I : St) (H : Heap) (locs : List Loc) (ls : Array Slot), mIn Z s I H locs → lv_has ls 1 [(0, .ref (mH Z))] → f  I = some r → W p l e mo_best_rm s m args below meth c H locs 0 0 (MQ below (Qwr (some (.int r.1)) (mS Z r.2) (mA Z)) args s 0 0 (mA Z)) (F0 m 0 ls [])
def mo_best (I : St) : Option (Int32 × St) :=
  bd2_ (mo_bestNow  I) fun v2 I1 =>
  some (v2, I1)
theorem mo_best_w0 {p : Program} {l : Launch} {e : Env} {s : State} {m : MethodId} {args : Array Value} {below : List Frame} {meth : Method} {c : Code} {Z : MZ} (C : MCx p s m args meth c cX6_best 1 (some .int) Z) {r : (Int32 × St)} : mo_best_P0 p l e s m args below meth c Z r (mo_best) := by
  intro I H locs ls hM hl h
  obtain ⟨⟨hx, hb, hr, hlocks, hml, hown, hts⟩, hK⟩ := id C
  unfold mo_best at h
  refine lv_aload_n hx hb dX6_best_0 rfl (lv_at hl 0 rfl) ?_
  obtain ⟨v2, I1, q_I1, h⟩ := bd2_e h
  refine m_wrI (As := []) (rest := []) C hM (mo_bestNow_met _ Z I  (v2, I1) q_I1) (lw_V q1430 q1432 qs73 q88 q1433) mo_bestNow_hd ⟨rfl, rfl⟩ ⟨Nat.le_of_ble_eq_true rfl, Nat.le_of_ble_eq_true rfl⟩ ⟨Nat.le_refl _, Nat.le_refl _⟩ rfl hl.1 rfl (Nat.le_of_ble_eq_true rfl) dX6_best_1 (fun H locs hM => ?_)
  have h := so_ h
  subst h
  exact W.iret hx hb hr (fun t ht hW => ⟨rfl, ⟨by rw [ht]; exact hM.1, va_K.moved hW.alike hK⟩, hM.2.F ht⟩) hM.2.2.2 dX6_best_4
theorem mo_best_hd : yX6_best.cls = RX6 ∧ yX6_best.cls ≠ "java/lang/invoke/MethodHandle" ∧ yX6_best.cls ≠ "java/lang/invoke/VarHandle" ∧ (parseMethodDescriptor yX6_best.desc).map (fun d => d.parameters.length) = some 0 := by decide +kernel
theorem mo_best_met (l : Launch) (Z : MZ) (I : St) (r : (Int32 × St)) (h : mo_best I = some r) : Met l yX6_best (ws_ yX6_best cX6_best 1 (some .int)) mo_best_rm (va_Pc [.ref (mH Z)] (mS Z I)) (Qwr (some (.int r.1)) (mS Z r.2) (mA Z)) 0 0 (mA Z) := by
  refine Met.ofW (cc := cX6_best) (maxL := 1) (ret := some .int) (by decide) rfl ?_
  intro p e s m args below meth c s₁ B hml hv
  obtain ⟨rfl, hv⟩ := hv
  have hts := atoms_spec (ws := ws_ yX6_best cX6_best 1 (some .int)) B.pre
  have hts : ∀ w ∈ lw_all, w.before _ s = true := fun w h => hts w (List.mem_cons_of_mem _ h)
  have C : SCx p s m _ meth c cX6_best 1 (some .int) RX6 := ⟨B.exec, B.bytes, B.returns, B.notSynchronized, hml, findClass_of_methodNamed B.named, hts⟩
  have hl := lv_entry [.ref (mH Z)] (n := 1) (Nat.le_of_ble_eq_true rfl)
  rw [lg_entry_eq]
  generalize (lg_sl [.ref (mH Z)] ++ List.replicate (1 - (lg_sl [.ref (mH Z)]).length) Slot.unset).toArray = ls at hl ⊢
  have C : MCx p s m _ meth c _ _ _ Z := ⟨C, hv.2⟩
  have hM : mIn Z s I s.heap [] := ⟨hv.1, va_S.rf⟩
  exact mo_best_w0 C  I _ _ ls hM hl h

/-! SecondChancesModel.regretsOf(II)J -/
def mo_regretsOf_rm : Room := { frames := 5, cells := 0, slots := 0, locals := 116 }
def mo_regretsOf_P0 (p : Program) (l : Launch) (e : Env) (s : State) (m : MethodId) (args : Array Value) (below : List Frame) (meth : Method) (c : Code) (Z : MZ) (r : (Int64 × St)) (f : Int32 → Int32 → St → Option (Int64 × St)) : Prop := ∀ (x1 : Int32) (x2 : Int32) (I : St) (H : Heap) (locs : List Loc) (ls : Array Slot), mIn Z s I H locs → lv_has ls 5 [(0, .ref (mH Z)), (1, .int x1), (2, .int x2)] → f x1 x2 I = some r → W p l e mo_regretsOf_rm s m args below meth c H locs 0 0 (MQ below (Qwr (some (.long r.1)) (mS Z r.2) (mA Z)) args s 0 0 (mA Z)) (F0 m 0 ls [])
def mo_regretsOf_P9 (p : Program) (l : Launch) (e : Env) (s : State) (m : MethodId) (args : Array Value) (below : List Frame) (meth : Method) (c : Code) (Z : MZ) (r : (Int64 × St)) (f : Int32 → Int32 → Int32 → Int32 → St → Option (Int64 × St)) : Prop := ∀ (x1 : Int32) (x2 : Int32) (x3 : Int32) (x4 : Int32) (I : St) (H : Heap) (locs : List Loc) (ls : Array Slot), mIn Z s I H locs → lv_has ls 5 [(0, .ref (mH Z)), (1, .int x1), (2, .int x2), (3, .int x3), (4, .int x4)] → f x1 x2 x3 x4 I = some r → W p l e mo_regretsOf_rm s m args below meth c H locs 0 0 (MQ below (Qwr (some (.long r.1)) (mS Z r.2) (mA Z)) args s 0 0 (mA Z)) (F0 m 9 ls [])
def mo_regretsOf_P33 (p : Program) (l : Launch) (e : Env) (s : State) (m : MethodId) (args : Array Value) (below : List Frame) (meth : Method) (c : Code) (Z : MZ) (r : (Int64 × St)) (f : Int32 → Int32 → Int32 → Int32 → Int32 → St → Option (Int64 × St)) : Prop := ∀ (x1 : Int32) (x2 : Int32) (x4 : Int32) (t0 : Int32) (t1 : Int32) (I : St) (H : Heap) (locs : List Loc) (ls : Array Slot), mIn Z s I H locs → lv_has ls 5 [(0, .ref (mH Z)), (1, .int x1), (2, .int x2), (4, .int x4)] → f x1 x2 x4 t0 t1 I = some r → W p l e mo_regretsOf_rm s m args below meth c H locs 0 0 (MQ below (Qwr (some (.long r.1)) (mS Z r.2) (mA Z)) args s 0 0 (mA Z)) (F0 m 33 ls [.int t0, .int t1])
def mo_regretsOf_b33 (k9 : Int32 → Int32 → Int32 → Int32 → St → Option (Int64 × St)) (x1 : Int32) (x2 : Int32) (x4 : Int32) (t0 : Int32) (t1 : Int32) (I : St) : Option (Int64 × St) :=
  lt_ (t1 + t0) fun v1 =>
  k9 x1 x2 v1 (x4 + 1) I
theorem mo_regretsOf_w33 {p : Program} {l : Launch} {e : Env} {s : State} {m : MethodId} {args : Array Value} {below : List Frame} {meth : Method} {c : Code} {Z : MZ} (C : MCx p s m args meth c cX6_regretsOf 5 (some .long) Z) {r : (Int64 × St)} {k9 : Int32 → Int32 → Int32 → Int32 → St → Option (Int64 × St)} (hk9 : mo_regretsOf_P9 p l e s m args below meth c Z r k9) : mo_regretsOf_P33 p l e s m args below meth c Z r (mo_regretsOf_b33 k9) := by
  intro x1 x2 x4 t0 t1 I H locs ls hM hl h
  obtain ⟨⟨hx, hb, hr, hlocks, hml, hown, hts⟩, hK⟩ := id C
  unfold mo_regretsOf_b33 at h
  refine lv_iadd hx hb dX6_regretsOf_33 ?_
  refine lv_topi (fun v1 e_v1 => ?_)
  have h := lt_i h e_v1
  refine lv_istore_n (lv' := [(3, .int v1), (0, .ref (mH Z)), (1, .int x1), (2, .int x2), (4, .int x4)]) hx hb dX6_regretsOf_34 rfl hl (by decide) rfl (fun ls hl => ?_)
  refine lv_iinc (v := (x4 + 1)) (lv' := [(4, .int (x4 + 1)), (3, .int v1), (0, .ref (mH Z)), (1, .int x1), (2, .int x2)]) hx hb dX6_regretsOf_35 hl (k := 4) rfl rfl (by decide) rfl (fun ls hl => ?_)
  refine lv_goto (tgt := 9) hx hb dX6_regretsOf_38 (by decide) ?_
  exact hk9 x1 x2 v1 (x4 + 1) I _ _ ls hM (lv_sub hl [2, 3, 4, 1, 0] rfl) h
def mo_regretsOf_b9 (k9 : Int32 → Int32 → Int32 → Int32 → St → Option (Int64 × St)) (x1 : Int32) (x2 : Int32) (x3 : Int32) (x4 : Int32) (I : St) : Option (Int64 × St) :=
  if (I 2 0) ≤ x4 then (if x1 ≤ (I 2 0) then (bd_ (mo_choose x3 x1) fun v3 =>
      bd_ (mo_choose (I 2 0) x1) fun v4 =>
      bd_ (mo_lowest v3 v4 x2) fun v5 =>
      some (v5, I))
    else (bd_ (mo_no (-3 : Int32)) fun v6 =>
      some (v6, I)))
  else (bd_ (mo_hoursOf I x4) fun v7 =>
    if v7 = 0 then (mo_regretsOf_b33 k9 x1 x2 x4 (1 : Int32) x3 I)
    else (mo_regretsOf_b33 k9 x1 x2 x4 (0 : Int32) x3 I))
theorem mo_regretsOf_w9 {p : Program} {l : Launch} {e : Env} {s : State} {m : MethodId} {args : Array Value} {below : List Frame} {meth : Method} {c : Code} {Z : MZ} (C : MCx p s m args meth c cX6_regretsOf 5 (some .long) Z) {r : (Int64 × St)} {k9 : Int32 → Int32 → Int32 → Int32 → St → Option (Int64 × St)} (hk9 : mo_regretsOf_P9 p l e s m args below meth c Z r k9) : mo_regretsOf_P9 p l e s m args below meth c Z r (mo_regretsOf_b9 k9) := by
  intro x1 x2 x3 x4 I H locs ls hM hl h
  obtain ⟨⟨hx, hb, hr, hlocks, hml, hown, hts⟩, hK⟩ := id C
  unfold mo_regretsOf_b9 at h
  refine lv_iload hx hb dX6_regretsOf_9 (lv_at hl 4 rfl) ?_
  refine lv_aload_n hx hb dX6_regretsOf_11 rfl (lv_at hl 0 rfl) ?_
  refine gm2 C hM.1 dX6_regretsOf_12 ?_
  refine lv_icmp_ge (tgt := 41) hx hb dX6_regretsOf_15 (by decide) (fun c1 => ?_) (fun c1 => ?_)
  · have h := ip_ c1 h
    refine lv_iload_n hx hb dX6_regretsOf_41 rfl (lv_at hl 1 rfl) ?_
    refine lv_aload_n hx hb dX6_regretsOf_42 rfl (lv_at hl 0 rfl) ?_
    refine gm2 C hM.1 dX6_regretsOf_43 ?_
    refine lv_icmp_le (tgt := 57) hx hb dX6_regretsOf_46 (by decide) (fun c2 => ?_) (fun c2 => ?_)
    · have h := ip_ c2 h
      refine lv_iload_n hx hb dX6_regretsOf_57 rfl (lv_at hl 3 rfl) ?_
      refine lv_iload_n hx hb dX6_regretsOf_58 rfl (lv_at hl 1 rfl) ?_
      obtain ⟨v3, q_v3, h⟩ := bd_e h
      refine s_roJ (As := [.int x3, .int x1]) (rest := []) C.1 (mo_choose_met _ x3 x1 v3 q_v3) (lw_S q1442 q1443 q88 q1444) mo_choose_hd ⟨rfl, rfl⟩ ⟨Nat.le_of_ble_eq_true rfl, Nat.le_of_ble_eq_true rfl⟩ ⟨Nat.le_refl _, Nat.le_refl _⟩ rfl hl.1 rfl (Nat.le_of_ble_eq_true rfl) dX6_regretsOf_59 ?_
      refine lv_aload_n hx hb dX6_regretsOf_62 rfl (lv_at hl 0 rfl) ?_
      refine gm2 C hM.1 dX6_regretsOf_63 ?_
      refine lv_iload_n hx hb dX6_regretsOf_66 rfl (lv_at hl 1 rfl) ?_
      obtain ⟨v4, q_v4, h⟩ := bd_e h
      refine s_roJ (As := [.int (I 2 0), .int x1]) (rest := [.long v3]) C.1 (mo_choose_met _ (I 2 0) x1 v4 q_v4) (lw_S q1442 q1443 q88 q1444) mo_choose_hd ⟨rfl, rfl⟩ ⟨Nat.le_of_ble_eq_true rfl, Nat.le_of_ble_eq_true rfl⟩ ⟨Nat.le_refl _, Nat.le_refl _⟩ rfl hl.1 rfl (Nat.le_of_ble_eq_true rfl) dX6_regretsOf_67 ?_
      refine lv_iload_n hx hb dX6_regretsOf_70 rfl (lv_at hl 2 rfl) ?_
      obtain ⟨v5, q_v5, h⟩ := bd_e h
      refine s_roJ (As := [.long v3, .long v4, .int x2]) (rest := []) C.1 (mo_lowest_met _ v3 v4 x2 v5 q_v5) (lw_S q1379 q1380 q88 q1381) mo_lowest_hd ⟨rfl, rfl⟩ ⟨Nat.le_of_ble_eq_true rfl, Nat.le_of_ble_eq_true rfl⟩ ⟨Nat.le_refl _, Nat.le_refl _⟩ rfl hl.1 rfl (Nat.le_of_ble_eq_true rfl) dX6_regretsOf_71 ?_
      have h := so_ h
      subst h
      exact W.lret hx hb hr (fun t ht hW => ⟨rfl, ⟨by rw [ht]; exact hM.1, va_K.moved hW.alike hK⟩, hM.2.F ht⟩) hM.2.2.2 dX6_regretsOf_74
    · have h := in_ c2 h
      refine lv_bipush (v := -3) hx hb dX6_regretsOf_49 (by decide) ?_
      obtain ⟨v6, q_v6, h⟩ := bd_e h
      refine s_roJ (As := [.int (-3 : Int32)]) (rest := []) C.1 (mo_no_met _ (-3 : Int32) v6 q_v6) (lw_S q1374 q1375 q88 q1376) mo_no_hd ⟨rfl, rfl⟩ ⟨Nat.le_of_ble_eq_true rfl, Nat.le_of_ble_eq_true rfl⟩ ⟨Nat.le_refl _, Nat.le_refl _⟩ rfl hl.1 rfl (Nat.le_of_ble_eq_true rfl) dX6_regretsOf_51 ?_
      refine lv_goto (tgt := 74) hx hb dX6_regretsOf_54 (by decide) ?_
      have h := so_ h
      subst h
      exact W.lret hx hb hr (fun t ht hW => ⟨rfl, ⟨by rw [ht]; exact hM.1, va_K.moved hW.alike hK⟩, hM.2.F ht⟩) hM.2.2.2 dX6_regretsOf_74
  · have h := in_ c1 h
    refine lv_iload_n hx hb dX6_regretsOf_18 rfl (lv_at hl 3 rfl) ?_
    refine lv_aload_n hx hb dX6_regretsOf_19 rfl (lv_at hl 0 rfl) ?_
    refine lv_iload hx hb dX6_regretsOf_20 (lv_at hl 4 rfl) ?_
    obtain ⟨v7, q_v7, h⟩ := bd_e h
    refine m_roI (As := [.int x4]) (rest := [.int x3]) C hM.1 (mo_hoursOf_met _ Z I x4 v7 q_v7) (lw_V q1285 q1287 qs55 q88 q1288) mo_hoursOf_hd ⟨rfl, rfl⟩ ⟨Nat.le_of_ble_eq_true rfl, Nat.le_of_ble_eq_true rfl⟩ ⟨Nat.le_refl _, Nat.le_refl _⟩ rfl hl.1 rfl (Nat.le_of_ble_eq_true rfl) dX6_regretsOf_22 ?_
    refine lv_if_ne (tgt := 32) hx hb dX6_regretsOf_25 (by decide) (fun c8 => ?_) (fun c8 => ?_)
    · have h := in_ c8 h
      refine lv_iconst (v := 0) hx hb dX6_regretsOf_32 (by decide) ?_
      exact mo_regretsOf_w33 C hk9 x1 x2 x4 (0 : Int32) x3 I _ _ ls hM (lv_sub hl [0, 1, 2, 4] rfl) h
    · have h := ip_ c8 h
      refine lv_iconst (v := 1) hx hb dX6_regretsOf_28 (by decide) ?_
      refine lv_goto (tgt := 33) hx hb dX6_regretsOf_29 (by decide) ?_
      exact mo_regretsOf_w33 C hk9 x1 x2 x4 (1 : Int32) x3 I _ _ ls hM (lv_sub hl [0, 1, 2, 4] rfl) h
def mo_regretsOf_l9 (n : Nat) : Int32 → Int32 → Int32 → Int32 → St → Option (Int64 × St) := lp (fun _ _ _ _ _ => none) (mo_regretsOf_b9) n
theorem mo_regretsOf_lw9 {p : Program} {l : Launch} {e : Env} {s : State} {m : MethodId} {args : Array Value} {below : List Frame} {meth : Method} {c : Code} {Z : MZ} (C : MCx p s m args meth c cX6_regretsOf 5 (some .long) Z) {r : (Int64 × St)} : ∀ n : Nat, mo_regretsOf_P9 p l e s m args below meth c Z r (mo_regretsOf_l9 n) := by
  intro n
  induction n with
  | zero => intro x1 x2 x3 x4 I H locs ls hM hl h; exact no_ h
  | succ n ih => exact mo_regretsOf_w9 C ih
def mo_regretsOf (x1 : Int32) (x2 : Int32) (I : St) : Option (Int64 × St) :=
  bd_ (mo_reads  I) fun I1 =>
  mo_regretsOf_l9 FU x1 x2 (0 : Int32) (0 : Int32) I1
theorem mo_regretsOf_w0 {p : Program} {l : Launch} {e : Env} {s : State} {m : MethodId} {args : Array Value} {below : List Frame} {meth : Method} {c : Code} {Z : MZ} (C : MCx p s m args meth c cX6_regretsOf 5 (some .long) Z) {r : (Int64 × St)} : mo_regretsOf_P0 p l e s m args below meth c Z r (mo_regretsOf) := by
  intro x1 x2 I H locs ls hM hl h
  obtain ⟨⟨hx, hb, hr, hlocks, hml, hown, hts⟩, hK⟩ := id C
  unfold mo_regretsOf at h
  refine lv_aload_n hx hb dX6_regretsOf_0 rfl (lv_at hl 0 rfl) ?_
  obtain ⟨I1, q_I1, h⟩ := bd_e h
  refine m_wrV (As := []) (rest := []) C hM (mo_reads_met _ Z I  I1 q_I1) (lw_V q1213 q1215 qs47 q88 q1216) mo_reads_hd ⟨rfl, rfl⟩ ⟨Nat.le_of_ble_eq_true rfl, Nat.le_of_ble_eq_true rfl⟩ ⟨Nat.le_refl _, Nat.le_refl _⟩ rfl hl.1 rfl (Nat.le_of_ble_eq_true rfl) dX6_regretsOf_1 (fun H locs hM => ?_)
  refine lv_iconst (v := 0) hx hb dX6_regretsOf_4 (by decide) ?_
  refine lv_istore_n (lv' := [(3, .int (0 : Int32)), (0, .ref (mH Z)), (1, .int x1), (2, .int x2)]) hx hb dX6_regretsOf_5 rfl hl (by decide) rfl (fun ls hl => ?_)
  refine lv_iconst (v := 0) hx hb dX6_regretsOf_6 (by decide) ?_
  refine lv_istore (lv' := [(4, .int (0 : Int32)), (3, .int (0 : Int32)), (0, .ref (mH Z)), (1, .int x1), (2, .int x2)]) hx hb dX6_regretsOf_7 hl (by decide) rfl (fun ls hl => ?_)
  exact mo_regretsOf_lw9 C FU x1 x2 (0 : Int32) (0 : Int32) I1 _ _ ls hM (lv_sub hl [2, 3, 4, 1, 0] rfl) h
theorem mo_regretsOf_hd : yX6_regretsOf.cls = RX6 ∧ yX6_regretsOf.cls ≠ "java/lang/invoke/MethodHandle" ∧ yX6_regretsOf.cls ≠ "java/lang/invoke/VarHandle" ∧ (parseMethodDescriptor yX6_regretsOf.desc).map (fun d => d.parameters.length) = some 2 := by decide +kernel
theorem mo_regretsOf_met (l : Launch) (Z : MZ) (I : St) (x1 : Int32) (x2 : Int32) (r : (Int64 × St)) (h : mo_regretsOf x1 x2 I = some r) : Met l yX6_regretsOf (ws_ yX6_regretsOf cX6_regretsOf 5 (some .long)) mo_regretsOf_rm (va_Pc [.ref (mH Z), .int x1, .int x2] (mS Z I)) (Qwr (some (.long r.1)) (mS Z r.2) (mA Z)) 0 0 (mA Z) := by
  refine Met.ofW (cc := cX6_regretsOf) (maxL := 5) (ret := some .long) (by decide) rfl ?_
  intro p e s m args below meth c s₁ B hml hv
  obtain ⟨rfl, hv⟩ := hv
  have hts := atoms_spec (ws := ws_ yX6_regretsOf cX6_regretsOf 5 (some .long)) B.pre
  have hts : ∀ w ∈ lw_all, w.before _ s = true := fun w h => hts w (List.mem_cons_of_mem _ h)
  have C : SCx p s m _ meth c cX6_regretsOf 5 (some .long) RX6 := ⟨B.exec, B.bytes, B.returns, B.notSynchronized, hml, findClass_of_methodNamed B.named, hts⟩
  have hl := lv_entry [.ref (mH Z), .int x1, .int x2] (n := 5) (Nat.le_of_ble_eq_true rfl)
  rw [lg_entry_eq]
  generalize (lg_sl [.ref (mH Z), .int x1, .int x2] ++ List.replicate (5 - (lg_sl [.ref (mH Z), .int x1, .int x2]).length) Slot.unset).toArray = ls at hl ⊢
  have C : MCx p s m _ meth c _ _ _ Z := ⟨C, hv.2⟩
  have hM : mIn Z s I s.heap [] := ⟨hv.1, va_S.rf⟩
  exact mo_regretsOf_w0 C x1 x2 I _ _ ls hM hl h

/-! SecondChancesModel.regrets(II)J -/
def mo_regrets_rm : Room := { frames := 6, cells := 0, slots := 0, locals := 140 }
def mo_regrets_P0 (p : Program) (l : Launch) (e : Env) (s : State) (m : MethodId) (args : Array Value) (below : List Frame) (meth : Method) (c : Code) (Z : MZ) (r : (Int64 × St)) (f : Int32 → Int32 → St → Option (Int64 × St)) : Prop := ∀ (x1 : Int32) (x2 : Int32) (I : St) (H : Heap) (locs : List Loc) (ls : Array Slot), mIn Z s I H locs → lv_has ls 3 [(0, .ref (mH Z)), (1, .int x1), (2, .int x2)] → f x1 x2 I = some r → W p l e mo_regrets_rm s m args below meth c H locs 0 0 (MQ below (Qwr (some (.long r.1)) (mS Z r.2) (mA Z)) args s 0 0 (mA Z)) (F0 m 0 ls [])
def mo_regrets_P28 (p : Program) (l : Launch) (e : Env) (s : State) (m : MethodId) (args : Array Value) (below : List Frame) (meth : Method) (c : Code) (Z : MZ) (r : (Int64 × St)) (f : St → Option (Int64 × St)) : Prop := ∀ (I : St) (H : Heap) (locs : List Loc) (ls : Array Slot), mIn Z s I H locs → lv_has ls 3 [] → f  I = some r → W p l e mo_regrets_rm s m args below meth c H locs 0 0 (MQ below (Qwr (some (.long r.1)) (mS Z r.2) (mA Z)) args s 0 0 (mA Z)) (F0 m 28 ls [])
def mo_regrets_b28 (I : St) : Option (Int64 × St) :=
  bd_ (mo_no (-2 : Int32)) fun v1 =>
  some (v1, I)
theorem mo_regrets_w28 {p : Program} {l : Launch} {e : Env} {s : State} {m : MethodId} {args : Array Value} {below : List Frame} {meth : Method} {c : Code} {Z : MZ} (C : MCx p s m args meth c cX6_regrets 3 (some .long) Z) {r : (Int64 × St)} : mo_regrets_P28 p l e s m args below meth c Z r (mo_regrets_b28) := by
  intro I H locs ls hM hl h
  obtain ⟨⟨hx, hb, hr, hlocks, hml, hown, hts⟩, hK⟩ := id C
  unfold mo_regrets_b28 at h
  refine lv_bipush (v := -2) hx hb dX6_regrets_28 (by decide) ?_
  obtain ⟨v1, q_v1, h⟩ := bd_e h
  refine s_roJ (As := [.int (-2 : Int32)]) (rest := []) C.1 (mo_no_met _ (-2 : Int32) v1 q_v1) (lw_S q1374 q1375 q88 q1376) mo_no_hd ⟨rfl, rfl⟩ ⟨Nat.le_of_ble_eq_true rfl, Nat.le_of_ble_eq_true rfl⟩ ⟨Nat.le_refl _, Nat.le_refl _⟩ rfl hl.1 rfl (Nat.le_of_ble_eq_true rfl) dX6_regrets_30 ?_
  have h := so_ h
  subst h
  exact W.lret hx hb hr (fun t ht hW => ⟨rfl, ⟨by rw [ht]; exact hM.1, va_K.moved hW.alike hK⟩, hM.2.F ht⟩) hM.2.2.2 dX6_regrets_33
def mo_regrets (x1 : Int32) (x2 : Int32) (I : St) : Option (Int64 × St) :=
  bd_ (mo_in x1 (0 : Int32) (8 : Int32)) fun v1 =>
  if v1 = 0 then (mo_regrets_b28  I)
  else (bd_ (mo_in x2 (0 : Int32) (1 : Int32)) fun v3 =>
    if v3 = 0 then (mo_regrets_b28  I)
    else (bd2_ (mo_regretsOf x1 x2 I) fun v6 I5 =>
      some (v6, I5)))
theorem mo_regrets_w0 {p : Program} {l : Launch} {e : Env} {s : State} {m : MethodId} {args : Array Value} {below : List Frame} {meth : Method} {c : Code} {Z : MZ} (C : MCx p s m args meth c cX6_regrets 3 (some .long) Z) {r : (Int64 × St)} : mo_regrets_P0 p l e s m args below meth c Z r (mo_regrets) := by
  intro x1 x2 I H locs ls hM hl h
  obtain ⟨⟨hx, hb, hr, hlocks, hml, hown, hts⟩, hK⟩ := id C
  unfold mo_regrets at h
  refine lv_iload_n hx hb dX6_regrets_0 rfl (lv_at hl 1 rfl) ?_
  refine lv_iconst (v := 0) hx hb dX6_regrets_1 (by decide) ?_
  refine lv_bipush (v := 8) hx hb dX6_regrets_2 (by decide) ?_
  obtain ⟨v1, q_v1, h⟩ := bd_e h
  refine s_roI (As := [.int x1, .int (0 : Int32), .int (8 : Int32)]) (rest := []) C.1 (mo_in_met _ x1 (0 : Int32) (8 : Int32) v1 q_v1) (lw_S q1168 q1169 q88 q1170) mo_in_hd ⟨rfl, rfl⟩ ⟨Nat.le_of_ble_eq_true rfl, Nat.le_of_ble_eq_true rfl⟩ ⟨Nat.le_refl _, Nat.le_refl _⟩ rfl hl.1 rfl (Nat.le_of_ble_eq_true rfl) dX6_regrets_4 ?_
  refine lv_if_eq (tgt := 28) hx hb dX6_regrets_7 (by decide) (fun c2 => ?_) (fun c2 => ?_)
  · have h := ip_ c2 h
    exact mo_regrets_w28 C  I _ _ ls hM (lv_sub hl [] rfl) h
  · have h := in_ c2 h
    refine lv_iload_n hx hb dX6_regrets_10 rfl (lv_at hl 2 rfl) ?_
    refine lv_iconst (v := 0) hx hb dX6_regrets_11 (by decide) ?_
    refine lv_iconst (v := 1) hx hb dX6_regrets_12 (by decide) ?_
    obtain ⟨v3, q_v3, h⟩ := bd_e h
    refine s_roI (As := [.int x2, .int (0 : Int32), .int (1 : Int32)]) (rest := []) C.1 (mo_in_met _ x2 (0 : Int32) (1 : Int32) v3 q_v3) (lw_S q1168 q1169 q88 q1170) mo_in_hd ⟨rfl, rfl⟩ ⟨Nat.le_of_ble_eq_true rfl, Nat.le_of_ble_eq_true rfl⟩ ⟨Nat.le_refl _, Nat.le_refl _⟩ rfl hl.1 rfl (Nat.le_of_ble_eq_true rfl) dX6_regrets_13 ?_
    refine lv_if_eq (tgt := 28) hx hb dX6_regrets_16 (by decide) (fun c4 => ?_) (fun c4 => ?_)
    · have h := ip_ c4 h
      exact mo_regrets_w28 C  I _ _ ls hM (lv_sub hl [] rfl) h
    · have h := in_ c4 h
      refine lv_aload_n hx hb dX6_regrets_19 rfl (lv_at hl 0 rfl) ?_
      refine lv_iload_n hx hb dX6_regrets_20 rfl (lv_at hl 1 rfl) ?_
      refine lv_iload_n hx hb dX6_regrets_21 rfl (lv_at hl 2 rfl) ?_
      obtain ⟨v6, I5, q_I5, h⟩ := bd2_e h
      refine m_wrJ (As := [.int x1, .int x2]) (rest := []) C hM (mo_regretsOf_met _ Z I x1 x2 (v6, I5) q_I5) (lw_V q1438 q1440 qs74 q88 q1441) mo_regretsOf_hd ⟨rfl, rfl⟩ ⟨Nat.le_of_ble_eq_true rfl, Nat.le_of_ble_eq_true rfl⟩ ⟨Nat.le_refl _, Nat.le_refl _⟩ rfl hl.1 rfl (Nat.le_of_ble_eq_true rfl) dX6_regrets_22 (fun H locs hM => ?_)
      refine lv_goto (tgt := 33) hx hb dX6_regrets_25 (by decide) ?_
      have h := so_ h
      subst h
      exact W.lret hx hb hr (fun t ht hW => ⟨rfl, ⟨by rw [ht]; exact hM.1, va_K.moved hW.alike hK⟩, hM.2.F ht⟩) hM.2.2.2 dX6_regrets_33
theorem mo_regrets_hd : yX6_regrets.cls = RX6 ∧ yX6_regrets.cls ≠ "java/lang/invoke/MethodHandle" ∧ yX6_regrets.cls ≠ "java/lang/invoke/VarHandle" ∧ (parseMethodDescriptor yX6_regrets.desc).map (fun d => d.parameters.length) = some 2 := by decide +kernel
theorem mo_regrets_met (l : Launch) (Z : MZ) (I : St) (x1 : Int32) (x2 : Int32) (r : (Int64 × St)) (h : mo_regrets x1 x2 I = some r) : Met l yX6_regrets (ws_ yX6_regrets cX6_regrets 3 (some .long)) mo_regrets_rm (va_Pc [.ref (mH Z), .int x1, .int x2] (mS Z I)) (Qwr (some (.long r.1)) (mS Z r.2) (mA Z)) 0 0 (mA Z) := by
  refine Met.ofW (cc := cX6_regrets) (maxL := 3) (ret := some .long) (by decide) rfl ?_
  intro p e s m args below meth c s₁ B hml hv
  obtain ⟨rfl, hv⟩ := hv
  have hts := atoms_spec (ws := ws_ yX6_regrets cX6_regrets 3 (some .long)) B.pre
  have hts : ∀ w ∈ lw_all, w.before _ s = true := fun w h => hts w (List.mem_cons_of_mem _ h)
  have C : SCx p s m _ meth c cX6_regrets 3 (some .long) RX6 := ⟨B.exec, B.bytes, B.returns, B.notSynchronized, hml, findClass_of_methodNamed B.named, hts⟩
  have hl := lv_entry [.ref (mH Z), .int x1, .int x2] (n := 3) (Nat.le_of_ble_eq_true rfl)
  rw [lg_entry_eq]
  generalize (lg_sl [.ref (mH Z), .int x1, .int x2] ++ List.replicate (3 - (lg_sl [.ref (mH Z), .int x1, .int x2]).length) Slot.unset).toArray = ls at hl ⊢
  have C : MCx p s m _ meth c _ _ _ Z := ⟨C, hv.2⟩
  have hM : mIn Z s I s.heap [] := ⟨hv.1, va_S.rf⟩
  exact mo_regrets_w0 C x1 x2 I _ _ ls hM hl h

