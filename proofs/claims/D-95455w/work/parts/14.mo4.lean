set_option maxRecDepth 100000
/-! SecondChancesModel.sheet(III)I -/
def mo_sheet_rm : Room := { frames := 2, cells := 0, slots := 0, locals := 42 }
def mo_sheet_P0 (p : Program) (l : Launch) (e : Env) (s : State) (m : MethodId) (args : Array Value) (below : List Frame) (meth : Method) (c : Code) (Z : MZ) (r : (Int32 × St)) (f : Int32 → Int32 → Int32 → St → Option (Int32 × St)) : Prop := ∀ (x1 : Int32) (x2 : Int32) (x3 : Int32) (I : St) (H : Heap) (locs : List Loc) (ls : Array Slot), mIn Z s I H locs → lv_has ls 5 [(0, .ref (mH Z)), (1, .int x1), (2, .int x2), (3, .int x3)] → f x1 x2 x3 I = some r → W p l e mo_sheet_rm s m args below meth c H locs 0 0 (MQ below (Qwr (some (.int r.1)) (mS Z r.2) (mA Z)) args s 0 0 (mA Z)) (F0 m 0 ls [])
def mo_sheet_P59 (p : Program) (l : Launch) (e : Env) (s : State) (m : MethodId) (args : Array Value) (below : List Frame) (meth : Method) (c : Code) (Z : MZ) (r : (Int32 × St)) (f : Int32 → Int32 → Int32 → St → Option (Int32 × St)) : Prop := ∀ (x1 : Int32) (x3 : Int32) (x4 : Int32) (I : St) (H : Heap) (locs : List Loc) (ls : Array Slot), mIn Z s I H locs → lv_has ls 5 [(0, .ref (mH Z)), (1, .int x1), (3, .int x3), (4, .int x4)] → f x1 x3 x4 I = some r → W p l e mo_sheet_rm s m args below meth c H locs 0 0 (MQ below (Qwr (some (.int r.1)) (mS Z r.2) (mA Z)) args s 0 0 (mA Z)) (F0 m 59 ls [])
def mo_sheet_b59 (k59 : Int32 → Int32 → Int32 → St → Option (Int32 × St)) (x1 : Int32) (x3 : Int32) (x4 : Int32) (I : St) : Option (Int32 × St) :=
  if (60 : Int32) ≤ x4 then (some (x3, I))
  else (as_ 240 36 I (((60 : Int32) * x1) + x4) (0 : Int32) fun I2 =>
    k59 x1 x3 (x4 + 1) I2)
theorem mo_sheet_w59 {p : Program} {l : Launch} {e : Env} {s : State} {m : MethodId} {args : Array Value} {below : List Frame} {meth : Method} {c : Code} {Z : MZ} (C : MCx p s m args meth c cX6_sheet 5 (some .int) Z) {r : (Int32 × St)} {k59 : Int32 → Int32 → Int32 → St → Option (Int32 × St)} (hk59 : mo_sheet_P59 p l e s m args below meth c Z r k59) : mo_sheet_P59 p l e s m args below meth c Z r (mo_sheet_b59 k59) := by
  intro x1 x3 x4 I H locs ls hM hl h
  obtain ⟨⟨hx, hb, hr, hlocks, hml, hown, hts⟩, hK⟩ := id C
  unfold mo_sheet_b59 at h
  refine lv_iload hx hb dX6_sheet_59 (lv_at hl 3 rfl) ?_
  refine lv_bipush (v := 60) hx hb dX6_sheet_61 (by decide) ?_
  refine lv_icmp_ge (tgt := 85) hx hb dX6_sheet_63 (by decide) (fun c1 => ?_) (fun c1 => ?_)
  · have h := ip_ c1 h
    refine lv_iload_n hx hb dX6_sheet_85 rfl (lv_at hl 2 rfl) ?_
    have h := so_ h
    subst h
    exact W.iret hx hb hr (fun t ht hW => ⟨rfl, ⟨by rw [ht]; exact hM.1, va_K.moved hW.alike hK⟩, hM.2.F ht⟩) hM.2.2.2 dX6_sheet_86
  · have h := in_ c1 h
    refine lv_aload_n hx hb dX6_sheet_66 rfl (lv_at hl 0 rfl) ?_
    refine gm36 C hM.1 dX6_sheet_67 ?_
    refine lv_bipush (v := 60) hx hb dX6_sheet_70 (by decide) ?_
    refine lv_iload_n hx hb dX6_sheet_72 rfl (lv_at hl 1 rfl) ?_
    refine lv_imul hx hb dX6_sheet_73 ?_
    refine lv_iload hx hb dX6_sheet_74 (lv_at hl 3 rfl) ?_
    refine lv_iadd hx hb dX6_sheet_76 ?_
    refine lv_iconst (v := 0) hx hb dX6_sheet_77 (by decide) ?_
    obtain ⟨i_I2, h⟩ := as_e h
    refine m_ast C hM (pos := 28) (k := 36) rfl rfl i_I2 dX6_sheet_78 (fun H locs I2 e_I2 hM => ?_)
    have h := h I2 e_I2
    refine lv_iinc (v := (x4 + 1)) (lv' := [(4, .int (x4 + 1)), (0, .ref (mH Z)), (1, .int x1), (3, .int x3)]) hx hb dX6_sheet_79 hl (k := 3) rfl rfl (by decide) rfl (fun ls hl => ?_)
    refine lv_goto (tgt := 59) hx hb dX6_sheet_82 (by decide) ?_
    exact hk59 x1 x3 (x4 + 1) I2 _ _ ls hM (lv_sub hl [1, 2, 3, 0] rfl) h
def mo_sheet_l59 (n : Nat) : Int32 → Int32 → Int32 → St → Option (Int32 × St) := lp (fun _ _ _ _ => none) (mo_sheet_b59) n
theorem mo_sheet_lw59 {p : Program} {l : Launch} {e : Env} {s : State} {m : MethodId} {args : Array Value} {below : List Frame} {meth : Method} {c : Code} {Z : MZ} (C : MCx p s m args meth c cX6_sheet 5 (some .int) Z) {r : (Int32 × St)} : ∀ n : Nat, mo_sheet_P59 p l e s m args below meth c Z r (mo_sheet_l59 n) := by
  intro n
  induction n with
  | zero => intro x1 x3 x4 I H locs ls hM hl h; exact no_ h
  | succ n ih => exact mo_sheet_w59 C ih
def mo_sheet (x1 : Int32) (x2 : Int32) (x3 : Int32) (I : St) : Option (Int32 × St) :=
  bd_ (mo_isSheet x1) fun v1 =>
  if v1 = 0 then (some ((-2 : Int32), I))
  else (bd_ (mo_in x2 (0 : Int32) (2 : Int32)) fun v3 =>
    if v3 = 0 then (some ((-2 : Int32), I))
    else (if x3 ≤ (60 : Int32) then (if 0 ≤ x3 then (as_ 4 33 I x1 ((1 : Int32) &&& 1) fun I7 =>
          as_ 4 34 I7 x1 x2 fun I8 =>
          as_ 4 35 I8 x1 x3 fun I9 =>
          mo_sheet_l59 FU x1 x3 (0 : Int32) I9)
        else (bd2_ (mo_meets (5 : Int32) I) fun v11 I10 =>
          some (v11, I10)))
      else (some ((-2 : Int32), I))))
theorem mo_sheet_w0 {p : Program} {l : Launch} {e : Env} {s : State} {m : MethodId} {args : Array Value} {below : List Frame} {meth : Method} {c : Code} {Z : MZ} (C : MCx p s m args meth c cX6_sheet 5 (some .int) Z) {r : (Int32 × St)} : mo_sheet_P0 p l e s m args below meth c Z r (mo_sheet) := by
  intro x1 x2 x3 I H locs ls hM hl h
  obtain ⟨⟨hx, hb, hr, hlocks, hml, hown, hts⟩, hK⟩ := id C
  unfold mo_sheet at h
  refine lv_iload_n hx hb dX6_sheet_0 rfl (lv_at hl 1 rfl) ?_
  obtain ⟨v1, q_v1, h⟩ := bd_e h
  refine s_roI (As := [.int x1]) (rest := []) C.1 (mo_isSheet_met _ x1 v1 q_v1) (lw_S q1251 q1252 q88 q1253) mo_isSheet_hd ⟨rfl, rfl⟩ ⟨Nat.le_of_ble_eq_true rfl, Nat.le_of_ble_eq_true rfl⟩ ⟨Nat.le_refl _, Nat.le_refl _⟩ rfl hl.1 rfl (Nat.le_of_ble_eq_true rfl) dX6_sheet_1 ?_
  refine lv_if_eq (tgt := 22) hx hb dX6_sheet_4 (by decide) (fun c2 => ?_) (fun c2 => ?_)
  · have h := ip_ c2 h
    refine lv_bipush (v := -2) hx hb dX6_sheet_22 (by decide) ?_
    have h := so_ h
    subst h
    exact W.iret hx hb hr (fun t ht hW => ⟨rfl, ⟨by rw [ht]; exact hM.1, va_K.moved hW.alike hK⟩, hM.2.F ht⟩) hM.2.2.2 dX6_sheet_24
  · have h := in_ c2 h
    refine lv_iload_n hx hb dX6_sheet_7 rfl (lv_at hl 2 rfl) ?_
    refine lv_iconst (v := 0) hx hb dX6_sheet_8 (by decide) ?_
    refine lv_iconst (v := 2) hx hb dX6_sheet_9 (by decide) ?_
    obtain ⟨v3, q_v3, h⟩ := bd_e h
    refine s_roI (As := [.int x2, .int (0 : Int32), .int (2 : Int32)]) (rest := []) C.1 (mo_in_met _ x2 (0 : Int32) (2 : Int32) v3 q_v3) (lw_S q1168 q1169 q88 q1170) mo_in_hd ⟨rfl, rfl⟩ ⟨Nat.le_of_ble_eq_true rfl, Nat.le_of_ble_eq_true rfl⟩ ⟨Nat.le_refl _, Nat.le_refl _⟩ rfl hl.1 rfl (Nat.le_of_ble_eq_true rfl) dX6_sheet_10 ?_
    refine lv_if_eq (tgt := 22) hx hb dX6_sheet_13 (by decide) (fun c4 => ?_) (fun c4 => ?_)
    · have h := ip_ c4 h
      refine lv_bipush (v := -2) hx hb dX6_sheet_22 (by decide) ?_
      have h := so_ h
      subst h
      exact W.iret hx hb hr (fun t ht hW => ⟨rfl, ⟨by rw [ht]; exact hM.1, va_K.moved hW.alike hK⟩, hM.2.F ht⟩) hM.2.2.2 dX6_sheet_24
    · have h := in_ c4 h
      refine lv_iload_n hx hb dX6_sheet_16 rfl (lv_at hl 3 rfl) ?_
      refine lv_bipush (v := 60) hx hb dX6_sheet_17 (by decide) ?_
      refine lv_icmp_le (tgt := 25) hx hb dX6_sheet_19 (by decide) (fun c5 => ?_) (fun c5 => ?_)
      · have h := ip_ c5 h
        refine lv_iload_n hx hb dX6_sheet_25 rfl (lv_at hl 3 rfl) ?_
        refine lv_if_ge (tgt := 35) hx hb dX6_sheet_26 (by decide) (fun c6 => ?_) (fun c6 => ?_)
        · have h := ip_ c6 h
          refine lv_aload_n hx hb dX6_sheet_35 rfl (lv_at hl 0 rfl) ?_
          refine gm33 C hM.1 dX6_sheet_36 ?_
          refine lv_iload_n hx hb dX6_sheet_39 rfl (lv_at hl 1 rfl) ?_
          refine lv_iconst (v := 1) hx hb dX6_sheet_40 (by decide) ?_
          obtain ⟨i_I7, h⟩ := as_e h
          refine m_zast C hM (pos := 25) (k := 33) rfl rfl i_I7 dX6_sheet_41 (fun H locs I7 e_I7 hM => ?_)
          have h := h I7 e_I7
          refine lv_aload_n hx hb dX6_sheet_42 rfl (lv_at hl 0 rfl) ?_
          refine gm34 C hM.1 dX6_sheet_43 ?_
          refine lv_iload_n hx hb dX6_sheet_46 rfl (lv_at hl 1 rfl) ?_
          refine lv_iload_n hx hb dX6_sheet_47 rfl (lv_at hl 2 rfl) ?_
          obtain ⟨i_I8, h⟩ := as_e h
          refine m_ast C hM (pos := 26) (k := 34) rfl rfl i_I8 dX6_sheet_48 (fun H locs I8 e_I8 hM => ?_)
          have h := h I8 e_I8
          refine lv_aload_n hx hb dX6_sheet_49 rfl (lv_at hl 0 rfl) ?_
          refine gm35 C hM.1 dX6_sheet_50 ?_
          refine lv_iload_n hx hb dX6_sheet_53 rfl (lv_at hl 1 rfl) ?_
          refine lv_iload_n hx hb dX6_sheet_54 rfl (lv_at hl 3 rfl) ?_
          obtain ⟨i_I9, h⟩ := as_e h
          refine m_ast C hM (pos := 27) (k := 35) rfl rfl i_I9 dX6_sheet_55 (fun H locs I9 e_I9 hM => ?_)
          have h := h I9 e_I9
          refine lv_iconst (v := 0) hx hb dX6_sheet_56 (by decide) ?_
          refine lv_istore (lv' := [(4, .int (0 : Int32)), (0, .ref (mH Z)), (1, .int x1), (2, .int x2), (3, .int x3)]) hx hb dX6_sheet_57 hl (by decide) rfl (fun ls hl => ?_)
          exact mo_sheet_lw59 C FU x1 x3 (0 : Int32) I9 _ _ ls hM (lv_sub hl [1, 2, 4, 0] rfl) h
        · have h := in_ c6 h
          refine lv_aload_n hx hb dX6_sheet_29 rfl (lv_at hl 0 rfl) ?_
          refine lv_iconst (v := 5) hx hb dX6_sheet_30 (by decide) ?_
          obtain ⟨v11, I10, q_I10, h⟩ := bd2_e h
          refine m_wrI (As := [.int (5 : Int32)]) (rest := []) C hM (mo_meets_met _ Z I (5 : Int32) (v11, I10) q_I10) (lw_V q1254 q1256 qs50 q88 q1257) mo_meets_hd ⟨rfl, rfl⟩ ⟨Nat.le_of_ble_eq_true rfl, Nat.le_of_ble_eq_true rfl⟩ ⟨Nat.le_refl _, Nat.le_refl _⟩ rfl hl.1 rfl (Nat.le_of_ble_eq_true rfl) dX6_sheet_31 (fun H locs hM => ?_)
          have h := so_ h
          subst h
          exact W.iret hx hb hr (fun t ht hW => ⟨rfl, ⟨by rw [ht]; exact hM.1, va_K.moved hW.alike hK⟩, hM.2.F ht⟩) hM.2.2.2 dX6_sheet_34
      · have h := in_ c5 h
        refine lv_bipush (v := -2) hx hb dX6_sheet_22 (by decide) ?_
        have h := so_ h
        subst h
        exact W.iret hx hb hr (fun t ht hW => ⟨rfl, ⟨by rw [ht]; exact hM.1, va_K.moved hW.alike hK⟩, hM.2.F ht⟩) hM.2.2.2 dX6_sheet_24
theorem mo_sheet_hd : yX6_sheet.cls = RX6 ∧ yX6_sheet.cls ≠ "java/lang/invoke/MethodHandle" ∧ yX6_sheet.cls ≠ "java/lang/invoke/VarHandle" ∧ (parseMethodDescriptor yX6_sheet.desc).map (fun d => d.parameters.length) = some 3 := by decide +kernel
theorem mo_sheet_met (l : Launch) (Z : MZ) (I : St) (x1 : Int32) (x2 : Int32) (x3 : Int32) (r : (Int32 × St)) (h : mo_sheet x1 x2 x3 I = some r) : Met l yX6_sheet (ws_ yX6_sheet cX6_sheet 5 (some .int)) mo_sheet_rm (va_Pc [.ref (mH Z), .int x1, .int x2, .int x3] (mS Z I)) (Qwr (some (.int r.1)) (mS Z r.2) (mA Z)) 0 0 (mA Z) := by
  refine Met.ofW (cc := cX6_sheet) (maxL := 5) (ret := some .int) (by decide) rfl ?_
  intro p e s m args below meth c s₁ B hml hv
  obtain ⟨rfl, hv⟩ := hv
  have hts := atoms_spec (ws := ws_ yX6_sheet cX6_sheet 5 (some .int)) B.pre
  have hts : ∀ w ∈ lw_all, w.before _ s = true := fun w h => hts w (List.mem_cons_of_mem _ h)
  have C : SCx p s m _ meth c cX6_sheet 5 (some .int) RX6 := ⟨B.exec, B.bytes, B.returns, B.notSynchronized, hml, findClass_of_methodNamed B.named, hts⟩
  have hl := lv_entry [.ref (mH Z), .int x1, .int x2, .int x3] (n := 5) (Nat.le_of_ble_eq_true rfl)
  rw [lg_entry_eq]
  generalize (lg_sl [.ref (mH Z), .int x1, .int x2, .int x3] ++ List.replicate (5 - (lg_sl [.ref (mH Z), .int x1, .int x2, .int x3]).length) Slot.unset).toArray = ls at hl ⊢
  have C : MCx p s m _ meth c _ _ _ Z := ⟨C, hv.2⟩
  have hM : mIn Z s I s.heap [] := ⟨hv.1, va_S.rf⟩
  exact mo_sheet_w0 C x1 x2 x3 I _ _ ls hM hl h

/-! SecondChancesModel.lose(I)I -/
def mo_lose_rm : Room := { frames := 2, cells := 0, slots := 0, locals := 42 }
def mo_lose_P0 (p : Program) (l : Launch) (e : Env) (s : State) (m : MethodId) (args : Array Value) (below : List Frame) (meth : Method) (c : Code) (Z : MZ) (r : (Int32 × St)) (f : Int32 → St → Option (Int32 × St)) : Prop := ∀ (x1 : Int32) (I : St) (H : Heap) (locs : List Loc) (ls : Array Slot), mIn Z s I H locs → lv_has ls 2 [(0, .ref (mH Z)), (1, .int x1)] → f x1 I = some r → W p l e mo_lose_rm s m args below meth c H locs 0 0 (MQ below (Qwr (some (.int r.1)) (mS Z r.2) (mA Z)) args s 0 0 (mA Z)) (F0 m 0 ls [])
def mo_lose (x1 : Int32) (I : St) : Option (Int32 × St) :=
  bd_ (mo_isSheet x1) fun v1 =>
  if v1 = 0 then (some ((-2 : Int32), I))
  else (al_ 4 (I 33) x1 fun v3 =>
    if v3 = 0 then (bd2_ (mo_meets (1 : Int32) I) fun v8 I7 =>
      some (v8, I7))
    else (as_ 4 33 I x1 ((0 : Int32) &&& 1) fun I5 =>
      al_ 4 (I5 35) x1 fun v6 =>
      some (v6, I5)))
theorem mo_lose_w0 {p : Program} {l : Launch} {e : Env} {s : State} {m : MethodId} {args : Array Value} {below : List Frame} {meth : Method} {c : Code} {Z : MZ} (C : MCx p s m args meth c cX6_lose 2 (some .int) Z) {r : (Int32 × St)} : mo_lose_P0 p l e s m args below meth c Z r (mo_lose) := by
  intro x1 I H locs ls hM hl h
  obtain ⟨⟨hx, hb, hr, hlocks, hml, hown, hts⟩, hK⟩ := id C
  unfold mo_lose at h
  refine lv_iload_n hx hb dX6_lose_0 rfl (lv_at hl 1 rfl) ?_
  obtain ⟨v1, q_v1, h⟩ := bd_e h
  refine s_roI (As := [.int x1]) (rest := []) C.1 (mo_isSheet_met _ x1 v1 q_v1) (lw_S q1251 q1252 q88 q1253) mo_isSheet_hd ⟨rfl, rfl⟩ ⟨Nat.le_of_ble_eq_true rfl, Nat.le_of_ble_eq_true rfl⟩ ⟨Nat.le_refl _, Nat.le_refl _⟩ rfl hl.1 rfl (Nat.le_of_ble_eq_true rfl) dX6_lose_1 ?_
  refine lv_if_ne (tgt := 10) hx hb dX6_lose_4 (by decide) (fun c2 => ?_) (fun c2 => ?_)
  · have h := in_ c2 h
    refine lv_aload_n hx hb dX6_lose_10 rfl (lv_at hl 0 rfl) ?_
    refine gm33 C hM.1 dX6_lose_11 ?_
    refine lv_iload_n hx hb dX6_lose_14 rfl (lv_at hl 1 rfl) ?_
    obtain ⟨i_v3, h⟩ := al_e h
    refine m_zald C hM.1 (pos := 25) (k := 33) rfl rfl i_v3 dX6_lose_15 (fun v3 e_v3 => ?_)
    have h := h v3 e_v3
    refine lv_if_ne (tgt := 25) hx hb dX6_lose_16 (by decide) (fun c4 => ?_) (fun c4 => ?_)
    · have h := in_ c4 h
      refine lv_aload_n hx hb dX6_lose_25 rfl (lv_at hl 0 rfl) ?_
      refine gm33 C hM.1 dX6_lose_26 ?_
      refine lv_iload_n hx hb dX6_lose_29 rfl (lv_at hl 1 rfl) ?_
      refine lv_iconst (v := 0) hx hb dX6_lose_30 (by decide) ?_
      obtain ⟨i_I5, h⟩ := as_e h
      refine m_zast C hM (pos := 25) (k := 33) rfl rfl i_I5 dX6_lose_31 (fun H locs I5 e_I5 hM => ?_)
      have h := h I5 e_I5
      refine lv_aload_n hx hb dX6_lose_32 rfl (lv_at hl 0 rfl) ?_
      refine gm35 C hM.1 dX6_lose_33 ?_
      refine lv_iload_n hx hb dX6_lose_36 rfl (lv_at hl 1 rfl) ?_
      obtain ⟨i_v6, h⟩ := al_e h
      refine m_ald C hM.1 (pos := 27) (k := 35) rfl rfl i_v6 dX6_lose_37 (fun v6 e_v6 => ?_)
      have h := h v6 e_v6
      have h := so_ h
      subst h
      exact W.iret hx hb hr (fun t ht hW => ⟨rfl, ⟨by rw [ht]; exact hM.1, va_K.moved hW.alike hK⟩, hM.2.F ht⟩) hM.2.2.2 dX6_lose_38
    · have h := ip_ c4 h
      refine lv_aload_n hx hb dX6_lose_19 rfl (lv_at hl 0 rfl) ?_
      refine lv_iconst (v := 1) hx hb dX6_lose_20 (by decide) ?_
      obtain ⟨v8, I7, q_I7, h⟩ := bd2_e h
      refine m_wrI (As := [.int (1 : Int32)]) (rest := []) C hM (mo_meets_met _ Z I (1 : Int32) (v8, I7) q_I7) (lw_V q1254 q1256 qs50 q88 q1257) mo_meets_hd ⟨rfl, rfl⟩ ⟨Nat.le_of_ble_eq_true rfl, Nat.le_of_ble_eq_true rfl⟩ ⟨Nat.le_refl _, Nat.le_refl _⟩ rfl hl.1 rfl (Nat.le_of_ble_eq_true rfl) dX6_lose_21 (fun H locs hM => ?_)
      have h := so_ h
      subst h
      exact W.iret hx hb hr (fun t ht hW => ⟨rfl, ⟨by rw [ht]; exact hM.1, va_K.moved hW.alike hK⟩, hM.2.F ht⟩) hM.2.2.2 dX6_lose_24
  · have h := ip_ c2 h
    refine lv_bipush (v := -2) hx hb dX6_lose_7 (by decide) ?_
    have h := so_ h
    subst h
    exact W.iret hx hb hr (fun t ht hW => ⟨rfl, ⟨by rw [ht]; exact hM.1, va_K.moved hW.alike hK⟩, hM.2.F ht⟩) hM.2.2.2 dX6_lose_9
theorem mo_lose_hd : yX6_lose.cls = RX6 ∧ yX6_lose.cls ≠ "java/lang/invoke/MethodHandle" ∧ yX6_lose.cls ≠ "java/lang/invoke/VarHandle" ∧ (parseMethodDescriptor yX6_lose.desc).map (fun d => d.parameters.length) = some 1 := by decide +kernel
theorem mo_lose_met (l : Launch) (Z : MZ) (I : St) (x1 : Int32) (r : (Int32 × St)) (h : mo_lose x1 I = some r) : Met l yX6_lose (ws_ yX6_lose cX6_lose 2 (some .int)) mo_lose_rm (va_Pc [.ref (mH Z), .int x1] (mS Z I)) (Qwr (some (.int r.1)) (mS Z r.2) (mA Z)) 0 0 (mA Z) := by
  refine Met.ofW (cc := cX6_lose) (maxL := 2) (ret := some .int) (by decide) rfl ?_
  intro p e s m args below meth c s₁ B hml hv
  obtain ⟨rfl, hv⟩ := hv
  have hts := atoms_spec (ws := ws_ yX6_lose cX6_lose 2 (some .int)) B.pre
  have hts : ∀ w ∈ lw_all, w.before _ s = true := fun w h => hts w (List.mem_cons_of_mem _ h)
  have C : SCx p s m _ meth c cX6_lose 2 (some .int) RX6 := ⟨B.exec, B.bytes, B.returns, B.notSynchronized, hml, findClass_of_methodNamed B.named, hts⟩
  have hl := lv_entry [.ref (mH Z), .int x1] (n := 2) (Nat.le_of_ble_eq_true rfl)
  rw [lg_entry_eq]
  generalize (lg_sl [.ref (mH Z), .int x1] ++ List.replicate (2 - (lg_sl [.ref (mH Z), .int x1]).length) Slot.unset).toArray = ls at hl ⊢
  have C : MCx p s m _ meth c _ _ _ Z := ⟨C, hv.2⟩
  have hM : mIn Z s I s.heap [] := ⟨hv.1, va_S.rf⟩
  exact mo_lose_w0 C x1 I _ _ ls hM hl h

/-! SecondChancesModel.lacks(III)I -/
def mo_lacks_rm : Room := { frames := 1, cells := 0, slots := 0, locals := 22 }
def mo_lacks_P0 (p : Program) (l : Launch) (e : Env) (s : State) (m : MethodId) (args : Array Value) (below : List Frame) (meth : Method) (c : Code) (Z : MZ) (r : Int32) (f : Int32 → Int32 → Int32 → Option Int32) : Prop := ∀ (x1 : Int32) (x2 : Int32) (x3 : Int32) (ls : Array Slot), lv_has ls 4 [(0, .ref (mH Z)), (1, .int x1), (2, .int x2), (3, .int x3)] → f x1 x2 x3 = some r → W p l e mo_lacks_rm s m args below meth c s.heap [] 0 0 (MQ below (Qro (some (.int r))) args s 0 0 (fun _ => False)) (F0 m 0 ls [])
def mo_lacks (I : St) (x1 : Int32) (x2 : Int32) (x3 : Int32) : Option Int32 :=
  al_ 4 (I 33) x1 fun v1 =>
  if v1 = 0 then (some (1 : Int32))
  else (al_ 4 (I 34) x1 fun v3 =>
    if v3 = x2 then (al_ 4 (I 35) x1 fun v5 =>
      bd_ (mo_in x3 (0 : Int32) (v5 - (1 : Int32))) fun v6 =>
      if v6 = 0 then (some (2 : Int32))
      else (some (0 : Int32)))
    else (some (3 : Int32)))
theorem mo_lacks_w0 {p : Program} {l : Launch} {e : Env} {s : State} {m : MethodId} {args : Array Value} {below : List Frame} {meth : Method} {c : Code} {Z : MZ} {I : St} (C : MCx p s m args meth c cX6_lacks 4 (some .int) Z) (hM : mPD Z I s.heap) {r : Int32} : mo_lacks_P0 p l e s m args below meth c Z r (mo_lacks I) := by
  intro x1 x2 x3 ls hl h
  obtain ⟨⟨hx, hb, hr, hlocks, hml, hown, hts⟩, hK⟩ := id C
  unfold mo_lacks at h
  refine lv_aload_n hx hb dX6_lacks_0 rfl (lv_at hl 0 rfl) ?_
  refine gm33 C hM dX6_lacks_1 ?_
  refine lv_iload_n hx hb dX6_lacks_4 rfl (lv_at hl 1 rfl) ?_
  obtain ⟨i_v1, h⟩ := al_e h
  refine m_zald C hM (pos := 25) (k := 33) rfl rfl i_v1 dX6_lacks_5 (fun v1 e_v1 => ?_)
  have h := h v1 e_v1
  refine lv_if_ne (tgt := 13) hx hb dX6_lacks_6 (by decide) (fun c2 => ?_) (fun c2 => ?_)
  · have h := in_ c2 h
    refine lv_aload_n hx hb dX6_lacks_13 rfl (lv_at hl 0 rfl) ?_
    refine gm34 C hM dX6_lacks_14 ?_
    refine lv_iload_n hx hb dX6_lacks_17 rfl (lv_at hl 1 rfl) ?_
    obtain ⟨i_v3, h⟩ := al_e h
    refine m_ald C hM (pos := 26) (k := 34) rfl rfl i_v3 dX6_lacks_18 (fun v3 e_v3 => ?_)
    have h := h v3 e_v3
    refine lv_iload_n hx hb dX6_lacks_19 rfl (lv_at hl 2 rfl) ?_
    refine lv_icmp_eq (tgt := 27) hx hb dX6_lacks_20 (by decide) (fun c4 => ?_) (fun c4 => ?_)
    · have h := ip_ c4 h
      refine lv_iload_n hx hb dX6_lacks_27 rfl (lv_at hl 3 rfl) ?_
      refine lv_iconst (v := 0) hx hb dX6_lacks_28 (by decide) ?_
      refine lv_aload_n hx hb dX6_lacks_29 rfl (lv_at hl 0 rfl) ?_
      refine gm35 C hM dX6_lacks_30 ?_
      refine lv_iload_n hx hb dX6_lacks_33 rfl (lv_at hl 1 rfl) ?_
      obtain ⟨i_v5, h⟩ := al_e h
      refine m_ald C hM (pos := 27) (k := 35) rfl rfl i_v5 dX6_lacks_34 (fun v5 e_v5 => ?_)
      have h := h v5 e_v5
      refine lv_iconst (v := 1) hx hb dX6_lacks_35 (by decide) ?_
      refine lv_isub hx hb dX6_lacks_36 ?_
      obtain ⟨v6, q_v6, h⟩ := bd_e h
      refine s_roI (As := [.int x3, .int (0 : Int32), .int (v5 - (1 : Int32))]) (rest := []) C.1 (mo_in_met _ x3 (0 : Int32) (v5 - (1 : Int32)) v6 q_v6) (lw_S q1168 q1169 q88 q1170) mo_in_hd ⟨rfl, rfl⟩ ⟨Nat.le_of_ble_eq_true rfl, Nat.le_of_ble_eq_true rfl⟩ ⟨Nat.le_refl _, Nat.le_refl _⟩ rfl hl.1 rfl (Nat.le_of_ble_eq_true rfl) dX6_lacks_37 ?_
      refine lv_if_eq (tgt := 47) hx hb dX6_lacks_40 (by decide) (fun c7 => ?_) (fun c7 => ?_)
      · have h := ip_ c7 h
        refine lv_iconst (v := 2) hx hb dX6_lacks_47 (by decide) ?_
        have h := so_ h
        subst h
        exact W.iret hx hb hr (fun t ht hW => ⟨rfl, ht⟩) (fun q hq => by cases hq) dX6_lacks_48
      · have h := in_ c7 h
        refine lv_iconst (v := 0) hx hb dX6_lacks_43 (by decide) ?_
        refine lv_goto (tgt := 48) hx hb dX6_lacks_44 (by decide) ?_
        have h := so_ h
        subst h
        exact W.iret hx hb hr (fun t ht hW => ⟨rfl, ht⟩) (fun q hq => by cases hq) dX6_lacks_48
    · have h := in_ c4 h
      refine lv_iconst (v := 3) hx hb dX6_lacks_23 (by decide) ?_
      refine lv_goto (tgt := 48) hx hb dX6_lacks_24 (by decide) ?_
      have h := so_ h
      subst h
      exact W.iret hx hb hr (fun t ht hW => ⟨rfl, ht⟩) (fun q hq => by cases hq) dX6_lacks_48
  · have h := ip_ c2 h
    refine lv_iconst (v := 1) hx hb dX6_lacks_9 (by decide) ?_
    refine lv_goto (tgt := 48) hx hb dX6_lacks_10 (by decide) ?_
    have h := so_ h
    subst h
    exact W.iret hx hb hr (fun t ht hW => ⟨rfl, ht⟩) (fun q hq => by cases hq) dX6_lacks_48
theorem mo_lacks_hd : yX6_lacks.cls = RX6 ∧ yX6_lacks.cls ≠ "java/lang/invoke/MethodHandle" ∧ yX6_lacks.cls ≠ "java/lang/invoke/VarHandle" ∧ (parseMethodDescriptor yX6_lacks.desc).map (fun d => d.parameters.length) = some 3 := by decide +kernel
theorem mo_lacks_met (l : Launch) (Z : MZ) (I : St) (x1 : Int32) (x2 : Int32) (x3 : Int32) (r : Int32) (h : mo_lacks I x1 x2 x3 = some r) : Met l yX6_lacks (ws_ yX6_lacks cX6_lacks 4 (some .int)) mo_lacks_rm (va_Pc [.ref (mH Z), .int x1, .int x2, .int x3] (mS Z I)) (Qro (some (.int r))) 0 0 (fun _ => False) := by
  refine Met.ofW (cc := cX6_lacks) (maxL := 4) (ret := some .int) (by decide) rfl ?_
  intro p e s m args below meth c s₁ B hml hv
  obtain ⟨rfl, hv⟩ := hv
  have hts := atoms_spec (ws := ws_ yX6_lacks cX6_lacks 4 (some .int)) B.pre
  have hts : ∀ w ∈ lw_all, w.before _ s = true := fun w h => hts w (List.mem_cons_of_mem _ h)
  have C : SCx p s m _ meth c cX6_lacks 4 (some .int) RX6 := ⟨B.exec, B.bytes, B.returns, B.notSynchronized, hml, findClass_of_methodNamed B.named, hts⟩
  have hl := lv_entry [.ref (mH Z), .int x1, .int x2, .int x3] (n := 4) (Nat.le_of_ble_eq_true rfl)
  rw [lg_entry_eq]
  generalize (lg_sl [.ref (mH Z), .int x1, .int x2, .int x3] ++ List.replicate (4 - (lg_sl [.ref (mH Z), .int x1, .int x2, .int x3]).length) Slot.unset).toArray = ls at hl ⊢
  have C : MCx p s m _ meth c _ _ _ Z := ⟨C, hv.2⟩
  have hM := hv.1
  exact mo_lacks_w0 C hM x1 x2 x3 ls hl h

/-! SecondChancesModel.keep(III)V -/
def mo_keep_rm : Room := { frames := 0, cells := 0, slots := 0, locals := 0 }
def mo_keep_P0 (p : Program) (l : Launch) (e : Env) (s : State) (m : MethodId) (args : Array Value) (below : List Frame) (meth : Method) (c : Code) (Z : MZ) (r : St) (f : Int32 → Int32 → Int32 → St → Option St) : Prop := ∀ (x1 : Int32) (x2 : Int32) (x3 : Int32) (I : St) (H : Heap) (locs : List Loc) (ls : Array Slot), mIn Z s I H locs → lv_has ls 4 [(0, .ref (mH Z)), (1, .int x1), (2, .int x2), (3, .int x3)] → f x1 x2 x3 I = some r → W p l e mo_keep_rm s m args below meth c H locs 0 0 (MQ below (Qwr (none) (mS Z r) (mA Z)) args s 0 0 (mA Z)) (F0 m 0 ls [])
def mo_keep_P40 (p : Program) (l : Launch) (e : Env) (s : State) (m : MethodId) (args : Array Value) (below : List Frame) (meth : Method) (c : Code) (Z : MZ) (r : St) (f : Int32 → Int32 → St → Option St) : Prop := ∀ (t0 : Int32) (t1 : Int32) (I : St) (H : Heap) (locs : List Loc) (ls : Array Slot), mIn Z s I H locs → lv_has ls 4 [] → f t0 t1 I = some r → W p l e mo_keep_rm s m args below meth c H locs 0 0 (MQ below (Qwr (none) (mS Z r) (mA Z)) args s 0 0 (mA Z)) (F0 m 40 ls [.int t0, .int t1, .ref (mAd Z 36)])
def mo_keep_b40 (t0 : Int32) (t1 : Int32) (I : St) : Option St :=
  as_ 240 36 I t1 t0 fun I1 =>
  some I1
theorem mo_keep_w40 {p : Program} {l : Launch} {e : Env} {s : State} {m : MethodId} {args : Array Value} {below : List Frame} {meth : Method} {c : Code} {Z : MZ} (C : MCx p s m args meth c cX6_keep 4 (none) Z) {r : St} : mo_keep_P40 p l e s m args below meth c Z r (mo_keep_b40) := by
  intro t0 t1 I H locs ls hM hl h
  obtain ⟨⟨hx, hb, hr, hlocks, hml, hown, hts⟩, hK⟩ := id C
  unfold mo_keep_b40 at h
  obtain ⟨i_I1, h⟩ := as_e h
  refine m_ast C hM (pos := 28) (k := 36) rfl rfl i_I1 dX6_keep_40 (fun H locs I1 e_I1 hM => ?_)
  have h := h I1 e_I1
  have h := so_ h
  subst h
  exact W.vret hx hb hr (fun t ht hW => ⟨rfl, ⟨by rw [ht]; exact hM.1, va_K.moved hW.alike hK⟩, hM.2.F ht⟩) hM.2.2.2 dX6_keep_41
def mo_keep (x1 : Int32) (x2 : Int32) (x3 : Int32) (I : St) : Option St :=
  al_ 4 (I 34) x1 fun v1 =>
  if v1 = 0 then (mo_keep_b40 (x3.toInt8.toInt32) (((60 : Int32) * x1) + x2) I)
  else (al_ 4 (I 34) x1 fun v3 =>
    if v3 = (1 : Int32) then (mo_keep_b40 (x3.toInt16.toInt32) (((60 : Int32) * x1) + x2) I)
    else (mo_keep_b40 x3 (((60 : Int32) * x1) + x2) I))
theorem mo_keep_w0 {p : Program} {l : Launch} {e : Env} {s : State} {m : MethodId} {args : Array Value} {below : List Frame} {meth : Method} {c : Code} {Z : MZ} (C : MCx p s m args meth c cX6_keep 4 (none) Z) {r : St} : mo_keep_P0 p l e s m args below meth c Z r (mo_keep) := by
  intro x1 x2 x3 I H locs ls hM hl h
  obtain ⟨⟨hx, hb, hr, hlocks, hml, hown, hts⟩, hK⟩ := id C
  unfold mo_keep at h
  refine lv_aload_n hx hb dX6_keep_0 rfl (lv_at hl 0 rfl) ?_
  refine gm36 C hM.1 dX6_keep_1 ?_
  refine lv_bipush (v := 60) hx hb dX6_keep_4 (by decide) ?_
  refine lv_iload_n hx hb dX6_keep_6 rfl (lv_at hl 1 rfl) ?_
  refine lv_imul hx hb dX6_keep_7 ?_
  refine lv_iload_n hx hb dX6_keep_8 rfl (lv_at hl 2 rfl) ?_
  refine lv_iadd hx hb dX6_keep_9 ?_
  refine lv_aload_n hx hb dX6_keep_10 rfl (lv_at hl 0 rfl) ?_
  refine gm34 C hM.1 dX6_keep_11 ?_
  refine lv_iload_n hx hb dX6_keep_14 rfl (lv_at hl 1 rfl) ?_
  obtain ⟨i_v1, h⟩ := al_e h
  refine m_ald C hM.1 (pos := 26) (k := 34) rfl rfl i_v1 dX6_keep_15 (fun v1 e_v1 => ?_)
  have h := h v1 e_v1
  refine lv_if_ne (tgt := 24) hx hb dX6_keep_16 (by decide) (fun c2 => ?_) (fun c2 => ?_)
  · have h := in_ c2 h
    refine lv_aload_n hx hb dX6_keep_24 rfl (lv_at hl 0 rfl) ?_
    refine gm34 C hM.1 dX6_keep_25 ?_
    refine lv_iload_n hx hb dX6_keep_28 rfl (lv_at hl 1 rfl) ?_
    obtain ⟨i_v3, h⟩ := al_e h
    refine m_ald C hM.1 (pos := 26) (k := 34) rfl rfl i_v3 dX6_keep_29 (fun v3 e_v3 => ?_)
    have h := h v3 e_v3
    refine lv_iconst (v := 1) hx hb dX6_keep_30 (by decide) ?_
    refine lv_icmp_ne (tgt := 39) hx hb dX6_keep_31 (by decide) (fun c4 => ?_) (fun c4 => ?_)
    · have h := in_ c4 h
      refine lv_iload_n hx hb dX6_keep_39 rfl (lv_at hl 3 rfl) ?_
      exact mo_keep_w40 C x3 (((60 : Int32) * x1) + x2) I _ _ ls hM (lv_sub hl [] rfl) h
    · have h := ip_ c4 h
      refine lv_iload_n hx hb dX6_keep_34 rfl (lv_at hl 3 rfl) ?_
      refine lv_i2s hx hb dX6_keep_35 rfl ?_
      refine lv_goto (tgt := 40) hx hb dX6_keep_36 (by decide) ?_
      exact mo_keep_w40 C (x3.toInt16.toInt32) (((60 : Int32) * x1) + x2) I _ _ ls hM (lv_sub hl [] rfl) h
  · have h := ip_ c2 h
    refine lv_iload_n hx hb dX6_keep_19 rfl (lv_at hl 3 rfl) ?_
    refine lv_i2b hx hb dX6_keep_20 rfl ?_
    refine lv_goto (tgt := 40) hx hb dX6_keep_21 (by decide) ?_
    exact mo_keep_w40 C (x3.toInt8.toInt32) (((60 : Int32) * x1) + x2) I _ _ ls hM (lv_sub hl [] rfl) h
theorem mo_keep_hd : yX6_keep.cls = RX6 ∧ yX6_keep.cls ≠ "java/lang/invoke/MethodHandle" ∧ yX6_keep.cls ≠ "java/lang/invoke/VarHandle" ∧ (parseMethodDescriptor yX6_keep.desc).map (fun d => d.parameters.length) = some 3 := by decide +kernel
theorem mo_keep_met (l : Launch) (Z : MZ) (I : St) (x1 : Int32) (x2 : Int32) (x3 : Int32) (r : St) (h : mo_keep x1 x2 x3 I = some r) : Met l yX6_keep (ws_ yX6_keep cX6_keep 4 (none)) mo_keep_rm (va_Pc [.ref (mH Z), .int x1, .int x2, .int x3] (mS Z I)) (Qwr (none) (mS Z r) (mA Z)) 0 0 (mA Z) := by
  refine Met.ofW (cc := cX6_keep) (maxL := 4) (ret := none) (by decide) rfl ?_
  intro p e s m args below meth c s₁ B hml hv
  obtain ⟨rfl, hv⟩ := hv
  have hts := atoms_spec (ws := ws_ yX6_keep cX6_keep 4 (none)) B.pre
  have hts : ∀ w ∈ lw_all, w.before _ s = true := fun w h => hts w (List.mem_cons_of_mem _ h)
  have C : SCx p s m _ meth c cX6_keep 4 (none) RX6 := ⟨B.exec, B.bytes, B.returns, B.notSynchronized, hml, findClass_of_methodNamed B.named, hts⟩
  have hl := lv_entry [.ref (mH Z), .int x1, .int x2, .int x3] (n := 4) (Nat.le_of_ble_eq_true rfl)
  rw [lg_entry_eq]
  generalize (lg_sl [.ref (mH Z), .int x1, .int x2, .int x3] ++ List.replicate (4 - (lg_sl [.ref (mH Z), .int x1, .int x2, .int x3]).length) Slot.unset).toArray = ls at hl ⊢
  have C : MCx p s m _ meth c _ _ _ Z := ⟨C, hv.2⟩
  have hM : mIn Z s I s.heap [] := ⟨hv.1, va_S.rf⟩
  exact mo_keep_w0 C x1 x2 x3 I _ _ ls hM hl h

/-! SecondChancesModel.put(IIII)I -/
def mo_put_rm : Room := { frames := 2, cells := 0, slots := 0, locals := 45 }
def mo_put_P0 (p : Program) (l : Launch) (e : Env) (s : State) (m : MethodId) (args : Array Value) (below : List Frame) (meth : Method) (c : Code) (Z : MZ) (r : (Int32 × St)) (f : Int32 → Int32 → Int32 → Int32 → St → Option (Int32 × St)) : Prop := ∀ (x1 : Int32) (x2 : Int32) (x3 : Int32) (x4 : Int32) (I : St) (H : Heap) (locs : List Loc) (ls : Array Slot), mIn Z s I H locs → lv_has ls 6 [(0, .ref (mH Z)), (1, .int x1), (2, .int x2), (3, .int x3), (4, .int x4)] → f x1 x2 x3 x4 I = some r → W p l e mo_put_rm s m args below meth c H locs 0 0 (MQ below (Qwr (some (.int r.1)) (mS Z r.2) (mA Z)) args s 0 0 (mA Z)) (F0 m 0 ls [])
def mo_put (x1 : Int32) (x2 : Int32) (x3 : Int32) (x4 : Int32) (I : St) : Option (Int32 × St) :=
  bd_ (mo_isSheet x1) fun v1 =>
  if v1 = 0 then (some ((-2 : Int32), I))
  else (bd_ (mo_in x2 (0 : Int32) (2 : Int32)) fun v3 =>
    if v3 = 0 then (some ((-2 : Int32), I))
    else (bd_ (mo_lacks I x1 x2 x3) fun v5 =>
      if v5 ≤ 0 then (bd_ (mo_keep x1 x3 x4 I) fun I7 =>
        some ((1 : Int32), I7))
      else (bd2_ (mo_meets v5 I) fun v9 I8 =>
        some (v9, I8))))
theorem mo_put_w0 {p : Program} {l : Launch} {e : Env} {s : State} {m : MethodId} {args : Array Value} {below : List Frame} {meth : Method} {c : Code} {Z : MZ} (C : MCx p s m args meth c cX6_put 6 (some .int) Z) {r : (Int32 × St)} : mo_put_P0 p l e s m args below meth c Z r (mo_put) := by
  intro x1 x2 x3 x4 I H locs ls hM hl h
  obtain ⟨⟨hx, hb, hr, hlocks, hml, hown, hts⟩, hK⟩ := id C
  unfold mo_put at h
  refine lv_iload_n hx hb dX6_put_0 rfl (lv_at hl 1 rfl) ?_
  obtain ⟨v1, q_v1, h⟩ := bd_e h
  refine s_roI (As := [.int x1]) (rest := []) C.1 (mo_isSheet_met _ x1 v1 q_v1) (lw_S q1251 q1252 q88 q1253) mo_isSheet_hd ⟨rfl, rfl⟩ ⟨Nat.le_of_ble_eq_true rfl, Nat.le_of_ble_eq_true rfl⟩ ⟨Nat.le_refl _, Nat.le_refl _⟩ rfl hl.1 rfl (Nat.le_of_ble_eq_true rfl) dX6_put_1 ?_
  refine lv_if_eq (tgt := 16) hx hb dX6_put_4 (by decide) (fun c2 => ?_) (fun c2 => ?_)
  · have h := ip_ c2 h
    refine lv_bipush (v := -2) hx hb dX6_put_16 (by decide) ?_
    have h := so_ h
    subst h
    exact W.iret hx hb hr (fun t ht hW => ⟨rfl, ⟨by rw [ht]; exact hM.1, va_K.moved hW.alike hK⟩, hM.2.F ht⟩) hM.2.2.2 dX6_put_18
  · have h := in_ c2 h
    refine lv_iload_n hx hb dX6_put_7 rfl (lv_at hl 2 rfl) ?_
    refine lv_iconst (v := 0) hx hb dX6_put_8 (by decide) ?_
    refine lv_iconst (v := 2) hx hb dX6_put_9 (by decide) ?_
    obtain ⟨v3, q_v3, h⟩ := bd_e h
    refine s_roI (As := [.int x2, .int (0 : Int32), .int (2 : Int32)]) (rest := []) C.1 (mo_in_met _ x2 (0 : Int32) (2 : Int32) v3 q_v3) (lw_S q1168 q1169 q88 q1170) mo_in_hd ⟨rfl, rfl⟩ ⟨Nat.le_of_ble_eq_true rfl, Nat.le_of_ble_eq_true rfl⟩ ⟨Nat.le_refl _, Nat.le_refl _⟩ rfl hl.1 rfl (Nat.le_of_ble_eq_true rfl) dX6_put_10 ?_
    refine lv_if_ne (tgt := 19) hx hb dX6_put_13 (by decide) (fun c4 => ?_) (fun c4 => ?_)
    · have h := in_ c4 h
      refine lv_aload_n hx hb dX6_put_19 rfl (lv_at hl 0 rfl) ?_
      refine lv_iload_n hx hb dX6_put_20 rfl (lv_at hl 1 rfl) ?_
      refine lv_iload_n hx hb dX6_put_21 rfl (lv_at hl 2 rfl) ?_
      refine lv_iload_n hx hb dX6_put_22 rfl (lv_at hl 3 rfl) ?_
      obtain ⟨v5, q_v5, h⟩ := bd_e h
      refine m_roI (As := [.int x1, .int x2, .int x3]) (rest := []) C hM.1 (mo_lacks_met _ Z I x1 x2 x3 v5 q_v5) (lw_V q1457 q1459 qs75 q88 q1460) mo_lacks_hd ⟨rfl, rfl⟩ ⟨Nat.le_of_ble_eq_true rfl, Nat.le_of_ble_eq_true rfl⟩ ⟨Nat.le_refl _, Nat.le_refl _⟩ rfl hl.1 rfl (Nat.le_of_ble_eq_true rfl) dX6_put_23 ?_
      refine lv_istore (lv' := [(5, .int v5), (0, .ref (mH Z)), (1, .int x1), (2, .int x2), (3, .int x3), (4, .int x4)]) hx hb dX6_put_26 hl (by decide) rfl (fun ls hl => ?_)
      refine lv_iload hx hb dX6_put_28 (lv_at hl 0 rfl) ?_
      refine lv_if_le (tgt := 40) hx hb dX6_put_30 (by decide) (fun c6 => ?_) (fun c6 => ?_)
      · have h := ip_ c6 h
        refine lv_aload_n hx hb dX6_put_40 rfl (lv_at hl 1 rfl) ?_
        refine lv_iload_n hx hb dX6_put_41 rfl (lv_at hl 2 rfl) ?_
        refine lv_iload_n hx hb dX6_put_42 rfl (lv_at hl 4 rfl) ?_
        refine lv_iload hx hb dX6_put_43 (lv_at hl 5 rfl) ?_
        obtain ⟨I7, q_I7, h⟩ := bd_e h
        refine m_wrV (As := [.int x1, .int x3, .int x4]) (rest := []) C hM (mo_keep_met _ Z I x1 x3 x4 I7 q_I7) (lw_V q1461 q1463 qs76 q88 q1464) mo_keep_hd ⟨rfl, rfl⟩ ⟨Nat.le_of_ble_eq_true rfl, Nat.le_of_ble_eq_true rfl⟩ ⟨Nat.le_refl _, Nat.le_refl _⟩ rfl hl.1 rfl (Nat.le_of_ble_eq_true rfl) dX6_put_45 (fun H locs hM => ?_)
        refine lv_iconst (v := 1) hx hb dX6_put_48 (by decide) ?_
        have h := so_ h
        subst h
        exact W.iret hx hb hr (fun t ht hW => ⟨rfl, ⟨by rw [ht]; exact hM.1, va_K.moved hW.alike hK⟩, hM.2.F ht⟩) hM.2.2.2 dX6_put_49
      · have h := in_ c6 h
        refine lv_aload_n hx hb dX6_put_33 rfl (lv_at hl 1 rfl) ?_
        refine lv_iload hx hb dX6_put_34 (lv_at hl 0 rfl) ?_
        obtain ⟨v9, I8, q_I8, h⟩ := bd2_e h
        refine m_wrI (As := [.int v5]) (rest := []) C hM (mo_meets_met _ Z I v5 (v9, I8) q_I8) (lw_V q1254 q1256 qs50 q88 q1257) mo_meets_hd ⟨rfl, rfl⟩ ⟨Nat.le_of_ble_eq_true rfl, Nat.le_of_ble_eq_true rfl⟩ ⟨Nat.le_refl _, Nat.le_refl _⟩ rfl hl.1 rfl (Nat.le_of_ble_eq_true rfl) dX6_put_36 (fun H locs hM => ?_)
        have h := so_ h
        subst h
        exact W.iret hx hb hr (fun t ht hW => ⟨rfl, ⟨by rw [ht]; exact hM.1, va_K.moved hW.alike hK⟩, hM.2.F ht⟩) hM.2.2.2 dX6_put_39
    · have h := ip_ c4 h
      refine lv_bipush (v := -2) hx hb dX6_put_16 (by decide) ?_
      have h := so_ h
      subst h
      exact W.iret hx hb hr (fun t ht hW => ⟨rfl, ⟨by rw [ht]; exact hM.1, va_K.moved hW.alike hK⟩, hM.2.F ht⟩) hM.2.2.2 dX6_put_18
theorem mo_put_hd : yX6_put.cls = RX6 ∧ yX6_put.cls ≠ "java/lang/invoke/MethodHandle" ∧ yX6_put.cls ≠ "java/lang/invoke/VarHandle" ∧ (parseMethodDescriptor yX6_put.desc).map (fun d => d.parameters.length) = some 4 := by decide +kernel
theorem mo_put_met (l : Launch) (Z : MZ) (I : St) (x1 : Int32) (x2 : Int32) (x3 : Int32) (x4 : Int32) (r : (Int32 × St)) (h : mo_put x1 x2 x3 x4 I = some r) : Met l yX6_put (ws_ yX6_put cX6_put 6 (some .int)) mo_put_rm (va_Pc [.ref (mH Z), .int x1, .int x2, .int x3, .int x4] (mS Z I)) (Qwr (some (.int r.1)) (mS Z r.2) (mA Z)) 0 0 (mA Z) := by
  refine Met.ofW (cc := cX6_put) (maxL := 6) (ret := some .int) (by decide) rfl ?_
  intro p e s m args below meth c s₁ B hml hv
  obtain ⟨rfl, hv⟩ := hv
  have hts := atoms_spec (ws := ws_ yX6_put cX6_put 6 (some .int)) B.pre
  have hts : ∀ w ∈ lw_all, w.before _ s = true := fun w h => hts w (List.mem_cons_of_mem _ h)
  have C : SCx p s m _ meth c cX6_put 6 (some .int) RX6 := ⟨B.exec, B.bytes, B.returns, B.notSynchronized, hml, findClass_of_methodNamed B.named, hts⟩
  have hl := lv_entry [.ref (mH Z), .int x1, .int x2, .int x3, .int x4] (n := 6) (Nat.le_of_ble_eq_true rfl)
  rw [lg_entry_eq]
  generalize (lg_sl [.ref (mH Z), .int x1, .int x2, .int x3, .int x4] ++ List.replicate (6 - (lg_sl [.ref (mH Z), .int x1, .int x2, .int x3, .int x4]).length) Slot.unset).toArray = ls at hl ⊢
  have C : MCx p s m _ meth c _ _ _ Z := ⟨C, hv.2⟩
  have hM : mIn Z s I s.heap [] := ⟨hv.1, va_S.rf⟩
  exact mo_put_w0 C x1 x2 x3 x4 I _ _ ls hM hl h

/-! SecondChancesModel.get(III)I -/
def mo_get_rm : Room := { frames := 2, cells := 0, slots := 0, locals := 45 }
def mo_get_P0 (p : Program) (l : Launch) (e : Env) (s : State) (m : MethodId) (args : Array Value) (below : List Frame) (meth : Method) (c : Code) (Z : MZ) (r : (Int32 × St)) (f : Int32 → Int32 → Int32 → St → Option (Int32 × St)) : Prop := ∀ (x1 : Int32) (x2 : Int32) (x3 : Int32) (I : St) (H : Heap) (locs : List Loc) (ls : Array Slot), mIn Z s I H locs → lv_has ls 5 [(0, .ref (mH Z)), (1, .int x1), (2, .int x2), (3, .int x3)] → f x1 x2 x3 I = some r → W p l e mo_get_rm s m args below meth c H locs 0 0 (MQ below (Qwr (some (.int r.1)) (mS Z r.2) (mA Z)) args s 0 0 (mA Z)) (F0 m 0 ls [])
def mo_get_P16 (p : Program) (l : Launch) (e : Env) (s : State) (m : MethodId) (args : Array Value) (below : List Frame) (meth : Method) (c : Code) (Z : MZ) (r : (Int32 × St)) (f : St → Option (Int32 × St)) : Prop := ∀ (I : St) (H : Heap) (locs : List Loc) (ls : Array Slot), mIn Z s I H locs → lv_has ls 5 [] → f  I = some r → W p l e mo_get_rm s m args below meth c H locs 0 0 (MQ below (Qwr (some (.int r.1)) (mS Z r.2) (mA Z)) args s 0 0 (mA Z)) (F0 m 16 ls [])
def mo_get_b16 (I : St) : Option (Int32 × St) :=
  some ((-2147483648 : Int32), I)
theorem mo_get_w16 {p : Program} {l : Launch} {e : Env} {s : State} {m : MethodId} {args : Array Value} {below : List Frame} {meth : Method} {c : Code} {Z : MZ} (C : MCx p s m args meth c cX6_get 5 (some .int) Z) {r : (Int32 × St)} : mo_get_P16 p l e s m args below meth c Z r (mo_get_b16) := by
  intro I H locs ls hM hl h
  obtain ⟨⟨hx, hb, hr, hlocks, hml, hown, hts⟩, hK⟩ := id C
  unfold mo_get_b16 at h
  refine lv_ldcw (v := -2147483648) hx hb hown (hts _ q1469) dX6_get_16 ?_
  have h := so_ h
  subst h
  exact W.iret hx hb hr (fun t ht hW => ⟨rfl, ⟨by rw [ht]; exact hM.1, va_K.moved hW.alike hK⟩, hM.2.F ht⟩) hM.2.2.2 dX6_get_19
def mo_get (x1 : Int32) (x2 : Int32) (x3 : Int32) (I : St) : Option (Int32 × St) :=
  bd_ (mo_isSheet x1) fun v1 =>
  if v1 = 0 then (mo_get_b16  I)
  else (bd_ (mo_in x2 (0 : Int32) (2 : Int32)) fun v3 =>
    if v3 = 0 then (mo_get_b16  I)
    else (bd_ (mo_lacks I x1 x2 x3) fun v5 =>
      if v5 ≤ 0 then (al_ 240 (I 36) (((60 : Int32) * x1) + x3) fun v7 =>
        some (v7, I))
      else (lt_ (upd2 I 38 0 v5) fun I8 =>
        some ((-2147483648 : Int32), I8))))
theorem mo_get_w0 {p : Program} {l : Launch} {e : Env} {s : State} {m : MethodId} {args : Array Value} {below : List Frame} {meth : Method} {c : Code} {Z : MZ} (C : MCx p s m args meth c cX6_get 5 (some .int) Z) {r : (Int32 × St)} : mo_get_P0 p l e s m args below meth c Z r (mo_get) := by
  intro x1 x2 x3 I H locs ls hM hl h
  obtain ⟨⟨hx, hb, hr, hlocks, hml, hown, hts⟩, hK⟩ := id C
  unfold mo_get at h
  refine lv_iload_n hx hb dX6_get_0 rfl (lv_at hl 1 rfl) ?_
  obtain ⟨v1, q_v1, h⟩ := bd_e h
  refine s_roI (As := [.int x1]) (rest := []) C.1 (mo_isSheet_met _ x1 v1 q_v1) (lw_S q1251 q1252 q88 q1253) mo_isSheet_hd ⟨rfl, rfl⟩ ⟨Nat.le_of_ble_eq_true rfl, Nat.le_of_ble_eq_true rfl⟩ ⟨Nat.le_refl _, Nat.le_refl _⟩ rfl hl.1 rfl (Nat.le_of_ble_eq_true rfl) dX6_get_1 ?_
  refine lv_if_eq (tgt := 16) hx hb dX6_get_4 (by decide) (fun c2 => ?_) (fun c2 => ?_)
  · have h := ip_ c2 h
    exact mo_get_w16 C  I _ _ ls hM (lv_sub hl [] rfl) h
  · have h := in_ c2 h
    refine lv_iload_n hx hb dX6_get_7 rfl (lv_at hl 2 rfl) ?_
    refine lv_iconst (v := 0) hx hb dX6_get_8 (by decide) ?_
    refine lv_iconst (v := 2) hx hb dX6_get_9 (by decide) ?_
    obtain ⟨v3, q_v3, h⟩ := bd_e h
    refine s_roI (As := [.int x2, .int (0 : Int32), .int (2 : Int32)]) (rest := []) C.1 (mo_in_met _ x2 (0 : Int32) (2 : Int32) v3 q_v3) (lw_S q1168 q1169 q88 q1170) mo_in_hd ⟨rfl, rfl⟩ ⟨Nat.le_of_ble_eq_true rfl, Nat.le_of_ble_eq_true rfl⟩ ⟨Nat.le_refl _, Nat.le_refl _⟩ rfl hl.1 rfl (Nat.le_of_ble_eq_true rfl) dX6_get_10 ?_
    refine lv_if_ne (tgt := 20) hx hb dX6_get_13 (by decide) (fun c4 => ?_) (fun c4 => ?_)
    · have h := in_ c4 h
      refine lv_aload_n hx hb dX6_get_20 rfl (lv_at hl 0 rfl) ?_
      refine lv_iload_n hx hb dX6_get_21 rfl (lv_at hl 1 rfl) ?_
      refine lv_iload_n hx hb dX6_get_22 rfl (lv_at hl 2 rfl) ?_
      refine lv_iload_n hx hb dX6_get_23 rfl (lv_at hl 3 rfl) ?_
      obtain ⟨v5, q_v5, h⟩ := bd_e h
      refine m_roI (As := [.int x1, .int x2, .int x3]) (rest := []) C hM.1 (mo_lacks_met _ Z I x1 x2 x3 v5 q_v5) (lw_V q1457 q1459 qs75 q88 q1460) mo_lacks_hd ⟨rfl, rfl⟩ ⟨Nat.le_of_ble_eq_true rfl, Nat.le_of_ble_eq_true rfl⟩ ⟨Nat.le_refl _, Nat.le_refl _⟩ rfl hl.1 rfl (Nat.le_of_ble_eq_true rfl) dX6_get_24 ?_
      refine lv_istore (lv' := [(4, .int v5), (0, .ref (mH Z)), (1, .int x1), (2, .int x2), (3, .int x3)]) hx hb dX6_get_27 hl (by decide) rfl (fun ls hl => ?_)
      refine lv_iload hx hb dX6_get_29 (lv_at hl 0 rfl) ?_
      refine lv_if_le (tgt := 44) hx hb dX6_get_31 (by decide) (fun c6 => ?_) (fun c6 => ?_)
      · have h := ip_ c6 h
        refine lv_aload_n hx hb dX6_get_44 rfl (lv_at hl 1 rfl) ?_
        refine gm36 C hM.1 dX6_get_45 ?_
        refine lv_bipush (v := 60) hx hb dX6_get_48 (by decide) ?_
        refine lv_iload_n hx hb dX6_get_50 rfl (lv_at hl 2 rfl) ?_
        refine lv_imul hx hb dX6_get_51 ?_
        refine lv_iload_n hx hb dX6_get_52 rfl (lv_at hl 4 rfl) ?_
        refine lv_iadd hx hb dX6_get_53 ?_
        obtain ⟨i_v7, h⟩ := al_e h
        refine m_ald C hM.1 (pos := 28) (k := 36) rfl rfl i_v7 dX6_get_54 (fun v7 e_v7 => ?_)
        have h := h v7 e_v7
        have h := so_ h
        subst h
        exact W.iret hx hb hr (fun t ht hW => ⟨rfl, ⟨by rw [ht]; exact hM.1, va_K.moved hW.alike hK⟩, hM.2.F ht⟩) hM.2.2.2 dX6_get_55
      · have h := in_ c6 h
        refine lv_aload_n hx hb dX6_get_34 rfl (lv_at hl 1 rfl) ?_
        refine lv_iload hx hb dX6_get_35 (lv_at hl 0 rfl) ?_
        refine pm38 C hM dX6_get_37 (fun H locs I8 e_I8 hM => ?_)
        have h := lt_i h e_I8
        refine lv_ldcw (v := -2147483648) hx hb hown (hts _ q1469) dX6_get_40 ?_
        have h := so_ h
        subst h
        exact W.iret hx hb hr (fun t ht hW => ⟨rfl, ⟨by rw [ht]; exact hM.1, va_K.moved hW.alike hK⟩, hM.2.F ht⟩) hM.2.2.2 dX6_get_43
    · have h := ip_ c4 h
      exact mo_get_w16 C  I _ _ ls hM (lv_sub hl [] rfl) h
theorem mo_get_hd : yX6_get.cls = RX6 ∧ yX6_get.cls ≠ "java/lang/invoke/MethodHandle" ∧ yX6_get.cls ≠ "java/lang/invoke/VarHandle" ∧ (parseMethodDescriptor yX6_get.desc).map (fun d => d.parameters.length) = some 3 := by decide +kernel
theorem mo_get_met (l : Launch) (Z : MZ) (I : St) (x1 : Int32) (x2 : Int32) (x3 : Int32) (r : (Int32 × St)) (h : mo_get x1 x2 x3 I = some r) : Met l yX6_get (ws_ yX6_get cX6_get 5 (some .int)) mo_get_rm (va_Pc [.ref (mH Z), .int x1, .int x2, .int x3] (mS Z I)) (Qwr (some (.int r.1)) (mS Z r.2) (mA Z)) 0 0 (mA Z) := by
  refine Met.ofW (cc := cX6_get) (maxL := 5) (ret := some .int) (by decide) rfl ?_
  intro p e s m args below meth c s₁ B hml hv
  obtain ⟨rfl, hv⟩ := hv
  have hts := atoms_spec (ws := ws_ yX6_get cX6_get 5 (some .int)) B.pre
  have hts : ∀ w ∈ lw_all, w.before _ s = true := fun w h => hts w (List.mem_cons_of_mem _ h)
  have C : SCx p s m _ meth c cX6_get 5 (some .int) RX6 := ⟨B.exec, B.bytes, B.returns, B.notSynchronized, hml, findClass_of_methodNamed B.named, hts⟩
  have hl := lv_entry [.ref (mH Z), .int x1, .int x2, .int x3] (n := 5) (Nat.le_of_ble_eq_true rfl)
  rw [lg_entry_eq]
  generalize (lg_sl [.ref (mH Z), .int x1, .int x2, .int x3] ++ List.replicate (5 - (lg_sl [.ref (mH Z), .int x1, .int x2, .int x3]).length) Slot.unset).toArray = ls at hl ⊢
  have C : MCx p s m _ meth c _ _ _ Z := ⟨C, hv.2⟩
  have hM : mIn Z s I s.heap [] := ⟨hv.1, va_S.rf⟩
  exact mo_get_w0 C x1 x2 x3 I _ _ ls hM hl h

/-! SecondChancesModel.copy(IIIII)I -/
def mo_copy_rm : Room := { frames := 2, cells := 0, slots := 0, locals := 42 }
def mo_copy_P0 (p : Program) (l : Launch) (e : Env) (s : State) (m : MethodId) (args : Array Value) (below : List Frame) (meth : Method) (c : Code) (Z : MZ) (r : (Int32 × St)) (f : Int32 → Int32 → Int32 → Int32 → Int32 → St → Option (Int32 × St)) : Prop := ∀ (x1 : Int32) (x2 : Int32) (x3 : Int32) (x4 : Int32) (x5 : Int32) (I : St) (H : Heap) (locs : List Loc) (ls : Array Slot), mIn Z s I H locs → lv_has ls 7 [(0, .ref (mH Z)), (1, .int x1), (2, .int x2), (3, .int x3), (4, .int x4), (5, .int x5)] → f x1 x2 x3 x4 x5 I = some r → W p l e mo_copy_rm s m args below meth c H locs 0 0 (MQ below (Qwr (some (.int r.1)) (mS Z r.2) (mA Z)) args s 0 0 (mA Z)) (F0 m 0 ls [])
def mo_copy_P120 (p : Program) (l : Launch) (e : Env) (s : State) (m : MethodId) (args : Array Value) (below : List Frame) (meth : Method) (c : Code) (Z : MZ) (r : (Int32 × St)) (f : Int32 → Int32 → Int32 → Int32 → Int32 → Int32 → St → Option (Int32 × St)) : Prop := ∀ (x1 : Int32) (x2 : Int32) (x3 : Int32) (x4 : Int32) (x5 : Int32) (x6 : Int32) (I : St) (H : Heap) (locs : List Loc) (ls : Array Slot), mIn Z s I H locs → lv_has ls 7 [(0, .ref (mH Z)), (1, .int x1), (2, .int x2), (3, .int x3), (4, .int x4), (5, .int x5), (6, .int x6)] → f x1 x2 x3 x4 x5 x6 I = some r → W p l e mo_copy_rm s m args below meth c H locs 0 0 (MQ below (Qwr (some (.int r.1)) (mS Z r.2) (mA Z)) args s 0 0 (mA Z)) (F0 m 120 ls [])
def mo_copy_P157 (p : Program) (l : Launch) (e : Env) (s : State) (m : MethodId) (args : Array Value) (below : List Frame) (meth : Method) (c : Code) (Z : MZ) (r : (Int32 × St)) (f : Int32 → Int32 → Int32 → Int32 → St → Option (Int32 × St)) : Prop := ∀ (x3 : Int32) (x4 : Int32) (x5 : Int32) (x6 : Int32) (I : St) (H : Heap) (locs : List Loc) (ls : Array Slot), mIn Z s I H locs → lv_has ls 7 [(0, .ref (mH Z)), (3, .int x3), (4, .int x4), (5, .int x5), (6, .int x6)] → f x3 x4 x5 x6 I = some r → W p l e mo_copy_rm s m args below meth c H locs 0 0 (MQ below (Qwr (some (.int r.1)) (mS Z r.2) (mA Z)) args s 0 0 (mA Z)) (F0 m 157 ls [])
def mo_copy_P111 (p : Program) (l : Launch) (e : Env) (s : State) (m : MethodId) (args : Array Value) (below : List Frame) (meth : Method) (c : Code) (Z : MZ) (r : (Int32 × St)) (f : St → Option (Int32 × St)) : Prop := ∀ (I : St) (H : Heap) (locs : List Loc) (ls : Array Slot), mIn Z s I H locs → lv_has ls 7 [(0, .ref (mH Z))] → f  I = some r → W p l e mo_copy_rm s m args below meth c H locs 0 0 (MQ below (Qwr (some (.int r.1)) (mS Z r.2) (mA Z)) args s 0 0 (mA Z)) (F0 m 111 ls [])
def mo_copy_P35 (p : Program) (l : Launch) (e : Env) (s : State) (m : MethodId) (args : Array Value) (below : List Frame) (meth : Method) (c : Code) (Z : MZ) (r : (Int32 × St)) (f : St → Option (Int32 × St)) : Prop := ∀ (I : St) (H : Heap) (locs : List Loc) (ls : Array Slot), mIn Z s I H locs → lv_has ls 7 [(0, .ref (mH Z))] → f  I = some r → W p l e mo_copy_rm s m args below meth c H locs 0 0 (MQ below (Qwr (some (.int r.1)) (mS Z r.2) (mA Z)) args s 0 0 (mA Z)) (F0 m 35 ls [])
def mo_copy_b35 (I : St) : Option (Int32 × St) :=
  bd2_ (mo_meets (1 : Int32) I) fun v2 I1 =>
  some (v2, I1)
theorem mo_copy_w35 {p : Program} {l : Launch} {e : Env} {s : State} {m : MethodId} {args : Array Value} {below : List Frame} {meth : Method} {c : Code} {Z : MZ} (C : MCx p s m args meth c cX6_copy 7 (some .int) Z) {r : (Int32 × St)} : mo_copy_P35 p l e s m args below meth c Z r (mo_copy_b35) := by
  intro I H locs ls hM hl h
  obtain ⟨⟨hx, hb, hr, hlocks, hml, hown, hts⟩, hK⟩ := id C
  unfold mo_copy_b35 at h
  refine lv_aload_n hx hb dX6_copy_35 rfl (lv_at hl 0 rfl) ?_
  refine lv_iconst (v := 1) hx hb dX6_copy_36 (by decide) ?_
  obtain ⟨v2, I1, q_I1, h⟩ := bd2_e h
  refine m_wrI (As := [.int (1 : Int32)]) (rest := []) C hM (mo_meets_met _ Z I (1 : Int32) (v2, I1) q_I1) (lw_V q1254 q1256 qs50 q88 q1257) mo_meets_hd ⟨rfl, rfl⟩ ⟨Nat.le_of_ble_eq_true rfl, Nat.le_of_ble_eq_true rfl⟩ ⟨Nat.le_refl _, Nat.le_refl _⟩ rfl hl.1 rfl (Nat.le_of_ble_eq_true rfl) dX6_copy_37 (fun H locs hM => ?_)
  have h := so_ h
  subst h
  exact W.iret hx hb hr (fun t ht hW => ⟨rfl, ⟨by rw [ht]; exact hM.1, va_K.moved hW.alike hK⟩, hM.2.F ht⟩) hM.2.2.2 dX6_copy_40
def mo_copy_b111 (I : St) : Option (Int32 × St) :=
  bd2_ (mo_meets (2 : Int32) I) fun v2 I1 =>
  some (v2, I1)
theorem mo_copy_w111 {p : Program} {l : Launch} {e : Env} {s : State} {m : MethodId} {args : Array Value} {below : List Frame} {meth : Method} {c : Code} {Z : MZ} (C : MCx p s m args meth c cX6_copy 7 (some .int) Z) {r : (Int32 × St)} : mo_copy_P111 p l e s m args below meth c Z r (mo_copy_b111) := by
  intro I H locs ls hM hl h
  obtain ⟨⟨hx, hb, hr, hlocks, hml, hown, hts⟩, hK⟩ := id C
  unfold mo_copy_b111 at h
  refine lv_aload_n hx hb dX6_copy_111 rfl (lv_at hl 0 rfl) ?_
  refine lv_iconst (v := 2) hx hb dX6_copy_112 (by decide) ?_
  obtain ⟨v2, I1, q_I1, h⟩ := bd2_e h
  refine m_wrI (As := [.int (2 : Int32)]) (rest := []) C hM (mo_meets_met _ Z I (2 : Int32) (v2, I1) q_I1) (lw_V q1254 q1256 qs50 q88 q1257) mo_meets_hd ⟨rfl, rfl⟩ ⟨Nat.le_of_ble_eq_true rfl, Nat.le_of_ble_eq_true rfl⟩ ⟨Nat.le_refl _, Nat.le_refl _⟩ rfl hl.1 rfl (Nat.le_of_ble_eq_true rfl) dX6_copy_113 (fun H locs hM => ?_)
  have h := so_ h
  subst h
  exact W.iret hx hb hr (fun t ht hW => ⟨rfl, ⟨by rw [ht]; exact hM.1, va_K.moved hW.alike hK⟩, hM.2.F ht⟩) hM.2.2.2 dX6_copy_116
def mo_copy_b157 (k157 : Int32 → Int32 → Int32 → Int32 → St → Option (Int32 × St)) (x3 : Int32) (x4 : Int32) (x5 : Int32) (x6 : Int32) (I : St) : Option (Int32 × St) :=
  if x5 ≤ x6 then (some ((1 : Int32), I))
  else (al_ 60 (I 37) x6 fun v2 =>
    as_ 240 36 I ((((60 : Int32) * x3) + x4) + x6) v2 fun I3 =>
    k157 x3 x4 x5 (x6 + 1) I3)
theorem mo_copy_w157 {p : Program} {l : Launch} {e : Env} {s : State} {m : MethodId} {args : Array Value} {below : List Frame} {meth : Method} {c : Code} {Z : MZ} (C : MCx p s m args meth c cX6_copy 7 (some .int) Z) {r : (Int32 × St)} {k157 : Int32 → Int32 → Int32 → Int32 → St → Option (Int32 × St)} (hk157 : mo_copy_P157 p l e s m args below meth c Z r k157) : mo_copy_P157 p l e s m args below meth c Z r (mo_copy_b157 k157) := by
  intro x3 x4 x5 x6 I H locs ls hM hl h
  obtain ⟨⟨hx, hb, hr, hlocks, hml, hown, hts⟩, hK⟩ := id C
  unfold mo_copy_b157 at h
  refine lv_iload hx hb dX6_copy_157 (lv_at hl 4 rfl) ?_
  refine lv_iload hx hb dX6_copy_159 (lv_at hl 3 rfl) ?_
  refine lv_icmp_ge (tgt := 192) hx hb dX6_copy_161 (by decide) (fun c1 => ?_) (fun c1 => ?_)
  · have h := ip_ c1 h
    refine lv_iconst (v := 1) hx hb dX6_copy_192 (by decide) ?_
    have h := so_ h
    subst h
    exact W.iret hx hb hr (fun t ht hW => ⟨rfl, ⟨by rw [ht]; exact hM.1, va_K.moved hW.alike hK⟩, hM.2.F ht⟩) hM.2.2.2 dX6_copy_193
  · have h := in_ c1 h
    refine lv_aload_n hx hb dX6_copy_164 rfl (lv_at hl 0 rfl) ?_
    refine gm36 C hM.1 dX6_copy_165 ?_
    refine lv_bipush (v := 60) hx hb dX6_copy_168 (by decide) ?_
    refine lv_iload_n hx hb dX6_copy_170 rfl (lv_at hl 1 rfl) ?_
    refine lv_imul hx hb dX6_copy_171 ?_
    refine lv_iload hx hb dX6_copy_172 (lv_at hl 2 rfl) ?_
    refine lv_iadd hx hb dX6_copy_174 ?_
    refine lv_iload hx hb dX6_copy_175 (lv_at hl 4 rfl) ?_
    refine lv_iadd hx hb dX6_copy_177 ?_
    refine lv_aload_n hx hb dX6_copy_178 rfl (lv_at hl 0 rfl) ?_
    refine gm37 C hM.1 dX6_copy_179 ?_
    refine lv_iload hx hb dX6_copy_182 (lv_at hl 4 rfl) ?_
    obtain ⟨i_v2, h⟩ := al_e h
    refine m_ald C hM.1 (pos := 29) (k := 37) rfl rfl i_v2 dX6_copy_184 (fun v2 e_v2 => ?_)
    have h := h v2 e_v2
    obtain ⟨i_I3, h⟩ := as_e h
    refine m_ast C hM (pos := 28) (k := 36) rfl rfl i_I3 dX6_copy_185 (fun H locs I3 e_I3 hM => ?_)
    have h := h I3 e_I3
    refine lv_iinc (v := (x6 + 1)) (lv' := [(6, .int (x6 + 1)), (0, .ref (mH Z)), (3, .int x3), (4, .int x4), (5, .int x5)]) hx hb dX6_copy_186 hl (k := 4) rfl rfl (by decide) rfl (fun ls hl => ?_)
    refine lv_goto (tgt := 157) hx hb dX6_copy_189 (by decide) ?_
    exact hk157 x3 x4 x5 (x6 + 1) I3 _ _ ls hM (lv_sub hl [1, 2, 3, 4, 0] rfl) h
def mo_copy_l157 (n : Nat) : Int32 → Int32 → Int32 → Int32 → St → Option (Int32 × St) := lp (fun _ _ _ _ _ => none) (mo_copy_b157) n
theorem mo_copy_lw157 {p : Program} {l : Launch} {e : Env} {s : State} {m : MethodId} {args : Array Value} {below : List Frame} {meth : Method} {c : Code} {Z : MZ} (C : MCx p s m args meth c cX6_copy 7 (some .int) Z) {r : (Int32 × St)} : ∀ n : Nat, mo_copy_P157 p l e s m args below meth c Z r (mo_copy_l157 n) := by
  intro n
  induction n with
  | zero => intro x3 x4 x5 x6 I H locs ls hM hl h; exact no_ h
  | succ n ih => exact mo_copy_w157 C ih
def mo_copy_b120 (k120 : Int32 → Int32 → Int32 → Int32 → Int32 → Int32 → St → Option (Int32 × St)) (x1 : Int32) (x2 : Int32) (x3 : Int32) (x4 : Int32) (x5 : Int32) (x6 : Int32) (I : St) : Option (Int32 × St) :=
  if x5 ≤ x6 then (mo_copy_l157 FU x3 x4 x5 (0 : Int32) I)
  else (al_ 240 (I 36) ((((60 : Int32) * x1) + x2) + x6) fun v2 =>
    as_ 60 37 I x6 v2 fun I3 =>
    k120 x1 x2 x3 x4 x5 (x6 + 1) I3)
theorem mo_copy_w120 {p : Program} {l : Launch} {e : Env} {s : State} {m : MethodId} {args : Array Value} {below : List Frame} {meth : Method} {c : Code} {Z : MZ} (C : MCx p s m args meth c cX6_copy 7 (some .int) Z) {r : (Int32 × St)} {k120 : Int32 → Int32 → Int32 → Int32 → Int32 → Int32 → St → Option (Int32 × St)} (hk120 : mo_copy_P120 p l e s m args below meth c Z r k120) : mo_copy_P120 p l e s m args below meth c Z r (mo_copy_b120 k120) := by
  intro x1 x2 x3 x4 x5 x6 I H locs ls hM hl h
  obtain ⟨⟨hx, hb, hr, hlocks, hml, hown, hts⟩, hK⟩ := id C
  unfold mo_copy_b120 at h
  refine lv_iload hx hb dX6_copy_120 (lv_at hl 6 rfl) ?_
  refine lv_iload hx hb dX6_copy_122 (lv_at hl 5 rfl) ?_
  refine lv_icmp_ge (tgt := 154) hx hb dX6_copy_124 (by decide) (fun c1 => ?_) (fun c1 => ?_)
  · have h := ip_ c1 h
    refine lv_iconst (v := 0) hx hb dX6_copy_154 (by decide) ?_
    refine lv_istore (lv' := [(6, .int (0 : Int32)), (0, .ref (mH Z)), (1, .int x1), (2, .int x2), (3, .int x3), (4, .int x4), (5, .int x5)]) hx hb dX6_copy_155 hl (by decide) rfl (fun ls hl => ?_)
    exact mo_copy_lw157 C FU x3 x4 x5 (0 : Int32) I _ _ ls hM (lv_sub hl [1, 4, 5, 6, 0] rfl) h
  · have h := in_ c1 h
    refine lv_aload_n hx hb dX6_copy_127 rfl (lv_at hl 0 rfl) ?_
    refine gm37 C hM.1 dX6_copy_128 ?_
    refine lv_iload hx hb dX6_copy_131 (lv_at hl 6 rfl) ?_
    refine lv_aload_n hx hb dX6_copy_133 rfl (lv_at hl 0 rfl) ?_
    refine gm36 C hM.1 dX6_copy_134 ?_
    refine lv_bipush (v := 60) hx hb dX6_copy_137 (by decide) ?_
    refine lv_iload_n hx hb dX6_copy_139 rfl (lv_at hl 1 rfl) ?_
    refine lv_imul hx hb dX6_copy_140 ?_
    refine lv_iload_n hx hb dX6_copy_141 rfl (lv_at hl 2 rfl) ?_
    refine lv_iadd hx hb dX6_copy_142 ?_
    refine lv_iload hx hb dX6_copy_143 (lv_at hl 6 rfl) ?_
    refine lv_iadd hx hb dX6_copy_145 ?_
    obtain ⟨i_v2, h⟩ := al_e h
    refine m_ald C hM.1 (pos := 28) (k := 36) rfl rfl i_v2 dX6_copy_146 (fun v2 e_v2 => ?_)
    have h := h v2 e_v2
    obtain ⟨i_I3, h⟩ := as_e h
    refine m_ast C hM (pos := 29) (k := 37) rfl rfl i_I3 dX6_copy_147 (fun H locs I3 e_I3 hM => ?_)
    have h := h I3 e_I3
    refine lv_iinc (v := (x6 + 1)) (lv' := [(6, .int (x6 + 1)), (0, .ref (mH Z)), (1, .int x1), (2, .int x2), (3, .int x3), (4, .int x4), (5, .int x5)]) hx hb dX6_copy_148 hl (k := 6) rfl rfl (by decide) rfl (fun ls hl => ?_)
    refine lv_goto (tgt := 120) hx hb dX6_copy_151 (by decide) ?_
    exact hk120 x1 x2 x3 x4 x5 (x6 + 1) I3 _ _ ls hM (lv_sub hl [1, 2, 3, 4, 5, 6, 0] rfl) h
def mo_copy_l120 (n : Nat) : Int32 → Int32 → Int32 → Int32 → Int32 → Int32 → St → Option (Int32 × St) := lp (fun _ _ _ _ _ _ _ => none) (mo_copy_b120) n
theorem mo_copy_lw120 {p : Program} {l : Launch} {e : Env} {s : State} {m : MethodId} {args : Array Value} {below : List Frame} {meth : Method} {c : Code} {Z : MZ} (C : MCx p s m args meth c cX6_copy 7 (some .int) Z) {r : (Int32 × St)} : ∀ n : Nat, mo_copy_P120 p l e s m args below meth c Z r (mo_copy_l120 n) := by
  intro n
  induction n with
  | zero => intro x1 x2 x3 x4 x5 x6 I H locs ls hM hl h; exact no_ h
  | succ n ih => exact mo_copy_w120 C ih
def mo_copy (x1 : Int32) (x2 : Int32) (x3 : Int32) (x4 : Int32) (x5 : Int32) (I : St) : Option (Int32 × St) :=
  bd_ (mo_isSheet x1) fun v1 =>
  if v1 = 0 then (some ((-2 : Int32), I))
  else (bd_ (mo_isSheet x3) fun v3 =>
    if v3 = 0 then (some ((-2 : Int32), I))
    else (al_ 4 (I 33) x1 fun v5 =>
      if v5 = 0 then (mo_copy_b35  I)
      else (al_ 4 (I 33) x3 fun v7 =>
        if v7 = 0 then (mo_copy_b35  I)
        else (al_ 4 (I 34) x1 fun v9 =>
          al_ 4 (I 34) x3 fun v10 =>
          if v9 = v10 then (if x2 < 0 then (mo_copy_b111  I)
            else (if x4 < 0 then (mo_copy_b111  I)
              else (if x5 < 0 then (mo_copy_b111  I)
                else (al_ 4 (I 35) x1 fun v15 =>
                  if 0 < (lg_cmp ((x2.toInt64) + (x5.toInt64)) (v15.toInt64)) then (mo_copy_b111  I)
                  else (al_ 4 (I 35) x3 fun v17 =>
                    if (lg_cmp ((x4.toInt64) + (x5.toInt64)) (v17.toInt64)) ≤ 0 then (mo_copy_l120 FU x1 x2 x3 x4 x5 (0 : Int32) I)
                    else (mo_copy_b111  I))))))
          else (bd2_ (mo_meets (4 : Int32) I) fun v20 I19 =>
            some (v20, I19))))))
theorem mo_copy_w0 {p : Program} {l : Launch} {e : Env} {s : State} {m : MethodId} {args : Array Value} {below : List Frame} {meth : Method} {c : Code} {Z : MZ} (C : MCx p s m args meth c cX6_copy 7 (some .int) Z) {r : (Int32 × St)} : mo_copy_P0 p l e s m args below meth c Z r (mo_copy) := by
  intro x1 x2 x3 x4 x5 I H locs ls hM hl h
  obtain ⟨⟨hx, hb, hr, hlocks, hml, hown, hts⟩, hK⟩ := id C
  unfold mo_copy at h
  refine lv_iload_n hx hb dX6_copy_0 rfl (lv_at hl 1 rfl) ?_
  obtain ⟨v1, q_v1, h⟩ := bd_e h
  refine s_roI (As := [.int x1]) (rest := []) C.1 (mo_isSheet_met _ x1 v1 q_v1) (lw_S q1251 q1252 q88 q1253) mo_isSheet_hd ⟨rfl, rfl⟩ ⟨Nat.le_of_ble_eq_true rfl, Nat.le_of_ble_eq_true rfl⟩ ⟨Nat.le_refl _, Nat.le_refl _⟩ rfl hl.1 rfl (Nat.le_of_ble_eq_true rfl) dX6_copy_1 ?_
  refine lv_if_eq (tgt := 14) hx hb dX6_copy_4 (by decide) (fun c2 => ?_) (fun c2 => ?_)
  · have h := ip_ c2 h
    refine lv_bipush (v := -2) hx hb dX6_copy_14 (by decide) ?_
    have h := so_ h
    subst h
    exact W.iret hx hb hr (fun t ht hW => ⟨rfl, ⟨by rw [ht]; exact hM.1, va_K.moved hW.alike hK⟩, hM.2.F ht⟩) hM.2.2.2 dX6_copy_16
  · have h := in_ c2 h
    refine lv_iload_n hx hb dX6_copy_7 rfl (lv_at hl 3 rfl) ?_
    obtain ⟨v3, q_v3, h⟩ := bd_e h
    refine s_roI (As := [.int x3]) (rest := []) C.1 (mo_isSheet_met _ x3 v3 q_v3) (lw_S q1251 q1252 q88 q1253) mo_isSheet_hd ⟨rfl, rfl⟩ ⟨Nat.le_of_ble_eq_true rfl, Nat.le_of_ble_eq_true rfl⟩ ⟨Nat.le_refl _, Nat.le_refl _⟩ rfl hl.1 rfl (Nat.le_of_ble_eq_true rfl) dX6_copy_8 ?_
    refine lv_if_ne (tgt := 17) hx hb dX6_copy_11 (by decide) (fun c4 => ?_) (fun c4 => ?_)
    · have h := in_ c4 h
      refine lv_aload_n hx hb dX6_copy_17 rfl (lv_at hl 0 rfl) ?_
      refine gm33 C hM.1 dX6_copy_18 ?_
      refine lv_iload_n hx hb dX6_copy_21 rfl (lv_at hl 1 rfl) ?_
      obtain ⟨i_v5, h⟩ := al_e h
      refine m_zald C hM.1 (pos := 25) (k := 33) rfl rfl i_v5 dX6_copy_22 (fun v5 e_v5 => ?_)
      have h := h v5 e_v5
      refine lv_if_eq (tgt := 35) hx hb dX6_copy_23 (by decide) (fun c6 => ?_) (fun c6 => ?_)
      · have h := ip_ c6 h
        exact mo_copy_w35 C  I _ _ ls hM (lv_sub hl [0] rfl) h
      · have h := in_ c6 h
        refine lv_aload_n hx hb dX6_copy_26 rfl (lv_at hl 0 rfl) ?_
        refine gm33 C hM.1 dX6_copy_27 ?_
        refine lv_iload_n hx hb dX6_copy_30 rfl (lv_at hl 3 rfl) ?_
        obtain ⟨i_v7, h⟩ := al_e h
        refine m_zald C hM.1 (pos := 25) (k := 33) rfl rfl i_v7 dX6_copy_31 (fun v7 e_v7 => ?_)
        have h := h v7 e_v7
        refine lv_if_ne (tgt := 41) hx hb dX6_copy_32 (by decide) (fun c8 => ?_) (fun c8 => ?_)
        · have h := in_ c8 h
          refine lv_aload_n hx hb dX6_copy_41 rfl (lv_at hl 0 rfl) ?_
          refine gm34 C hM.1 dX6_copy_42 ?_
          refine lv_iload_n hx hb dX6_copy_45 rfl (lv_at hl 1 rfl) ?_
          obtain ⟨i_v9, h⟩ := al_e h
          refine m_ald C hM.1 (pos := 26) (k := 34) rfl rfl i_v9 dX6_copy_46 (fun v9 e_v9 => ?_)
          have h := h v9 e_v9
          refine lv_aload_n hx hb dX6_copy_47 rfl (lv_at hl 0 rfl) ?_
          refine gm34 C hM.1 dX6_copy_48 ?_
          refine lv_iload_n hx hb dX6_copy_51 rfl (lv_at hl 3 rfl) ?_
          obtain ⟨i_v10, h⟩ := al_e h
          refine m_ald C hM.1 (pos := 26) (k := 34) rfl rfl i_v10 dX6_copy_52 (fun v10 e_v10 => ?_)
          have h := h v10 e_v10
          refine lv_icmp_eq (tgt := 62) hx hb dX6_copy_53 (by decide) (fun c11 => ?_) (fun c11 => ?_)
          · have h := ip_ c11 h
            refine lv_iload_n hx hb dX6_copy_62 rfl (lv_at hl 2 rfl) ?_
            refine lv_if_lt (tgt := 111) hx hb dX6_copy_63 (by decide) (fun c12 => ?_) (fun c12 => ?_)
            · have h := ip_ c12 h
              exact mo_copy_w111 C  I _ _ ls hM (lv_sub hl [0] rfl) h
            · have h := in_ c12 h
              refine lv_iload hx hb dX6_copy_66 (lv_at hl 4 rfl) ?_
              refine lv_if_lt (tgt := 111) hx hb dX6_copy_68 (by decide) (fun c13 => ?_) (fun c13 => ?_)
              · have h := ip_ c13 h
                exact mo_copy_w111 C  I _ _ ls hM (lv_sub hl [0] rfl) h
              · have h := in_ c13 h
                refine lv_iload hx hb dX6_copy_71 (lv_at hl 5 rfl) ?_
                refine lv_if_lt (tgt := 111) hx hb dX6_copy_73 (by decide) (fun c14 => ?_) (fun c14 => ?_)
                · have h := ip_ c14 h
                  exact mo_copy_w111 C  I _ _ ls hM (lv_sub hl [0] rfl) h
                · have h := in_ c14 h
                  refine lv_iload_n hx hb dX6_copy_76 rfl (lv_at hl 2 rfl) ?_
                  refine lv_i2l hx hb dX6_copy_77 rfl ?_
                  refine lv_iload hx hb dX6_copy_78 (lv_at hl 5 rfl) ?_
                  refine lv_i2l hx hb dX6_copy_80 rfl ?_
                  refine lv_ladd hx hb dX6_copy_81 ?_
                  refine lv_aload_n hx hb dX6_copy_82 rfl (lv_at hl 0 rfl) ?_
                  refine gm35 C hM.1 dX6_copy_83 ?_
                  refine lv_iload_n hx hb dX6_copy_86 rfl (lv_at hl 1 rfl) ?_
                  obtain ⟨i_v15, h⟩ := al_e h
                  refine m_ald C hM.1 (pos := 27) (k := 35) rfl rfl i_v15 dX6_copy_87 (fun v15 e_v15 => ?_)
                  have h := h v15 e_v15
                  refine lv_i2l hx hb dX6_copy_88 rfl ?_
                  refine W.lcmp hx hb dX6_copy_89 ?_
                  refine lv_if_gt (tgt := 111) hx hb dX6_copy_90 (by decide) (fun c16 => ?_) (fun c16 => ?_)
                  · have h := ip_ c16 h
                    exact mo_copy_w111 C  I _ _ ls hM (lv_sub hl [0] rfl) h
                  · have h := in_ c16 h
                    refine lv_iload hx hb dX6_copy_93 (lv_at hl 4 rfl) ?_
                    refine lv_i2l hx hb dX6_copy_95 rfl ?_
                    refine lv_iload hx hb dX6_copy_96 (lv_at hl 5 rfl) ?_
                    refine lv_i2l hx hb dX6_copy_98 rfl ?_
                    refine lv_ladd hx hb dX6_copy_99 ?_
                    refine lv_aload_n hx hb dX6_copy_100 rfl (lv_at hl 0 rfl) ?_
                    refine gm35 C hM.1 dX6_copy_101 ?_
                    refine lv_iload_n hx hb dX6_copy_104 rfl (lv_at hl 3 rfl) ?_
                    obtain ⟨i_v17, h⟩ := al_e h
                    refine m_ald C hM.1 (pos := 27) (k := 35) rfl rfl i_v17 dX6_copy_105 (fun v17 e_v17 => ?_)
                    have h := h v17 e_v17
                    refine lv_i2l hx hb dX6_copy_106 rfl ?_
                    refine W.lcmp hx hb dX6_copy_107 ?_
                    refine lv_if_le (tgt := 117) hx hb dX6_copy_108 (by decide) (fun c18 => ?_) (fun c18 => ?_)
                    · have h := ip_ c18 h
                      refine lv_iconst (v := 0) hx hb dX6_copy_117 (by decide) ?_
                      refine lv_istore (lv' := [(6, .int (0 : Int32)), (0, .ref (mH Z)), (1, .int x1), (2, .int x2), (3, .int x3), (4, .int x4), (5, .int x5)]) hx hb dX6_copy_118 hl (by decide) rfl (fun ls hl => ?_)
                      exact mo_copy_lw120 C FU x1 x2 x3 x4 x5 (0 : Int32) I _ _ ls hM (lv_sub hl [1, 2, 3, 4, 5, 6, 0] rfl) h
                    · have h := in_ c18 h
                      exact mo_copy_w111 C  I _ _ ls hM (lv_sub hl [0] rfl) h
          · have h := in_ c11 h
            refine lv_aload_n hx hb dX6_copy_56 rfl (lv_at hl 0 rfl) ?_
            refine lv_iconst (v := 4) hx hb dX6_copy_57 (by decide) ?_
            obtain ⟨v20, I19, q_I19, h⟩ := bd2_e h
            refine m_wrI (As := [.int (4 : Int32)]) (rest := []) C hM (mo_meets_met _ Z I (4 : Int32) (v20, I19) q_I19) (lw_V q1254 q1256 qs50 q88 q1257) mo_meets_hd ⟨rfl, rfl⟩ ⟨Nat.le_of_ble_eq_true rfl, Nat.le_of_ble_eq_true rfl⟩ ⟨Nat.le_refl _, Nat.le_refl _⟩ rfl hl.1 rfl (Nat.le_of_ble_eq_true rfl) dX6_copy_58 (fun H locs hM => ?_)
            have h := so_ h
            subst h
            exact W.iret hx hb hr (fun t ht hW => ⟨rfl, ⟨by rw [ht]; exact hM.1, va_K.moved hW.alike hK⟩, hM.2.F ht⟩) hM.2.2.2 dX6_copy_61
        · have h := ip_ c8 h
          exact mo_copy_w35 C  I _ _ ls hM (lv_sub hl [0] rfl) h
    · have h := ip_ c4 h
      refine lv_bipush (v := -2) hx hb dX6_copy_14 (by decide) ?_
      have h := so_ h
      subst h
      exact W.iret hx hb hr (fun t ht hW => ⟨rfl, ⟨by rw [ht]; exact hM.1, va_K.moved hW.alike hK⟩, hM.2.F ht⟩) hM.2.2.2 dX6_copy_16
theorem mo_copy_hd : yX6_copy.cls = RX6 ∧ yX6_copy.cls ≠ "java/lang/invoke/MethodHandle" ∧ yX6_copy.cls ≠ "java/lang/invoke/VarHandle" ∧ (parseMethodDescriptor yX6_copy.desc).map (fun d => d.parameters.length) = some 5 := by decide +kernel
theorem mo_copy_met (l : Launch) (Z : MZ) (I : St) (x1 : Int32) (x2 : Int32) (x3 : Int32) (x4 : Int32) (x5 : Int32) (r : (Int32 × St)) (h : mo_copy x1 x2 x3 x4 x5 I = some r) : Met l yX6_copy (ws_ yX6_copy cX6_copy 7 (some .int)) mo_copy_rm (va_Pc [.ref (mH Z), .int x1, .int x2, .int x3, .int x4, .int x5] (mS Z I)) (Qwr (some (.int r.1)) (mS Z r.2) (mA Z)) 0 0 (mA Z) := by
  refine Met.ofW (cc := cX6_copy) (maxL := 7) (ret := some .int) (by decide) rfl ?_
  intro p e s m args below meth c s₁ B hml hv
  obtain ⟨rfl, hv⟩ := hv
  have hts := atoms_spec (ws := ws_ yX6_copy cX6_copy 7 (some .int)) B.pre
  have hts : ∀ w ∈ lw_all, w.before _ s = true := fun w h => hts w (List.mem_cons_of_mem _ h)
  have C : SCx p s m _ meth c cX6_copy 7 (some .int) RX6 := ⟨B.exec, B.bytes, B.returns, B.notSynchronized, hml, findClass_of_methodNamed B.named, hts⟩
  have hl := lv_entry [.ref (mH Z), .int x1, .int x2, .int x3, .int x4, .int x5] (n := 7) (Nat.le_of_ble_eq_true rfl)
  rw [lg_entry_eq]
  generalize (lg_sl [.ref (mH Z), .int x1, .int x2, .int x3, .int x4, .int x5] ++ List.replicate (7 - (lg_sl [.ref (mH Z), .int x1, .int x2, .int x3, .int x4, .int x5]).length) Slot.unset).toArray = ls at hl ⊢
  have C : MCx p s m _ meth c _ _ _ Z := ⟨C, hv.2⟩
  have hM : mIn Z s I s.heap [] := ⟨hv.1, va_S.rf⟩
  exact mo_copy_w0 C x1 x2 x3 x4 x5 I _ _ ls hM hl h

/-! SecondChancesModel.write(I)I -/
def mo_write_rm : Room := { frames := 5, cells := 0, slots := 0, locals := 123 }
def mo_write_P0 (p : Program) (l : Launch) (e : Env) (s : State) (m : MethodId) (args : Array Value) (below : List Frame) (meth : Method) (c : Code) (Z : MZ) (r : (Int32 × St)) (f : Int32 → St → Option (Int32 × St)) : Prop := ∀ (x1 : Int32) (I : St) (H : Heap) (locs : List Loc) (ls : Array Slot), mIn Z s I H locs → lv_has ls 3 [(0, .ref (mH Z)), (1, .int x1)] → f x1 I = some r → W p l e mo_write_rm s m args below meth c H locs 0 0 (MQ below (Qwr (some (.int r.1)) (mS Z r.2) (mA Z)) args s 0 0 (mA Z)) (F0 m 0 ls [])
def mo_write_P31 (p : Program) (l : Launch) (e : Env) (s : State) (m : MethodId) (args : Array Value) (below : List Frame) (meth : Method) (c : Code) (Z : MZ) (r : (Int32 × St)) (f : Int32 → Int32 → St → Option (Int32 × St)) : Prop := ∀ (x1 : Int32) (x2 : Int32) (I : St) (H : Heap) (locs : List Loc) (ls : Array Slot), mIn Z s I H locs → lv_has ls 3 [(0, .ref (mH Z)), (1, .int x1), (2, .int x2)] → f x1 x2 I = some r → W p l e mo_write_rm s m args below meth c H locs 0 0 (MQ below (Qwr (some (.int r.1)) (mS Z r.2) (mA Z)) args s 0 0 (mA Z)) (F0 m 31 ls [])
def mo_write_b31 (k31 : Int32 → Int32 → St → Option (Int32 × St)) (x1 : Int32) (x2 : Int32) (I : St) : Option (Int32 × St) :=
  al_ 4 (I 35) x1 fun v1 =>
  if v1 ≤ x2 then (some (x2, I))
  else (if (I 2 0) ≤ x2 then (some (x2, I))
    else (al_ 8 (I 21) x2 fun v4 =>
      bd_ (mo_keep x1 x2 v4 I) fun I5 =>
      k31 x1 (x2 + 1) I5))
theorem mo_write_w31 {p : Program} {l : Launch} {e : Env} {s : State} {m : MethodId} {args : Array Value} {below : List Frame} {meth : Method} {c : Code} {Z : MZ} (C : MCx p s m args meth c cX6_write 3 (some .int) Z) {r : (Int32 × St)} {k31 : Int32 → Int32 → St → Option (Int32 × St)} (hk31 : mo_write_P31 p l e s m args below meth c Z r k31) : mo_write_P31 p l e s m args below meth c Z r (mo_write_b31 k31) := by
  intro x1 x2 I H locs ls hM hl h
  obtain ⟨⟨hx, hb, hr, hlocks, hml, hown, hts⟩, hK⟩ := id C
  unfold mo_write_b31 at h
  refine lv_iload_n hx hb dX6_write_31 rfl (lv_at hl 2 rfl) ?_
  refine lv_aload_n hx hb dX6_write_32 rfl (lv_at hl 0 rfl) ?_
  refine gm35 C hM.1 dX6_write_33 ?_
  refine lv_iload_n hx hb dX6_write_36 rfl (lv_at hl 1 rfl) ?_
  obtain ⟨i_v1, h⟩ := al_e h
  refine m_ald C hM.1 (pos := 27) (k := 35) rfl rfl i_v1 dX6_write_37 (fun v1 e_v1 => ?_)
  have h := h v1 e_v1
  refine lv_icmp_ge (tgt := 67) hx hb dX6_write_38 (by decide) (fun c2 => ?_) (fun c2 => ?_)
  · have h := ip_ c2 h
    refine lv_iload_n hx hb dX6_write_67 rfl (lv_at hl 2 rfl) ?_
    have h := so_ h
    subst h
    exact W.iret hx hb hr (fun t ht hW => ⟨rfl, ⟨by rw [ht]; exact hM.1, va_K.moved hW.alike hK⟩, hM.2.F ht⟩) hM.2.2.2 dX6_write_68
  · have h := in_ c2 h
    refine lv_iload_n hx hb dX6_write_41 rfl (lv_at hl 2 rfl) ?_
    refine lv_aload_n hx hb dX6_write_42 rfl (lv_at hl 0 rfl) ?_
    refine gm2 C hM.1 dX6_write_43 ?_
    refine lv_icmp_ge (tgt := 67) hx hb dX6_write_46 (by decide) (fun c3 => ?_) (fun c3 => ?_)
    · have h := ip_ c3 h
      refine lv_iload_n hx hb dX6_write_67 rfl (lv_at hl 2 rfl) ?_
      have h := so_ h
      subst h
      exact W.iret hx hb hr (fun t ht hW => ⟨rfl, ⟨by rw [ht]; exact hM.1, va_K.moved hW.alike hK⟩, hM.2.F ht⟩) hM.2.2.2 dX6_write_68
    · have h := in_ c3 h
      refine lv_aload_n hx hb dX6_write_49 rfl (lv_at hl 0 rfl) ?_
      refine lv_iload_n hx hb dX6_write_50 rfl (lv_at hl 1 rfl) ?_
      refine lv_iload_n hx hb dX6_write_51 rfl (lv_at hl 2 rfl) ?_
      refine lv_aload_n hx hb dX6_write_52 rfl (lv_at hl 0 rfl) ?_
      refine gm21 C hM.1 dX6_write_53 ?_
      refine lv_iload_n hx hb dX6_write_56 rfl (lv_at hl 2 rfl) ?_
      obtain ⟨i_v4, h⟩ := al_e h
      refine m_ald C hM.1 (pos := 19) (k := 21) rfl rfl i_v4 dX6_write_57 (fun v4 e_v4 => ?_)
      have h := h v4 e_v4
      obtain ⟨I5, q_I5, h⟩ := bd_e h
      refine m_wrV (As := [.int x1, .int x2, .int v4]) (rest := []) C hM (mo_keep_met _ Z I x1 x2 v4 I5 q_I5) (lw_V q1461 q1463 qs76 q88 q1464) mo_keep_hd ⟨rfl, rfl⟩ ⟨Nat.le_of_ble_eq_true rfl, Nat.le_of_ble_eq_true rfl⟩ ⟨Nat.le_refl _, Nat.le_refl _⟩ rfl hl.1 rfl (Nat.le_of_ble_eq_true rfl) dX6_write_58 (fun H locs hM => ?_)
      refine lv_iinc (v := (x2 + 1)) (lv' := [(2, .int (x2 + 1)), (0, .ref (mH Z)), (1, .int x1)]) hx hb dX6_write_61 hl (k := 2) rfl rfl (by decide) rfl (fun ls hl => ?_)
      refine lv_goto (tgt := 31) hx hb dX6_write_64 (by decide) ?_
      exact hk31 x1 (x2 + 1) I5 _ _ ls hM (lv_sub hl [1, 2, 0] rfl) h
def mo_write_l31 (n : Nat) : Int32 → Int32 → St → Option (Int32 × St) := lp (fun _ _ _ => none) (mo_write_b31) n
theorem mo_write_lw31 {p : Program} {l : Launch} {e : Env} {s : State} {m : MethodId} {args : Array Value} {below : List Frame} {meth : Method} {c : Code} {Z : MZ} (C : MCx p s m args meth c cX6_write 3 (some .int) Z) {r : (Int32 × St)} : ∀ n : Nat, mo_write_P31 p l e s m args below meth c Z r (mo_write_l31 n) := by
  intro n
  induction n with
  | zero => intro x1 x2 I H locs ls hM hl h; exact no_ h
  | succ n ih => exact mo_write_w31 C ih
def mo_write (x1 : Int32) (I : St) : Option (Int32 × St) :=
  bd_ (mo_isSheet x1) fun v1 =>
  if v1 = 0 then (some ((-2 : Int32), I))
  else (al_ 4 (I 33) x1 fun v3 =>
    if v3 = 0 then (bd2_ (mo_meets (1 : Int32) I) fun v7 I6 =>
      some (v7, I6))
    else (bd_ (mo_laysMost  I) fun I5 =>
      mo_write_l31 FU x1 (0 : Int32) I5))
theorem mo_write_w0 {p : Program} {l : Launch} {e : Env} {s : State} {m : MethodId} {args : Array Value} {below : List Frame} {meth : Method} {c : Code} {Z : MZ} (C : MCx p s m args meth c cX6_write 3 (some .int) Z) {r : (Int32 × St)} : mo_write_P0 p l e s m args below meth c Z r (mo_write) := by
  intro x1 I H locs ls hM hl h
  obtain ⟨⟨hx, hb, hr, hlocks, hml, hown, hts⟩, hK⟩ := id C
  unfold mo_write at h
  refine lv_iload_n hx hb dX6_write_0 rfl (lv_at hl 1 rfl) ?_
  obtain ⟨v1, q_v1, h⟩ := bd_e h
  refine s_roI (As := [.int x1]) (rest := []) C.1 (mo_isSheet_met _ x1 v1 q_v1) (lw_S q1251 q1252 q88 q1253) mo_isSheet_hd ⟨rfl, rfl⟩ ⟨Nat.le_of_ble_eq_true rfl, Nat.le_of_ble_eq_true rfl⟩ ⟨Nat.le_refl _, Nat.le_refl _⟩ rfl hl.1 rfl (Nat.le_of_ble_eq_true rfl) dX6_write_1 ?_
  refine lv_if_ne (tgt := 10) hx hb dX6_write_4 (by decide) (fun c2 => ?_) (fun c2 => ?_)
  · have h := in_ c2 h
    refine lv_aload_n hx hb dX6_write_10 rfl (lv_at hl 0 rfl) ?_
    refine gm33 C hM.1 dX6_write_11 ?_
    refine lv_iload_n hx hb dX6_write_14 rfl (lv_at hl 1 rfl) ?_
    obtain ⟨i_v3, h⟩ := al_e h
    refine m_zald C hM.1 (pos := 25) (k := 33) rfl rfl i_v3 dX6_write_15 (fun v3 e_v3 => ?_)
    have h := h v3 e_v3
    refine lv_if_ne (tgt := 25) hx hb dX6_write_16 (by decide) (fun c4 => ?_) (fun c4 => ?_)
    · have h := in_ c4 h
      refine lv_aload_n hx hb dX6_write_25 rfl (lv_at hl 0 rfl) ?_
      obtain ⟨I5, q_I5, h⟩ := bd_e h
      refine m_wrV (As := []) (rest := []) C hM (mo_laysMost_met _ Z I  I5 q_I5) (lw_V q1309 q1311 qs58 q88 q1312) mo_laysMost_hd ⟨rfl, rfl⟩ ⟨Nat.le_of_ble_eq_true rfl, Nat.le_of_ble_eq_true rfl⟩ ⟨Nat.le_refl _, Nat.le_refl _⟩ rfl hl.1 rfl (Nat.le_of_ble_eq_true rfl) dX6_write_26 (fun H locs hM => ?_)
      refine lv_iconst (v := 0) hx hb dX6_write_29 (by decide) ?_
      refine lv_istore_n (lv' := [(2, .int (0 : Int32)), (0, .ref (mH Z)), (1, .int x1)]) hx hb dX6_write_30 rfl hl (by decide) rfl (fun ls hl => ?_)
      exact mo_write_lw31 C FU x1 (0 : Int32) I5 _ _ ls hM (lv_sub hl [1, 2, 0] rfl) h
    · have h := ip_ c4 h
      refine lv_aload_n hx hb dX6_write_19 rfl (lv_at hl 0 rfl) ?_
      refine lv_iconst (v := 1) hx hb dX6_write_20 (by decide) ?_
      obtain ⟨v7, I6, q_I6, h⟩ := bd2_e h
      refine m_wrI (As := [.int (1 : Int32)]) (rest := []) C hM (mo_meets_met _ Z I (1 : Int32) (v7, I6) q_I6) (lw_V q1254 q1256 qs50 q88 q1257) mo_meets_hd ⟨rfl, rfl⟩ ⟨Nat.le_of_ble_eq_true rfl, Nat.le_of_ble_eq_true rfl⟩ ⟨Nat.le_refl _, Nat.le_refl _⟩ rfl hl.1 rfl (Nat.le_of_ble_eq_true rfl) dX6_write_21 (fun H locs hM => ?_)
      have h := so_ h
      subst h
      exact W.iret hx hb hr (fun t ht hW => ⟨rfl, ⟨by rw [ht]; exact hM.1, va_K.moved hW.alike hK⟩, hM.2.F ht⟩) hM.2.2.2 dX6_write_24
  · have h := ip_ c2 h
    refine lv_bipush (v := -2) hx hb dX6_write_7 (by decide) ?_
    have h := so_ h
    subst h
    exact W.iret hx hb hr (fun t ht hW => ⟨rfl, ⟨by rw [ht]; exact hM.1, va_K.moved hW.alike hK⟩, hM.2.F ht⟩) hM.2.2.2 dX6_write_9
theorem mo_write_hd : yX6_write.cls = RX6 ∧ yX6_write.cls ≠ "java/lang/invoke/MethodHandle" ∧ yX6_write.cls ≠ "java/lang/invoke/VarHandle" ∧ (parseMethodDescriptor yX6_write.desc).map (fun d => d.parameters.length) = some 1 := by decide +kernel
theorem mo_write_met (l : Launch) (Z : MZ) (I : St) (x1 : Int32) (r : (Int32 × St)) (h : mo_write x1 I = some r) : Met l yX6_write (ws_ yX6_write cX6_write 3 (some .int)) mo_write_rm (va_Pc [.ref (mH Z), .int x1] (mS Z I)) (Qwr (some (.int r.1)) (mS Z r.2) (mA Z)) 0 0 (mA Z) := by
  refine Met.ofW (cc := cX6_write) (maxL := 3) (ret := some .int) (by decide) rfl ?_
  intro p e s m args below meth c s₁ B hml hv
  obtain ⟨rfl, hv⟩ := hv
  have hts := atoms_spec (ws := ws_ yX6_write cX6_write 3 (some .int)) B.pre
  have hts : ∀ w ∈ lw_all, w.before _ s = true := fun w h => hts w (List.mem_cons_of_mem _ h)
  have C : SCx p s m _ meth c cX6_write 3 (some .int) RX6 := ⟨B.exec, B.bytes, B.returns, B.notSynchronized, hml, findClass_of_methodNamed B.named, hts⟩
  have hl := lv_entry [.ref (mH Z), .int x1] (n := 3) (Nat.le_of_ble_eq_true rfl)
  rw [lg_entry_eq]
  generalize (lg_sl [.ref (mH Z), .int x1] ++ List.replicate (3 - (lg_sl [.ref (mH Z), .int x1]).length) Slot.unset).toArray = ls at hl ⊢
  have C : MCx p s m _ meth c _ _ _ Z := ⟨C, hv.2⟩
  have hM : mIn Z s I s.heap [] := ⟨hv.1, va_S.rf⟩
  exact mo_write_w0 C x1 I _ _ ls hM hl h

/-! SecondChancesModel.sumOf(I)I -/
def mo_sumOf_rm : Room := { frames := 5, cells := 0, slots := 0, locals := 109 }
def mo_sumOf_P0 (p : Program) (l : Launch) (e : Env) (s : State) (m : MethodId) (args : Array Value) (below : List Frame) (meth : Method) (c : Code) (Z : MZ) (r : (Int32 × St)) (f : Int32 → St → Option (Int32 × St)) : Prop := ∀ (x1 : Int32) (I : St) (H : Heap) (locs : List Loc) (ls : Array Slot), mIn Z s I H locs → lv_has ls 5 [(0, .ref (mH Z)), (1, .int x1)] → f x1 I = some r → W p l e mo_sumOf_rm s m args below meth c H locs 0 0 (MQ below (Qwr (some (.int r.1)) (mS Z r.2) (mA Z)) args s 0 0 (mA Z)) (F0 m 0 ls [])
def mo_sumOf_P10 (p : Program) (l : Launch) (e : Env) (s : State) (m : MethodId) (args : Array Value) (below : List Frame) (meth : Method) (c : Code) (Z : MZ) (r : (Int32 × St)) (f : Int32 → Int32 → Int32 → Int32 → St → Option (Int32 × St)) : Prop := ∀ (x1 : Int32) (x2 : Int32) (x3 : Int32) (x4 : Int32) (I : St) (H : Heap) (locs : List Loc) (ls : Array Slot), mIn Z s I H locs → lv_has ls 5 [(0, .ref (mH Z)), (1, .int x1), (2, .int x2), (3, .int x3), (4, .int x4)] → f x1 x2 x3 x4 I = some r → W p l e mo_sumOf_rm s m args below meth c H locs 0 0 (MQ below (Qwr (some (.int r.1)) (mS Z r.2) (mA Z)) args s 0 0 (mA Z)) (F0 m 10 ls [])
def mo_sumOf_b10 (k10 : Int32 → Int32 → Int32 → Int32 → St → Option (Int32 × St)) (x1 : Int32) (x2 : Int32) (x3 : Int32) (x4 : Int32) (I : St) : Option (Int32 × St) :=
  if (8 : Int32) ≤ x4 then (if x1 = 0 then (some ((I 2 0), I))
    else (if x1 = (3 : Int32) then (some ((I 8 0), I))
      else (if x1 = (6 : Int32) then (bd_ (mo_worthBy I x2) fun v5 =>
          some (v5, I))
        else (some (x3, I)))))
  else (al_ 8 (I 16) x4 fun v6 =>
    lt_ (x3 + v6) fun v7 =>
    k10 x1 x2 v7 (x4 + 1) I)
theorem mo_sumOf_w10 {p : Program} {l : Launch} {e : Env} {s : State} {m : MethodId} {args : Array Value} {below : List Frame} {meth : Method} {c : Code} {Z : MZ} (C : MCx p s m args meth c cX6_sumOf 5 (some .int) Z) {r : (Int32 × St)} {k10 : Int32 → Int32 → Int32 → Int32 → St → Option (Int32 × St)} (hk10 : mo_sumOf_P10 p l e s m args below meth c Z r k10) : mo_sumOf_P10 p l e s m args below meth c Z r (mo_sumOf_b10 k10) := by
  intro x1 x2 x3 x4 I H locs ls hM hl h
  obtain ⟨⟨hx, hb, hr, hlocks, hml, hown, hts⟩, hK⟩ := id C
  unfold mo_sumOf_b10 at h
  refine lv_iload hx hb dX6_sumOf_10 (lv_at hl 4 rfl) ?_
  refine lv_bipush (v := 8) hx hb dX6_sumOf_12 (by decide) ?_
  refine lv_icmp_ge (tgt := 33) hx hb dX6_sumOf_14 (by decide) (fun c1 => ?_) (fun c1 => ?_)
  · have h := ip_ c1 h
    refine lv_iload_n hx hb dX6_sumOf_33 rfl (lv_at hl 1 rfl) ?_
    refine lv_if_ne (tgt := 44) hx hb dX6_sumOf_34 (by decide) (fun c2 => ?_) (fun c2 => ?_)
    · have h := in_ c2 h
      refine lv_iload_n hx hb dX6_sumOf_44 rfl (lv_at hl 1 rfl) ?_
      refine lv_iconst (v := 3) hx hb dX6_sumOf_45 (by decide) ?_
      refine lv_icmp_ne (tgt := 56) hx hb dX6_sumOf_46 (by decide) (fun c3 => ?_) (fun c3 => ?_)
      · have h := in_ c3 h
        refine lv_iload_n hx hb dX6_sumOf_56 rfl (lv_at hl 1 rfl) ?_
        refine lv_bipush (v := 6) hx hb dX6_sumOf_57 (by decide) ?_
        refine lv_icmp_ne (tgt := 70) hx hb dX6_sumOf_59 (by decide) (fun c4 => ?_) (fun c4 => ?_)
        · have h := in_ c4 h
          refine lv_iload_n hx hb dX6_sumOf_70 rfl (lv_at hl 3 rfl) ?_
          have h := so_ h
          subst h
          exact W.iret hx hb hr (fun t ht hW => ⟨rfl, ⟨by rw [ht]; exact hM.1, va_K.moved hW.alike hK⟩, hM.2.F ht⟩) hM.2.2.2 dX6_sumOf_71
        · have h := ip_ c4 h
          refine lv_aload_n hx hb dX6_sumOf_62 rfl (lv_at hl 0 rfl) ?_
          refine lv_iload_n hx hb dX6_sumOf_63 rfl (lv_at hl 2 rfl) ?_
          obtain ⟨v5, q_v5, h⟩ := bd_e h
          refine m_roI (As := [.int x2]) (rest := []) C hM.1 (mo_worthBy_met _ Z I x2 v5 q_v5) (lw_V q1322 q1324 qs61 q88 q1325) mo_worthBy_hd ⟨rfl, rfl⟩ ⟨Nat.le_of_ble_eq_true rfl, Nat.le_of_ble_eq_true rfl⟩ ⟨Nat.le_refl _, Nat.le_refl _⟩ rfl hl.1 rfl (Nat.le_of_ble_eq_true rfl) dX6_sumOf_64 ?_
          refine lv_goto (tgt := 71) hx hb dX6_sumOf_67 (by decide) ?_
          have h := so_ h
          subst h
          exact W.iret hx hb hr (fun t ht hW => ⟨rfl, ⟨by rw [ht]; exact hM.1, va_K.moved hW.alike hK⟩, hM.2.F ht⟩) hM.2.2.2 dX6_sumOf_71
      · have h := ip_ c3 h
        refine lv_aload_n hx hb dX6_sumOf_49 rfl (lv_at hl 0 rfl) ?_
        refine gm8 C hM.1 dX6_sumOf_50 ?_
        refine lv_goto (tgt := 71) hx hb dX6_sumOf_53 (by decide) ?_
        have h := so_ h
        subst h
        exact W.iret hx hb hr (fun t ht hW => ⟨rfl, ⟨by rw [ht]; exact hM.1, va_K.moved hW.alike hK⟩, hM.2.F ht⟩) hM.2.2.2 dX6_sumOf_71
    · have h := ip_ c2 h
      refine lv_aload_n hx hb dX6_sumOf_37 rfl (lv_at hl 0 rfl) ?_
      refine gm2 C hM.1 dX6_sumOf_38 ?_
      refine lv_goto (tgt := 71) hx hb dX6_sumOf_41 (by decide) ?_
      have h := so_ h
      subst h
      exact W.iret hx hb hr (fun t ht hW => ⟨rfl, ⟨by rw [ht]; exact hM.1, va_K.moved hW.alike hK⟩, hM.2.F ht⟩) hM.2.2.2 dX6_sumOf_71
  · have h := in_ c1 h
    refine lv_iload_n hx hb dX6_sumOf_17 rfl (lv_at hl 3 rfl) ?_
    refine lv_aload_n hx hb dX6_sumOf_18 rfl (lv_at hl 0 rfl) ?_
    refine gm16 C hM.1 dX6_sumOf_19 ?_
    refine lv_iload hx hb dX6_sumOf_22 (lv_at hl 4 rfl) ?_
    obtain ⟨i_v6, h⟩ := al_e h
    refine m_ald C hM.1 (pos := 14) (k := 16) rfl rfl i_v6 dX6_sumOf_24 (fun v6 e_v6 => ?_)
    have h := h v6 e_v6
    refine lv_iadd hx hb dX6_sumOf_25 ?_
    refine lv_topi (fun v7 e_v7 => ?_)
    have h := lt_i h e_v7
    refine lv_istore_n (lv' := [(3, .int v7), (0, .ref (mH Z)), (1, .int x1), (2, .int x2), (4, .int x4)]) hx hb dX6_sumOf_26 rfl hl (by decide) rfl (fun ls hl => ?_)
    refine lv_iinc (v := (x4 + 1)) (lv' := [(4, .int (x4 + 1)), (3, .int v7), (0, .ref (mH Z)), (1, .int x1), (2, .int x2)]) hx hb dX6_sumOf_27 hl (k := 4) rfl rfl (by decide) rfl (fun ls hl => ?_)
    refine lv_goto (tgt := 10) hx hb dX6_sumOf_30 (by decide) ?_
    exact hk10 x1 x2 v7 (x4 + 1) I _ _ ls hM (lv_sub hl [2, 3, 4, 1, 0] rfl) h
def mo_sumOf_l10 (n : Nat) : Int32 → Int32 → Int32 → Int32 → St → Option (Int32 × St) := lp (fun _ _ _ _ _ => none) (mo_sumOf_b10) n
theorem mo_sumOf_lw10 {p : Program} {l : Launch} {e : Env} {s : State} {m : MethodId} {args : Array Value} {below : List Frame} {meth : Method} {c : Code} {Z : MZ} (C : MCx p s m args meth c cX6_sumOf 5 (some .int) Z) {r : (Int32 × St)} : ∀ n : Nat, mo_sumOf_P10 p l e s m args below meth c Z r (mo_sumOf_l10 n) := by
  intro n
  induction n with
  | zero => intro x1 x2 x3 x4 I H locs ls hM hl h; exact no_ h
  | succ n ih => exact mo_sumOf_w10 C ih
def mo_sumOf (x1 : Int32) (I : St) : Option (Int32 × St) :=
  bd2_ (mo_allDeeds  I) fun v2 I1 =>
  mo_sumOf_l10 FU x1 v2 (0 : Int32) (0 : Int32) I1
theorem mo_sumOf_w0 {p : Program} {l : Launch} {e : Env} {s : State} {m : MethodId} {args : Array Value} {below : List Frame} {meth : Method} {c : Code} {Z : MZ} (C : MCx p s m args meth c cX6_sumOf 5 (some .int) Z) {r : (Int32 × St)} : mo_sumOf_P0 p l e s m args below meth c Z r (mo_sumOf) := by
  intro x1 I H locs ls hM hl h
  obtain ⟨⟨hx, hb, hr, hlocks, hml, hown, hts⟩, hK⟩ := id C
  unfold mo_sumOf at h
  refine lv_aload_n hx hb dX6_sumOf_0 rfl (lv_at hl 0 rfl) ?_
  obtain ⟨v2, I1, q_I1, h⟩ := bd2_e h
  refine m_wrI (As := []) (rest := []) C hM (mo_allDeeds_met _ Z I  (v2, I1) q_I1) (lw_V q1418 q1420 qs71 q88 q1421) mo_allDeeds_hd ⟨rfl, rfl⟩ ⟨Nat.le_of_ble_eq_true rfl, Nat.le_of_ble_eq_true rfl⟩ ⟨Nat.le_refl _, Nat.le_refl _⟩ rfl hl.1 rfl (Nat.le_of_ble_eq_true rfl) dX6_sumOf_1 (fun H locs hM => ?_)
  refine lv_istore_n (lv' := [(2, .int v2), (0, .ref (mH Z)), (1, .int x1)]) hx hb dX6_sumOf_4 rfl hl (by decide) rfl (fun ls hl => ?_)
  refine lv_iconst (v := 0) hx hb dX6_sumOf_5 (by decide) ?_
  refine lv_istore_n (lv' := [(3, .int (0 : Int32)), (2, .int v2), (0, .ref (mH Z)), (1, .int x1)]) hx hb dX6_sumOf_6 rfl hl (by decide) rfl (fun ls hl => ?_)
  refine lv_iconst (v := 0) hx hb dX6_sumOf_7 (by decide) ?_
  refine lv_istore (lv' := [(4, .int (0 : Int32)), (3, .int (0 : Int32)), (2, .int v2), (0, .ref (mH Z)), (1, .int x1)]) hx hb dX6_sumOf_8 hl (by decide) rfl (fun ls hl => ?_)
  exact mo_sumOf_lw10 C FU x1 v2 (0 : Int32) (0 : Int32) I1 _ _ ls hM (lv_sub hl [3, 4, 2, 1, 0] rfl) h
theorem mo_sumOf_hd : yX6_sumOf.cls = RX6 ∧ yX6_sumOf.cls ≠ "java/lang/invoke/MethodHandle" ∧ yX6_sumOf.cls ≠ "java/lang/invoke/VarHandle" ∧ (parseMethodDescriptor yX6_sumOf.desc).map (fun d => d.parameters.length) = some 1 := by decide +kernel
theorem mo_sumOf_met (l : Launch) (Z : MZ) (I : St) (x1 : Int32) (r : (Int32 × St)) (h : mo_sumOf x1 I = some r) : Met l yX6_sumOf (ws_ yX6_sumOf cX6_sumOf 5 (some .int)) mo_sumOf_rm (va_Pc [.ref (mH Z), .int x1] (mS Z I)) (Qwr (some (.int r.1)) (mS Z r.2) (mA Z)) 0 0 (mA Z) := by
  refine Met.ofW (cc := cX6_sumOf) (maxL := 5) (ret := some .int) (by decide) rfl ?_
  intro p e s m args below meth c s₁ B hml hv
  obtain ⟨rfl, hv⟩ := hv
  have hts := atoms_spec (ws := ws_ yX6_sumOf cX6_sumOf 5 (some .int)) B.pre
  have hts : ∀ w ∈ lw_all, w.before _ s = true := fun w h => hts w (List.mem_cons_of_mem _ h)
  have C : SCx p s m _ meth c cX6_sumOf 5 (some .int) RX6 := ⟨B.exec, B.bytes, B.returns, B.notSynchronized, hml, findClass_of_methodNamed B.named, hts⟩
  have hl := lv_entry [.ref (mH Z), .int x1] (n := 5) (Nat.le_of_ble_eq_true rfl)
  rw [lg_entry_eq]
  generalize (lg_sl [.ref (mH Z), .int x1] ++ List.replicate (5 - (lg_sl [.ref (mH Z), .int x1]).length) Slot.unset).toArray = ls at hl ⊢
  have C : MCx p s m _ meth c _ _ _ Z := ⟨C, hv.2⟩
  have hM : mIn Z s I s.heap [] := ⟨hv.1, va_S.rf⟩
  exact mo_sumOf_w0 C x1 I _ _ ls hM hl h

/-! SecondChancesModel.count(I)I -/
def mo_count_rm : Room := { frames := 6, cells := 0, slots := 0, locals := 133 }
def mo_count_P0 (p : Program) (l : Launch) (e : Env) (s : State) (m : MethodId) (args : Array Value) (below : List Frame) (meth : Method) (c : Code) (Z : MZ) (r : (Int32 × St)) (f : Int32 → St → Option (Int32 × St)) : Prop := ∀ (x1 : Int32) (I : St) (H : Heap) (locs : List Loc) (ls : Array Slot), mIn Z s I H locs → lv_has ls 2 [(0, .ref (mH Z)), (1, .int x1)] → f x1 I = some r → W p l e mo_count_rm s m args below meth c H locs 0 0 (MQ below (Qwr (some (.int r.1)) (mS Z r.2) (mA Z)) args s 0 0 (mA Z)) (F0 m 0 ls [])
def mo_count_P58 (p : Program) (l : Launch) (e : Env) (s : State) (m : MethodId) (args : Array Value) (below : List Frame) (meth : Method) (c : Code) (Z : MZ) (r : (Int32 × St)) (f : Int32 → St → Option (Int32 × St)) : Prop := ∀ (x1 : Int32) (I : St) (H : Heap) (locs : List Loc) (ls : Array Slot), mIn Z s I H locs → lv_has ls 2 [(0, .ref (mH Z)), (1, .int x1)] → f x1 I = some r → W p l e mo_count_rm s m args below meth c H locs 0 0 (MQ below (Qwr (some (.int r.1)) (mS Z r.2) (mA Z)) args s 0 0 (mA Z)) (F0 m 58 ls [])
def mo_count_P52 (p : Program) (l : Launch) (e : Env) (s : State) (m : MethodId) (args : Array Value) (below : List Frame) (meth : Method) (c : Code) (Z : MZ) (r : (Int32 × St)) (f : Int32 → St → Option (Int32 × St)) : Prop := ∀ (x1 : Int32) (I : St) (H : Heap) (locs : List Loc) (ls : Array Slot), mIn Z s I H locs → lv_has ls 2 [(0, .ref (mH Z)), (1, .int x1)] → f x1 I = some r → W p l e mo_count_rm s m args below meth c H locs 0 0 (MQ below (Qwr (some (.int r.1)) (mS Z r.2) (mA Z)) args s 0 0 (mA Z)) (F0 m 52 ls [])
def mo_count_b52 (x1 : Int32) (I : St) : Option (Int32 × St) :=
  bd2_ (mo_sumOf x1 I) fun v2 I1 =>
  some (v2, I1)
theorem mo_count_w52 {p : Program} {l : Launch} {e : Env} {s : State} {m : MethodId} {args : Array Value} {below : List Frame} {meth : Method} {c : Code} {Z : MZ} (C : MCx p s m args meth c cX6_count 2 (some .int) Z) {r : (Int32 × St)} : mo_count_P52 p l e s m args below meth c Z r (mo_count_b52) := by
  intro x1 I H locs ls hM hl h
  obtain ⟨⟨hx, hb, hr, hlocks, hml, hown, hts⟩, hK⟩ := id C
  unfold mo_count_b52 at h
  refine lv_aload_n hx hb dX6_count_52 rfl (lv_at hl 0 rfl) ?_
  refine lv_iload_n hx hb dX6_count_53 rfl (lv_at hl 1 rfl) ?_
  obtain ⟨v2, I1, q_I1, h⟩ := bd2_e h
  refine m_wrI (As := [.int x1]) (rest := []) C hM (mo_sumOf_met _ Z I x1 (v2, I1) q_I1) (lw_V q1482 q1484 qs77 q88 q1485) mo_sumOf_hd ⟨rfl, rfl⟩ ⟨Nat.le_of_ble_eq_true rfl, Nat.le_of_ble_eq_true rfl⟩ ⟨Nat.le_refl _, Nat.le_refl _⟩ rfl hl.1 rfl (Nat.le_of_ble_eq_true rfl) dX6_count_54 (fun H locs hM => ?_)
  have h := so_ h
  subst h
  exact W.iret hx hb hr (fun t ht hW => ⟨rfl, ⟨by rw [ht]; exact hM.1, va_K.moved hW.alike hK⟩, hM.2.F ht⟩) hM.2.2.2 dX6_count_57
def mo_count_b58 (x1 : Int32) (I : St) : Option (Int32 × St) :=
  al_ 2 (I 0) (x1 - (1 : Int32)) fun v1 =>
  some (v1, I)
theorem mo_count_w58 {p : Program} {l : Launch} {e : Env} {s : State} {m : MethodId} {args : Array Value} {below : List Frame} {meth : Method} {c : Code} {Z : MZ} (C : MCx p s m args meth c cX6_count 2 (some .int) Z) {r : (Int32 × St)} : mo_count_P58 p l e s m args below meth c Z r (mo_count_b58) := by
  intro x1 I H locs ls hM hl h
  obtain ⟨⟨hx, hb, hr, hlocks, hml, hown, hts⟩, hK⟩ := id C
  unfold mo_count_b58 at h
  refine lv_aload_n hx hb dX6_count_58 rfl (lv_at hl 0 rfl) ?_
  refine gm0 C hM.1 dX6_count_59 ?_
  refine lv_iload_n hx hb dX6_count_62 rfl (lv_at hl 1 rfl) ?_
  refine lv_iconst (v := 1) hx hb dX6_count_63 (by decide) ?_
  refine lv_isub hx hb dX6_count_64 ?_
  obtain ⟨i_v1, h⟩ := al_e h
  refine m_ald C hM.1 (pos := 0) (k := 0) rfl rfl i_v1 dX6_count_65 (fun v1 e_v1 => ?_)
  have h := h v1 e_v1
  have h := so_ h
  subst h
  exact W.iret hx hb hr (fun t ht hW => ⟨rfl, ⟨by rw [ht]; exact hM.1, va_K.moved hW.alike hK⟩, hM.2.F ht⟩) hM.2.2.2 dX6_count_66
def mo_count (x1 : Int32) (I : St) : Option (Int32 × St) :=
  if x1 = 0 then (mo_count_b52 x1 I)
  else (if x1 = 1 then (mo_count_b58 x1 I)
    else (if x1 = 2 then (mo_count_b58 x1 I)
      else (if x1 = 3 then (mo_count_b52 x1 I)
        else (if x1 = 4 then (some ((I 26 0), I))
          else (if x1 = 5 then (some ((I 30 0), I))
            else (if x1 = 6 then (mo_count_b52 x1 I)
              else (if x1 = 7 then (mo_count_b52 x1 I)
                else (if x1 = 8 then (some ((I 38 0), I))
                  else (some ((-2 : Int32), I))))))))))
theorem mo_count_w0 {p : Program} {l : Launch} {e : Env} {s : State} {m : MethodId} {args : Array Value} {below : List Frame} {meth : Method} {c : Code} {Z : MZ} (C : MCx p s m args meth c cX6_count 2 (some .int) Z) {r : (Int32 × St)} : mo_count_P0 p l e s m args below meth c Z r (mo_count) := by
  intro x1 I H locs ls hM hl h
  obtain ⟨⟨hx, hb, hr, hlocks, hml, hown, hts⟩, hK⟩ := id C
  unfold mo_count at h
  refine lv_iload_n hx hb dX6_count_0 rfl (lv_at hl 1 rfl) ?_
  by_cases c1 : x1 = 0
  · have h := ip_ c1 h
    refine lv_tableIn (tgt := 52) hx hb dX6_count_1 (by rw [c1]; decide) (by rw [c1]; decide) (by rw [c1]; rfl) (by decide) ?_
    exact mo_count_w52 C x1 I _ _ ls hM (lv_sub hl [0, 1] rfl) h
  have h := in_ c1 h
  by_cases c2 : x1 = 1
  · have h := ip_ c2 h
    refine lv_tableIn (tgt := 58) hx hb dX6_count_1 (by rw [c2]; decide) (by rw [c2]; decide) (by rw [c2]; rfl) (by decide) ?_
    exact mo_count_w58 C x1 I _ _ ls hM (lv_sub hl [0, 1] rfl) h
  have h := in_ c2 h
  by_cases c3 : x1 = 2
  · have h := ip_ c3 h
    refine lv_tableIn (tgt := 58) hx hb dX6_count_1 (by rw [c3]; decide) (by rw [c3]; decide) (by rw [c3]; rfl) (by decide) ?_
    exact mo_count_w58 C x1 I _ _ ls hM (lv_sub hl [0, 1] rfl) h
  have h := in_ c3 h
  by_cases c4 : x1 = 3
  · have h := ip_ c4 h
    refine lv_tableIn (tgt := 52) hx hb dX6_count_1 (by rw [c4]; decide) (by rw [c4]; decide) (by rw [c4]; rfl) (by decide) ?_
    exact mo_count_w52 C x1 I _ _ ls hM (lv_sub hl [0, 1] rfl) h
  have h := in_ c4 h
  by_cases c5 : x1 = 4
  · have h := ip_ c5 h
    refine lv_tableIn (tgt := 67) hx hb dX6_count_1 (by rw [c5]; decide) (by rw [c5]; decide) (by rw [c5]; rfl) (by decide) ?_
    refine lv_aload_n hx hb dX6_count_67 rfl (lv_at hl 0 rfl) ?_
    refine gm26 C hM.1 dX6_count_68 ?_
    have h := so_ h
    subst h
    exact W.iret hx hb hr (fun t ht hW => ⟨rfl, ⟨by rw [ht]; exact hM.1, va_K.moved hW.alike hK⟩, hM.2.F ht⟩) hM.2.2.2 dX6_count_71
  have h := in_ c5 h
  by_cases c6 : x1 = 5
  · have h := ip_ c6 h
    refine lv_tableIn (tgt := 72) hx hb dX6_count_1 (by rw [c6]; decide) (by rw [c6]; decide) (by rw [c6]; rfl) (by decide) ?_
    refine lv_aload_n hx hb dX6_count_72 rfl (lv_at hl 0 rfl) ?_
    refine gm30 C hM.1 dX6_count_73 ?_
    have h := so_ h
    subst h
    exact W.iret hx hb hr (fun t ht hW => ⟨rfl, ⟨by rw [ht]; exact hM.1, va_K.moved hW.alike hK⟩, hM.2.F ht⟩) hM.2.2.2 dX6_count_76
  have h := in_ c6 h
  by_cases c7 : x1 = 6
  · have h := ip_ c7 h
    refine lv_tableIn (tgt := 52) hx hb dX6_count_1 (by rw [c7]; decide) (by rw [c7]; decide) (by rw [c7]; rfl) (by decide) ?_
    exact mo_count_w52 C x1 I _ _ ls hM (lv_sub hl [0, 1] rfl) h
  have h := in_ c7 h
  by_cases c8 : x1 = 7
  · have h := ip_ c8 h
    refine lv_tableIn (tgt := 52) hx hb dX6_count_1 (by rw [c8]; decide) (by rw [c8]; decide) (by rw [c8]; rfl) (by decide) ?_
    exact mo_count_w52 C x1 I _ _ ls hM (lv_sub hl [0, 1] rfl) h
  have h := in_ c8 h
  by_cases c9 : x1 = 8
  · have h := ip_ c9 h
    refine lv_tableIn (tgt := 77) hx hb dX6_count_1 (by rw [c9]; decide) (by rw [c9]; decide) (by rw [c9]; rfl) (by decide) ?_
    refine lv_aload_n hx hb dX6_count_77 rfl (lv_at hl 0 rfl) ?_
    refine gm38 C hM.1 dX6_count_78 ?_
    have h := so_ h
    subst h
    exact W.iret hx hb hr (fun t ht hW => ⟨rfl, ⟨by rw [ht]; exact hM.1, va_K.moved hW.alike hK⟩, hM.2.F ht⟩) hM.2.2.2 dX6_count_81
  have h := in_ c9 h
  refine lv_tableOut (tgt := 82) hx hb dX6_count_1 (by have c1_ := lv_neT c1 (show (0 : Int32).toInt = 0 from rfl); have c2_ := lv_neT c2 (show (1 : Int32).toInt = 1 from rfl); have c3_ := lv_neT c3 (show (2 : Int32).toInt = 2 from rfl); have c4_ := lv_neT c4 (show (3 : Int32).toInt = 3 from rfl); have c5_ := lv_neT c5 (show (4 : Int32).toInt = 4 from rfl); have c6_ := lv_neT c6 (show (5 : Int32).toInt = 5 from rfl); have c7_ := lv_neT c7 (show (6 : Int32).toInt = 6 from rfl); have c8_ := lv_neT c8 (show (7 : Int32).toInt = 7 from rfl); have c9_ := lv_neT c9 (show (8 : Int32).toInt = 8 from rfl); omega) (by decide) ?_
  refine lv_bipush (v := -2) hx hb dX6_count_82 (by decide) ?_
  have h := so_ h
  subst h
  exact W.iret hx hb hr (fun t ht hW => ⟨rfl, ⟨by rw [ht]; exact hM.1, va_K.moved hW.alike hK⟩, hM.2.F ht⟩) hM.2.2.2 dX6_count_84
theorem mo_count_hd : yX6_count.cls = RX6 ∧ yX6_count.cls ≠ "java/lang/invoke/MethodHandle" ∧ yX6_count.cls ≠ "java/lang/invoke/VarHandle" ∧ (parseMethodDescriptor yX6_count.desc).map (fun d => d.parameters.length) = some 1 := by decide +kernel
theorem mo_count_met (l : Launch) (Z : MZ) (I : St) (x1 : Int32) (r : (Int32 × St)) (h : mo_count x1 I = some r) : Met l yX6_count (ws_ yX6_count cX6_count 2 (some .int)) mo_count_rm (va_Pc [.ref (mH Z), .int x1] (mS Z I)) (Qwr (some (.int r.1)) (mS Z r.2) (mA Z)) 0 0 (mA Z) := by
  refine Met.ofW (cc := cX6_count) (maxL := 2) (ret := some .int) (by decide) rfl ?_
  intro p e s m args below meth c s₁ B hml hv
  obtain ⟨rfl, hv⟩ := hv
  have hts := atoms_spec (ws := ws_ yX6_count cX6_count 2 (some .int)) B.pre
  have hts : ∀ w ∈ lw_all, w.before _ s = true := fun w h => hts w (List.mem_cons_of_mem _ h)
  have C : SCx p s m _ meth c cX6_count 2 (some .int) RX6 := ⟨B.exec, B.bytes, B.returns, B.notSynchronized, hml, findClass_of_methodNamed B.named, hts⟩
  have hl := lv_entry [.ref (mH Z), .int x1] (n := 2) (Nat.le_of_ble_eq_true rfl)
  rw [lg_entry_eq]
  generalize (lg_sl [.ref (mH Z), .int x1] ++ List.replicate (2 - (lg_sl [.ref (mH Z), .int x1]).length) Slot.unset).toArray = ls at hl ⊢
  have C : MCx p s m _ meth c _ _ _ Z := ⟨C, hv.2⟩
  have hM : mIn Z s I s.heap [] := ⟨hv.1, va_S.rf⟩
  exact mo_count_w0 C x1 I _ _ ls hM hl h

/-! SecondChancesModel.digest()J -/
def mo_digest_rm : Room := { frames := 7, cells := 0, slots := 0, locals := 154 }
def mo_digest_P0 (p : Program) (l : Launch) (e : Env) (s : State) (m : MethodId) (args : Array Value) (below : List Frame) (meth : Method) (c : Code) (Z : MZ) (r : (Int64 × St)) (f : St → Option (Int64 × St)) : Prop := ∀ (I : St) (H : Heap) (locs : List Loc) (ls : Array Slot), mIn Z s I H locs → lv_has ls 5 [(0, .ref (mH Z))] → f  I = some r → W p l e mo_digest_rm s m args below meth c H locs 0 0 (MQ below (Qwr (some (.long r.1)) (mS Z r.2) (mA Z)) args s 0 0 (mA Z)) (F0 m 0 ls [])
def mo_digest_P6 (p : Program) (l : Launch) (e : Env) (s : State) (m : MethodId) (args : Array Value) (below : List Frame) (meth : Method) (c : Code) (Z : MZ) (r : (Int64 × St)) (f : Int64 → Int32 → St → Option (Int64 × St)) : Prop := ∀ (x1 : Int64) (x3 : Int32) (I : St) (H : Heap) (locs : List Loc) (ls : Array Slot), mIn Z s I H locs → lv_has ls 5 [(0, .ref (mH Z)), (1, .long x1), (3, .int x3)] → f x1 x3 I = some r → W p l e mo_digest_rm s m args below meth c H locs 0 0 (MQ below (Qwr (some (.long r.1)) (mS Z r.2) (mA Z)) args s 0 0 (mA Z)) (F0 m 6 ls [])
def mo_digest_P63 (p : Program) (l : Launch) (e : Env) (s : State) (m : MethodId) (args : Array Value) (below : List Frame) (meth : Method) (c : Code) (Z : MZ) (r : (Int64 × St)) (f : Int64 → Int32 → St → Option (Int64 × St)) : Prop := ∀ (x1 : Int64) (x3 : Int32) (I : St) (H : Heap) (locs : List Loc) (ls : Array Slot), mIn Z s I H locs → lv_has ls 5 [(0, .ref (mH Z)), (1, .long x1), (3, .int x3)] → f x1 x3 I = some r → W p l e mo_digest_rm s m args below meth c H locs 0 0 (MQ below (Qwr (some (.long r.1)) (mS Z r.2) (mA Z)) args s 0 0 (mA Z)) (F0 m 63 ls [])
def mo_digest_P74 (p : Program) (l : Launch) (e : Env) (s : State) (m : MethodId) (args : Array Value) (below : List Frame) (meth : Method) (c : Code) (Z : MZ) (r : (Int64 × St)) (f : Int64 → Int32 → Int32 → St → Option (Int64 × St)) : Prop := ∀ (x1 : Int64) (x3 : Int32) (x4 : Int32) (I : St) (H : Heap) (locs : List Loc) (ls : Array Slot), mIn Z s I H locs → lv_has ls 5 [(0, .ref (mH Z)), (1, .long x1), (3, .int x3), (4, .int x4)] → f x1 x3 x4 I = some r → W p l e mo_digest_rm s m args below meth c H locs 0 0 (MQ below (Qwr (some (.long r.1)) (mS Z r.2) (mA Z)) args s 0 0 (mA Z)) (F0 m 74 ls [])
def mo_digest_P207 (p : Program) (l : Launch) (e : Env) (s : State) (m : MethodId) (args : Array Value) (below : List Frame) (meth : Method) (c : Code) (Z : MZ) (r : (Int64 × St)) (f : Int64 → Int32 → St → Option (Int64 × St)) : Prop := ∀ (x1 : Int64) (x3 : Int32) (I : St) (H : Heap) (locs : List Loc) (ls : Array Slot), mIn Z s I H locs → lv_has ls 5 [(0, .ref (mH Z)), (1, .long x1), (3, .int x3)] → f x1 x3 I = some r → W p l e mo_digest_rm s m args below meth c H locs 0 0 (MQ below (Qwr (some (.long r.1)) (mS Z r.2) (mA Z)) args s 0 0 (mA Z)) (F0 m 207 ls [])
def mo_digest_P215 (p : Program) (l : Launch) (e : Env) (s : State) (m : MethodId) (args : Array Value) (below : List Frame) (meth : Method) (c : Code) (Z : MZ) (r : (Int64 × St)) (f : Int64 → Int32 → Int32 → St → Option (Int64 × St)) : Prop := ∀ (x1 : Int64) (x3 : Int32) (x4 : Int32) (I : St) (H : Heap) (locs : List Loc) (ls : Array Slot), mIn Z s I H locs → lv_has ls 5 [(0, .ref (mH Z)), (1, .long x1), (3, .int x3), (4, .int x4)] → f x1 x3 x4 I = some r → W p l e mo_digest_rm s m args below meth c H locs 0 0 (MQ below (Qwr (some (.long r.1)) (mS Z r.2) (mA Z)) args s 0 0 (mA Z)) (F0 m 215 ls [])
def mo_digest_P274 (p : Program) (l : Launch) (e : Env) (s : State) (m : MethodId) (args : Array Value) (below : List Frame) (meth : Method) (c : Code) (Z : MZ) (r : (Int64 × St)) (f : Int64 → Int32 → St → Option (Int64 × St)) : Prop := ∀ (x1 : Int64) (x3 : Int32) (I : St) (H : Heap) (locs : List Loc) (ls : Array Slot), mIn Z s I H locs → lv_has ls 5 [(0, .ref (mH Z)), (1, .long x1), (3, .int x3)] → f x1 x3 I = some r → W p l e mo_digest_rm s m args below meth c H locs 0 0 (MQ below (Qwr (some (.long r.1)) (mS Z r.2) (mA Z)) args s 0 0 (mA Z)) (F0 m 274 ls [])
def mo_digest_b274 (k274 : Int64 → Int32 → St → Option (Int64 × St)) (x1 : Int64) (x3 : Int32) (I : St) : Option (Int64 × St) :=
  if (3 : Int32) ≤ x3 then (bd_ (mo_hatsOf I (0 : Int32)) fun v2 =>
    lt_ (((31 : Int64) * x1) + (v2.toInt64)) fun v3 =>
    bd_ (mo_hatsOf I (1 : Int32)) fun v4 =>
    lt_ (((31 : Int64) * v3) + (v4.toInt64)) fun v5 =>
    bd2_ (mo_bestNow  I) fun v7 I6 =>
    lt_ (((31 : Int64) * v5) + (v7.toInt64)) fun v8 =>
    bd2_ (mo_regretsOf (2 : Int32) (0 : Int32) I6) fun v10 I9 =>
    lt_ (((31 : Int64) * v8) + v10) fun v11 =>
    bd2_ (mo_regretsOf (2 : Int32) (1 : Int32) I9) fun v13 I12 =>
    some ((((31 : Int64) * v11) + v13), I12))
  else (bd2_ (mo_crowdOf x3 I) fun v15 I14 =>
    lt_ (((31 : Int64) * x1) + (v15.toInt64)) fun v16 =>
    k274 v16 (x3 + 1) I14)
theorem mo_digest_w274 {p : Program} {l : Launch} {e : Env} {s : State} {m : MethodId} {args : Array Value} {below : List Frame} {meth : Method} {c : Code} {Z : MZ} (C : MCx p s m args meth c cX6_digest 5 (some .long) Z) {r : (Int64 × St)} {k274 : Int64 → Int32 → St → Option (Int64 × St)} (hk274 : mo_digest_P274 p l e s m args below meth c Z r k274) : mo_digest_P274 p l e s m args below meth c Z r (mo_digest_b274 k274) := by
  intro x1 x3 I H locs ls hM hl h
  obtain ⟨⟨hx, hb, hr, hlocks, hml, hown, hts⟩, hK⟩ := id C
  unfold mo_digest_b274 at h
  refine lv_iload_n hx hb dX6_digest_274 rfl (lv_at hl 2 rfl) ?_
  refine lv_iconst (v := 3) hx hb dX6_digest_275 (by decide) ?_
  refine lv_icmp_ge (tgt := 298) hx hb dX6_digest_276 (by decide) (fun c1 => ?_) (fun c1 => ?_)
  · have h := ip_ c1 h
    refine lv_ldc2 (v := 31) hx hb hown (hts _ q1491) dX6_digest_298 ?_
    refine lv_lload_n hx hb dX6_digest_301 rfl (lv_at hl 1 rfl) ?_
    refine lv_lmul hx hb dX6_digest_302 ?_
    refine lv_aload_n hx hb dX6_digest_303 rfl (lv_at hl 0 rfl) ?_
    refine lv_iconst (v := 0) hx hb dX6_digest_304 (by decide) ?_
    obtain ⟨v2, q_v2, h⟩ := bd_e h
    refine m_roI (As := [.int (0 : Int32)]) (rest := [.long ((31 : Int64) * x1)]) C hM.1 (mo_hatsOf_met _ Z I (0 : Int32) v2 q_v2) (lw_V q1402 q1404 qs70 q88 q1405) mo_hatsOf_hd ⟨rfl, rfl⟩ ⟨Nat.le_of_ble_eq_true rfl, Nat.le_of_ble_eq_true rfl⟩ ⟨Nat.le_refl _, Nat.le_refl _⟩ rfl hl.1 rfl (Nat.le_of_ble_eq_true rfl) dX6_digest_305 ?_
    refine lv_i2l hx hb dX6_digest_308 rfl ?_
    refine lv_ladd hx hb dX6_digest_309 ?_
    refine lv_topl (fun v3 e_v3 => ?_)
    have h := lt_i h e_v3
    refine lv_lstore_n (lv' := [(1, .long v3), (0, .ref (mH Z)), (3, .int x3)]) hx hb dX6_digest_310 rfl hl (by decide) rfl (fun ls hl => ?_)
    refine lv_ldc2 (v := 31) hx hb hown (hts _ q1491) dX6_digest_311 ?_
    refine lv_lload_n hx hb dX6_digest_314 rfl (lv_at hl 0 rfl) ?_
    refine lv_lmul hx hb dX6_digest_315 ?_
    refine lv_aload_n hx hb dX6_digest_316 rfl (lv_at hl 1 rfl) ?_
    refine lv_iconst (v := 1) hx hb dX6_digest_317 (by decide) ?_
    obtain ⟨v4, q_v4, h⟩ := bd_e h
    refine m_roI (As := [.int (1 : Int32)]) (rest := [.long ((31 : Int64) * v3)]) C hM.1 (mo_hatsOf_met _ Z I (1 : Int32) v4 q_v4) (lw_V q1402 q1404 qs70 q88 q1405) mo_hatsOf_hd ⟨rfl, rfl⟩ ⟨Nat.le_of_ble_eq_true rfl, Nat.le_of_ble_eq_true rfl⟩ ⟨Nat.le_refl _, Nat.le_refl _⟩ rfl hl.1 rfl (Nat.le_of_ble_eq_true rfl) dX6_digest_318 ?_
    refine lv_i2l hx hb dX6_digest_321 rfl ?_
    refine lv_ladd hx hb dX6_digest_322 ?_
    refine lv_topl (fun v5 e_v5 => ?_)
    have h := lt_i h e_v5
    refine lv_lstore_n (lv' := [(1, .long v5), (0, .ref (mH Z)), (3, .int x3)]) hx hb dX6_digest_323 rfl hl (by decide) rfl (fun ls hl => ?_)
    refine lv_ldc2 (v := 31) hx hb hown (hts _ q1491) dX6_digest_324 ?_
    refine lv_lload_n hx hb dX6_digest_327 rfl (lv_at hl 0 rfl) ?_
    refine lv_lmul hx hb dX6_digest_328 ?_
    refine lv_aload_n hx hb dX6_digest_329 rfl (lv_at hl 1 rfl) ?_
    obtain ⟨v7, I6, q_I6, h⟩ := bd2_e h
    refine m_wrI (As := []) (rest := [.long ((31 : Int64) * v5)]) C hM (mo_bestNow_met _ Z I  (v7, I6) q_I6) (lw_V q1430 q1432 qs73 q88 q1433) mo_bestNow_hd ⟨rfl, rfl⟩ ⟨Nat.le_of_ble_eq_true rfl, Nat.le_of_ble_eq_true rfl⟩ ⟨Nat.le_refl _, Nat.le_refl _⟩ rfl hl.1 rfl (Nat.le_of_ble_eq_true rfl) dX6_digest_330 (fun H locs hM => ?_)
    refine lv_i2l hx hb dX6_digest_333 rfl ?_
    refine lv_ladd hx hb dX6_digest_334 ?_
    refine lv_topl (fun v8 e_v8 => ?_)
    have h := lt_i h e_v8
    refine lv_lstore_n (lv' := [(1, .long v8), (0, .ref (mH Z)), (3, .int x3)]) hx hb dX6_digest_335 rfl hl (by decide) rfl (fun ls hl => ?_)
    refine lv_ldc2 (v := 31) hx hb hown (hts _ q1491) dX6_digest_336 ?_
    refine lv_lload_n hx hb dX6_digest_339 rfl (lv_at hl 0 rfl) ?_
    refine lv_lmul hx hb dX6_digest_340 ?_
    refine lv_aload_n hx hb dX6_digest_341 rfl (lv_at hl 1 rfl) ?_
    refine lv_iconst (v := 2) hx hb dX6_digest_342 (by decide) ?_
    refine lv_iconst (v := 0) hx hb dX6_digest_343 (by decide) ?_
    obtain ⟨v10, I9, q_I9, h⟩ := bd2_e h
    refine m_wrJ (As := [.int (2 : Int32), .int (0 : Int32)]) (rest := [.long ((31 : Int64) * v8)]) C hM (mo_regretsOf_met _ Z I6 (2 : Int32) (0 : Int32) (v10, I9) q_I9) (lw_V q1438 q1440 qs74 q88 q1441) mo_regretsOf_hd ⟨rfl, rfl⟩ ⟨Nat.le_of_ble_eq_true rfl, Nat.le_of_ble_eq_true rfl⟩ ⟨Nat.le_refl _, Nat.le_refl _⟩ rfl hl.1 rfl (Nat.le_of_ble_eq_true rfl) dX6_digest_344 (fun H locs hM => ?_)
    refine lv_ladd hx hb dX6_digest_347 ?_
    refine lv_topl (fun v11 e_v11 => ?_)
    have h := lt_i h e_v11
    refine lv_lstore_n (lv' := [(1, .long v11), (0, .ref (mH Z)), (3, .int x3)]) hx hb dX6_digest_348 rfl hl (by decide) rfl (fun ls hl => ?_)
    refine lv_ldc2 (v := 31) hx hb hown (hts _ q1491) dX6_digest_349 ?_
    refine lv_lload_n hx hb dX6_digest_352 rfl (lv_at hl 0 rfl) ?_
    refine lv_lmul hx hb dX6_digest_353 ?_
    refine lv_aload_n hx hb dX6_digest_354 rfl (lv_at hl 1 rfl) ?_
    refine lv_iconst (v := 2) hx hb dX6_digest_355 (by decide) ?_
    refine lv_iconst (v := 1) hx hb dX6_digest_356 (by decide) ?_
    obtain ⟨v13, I12, q_I12, h⟩ := bd2_e h
    refine m_wrJ (As := [.int (2 : Int32), .int (1 : Int32)]) (rest := [.long ((31 : Int64) * v11)]) C hM (mo_regretsOf_met _ Z I9 (2 : Int32) (1 : Int32) (v13, I12) q_I12) (lw_V q1438 q1440 qs74 q88 q1441) mo_regretsOf_hd ⟨rfl, rfl⟩ ⟨Nat.le_of_ble_eq_true rfl, Nat.le_of_ble_eq_true rfl⟩ ⟨Nat.le_refl _, Nat.le_refl _⟩ rfl hl.1 rfl (Nat.le_of_ble_eq_true rfl) dX6_digest_357 (fun H locs hM => ?_)
    refine lv_ladd hx hb dX6_digest_360 ?_
    have h := so_ h
    subst h
    exact W.lret hx hb hr (fun t ht hW => ⟨rfl, ⟨by rw [ht]; exact hM.1, va_K.moved hW.alike hK⟩, hM.2.F ht⟩) hM.2.2.2 dX6_digest_361
  · have h := in_ c1 h
    refine lv_ldc2 (v := 31) hx hb hown (hts _ q1491) dX6_digest_279 ?_
    refine lv_lload_n hx hb dX6_digest_282 rfl (lv_at hl 1 rfl) ?_
    refine lv_lmul hx hb dX6_digest_283 ?_
    refine lv_aload_n hx hb dX6_digest_284 rfl (lv_at hl 0 rfl) ?_
    refine lv_iload_n hx hb dX6_digest_285 rfl (lv_at hl 2 rfl) ?_
    obtain ⟨v15, I14, q_I14, h⟩ := bd2_e h
    refine m_wrI (As := [.int x3]) (rest := [.long ((31 : Int64) * x1)]) C hM (mo_crowdOf_met _ Z I x3 (v15, I14) q_I14) (lw_V q1354 q1356 qs65 q88 q1357) mo_crowdOf_hd ⟨rfl, rfl⟩ ⟨Nat.le_of_ble_eq_true rfl, Nat.le_of_ble_eq_true rfl⟩ ⟨Nat.le_refl _, Nat.le_refl _⟩ rfl hl.1 rfl (Nat.le_of_ble_eq_true rfl) dX6_digest_286 (fun H locs hM => ?_)
    refine lv_i2l hx hb dX6_digest_289 rfl ?_
    refine lv_ladd hx hb dX6_digest_290 ?_
    refine lv_topl (fun v16 e_v16 => ?_)
    have h := lt_i h e_v16
    refine lv_lstore_n (lv' := [(1, .long v16), (0, .ref (mH Z)), (3, .int x3)]) hx hb dX6_digest_291 rfl hl (by decide) rfl (fun ls hl => ?_)
    refine lv_iinc (v := (x3 + 1)) (lv' := [(3, .int (x3 + 1)), (1, .long v16), (0, .ref (mH Z))]) hx hb dX6_digest_292 hl (k := 2) rfl rfl (by decide) rfl (fun ls hl => ?_)
    refine lv_goto (tgt := 274) hx hb dX6_digest_295 (by decide) ?_
    exact hk274 v16 (x3 + 1) I14 _ _ ls hM (lv_sub hl [2, 1, 0] rfl) h
def mo_digest_l274 (n : Nat) : Int64 → Int32 → St → Option (Int64 × St) := lp (fun _ _ _ => none) (mo_digest_b274) n
theorem mo_digest_lw274 {p : Program} {l : Launch} {e : Env} {s : State} {m : MethodId} {args : Array Value} {below : List Frame} {meth : Method} {c : Code} {Z : MZ} (C : MCx p s m args meth c cX6_digest 5 (some .long) Z) {r : (Int64 × St)} : ∀ n : Nat, mo_digest_P274 p l e s m args below meth c Z r (mo_digest_l274 n) := by
  intro n
  induction n with
  | zero => intro x1 x3 I H locs ls hM hl h; exact no_ h
  | succ n ih => exact mo_digest_w274 C ih
def mo_digest_b215 (k207 : Int64 → Int32 → St → Option (Int64 × St)) (k215 : Int64 → Int32 → Int32 → St → Option (Int64 × St)) (x1 : Int64) (x3 : Int32) (x4 : Int32) (I : St) : Option (Int64 × St) :=
  if (3 : Int32) ≤ x4 then (k207 x1 (x3 + 1) I)
  else (bd2_ (mo_ruleOf x3 x4 I) fun v3 I2 =>
    lt_ (((31 : Int64) * x1) + (v3.toInt64)) fun v4 =>
    k215 v4 x3 (x4 + 1) I2)
theorem mo_digest_w215 {p : Program} {l : Launch} {e : Env} {s : State} {m : MethodId} {args : Array Value} {below : List Frame} {meth : Method} {c : Code} {Z : MZ} (C : MCx p s m args meth c cX6_digest 5 (some .long) Z) {r : (Int64 × St)} {k207 : Int64 → Int32 → St → Option (Int64 × St)} (hk207 : mo_digest_P207 p l e s m args below meth c Z r k207) {k215 : Int64 → Int32 → Int32 → St → Option (Int64 × St)} (hk215 : mo_digest_P215 p l e s m args below meth c Z r k215) : mo_digest_P215 p l e s m args below meth c Z r (mo_digest_b215 k207 k215) := by
  intro x1 x3 x4 I H locs ls hM hl h
  obtain ⟨⟨hx, hb, hr, hlocks, hml, hown, hts⟩, hK⟩ := id C
  unfold mo_digest_b215 at h
  refine lv_iload hx hb dX6_digest_215 (lv_at hl 3 rfl) ?_
  refine lv_iconst (v := 3) hx hb dX6_digest_217 (by decide) ?_
  refine lv_icmp_ge (tgt := 242) hx hb dX6_digest_218 (by decide) (fun c1 => ?_) (fun c1 => ?_)
  · have h := ip_ c1 h
    refine lv_iinc (v := (x3 + 1)) (lv' := [(3, .int (x3 + 1)), (0, .ref (mH Z)), (1, .long x1), (4, .int x4)]) hx hb dX6_digest_242 hl (k := 2) rfl rfl (by decide) rfl (fun ls hl => ?_)
    refine lv_goto (tgt := 207) hx hb dX6_digest_245 (by decide) ?_
    exact hk207 x1 (x3 + 1) I _ _ ls hM (lv_sub hl [1, 2, 0] rfl) h
  · have h := in_ c1 h
    refine lv_ldc2 (v := 31) hx hb hown (hts _ q1491) dX6_digest_221 ?_
    refine lv_lload_n hx hb dX6_digest_224 rfl (lv_at hl 1 rfl) ?_
    refine lv_lmul hx hb dX6_digest_225 ?_
    refine lv_aload_n hx hb dX6_digest_226 rfl (lv_at hl 0 rfl) ?_
    refine lv_iload_n hx hb dX6_digest_227 rfl (lv_at hl 2 rfl) ?_
    refine lv_iload hx hb dX6_digest_228 (lv_at hl 3 rfl) ?_
    obtain ⟨v3, I2, q_I2, h⟩ := bd2_e h
    refine m_wrI (As := [.int x3, .int x4]) (rest := [.long ((31 : Int64) * x1)]) C hM (mo_ruleOf_met _ Z I x3 x4 (v3, I2) q_I2) (lw_V q1225 q1227 qs49 q88 q1228) mo_ruleOf_hd ⟨rfl, rfl⟩ ⟨Nat.le_of_ble_eq_true rfl, Nat.le_of_ble_eq_true rfl⟩ ⟨Nat.le_refl _, Nat.le_refl _⟩ rfl hl.1 rfl (Nat.le_of_ble_eq_true rfl) dX6_digest_230 (fun H locs hM => ?_)
    refine lv_i2l hx hb dX6_digest_233 rfl ?_
    refine lv_ladd hx hb dX6_digest_234 ?_
    refine lv_topl (fun v4 e_v4 => ?_)
    have h := lt_i h e_v4
    refine lv_lstore_n (lv' := [(1, .long v4), (0, .ref (mH Z)), (3, .int x3), (4, .int x4)]) hx hb dX6_digest_235 rfl hl (by decide) rfl (fun ls hl => ?_)
    refine lv_iinc (v := (x4 + 1)) (lv' := [(4, .int (x4 + 1)), (1, .long v4), (0, .ref (mH Z)), (3, .int x3)]) hx hb dX6_digest_236 hl (k := 3) rfl rfl (by decide) rfl (fun ls hl => ?_)
    refine lv_goto (tgt := 215) hx hb dX6_digest_239 (by decide) ?_
    exact hk215 v4 x3 (x4 + 1) I2 _ _ ls hM (lv_sub hl [2, 1, 3, 0] rfl) h
def mo_digest_l215 (k207 : Int64 → Int32 → St → Option (Int64 × St)) (n : Nat) : Int64 → Int32 → Int32 → St → Option (Int64 × St) := lp (fun _ _ _ _ => none) (mo_digest_b215 k207) n
theorem mo_digest_lw215 {p : Program} {l : Launch} {e : Env} {s : State} {m : MethodId} {args : Array Value} {below : List Frame} {meth : Method} {c : Code} {Z : MZ} (C : MCx p s m args meth c cX6_digest 5 (some .long) Z) {r : (Int64 × St)} {k207 : Int64 → Int32 → St → Option (Int64 × St)} (hk207 : mo_digest_P207 p l e s m args below meth c Z r k207) : ∀ n : Nat, mo_digest_P215 p l e s m args below meth c Z r (mo_digest_l215 k207 n) := by
  intro n
  induction n with
  | zero => intro x1 x3 x4 I H locs ls hM hl h; exact no_ h
  | succ n ih => exact mo_digest_w215 C hk207 ih
def mo_digest_b207 (k207 : Int64 → Int32 → St → Option (Int64 × St)) (x1 : Int64) (x3 : Int32) (I : St) : Option (Int64 × St) :=
  if (4 : Int32) ≤ x3 then (lt_ (((31 : Int64) * x1) + ((I 24 0).toInt64)) fun v2 =>
    lt_ (((31 : Int64) * v2) + ((I 25 0).toInt64)) fun v3 =>
    mo_digest_l274 FU v3 (0 : Int32) I)
  else (mo_digest_l215 k207 FU x1 x3 (0 : Int32) I)
theorem mo_digest_w207 {p : Program} {l : Launch} {e : Env} {s : State} {m : MethodId} {args : Array Value} {below : List Frame} {meth : Method} {c : Code} {Z : MZ} (C : MCx p s m args meth c cX6_digest 5 (some .long) Z) {r : (Int64 × St)} {k207 : Int64 → Int32 → St → Option (Int64 × St)} (hk207 : mo_digest_P207 p l e s m args below meth c Z r k207) : mo_digest_P207 p l e s m args below meth c Z r (mo_digest_b207 k207) := by
  intro x1 x3 I H locs ls hM hl h
  obtain ⟨⟨hx, hb, hr, hlocks, hml, hown, hts⟩, hK⟩ := id C
  unfold mo_digest_b207 at h
  refine lv_iload_n hx hb dX6_digest_207 rfl (lv_at hl 2 rfl) ?_
  refine lv_iconst (v := 4) hx hb dX6_digest_208 (by decide) ?_
  refine lv_icmp_ge (tgt := 248) hx hb dX6_digest_209 (by decide) (fun c1 => ?_) (fun c1 => ?_)
  · have h := ip_ c1 h
    refine lv_ldc2 (v := 31) hx hb hown (hts _ q1491) dX6_digest_248 ?_
    refine lv_lload_n hx hb dX6_digest_251 rfl (lv_at hl 1 rfl) ?_
    refine lv_lmul hx hb dX6_digest_252 ?_
    refine lv_aload_n hx hb dX6_digest_253 rfl (lv_at hl 0 rfl) ?_
    refine gm24 C hM.1 dX6_digest_254 ?_
    refine lv_i2l hx hb dX6_digest_257 rfl ?_
    refine lv_ladd hx hb dX6_digest_258 ?_
    refine lv_topl (fun v2 e_v2 => ?_)
    have h := lt_i h e_v2
    refine lv_lstore_n (lv' := [(1, .long v2), (0, .ref (mH Z)), (3, .int x3)]) hx hb dX6_digest_259 rfl hl (by decide) rfl (fun ls hl => ?_)
    refine lv_ldc2 (v := 31) hx hb hown (hts _ q1491) dX6_digest_260 ?_
    refine lv_lload_n hx hb dX6_digest_263 rfl (lv_at hl 0 rfl) ?_
    refine lv_lmul hx hb dX6_digest_264 ?_
    refine lv_aload_n hx hb dX6_digest_265 rfl (lv_at hl 1 rfl) ?_
    refine gm25 C hM.1 dX6_digest_266 ?_
    refine lv_i2l hx hb dX6_digest_269 rfl ?_
    refine lv_ladd hx hb dX6_digest_270 ?_
    refine lv_topl (fun v3 e_v3 => ?_)
    have h := lt_i h e_v3
    refine lv_lstore_n (lv' := [(1, .long v3), (0, .ref (mH Z)), (3, .int x3)]) hx hb dX6_digest_271 rfl hl (by decide) rfl (fun ls hl => ?_)
    refine lv_iconst (v := 0) hx hb dX6_digest_272 (by decide) ?_
    refine lv_istore_n (lv' := [(3, .int (0 : Int32)), (1, .long v3), (0, .ref (mH Z))]) hx hb dX6_digest_273 rfl hl (by decide) rfl (fun ls hl => ?_)
    exact mo_digest_lw274 C FU v3 (0 : Int32) I _ _ ls hM (lv_sub hl [2, 1, 0] rfl) h
  · have h := in_ c1 h
    refine lv_iconst (v := 0) hx hb dX6_digest_212 (by decide) ?_
    refine lv_istore (lv' := [(4, .int (0 : Int32)), (0, .ref (mH Z)), (1, .long x1), (3, .int x3)]) hx hb dX6_digest_213 hl (by decide) rfl (fun ls hl => ?_)
    exact mo_digest_lw215 C hk207 FU x1 x3 (0 : Int32) I _ _ ls hM (lv_sub hl [1, 2, 3, 0] rfl) h
def mo_digest_l207 (n : Nat) : Int64 → Int32 → St → Option (Int64 × St) := lp (fun _ _ _ => none) (mo_digest_b207) n
theorem mo_digest_lw207 {p : Program} {l : Launch} {e : Env} {s : State} {m : MethodId} {args : Array Value} {below : List Frame} {meth : Method} {c : Code} {Z : MZ} (C : MCx p s m args meth c cX6_digest 5 (some .long) Z) {r : (Int64 × St)} : ∀ n : Nat, mo_digest_P207 p l e s m args below meth c Z r (mo_digest_l207 n) := by
  intro n
  induction n with
  | zero => intro x1 x3 I H locs ls hM hl h; exact no_ h
  | succ n ih => exact mo_digest_w207 C ih
def mo_digest_b74 (k63 : Int64 → Int32 → St → Option (Int64 × St)) (k74 : Int64 → Int32 → Int32 → St → Option (Int64 × St)) (x1 : Int64) (x3 : Int32) (x4 : Int32) (I : St) : Option (Int64 × St) :=
  if (5 : Int32) ≤ x4 then (bd_ (mo_hoursOf I x3) fun v2 =>
    lt_ (((31 : Int64) * x1) + (v2.toInt64)) fun v3 =>
    bd_ (mo_costsOf I x3 (2 : Int32)) fun v4 =>
    lt_ (((31 : Int64) * v3) + (v4.toInt64)) fun v5 =>
    bd_ (mo_likenessOf I x3 (2 : Int32)) fun v6 =>
    lt_ (((31 : Int64) * v5) + (v6.toInt64)) fun v7 =>
    bd_ (mo_oddsOf I x3 (2 : Int32) (0 : Int32)) fun v8 =>
    lt_ (((31 : Int64) * v7) + v8) fun v9 =>
    bd_ (mo_oddsOf I x3 (2 : Int32) (1 : Int32)) fun v10 =>
    lt_ (((31 : Int64) * v9) + v10) fun v11 =>
    al_ 8 (I 21) x3 fun v12 =>
    lt_ (((31 : Int64) * v11) + (v12.toInt64)) fun v13 =>
    bd_ (mo_sparedOf I ((1 : Int32) <<< (x3 &&& 31))) fun v14 =>
    lt_ (((31 : Int64) * v13) + (v14.toInt64)) fun v15 =>
    k63 v15 (x3 + 1) I)
  else (bd_ (mo_deedOf I x3 x4) fun v16 =>
    lt_ (((31 : Int64) * x1) + (v16.toInt64)) fun v17 =>
    k74 v17 x3 (x4 + 1) I)
theorem mo_digest_w74 {p : Program} {l : Launch} {e : Env} {s : State} {m : MethodId} {args : Array Value} {below : List Frame} {meth : Method} {c : Code} {Z : MZ} (C : MCx p s m args meth c cX6_digest 5 (some .long) Z) {r : (Int64 × St)} {k63 : Int64 → Int32 → St → Option (Int64 × St)} (hk63 : mo_digest_P63 p l e s m args below meth c Z r k63) {k74 : Int64 → Int32 → Int32 → St → Option (Int64 × St)} (hk74 : mo_digest_P74 p l e s m args below meth c Z r k74) : mo_digest_P74 p l e s m args below meth c Z r (mo_digest_b74 k63 k74) := by
  intro x1 x3 x4 I H locs ls hM hl h
  obtain ⟨⟨hx, hb, hr, hlocks, hml, hown, hts⟩, hK⟩ := id C
  unfold mo_digest_b74 at h
  refine lv_iload hx hb dX6_digest_74 (lv_at hl 3 rfl) ?_
  refine lv_iconst (v := 5) hx hb dX6_digest_76 (by decide) ?_
  refine lv_icmp_ge (tgt := 101) hx hb dX6_digest_77 (by decide) (fun c1 => ?_) (fun c1 => ?_)
  · have h := ip_ c1 h
    refine lv_ldc2 (v := 31) hx hb hown (hts _ q1491) dX6_digest_101 ?_
    refine lv_lload_n hx hb dX6_digest_104 rfl (lv_at hl 1 rfl) ?_
    refine lv_lmul hx hb dX6_digest_105 ?_
    refine lv_aload_n hx hb dX6_digest_106 rfl (lv_at hl 0 rfl) ?_
    refine lv_iload_n hx hb dX6_digest_107 rfl (lv_at hl 2 rfl) ?_
    obtain ⟨v2, q_v2, h⟩ := bd_e h
    refine m_roI (As := [.int x3]) (rest := [.long ((31 : Int64) * x1)]) C hM.1 (mo_hoursOf_met _ Z I x3 v2 q_v2) (lw_V q1285 q1287 qs55 q88 q1288) mo_hoursOf_hd ⟨rfl, rfl⟩ ⟨Nat.le_of_ble_eq_true rfl, Nat.le_of_ble_eq_true rfl⟩ ⟨Nat.le_refl _, Nat.le_refl _⟩ rfl hl.1 rfl (Nat.le_of_ble_eq_true rfl) dX6_digest_108 ?_
    refine lv_i2l hx hb dX6_digest_111 rfl ?_
    refine lv_ladd hx hb dX6_digest_112 ?_
    refine lv_topl (fun v3 e_v3 => ?_)
    have h := lt_i h e_v3
    refine lv_lstore_n (lv' := [(1, .long v3), (0, .ref (mH Z)), (3, .int x3), (4, .int x4)]) hx hb dX6_digest_113 rfl hl (by decide) rfl (fun ls hl => ?_)
    refine lv_ldc2 (v := 31) hx hb hown (hts _ q1491) dX6_digest_114 ?_
    refine lv_lload_n hx hb dX6_digest_117 rfl (lv_at hl 0 rfl) ?_
    refine lv_lmul hx hb dX6_digest_118 ?_
    refine lv_aload_n hx hb dX6_digest_119 rfl (lv_at hl 1 rfl) ?_
    refine lv_iload_n hx hb dX6_digest_120 rfl (lv_at hl 2 rfl) ?_
    refine lv_iconst (v := 2) hx hb dX6_digest_121 (by decide) ?_
    obtain ⟨v4, q_v4, h⟩ := bd_e h
    refine m_roI (As := [.int x3, .int (2 : Int32)]) (rest := [.long ((31 : Int64) * v3)]) C hM.1 (mo_costsOf_met _ Z I x3 (2 : Int32) v4 q_v4) (lw_V q1297 q1299 qs56 q88 q1300) mo_costsOf_hd ⟨rfl, rfl⟩ ⟨Nat.le_of_ble_eq_true rfl, Nat.le_of_ble_eq_true rfl⟩ ⟨Nat.le_refl _, Nat.le_refl _⟩ rfl hl.1 rfl (Nat.le_of_ble_eq_true rfl) dX6_digest_122 ?_
    refine lv_i2l hx hb dX6_digest_125 rfl ?_
    refine lv_ladd hx hb dX6_digest_126 ?_
    refine lv_topl (fun v5 e_v5 => ?_)
    have h := lt_i h e_v5
    refine lv_lstore_n (lv' := [(1, .long v5), (0, .ref (mH Z)), (3, .int x3), (4, .int x4)]) hx hb dX6_digest_127 rfl hl (by decide) rfl (fun ls hl => ?_)
    refine lv_ldc2 (v := 31) hx hb hown (hts _ q1491) dX6_digest_128 ?_
    refine lv_lload_n hx hb dX6_digest_131 rfl (lv_at hl 0 rfl) ?_
    refine lv_lmul hx hb dX6_digest_132 ?_
    refine lv_aload_n hx hb dX6_digest_133 rfl (lv_at hl 1 rfl) ?_
    refine lv_iload_n hx hb dX6_digest_134 rfl (lv_at hl 2 rfl) ?_
    refine lv_iconst (v := 2) hx hb dX6_digest_135 (by decide) ?_
    obtain ⟨v6, q_v6, h⟩ := bd_e h
    refine m_roI (As := [.int x3, .int (2 : Int32)]) (rest := [.long ((31 : Int64) * v5)]) C hM.1 (mo_likenessOf_met _ Z I x3 (2 : Int32) v6 q_v6) (lw_V q1362 q1364 qs66 q88 q1365) mo_likenessOf_hd ⟨rfl, rfl⟩ ⟨Nat.le_of_ble_eq_true rfl, Nat.le_of_ble_eq_true rfl⟩ ⟨Nat.le_refl _, Nat.le_refl _⟩ rfl hl.1 rfl (Nat.le_of_ble_eq_true rfl) dX6_digest_136 ?_
    refine lv_i2l hx hb dX6_digest_139 rfl ?_
    refine lv_ladd hx hb dX6_digest_140 ?_
    refine lv_topl (fun v7 e_v7 => ?_)
    have h := lt_i h e_v7
    refine lv_lstore_n (lv' := [(1, .long v7), (0, .ref (mH Z)), (3, .int x3), (4, .int x4)]) hx hb dX6_digest_141 rfl hl (by decide) rfl (fun ls hl => ?_)
    refine lv_ldc2 (v := 31) hx hb hown (hts _ q1491) dX6_digest_142 ?_
    refine lv_lload_n hx hb dX6_digest_145 rfl (lv_at hl 0 rfl) ?_
    refine lv_lmul hx hb dX6_digest_146 ?_
    refine lv_aload_n hx hb dX6_digest_147 rfl (lv_at hl 1 rfl) ?_
    refine lv_iload_n hx hb dX6_digest_148 rfl (lv_at hl 2 rfl) ?_
    refine lv_iconst (v := 2) hx hb dX6_digest_149 (by decide) ?_
    refine lv_iconst (v := 0) hx hb dX6_digest_150 (by decide) ?_
    obtain ⟨v8, q_v8, h⟩ := bd_e h
    refine m_roJ (As := [.int x3, .int (2 : Int32), .int (0 : Int32)]) (rest := [.long ((31 : Int64) * v7)]) C hM.1 (mo_oddsOf_met _ Z I x3 (2 : Int32) (0 : Int32) v8 q_v8) (lw_V q1370 q1372 qs67 q88 q1373) mo_oddsOf_hd ⟨rfl, rfl⟩ ⟨Nat.le_of_ble_eq_true rfl, Nat.le_of_ble_eq_true rfl⟩ ⟨Nat.le_refl _, Nat.le_refl _⟩ rfl hl.1 rfl (Nat.le_of_ble_eq_true rfl) dX6_digest_151 ?_
    refine lv_ladd hx hb dX6_digest_154 ?_
    refine lv_topl (fun v9 e_v9 => ?_)
    have h := lt_i h e_v9
    refine lv_lstore_n (lv' := [(1, .long v9), (0, .ref (mH Z)), (3, .int x3), (4, .int x4)]) hx hb dX6_digest_155 rfl hl (by decide) rfl (fun ls hl => ?_)
    refine lv_ldc2 (v := 31) hx hb hown (hts _ q1491) dX6_digest_156 ?_
    refine lv_lload_n hx hb dX6_digest_159 rfl (lv_at hl 0 rfl) ?_
    refine lv_lmul hx hb dX6_digest_160 ?_
    refine lv_aload_n hx hb dX6_digest_161 rfl (lv_at hl 1 rfl) ?_
    refine lv_iload_n hx hb dX6_digest_162 rfl (lv_at hl 2 rfl) ?_
    refine lv_iconst (v := 2) hx hb dX6_digest_163 (by decide) ?_
    refine lv_iconst (v := 1) hx hb dX6_digest_164 (by decide) ?_
    obtain ⟨v10, q_v10, h⟩ := bd_e h
    refine m_roJ (As := [.int x3, .int (2 : Int32), .int (1 : Int32)]) (rest := [.long ((31 : Int64) * v9)]) C hM.1 (mo_oddsOf_met _ Z I x3 (2 : Int32) (1 : Int32) v10 q_v10) (lw_V q1370 q1372 qs67 q88 q1373) mo_oddsOf_hd ⟨rfl, rfl⟩ ⟨Nat.le_of_ble_eq_true rfl, Nat.le_of_ble_eq_true rfl⟩ ⟨Nat.le_refl _, Nat.le_refl _⟩ rfl hl.1 rfl (Nat.le_of_ble_eq_true rfl) dX6_digest_165 ?_
    refine lv_ladd hx hb dX6_digest_168 ?_
    refine lv_topl (fun v11 e_v11 => ?_)
    have h := lt_i h e_v11
    refine lv_lstore_n (lv' := [(1, .long v11), (0, .ref (mH Z)), (3, .int x3), (4, .int x4)]) hx hb dX6_digest_169 rfl hl (by decide) rfl (fun ls hl => ?_)
    refine lv_ldc2 (v := 31) hx hb hown (hts _ q1491) dX6_digest_170 ?_
    refine lv_lload_n hx hb dX6_digest_173 rfl (lv_at hl 0 rfl) ?_
    refine lv_lmul hx hb dX6_digest_174 ?_
    refine lv_aload_n hx hb dX6_digest_175 rfl (lv_at hl 1 rfl) ?_
    refine gm21 C hM.1 dX6_digest_176 ?_
    refine lv_iload_n hx hb dX6_digest_179 rfl (lv_at hl 2 rfl) ?_
    obtain ⟨i_v12, h⟩ := al_e h
    refine m_ald C hM.1 (pos := 19) (k := 21) rfl rfl i_v12 dX6_digest_180 (fun v12 e_v12 => ?_)
    have h := h v12 e_v12
    refine lv_i2l hx hb dX6_digest_181 rfl ?_
    refine lv_ladd hx hb dX6_digest_182 ?_
    refine lv_topl (fun v13 e_v13 => ?_)
    have h := lt_i h e_v13
    refine lv_lstore_n (lv' := [(1, .long v13), (0, .ref (mH Z)), (3, .int x3), (4, .int x4)]) hx hb dX6_digest_183 rfl hl (by decide) rfl (fun ls hl => ?_)
    refine lv_ldc2 (v := 31) hx hb hown (hts _ q1491) dX6_digest_184 ?_
    refine lv_lload_n hx hb dX6_digest_187 rfl (lv_at hl 0 rfl) ?_
    refine lv_lmul hx hb dX6_digest_188 ?_
    refine lv_aload_n hx hb dX6_digest_189 rfl (lv_at hl 1 rfl) ?_
    refine lv_iconst (v := 1) hx hb dX6_digest_190 (by decide) ?_
    refine lv_iload_n hx hb dX6_digest_191 rfl (lv_at hl 2 rfl) ?_
    refine lv_ishl hx hb dX6_digest_192 ?_
    obtain ⟨v14, q_v14, h⟩ := bd_e h
    refine m_roI (As := [.int ((1 : Int32) <<< (x3 &&& 31))]) (rest := [.long ((31 : Int64) * v13)]) C hM.1 (mo_sparedOf_met _ Z I ((1 : Int32) <<< (x3 &&& 31)) v14 q_v14) (lw_V q1422 q1424 qs72 q88 q1425) mo_sparedOf_hd ⟨rfl, rfl⟩ ⟨Nat.le_of_ble_eq_true rfl, Nat.le_of_ble_eq_true rfl⟩ ⟨Nat.le_refl _, Nat.le_refl _⟩ rfl hl.1 rfl (Nat.le_of_ble_eq_true rfl) dX6_digest_193 ?_
    refine lv_i2l hx hb dX6_digest_196 rfl ?_
    refine lv_ladd hx hb dX6_digest_197 ?_
    refine lv_topl (fun v15 e_v15 => ?_)
    have h := lt_i h e_v15
    refine lv_lstore_n (lv' := [(1, .long v15), (0, .ref (mH Z)), (3, .int x3), (4, .int x4)]) hx hb dX6_digest_198 rfl hl (by decide) rfl (fun ls hl => ?_)
    refine lv_iinc (v := (x3 + 1)) (lv' := [(3, .int (x3 + 1)), (1, .long v15), (0, .ref (mH Z)), (4, .int x4)]) hx hb dX6_digest_199 hl (k := 2) rfl rfl (by decide) rfl (fun ls hl => ?_)
    refine lv_goto (tgt := 63) hx hb dX6_digest_202 (by decide) ?_
    exact hk63 v15 (x3 + 1) I _ _ ls hM (lv_sub hl [2, 1, 0] rfl) h
  · have h := in_ c1 h
    refine lv_ldc2 (v := 31) hx hb hown (hts _ q1491) dX6_digest_80 ?_
    refine lv_lload_n hx hb dX6_digest_83 rfl (lv_at hl 1 rfl) ?_
    refine lv_lmul hx hb dX6_digest_84 ?_
    refine lv_aload_n hx hb dX6_digest_85 rfl (lv_at hl 0 rfl) ?_
    refine lv_iload_n hx hb dX6_digest_86 rfl (lv_at hl 2 rfl) ?_
    refine lv_iload hx hb dX6_digest_87 (lv_at hl 3 rfl) ?_
    obtain ⟨v16, q_v16, h⟩ := bd_e h
    refine m_roI (As := [.int x3, .int x4]) (rest := [.long ((31 : Int64) * x1)]) C hM.1 (mo_deedOf_met _ Z I x3 x4 v16 q_v16) (lw_V q1217 q1219 qs48 q88 q1220) mo_deedOf_hd ⟨rfl, rfl⟩ ⟨Nat.le_of_ble_eq_true rfl, Nat.le_of_ble_eq_true rfl⟩ ⟨Nat.le_refl _, Nat.le_refl _⟩ rfl hl.1 rfl (Nat.le_of_ble_eq_true rfl) dX6_digest_89 ?_
    refine lv_i2l hx hb dX6_digest_92 rfl ?_
    refine lv_ladd hx hb dX6_digest_93 ?_
    refine lv_topl (fun v17 e_v17 => ?_)
    have h := lt_i h e_v17
    refine lv_lstore_n (lv' := [(1, .long v17), (0, .ref (mH Z)), (3, .int x3), (4, .int x4)]) hx hb dX6_digest_94 rfl hl (by decide) rfl (fun ls hl => ?_)
    refine lv_iinc (v := (x4 + 1)) (lv' := [(4, .int (x4 + 1)), (1, .long v17), (0, .ref (mH Z)), (3, .int x3)]) hx hb dX6_digest_95 hl (k := 3) rfl rfl (by decide) rfl (fun ls hl => ?_)
    refine lv_goto (tgt := 74) hx hb dX6_digest_98 (by decide) ?_
    exact hk74 v17 x3 (x4 + 1) I _ _ ls hM (lv_sub hl [2, 1, 3, 0] rfl) h
def mo_digest_l74 (k63 : Int64 → Int32 → St → Option (Int64 × St)) (n : Nat) : Int64 → Int32 → Int32 → St → Option (Int64 × St) := lp (fun _ _ _ _ => none) (mo_digest_b74 k63) n
theorem mo_digest_lw74 {p : Program} {l : Launch} {e : Env} {s : State} {m : MethodId} {args : Array Value} {below : List Frame} {meth : Method} {c : Code} {Z : MZ} (C : MCx p s m args meth c cX6_digest 5 (some .long) Z) {r : (Int64 × St)} {k63 : Int64 → Int32 → St → Option (Int64 × St)} (hk63 : mo_digest_P63 p l e s m args below meth c Z r k63) : ∀ n : Nat, mo_digest_P74 p l e s m args below meth c Z r (mo_digest_l74 k63 n) := by
  intro n
  induction n with
  | zero => intro x1 x3 x4 I H locs ls hM hl h; exact no_ h
  | succ n ih => exact mo_digest_w74 C hk63 ih
def mo_digest_b63 (k63 : Int64 → Int32 → St → Option (Int64 × St)) (x1 : Int64) (x3 : Int32) (I : St) : Option (Int64 × St) :=
  if (I 2 0) ≤ x3 then (mo_digest_l207 FU x1 (0 : Int32) I)
  else (mo_digest_l74 k63 FU x1 x3 (0 : Int32) I)
theorem mo_digest_w63 {p : Program} {l : Launch} {e : Env} {s : State} {m : MethodId} {args : Array Value} {below : List Frame} {meth : Method} {c : Code} {Z : MZ} (C : MCx p s m args meth c cX6_digest 5 (some .long) Z) {r : (Int64 × St)} {k63 : Int64 → Int32 → St → Option (Int64 × St)} (hk63 : mo_digest_P63 p l e s m args below meth c Z r k63) : mo_digest_P63 p l e s m args below meth c Z r (mo_digest_b63 k63) := by
  intro x1 x3 I H locs ls hM hl h
  obtain ⟨⟨hx, hb, hr, hlocks, hml, hown, hts⟩, hK⟩ := id C
  unfold mo_digest_b63 at h
  refine lv_iload_n hx hb dX6_digest_63 rfl (lv_at hl 2 rfl) ?_
  refine lv_aload_n hx hb dX6_digest_64 rfl (lv_at hl 0 rfl) ?_
  refine gm2 C hM.1 dX6_digest_65 ?_
  refine lv_icmp_ge (tgt := 205) hx hb dX6_digest_68 (by decide) (fun c1 => ?_) (fun c1 => ?_)
  · have h := ip_ c1 h
    refine lv_iconst (v := 0) hx hb dX6_digest_205 (by decide) ?_
    refine lv_istore_n (lv' := [(3, .int (0 : Int32)), (0, .ref (mH Z)), (1, .long x1)]) hx hb dX6_digest_206 rfl hl (by decide) rfl (fun ls hl => ?_)
    exact mo_digest_lw207 C FU x1 (0 : Int32) I _ _ ls hM (lv_sub hl [1, 2, 0] rfl) h
  · have h := in_ c1 h
    refine lv_iconst (v := 0) hx hb dX6_digest_71 (by decide) ?_
    refine lv_istore (lv' := [(4, .int (0 : Int32)), (0, .ref (mH Z)), (1, .long x1), (3, .int x3)]) hx hb dX6_digest_72 hl (by decide) rfl (fun ls hl => ?_)
    exact mo_digest_lw74 C hk63 FU x1 x3 (0 : Int32) I _ _ ls hM (lv_sub hl [1, 2, 3, 0] rfl) h
def mo_digest_l63 (n : Nat) : Int64 → Int32 → St → Option (Int64 × St) := lp (fun _ _ _ => none) (mo_digest_b63) n
theorem mo_digest_lw63 {p : Program} {l : Launch} {e : Env} {s : State} {m : MethodId} {args : Array Value} {below : List Frame} {meth : Method} {c : Code} {Z : MZ} (C : MCx p s m args meth c cX6_digest 5 (some .long) Z) {r : (Int64 × St)} : ∀ n : Nat, mo_digest_P63 p l e s m args below meth c Z r (mo_digest_l63 n) := by
  intro n
  induction n with
  | zero => intro x1 x3 I H locs ls hM hl h; exact no_ h
  | succ n ih => exact mo_digest_w63 C ih
def mo_digest_b6 (k6 : Int64 → Int32 → St → Option (Int64 × St)) (x1 : Int64) (x3 : Int32) (I : St) : Option (Int64 × St) :=
  if (8 : Int32) ≤ x3 then (bd2_ (mo_faultOf (0 : Int32) I) fun v3 I2 =>
    lt_ (((31 : Int64) * x1) + (v3.toInt64)) fun v4 =>
    bd2_ (mo_faultOf (1 : Int32) I2) fun v6 I5 =>
    lt_ (((31 : Int64) * v4) + (v6.toInt64)) fun v7 =>
    bd_ (mo_laysMost  I5) fun I8 =>
    mo_digest_l63 FU v7 (0 : Int32) I8)
  else (bd2_ (mo_count x3 I) fun v10 I9 =>
    lt_ (((31 : Int64) * x1) + (v10.toInt64)) fun v11 =>
    k6 v11 (x3 + 1) I9)
theorem mo_digest_w6 {p : Program} {l : Launch} {e : Env} {s : State} {m : MethodId} {args : Array Value} {below : List Frame} {meth : Method} {c : Code} {Z : MZ} (C : MCx p s m args meth c cX6_digest 5 (some .long) Z) {r : (Int64 × St)} {k6 : Int64 → Int32 → St → Option (Int64 × St)} (hk6 : mo_digest_P6 p l e s m args below meth c Z r k6) : mo_digest_P6 p l e s m args below meth c Z r (mo_digest_b6 k6) := by
  intro x1 x3 I H locs ls hM hl h
  obtain ⟨⟨hx, hb, hr, hlocks, hml, hown, hts⟩, hK⟩ := id C
  unfold mo_digest_b6 at h
  refine lv_iload_n hx hb dX6_digest_6 rfl (lv_at hl 2 rfl) ?_
  refine lv_bipush (v := 8) hx hb dX6_digest_7 (by decide) ?_
  refine lv_icmp_ge (tgt := 31) hx hb dX6_digest_9 (by decide) (fun c1 => ?_) (fun c1 => ?_)
  · have h := ip_ c1 h
    refine lv_ldc2 (v := 31) hx hb hown (hts _ q1491) dX6_digest_31 ?_
    refine lv_lload_n hx hb dX6_digest_34 rfl (lv_at hl 1 rfl) ?_
    refine lv_lmul hx hb dX6_digest_35 ?_
    refine lv_aload_n hx hb dX6_digest_36 rfl (lv_at hl 0 rfl) ?_
    refine lv_iconst (v := 0) hx hb dX6_digest_37 (by decide) ?_
    obtain ⟨v3, I2, q_I2, h⟩ := bd2_e h
    refine m_wrI (As := [.int (0 : Int32)]) (rest := [.long ((31 : Int64) * x1)]) C hM (mo_faultOf_met _ Z I (0 : Int32) (v3, I2) q_I2) (lw_V q1179 q1181 qs41 q88 q1182) mo_faultOf_hd ⟨rfl, rfl⟩ ⟨Nat.le_of_ble_eq_true rfl, Nat.le_of_ble_eq_true rfl⟩ ⟨Nat.le_refl _, Nat.le_refl _⟩ rfl hl.1 rfl (Nat.le_of_ble_eq_true rfl) dX6_digest_38 (fun H locs hM => ?_)
    refine lv_i2l hx hb dX6_digest_41 rfl ?_
    refine lv_ladd hx hb dX6_digest_42 ?_
    refine lv_topl (fun v4 e_v4 => ?_)
    have h := lt_i h e_v4
    refine lv_lstore_n (lv' := [(1, .long v4), (0, .ref (mH Z)), (3, .int x3)]) hx hb dX6_digest_43 rfl hl (by decide) rfl (fun ls hl => ?_)
    refine lv_ldc2 (v := 31) hx hb hown (hts _ q1491) dX6_digest_44 ?_
    refine lv_lload_n hx hb dX6_digest_47 rfl (lv_at hl 0 rfl) ?_
    refine lv_lmul hx hb dX6_digest_48 ?_
    refine lv_aload_n hx hb dX6_digest_49 rfl (lv_at hl 1 rfl) ?_
    refine lv_iconst (v := 1) hx hb dX6_digest_50 (by decide) ?_
    obtain ⟨v6, I5, q_I5, h⟩ := bd2_e h
    refine m_wrI (As := [.int (1 : Int32)]) (rest := [.long ((31 : Int64) * v4)]) C hM (mo_faultOf_met _ Z I2 (1 : Int32) (v6, I5) q_I5) (lw_V q1179 q1181 qs41 q88 q1182) mo_faultOf_hd ⟨rfl, rfl⟩ ⟨Nat.le_of_ble_eq_true rfl, Nat.le_of_ble_eq_true rfl⟩ ⟨Nat.le_refl _, Nat.le_refl _⟩ rfl hl.1 rfl (Nat.le_of_ble_eq_true rfl) dX6_digest_51 (fun H locs hM => ?_)
    refine lv_i2l hx hb dX6_digest_54 rfl ?_
    refine lv_ladd hx hb dX6_digest_55 ?_
    refine lv_topl (fun v7 e_v7 => ?_)
    have h := lt_i h e_v7
    refine lv_lstore_n (lv' := [(1, .long v7), (0, .ref (mH Z)), (3, .int x3)]) hx hb dX6_digest_56 rfl hl (by decide) rfl (fun ls hl => ?_)
    refine lv_aload_n hx hb dX6_digest_57 rfl (lv_at hl 1 rfl) ?_
    obtain ⟨I8, q_I8, h⟩ := bd_e h
    refine m_wrV (As := []) (rest := []) C hM (mo_laysMost_met _ Z I5  I8 q_I8) (lw_V q1309 q1311 qs58 q88 q1312) mo_laysMost_hd ⟨rfl, rfl⟩ ⟨Nat.le_of_ble_eq_true rfl, Nat.le_of_ble_eq_true rfl⟩ ⟨Nat.le_refl _, Nat.le_refl _⟩ rfl hl.1 rfl (Nat.le_of_ble_eq_true rfl) dX6_digest_58 (fun H locs hM => ?_)
    refine lv_iconst (v := 0) hx hb dX6_digest_61 (by decide) ?_
    refine lv_istore_n (lv' := [(3, .int (0 : Int32)), (1, .long v7), (0, .ref (mH Z))]) hx hb dX6_digest_62 rfl hl (by decide) rfl (fun ls hl => ?_)
    exact mo_digest_lw63 C FU v7 (0 : Int32) I8 _ _ ls hM (lv_sub hl [2, 1, 0] rfl) h
  · have h := in_ c1 h
    refine lv_ldc2 (v := 31) hx hb hown (hts _ q1491) dX6_digest_12 ?_
    refine lv_lload_n hx hb dX6_digest_15 rfl (lv_at hl 1 rfl) ?_
    refine lv_lmul hx hb dX6_digest_16 ?_
    refine lv_aload_n hx hb dX6_digest_17 rfl (lv_at hl 0 rfl) ?_
    refine lv_iload_n hx hb dX6_digest_18 rfl (lv_at hl 2 rfl) ?_
    obtain ⟨v10, I9, q_I9, h⟩ := bd2_e h
    refine m_wrI (As := [.int x3]) (rest := [.long ((31 : Int64) * x1)]) C hM (mo_count_met _ Z I x3 (v10, I9) q_I9) (lw_V q1492 q1479 q1480 q88 q1481) mo_count_hd ⟨rfl, rfl⟩ ⟨Nat.le_of_ble_eq_true rfl, Nat.le_of_ble_eq_true rfl⟩ ⟨Nat.le_refl _, Nat.le_refl _⟩ rfl hl.1 rfl (Nat.le_of_ble_eq_true rfl) dX6_digest_19 (fun H locs hM => ?_)
    refine lv_i2l hx hb dX6_digest_22 rfl ?_
    refine lv_ladd hx hb dX6_digest_23 ?_
    refine lv_topl (fun v11 e_v11 => ?_)
    have h := lt_i h e_v11
    refine lv_lstore_n (lv' := [(1, .long v11), (0, .ref (mH Z)), (3, .int x3)]) hx hb dX6_digest_24 rfl hl (by decide) rfl (fun ls hl => ?_)
    refine lv_iinc (v := (x3 + 1)) (lv' := [(3, .int (x3 + 1)), (1, .long v11), (0, .ref (mH Z))]) hx hb dX6_digest_25 hl (k := 2) rfl rfl (by decide) rfl (fun ls hl => ?_)
    refine lv_goto (tgt := 6) hx hb dX6_digest_28 (by decide) ?_
    exact hk6 v11 (x3 + 1) I9 _ _ ls hM (lv_sub hl [2, 1, 0] rfl) h
def mo_digest_l6 (n : Nat) : Int64 → Int32 → St → Option (Int64 × St) := lp (fun _ _ _ => none) (mo_digest_b6) n
theorem mo_digest_lw6 {p : Program} {l : Launch} {e : Env} {s : State} {m : MethodId} {args : Array Value} {below : List Frame} {meth : Method} {c : Code} {Z : MZ} (C : MCx p s m args meth c cX6_digest 5 (some .long) Z) {r : (Int64 × St)} : ∀ n : Nat, mo_digest_P6 p l e s m args below meth c Z r (mo_digest_l6 n) := by
  intro n
  induction n with
  | zero => intro x1 x3 I H locs ls hM hl h; exact no_ h
  | succ n ih => exact mo_digest_w6 C ih
def mo_digest (I : St) : Option (Int64 × St) :=
  mo_digest_l6 FU (17 : Int64) (0 : Int32) I
theorem mo_digest_w0 {p : Program} {l : Launch} {e : Env} {s : State} {m : MethodId} {args : Array Value} {below : List Frame} {meth : Method} {c : Code} {Z : MZ} (C : MCx p s m args meth c cX6_digest 5 (some .long) Z) {r : (Int64 × St)} : mo_digest_P0 p l e s m args below meth c Z r (mo_digest) := by
  intro I H locs ls hM hl h
  obtain ⟨⟨hx, hb, hr, hlocks, hml, hown, hts⟩, hK⟩ := id C
  unfold mo_digest at h
  refine lv_ldc2 (v := 17) hx hb hown (hts _ q1490) dX6_digest_0 ?_
  refine lv_lstore_n (lv' := [(1, .long (17 : Int64)), (0, .ref (mH Z))]) hx hb dX6_digest_3 rfl hl (by decide) rfl (fun ls hl => ?_)
  refine lv_iconst (v := 0) hx hb dX6_digest_4 (by decide) ?_
  refine lv_istore_n (lv' := [(3, .int (0 : Int32)), (1, .long (17 : Int64)), (0, .ref (mH Z))]) hx hb dX6_digest_5 rfl hl (by decide) rfl (fun ls hl => ?_)
  exact mo_digest_lw6 C FU (17 : Int64) (0 : Int32) I _ _ ls hM (lv_sub hl [2, 1, 0] rfl) h
theorem mo_digest_hd : yX6_digest.cls = RX6 ∧ yX6_digest.cls ≠ "java/lang/invoke/MethodHandle" ∧ yX6_digest.cls ≠ "java/lang/invoke/VarHandle" ∧ (parseMethodDescriptor yX6_digest.desc).map (fun d => d.parameters.length) = some 0 := by decide +kernel
theorem mo_digest_met (l : Launch) (Z : MZ) (I : St) (r : (Int64 × St)) (h : mo_digest I = some r) : Met l yX6_digest (ws_ yX6_digest cX6_digest 5 (some .long)) mo_digest_rm (va_Pc [.ref (mH Z)] (mS Z I)) (Qwr (some (.long r.1)) (mS Z r.2) (mA Z)) 0 0 (mA Z) := by
  refine Met.ofW (cc := cX6_digest) (maxL := 5) (ret := some .long) (by decide) rfl ?_
  intro p e s m args below meth c s₁ B hml hv
  obtain ⟨rfl, hv⟩ := hv
  have hts := atoms_spec (ws := ws_ yX6_digest cX6_digest 5 (some .long)) B.pre
  have hts : ∀ w ∈ lw_all, w.before _ s = true := fun w h => hts w (List.mem_cons_of_mem _ h)
  have C : SCx p s m _ meth c cX6_digest 5 (some .long) RX6 := ⟨B.exec, B.bytes, B.returns, B.notSynchronized, hml, findClass_of_methodNamed B.named, hts⟩
  have hl := lv_entry [.ref (mH Z)] (n := 5) (Nat.le_of_ble_eq_true rfl)
  rw [lg_entry_eq]
  generalize (lg_sl [.ref (mH Z)] ++ List.replicate (5 - (lg_sl [.ref (mH Z)]).length) Slot.unset).toArray = ls at hl ⊢
  have C : MCx p s m _ meth c _ _ _ Z := ⟨C, hv.2⟩
  have hM : mIn Z s I s.heap [] := ⟨hv.1, va_S.rf⟩
  exact mo_digest_w0 C  I _ _ ls hM hl h

