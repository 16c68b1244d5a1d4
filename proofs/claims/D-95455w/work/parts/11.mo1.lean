set_option maxRecDepth 100000
/-! SecondChancesModel.person(III)I -/
def mo_person_rm : Room := { frames := 2, cells := 0, slots := 0, locals := 42 }
def mo_person_P0 (p : Program) (l : Launch) (e : Env) (s : State) (m : MethodId) (args : Array Value) (below : List Frame) (meth : Method) (c : Code) (Z : MZ) (r : (Int32 × St)) (f : Int32 → Int32 → Int32 → St → Option (Int32 × St)) : Prop := ∀ (x1 : Int32) (x2 : Int32) (x3 : Int32) (I : St) (H : Heap) (locs : List Loc) (ls : Array Slot), mIn Z s I H locs → lv_has ls 5 [(0, .ref (mH Z)), (1, .int x1), (2, .int x2), (3, .int x3)] → f x1 x2 x3 I = some r → W p l e mo_person_rm s m args below meth c H locs 0 0 (MQ below (Qwr (some (.int r.1)) (mS Z r.2) (mA Z)) args s 0 0 (mA Z)) (F0 m 0 ls [])
def mo_person_P49 (p : Program) (l : Launch) (e : Env) (s : State) (m : MethodId) (args : Array Value) (below : List Frame) (meth : Method) (c : Code) (Z : MZ) (r : (Int32 × St)) (f : Int32 → Int32 → Int32 → Int32 → Int32 → Int32 → St → Option (Int32 × St)) : Prop := ∀ (x1 : Int32) (x2 : Int32) (x3 : Int32) (t0 : Int32) (t1 : Int32) (t2 : Int32) (I : St) (H : Heap) (locs : List Loc) (ls : Array Slot), mIn Z s I H locs → lv_has ls 5 [(0, .ref (mH Z)), (1, .int x1), (2, .int x2), (3, .int x3)] → f x1 x2 x3 t0 t1 t2 I = some r → W p l e mo_person_rm s m args below meth c H locs 0 0 (MQ below (Qwr (some (.int r.1)) (mS Z r.2) (mA Z)) args s 0 0 (mA Z)) (F0 m 49 ls [.int t0, .int t1, .int t2])
def mo_person_P105 (p : Program) (l : Launch) (e : Env) (s : State) (m : MethodId) (args : Array Value) (below : List Frame) (meth : Method) (c : Code) (Z : MZ) (r : (Int32 × St)) (f : Int32 → Int32 → Int32 → Int32 → St → Option (Int32 × St)) : Prop := ∀ (x1 : Int32) (x2 : Int32) (x3 : Int32) (t0 : Int32) (I : St) (H : Heap) (locs : List Loc) (ls : Array Slot), mIn Z s I H locs → lv_has ls 5 [(0, .ref (mH Z)), (1, .int x1), (2, .int x2), (3, .int x3)] → f x1 x2 x3 t0 I = some r → W p l e mo_person_rm s m args below meth c H locs 0 0 (MQ below (Qwr (some (.int r.1)) (mS Z r.2) (mA Z)) args s 0 0 (mA Z)) (F0 m 105 ls [.int t0])
def mo_person_b105 (x1 : Int32) (x2 : Int32) (x3 : Int32) (t0 : Int32) (I : St) : Option (Int32 × St) :=
  if x2 = 0 then (as_ 8 12 I x1 x3 fun I7 =>
    some (t0, I7))
  else (if x2 = (1 : Int32) then (as_ 8 13 I x1 x3 fun I6 =>
      some (t0, I6))
    else (if x2 = (2 : Int32) then (as_ 8 14 I x1 x3 fun I5 =>
        some (t0, I5))
      else (as_ 8 15 I x1 x3 fun I4 =>
        some (t0, I4))))
theorem mo_person_w105 {p : Program} {l : Launch} {e : Env} {s : State} {m : MethodId} {args : Array Value} {below : List Frame} {meth : Method} {c : Code} {Z : MZ} (C : MCx p s m args meth c cX6_person 5 (some .int) Z) {r : (Int32 × St)} : mo_person_P105 p l e s m args below meth c Z r (mo_person_b105) := by
  intro x1 x2 x3 t0 I H locs ls hM hl h
  obtain ⟨⟨hx, hb, hr, hlocks, hml, hown, hts⟩, hK⟩ := id C
  unfold mo_person_b105 at h
  refine lv_istore (lv' := [(4, .int t0), (0, .ref (mH Z)), (1, .int x1), (2, .int x2), (3, .int x3)]) hx hb dX6_person_105 hl (by decide) rfl (fun ls hl => ?_)
  refine lv_iload_n hx hb dX6_person_107 rfl (lv_at hl 3 rfl) ?_
  refine lv_if_ne (tgt := 121) hx hb dX6_person_108 (by decide) (fun c1 => ?_) (fun c1 => ?_)
  · have h := in_ c1 h
    refine lv_iload_n hx hb dX6_person_121 rfl (lv_at hl 3 rfl) ?_
    refine lv_iconst (v := 1) hx hb dX6_person_122 (by decide) ?_
    refine lv_icmp_ne (tgt := 136) hx hb dX6_person_123 (by decide) (fun c2 => ?_) (fun c2 => ?_)
    · have h := in_ c2 h
      refine lv_iload_n hx hb dX6_person_136 rfl (lv_at hl 3 rfl) ?_
      refine lv_iconst (v := 2) hx hb dX6_person_137 (by decide) ?_
      refine lv_icmp_ne (tgt := 151) hx hb dX6_person_138 (by decide) (fun c3 => ?_) (fun c3 => ?_)
      · have h := in_ c3 h
        refine lv_aload_n hx hb dX6_person_151 rfl (lv_at hl 1 rfl) ?_
        refine gm15 C hM.1 dX6_person_152 ?_
        refine lv_iload_n hx hb dX6_person_155 rfl (lv_at hl 2 rfl) ?_
        refine lv_iload_n hx hb dX6_person_156 rfl (lv_at hl 4 rfl) ?_
        obtain ⟨i_I4, h⟩ := as_e h
        refine m_ast C hM (pos := 13) (k := 15) rfl rfl i_I4 dX6_person_157 (fun H locs I4 e_I4 hM => ?_)
        have h := h I4 e_I4
        refine lv_iload hx hb dX6_person_158 (lv_at hl 0 rfl) ?_
        have h := so_ h
        subst h
        exact W.iret hx hb hr (fun t ht hW => ⟨rfl, ⟨by rw [ht]; exact hM.1, va_K.moved hW.alike hK⟩, hM.2.F ht⟩) hM.2.2.2 dX6_person_160
      · have h := ip_ c3 h
        refine lv_aload_n hx hb dX6_person_141 rfl (lv_at hl 1 rfl) ?_
        refine gm14 C hM.1 dX6_person_142 ?_
        refine lv_iload_n hx hb dX6_person_145 rfl (lv_at hl 2 rfl) ?_
        refine lv_iload_n hx hb dX6_person_146 rfl (lv_at hl 4 rfl) ?_
        obtain ⟨i_I5, h⟩ := as_e h
        refine m_ast C hM (pos := 12) (k := 14) rfl rfl i_I5 dX6_person_147 (fun H locs I5 e_I5 hM => ?_)
        have h := h I5 e_I5
        refine lv_goto (tgt := 158) hx hb dX6_person_148 (by decide) ?_
        refine lv_iload hx hb dX6_person_158 (lv_at hl 0 rfl) ?_
        have h := so_ h
        subst h
        exact W.iret hx hb hr (fun t ht hW => ⟨rfl, ⟨by rw [ht]; exact hM.1, va_K.moved hW.alike hK⟩, hM.2.F ht⟩) hM.2.2.2 dX6_person_160
    · have h := ip_ c2 h
      refine lv_aload_n hx hb dX6_person_126 rfl (lv_at hl 1 rfl) ?_
      refine gm13 C hM.1 dX6_person_127 ?_
      refine lv_iload_n hx hb dX6_person_130 rfl (lv_at hl 2 rfl) ?_
      refine lv_iload_n hx hb dX6_person_131 rfl (lv_at hl 4 rfl) ?_
      obtain ⟨i_I6, h⟩ := as_e h
      refine m_ast C hM (pos := 11) (k := 13) rfl rfl i_I6 dX6_person_132 (fun H locs I6 e_I6 hM => ?_)
      have h := h I6 e_I6
      refine lv_goto (tgt := 158) hx hb dX6_person_133 (by decide) ?_
      refine lv_iload hx hb dX6_person_158 (lv_at hl 0 rfl) ?_
      have h := so_ h
      subst h
      exact W.iret hx hb hr (fun t ht hW => ⟨rfl, ⟨by rw [ht]; exact hM.1, va_K.moved hW.alike hK⟩, hM.2.F ht⟩) hM.2.2.2 dX6_person_160
  · have h := ip_ c1 h
    refine lv_aload_n hx hb dX6_person_111 rfl (lv_at hl 1 rfl) ?_
    refine gm12 C hM.1 dX6_person_112 ?_
    refine lv_iload_n hx hb dX6_person_115 rfl (lv_at hl 2 rfl) ?_
    refine lv_iload_n hx hb dX6_person_116 rfl (lv_at hl 4 rfl) ?_
    obtain ⟨i_I7, h⟩ := as_e h
    refine m_ast C hM (pos := 10) (k := 12) rfl rfl i_I7 dX6_person_117 (fun H locs I7 e_I7 hM => ?_)
    have h := h I7 e_I7
    refine lv_goto (tgt := 158) hx hb dX6_person_118 (by decide) ?_
    refine lv_iload hx hb dX6_person_158 (lv_at hl 0 rfl) ?_
    have h := so_ h
    subst h
    exact W.iret hx hb hr (fun t ht hW => ⟨rfl, ⟨by rw [ht]; exact hM.1, va_K.moved hW.alike hK⟩, hM.2.F ht⟩) hM.2.2.2 dX6_person_160
def mo_person_b49 (x1 : Int32) (x2 : Int32) (x3 : Int32) (t0 : Int32) (t1 : Int32) (t2 : Int32) (I : St) : Option (Int32 × St) :=
  bd_ (mo_in t2 t1 t0) fun v1 =>
  if v1 = 0 then (some ((-2 : Int32), I))
  else (if x2 = 0 then (al_ 8 (I 12) x1 fun v9 =>
      mo_person_b105 x1 x2 x3 v9 I)
    else (if x2 = (1 : Int32) then (al_ 8 (I 13) x1 fun v8 =>
        mo_person_b105 x1 x2 x3 v8 I)
      else (if x2 = (2 : Int32) then (al_ 8 (I 14) x1 fun v7 =>
          mo_person_b105 x1 x2 x3 v7 I)
        else (al_ 8 (I 15) x1 fun v6 =>
          mo_person_b105 x1 x2 x3 v6 I))))
theorem mo_person_w49 {p : Program} {l : Launch} {e : Env} {s : State} {m : MethodId} {args : Array Value} {below : List Frame} {meth : Method} {c : Code} {Z : MZ} (C : MCx p s m args meth c cX6_person 5 (some .int) Z) {r : (Int32 × St)} : mo_person_P49 p l e s m args below meth c Z r (mo_person_b49) := by
  intro x1 x2 x3 t0 t1 t2 I H locs ls hM hl h
  obtain ⟨⟨hx, hb, hr, hlocks, hml, hown, hts⟩, hK⟩ := id C
  unfold mo_person_b49 at h
  obtain ⟨v1, q_v1, h⟩ := bd_e h
  refine s_roI (As := [.int t2, .int t1, .int t0]) (rest := []) C.1 (mo_in_met _ t2 t1 t0 v1 q_v1) (lw_S q1168 q1169 q88 q1170) mo_in_hd ⟨rfl, rfl⟩ ⟨Nat.le_of_ble_eq_true rfl, Nat.le_of_ble_eq_true rfl⟩ ⟨Nat.le_refl _, Nat.le_refl _⟩ rfl hl.1 rfl (Nat.le_of_ble_eq_true rfl) dX6_person_49 ?_
  refine lv_if_ne (tgt := 58) hx hb dX6_person_52 (by decide) (fun c2 => ?_) (fun c2 => ?_)
  · have h := in_ c2 h
    refine lv_iload_n hx hb dX6_person_58 rfl (lv_at hl 2 rfl) ?_
    refine lv_if_ne (tgt := 71) hx hb dX6_person_59 (by decide) (fun c3 => ?_) (fun c3 => ?_)
    · have h := in_ c3 h
      refine lv_iload_n hx hb dX6_person_71 rfl (lv_at hl 2 rfl) ?_
      refine lv_iconst (v := 1) hx hb dX6_person_72 (by decide) ?_
      refine lv_icmp_ne (tgt := 85) hx hb dX6_person_73 (by decide) (fun c4 => ?_) (fun c4 => ?_)
      · have h := in_ c4 h
        refine lv_iload_n hx hb dX6_person_85 rfl (lv_at hl 2 rfl) ?_
        refine lv_iconst (v := 2) hx hb dX6_person_86 (by decide) ?_
        refine lv_icmp_ne (tgt := 99) hx hb dX6_person_87 (by decide) (fun c5 => ?_) (fun c5 => ?_)
        · have h := in_ c5 h
          refine lv_aload_n hx hb dX6_person_99 rfl (lv_at hl 0 rfl) ?_
          refine gm15 C hM.1 dX6_person_100 ?_
          refine lv_iload_n hx hb dX6_person_103 rfl (lv_at hl 1 rfl) ?_
          obtain ⟨i_v6, h⟩ := al_e h
          refine m_ald C hM.1 (pos := 13) (k := 15) rfl rfl i_v6 dX6_person_104 (fun v6 e_v6 => ?_)
          have h := h v6 e_v6
          exact mo_person_w105 C x1 x2 x3 v6 I _ _ ls hM (lv_sub hl [0, 1, 2, 3] rfl) h
        · have h := ip_ c5 h
          refine lv_aload_n hx hb dX6_person_90 rfl (lv_at hl 0 rfl) ?_
          refine gm14 C hM.1 dX6_person_91 ?_
          refine lv_iload_n hx hb dX6_person_94 rfl (lv_at hl 1 rfl) ?_
          obtain ⟨i_v7, h⟩ := al_e h
          refine m_ald C hM.1 (pos := 12) (k := 14) rfl rfl i_v7 dX6_person_95 (fun v7 e_v7 => ?_)
          have h := h v7 e_v7
          refine lv_goto (tgt := 105) hx hb dX6_person_96 (by decide) ?_
          exact mo_person_w105 C x1 x2 x3 v7 I _ _ ls hM (lv_sub hl [0, 1, 2, 3] rfl) h
      · have h := ip_ c4 h
        refine lv_aload_n hx hb dX6_person_76 rfl (lv_at hl 0 rfl) ?_
        refine gm13 C hM.1 dX6_person_77 ?_
        refine lv_iload_n hx hb dX6_person_80 rfl (lv_at hl 1 rfl) ?_
        obtain ⟨i_v8, h⟩ := al_e h
        refine m_ald C hM.1 (pos := 11) (k := 13) rfl rfl i_v8 dX6_person_81 (fun v8 e_v8 => ?_)
        have h := h v8 e_v8
        refine lv_goto (tgt := 105) hx hb dX6_person_82 (by decide) ?_
        exact mo_person_w105 C x1 x2 x3 v8 I _ _ ls hM (lv_sub hl [0, 1, 2, 3] rfl) h
    · have h := ip_ c3 h
      refine lv_aload_n hx hb dX6_person_62 rfl (lv_at hl 0 rfl) ?_
      refine gm12 C hM.1 dX6_person_63 ?_
      refine lv_iload_n hx hb dX6_person_66 rfl (lv_at hl 1 rfl) ?_
      obtain ⟨i_v9, h⟩ := al_e h
      refine m_ald C hM.1 (pos := 10) (k := 12) rfl rfl i_v9 dX6_person_67 (fun v9 e_v9 => ?_)
      have h := h v9 e_v9
      refine lv_goto (tgt := 105) hx hb dX6_person_68 (by decide) ?_
      exact mo_person_w105 C x1 x2 x3 v9 I _ _ ls hM (lv_sub hl [0, 1, 2, 3] rfl) h
  · have h := ip_ c2 h
    refine lv_bipush (v := -2) hx hb dX6_person_55 (by decide) ?_
    have h := so_ h
    subst h
    exact W.iret hx hb hr (fun t ht hW => ⟨rfl, ⟨by rw [ht]; exact hM.1, va_K.moved hW.alike hK⟩, hM.2.F ht⟩) hM.2.2.2 dX6_person_57
def mo_person (x1 : Int32) (x2 : Int32) (x3 : Int32) (I : St) : Option (Int32 × St) :=
  bd_ (mo_isPerson x1) fun v1 =>
  if v1 = 0 then (some ((-2 : Int32), I))
  else (bd_ (mo_in x2 (0 : Int32) (3 : Int32)) fun v3 =>
    if v3 = 0 then (some ((-2 : Int32), I))
    else (if x2 = 0 then (mo_person_b49 x1 x2 x3 (7 : Int32) (0 : Int32) x3 I)
      else (if x2 = (1 : Int32) then (mo_person_b49 x1 x2 x3 (8 : Int32) (0 : Int32) x3 I)
        else (if x2 = (2 : Int32) then (mo_person_b49 x1 x2 x3 (99 : Int32) (0 : Int32) x3 I)
          else (mo_person_b49 x1 x2 x3 (16 : Int32) (0 : Int32) x3 I)))))
theorem mo_person_w0 {p : Program} {l : Launch} {e : Env} {s : State} {m : MethodId} {args : Array Value} {below : List Frame} {meth : Method} {c : Code} {Z : MZ} (C : MCx p s m args meth c cX6_person 5 (some .int) Z) {r : (Int32 × St)} : mo_person_P0 p l e s m args below meth c Z r (mo_person) := by
  intro x1 x2 x3 I H locs ls hM hl h
  obtain ⟨⟨hx, hb, hr, hlocks, hml, hown, hts⟩, hK⟩ := id C
  unfold mo_person at h
  refine lv_iload_n hx hb dX6_person_0 rfl (lv_at hl 1 rfl) ?_
  obtain ⟨v1, q_v1, h⟩ := bd_e h
  refine s_roI (As := [.int x1]) (rest := []) C.1 (mo_isPerson_met _ x1 v1 q_v1) (lw_S q1233 q1234 q88 q1235) mo_isPerson_hd ⟨rfl, rfl⟩ ⟨Nat.le_of_ble_eq_true rfl, Nat.le_of_ble_eq_true rfl⟩ ⟨Nat.le_refl _, Nat.le_refl _⟩ rfl hl.1 rfl (Nat.le_of_ble_eq_true rfl) dX6_person_1 ?_
  refine lv_if_eq (tgt := 55) hx hb dX6_person_4 (by decide) (fun c2 => ?_) (fun c2 => ?_)
  · have h := ip_ c2 h
    refine lv_bipush (v := -2) hx hb dX6_person_55 (by decide) ?_
    have h := so_ h
    subst h
    exact W.iret hx hb hr (fun t ht hW => ⟨rfl, ⟨by rw [ht]; exact hM.1, va_K.moved hW.alike hK⟩, hM.2.F ht⟩) hM.2.2.2 dX6_person_57
  · have h := in_ c2 h
    refine lv_iload_n hx hb dX6_person_7 rfl (lv_at hl 2 rfl) ?_
    refine lv_iconst (v := 0) hx hb dX6_person_8 (by decide) ?_
    refine lv_iconst (v := 3) hx hb dX6_person_9 (by decide) ?_
    obtain ⟨v3, q_v3, h⟩ := bd_e h
    refine s_roI (As := [.int x2, .int (0 : Int32), .int (3 : Int32)]) (rest := []) C.1 (mo_in_met _ x2 (0 : Int32) (3 : Int32) v3 q_v3) (lw_S q1168 q1169 q88 q1170) mo_in_hd ⟨rfl, rfl⟩ ⟨Nat.le_of_ble_eq_true rfl, Nat.le_of_ble_eq_true rfl⟩ ⟨Nat.le_refl _, Nat.le_refl _⟩ rfl hl.1 rfl (Nat.le_of_ble_eq_true rfl) dX6_person_10 ?_
    refine lv_if_eq (tgt := 55) hx hb dX6_person_13 (by decide) (fun c4 => ?_) (fun c4 => ?_)
    · have h := ip_ c4 h
      refine lv_bipush (v := -2) hx hb dX6_person_55 (by decide) ?_
      have h := so_ h
      subst h
      exact W.iret hx hb hr (fun t ht hW => ⟨rfl, ⟨by rw [ht]; exact hM.1, va_K.moved hW.alike hK⟩, hM.2.F ht⟩) hM.2.2.2 dX6_person_57
    · have h := in_ c4 h
      refine lv_iload_n hx hb dX6_person_16 rfl (lv_at hl 3 rfl) ?_
      refine lv_iconst (v := 0) hx hb dX6_person_17 (by decide) ?_
      refine lv_iload_n hx hb dX6_person_18 rfl (lv_at hl 2 rfl) ?_
      refine lv_if_ne (tgt := 27) hx hb dX6_person_19 (by decide) (fun c5 => ?_) (fun c5 => ?_)
      · have h := in_ c5 h
        refine lv_iload_n hx hb dX6_person_27 rfl (lv_at hl 2 rfl) ?_
        refine lv_iconst (v := 1) hx hb dX6_person_28 (by decide) ?_
        refine lv_icmp_ne (tgt := 37) hx hb dX6_person_29 (by decide) (fun c6 => ?_) (fun c6 => ?_)
        · have h := in_ c6 h
          refine lv_iload_n hx hb dX6_person_37 rfl (lv_at hl 2 rfl) ?_
          refine lv_iconst (v := 2) hx hb dX6_person_38 (by decide) ?_
          refine lv_icmp_ne (tgt := 47) hx hb dX6_person_39 (by decide) (fun c7 => ?_) (fun c7 => ?_)
          · have h := in_ c7 h
            refine lv_bipush (v := 16) hx hb dX6_person_47 (by decide) ?_
            exact mo_person_w49 C x1 x2 x3 (16 : Int32) (0 : Int32) x3 I _ _ ls hM (lv_sub hl [0, 1, 2, 3] rfl) h
          · have h := ip_ c7 h
            refine lv_bipush (v := 99) hx hb dX6_person_42 (by decide) ?_
            refine lv_goto (tgt := 49) hx hb dX6_person_44 (by decide) ?_
            exact mo_person_w49 C x1 x2 x3 (99 : Int32) (0 : Int32) x3 I _ _ ls hM (lv_sub hl [0, 1, 2, 3] rfl) h
        · have h := ip_ c6 h
          refine lv_bipush (v := 8) hx hb dX6_person_32 (by decide) ?_
          refine lv_goto (tgt := 49) hx hb dX6_person_34 (by decide) ?_
          exact mo_person_w49 C x1 x2 x3 (8 : Int32) (0 : Int32) x3 I _ _ ls hM (lv_sub hl [0, 1, 2, 3] rfl) h
      · have h := ip_ c5 h
        refine lv_bipush (v := 7) hx hb dX6_person_22 (by decide) ?_
        refine lv_goto (tgt := 49) hx hb dX6_person_24 (by decide) ?_
        exact mo_person_w49 C x1 x2 x3 (7 : Int32) (0 : Int32) x3 I _ _ ls hM (lv_sub hl [0, 1, 2, 3] rfl) h
theorem mo_person_hd : yX6_person.cls = RX6 ∧ yX6_person.cls ≠ "java/lang/invoke/MethodHandle" ∧ yX6_person.cls ≠ "java/lang/invoke/VarHandle" ∧ (parseMethodDescriptor yX6_person.desc).map (fun d => d.parameters.length) = some 3 := by decide +kernel
theorem mo_person_met (l : Launch) (Z : MZ) (I : St) (x1 : Int32) (x2 : Int32) (x3 : Int32) (r : (Int32 × St)) (h : mo_person x1 x2 x3 I = some r) : Met l yX6_person (ws_ yX6_person cX6_person 5 (some .int)) mo_person_rm (va_Pc [.ref (mH Z), .int x1, .int x2, .int x3] (mS Z I)) (Qwr (some (.int r.1)) (mS Z r.2) (mA Z)) 0 0 (mA Z) := by
  refine Met.ofW (cc := cX6_person) (maxL := 5) (ret := some .int) (by decide) rfl ?_
  intro p e s m args below meth c s₁ B hml hv
  obtain ⟨rfl, hv⟩ := hv
  have hts := atoms_spec (ws := ws_ yX6_person cX6_person 5 (some .int)) B.pre
  have hts : ∀ w ∈ lw_all, w.before _ s = true := fun w h => hts w (List.mem_cons_of_mem _ h)
  have C : SCx p s m _ meth c cX6_person 5 (some .int) RX6 := ⟨B.exec, B.bytes, B.returns, B.notSynchronized, hml, findClass_of_methodNamed B.named, hts⟩
  have hl := lv_entry [.ref (mH Z), .int x1, .int x2, .int x3] (n := 5) (Nat.le_of_ble_eq_true rfl)
  rw [lg_entry_eq]
  generalize (lg_sl [.ref (mH Z), .int x1, .int x2, .int x3] ++ List.replicate (5 - (lg_sl [.ref (mH Z), .int x1, .int x2, .int x3]).length) Slot.unset).toArray = ls at hl ⊢
  have C : MCx p s m _ meth c _ _ _ Z := ⟨C, hv.2⟩
  have hM : mIn Z s I s.heap [] := ⟨hv.1, va_S.rf⟩
  exact mo_person_w0 C x1 x2 x3 I _ _ ls hM hl h

/-! SecondChancesModel.weather(II)I -/
def mo_weather_rm : Room := { frames := 2, cells := 0, slots := 0, locals := 42 }
def mo_weather_P0 (p : Program) (l : Launch) (e : Env) (s : State) (m : MethodId) (args : Array Value) (below : List Frame) (meth : Method) (c : Code) (Z : MZ) (r : (Int32 × St)) (f : Int32 → Int32 → St → Option (Int32 × St)) : Prop := ∀ (x1 : Int32) (x2 : Int32) (I : St) (H : Heap) (locs : List Loc) (ls : Array Slot), mIn Z s I H locs → lv_has ls 4 [(0, .ref (mH Z)), (1, .int x1), (2, .int x2)] → f x1 x2 I = some r → W p l e mo_weather_rm s m args below meth c H locs 0 0 (MQ below (Qwr (some (.int r.1)) (mS Z r.2) (mA Z)) args s 0 0 (mA Z)) (F0 m 0 ls [])
def mo_weather (x1 : Int32) (x2 : Int32) (I : St) : Option (Int32 × St) :=
  bd_ (mo_isHour x1) fun v1 =>
  if v1 = 0 then (some ((-2 : Int32), I))
  else (bd_ (mo_in x2 (0 : Int32) (1 : Int32)) fun v3 =>
    if v3 = 0 then (some ((-2 : Int32), I))
    else (al_ 8 (I 16) x1 fun v5 =>
      as_ 8 16 I x1 x2 fun I6 =>
      some (v5, I6)))
theorem mo_weather_w0 {p : Program} {l : Launch} {e : Env} {s : State} {m : MethodId} {args : Array Value} {below : List Frame} {meth : Method} {c : Code} {Z : MZ} (C : MCx p s m args meth c cX6_weather 4 (some .int) Z) {r : (Int32 × St)} : mo_weather_P0 p l e s m args below meth c Z r (mo_weather) := by
  intro x1 x2 I H locs ls hM hl h
  obtain ⟨⟨hx, hb, hr, hlocks, hml, hown, hts⟩, hK⟩ := id C
  unfold mo_weather at h
  refine lv_iload_n hx hb dX6_weather_0 rfl (lv_at hl 1 rfl) ?_
  obtain ⟨v1, q_v1, h⟩ := bd_e h
  refine s_roI (As := [.int x1]) (rest := []) C.1 (mo_isHour_met _ x1 v1 q_v1) (lw_S q1240 q1241 q88 q1242) mo_isHour_hd ⟨rfl, rfl⟩ ⟨Nat.le_of_ble_eq_true rfl, Nat.le_of_ble_eq_true rfl⟩ ⟨Nat.le_refl _, Nat.le_refl _⟩ rfl hl.1 rfl (Nat.le_of_ble_eq_true rfl) dX6_weather_1 ?_
  refine lv_if_eq (tgt := 16) hx hb dX6_weather_4 (by decide) (fun c2 => ?_) (fun c2 => ?_)
  · have h := ip_ c2 h
    refine lv_bipush (v := -2) hx hb dX6_weather_16 (by decide) ?_
    have h := so_ h
    subst h
    exact W.iret hx hb hr (fun t ht hW => ⟨rfl, ⟨by rw [ht]; exact hM.1, va_K.moved hW.alike hK⟩, hM.2.F ht⟩) hM.2.2.2 dX6_weather_18
  · have h := in_ c2 h
    refine lv_iload_n hx hb dX6_weather_7 rfl (lv_at hl 2 rfl) ?_
    refine lv_iconst (v := 0) hx hb dX6_weather_8 (by decide) ?_
    refine lv_iconst (v := 1) hx hb dX6_weather_9 (by decide) ?_
    obtain ⟨v3, q_v3, h⟩ := bd_e h
    refine s_roI (As := [.int x2, .int (0 : Int32), .int (1 : Int32)]) (rest := []) C.1 (mo_in_met _ x2 (0 : Int32) (1 : Int32) v3 q_v3) (lw_S q1168 q1169 q88 q1170) mo_in_hd ⟨rfl, rfl⟩ ⟨Nat.le_of_ble_eq_true rfl, Nat.le_of_ble_eq_true rfl⟩ ⟨Nat.le_refl _, Nat.le_refl _⟩ rfl hl.1 rfl (Nat.le_of_ble_eq_true rfl) dX6_weather_10 ?_
    refine lv_if_ne (tgt := 19) hx hb dX6_weather_13 (by decide) (fun c4 => ?_) (fun c4 => ?_)
    · have h := in_ c4 h
      refine lv_aload_n hx hb dX6_weather_19 rfl (lv_at hl 0 rfl) ?_
      refine gm16 C hM.1 dX6_weather_20 ?_
      refine lv_iload_n hx hb dX6_weather_23 rfl (lv_at hl 1 rfl) ?_
      obtain ⟨i_v5, h⟩ := al_e h
      refine m_ald C hM.1 (pos := 14) (k := 16) rfl rfl i_v5 dX6_weather_24 (fun v5 e_v5 => ?_)
      have h := h v5 e_v5
      refine lv_istore_n (lv' := [(3, .int v5), (0, .ref (mH Z)), (1, .int x1), (2, .int x2)]) hx hb dX6_weather_25 rfl hl (by decide) rfl (fun ls hl => ?_)
      refine lv_aload_n hx hb dX6_weather_26 rfl (lv_at hl 1 rfl) ?_
      refine gm16 C hM.1 dX6_weather_27 ?_
      refine lv_iload_n hx hb dX6_weather_30 rfl (lv_at hl 2 rfl) ?_
      refine lv_iload_n hx hb dX6_weather_31 rfl (lv_at hl 3 rfl) ?_
      obtain ⟨i_I6, h⟩ := as_e h
      refine m_ast C hM (pos := 14) (k := 16) rfl rfl i_I6 dX6_weather_32 (fun H locs I6 e_I6 hM => ?_)
      have h := h I6 e_I6
      refine lv_iload_n hx hb dX6_weather_33 rfl (lv_at hl 0 rfl) ?_
      have h := so_ h
      subst h
      exact W.iret hx hb hr (fun t ht hW => ⟨rfl, ⟨by rw [ht]; exact hM.1, va_K.moved hW.alike hK⟩, hM.2.F ht⟩) hM.2.2.2 dX6_weather_34
    · have h := ip_ c4 h
      refine lv_bipush (v := -2) hx hb dX6_weather_16 (by decide) ?_
      have h := so_ h
      subst h
      exact W.iret hx hb hr (fun t ht hW => ⟨rfl, ⟨by rw [ht]; exact hM.1, va_K.moved hW.alike hK⟩, hM.2.F ht⟩) hM.2.2.2 dX6_weather_18
theorem mo_weather_hd : yX6_weather.cls = RX6 ∧ yX6_weather.cls ≠ "java/lang/invoke/MethodHandle" ∧ yX6_weather.cls ≠ "java/lang/invoke/VarHandle" ∧ (parseMethodDescriptor yX6_weather.desc).map (fun d => d.parameters.length) = some 2 := by decide +kernel
theorem mo_weather_met (l : Launch) (Z : MZ) (I : St) (x1 : Int32) (x2 : Int32) (r : (Int32 × St)) (h : mo_weather x1 x2 I = some r) : Met l yX6_weather (ws_ yX6_weather cX6_weather 4 (some .int)) mo_weather_rm (va_Pc [.ref (mH Z), .int x1, .int x2] (mS Z I)) (Qwr (some (.int r.1)) (mS Z r.2) (mA Z)) 0 0 (mA Z) := by
  refine Met.ofW (cc := cX6_weather) (maxL := 4) (ret := some .int) (by decide) rfl ?_
  intro p e s m args below meth c s₁ B hml hv
  obtain ⟨rfl, hv⟩ := hv
  have hts := atoms_spec (ws := ws_ yX6_weather cX6_weather 4 (some .int)) B.pre
  have hts : ∀ w ∈ lw_all, w.before _ s = true := fun w h => hts w (List.mem_cons_of_mem _ h)
  have C : SCx p s m _ meth c cX6_weather 4 (some .int) RX6 := ⟨B.exec, B.bytes, B.returns, B.notSynchronized, hml, findClass_of_methodNamed B.named, hts⟩
  have hl := lv_entry [.ref (mH Z), .int x1, .int x2] (n := 4) (Nat.le_of_ble_eq_true rfl)
  rw [lg_entry_eq]
  generalize (lg_sl [.ref (mH Z), .int x1, .int x2] ++ List.replicate (4 - (lg_sl [.ref (mH Z), .int x1, .int x2]).length) Slot.unset).toArray = ls at hl ⊢
  have C : MCx p s m _ meth c _ _ _ Z := ⟨C, hv.2⟩
  have hM : mIn Z s I s.heap [] := ⟨hv.1, va_S.rf⟩
  exact mo_weather_w0 C x1 x2 I _ _ ls hM hl h

/-! SecondChancesModel.set(II)I -/
def mo_set_rm : Room := { frames := 1, cells := 0, slots := 0, locals := 22 }
def mo_set_P0 (p : Program) (l : Launch) (e : Env) (s : State) (m : MethodId) (args : Array Value) (below : List Frame) (meth : Method) (c : Code) (Z : MZ) (r : (Int32 × St)) (f : Int32 → Int32 → St → Option (Int32 × St)) : Prop := ∀ (x1 : Int32) (x2 : Int32) (I : St) (H : Heap) (locs : List Loc) (ls : Array Slot), mIn Z s I H locs → lv_has ls 4 [(0, .ref (mH Z)), (1, .int x1), (2, .int x2)] → f x1 x2 I = some r → W p l e mo_set_rm s m args below meth c H locs 0 0 (MQ below (Qwr (some (.int r.1)) (mS Z r.2) (mA Z)) args s 0 0 (mA Z)) (F0 m 0 ls [])
def mo_set_P42 (p : Program) (l : Launch) (e : Env) (s : State) (m : MethodId) (args : Array Value) (below : List Frame) (meth : Method) (c : Code) (Z : MZ) (r : (Int32 × St)) (f : Int32 → Int32 → Int32 → Int32 → Int32 → St → Option (Int32 × St)) : Prop := ∀ (x1 : Int32) (x2 : Int32) (t0 : Int32) (t1 : Int32) (t2 : Int32) (I : St) (H : Heap) (locs : List Loc) (ls : Array Slot), mIn Z s I H locs → lv_has ls 4 [(0, .ref (mH Z)), (1, .int x1), (2, .int x2)] → f x1 x2 t0 t1 t2 I = some r → W p l e mo_set_rm s m args below meth c H locs 0 0 (MQ below (Qwr (some (.int r.1)) (mS Z r.2) (mA Z)) args s 0 0 (mA Z)) (F0 m 42 ls [.int t0, .int t1, .int t2])
def mo_set_b42 (x1 : Int32) (x2 : Int32) (t0 : Int32) (t1 : Int32) (t2 : Int32) (I : St) : Option (Int32 × St) :=
  bd_ (mo_in t2 t1 t0) fun v1 =>
  if v1 = 0 then (some ((-2 : Int32), I))
  else (al_ 4 (I 17) x1 fun v3 =>
    as_ 4 17 I x1 x2 fun I4 =>
    some (v3, I4))
theorem mo_set_w42 {p : Program} {l : Launch} {e : Env} {s : State} {m : MethodId} {args : Array Value} {below : List Frame} {meth : Method} {c : Code} {Z : MZ} (C : MCx p s m args meth c cX6_set 4 (some .int) Z) {r : (Int32 × St)} : mo_set_P42 p l e s m args below meth c Z r (mo_set_b42) := by
  intro x1 x2 t0 t1 t2 I H locs ls hM hl h
  obtain ⟨⟨hx, hb, hr, hlocks, hml, hown, hts⟩, hK⟩ := id C
  unfold mo_set_b42 at h
  obtain ⟨v1, q_v1, h⟩ := bd_e h
  refine s_roI (As := [.int t2, .int t1, .int t0]) (rest := []) C.1 (mo_in_met _ t2 t1 t0 v1 q_v1) (lw_S q1168 q1169 q88 q1170) mo_in_hd ⟨rfl, rfl⟩ ⟨Nat.le_of_ble_eq_true rfl, Nat.le_of_ble_eq_true rfl⟩ ⟨Nat.le_refl _, Nat.le_refl _⟩ rfl hl.1 rfl (Nat.le_of_ble_eq_true rfl) dX6_set_42 ?_
  refine lv_if_ne (tgt := 51) hx hb dX6_set_45 (by decide) (fun c2 => ?_) (fun c2 => ?_)
  · have h := in_ c2 h
    refine lv_aload_n hx hb dX6_set_51 rfl (lv_at hl 0 rfl) ?_
    refine gm17 C hM.1 dX6_set_52 ?_
    refine lv_iload_n hx hb dX6_set_55 rfl (lv_at hl 1 rfl) ?_
    obtain ⟨i_v3, h⟩ := al_e h
    refine m_ald C hM.1 (pos := 15) (k := 17) rfl rfl i_v3 dX6_set_56 (fun v3 e_v3 => ?_)
    have h := h v3 e_v3
    refine lv_istore_n (lv' := [(3, .int v3), (0, .ref (mH Z)), (1, .int x1), (2, .int x2)]) hx hb dX6_set_57 rfl hl (by decide) rfl (fun ls hl => ?_)
    refine lv_aload_n hx hb dX6_set_58 rfl (lv_at hl 1 rfl) ?_
    refine gm17 C hM.1 dX6_set_59 ?_
    refine lv_iload_n hx hb dX6_set_62 rfl (lv_at hl 2 rfl) ?_
    refine lv_iload_n hx hb dX6_set_63 rfl (lv_at hl 3 rfl) ?_
    obtain ⟨i_I4, h⟩ := as_e h
    refine m_ast C hM (pos := 15) (k := 17) rfl rfl i_I4 dX6_set_64 (fun H locs I4 e_I4 hM => ?_)
    have h := h I4 e_I4
    refine lv_iload_n hx hb dX6_set_65 rfl (lv_at hl 0 rfl) ?_
    have h := so_ h
    subst h
    exact W.iret hx hb hr (fun t ht hW => ⟨rfl, ⟨by rw [ht]; exact hM.1, va_K.moved hW.alike hK⟩, hM.2.F ht⟩) hM.2.2.2 dX6_set_66
  · have h := ip_ c2 h
    refine lv_bipush (v := -2) hx hb dX6_set_48 (by decide) ?_
    have h := so_ h
    subst h
    exact W.iret hx hb hr (fun t ht hW => ⟨rfl, ⟨by rw [ht]; exact hM.1, va_K.moved hW.alike hK⟩, hM.2.F ht⟩) hM.2.2.2 dX6_set_50
def mo_set (x1 : Int32) (x2 : Int32) (I : St) : Option (Int32 × St) :=
  bd_ (mo_in x1 (0 : Int32) (3 : Int32)) fun v1 =>
  if v1 = 0 then (some ((-2 : Int32), I))
  else (if x1 = 0 then (mo_set_b42 x1 x2 (99 : Int32) (0 : Int32) x2 I)
    else (if x1 = (1 : Int32) then (mo_set_b42 x1 x2 (1 : Int32) (0 : Int32) x2 I)
      else (if x1 = (2 : Int32) then (mo_set_b42 x1 x2 (999 : Int32) (0 : Int32) x2 I)
        else (mo_set_b42 x1 x2 (10 : Int32) (0 : Int32) x2 I))))
theorem mo_set_w0 {p : Program} {l : Launch} {e : Env} {s : State} {m : MethodId} {args : Array Value} {below : List Frame} {meth : Method} {c : Code} {Z : MZ} (C : MCx p s m args meth c cX6_set 4 (some .int) Z) {r : (Int32 × St)} : mo_set_P0 p l e s m args below meth c Z r (mo_set) := by
  intro x1 x2 I H locs ls hM hl h
  obtain ⟨⟨hx, hb, hr, hlocks, hml, hown, hts⟩, hK⟩ := id C
  unfold mo_set at h
  refine lv_iload_n hx hb dX6_set_0 rfl (lv_at hl 1 rfl) ?_
  refine lv_iconst (v := 0) hx hb dX6_set_1 (by decide) ?_
  refine lv_iconst (v := 3) hx hb dX6_set_2 (by decide) ?_
  obtain ⟨v1, q_v1, h⟩ := bd_e h
  refine s_roI (As := [.int x1, .int (0 : Int32), .int (3 : Int32)]) (rest := []) C.1 (mo_in_met _ x1 (0 : Int32) (3 : Int32) v1 q_v1) (lw_S q1168 q1169 q88 q1170) mo_in_hd ⟨rfl, rfl⟩ ⟨Nat.le_of_ble_eq_true rfl, Nat.le_of_ble_eq_true rfl⟩ ⟨Nat.le_refl _, Nat.le_refl _⟩ rfl hl.1 rfl (Nat.le_of_ble_eq_true rfl) dX6_set_3 ?_
  refine lv_if_eq (tgt := 48) hx hb dX6_set_6 (by decide) (fun c2 => ?_) (fun c2 => ?_)
  · have h := ip_ c2 h
    refine lv_bipush (v := -2) hx hb dX6_set_48 (by decide) ?_
    have h := so_ h
    subst h
    exact W.iret hx hb hr (fun t ht hW => ⟨rfl, ⟨by rw [ht]; exact hM.1, va_K.moved hW.alike hK⟩, hM.2.F ht⟩) hM.2.2.2 dX6_set_50
  · have h := in_ c2 h
    refine lv_iload_n hx hb dX6_set_9 rfl (lv_at hl 2 rfl) ?_
    refine lv_iconst (v := 0) hx hb dX6_set_10 (by decide) ?_
    refine lv_iload_n hx hb dX6_set_11 rfl (lv_at hl 1 rfl) ?_
    refine lv_if_ne (tgt := 20) hx hb dX6_set_12 (by decide) (fun c3 => ?_) (fun c3 => ?_)
    · have h := in_ c3 h
      refine lv_iload_n hx hb dX6_set_20 rfl (lv_at hl 1 rfl) ?_
      refine lv_iconst (v := 1) hx hb dX6_set_21 (by decide) ?_
      refine lv_icmp_ne (tgt := 29) hx hb dX6_set_22 (by decide) (fun c4 => ?_) (fun c4 => ?_)
      · have h := in_ c4 h
        refine lv_iload_n hx hb dX6_set_29 rfl (lv_at hl 1 rfl) ?_
        refine lv_iconst (v := 2) hx hb dX6_set_30 (by decide) ?_
        refine lv_icmp_ne (tgt := 40) hx hb dX6_set_31 (by decide) (fun c5 => ?_) (fun c5 => ?_)
        · have h := in_ c5 h
          refine lv_bipush (v := 10) hx hb dX6_set_40 (by decide) ?_
          exact mo_set_w42 C x1 x2 (10 : Int32) (0 : Int32) x2 I _ _ ls hM (lv_sub hl [0, 1, 2] rfl) h
        · have h := ip_ c5 h
          refine lv_sipush (v := 999) hx hb dX6_set_34 (by decide) ?_
          refine lv_goto (tgt := 42) hx hb dX6_set_37 (by decide) ?_
          exact mo_set_w42 C x1 x2 (999 : Int32) (0 : Int32) x2 I _ _ ls hM (lv_sub hl [0, 1, 2] rfl) h
      · have h := ip_ c4 h
        refine lv_iconst (v := 1) hx hb dX6_set_25 (by decide) ?_
        refine lv_goto (tgt := 42) hx hb dX6_set_26 (by decide) ?_
        exact mo_set_w42 C x1 x2 (1 : Int32) (0 : Int32) x2 I _ _ ls hM (lv_sub hl [0, 1, 2] rfl) h
    · have h := ip_ c3 h
      refine lv_bipush (v := 99) hx hb dX6_set_15 (by decide) ?_
      refine lv_goto (tgt := 42) hx hb dX6_set_17 (by decide) ?_
      exact mo_set_w42 C x1 x2 (99 : Int32) (0 : Int32) x2 I _ _ ls hM (lv_sub hl [0, 1, 2] rfl) h
theorem mo_set_hd : yX6_set.cls = RX6 ∧ yX6_set.cls ≠ "java/lang/invoke/MethodHandle" ∧ yX6_set.cls ≠ "java/lang/invoke/VarHandle" ∧ (parseMethodDescriptor yX6_set.desc).map (fun d => d.parameters.length) = some 2 := by decide +kernel
theorem mo_set_met (l : Launch) (Z : MZ) (I : St) (x1 : Int32) (x2 : Int32) (r : (Int32 × St)) (h : mo_set x1 x2 I = some r) : Met l yX6_set (ws_ yX6_set cX6_set 4 (some .int)) mo_set_rm (va_Pc [.ref (mH Z), .int x1, .int x2] (mS Z I)) (Qwr (some (.int r.1)) (mS Z r.2) (mA Z)) 0 0 (mA Z) := by
  refine Met.ofW (cc := cX6_set) (maxL := 4) (ret := some .int) (by decide) rfl ?_
  intro p e s m args below meth c s₁ B hml hv
  obtain ⟨rfl, hv⟩ := hv
  have hts := atoms_spec (ws := ws_ yX6_set cX6_set 4 (some .int)) B.pre
  have hts : ∀ w ∈ lw_all, w.before _ s = true := fun w h => hts w (List.mem_cons_of_mem _ h)
  have C : SCx p s m _ meth c cX6_set 4 (some .int) RX6 := ⟨B.exec, B.bytes, B.returns, B.notSynchronized, hml, findClass_of_methodNamed B.named, hts⟩
  have hl := lv_entry [.ref (mH Z), .int x1, .int x2] (n := 4) (Nat.le_of_ble_eq_true rfl)
  rw [lg_entry_eq]
  generalize (lg_sl [.ref (mH Z), .int x1, .int x2] ++ List.replicate (4 - (lg_sl [.ref (mH Z), .int x1, .int x2]).length) Slot.unset).toArray = ls at hl ⊢
  have C : MCx p s m _ meth c _ _ _ Z := ⟨C, hv.2⟩
  have hM : mIn Z s I s.heap [] := ⟨hv.1, va_S.rf⟩
  exact mo_set_w0 C x1 x2 I _ _ ls hM hl h

/-! SecondChancesModel.isSheet(I)Z -/
def mo_isSheet_rm : Room := { frames := 1, cells := 0, slots := 0, locals := 22 }
def mo_isSheet_P0 (p : Program) (l : Launch) (e : Env) (s : State) (m : MethodId) (args : Array Value) (below : List Frame) (meth : Method) (c : Code) (r : Int32) (f : Int32 → Option Int32) : Prop := ∀ (x0 : Int32) (ls : Array Slot), lv_has ls 1 [(0, .int x0)] → f x0 = some r → W p l e mo_isSheet_rm s m args below meth c s.heap [] 0 0 (MQ below (Qro (some (.int r))) args s 0 0 (fun _ => False)) (F0 m 0 ls [])
def mo_isSheet (x0 : Int32) : Option Int32 :=
  bd_ (mo_in x0 (0 : Int32) (3 : Int32)) fun v1 =>
  if zb v1 = true then some v1 else none
theorem mo_isSheet_w0 {p : Program} {l : Launch} {e : Env} {s : State} {m : MethodId} {args : Array Value} {below : List Frame} {meth : Method} {c : Code} (C : SCx p s m args meth c cX6_isSheet 1 (some .boolean) RX6) {r : Int32} : mo_isSheet_P0 p l e s m args below meth c r (mo_isSheet) := by
  intro x0 ls hl h
  obtain ⟨hx, hb, hr, hlocks, hml, hown, hts⟩ := id C
  unfold mo_isSheet at h
  refine lv_iload_n hx hb dX6_isSheet_0 rfl (lv_at hl 0 rfl) ?_
  refine lv_iconst (v := 0) hx hb dX6_isSheet_1 (by decide) ?_
  refine lv_iconst (v := 3) hx hb dX6_isSheet_2 (by decide) ?_
  obtain ⟨v1, q_v1, h⟩ := bd_e h
  refine s_roI (As := [.int x0, .int (0 : Int32), .int (3 : Int32)]) (rest := []) C (mo_in_met _ x0 (0 : Int32) (3 : Int32) v1 q_v1) (lw_S q1168 q1169 q88 q1170) mo_in_hd ⟨rfl, rfl⟩ ⟨Nat.le_of_ble_eq_true rfl, Nat.le_of_ble_eq_true rfl⟩ ⟨Nat.le_refl _, Nat.le_refl _⟩ rfl hl.1 rfl (Nat.le_of_ble_eq_true rfl) dX6_isSheet_3 ?_
  by_cases c2 : zb v1 = true
  case neg => exact no_ (in_ c2 h)
  have h := ip_ c2 h
  have h := so_ h
  subst h
  exact W.zret hx hb hr (zb_n c2) (fun t ht hW => ⟨rfl, ht⟩) (fun q hq => by cases hq) dX6_isSheet_6
theorem mo_isSheet_hd : yX6_isSheet.cls ≠ "java/lang/invoke/MethodHandle" ∧ yX6_isSheet.cls ≠ "java/lang/invoke/VarHandle" ∧ (parseMethodDescriptor yX6_isSheet.desc).map (fun d => d.parameters.length) = some 1 := by decide +kernel
theorem mo_isSheet_met (l : Launch) (x0 : Int32) (r : Int32) (h : mo_isSheet x0 = some r) : Met l yX6_isSheet (ws_ yX6_isSheet cX6_isSheet 1 (some .boolean)) mo_isSheet_rm (va_Pc [.int x0] (fun _ => True)) (Qro (some (.int r))) 0 0 (fun _ => False) := by
  refine Met.ofW (cc := cX6_isSheet) (maxL := 1) (ret := some .boolean) (by decide) rfl ?_
  intro p e s m args below meth c s₁ B hml hv
  obtain ⟨rfl, hv⟩ := hv
  have hts := atoms_spec (ws := ws_ yX6_isSheet cX6_isSheet 1 (some .boolean)) B.pre
  have hts : ∀ w ∈ lw_all, w.before _ s = true := fun w h => hts w (List.mem_cons_of_mem _ h)
  have C : SCx p s m _ meth c cX6_isSheet 1 (some .boolean) RX6 := ⟨B.exec, B.bytes, B.returns, B.notSynchronized, hml, findClass_of_methodNamed B.named, hts⟩
  have hl := lv_entry [.int x0] (n := 1) (Nat.le_of_ble_eq_true rfl)
  rw [lg_entry_eq]
  generalize (lg_sl [.int x0] ++ List.replicate (1 - (lg_sl [.int x0]).length) Slot.unset).toArray = ls at hl ⊢
  exact mo_isSheet_w0 C x0 ls hl h

/-! SecondChancesModel.meets(I)I -/
def mo_meets_rm : Room := { frames := 0, cells := 0, slots := 0, locals := 0 }
def mo_meets_P0 (p : Program) (l : Launch) (e : Env) (s : State) (m : MethodId) (args : Array Value) (below : List Frame) (meth : Method) (c : Code) (Z : MZ) (r : (Int32 × St)) (f : Int32 → St → Option (Int32 × St)) : Prop := ∀ (x1 : Int32) (I : St) (H : Heap) (locs : List Loc) (ls : Array Slot), mIn Z s I H locs → lv_has ls 2 [(0, .ref (mH Z)), (1, .int x1)] → f x1 I = some r → W p l e mo_meets_rm s m args below meth c H locs 0 0 (MQ below (Qwr (some (.int r.1)) (mS Z r.2) (mA Z)) args s 0 0 (mA Z)) (F0 m 0 ls [])
def mo_meets (x1 : Int32) (I : St) : Option (Int32 × St) :=
  lt_ (upd2 I 38 0 x1) fun I1 =>
  some (((-10 : Int32) - x1), I1)
theorem mo_meets_w0 {p : Program} {l : Launch} {e : Env} {s : State} {m : MethodId} {args : Array Value} {below : List Frame} {meth : Method} {c : Code} {Z : MZ} (C : MCx p s m args meth c cX6_meets 2 (some .int) Z) {r : (Int32 × St)} : mo_meets_P0 p l e s m args below meth c Z r (mo_meets) := by
  intro x1 I H locs ls hM hl h
  obtain ⟨⟨hx, hb, hr, hlocks, hml, hown, hts⟩, hK⟩ := id C
  unfold mo_meets at h
  refine lv_aload_n hx hb dX6_meets_0 rfl (lv_at hl 0 rfl) ?_
  refine lv_iload_n hx hb dX6_meets_1 rfl (lv_at hl 1 rfl) ?_
  refine pm38 C hM dX6_meets_2 (fun H locs I1 e_I1 hM => ?_)
  have h := lt_i h e_I1
  refine lv_bipush (v := -10) hx hb dX6_meets_5 (by decide) ?_
  refine lv_iload_n hx hb dX6_meets_7 rfl (lv_at hl 1 rfl) ?_
  refine lv_isub hx hb dX6_meets_8 ?_
  have h := so_ h
  subst h
  exact W.iret hx hb hr (fun t ht hW => ⟨rfl, ⟨by rw [ht]; exact hM.1, va_K.moved hW.alike hK⟩, hM.2.F ht⟩) hM.2.2.2 dX6_meets_9
theorem mo_meets_hd : yX6_meets.cls = RX6 ∧ yX6_meets.cls ≠ "java/lang/invoke/MethodHandle" ∧ yX6_meets.cls ≠ "java/lang/invoke/VarHandle" ∧ (parseMethodDescriptor yX6_meets.desc).map (fun d => d.parameters.length) = some 1 := by decide +kernel
theorem mo_meets_met (l : Launch) (Z : MZ) (I : St) (x1 : Int32) (r : (Int32 × St)) (h : mo_meets x1 I = some r) : Met l yX6_meets (ws_ yX6_meets cX6_meets 2 (some .int)) mo_meets_rm (va_Pc [.ref (mH Z), .int x1] (mS Z I)) (Qwr (some (.int r.1)) (mS Z r.2) (mA Z)) 0 0 (mA Z) := by
  refine Met.ofW (cc := cX6_meets) (maxL := 2) (ret := some .int) (by decide) rfl ?_
  intro p e s m args below meth c s₁ B hml hv
  obtain ⟨rfl, hv⟩ := hv
  have hts := atoms_spec (ws := ws_ yX6_meets cX6_meets 2 (some .int)) B.pre
  have hts : ∀ w ∈ lw_all, w.before _ s = true := fun w h => hts w (List.mem_cons_of_mem _ h)
  have C : SCx p s m _ meth c cX6_meets 2 (some .int) RX6 := ⟨B.exec, B.bytes, B.returns, B.notSynchronized, hml, findClass_of_methodNamed B.named, hts⟩
  have hl := lv_entry [.ref (mH Z), .int x1] (n := 2) (Nat.le_of_ble_eq_true rfl)
  rw [lg_entry_eq]
  generalize (lg_sl [.ref (mH Z), .int x1] ++ List.replicate (2 - (lg_sl [.ref (mH Z), .int x1]).length) Slot.unset).toArray = ls at hl ⊢
  have C : MCx p s m _ meth c _ _ _ Z := ⟨C, hv.2⟩
  have hM : mIn Z s I s.heap [] := ⟨hv.1, va_S.rf⟩
  exact mo_meets_w0 C x1 I _ _ ls hM hl h

/-! SecondChancesModel.read(I)I -/
def mo_read_rm : Room := { frames := 2, cells := 0, slots := 0, locals := 42 }
def mo_read_P0 (p : Program) (l : Launch) (e : Env) (s : State) (m : MethodId) (args : Array Value) (below : List Frame) (meth : Method) (c : Code) (Z : MZ) (r : (Int32 × St)) (f : Int32 → St → Option (Int32 × St)) : Prop := ∀ (x1 : Int32) (I : St) (H : Heap) (locs : List Loc) (ls : Array Slot), mIn Z s I H locs → lv_has ls 3 [(0, .ref (mH Z)), (1, .int x1)] → f x1 I = some r → W p l e mo_read_rm s m args below meth c H locs 0 0 (MQ below (Qwr (some (.int r.1)) (mS Z r.2) (mA Z)) args s 0 0 (mA Z)) (F0 m 0 ls [])
def mo_read_P27 (p : Program) (l : Launch) (e : Env) (s : State) (m : MethodId) (args : Array Value) (below : List Frame) (meth : Method) (c : Code) (Z : MZ) (r : (Int32 × St)) (f : Int32 → Int32 → St → Option (Int32 × St)) : Prop := ∀ (x1 : Int32) (x2 : Int32) (I : St) (H : Heap) (locs : List Loc) (ls : Array Slot), mIn Z s I H locs → lv_has ls 3 [(0, .ref (mH Z)), (1, .int x1), (2, .int x2)] → f x1 x2 I = some r → W p l e mo_read_rm s m args below meth c H locs 0 0 (MQ below (Qwr (some (.int r.1)) (mS Z r.2) (mA Z)) args s 0 0 (mA Z)) (F0 m 27 ls [])
def mo_read_b27 (k27 : Int32 → Int32 → St → Option (Int32 × St)) (x1 : Int32) (x2 : Int32) (I : St) : Option (Int32 × St) :=
  al_ 4 (I 35) x1 fun v1 =>
  if v1 ≤ x2 then (some (x2, I))
  else (if (8 : Int32) ≤ x2 then (some (x2, I))
    else (al_ 240 (I 36) (((60 : Int32) * x1) + x2) fun v4 =>
      bd_ (mo_in v4 (0 : Int32) (1 : Int32)) fun v5 =>
      if v5 = 0 then (some (x2, I))
      else (al_ 240 (I 36) (((60 : Int32) * x1) + x2) fun v7 =>
        as_ 8 16 I x2 v7 fun I8 =>
        k27 x1 (x2 + 1) I8)))
theorem mo_read_w27 {p : Program} {l : Launch} {e : Env} {s : State} {m : MethodId} {args : Array Value} {below : List Frame} {meth : Method} {c : Code} {Z : MZ} (C : MCx p s m args meth c cX6_read 3 (some .int) Z) {r : (Int32 × St)} {k27 : Int32 → Int32 → St → Option (Int32 × St)} (hk27 : mo_read_P27 p l e s m args below meth c Z r k27) : mo_read_P27 p l e s m args below meth c Z r (mo_read_b27 k27) := by
  intro x1 x2 I H locs ls hM hl h
  obtain ⟨⟨hx, hb, hr, hlocks, hml, hown, hts⟩, hK⟩ := id C
  unfold mo_read_b27 at h
  refine lv_iload_n hx hb dX6_read_27 rfl (lv_at hl 2 rfl) ?_
  refine lv_aload_n hx hb dX6_read_28 rfl (lv_at hl 0 rfl) ?_
  refine gm35 C hM.1 dX6_read_29 ?_
  refine lv_iload_n hx hb dX6_read_32 rfl (lv_at hl 1 rfl) ?_
  obtain ⟨i_v1, h⟩ := al_e h
  refine m_ald C hM.1 (pos := 27) (k := 35) rfl rfl i_v1 dX6_read_33 (fun v1 e_v1 => ?_)
  have h := h v1 e_v1
  refine lv_icmp_ge (tgt := 85) hx hb dX6_read_34 (by decide) (fun c2 => ?_) (fun c2 => ?_)
  · have h := ip_ c2 h
    refine lv_iload_n hx hb dX6_read_85 rfl (lv_at hl 2 rfl) ?_
    have h := so_ h
    subst h
    exact W.iret hx hb hr (fun t ht hW => ⟨rfl, ⟨by rw [ht]; exact hM.1, va_K.moved hW.alike hK⟩, hM.2.F ht⟩) hM.2.2.2 dX6_read_86
  · have h := in_ c2 h
    refine lv_iload_n hx hb dX6_read_37 rfl (lv_at hl 2 rfl) ?_
    refine lv_bipush (v := 8) hx hb dX6_read_38 (by decide) ?_
    refine lv_icmp_ge (tgt := 85) hx hb dX6_read_40 (by decide) (fun c3 => ?_) (fun c3 => ?_)
    · have h := ip_ c3 h
      refine lv_iload_n hx hb dX6_read_85 rfl (lv_at hl 2 rfl) ?_
      have h := so_ h
      subst h
      exact W.iret hx hb hr (fun t ht hW => ⟨rfl, ⟨by rw [ht]; exact hM.1, va_K.moved hW.alike hK⟩, hM.2.F ht⟩) hM.2.2.2 dX6_read_86
    · have h := in_ c3 h
      refine lv_aload_n hx hb dX6_read_43 rfl (lv_at hl 0 rfl) ?_
      refine gm36 C hM.1 dX6_read_44 ?_
      refine lv_bipush (v := 60) hx hb dX6_read_47 (by decide) ?_
      refine lv_iload_n hx hb dX6_read_49 rfl (lv_at hl 1 rfl) ?_
      refine lv_imul hx hb dX6_read_50 ?_
      refine lv_iload_n hx hb dX6_read_51 rfl (lv_at hl 2 rfl) ?_
      refine lv_iadd hx hb dX6_read_52 ?_
      obtain ⟨i_v4, h⟩ := al_e h
      refine m_ald C hM.1 (pos := 28) (k := 36) rfl rfl i_v4 dX6_read_53 (fun v4 e_v4 => ?_)
      have h := h v4 e_v4
      refine lv_iconst (v := 0) hx hb dX6_read_54 (by decide) ?_
      refine lv_iconst (v := 1) hx hb dX6_read_55 (by decide) ?_
      obtain ⟨v5, q_v5, h⟩ := bd_e h
      refine s_roI (As := [.int v4, .int (0 : Int32), .int (1 : Int32)]) (rest := []) C.1 (mo_in_met _ v4 (0 : Int32) (1 : Int32) v5 q_v5) (lw_S q1168 q1169 q88 q1170) mo_in_hd ⟨rfl, rfl⟩ ⟨Nat.le_of_ble_eq_true rfl, Nat.le_of_ble_eq_true rfl⟩ ⟨Nat.le_refl _, Nat.le_refl _⟩ rfl hl.1 rfl (Nat.le_of_ble_eq_true rfl) dX6_read_56 ?_
      refine lv_if_eq (tgt := 85) hx hb dX6_read_59 (by decide) (fun c6 => ?_) (fun c6 => ?_)
      · have h := ip_ c6 h
        refine lv_iload_n hx hb dX6_read_85 rfl (lv_at hl 2 rfl) ?_
        have h := so_ h
        subst h
        exact W.iret hx hb hr (fun t ht hW => ⟨rfl, ⟨by rw [ht]; exact hM.1, va_K.moved hW.alike hK⟩, hM.2.F ht⟩) hM.2.2.2 dX6_read_86
      · have h := in_ c6 h
        refine lv_aload_n hx hb dX6_read_62 rfl (lv_at hl 0 rfl) ?_
        refine gm16 C hM.1 dX6_read_63 ?_
        refine lv_iload_n hx hb dX6_read_66 rfl (lv_at hl 2 rfl) ?_
        refine lv_aload_n hx hb dX6_read_67 rfl (lv_at hl 0 rfl) ?_
        refine gm36 C hM.1 dX6_read_68 ?_
        refine lv_bipush (v := 60) hx hb dX6_read_71 (by decide) ?_
        refine lv_iload_n hx hb dX6_read_73 rfl (lv_at hl 1 rfl) ?_
        refine lv_imul hx hb dX6_read_74 ?_
        refine lv_iload_n hx hb dX6_read_75 rfl (lv_at hl 2 rfl) ?_
        refine lv_iadd hx hb dX6_read_76 ?_
        obtain ⟨i_v7, h⟩ := al_e h
        refine m_ald C hM.1 (pos := 28) (k := 36) rfl rfl i_v7 dX6_read_77 (fun v7 e_v7 => ?_)
        have h := h v7 e_v7
        obtain ⟨i_I8, h⟩ := as_e h
        refine m_ast C hM (pos := 14) (k := 16) rfl rfl i_I8 dX6_read_78 (fun H locs I8 e_I8 hM => ?_)
        have h := h I8 e_I8
        refine lv_iinc (v := (x2 + 1)) (lv' := [(2, .int (x2 + 1)), (0, .ref (mH Z)), (1, .int x1)]) hx hb dX6_read_79 hl (k := 2) rfl rfl (by decide) rfl (fun ls hl => ?_)
        refine lv_goto (tgt := 27) hx hb dX6_read_82 (by decide) ?_
        exact hk27 x1 (x2 + 1) I8 _ _ ls hM (lv_sub hl [1, 2, 0] rfl) h
def mo_read_l27 (n : Nat) : Int32 → Int32 → St → Option (Int32 × St) := lp (fun _ _ _ => none) (mo_read_b27) n
theorem mo_read_lw27 {p : Program} {l : Launch} {e : Env} {s : State} {m : MethodId} {args : Array Value} {below : List Frame} {meth : Method} {c : Code} {Z : MZ} (C : MCx p s m args meth c cX6_read 3 (some .int) Z) {r : (Int32 × St)} : ∀ n : Nat, mo_read_P27 p l e s m args below meth c Z r (mo_read_l27 n) := by
  intro n
  induction n with
  | zero => intro x1 x2 I H locs ls hM hl h; exact no_ h
  | succ n ih => exact mo_read_w27 C ih
def mo_read (x1 : Int32) (I : St) : Option (Int32 × St) :=
  bd_ (mo_isSheet x1) fun v1 =>
  if v1 = 0 then (some ((-2 : Int32), I))
  else (al_ 4 (I 33) x1 fun v3 =>
    if v3 = 0 then (bd2_ (mo_meets (1 : Int32) I) fun v6 I5 =>
      some (v6, I5))
    else (mo_read_l27 FU x1 (0 : Int32) I))
theorem mo_read_w0 {p : Program} {l : Launch} {e : Env} {s : State} {m : MethodId} {args : Array Value} {below : List Frame} {meth : Method} {c : Code} {Z : MZ} (C : MCx p s m args meth c cX6_read 3 (some .int) Z) {r : (Int32 × St)} : mo_read_P0 p l e s m args below meth c Z r (mo_read) := by
  intro x1 I H locs ls hM hl h
  obtain ⟨⟨hx, hb, hr, hlocks, hml, hown, hts⟩, hK⟩ := id C
  unfold mo_read at h
  refine lv_iload_n hx hb dX6_read_0 rfl (lv_at hl 1 rfl) ?_
  obtain ⟨v1, q_v1, h⟩ := bd_e h
  refine s_roI (As := [.int x1]) (rest := []) C.1 (mo_isSheet_met _ x1 v1 q_v1) (lw_S q1251 q1252 q88 q1253) mo_isSheet_hd ⟨rfl, rfl⟩ ⟨Nat.le_of_ble_eq_true rfl, Nat.le_of_ble_eq_true rfl⟩ ⟨Nat.le_refl _, Nat.le_refl _⟩ rfl hl.1 rfl (Nat.le_of_ble_eq_true rfl) dX6_read_1 ?_
  refine lv_if_ne (tgt := 10) hx hb dX6_read_4 (by decide) (fun c2 => ?_) (fun c2 => ?_)
  · have h := in_ c2 h
    refine lv_aload_n hx hb dX6_read_10 rfl (lv_at hl 0 rfl) ?_
    refine gm33 C hM.1 dX6_read_11 ?_
    refine lv_iload_n hx hb dX6_read_14 rfl (lv_at hl 1 rfl) ?_
    obtain ⟨i_v3, h⟩ := al_e h
    refine m_zald C hM.1 (pos := 25) (k := 33) rfl rfl i_v3 dX6_read_15 (fun v3 e_v3 => ?_)
    have h := h v3 e_v3
    refine lv_if_ne (tgt := 25) hx hb dX6_read_16 (by decide) (fun c4 => ?_) (fun c4 => ?_)
    · have h := in_ c4 h
      refine lv_iconst (v := 0) hx hb dX6_read_25 (by decide) ?_
      refine lv_istore_n (lv' := [(2, .int (0 : Int32)), (0, .ref (mH Z)), (1, .int x1)]) hx hb dX6_read_26 rfl hl (by decide) rfl (fun ls hl => ?_)
      exact mo_read_lw27 C FU x1 (0 : Int32) I _ _ ls hM (lv_sub hl [1, 2, 0] rfl) h
    · have h := ip_ c4 h
      refine lv_aload_n hx hb dX6_read_19 rfl (lv_at hl 0 rfl) ?_
      refine lv_iconst (v := 1) hx hb dX6_read_20 (by decide) ?_
      obtain ⟨v6, I5, q_I5, h⟩ := bd2_e h
      refine m_wrI (As := [.int (1 : Int32)]) (rest := []) C hM (mo_meets_met _ Z I (1 : Int32) (v6, I5) q_I5) (lw_V q1254 q1256 qs50 q88 q1257) mo_meets_hd ⟨rfl, rfl⟩ ⟨Nat.le_of_ble_eq_true rfl, Nat.le_of_ble_eq_true rfl⟩ ⟨Nat.le_refl _, Nat.le_refl _⟩ rfl hl.1 rfl (Nat.le_of_ble_eq_true rfl) dX6_read_21 (fun H locs hM => ?_)
      have h := so_ h
      subst h
      exact W.iret hx hb hr (fun t ht hW => ⟨rfl, ⟨by rw [ht]; exact hM.1, va_K.moved hW.alike hK⟩, hM.2.F ht⟩) hM.2.2.2 dX6_read_24
  · have h := ip_ c2 h
    refine lv_bipush (v := -2) hx hb dX6_read_7 (by decide) ?_
    have h := so_ h
    subst h
    exact W.iret hx hb hr (fun t ht hW => ⟨rfl, ⟨by rw [ht]; exact hM.1, va_K.moved hW.alike hK⟩, hM.2.F ht⟩) hM.2.2.2 dX6_read_9
theorem mo_read_hd : yX6_read.cls = RX6 ∧ yX6_read.cls ≠ "java/lang/invoke/MethodHandle" ∧ yX6_read.cls ≠ "java/lang/invoke/VarHandle" ∧ (parseMethodDescriptor yX6_read.desc).map (fun d => d.parameters.length) = some 1 := by decide +kernel
theorem mo_read_met (l : Launch) (Z : MZ) (I : St) (x1 : Int32) (r : (Int32 × St)) (h : mo_read x1 I = some r) : Met l yX6_read (ws_ yX6_read cX6_read 3 (some .int)) mo_read_rm (va_Pc [.ref (mH Z), .int x1] (mS Z I)) (Qwr (some (.int r.1)) (mS Z r.2) (mA Z)) 0 0 (mA Z) := by
  refine Met.ofW (cc := cX6_read) (maxL := 3) (ret := some .int) (by decide) rfl ?_
  intro p e s m args below meth c s₁ B hml hv
  obtain ⟨rfl, hv⟩ := hv
  have hts := atoms_spec (ws := ws_ yX6_read cX6_read 3 (some .int)) B.pre
  have hts : ∀ w ∈ lw_all, w.before _ s = true := fun w h => hts w (List.mem_cons_of_mem _ h)
  have C : SCx p s m _ meth c cX6_read 3 (some .int) RX6 := ⟨B.exec, B.bytes, B.returns, B.notSynchronized, hml, findClass_of_methodNamed B.named, hts⟩
  have hl := lv_entry [.ref (mH Z), .int x1] (n := 3) (Nat.le_of_ble_eq_true rfl)
  rw [lg_entry_eq]
  generalize (lg_sl [.ref (mH Z), .int x1] ++ List.replicate (3 - (lg_sl [.ref (mH Z), .int x1]).length) Slot.unset).toArray = ls at hl ⊢
  have C : MCx p s m _ meth c _ _ _ Z := ⟨C, hv.2⟩
  have hM : mIn Z s I s.heap [] := ⟨hv.1, va_S.rf⟩
  exact mo_read_w0 C x1 I _ _ ls hM hl h

/-! SecondChancesModel.needs(I)I -/
def mo_needs_rm : Room := { frames := 1, cells := 0, slots := 0, locals := 22 }
def mo_needs_P0 (p : Program) (l : Launch) (e : Env) (s : State) (m : MethodId) (args : Array Value) (below : List Frame) (meth : Method) (c : Code) (Z : MZ) (r : Int32) (f : Int32 → Option Int32) : Prop := ∀ (x1 : Int32) (ls : Array Slot), lv_has ls 3 [(0, .ref (mH Z)), (1, .int x1)] → f x1 = some r → W p l e mo_needs_rm s m args below meth c s.heap [] 0 0 (MQ below (Qro (some (.int r))) args s 0 0 (fun _ => False)) (F0 m 0 ls [])
def mo_needs (I : St) (x1 : Int32) : Option Int32 :=
  al_ 9 (I 7) x1 fun v1 =>
  bd_ (mo_ones v1) fun v2 =>
  al_ 9 (I 3) x1 fun v3 =>
  al_ 4 (I 9) v3 fun v4 =>
  if v2 ≤ v4 then (some v2)
  else (al_ 9 (I 3) x1 fun v6 =>
    al_ 4 (I 9) v6 fun v7 =>
    some v7)
theorem mo_needs_w0 {p : Program} {l : Launch} {e : Env} {s : State} {m : MethodId} {args : Array Value} {below : List Frame} {meth : Method} {c : Code} {Z : MZ} {I : St} (C : MCx p s m args meth c cX6_needs 3 (some .int) Z) (hM : mPD Z I s.heap) {r : Int32} : mo_needs_P0 p l e s m args below meth c Z r (mo_needs I) := by
  intro x1 ls hl h
  obtain ⟨⟨hx, hb, hr, hlocks, hml, hown, hts⟩, hK⟩ := id C
  unfold mo_needs at h
  refine lv_aload_n hx hb dX6_needs_0 rfl (lv_at hl 0 rfl) ?_
  refine gm7 C hM dX6_needs_1 ?_
  refine lv_iload_n hx hb dX6_needs_4 rfl (lv_at hl 1 rfl) ?_
  obtain ⟨i_v1, h⟩ := al_e h
  refine m_ald C hM (pos := 6) (k := 7) rfl rfl i_v1 dX6_needs_5 (fun v1 e_v1 => ?_)
  have h := h v1 e_v1
  obtain ⟨v2, q_v2, h⟩ := bd_e h
  refine s_roI (As := [.int v1]) (rest := []) C.1 (mo_ones_met _ v1 v2 q_v2) (lw_S q1278 q1279 q88 q1280) mo_ones_hd ⟨rfl, rfl⟩ ⟨Nat.le_of_ble_eq_true rfl, Nat.le_of_ble_eq_true rfl⟩ ⟨Nat.le_refl _, Nat.le_refl _⟩ rfl hl.1 rfl (Nat.le_of_ble_eq_true rfl) dX6_needs_6 ?_
  refine lv_istore_n (lv' := [(2, .int v2), (0, .ref (mH Z)), (1, .int x1)]) hx hb dX6_needs_9 rfl hl (by decide) rfl (fun ls hl => ?_)
  refine lv_aload_n hx hb dX6_needs_10 rfl (lv_at hl 1 rfl) ?_
  refine gm9 C hM dX6_needs_11 ?_
  refine lv_aload_n hx hb dX6_needs_14 rfl (lv_at hl 1 rfl) ?_
  refine gm3 C hM dX6_needs_15 ?_
  refine lv_iload_n hx hb dX6_needs_18 rfl (lv_at hl 2 rfl) ?_
  obtain ⟨i_v3, h⟩ := al_e h
  refine m_ald C hM (pos := 2) (k := 3) rfl rfl i_v3 dX6_needs_19 (fun v3 e_v3 => ?_)
  have h := h v3 e_v3
  obtain ⟨i_v4, h⟩ := al_e h
  refine m_ald C hM (pos := 7) (k := 9) rfl rfl i_v4 dX6_needs_20 (fun v4 e_v4 => ?_)
  have h := h v4 e_v4
  refine lv_iload_n hx hb dX6_needs_21 rfl (lv_at hl 0 rfl) ?_
  refine lv_icmp_ge (tgt := 39) hx hb dX6_needs_22 (by decide) (fun c5 => ?_) (fun c5 => ?_)
  · have h := ip_ c5 h
    refine lv_iload_n hx hb dX6_needs_39 rfl (lv_at hl 0 rfl) ?_
    have h := so_ h
    subst h
    exact W.iret hx hb hr (fun t ht hW => ⟨rfl, ht⟩) (fun q hq => by cases hq) dX6_needs_40
  · have h := in_ c5 h
    refine lv_aload_n hx hb dX6_needs_25 rfl (lv_at hl 1 rfl) ?_
    refine gm9 C hM dX6_needs_26 ?_
    refine lv_aload_n hx hb dX6_needs_29 rfl (lv_at hl 1 rfl) ?_
    refine gm3 C hM dX6_needs_30 ?_
    refine lv_iload_n hx hb dX6_needs_33 rfl (lv_at hl 2 rfl) ?_
    obtain ⟨i_v6, h⟩ := al_e h
    refine m_ald C hM (pos := 2) (k := 3) rfl rfl i_v6 dX6_needs_34 (fun v6 e_v6 => ?_)
    have h := h v6 e_v6
    obtain ⟨i_v7, h⟩ := al_e h
    refine m_ald C hM (pos := 7) (k := 9) rfl rfl i_v7 dX6_needs_35 (fun v7 e_v7 => ?_)
    have h := h v7 e_v7
    refine lv_goto (tgt := 40) hx hb dX6_needs_36 (by decide) ?_
    have h := so_ h
    subst h
    exact W.iret hx hb hr (fun t ht hW => ⟨rfl, ht⟩) (fun q hq => by cases hq) dX6_needs_40
theorem mo_needs_hd : yX6_needs.cls = RX6 ∧ yX6_needs.cls ≠ "java/lang/invoke/MethodHandle" ∧ yX6_needs.cls ≠ "java/lang/invoke/VarHandle" ∧ (parseMethodDescriptor yX6_needs.desc).map (fun d => d.parameters.length) = some 1 := by decide +kernel
theorem mo_needs_met (l : Launch) (Z : MZ) (I : St) (x1 : Int32) (r : Int32) (h : mo_needs I x1 = some r) : Met l yX6_needs (ws_ yX6_needs cX6_needs 3 (some .int)) mo_needs_rm (va_Pc [.ref (mH Z), .int x1] (mS Z I)) (Qro (some (.int r))) 0 0 (fun _ => False) := by
  refine Met.ofW (cc := cX6_needs) (maxL := 3) (ret := some .int) (by decide) rfl ?_
  intro p e s m args below meth c s₁ B hml hv
  obtain ⟨rfl, hv⟩ := hv
  have hts := atoms_spec (ws := ws_ yX6_needs cX6_needs 3 (some .int)) B.pre
  have hts : ∀ w ∈ lw_all, w.before _ s = true := fun w h => hts w (List.mem_cons_of_mem _ h)
  have C : SCx p s m _ meth c cX6_needs 3 (some .int) RX6 := ⟨B.exec, B.bytes, B.returns, B.notSynchronized, hml, findClass_of_methodNamed B.named, hts⟩
  have hl := lv_entry [.ref (mH Z), .int x1] (n := 3) (Nat.le_of_ble_eq_true rfl)
  rw [lg_entry_eq]
  generalize (lg_sl [.ref (mH Z), .int x1] ++ List.replicate (3 - (lg_sl [.ref (mH Z), .int x1]).length) Slot.unset).toArray = ls at hl ⊢
  have C : MCx p s m _ meth c _ _ _ Z := ⟨C, hv.2⟩
  have hM := hv.1
  exact mo_needs_w0 C hM x1 ls hl h

/-! SecondChancesModel.isTurned(II)Z -/
def mo_isTurned_rm : Room := { frames := 0, cells := 0, slots := 0, locals := 0 }
def mo_isTurned_P0 (p : Program) (l : Launch) (e : Env) (s : State) (m : MethodId) (args : Array Value) (below : List Frame) (meth : Method) (c : Code) (Z : MZ) (r : Int32) (f : Int32 → Int32 → Option Int32) : Prop := ∀ (x1 : Int32) (x2 : Int32) (ls : Array Slot), lv_has ls 3 [(0, .ref (mH Z)), (1, .int x1), (2, .int x2)] → f x1 x2 = some r → W p l e mo_isTurned_rm s m args below meth c s.heap [] 0 0 (MQ below (Qro (some (.int r))) args s 0 0 (fun _ => False)) (F0 m 0 ls [])
def mo_isTurned (I : St) (x1 : Int32) (x2 : Int32) : Option Int32 :=
  al_ 9 (I 3) x1 fun v1 =>
  al_ 4 (I 10) v1 fun v2 =>
  if v2 = (1 : Int32) then (al_ 8 (I 16) x2 fun v4 =>
    al_ 9 (I 5) x1 fun v5 =>
    if v4 = v5 then (some (0 : Int32))
    else (some (1 : Int32)))
  else (some (0 : Int32))
theorem mo_isTurned_w0 {p : Program} {l : Launch} {e : Env} {s : State} {m : MethodId} {args : Array Value} {below : List Frame} {meth : Method} {c : Code} {Z : MZ} {I : St} (C : MCx p s m args meth c cX6_isTurned 3 (some .boolean) Z) (hM : mPD Z I s.heap) {r : Int32} : mo_isTurned_P0 p l e s m args below meth c Z r (mo_isTurned I) := by
  intro x1 x2 ls hl h
  obtain ⟨⟨hx, hb, hr, hlocks, hml, hown, hts⟩, hK⟩ := id C
  unfold mo_isTurned at h
  refine lv_aload_n hx hb dX6_isTurned_0 rfl (lv_at hl 0 rfl) ?_
  refine gm10 C hM dX6_isTurned_1 ?_
  refine lv_aload_n hx hb dX6_isTurned_4 rfl (lv_at hl 0 rfl) ?_
  refine gm3 C hM dX6_isTurned_5 ?_
  refine lv_iload_n hx hb dX6_isTurned_8 rfl (lv_at hl 1 rfl) ?_
  obtain ⟨i_v1, h⟩ := al_e h
  refine m_ald C hM (pos := 2) (k := 3) rfl rfl i_v1 dX6_isTurned_9 (fun v1 e_v1 => ?_)
  have h := h v1 e_v1
  obtain ⟨i_v2, h⟩ := al_e h
  refine m_ald C hM (pos := 8) (k := 10) rfl rfl i_v2 dX6_isTurned_10 (fun v2 e_v2 => ?_)
  have h := h v2 e_v2
  refine lv_iconst (v := 1) hx hb dX6_isTurned_11 (by decide) ?_
  refine lv_icmp_ne (tgt := 34) hx hb dX6_isTurned_12 (by decide) (fun c3 => ?_) (fun c3 => ?_)
  · have h := in_ c3 h
    refine lv_iconst (v := 0) hx hb dX6_isTurned_34 (by decide) ?_
    have h := so_ h
    subst h
    exact W.zret hx hb hr rfl (fun t ht hW => ⟨rfl, ht⟩) (fun q hq => by cases hq) dX6_isTurned_35
  · have h := ip_ c3 h
    refine lv_aload_n hx hb dX6_isTurned_15 rfl (lv_at hl 0 rfl) ?_
    refine gm16 C hM dX6_isTurned_16 ?_
    refine lv_iload_n hx hb dX6_isTurned_19 rfl (lv_at hl 2 rfl) ?_
    obtain ⟨i_v4, h⟩ := al_e h
    refine m_ald C hM (pos := 14) (k := 16) rfl rfl i_v4 dX6_isTurned_20 (fun v4 e_v4 => ?_)
    have h := h v4 e_v4
    refine lv_aload_n hx hb dX6_isTurned_21 rfl (lv_at hl 0 rfl) ?_
    refine gm5 C hM dX6_isTurned_22 ?_
    refine lv_iload_n hx hb dX6_isTurned_25 rfl (lv_at hl 1 rfl) ?_
    obtain ⟨i_v5, h⟩ := al_e h
    refine m_ald C hM (pos := 4) (k := 5) rfl rfl i_v5 dX6_isTurned_26 (fun v5 e_v5 => ?_)
    have h := h v5 e_v5
    refine lv_icmp_eq (tgt := 34) hx hb dX6_isTurned_27 (by decide) (fun c6 => ?_) (fun c6 => ?_)
    · have h := ip_ c6 h
      refine lv_iconst (v := 0) hx hb dX6_isTurned_34 (by decide) ?_
      have h := so_ h
      subst h
      exact W.zret hx hb hr rfl (fun t ht hW => ⟨rfl, ht⟩) (fun q hq => by cases hq) dX6_isTurned_35
    · have h := in_ c6 h
      refine lv_iconst (v := 1) hx hb dX6_isTurned_30 (by decide) ?_
      refine lv_goto (tgt := 35) hx hb dX6_isTurned_31 (by decide) ?_
      have h := so_ h
      subst h
      exact W.zret hx hb hr rfl (fun t ht hW => ⟨rfl, ht⟩) (fun q hq => by cases hq) dX6_isTurned_35
theorem mo_isTurned_hd : yX6_isTurned.cls = RX6 ∧ yX6_isTurned.cls ≠ "java/lang/invoke/MethodHandle" ∧ yX6_isTurned.cls ≠ "java/lang/invoke/VarHandle" ∧ (parseMethodDescriptor yX6_isTurned.desc).map (fun d => d.parameters.length) = some 2 := by decide +kernel
theorem mo_isTurned_met (l : Launch) (Z : MZ) (I : St) (x1 : Int32) (x2 : Int32) (r : Int32) (h : mo_isTurned I x1 x2 = some r) : Met l yX6_isTurned (ws_ yX6_isTurned cX6_isTurned 3 (some .boolean)) mo_isTurned_rm (va_Pc [.ref (mH Z), .int x1, .int x2] (mS Z I)) (Qro (some (.int r))) 0 0 (fun _ => False) := by
  refine Met.ofW (cc := cX6_isTurned) (maxL := 3) (ret := some .boolean) (by decide) rfl ?_
  intro p e s m args below meth c s₁ B hml hv
  obtain ⟨rfl, hv⟩ := hv
  have hts := atoms_spec (ws := ws_ yX6_isTurned cX6_isTurned 3 (some .boolean)) B.pre
  have hts : ∀ w ∈ lw_all, w.before _ s = true := fun w h => hts w (List.mem_cons_of_mem _ h)
  have C : SCx p s m _ meth c cX6_isTurned 3 (some .boolean) RX6 := ⟨B.exec, B.bytes, B.returns, B.notSynchronized, hml, findClass_of_methodNamed B.named, hts⟩
  have hl := lv_entry [.ref (mH Z), .int x1, .int x2] (n := 3) (Nat.le_of_ble_eq_true rfl)
  rw [lg_entry_eq]
  generalize (lg_sl [.ref (mH Z), .int x1, .int x2] ++ List.replicate (3 - (lg_sl [.ref (mH Z), .int x1, .int x2]).length) Slot.unset).toArray = ls at hl ⊢
  have C : MCx p s m _ meth c _ _ _ Z := ⟨C, hv.2⟩
  have hM := hv.1
  exact mo_isTurned_w0 C hM x1 x2 ls hl h

/-! SecondChancesModel.comesOf(II)I -/
def mo_comesOf_rm : Room := { frames := 2, cells := 0, slots := 0, locals := 44 }
def mo_comesOf_P0 (p : Program) (l : Launch) (e : Env) (s : State) (m : MethodId) (args : Array Value) (below : List Frame) (meth : Method) (c : Code) (Z : MZ) (r : Int32) (f : Int32 → Int32 → Option Int32) : Prop := ∀ (x1 : Int32) (x2 : Int32) (ls : Array Slot), lv_has ls 8 [(0, .ref (mH Z)), (1, .int x1), (2, .int x2)] → f x1 x2 = some r → W p l e mo_comesOf_rm s m args below meth c s.heap [] 0 0 (MQ below (Qro (some (.int r))) args s 0 0 (fun _ => False)) (F0 m 0 ls [])
def mo_comesOf_P21 (p : Program) (l : Launch) (e : Env) (s : State) (m : MethodId) (args : Array Value) (below : List Frame) (meth : Method) (c : Code) (Z : MZ) (r : Int32) (f : Int32 → Int32 → Option Int32) : Prop := ∀ (x1 : Int32) (x2 : Int32) (ls : Array Slot), lv_has ls 8 [(0, .ref (mH Z)), (1, .int x1), (2, .int x2)] → f x1 x2 = some r → W p l e mo_comesOf_rm s m args below meth c s.heap [] 0 0 (MQ below (Qro (some (.int r))) args s 0 0 (fun _ => False)) (F0 m 21 ls [])
def mo_comesOf_P30 (p : Program) (l : Launch) (e : Env) (s : State) (m : MethodId) (args : Array Value) (below : List Frame) (meth : Method) (c : Code) (Z : MZ) (r : Int32) (f : Int32 → Int32 → Int32 → Int32 → Option Int32) : Prop := ∀ (x1 : Int32) (x2 : Int32) (x3 : Int32) (x4 : Int32) (ls : Array Slot), lv_has ls 8 [(0, .ref (mH Z)), (1, .int x1), (2, .int x2), (3, .int x3), (4, .int x4)] → f x1 x2 x3 x4 = some r → W p l e mo_comesOf_rm s m args below meth c s.heap [] 0 0 (MQ below (Qro (some (.int r))) args s 0 0 (fun _ => False)) (F0 m 30 ls [])
def mo_comesOf_P41 (p : Program) (l : Launch) (e : Env) (s : State) (m : MethodId) (args : Array Value) (below : List Frame) (meth : Method) (c : Code) (Z : MZ) (r : Int32) (f : Int32 → Int32 → Int32 → Int32 → Int32 → Int32 → Option Int32) : Prop := ∀ (x1 : Int32) (x2 : Int32) (x3 : Int32) (x4 : Int32) (x5 : Int32) (x6 : Int32) (ls : Array Slot), lv_has ls 8 [(0, .ref (mH Z)), (1, .int x1), (2, .int x2), (3, .int x3), (4, .int x4), (5, .int x5), (6, .int x6)] → f x1 x2 x3 x4 x5 x6 = some r → W p l e mo_comesOf_rm s m args below meth c s.heap [] 0 0 (MQ below (Qro (some (.int r))) args s 0 0 (fun _ => False)) (F0 m 41 ls [])
def mo_comesOf_P98 (p : Program) (l : Launch) (e : Env) (s : State) (m : MethodId) (args : Array Value) (below : List Frame) (meth : Method) (c : Code) (Z : MZ) (r : Int32) (f : Int32 → Int32 → Int32 → Int32 → Int32 → Int32 → Int32 → Option Int32) : Prop := ∀ (x1 : Int32) (x2 : Int32) (x3 : Int32) (x4 : Int32) (x5 : Int32) (x6 : Int32) (t0 : Int32) (ls : Array Slot), lv_has ls 8 [(0, .ref (mH Z)), (1, .int x1), (2, .int x2), (3, .int x3), (4, .int x4), (5, .int x5), (6, .int x6)] → f x1 x2 x3 x4 x5 x6 t0 = some r → W p l e mo_comesOf_rm s m args below meth c s.heap [] 0 0 (MQ below (Qro (some (.int r))) args s 0 0 (fun _ => False)) (F0 m 98 ls [.int t0])
def mo_comesOf_P135 (p : Program) (l : Launch) (e : Env) (s : State) (m : MethodId) (args : Array Value) (below : List Frame) (meth : Method) (c : Code) (Z : MZ) (r : Int32) (f : Int32 → Int32 → Int32 → Int32 → Int32 → Int32 → Option Int32) : Prop := ∀ (x1 : Int32) (x2 : Int32) (x3 : Int32) (x4 : Int32) (x6 : Int32) (t0 : Int32) (ls : Array Slot), lv_has ls 8 [(0, .ref (mH Z)), (1, .int x1), (2, .int x2), (3, .int x3), (4, .int x4), (6, .int x6)] → f x1 x2 x3 x4 x6 t0 = some r → W p l e mo_comesOf_rm s m args below meth c s.heap [] 0 0 (MQ below (Qro (some (.int r))) args s 0 0 (fun _ => False)) (F0 m 135 ls [.int t0])
def mo_comesOf_b135 (I : St) (k30 : Int32 → Int32 → Int32 → Int32 → Option Int32) (k41 : Int32 → Int32 → Int32 → Int32 → Int32 → Int32 → Option Int32) (x1 : Int32) (x2 : Int32) (x3 : Int32) (x4 : Int32) (x6 : Int32) (t0 : Int32) : Option Int32 :=
  k41 x1 x2 x3 x4 t0 (x6 + 1)
theorem mo_comesOf_w135 {p : Program} {l : Launch} {e : Env} {s : State} {m : MethodId} {args : Array Value} {below : List Frame} {meth : Method} {c : Code} {Z : MZ} {I : St} (C : MCx p s m args meth c cX6_comesOf 8 (some .int) Z) (hM : mPD Z I s.heap) {r : Int32} {k30 : Int32 → Int32 → Int32 → Int32 → Option Int32} (hk30 : mo_comesOf_P30 p l e s m args below meth c Z r k30) {k41 : Int32 → Int32 → Int32 → Int32 → Int32 → Int32 → Option Int32} (hk41 : mo_comesOf_P41 p l e s m args below meth c Z r k41) : mo_comesOf_P135 p l e s m args below meth c Z r (mo_comesOf_b135 I k30 k41) := by
  intro x1 x2 x3 x4 x6 t0 ls hl h
  obtain ⟨⟨hx, hb, hr, hlocks, hml, hown, hts⟩, hK⟩ := id C
  unfold mo_comesOf_b135 at h
  refine lv_istore (lv' := [(5, .int t0), (0, .ref (mH Z)), (1, .int x1), (2, .int x2), (3, .int x3), (4, .int x4), (6, .int x6)]) hx hb dX6_comesOf_135 hl (by decide) rfl (fun ls hl => ?_)
  refine lv_iinc (v := (x6 + 1)) (lv' := [(6, .int (x6 + 1)), (5, .int t0), (0, .ref (mH Z)), (1, .int x1), (2, .int x2), (3, .int x3), (4, .int x4)]) hx hb dX6_comesOf_137 hl (k := 6) rfl rfl (by decide) rfl (fun ls hl => ?_)
  refine lv_goto (tgt := 41) hx hb dX6_comesOf_140 (by decide) ?_
  exact hk41 x1 x2 x3 x4 t0 (x6 + 1) ls (lv_sub hl [2, 3, 4, 5, 6, 1, 0] rfl) h
def mo_comesOf_b98 (I : St) (k30 : Int32 → Int32 → Int32 → Int32 → Option Int32) (k41 : Int32 → Int32 → Int32 → Int32 → Int32 → Int32 → Option Int32) (x1 : Int32) (x2 : Int32) (x3 : Int32) (x4 : Int32) (x5 : Int32) (x6 : Int32) (t0 : Int32) : Option Int32 :=
  if t0 = 0 then (mo_comesOf_b135 I k30 k41 x1 x2 x3 x4 x6 x5)
  else (if x5 = (-1 : Int32) then (mo_comesOf_b135 I k30 k41 x1 x2 x3 x4 x6 x6)
    else (al_ 8 (I 14) x6 fun v3 =>
      al_ 8 (I 14) x5 fun v4 =>
      if v4 ≤ v3 then (mo_comesOf_b135 I k30 k41 x1 x2 x3 x4 x6 x5)
      else (mo_comesOf_b135 I k30 k41 x1 x2 x3 x4 x6 x6)))
theorem mo_comesOf_w98 {p : Program} {l : Launch} {e : Env} {s : State} {m : MethodId} {args : Array Value} {below : List Frame} {meth : Method} {c : Code} {Z : MZ} {I : St} (C : MCx p s m args meth c cX6_comesOf 8 (some .int) Z) (hM : mPD Z I s.heap) {r : Int32} {k30 : Int32 → Int32 → Int32 → Int32 → Option Int32} (hk30 : mo_comesOf_P30 p l e s m args below meth c Z r k30) {k41 : Int32 → Int32 → Int32 → Int32 → Int32 → Int32 → Option Int32} (hk41 : mo_comesOf_P41 p l e s m args below meth c Z r k41) : mo_comesOf_P98 p l e s m args below meth c Z r (mo_comesOf_b98 I k30 k41) := by
  intro x1 x2 x3 x4 x5 x6 t0 ls hl h
  obtain ⟨⟨hx, hb, hr, hlocks, hml, hown, hts⟩, hK⟩ := id C
  unfold mo_comesOf_b98 at h
  refine lv_istore (lv' := [(7, .int t0), (0, .ref (mH Z)), (1, .int x1), (2, .int x2), (3, .int x3), (4, .int x4), (5, .int x5), (6, .int x6)]) hx hb dX6_comesOf_98 hl (by decide) rfl (fun ls hl => ?_)
  refine lv_iload hx hb dX6_comesOf_100 (lv_at hl 0 rfl) ?_
  refine lv_if_eq (tgt := 133) hx hb dX6_comesOf_102 (by decide) (fun c1 => ?_) (fun c1 => ?_)
  · have h := ip_ c1 h
    refine lv_iload hx hb dX6_comesOf_133 (lv_at hl 6 rfl) ?_
    exact mo_comesOf_w135 C hM hk30 hk41 x1 x2 x3 x4 x6 x5 ls (lv_sub hl [1, 2, 3, 4, 5, 7] rfl) h
  · have h := in_ c1 h
    refine lv_iload hx hb dX6_comesOf_105 (lv_at hl 6 rfl) ?_
    refine lv_iconst (v := -1) hx hb dX6_comesOf_107 (by decide) ?_
    refine lv_icmp_eq (tgt := 128) hx hb dX6_comesOf_108 (by decide) (fun c2 => ?_) (fun c2 => ?_)
    · have h := ip_ c2 h
      refine lv_iload hx hb dX6_comesOf_128 (lv_at hl 7 rfl) ?_
      refine lv_goto (tgt := 135) hx hb dX6_comesOf_130 (by decide) ?_
      exact mo_comesOf_w135 C hM hk30 hk41 x1 x2 x3 x4 x6 x6 ls (lv_sub hl [1, 2, 3, 4, 5, 7] rfl) h
    · have h := in_ c2 h
      refine lv_aload_n hx hb dX6_comesOf_111 rfl (lv_at hl 1 rfl) ?_
      refine gm14 C hM dX6_comesOf_112 ?_
      refine lv_iload hx hb dX6_comesOf_115 (lv_at hl 7 rfl) ?_
      obtain ⟨i_v3, h⟩ := al_e h
      refine m_ald C hM (pos := 12) (k := 14) rfl rfl i_v3 dX6_comesOf_117 (fun v3 e_v3 => ?_)
      have h := h v3 e_v3
      refine lv_aload_n hx hb dX6_comesOf_118 rfl (lv_at hl 1 rfl) ?_
      refine gm14 C hM dX6_comesOf_119 ?_
      refine lv_iload hx hb dX6_comesOf_122 (lv_at hl 6 rfl) ?_
      obtain ⟨i_v4, h⟩ := al_e h
      refine m_ald C hM (pos := 12) (k := 14) rfl rfl i_v4 dX6_comesOf_124 (fun v4 e_v4 => ?_)
      have h := h v4 e_v4
      refine lv_icmp_ge (tgt := 133) hx hb dX6_comesOf_125 (by decide) (fun c5 => ?_) (fun c5 => ?_)
      · have h := ip_ c5 h
        refine lv_iload hx hb dX6_comesOf_133 (lv_at hl 6 rfl) ?_
        exact mo_comesOf_w135 C hM hk30 hk41 x1 x2 x3 x4 x6 x5 ls (lv_sub hl [1, 2, 3, 4, 5, 7] rfl) h
      · have h := in_ c5 h
        refine lv_iload hx hb dX6_comesOf_128 (lv_at hl 7 rfl) ?_
        refine lv_goto (tgt := 135) hx hb dX6_comesOf_130 (by decide) ?_
        exact mo_comesOf_w135 C hM hk30 hk41 x1 x2 x3 x4 x6 x6 ls (lv_sub hl [1, 2, 3, 4, 5, 7] rfl) h
def mo_comesOf_b41 (I : St) (k30 : Int32 → Int32 → Int32 → Int32 → Option Int32) (k41 : Int32 → Int32 → Int32 → Int32 → Int32 → Int32 → Option Int32) (x1 : Int32) (x2 : Int32) (x3 : Int32) (x4 : Int32) (x5 : Int32) (x6 : Int32) : Option Int32 :=
  if (8 : Int32) ≤ x6 then (if x5 = (-1 : Int32) then (some (-3 : Int32))
    else (lt_ (x3 ||| ((1 : Int32) <<< (x5 &&& 31))) fun v3 =>
      k30 x1 x2 v3 (x4 + (-1))))
  else (al_ 9 (I 7) x1 fun v4 =>
    bd_ (mo_isIn v4 x6) fun v5 =>
    if v5 = 0 then (mo_comesOf_b98 I k30 k41 x1 x2 x3 x4 x5 x6 (0 : Int32))
    else (bd_ (mo_isIn x3 x6) fun v7 =>
      if v7 = 0 then (al_ 8 (I 12) x6 fun v9 =>
        if x2 < v9 then (mo_comesOf_b98 I k30 k41 x1 x2 x3 x4 x5 x6 (0 : Int32))
        else (al_ 8 (I 13) x6 fun v11 =>
          if v11 ≤ x2 then (mo_comesOf_b98 I k30 k41 x1 x2 x3 x4 x5 x6 (0 : Int32))
          else (mo_comesOf_b98 I k30 k41 x1 x2 x3 x4 x5 x6 (1 : Int32))))
      else (mo_comesOf_b98 I k30 k41 x1 x2 x3 x4 x5 x6 (0 : Int32))))
theorem mo_comesOf_w41 {p : Program} {l : Launch} {e : Env} {s : State} {m : MethodId} {args : Array Value} {below : List Frame} {meth : Method} {c : Code} {Z : MZ} {I : St} (C : MCx p s m args meth c cX6_comesOf 8 (some .int) Z) (hM : mPD Z I s.heap) {r : Int32} {k30 : Int32 → Int32 → Int32 → Int32 → Option Int32} (hk30 : mo_comesOf_P30 p l e s m args below meth c Z r k30) {k41 : Int32 → Int32 → Int32 → Int32 → Int32 → Int32 → Option Int32} (hk41 : mo_comesOf_P41 p l e s m args below meth c Z r k41) : mo_comesOf_P41 p l e s m args below meth c Z r (mo_comesOf_b41 I k30 k41) := by
  intro x1 x2 x3 x4 x5 x6 ls hl h
  obtain ⟨⟨hx, hb, hr, hlocks, hml, hown, hts⟩, hK⟩ := id C
  unfold mo_comesOf_b41 at h
  refine lv_iload hx hb dX6_comesOf_41 (lv_at hl 6 rfl) ?_
  refine lv_bipush (v := 8) hx hb dX6_comesOf_43 (by decide) ?_
  refine lv_icmp_ge (tgt := 143) hx hb dX6_comesOf_45 (by decide) (fun c1 => ?_) (fun c1 => ?_)
  · have h := ip_ c1 h
    refine lv_iload hx hb dX6_comesOf_143 (lv_at hl 5 rfl) ?_
    refine lv_iconst (v := -1) hx hb dX6_comesOf_145 (by decide) ?_
    refine lv_icmp_ne (tgt := 152) hx hb dX6_comesOf_146 (by decide) (fun c2 => ?_) (fun c2 => ?_)
    · have h := in_ c2 h
      refine lv_iload_n hx hb dX6_comesOf_152 rfl (lv_at hl 3 rfl) ?_
      refine lv_iconst (v := 1) hx hb dX6_comesOf_153 (by decide) ?_
      refine lv_iload hx hb dX6_comesOf_154 (lv_at hl 5 rfl) ?_
      refine lv_ishl hx hb dX6_comesOf_156 ?_
      refine lv_ior hx hb dX6_comesOf_157 ?_
      refine lv_topi (fun v3 e_v3 => ?_)
      have h := lt_i h e_v3
      refine lv_istore_n (lv' := [(3, .int v3), (0, .ref (mH Z)), (1, .int x1), (2, .int x2), (4, .int x4), (5, .int x5), (6, .int x6)]) hx hb dX6_comesOf_158 rfl hl (by decide) rfl (fun ls hl => ?_)
      refine lv_iinc (v := (x4 + (-1))) (lv' := [(4, .int (x4 + (-1))), (3, .int v3), (0, .ref (mH Z)), (1, .int x1), (2, .int x2), (5, .int x5), (6, .int x6)]) hx hb dX6_comesOf_159 hl (k := 4) rfl rfl (by decide) rfl (fun ls hl => ?_)
      refine lv_goto (tgt := 30) hx hb dX6_comesOf_162 (by decide) ?_
      exact hk30 x1 x2 v3 (x4 + (-1)) ls (lv_sub hl [2, 3, 4, 1, 0] rfl) h
    · have h := ip_ c2 h
      refine lv_bipush (v := -3) hx hb dX6_comesOf_149 (by decide) ?_
      have h := so_ h
      subst h
      exact W.iret hx hb hr (fun t ht hW => ⟨rfl, ht⟩) (fun q hq => by cases hq) dX6_comesOf_151
  · have h := in_ c1 h
    refine lv_aload_n hx hb dX6_comesOf_48 rfl (lv_at hl 0 rfl) ?_
    refine gm7 C hM dX6_comesOf_49 ?_
    refine lv_iload_n hx hb dX6_comesOf_52 rfl (lv_at hl 1 rfl) ?_
    obtain ⟨i_v4, h⟩ := al_e h
    refine m_ald C hM (pos := 6) (k := 7) rfl rfl i_v4 dX6_comesOf_53 (fun v4 e_v4 => ?_)
    have h := h v4 e_v4
    refine lv_iload hx hb dX6_comesOf_54 (lv_at hl 6 rfl) ?_
    obtain ⟨v5, q_v5, h⟩ := bd_e h
    refine s_roI (As := [.int v4, .int x6]) (rest := []) C.1 (mo_isIn_met _ v4 x6 v5 q_v5) (lw_S q1194 q1195 q88 q1196) mo_isIn_hd ⟨rfl, rfl⟩ ⟨Nat.le_of_ble_eq_true rfl, Nat.le_of_ble_eq_true rfl⟩ ⟨Nat.le_refl _, Nat.le_refl _⟩ rfl hl.1 rfl (Nat.le_of_ble_eq_true rfl) dX6_comesOf_56 ?_
    refine lv_if_eq (tgt := 97) hx hb dX6_comesOf_59 (by decide) (fun c6 => ?_) (fun c6 => ?_)
    · have h := ip_ c6 h
      refine lv_iconst (v := 0) hx hb dX6_comesOf_97 (by decide) ?_
      exact mo_comesOf_w98 C hM hk30 hk41 x1 x2 x3 x4 x5 x6 (0 : Int32) ls (lv_sub hl [0, 1, 2, 3, 4, 5, 6] rfl) h
    · have h := in_ c6 h
      refine lv_iload_n hx hb dX6_comesOf_62 rfl (lv_at hl 3 rfl) ?_
      refine lv_iload hx hb dX6_comesOf_63 (lv_at hl 6 rfl) ?_
      obtain ⟨v7, q_v7, h⟩ := bd_e h
      refine s_roI (As := [.int x3, .int x6]) (rest := []) C.1 (mo_isIn_met _ x3 x6 v7 q_v7) (lw_S q1194 q1195 q88 q1196) mo_isIn_hd ⟨rfl, rfl⟩ ⟨Nat.le_of_ble_eq_true rfl, Nat.le_of_ble_eq_true rfl⟩ ⟨Nat.le_refl _, Nat.le_refl _⟩ rfl hl.1 rfl (Nat.le_of_ble_eq_true rfl) dX6_comesOf_65 ?_
      refine lv_if_ne (tgt := 97) hx hb dX6_comesOf_68 (by decide) (fun c8 => ?_) (fun c8 => ?_)
      · have h := in_ c8 h
        refine lv_iconst (v := 0) hx hb dX6_comesOf_97 (by decide) ?_
        exact mo_comesOf_w98 C hM hk30 hk41 x1 x2 x3 x4 x5 x6 (0 : Int32) ls (lv_sub hl [0, 1, 2, 3, 4, 5, 6] rfl) h
      · have h := ip_ c8 h
        refine lv_aload_n hx hb dX6_comesOf_71 rfl (lv_at hl 0 rfl) ?_
        refine gm12 C hM dX6_comesOf_72 ?_
        refine lv_iload hx hb dX6_comesOf_75 (lv_at hl 6 rfl) ?_
        obtain ⟨i_v9, h⟩ := al_e h
        refine m_ald C hM (pos := 10) (k := 12) rfl rfl i_v9 dX6_comesOf_77 (fun v9 e_v9 => ?_)
        have h := h v9 e_v9
        refine lv_iload_n hx hb dX6_comesOf_78 rfl (lv_at hl 2 rfl) ?_
        refine lv_icmp_gt (tgt := 97) hx hb dX6_comesOf_79 (by decide) (fun c10 => ?_) (fun c10 => ?_)
        · have h := ip_ c10 h
          refine lv_iconst (v := 0) hx hb dX6_comesOf_97 (by decide) ?_
          exact mo_comesOf_w98 C hM hk30 hk41 x1 x2 x3 x4 x5 x6 (0 : Int32) ls (lv_sub hl [0, 1, 2, 3, 4, 5, 6] rfl) h
        · have h := in_ c10 h
          refine lv_iload_n hx hb dX6_comesOf_82 rfl (lv_at hl 2 rfl) ?_
          refine lv_aload_n hx hb dX6_comesOf_83 rfl (lv_at hl 0 rfl) ?_
          refine gm13 C hM dX6_comesOf_84 ?_
          refine lv_iload hx hb dX6_comesOf_87 (lv_at hl 6 rfl) ?_
          obtain ⟨i_v11, h⟩ := al_e h
          refine m_ald C hM (pos := 11) (k := 13) rfl rfl i_v11 dX6_comesOf_89 (fun v11 e_v11 => ?_)
          have h := h v11 e_v11
          refine lv_icmp_ge (tgt := 97) hx hb dX6_comesOf_90 (by decide) (fun c12 => ?_) (fun c12 => ?_)
          · have h := ip_ c12 h
            refine lv_iconst (v := 0) hx hb dX6_comesOf_97 (by decide) ?_
            exact mo_comesOf_w98 C hM hk30 hk41 x1 x2 x3 x4 x5 x6 (0 : Int32) ls (lv_sub hl [0, 1, 2, 3, 4, 5, 6] rfl) h
          · have h := in_ c12 h
            refine lv_iconst (v := 1) hx hb dX6_comesOf_93 (by decide) ?_
            refine lv_goto (tgt := 98) hx hb dX6_comesOf_94 (by decide) ?_
            exact mo_comesOf_w98 C hM hk30 hk41 x1 x2 x3 x4 x5 x6 (1 : Int32) ls (lv_sub hl [0, 1, 2, 3, 4, 5, 6] rfl) h
def mo_comesOf_l41 (I : St) (k30 : Int32 → Int32 → Int32 → Int32 → Option Int32) (n : Nat) : Int32 → Int32 → Int32 → Int32 → Int32 → Int32 → Option Int32 := lp (fun _ _ _ _ _ _ => none) (mo_comesOf_b41 I k30) n
theorem mo_comesOf_lw41 {p : Program} {l : Launch} {e : Env} {s : State} {m : MethodId} {args : Array Value} {below : List Frame} {meth : Method} {c : Code} {Z : MZ} {I : St} (C : MCx p s m args meth c cX6_comesOf 8 (some .int) Z) (hM : mPD Z I s.heap) {r : Int32} {k30 : Int32 → Int32 → Int32 → Int32 → Option Int32} (hk30 : mo_comesOf_P30 p l e s m args below meth c Z r k30) : ∀ n : Nat, mo_comesOf_P41 p l e s m args below meth c Z r (mo_comesOf_l41 I k30 n) := by
  intro n
  induction n with
  | zero => intro x1 x2 x3 x4 x5 x6 ls hl h; exact no_ h
  | succ n ih => exact mo_comesOf_w41 C hM hk30 ih
def mo_comesOf_b30 (I : St) (k30 : Int32 → Int32 → Int32 → Int32 → Option Int32) (x1 : Int32) (x2 : Int32) (x3 : Int32) (x4 : Int32) : Option Int32 :=
  if x4 ≤ 0 then (some x3)
  else (mo_comesOf_l41 I k30 FU x1 x2 x3 x4 (-1 : Int32) (0 : Int32))
theorem mo_comesOf_w30 {p : Program} {l : Launch} {e : Env} {s : State} {m : MethodId} {args : Array Value} {below : List Frame} {meth : Method} {c : Code} {Z : MZ} {I : St} (C : MCx p s m args meth c cX6_comesOf 8 (some .int) Z) (hM : mPD Z I s.heap) {r : Int32} {k30 : Int32 → Int32 → Int32 → Int32 → Option Int32} (hk30 : mo_comesOf_P30 p l e s m args below meth c Z r k30) : mo_comesOf_P30 p l e s m args below meth c Z r (mo_comesOf_b30 I k30) := by
  intro x1 x2 x3 x4 ls hl h
  obtain ⟨⟨hx, hb, hr, hlocks, hml, hown, hts⟩, hK⟩ := id C
  unfold mo_comesOf_b30 at h
  refine lv_iload hx hb dX6_comesOf_30 (lv_at hl 4 rfl) ?_
  refine lv_if_le (tgt := 165) hx hb dX6_comesOf_32 (by decide) (fun c1 => ?_) (fun c1 => ?_)
  · have h := ip_ c1 h
    refine lv_iload_n hx hb dX6_comesOf_165 rfl (lv_at hl 3 rfl) ?_
    have h := so_ h
    subst h
    exact W.iret hx hb hr (fun t ht hW => ⟨rfl, ht⟩) (fun q hq => by cases hq) dX6_comesOf_166
  · have h := in_ c1 h
    refine lv_iconst (v := -1) hx hb dX6_comesOf_35 (by decide) ?_
    refine lv_istore (lv' := [(5, .int (-1 : Int32)), (0, .ref (mH Z)), (1, .int x1), (2, .int x2), (3, .int x3), (4, .int x4)]) hx hb dX6_comesOf_36 hl (by decide) rfl (fun ls hl => ?_)
    refine lv_iconst (v := 0) hx hb dX6_comesOf_38 (by decide) ?_
    refine lv_istore (lv' := [(6, .int (0 : Int32)), (5, .int (-1 : Int32)), (0, .ref (mH Z)), (1, .int x1), (2, .int x2), (3, .int x3), (4, .int x4)]) hx hb dX6_comesOf_39 hl (by decide) rfl (fun ls hl => ?_)
    exact mo_comesOf_lw41 C hM hk30 FU x1 x2 x3 x4 (-1 : Int32) (0 : Int32) ls (lv_sub hl [2, 3, 4, 5, 6, 1, 0] rfl) h
def mo_comesOf_l30 (I : St) (n : Nat) : Int32 → Int32 → Int32 → Int32 → Option Int32 := lp (fun _ _ _ _ => none) (mo_comesOf_b30 I) n
theorem mo_comesOf_lw30 {p : Program} {l : Launch} {e : Env} {s : State} {m : MethodId} {args : Array Value} {below : List Frame} {meth : Method} {c : Code} {Z : MZ} {I : St} (C : MCx p s m args meth c cX6_comesOf 8 (some .int) Z) (hM : mPD Z I s.heap) {r : Int32} : ∀ n : Nat, mo_comesOf_P30 p l e s m args below meth c Z r (mo_comesOf_l30 I n) := by
  intro n
  induction n with
  | zero => intro x1 x2 x3 x4 ls hl h; exact no_ h
  | succ n ih => exact mo_comesOf_w30 C hM ih
def mo_comesOf_b21 (I : St) (x1 : Int32) (x2 : Int32) : Option Int32 :=
  bd_ (mo_needs I x1) fun v1 =>
  mo_comesOf_l30 I FU x1 x2 (0 : Int32) v1
theorem mo_comesOf_w21 {p : Program} {l : Launch} {e : Env} {s : State} {m : MethodId} {args : Array Value} {below : List Frame} {meth : Method} {c : Code} {Z : MZ} {I : St} (C : MCx p s m args meth c cX6_comesOf 8 (some .int) Z) (hM : mPD Z I s.heap) {r : Int32} : mo_comesOf_P21 p l e s m args below meth c Z r (mo_comesOf_b21 I) := by
  intro x1 x2 ls hl h
  obtain ⟨⟨hx, hb, hr, hlocks, hml, hown, hts⟩, hK⟩ := id C
  unfold mo_comesOf_b21 at h
  refine lv_iconst (v := 0) hx hb dX6_comesOf_21 (by decide) ?_
  refine lv_istore_n (lv' := [(3, .int (0 : Int32)), (0, .ref (mH Z)), (1, .int x1), (2, .int x2)]) hx hb dX6_comesOf_22 rfl hl (by decide) rfl (fun ls hl => ?_)
  refine lv_aload_n hx hb dX6_comesOf_23 rfl (lv_at hl 1 rfl) ?_
  refine lv_iload_n hx hb dX6_comesOf_24 rfl (lv_at hl 2 rfl) ?_
  obtain ⟨v1, q_v1, h⟩ := bd_e h
  refine m_roI (As := [.int x1]) (rest := []) C hM (mo_needs_met _ Z I x1 v1 q_v1) (lw_V q1274 q1276 qs54 q88 q1277) mo_needs_hd ⟨rfl, rfl⟩ ⟨Nat.le_of_ble_eq_true rfl, Nat.le_of_ble_eq_true rfl⟩ ⟨Nat.le_refl _, Nat.le_refl _⟩ rfl hl.1 rfl (Nat.le_of_ble_eq_true rfl) dX6_comesOf_25 ?_
  refine lv_istore (lv' := [(4, .int v1), (3, .int (0 : Int32)), (0, .ref (mH Z)), (1, .int x1), (2, .int x2)]) hx hb dX6_comesOf_28 hl (by decide) rfl (fun ls hl => ?_)
  exact mo_comesOf_lw30 C hM FU x1 x2 (0 : Int32) v1 ls (lv_sub hl [2, 3, 4, 1, 0] rfl) h
def mo_comesOf (I : St) (x1 : Int32) (x2 : Int32) : Option Int32 :=
  bd_ (mo_isTurned I x1 x2) fun v1 =>
  if v1 = 0 then (mo_comesOf_b21 I x1 x2)
  else (al_ 4 (I 17) (1 : Int32) fun v3 =>
    if v3 = 0 then (some (-3 : Int32))
    else (mo_comesOf_b21 I x1 x2))
theorem mo_comesOf_w0 {p : Program} {l : Launch} {e : Env} {s : State} {m : MethodId} {args : Array Value} {below : List Frame} {meth : Method} {c : Code} {Z : MZ} {I : St} (C : MCx p s m args meth c cX6_comesOf 8 (some .int) Z) (hM : mPD Z I s.heap) {r : Int32} : mo_comesOf_P0 p l e s m args below meth c Z r (mo_comesOf I) := by
  intro x1 x2 ls hl h
  obtain ⟨⟨hx, hb, hr, hlocks, hml, hown, hts⟩, hK⟩ := id C
  unfold mo_comesOf at h
  refine lv_aload_n hx hb dX6_comesOf_0 rfl (lv_at hl 0 rfl) ?_
  refine lv_iload_n hx hb dX6_comesOf_1 rfl (lv_at hl 1 rfl) ?_
  refine lv_iload_n hx hb dX6_comesOf_2 rfl (lv_at hl 2 rfl) ?_
  obtain ⟨v1, q_v1, h⟩ := bd_e h
  refine m_roI (As := [.int x1, .int x2]) (rest := []) C hM (mo_isTurned_met _ Z I x1 x2 v1 q_v1) (lw_V q1270 q1272 qs53 q88 q1273) mo_isTurned_hd ⟨rfl, rfl⟩ ⟨Nat.le_of_ble_eq_true rfl, Nat.le_of_ble_eq_true rfl⟩ ⟨Nat.le_refl _, Nat.le_refl _⟩ rfl hl.1 rfl (Nat.le_of_ble_eq_true rfl) dX6_comesOf_3 ?_
  refine lv_if_eq (tgt := 21) hx hb dX6_comesOf_6 (by decide) (fun c2 => ?_) (fun c2 => ?_)
  · have h := ip_ c2 h
    exact mo_comesOf_w21 C hM x1 x2 ls (lv_sub hl [0, 1, 2] rfl) h
  · have h := in_ c2 h
    refine lv_aload_n hx hb dX6_comesOf_9 rfl (lv_at hl 0 rfl) ?_
    refine gm17 C hM dX6_comesOf_10 ?_
    refine lv_iconst (v := 1) hx hb dX6_comesOf_13 (by decide) ?_
    obtain ⟨i_v3, h⟩ := al_e h
    refine m_ald C hM (pos := 15) (k := 17) rfl rfl i_v3 dX6_comesOf_14 (fun v3 e_v3 => ?_)
    have h := h v3 e_v3
    refine lv_if_ne (tgt := 21) hx hb dX6_comesOf_15 (by decide) (fun c4 => ?_) (fun c4 => ?_)
    · have h := in_ c4 h
      exact mo_comesOf_w21 C hM x1 x2 ls (lv_sub hl [0, 1, 2] rfl) h
    · have h := ip_ c4 h
      refine lv_bipush (v := -3) hx hb dX6_comesOf_18 (by decide) ?_
      have h := so_ h
      subst h
      exact W.iret hx hb hr (fun t ht hW => ⟨rfl, ht⟩) (fun q hq => by cases hq) dX6_comesOf_20
theorem mo_comesOf_hd : yX6_comesOf.cls = RX6 ∧ yX6_comesOf.cls ≠ "java/lang/invoke/MethodHandle" ∧ yX6_comesOf.cls ≠ "java/lang/invoke/VarHandle" ∧ (parseMethodDescriptor yX6_comesOf.desc).map (fun d => d.parameters.length) = some 2 := by decide +kernel
theorem mo_comesOf_met (l : Launch) (Z : MZ) (I : St) (x1 : Int32) (x2 : Int32) (r : Int32) (h : mo_comesOf I x1 x2 = some r) : Met l yX6_comesOf (ws_ yX6_comesOf cX6_comesOf 8 (some .int)) mo_comesOf_rm (va_Pc [.ref (mH Z), .int x1, .int x2] (mS Z I)) (Qro (some (.int r))) 0 0 (fun _ => False) := by
  refine Met.ofW (cc := cX6_comesOf) (maxL := 8) (ret := some .int) (by decide) rfl ?_
  intro p e s m args below meth c s₁ B hml hv
  obtain ⟨rfl, hv⟩ := hv
  have hts := atoms_spec (ws := ws_ yX6_comesOf cX6_comesOf 8 (some .int)) B.pre
  have hts : ∀ w ∈ lw_all, w.before _ s = true := fun w h => hts w (List.mem_cons_of_mem _ h)
  have C : SCx p s m _ meth c cX6_comesOf 8 (some .int) RX6 := ⟨B.exec, B.bytes, B.returns, B.notSynchronized, hml, findClass_of_methodNamed B.named, hts⟩
  have hl := lv_entry [.ref (mH Z), .int x1, .int x2] (n := 8) (Nat.le_of_ble_eq_true rfl)
  rw [lg_entry_eq]
  generalize (lg_sl [.ref (mH Z), .int x1, .int x2] ++ List.replicate (8 - (lg_sl [.ref (mH Z), .int x1, .int x2]).length) Slot.unset).toArray = ls at hl ⊢
  have C : MCx p s m _ meth c _ _ _ Z := ⟨C, hv.2⟩
  have hM := hv.1
  exact mo_comesOf_w0 C hM x1 x2 ls hl h

/-! SecondChancesModel.canOf(II)I -/
def mo_canOf_rm : Room := { frames := 3, cells := 0, slots := 0, locals := 71 }
def mo_canOf_P0 (p : Program) (l : Launch) (e : Env) (s : State) (m : MethodId) (args : Array Value) (below : List Frame) (meth : Method) (c : Code) (Z : MZ) (r : Int32) (f : Int32 → Int32 → Option Int32) : Prop := ∀ (x1 : Int32) (x2 : Int32) (ls : Array Slot), lv_has ls 3 [(0, .ref (mH Z)), (1, .int x1), (2, .int x2)] → f x1 x2 = some r → W p l e mo_canOf_rm s m args below meth c s.heap [] 0 0 (MQ below (Qro (some (.int r))) args s 0 0 (fun _ => False)) (F0 m 0 ls [])
def mo_canOf (I : St) (x1 : Int32) (x2 : Int32) : Option Int32 :=
  bd_ (mo_comesOf I x1 x2) fun v1 =>
  if v1 = (-3 : Int32) then (some (0 : Int32))
  else (some (1 : Int32))
theorem mo_canOf_w0 {p : Program} {l : Launch} {e : Env} {s : State} {m : MethodId} {args : Array Value} {below : List Frame} {meth : Method} {c : Code} {Z : MZ} {I : St} (C : MCx p s m args meth c cX6_canOf 3 (some .int) Z) (hM : mPD Z I s.heap) {r : Int32} : mo_canOf_P0 p l e s m args below meth c Z r (mo_canOf I) := by
  intro x1 x2 ls hl h
  obtain ⟨⟨hx, hb, hr, hlocks, hml, hown, hts⟩, hK⟩ := id C
  unfold mo_canOf at h
  refine lv_aload_n hx hb dX6_canOf_0 rfl (lv_at hl 0 rfl) ?_
  refine lv_iload_n hx hb dX6_canOf_1 rfl (lv_at hl 1 rfl) ?_
  refine lv_iload_n hx hb dX6_canOf_2 rfl (lv_at hl 2 rfl) ?_
  obtain ⟨v1, q_v1, h⟩ := bd_e h
  refine m_roI (As := [.int x1, .int x2]) (rest := []) C hM (mo_comesOf_met _ Z I x1 x2 v1 q_v1) (lw_V q1266 q1268 qs52 q88 q1269) mo_comesOf_hd ⟨rfl, rfl⟩ ⟨Nat.le_of_ble_eq_true rfl, Nat.le_of_ble_eq_true rfl⟩ ⟨Nat.le_refl _, Nat.le_refl _⟩ rfl hl.1 rfl (Nat.le_of_ble_eq_true rfl) dX6_canOf_3 ?_
  refine lv_bipush (v := -3) hx hb dX6_canOf_6 (by decide) ?_
  refine lv_icmp_ne (tgt := 15) hx hb dX6_canOf_8 (by decide) (fun c2 => ?_) (fun c2 => ?_)
  · have h := in_ c2 h
    refine lv_iconst (v := 1) hx hb dX6_canOf_15 (by decide) ?_
    have h := so_ h
    subst h
    exact W.iret hx hb hr (fun t ht hW => ⟨rfl, ht⟩) (fun q hq => by cases hq) dX6_canOf_16
  · have h := ip_ c2 h
    refine lv_iconst (v := 0) hx hb dX6_canOf_11 (by decide) ?_
    refine lv_goto (tgt := 16) hx hb dX6_canOf_12 (by decide) ?_
    have h := so_ h
    subst h
    exact W.iret hx hb hr (fun t ht hW => ⟨rfl, ht⟩) (fun q hq => by cases hq) dX6_canOf_16
theorem mo_canOf_hd : yX6_canOf.cls = RX6 ∧ yX6_canOf.cls ≠ "java/lang/invoke/MethodHandle" ∧ yX6_canOf.cls ≠ "java/lang/invoke/VarHandle" ∧ (parseMethodDescriptor yX6_canOf.desc).map (fun d => d.parameters.length) = some 2 := by decide +kernel
theorem mo_canOf_met (l : Launch) (Z : MZ) (I : St) (x1 : Int32) (x2 : Int32) (r : Int32) (h : mo_canOf I x1 x2 = some r) : Met l yX6_canOf (ws_ yX6_canOf cX6_canOf 3 (some .int)) mo_canOf_rm (va_Pc [.ref (mH Z), .int x1, .int x2] (mS Z I)) (Qro (some (.int r))) 0 0 (fun _ => False) := by
  refine Met.ofW (cc := cX6_canOf) (maxL := 3) (ret := some .int) (by decide) rfl ?_
  intro p e s m args below meth c s₁ B hml hv
  obtain ⟨rfl, hv⟩ := hv
  have hts := atoms_spec (ws := ws_ yX6_canOf cX6_canOf 3 (some .int)) B.pre
  have hts : ∀ w ∈ lw_all, w.before _ s = true := fun w h => hts w (List.mem_cons_of_mem _ h)
  have C : SCx p s m _ meth c cX6_canOf 3 (some .int) RX6 := ⟨B.exec, B.bytes, B.returns, B.notSynchronized, hml, findClass_of_methodNamed B.named, hts⟩
  have hl := lv_entry [.ref (mH Z), .int x1, .int x2] (n := 3) (Nat.le_of_ble_eq_true rfl)
  rw [lg_entry_eq]
  generalize (lg_sl [.ref (mH Z), .int x1, .int x2] ++ List.replicate (3 - (lg_sl [.ref (mH Z), .int x1, .int x2]).length) Slot.unset).toArray = ls at hl ⊢
  have C : MCx p s m _ meth c _ _ _ Z := ⟨C, hv.2⟩
  have hM := hv.1
  exact mo_canOf_w0 C hM x1 x2 ls hl h

/-! SecondChancesModel.can(II)I -/
def mo_can_rm : Room := { frames := 5, cells := 0, slots := 0, locals := 110 }
def mo_can_P0 (p : Program) (l : Launch) (e : Env) (s : State) (m : MethodId) (args : Array Value) (below : List Frame) (meth : Method) (c : Code) (Z : MZ) (r : (Int32 × St)) (f : Int32 → Int32 → St → Option (Int32 × St)) : Prop := ∀ (x1 : Int32) (x2 : Int32) (I : St) (H : Heap) (locs : List Loc) (ls : Array Slot), mIn Z s I H locs → lv_has ls 3 [(0, .ref (mH Z)), (1, .int x1), (2, .int x2)] → f x1 x2 I = some r → W p l e mo_can_rm s m args below meth c H locs 0 0 (MQ below (Qwr (some (.int r.1)) (mS Z r.2) (mA Z)) args s 0 0 (mA Z)) (F0 m 0 ls [])
def mo_can (x1 : Int32) (x2 : Int32) (I : St) : Option (Int32 × St) :=
  bd2_ (mo_isDeed x1 I) fun v2 I1 =>
  if v2 = 0 then (some ((-2 : Int32), I1))
  else (bd_ (mo_isHour x2) fun v4 =>
    if v4 = 0 then (some ((-2 : Int32), I1))
    else (bd_ (mo_canOf I1 x1 x2) fun v6 =>
      some (v6, I1)))
theorem mo_can_w0 {p : Program} {l : Launch} {e : Env} {s : State} {m : MethodId} {args : Array Value} {below : List Frame} {meth : Method} {c : Code} {Z : MZ} (C : MCx p s m args meth c cX6_can 3 (some .int) Z) {r : (Int32 × St)} : mo_can_P0 p l e s m args below meth c Z r (mo_can) := by
  intro x1 x2 I H locs ls hM hl h
  obtain ⟨⟨hx, hb, hr, hlocks, hml, hown, hts⟩, hK⟩ := id C
  unfold mo_can at h
  refine lv_aload_n hx hb dX6_can_0 rfl (lv_at hl 0 rfl) ?_
  refine lv_iload_n hx hb dX6_can_1 rfl (lv_at hl 1 rfl) ?_
  obtain ⟨v2, I1, q_I1, h⟩ := bd2_e h
  refine m_wrI (As := [.int x1]) (rest := []) C hM (mo_isDeed_met _ Z I x1 (v2, I1) q_I1) (lw_V q1209 q1211 qs46 q88 q1212) mo_isDeed_hd ⟨rfl, rfl⟩ ⟨Nat.le_of_ble_eq_true rfl, Nat.le_of_ble_eq_true rfl⟩ ⟨Nat.le_refl _, Nat.le_refl _⟩ rfl hl.1 rfl (Nat.le_of_ble_eq_true rfl) dX6_can_2 (fun H locs hM => ?_)
  refine lv_if_eq (tgt := 24) hx hb dX6_can_5 (by decide) (fun c3 => ?_) (fun c3 => ?_)
  · have h := ip_ c3 h
    refine lv_bipush (v := -2) hx hb dX6_can_24 (by decide) ?_
    have h := so_ h
    subst h
    exact W.iret hx hb hr (fun t ht hW => ⟨rfl, ⟨by rw [ht]; exact hM.1, va_K.moved hW.alike hK⟩, hM.2.F ht⟩) hM.2.2.2 dX6_can_26
  · have h := in_ c3 h
    refine lv_iload_n hx hb dX6_can_8 rfl (lv_at hl 2 rfl) ?_
    obtain ⟨v4, q_v4, h⟩ := bd_e h
    refine s_roI (As := [.int x2]) (rest := []) C.1 (mo_isHour_met _ x2 v4 q_v4) (lw_S q1240 q1241 q88 q1242) mo_isHour_hd ⟨rfl, rfl⟩ ⟨Nat.le_of_ble_eq_true rfl, Nat.le_of_ble_eq_true rfl⟩ ⟨Nat.le_refl _, Nat.le_refl _⟩ rfl hl.1 rfl (Nat.le_of_ble_eq_true rfl) dX6_can_9 ?_
    refine lv_if_eq (tgt := 24) hx hb dX6_can_12 (by decide) (fun c5 => ?_) (fun c5 => ?_)
    · have h := ip_ c5 h
      refine lv_bipush (v := -2) hx hb dX6_can_24 (by decide) ?_
      have h := so_ h
      subst h
      exact W.iret hx hb hr (fun t ht hW => ⟨rfl, ⟨by rw [ht]; exact hM.1, va_K.moved hW.alike hK⟩, hM.2.F ht⟩) hM.2.2.2 dX6_can_26
    · have h := in_ c5 h
      refine lv_aload_n hx hb dX6_can_15 rfl (lv_at hl 0 rfl) ?_
      refine lv_iload_n hx hb dX6_can_16 rfl (lv_at hl 1 rfl) ?_
      refine lv_iload_n hx hb dX6_can_17 rfl (lv_at hl 2 rfl) ?_
      obtain ⟨v6, q_v6, h⟩ := bd_e h
      refine m_roI (As := [.int x1, .int x2]) (rest := []) C hM.1 (mo_canOf_met _ Z I1 x1 x2 v6 q_v6) (lw_V q1262 q1264 qs51 q88 q1265) mo_canOf_hd ⟨rfl, rfl⟩ ⟨Nat.le_of_ble_eq_true rfl, Nat.le_of_ble_eq_true rfl⟩ ⟨Nat.le_refl _, Nat.le_refl _⟩ rfl hl.1 rfl (Nat.le_of_ble_eq_true rfl) dX6_can_18 ?_
      refine lv_goto (tgt := 26) hx hb dX6_can_21 (by decide) ?_
      have h := so_ h
      subst h
      exact W.iret hx hb hr (fun t ht hW => ⟨rfl, ⟨by rw [ht]; exact hM.1, va_K.moved hW.alike hK⟩, hM.2.F ht⟩) hM.2.2.2 dX6_can_26
theorem mo_can_hd : yX6_can.cls = RX6 ∧ yX6_can.cls ≠ "java/lang/invoke/MethodHandle" ∧ yX6_can.cls ≠ "java/lang/invoke/VarHandle" ∧ (parseMethodDescriptor yX6_can.desc).map (fun d => d.parameters.length) = some 2 := by decide +kernel
theorem mo_can_met (l : Launch) (Z : MZ) (I : St) (x1 : Int32) (x2 : Int32) (r : (Int32 × St)) (h : mo_can x1 x2 I = some r) : Met l yX6_can (ws_ yX6_can cX6_can 3 (some .int)) mo_can_rm (va_Pc [.ref (mH Z), .int x1, .int x2] (mS Z I)) (Qwr (some (.int r.1)) (mS Z r.2) (mA Z)) 0 0 (mA Z) := by
  refine Met.ofW (cc := cX6_can) (maxL := 3) (ret := some .int) (by decide) rfl ?_
  intro p e s m args below meth c s₁ B hml hv
  obtain ⟨rfl, hv⟩ := hv
  have hts := atoms_spec (ws := ws_ yX6_can cX6_can 3 (some .int)) B.pre
  have hts : ∀ w ∈ lw_all, w.before _ s = true := fun w h => hts w (List.mem_cons_of_mem _ h)
  have C : SCx p s m _ meth c cX6_can 3 (some .int) RX6 := ⟨B.exec, B.bytes, B.returns, B.notSynchronized, hml, findClass_of_methodNamed B.named, hts⟩
  have hl := lv_entry [.ref (mH Z), .int x1, .int x2] (n := 3) (Nat.le_of_ble_eq_true rfl)
  rw [lg_entry_eq]
  generalize (lg_sl [.ref (mH Z), .int x1, .int x2] ++ List.replicate (3 - (lg_sl [.ref (mH Z), .int x1, .int x2]).length) Slot.unset).toArray = ls at hl ⊢
  have C : MCx p s m _ meth c _ _ _ Z := ⟨C, hv.2⟩
  have hM : mIn Z s I s.heap [] := ⟨hv.1, va_S.rf⟩
  exact mo_can_w0 C x1 x2 I _ _ ls hM hl h

/-! SecondChancesModel.hoursOf(I)I -/
def mo_hoursOf_rm : Room := { frames := 4, cells := 0, slots := 0, locals := 93 }
def mo_hoursOf_P0 (p : Program) (l : Launch) (e : Env) (s : State) (m : MethodId) (args : Array Value) (below : List Frame) (meth : Method) (c : Code) (Z : MZ) (r : Int32) (f : Int32 → Option Int32) : Prop := ∀ (x1 : Int32) (ls : Array Slot), lv_has ls 4 [(0, .ref (mH Z)), (1, .int x1)] → f x1 = some r → W p l e mo_hoursOf_rm s m args below meth c s.heap [] 0 0 (MQ below (Qro (some (.int r))) args s 0 0 (fun _ => False)) (F0 m 0 ls [])
def mo_hoursOf_P4 (p : Program) (l : Launch) (e : Env) (s : State) (m : MethodId) (args : Array Value) (below : List Frame) (meth : Method) (c : Code) (Z : MZ) (r : Int32) (f : Int32 → Int32 → Int32 → Option Int32) : Prop := ∀ (x1 : Int32) (x2 : Int32) (x3 : Int32) (ls : Array Slot), lv_has ls 4 [(0, .ref (mH Z)), (1, .int x1), (2, .int x2), (3, .int x3)] → f x1 x2 x3 = some r → W p l e mo_hoursOf_rm s m args below meth c s.heap [] 0 0 (MQ below (Qro (some (.int r))) args s 0 0 (fun _ => False)) (F0 m 4 ls [])
def mo_hoursOf_b4 (I : St) (k4 : Int32 → Int32 → Int32 → Option Int32) (x1 : Int32) (x2 : Int32) (x3 : Int32) : Option Int32 :=
  if (8 : Int32) ≤ x3 then (some x2)
  else (bd_ (mo_canOf I x1 x3) fun v2 =>
    lt_ (x2 ||| (v2 <<< (x3 &&& 31))) fun v3 =>
    k4 x1 v3 (x3 + 1))
theorem mo_hoursOf_w4 {p : Program} {l : Launch} {e : Env} {s : State} {m : MethodId} {args : Array Value} {below : List Frame} {meth : Method} {c : Code} {Z : MZ} {I : St} (C : MCx p s m args meth c cX6_hoursOf 4 (some .int) Z) (hM : mPD Z I s.heap) {r : Int32} {k4 : Int32 → Int32 → Int32 → Option Int32} (hk4 : mo_hoursOf_P4 p l e s m args below meth c Z r k4) : mo_hoursOf_P4 p l e s m args below meth c Z r (mo_hoursOf_b4 I k4) := by
  intro x1 x2 x3 ls hl h
  obtain ⟨⟨hx, hb, hr, hlocks, hml, hown, hts⟩, hK⟩ := id C
  unfold mo_hoursOf_b4 at h
  refine lv_iload_n hx hb dX6_hoursOf_4 rfl (lv_at hl 3 rfl) ?_
  refine lv_bipush (v := 8) hx hb dX6_hoursOf_5 (by decide) ?_
  refine lv_icmp_ge (tgt := 27) hx hb dX6_hoursOf_7 (by decide) (fun c1 => ?_) (fun c1 => ?_)
  · have h := ip_ c1 h
    refine lv_iload_n hx hb dX6_hoursOf_27 rfl (lv_at hl 2 rfl) ?_
    have h := so_ h
    subst h
    exact W.iret hx hb hr (fun t ht hW => ⟨rfl, ht⟩) (fun q hq => by cases hq) dX6_hoursOf_28
  · have h := in_ c1 h
    refine lv_iload_n hx hb dX6_hoursOf_10 rfl (lv_at hl 2 rfl) ?_
    refine lv_aload_n hx hb dX6_hoursOf_11 rfl (lv_at hl 0 rfl) ?_
    refine lv_iload_n hx hb dX6_hoursOf_12 rfl (lv_at hl 1 rfl) ?_
    refine lv_iload_n hx hb dX6_hoursOf_13 rfl (lv_at hl 3 rfl) ?_
    obtain ⟨v2, q_v2, h⟩ := bd_e h
    refine m_roI (As := [.int x1, .int x3]) (rest := [.int x2]) C hM (mo_canOf_met _ Z I x1 x3 v2 q_v2) (lw_V q1262 q1264 qs51 q88 q1265) mo_canOf_hd ⟨rfl, rfl⟩ ⟨Nat.le_of_ble_eq_true rfl, Nat.le_of_ble_eq_true rfl⟩ ⟨Nat.le_refl _, Nat.le_refl _⟩ rfl hl.1 rfl (Nat.le_of_ble_eq_true rfl) dX6_hoursOf_14 ?_
    refine lv_iload_n hx hb dX6_hoursOf_17 rfl (lv_at hl 3 rfl) ?_
    refine lv_ishl hx hb dX6_hoursOf_18 ?_
    refine lv_ior hx hb dX6_hoursOf_19 ?_
    refine lv_topi (fun v3 e_v3 => ?_)
    have h := lt_i h e_v3
    refine lv_istore_n (lv' := [(2, .int v3), (0, .ref (mH Z)), (1, .int x1), (3, .int x3)]) hx hb dX6_hoursOf_20 rfl hl (by decide) rfl (fun ls hl => ?_)
    refine lv_iinc (v := (x3 + 1)) (lv' := [(3, .int (x3 + 1)), (2, .int v3), (0, .ref (mH Z)), (1, .int x1)]) hx hb dX6_hoursOf_21 hl (k := 3) rfl rfl (by decide) rfl (fun ls hl => ?_)
    refine lv_goto (tgt := 4) hx hb dX6_hoursOf_24 (by decide) ?_
    exact hk4 x1 v3 (x3 + 1) ls (lv_sub hl [2, 3, 1, 0] rfl) h
def mo_hoursOf_l4 (I : St) (n : Nat) : Int32 → Int32 → Int32 → Option Int32 := lp (fun _ _ _ => none) (mo_hoursOf_b4 I) n
theorem mo_hoursOf_lw4 {p : Program} {l : Launch} {e : Env} {s : State} {m : MethodId} {args : Array Value} {below : List Frame} {meth : Method} {c : Code} {Z : MZ} {I : St} (C : MCx p s m args meth c cX6_hoursOf 4 (some .int) Z) (hM : mPD Z I s.heap) {r : Int32} : ∀ n : Nat, mo_hoursOf_P4 p l e s m args below meth c Z r (mo_hoursOf_l4 I n) := by
  intro n
  induction n with
  | zero => intro x1 x2 x3 ls hl h; exact no_ h
  | succ n ih => exact mo_hoursOf_w4 C hM ih
def mo_hoursOf (I : St) (x1 : Int32) : Option Int32 :=
  mo_hoursOf_l4 I FU x1 (0 : Int32) (0 : Int32)
theorem mo_hoursOf_w0 {p : Program} {l : Launch} {e : Env} {s : State} {m : MethodId} {args : Array Value} {below : List Frame} {meth : Method} {c : Code} {Z : MZ} {I : St} (C : MCx p s m args meth c cX6_hoursOf 4 (some .int) Z) (hM : mPD Z I s.heap) {r : Int32} : mo_hoursOf_P0 p l e s m args below meth c Z r (mo_hoursOf I) := by
  intro x1 ls hl h
  obtain ⟨⟨hx, hb, hr, hlocks, hml, hown, hts⟩, hK⟩ := id C
  unfold mo_hoursOf at h
  refine lv_iconst (v := 0) hx hb dX6_hoursOf_0 (by decide) ?_
  refine lv_istore_n (lv' := [(2, .int (0 : Int32)), (0, .ref (mH Z)), (1, .int x1)]) hx hb dX6_hoursOf_1 rfl hl (by decide) rfl (fun ls hl => ?_)
  refine lv_iconst (v := 0) hx hb dX6_hoursOf_2 (by decide) ?_
  refine lv_istore_n (lv' := [(3, .int (0 : Int32)), (2, .int (0 : Int32)), (0, .ref (mH Z)), (1, .int x1)]) hx hb dX6_hoursOf_3 rfl hl (by decide) rfl (fun ls hl => ?_)
  exact mo_hoursOf_lw4 C hM FU x1 (0 : Int32) (0 : Int32) ls (lv_sub hl [2, 3, 1, 0] rfl) h
theorem mo_hoursOf_hd : yX6_hoursOf.cls = RX6 ∧ yX6_hoursOf.cls ≠ "java/lang/invoke/MethodHandle" ∧ yX6_hoursOf.cls ≠ "java/lang/invoke/VarHandle" ∧ (parseMethodDescriptor yX6_hoursOf.desc).map (fun d => d.parameters.length) = some 1 := by decide +kernel
theorem mo_hoursOf_met (l : Launch) (Z : MZ) (I : St) (x1 : Int32) (r : Int32) (h : mo_hoursOf I x1 = some r) : Met l yX6_hoursOf (ws_ yX6_hoursOf cX6_hoursOf 4 (some .int)) mo_hoursOf_rm (va_Pc [.ref (mH Z), .int x1] (mS Z I)) (Qro (some (.int r))) 0 0 (fun _ => False) := by
  refine Met.ofW (cc := cX6_hoursOf) (maxL := 4) (ret := some .int) (by decide) rfl ?_
  intro p e s m args below meth c s₁ B hml hv
  obtain ⟨rfl, hv⟩ := hv
  have hts := atoms_spec (ws := ws_ yX6_hoursOf cX6_hoursOf 4 (some .int)) B.pre
  have hts : ∀ w ∈ lw_all, w.before _ s = true := fun w h => hts w (List.mem_cons_of_mem _ h)
  have C : SCx p s m _ meth c cX6_hoursOf 4 (some .int) RX6 := ⟨B.exec, B.bytes, B.returns, B.notSynchronized, hml, findClass_of_methodNamed B.named, hts⟩
  have hl := lv_entry [.ref (mH Z), .int x1] (n := 4) (Nat.le_of_ble_eq_true rfl)
  rw [lg_entry_eq]
  generalize (lg_sl [.ref (mH Z), .int x1] ++ List.replicate (4 - (lg_sl [.ref (mH Z), .int x1]).length) Slot.unset).toArray = ls at hl ⊢
  have C : MCx p s m _ meth c _ _ _ Z := ⟨C, hv.2⟩
  have hM := hv.1
  exact mo_hoursOf_w0 C hM x1 ls hl h

/-! SecondChancesModel.hours(I)I -/
def mo_hours_rm : Room := { frames := 5, cells := 0, slots := 0, locals := 116 }
def mo_hours_P0 (p : Program) (l : Launch) (e : Env) (s : State) (m : MethodId) (args : Array Value) (below : List Frame) (meth : Method) (c : Code) (Z : MZ) (r : (Int32 × St)) (f : Int32 → St → Option (Int32 × St)) : Prop := ∀ (x1 : Int32) (I : St) (H : Heap) (locs : List Loc) (ls : Array Slot), mIn Z s I H locs → lv_has ls 2 [(0, .ref (mH Z)), (1, .int x1)] → f x1 I = some r → W p l e mo_hours_rm s m args below meth c H locs 0 0 (MQ below (Qwr (some (.int r.1)) (mS Z r.2) (mA Z)) args s 0 0 (mA Z)) (F0 m 0 ls [])
def mo_hours (x1 : Int32) (I : St) : Option (Int32 × St) :=
  bd2_ (mo_isDeed x1 I) fun v2 I1 =>
  if v2 = 0 then (some ((-2 : Int32), I1))
  else (bd_ (mo_hoursOf I1 x1) fun v4 =>
    some (v4, I1))
theorem mo_hours_w0 {p : Program} {l : Launch} {e : Env} {s : State} {m : MethodId} {args : Array Value} {below : List Frame} {meth : Method} {c : Code} {Z : MZ} (C : MCx p s m args meth c cX6_hours 2 (some .int) Z) {r : (Int32 × St)} : mo_hours_P0 p l e s m args below meth c Z r (mo_hours) := by
  intro x1 I H locs ls hM hl h
  obtain ⟨⟨hx, hb, hr, hlocks, hml, hown, hts⟩, hK⟩ := id C
  unfold mo_hours at h
  refine lv_aload_n hx hb dX6_hours_0 rfl (lv_at hl 0 rfl) ?_
  refine lv_iload_n hx hb dX6_hours_1 rfl (lv_at hl 1 rfl) ?_
  obtain ⟨v2, I1, q_I1, h⟩ := bd2_e h
  refine m_wrI (As := [.int x1]) (rest := []) C hM (mo_isDeed_met _ Z I x1 (v2, I1) q_I1) (lw_V q1209 q1211 qs46 q88 q1212) mo_isDeed_hd ⟨rfl, rfl⟩ ⟨Nat.le_of_ble_eq_true rfl, Nat.le_of_ble_eq_true rfl⟩ ⟨Nat.le_refl _, Nat.le_refl _⟩ rfl hl.1 rfl (Nat.le_of_ble_eq_true rfl) dX6_hours_2 (fun H locs hM => ?_)
  refine lv_if_eq (tgt := 16) hx hb dX6_hours_5 (by decide) (fun c3 => ?_) (fun c3 => ?_)
  · have h := ip_ c3 h
    refine lv_bipush (v := -2) hx hb dX6_hours_16 (by decide) ?_
    have h := so_ h
    subst h
    exact W.iret hx hb hr (fun t ht hW => ⟨rfl, ⟨by rw [ht]; exact hM.1, va_K.moved hW.alike hK⟩, hM.2.F ht⟩) hM.2.2.2 dX6_hours_18
  · have h := in_ c3 h
    refine lv_aload_n hx hb dX6_hours_8 rfl (lv_at hl 0 rfl) ?_
    refine lv_iload_n hx hb dX6_hours_9 rfl (lv_at hl 1 rfl) ?_
    obtain ⟨v4, q_v4, h⟩ := bd_e h
    refine m_roI (As := [.int x1]) (rest := []) C hM.1 (mo_hoursOf_met _ Z I1 x1 v4 q_v4) (lw_V q1285 q1287 qs55 q88 q1288) mo_hoursOf_hd ⟨rfl, rfl⟩ ⟨Nat.le_of_ble_eq_true rfl, Nat.le_of_ble_eq_true rfl⟩ ⟨Nat.le_refl _, Nat.le_refl _⟩ rfl hl.1 rfl (Nat.le_of_ble_eq_true rfl) dX6_hours_10 ?_
    refine lv_goto (tgt := 18) hx hb dX6_hours_13 (by decide) ?_
    have h := so_ h
    subst h
    exact W.iret hx hb hr (fun t ht hW => ⟨rfl, ⟨by rw [ht]; exact hM.1, va_K.moved hW.alike hK⟩, hM.2.F ht⟩) hM.2.2.2 dX6_hours_18
theorem mo_hours_hd : yX6_hours.cls = RX6 ∧ yX6_hours.cls ≠ "java/lang/invoke/MethodHandle" ∧ yX6_hours.cls ≠ "java/lang/invoke/VarHandle" ∧ (parseMethodDescriptor yX6_hours.desc).map (fun d => d.parameters.length) = some 1 := by decide +kernel
theorem mo_hours_met (l : Launch) (Z : MZ) (I : St) (x1 : Int32) (r : (Int32 × St)) (h : mo_hours x1 I = some r) : Met l yX6_hours (ws_ yX6_hours cX6_hours 2 (some .int)) mo_hours_rm (va_Pc [.ref (mH Z), .int x1] (mS Z I)) (Qwr (some (.int r.1)) (mS Z r.2) (mA Z)) 0 0 (mA Z) := by
  refine Met.ofW (cc := cX6_hours) (maxL := 2) (ret := some .int) (by decide) rfl ?_
  intro p e s m args below meth c s₁ B hml hv
  obtain ⟨rfl, hv⟩ := hv
  have hts := atoms_spec (ws := ws_ yX6_hours cX6_hours 2 (some .int)) B.pre
  have hts : ∀ w ∈ lw_all, w.before _ s = true := fun w h => hts w (List.mem_cons_of_mem _ h)
  have C : SCx p s m _ meth c cX6_hours 2 (some .int) RX6 := ⟨B.exec, B.bytes, B.returns, B.notSynchronized, hml, findClass_of_methodNamed B.named, hts⟩
  have hl := lv_entry [.ref (mH Z), .int x1] (n := 2) (Nat.le_of_ble_eq_true rfl)
  rw [lg_entry_eq]
  generalize (lg_sl [.ref (mH Z), .int x1] ++ List.replicate (2 - (lg_sl [.ref (mH Z), .int x1]).length) Slot.unset).toArray = ls at hl ⊢
  have C : MCx p s m _ meth c _ _ _ Z := ⟨C, hv.2⟩
  have hM : mIn Z s I s.heap [] := ⟨hv.1, va_S.rf⟩
  exact mo_hours_w0 C x1 I _ _ ls hM hl h

/-! SecondChancesModel.comes(II)I -/
def mo_comes_rm : Room := { frames := 5, cells := 0, slots := 0, locals := 110 }
def mo_comes_P0 (p : Program) (l : Launch) (e : Env) (s : State) (m : MethodId) (args : Array Value) (below : List Frame) (meth : Method) (c : Code) (Z : MZ) (r : (Int32 × St)) (f : Int32 → Int32 → St → Option (Int32 × St)) : Prop := ∀ (x1 : Int32) (x2 : Int32) (I : St) (H : Heap) (locs : List Loc) (ls : Array Slot), mIn Z s I H locs → lv_has ls 3 [(0, .ref (mH Z)), (1, .int x1), (2, .int x2)] → f x1 x2 I = some r → W p l e mo_comes_rm s m args below meth c H locs 0 0 (MQ below (Qwr (some (.int r.1)) (mS Z r.2) (mA Z)) args s 0 0 (mA Z)) (F0 m 0 ls [])
def mo_comes (x1 : Int32) (x2 : Int32) (I : St) : Option (Int32 × St) :=
  bd2_ (mo_isDeed x1 I) fun v2 I1 =>
  if v2 = 0 then (some ((-2 : Int32), I1))
  else (bd_ (mo_isHour x2) fun v4 =>
    if v4 = 0 then (some ((-2 : Int32), I1))
    else (bd_ (mo_comesOf I1 x1 x2) fun v6 =>
      some (v6, I1)))
theorem mo_comes_w0 {p : Program} {l : Launch} {e : Env} {s : State} {m : MethodId} {args : Array Value} {below : List Frame} {meth : Method} {c : Code} {Z : MZ} (C : MCx p s m args meth c cX6_comes 3 (some .int) Z) {r : (Int32 × St)} : mo_comes_P0 p l e s m args below meth c Z r (mo_comes) := by
  intro x1 x2 I H locs ls hM hl h
  obtain ⟨⟨hx, hb, hr, hlocks, hml, hown, hts⟩, hK⟩ := id C
  unfold mo_comes at h
  refine lv_aload_n hx hb dX6_comes_0 rfl (lv_at hl 0 rfl) ?_
  refine lv_iload_n hx hb dX6_comes_1 rfl (lv_at hl 1 rfl) ?_
  obtain ⟨v2, I1, q_I1, h⟩ := bd2_e h
  refine m_wrI (As := [.int x1]) (rest := []) C hM (mo_isDeed_met _ Z I x1 (v2, I1) q_I1) (lw_V q1209 q1211 qs46 q88 q1212) mo_isDeed_hd ⟨rfl, rfl⟩ ⟨Nat.le_of_ble_eq_true rfl, Nat.le_of_ble_eq_true rfl⟩ ⟨Nat.le_refl _, Nat.le_refl _⟩ rfl hl.1 rfl (Nat.le_of_ble_eq_true rfl) dX6_comes_2 (fun H locs hM => ?_)
  refine lv_if_eq (tgt := 24) hx hb dX6_comes_5 (by decide) (fun c3 => ?_) (fun c3 => ?_)
  · have h := ip_ c3 h
    refine lv_bipush (v := -2) hx hb dX6_comes_24 (by decide) ?_
    have h := so_ h
    subst h
    exact W.iret hx hb hr (fun t ht hW => ⟨rfl, ⟨by rw [ht]; exact hM.1, va_K.moved hW.alike hK⟩, hM.2.F ht⟩) hM.2.2.2 dX6_comes_26
  · have h := in_ c3 h
    refine lv_iload_n hx hb dX6_comes_8 rfl (lv_at hl 2 rfl) ?_
    obtain ⟨v4, q_v4, h⟩ := bd_e h
    refine s_roI (As := [.int x2]) (rest := []) C.1 (mo_isHour_met _ x2 v4 q_v4) (lw_S q1240 q1241 q88 q1242) mo_isHour_hd ⟨rfl, rfl⟩ ⟨Nat.le_of_ble_eq_true rfl, Nat.le_of_ble_eq_true rfl⟩ ⟨Nat.le_refl _, Nat.le_refl _⟩ rfl hl.1 rfl (Nat.le_of_ble_eq_true rfl) dX6_comes_9 ?_
    refine lv_if_eq (tgt := 24) hx hb dX6_comes_12 (by decide) (fun c5 => ?_) (fun c5 => ?_)
    · have h := ip_ c5 h
      refine lv_bipush (v := -2) hx hb dX6_comes_24 (by decide) ?_
      have h := so_ h
      subst h
      exact W.iret hx hb hr (fun t ht hW => ⟨rfl, ⟨by rw [ht]; exact hM.1, va_K.moved hW.alike hK⟩, hM.2.F ht⟩) hM.2.2.2 dX6_comes_26
    · have h := in_ c5 h
      refine lv_aload_n hx hb dX6_comes_15 rfl (lv_at hl 0 rfl) ?_
      refine lv_iload_n hx hb dX6_comes_16 rfl (lv_at hl 1 rfl) ?_
      refine lv_iload_n hx hb dX6_comes_17 rfl (lv_at hl 2 rfl) ?_
      obtain ⟨v6, q_v6, h⟩ := bd_e h
      refine m_roI (As := [.int x1, .int x2]) (rest := []) C hM.1 (mo_comesOf_met _ Z I1 x1 x2 v6 q_v6) (lw_V q1266 q1268 qs52 q88 q1269) mo_comesOf_hd ⟨rfl, rfl⟩ ⟨Nat.le_of_ble_eq_true rfl, Nat.le_of_ble_eq_true rfl⟩ ⟨Nat.le_refl _, Nat.le_refl _⟩ rfl hl.1 rfl (Nat.le_of_ble_eq_true rfl) dX6_comes_18 ?_
      refine lv_goto (tgt := 26) hx hb dX6_comes_21 (by decide) ?_
      have h := so_ h
      subst h
      exact W.iret hx hb hr (fun t ht hW => ⟨rfl, ⟨by rw [ht]; exact hM.1, va_K.moved hW.alike hK⟩, hM.2.F ht⟩) hM.2.2.2 dX6_comes_26
theorem mo_comes_hd : yX6_comes.cls = RX6 ∧ yX6_comes.cls ≠ "java/lang/invoke/MethodHandle" ∧ yX6_comes.cls ≠ "java/lang/invoke/VarHandle" ∧ (parseMethodDescriptor yX6_comes.desc).map (fun d => d.parameters.length) = some 2 := by decide +kernel
theorem mo_comes_met (l : Launch) (Z : MZ) (I : St) (x1 : Int32) (x2 : Int32) (r : (Int32 × St)) (h : mo_comes x1 x2 I = some r) : Met l yX6_comes (ws_ yX6_comes cX6_comes 3 (some .int)) mo_comes_rm (va_Pc [.ref (mH Z), .int x1, .int x2] (mS Z I)) (Qwr (some (.int r.1)) (mS Z r.2) (mA Z)) 0 0 (mA Z) := by
  refine Met.ofW (cc := cX6_comes) (maxL := 3) (ret := some .int) (by decide) rfl ?_
  intro p e s m args below meth c s₁ B hml hv
  obtain ⟨rfl, hv⟩ := hv
  have hts := atoms_spec (ws := ws_ yX6_comes cX6_comes 3 (some .int)) B.pre
  have hts : ∀ w ∈ lw_all, w.before _ s = true := fun w h => hts w (List.mem_cons_of_mem _ h)
  have C : SCx p s m _ meth c cX6_comes 3 (some .int) RX6 := ⟨B.exec, B.bytes, B.returns, B.notSynchronized, hml, findClass_of_methodNamed B.named, hts⟩
  have hl := lv_entry [.ref (mH Z), .int x1, .int x2] (n := 3) (Nat.le_of_ble_eq_true rfl)
  rw [lg_entry_eq]
  generalize (lg_sl [.ref (mH Z), .int x1, .int x2] ++ List.replicate (3 - (lg_sl [.ref (mH Z), .int x1, .int x2]).length) Slot.unset).toArray = ls at hl ⊢
  have C : MCx p s m _ meth c _ _ _ Z := ⟨C, hv.2⟩
  have hM : mIn Z s I s.heap [] := ⟨hv.1, va_S.rf⟩
  exact mo_comes_w0 C x1 x2 I _ _ ls hM hl h

/-! SecondChancesModel.pricesOf(I)I -/
def mo_pricesOf_rm : Room := { frames := 1, cells := 0, slots := 0, locals := 21 }
def mo_pricesOf_P0 (p : Program) (l : Launch) (e : Env) (s : State) (m : MethodId) (args : Array Value) (below : List Frame) (meth : Method) (c : Code) (Z : MZ) (r : Int32) (f : Int32 → Option Int32) : Prop := ∀ (x1 : Int32) (ls : Array Slot), lv_has ls 4 [(0, .ref (mH Z)), (1, .int x1)] → f x1 = some r → W p l e mo_pricesOf_rm s m args below meth c s.heap [] 0 0 (MQ below (Qro (some (.int r))) args s 0 0 (fun _ => False)) (F0 m 0 ls [])
def mo_pricesOf_P4 (p : Program) (l : Launch) (e : Env) (s : State) (m : MethodId) (args : Array Value) (below : List Frame) (meth : Method) (c : Code) (Z : MZ) (r : Int32) (f : Int32 → Int32 → Int32 → Option Int32) : Prop := ∀ (x1 : Int32) (x2 : Int32) (x3 : Int32) (ls : Array Slot), lv_has ls 4 [(0, .ref (mH Z)), (1, .int x1), (2, .int x2), (3, .int x3)] → f x1 x2 x3 = some r → W p l e mo_pricesOf_rm s m args below meth c s.heap [] 0 0 (MQ below (Qro (some (.int r))) args s 0 0 (fun _ => False)) (F0 m 4 ls [])
def mo_pricesOf_P29 (p : Program) (l : Launch) (e : Env) (s : State) (m : MethodId) (args : Array Value) (below : List Frame) (meth : Method) (c : Code) (Z : MZ) (r : Int32) (f : Int32 → Int32 → Int32 → Int32 → Option Int32) : Prop := ∀ (x1 : Int32) (x3 : Int32) (t0 : Int32) (t1 : Int32) (ls : Array Slot), lv_has ls 4 [(0, .ref (mH Z)), (1, .int x1), (3, .int x3)] → f x1 x3 t0 t1 = some r → W p l e mo_pricesOf_rm s m args below meth c s.heap [] 0 0 (MQ below (Qro (some (.int r))) args s 0 0 (fun _ => False)) (F0 m 29 ls [.int t0, .int t1])
def mo_pricesOf_b29 (I : St) (k4 : Int32 → Int32 → Int32 → Option Int32) (x1 : Int32) (x3 : Int32) (t0 : Int32) (t1 : Int32) : Option Int32 :=
  lt_ (t1 + t0) fun v1 =>
  k4 x1 v1 (x3 + 1)
theorem mo_pricesOf_w29 {p : Program} {l : Launch} {e : Env} {s : State} {m : MethodId} {args : Array Value} {below : List Frame} {meth : Method} {c : Code} {Z : MZ} {I : St} (C : MCx p s m args meth c cX6_pricesOf 4 (some .int) Z) (hM : mPD Z I s.heap) {r : Int32} {k4 : Int32 → Int32 → Int32 → Option Int32} (hk4 : mo_pricesOf_P4 p l e s m args below meth c Z r k4) : mo_pricesOf_P29 p l e s m args below meth c Z r (mo_pricesOf_b29 I k4) := by
  intro x1 x3 t0 t1 ls hl h
  obtain ⟨⟨hx, hb, hr, hlocks, hml, hown, hts⟩, hK⟩ := id C
  unfold mo_pricesOf_b29 at h
  refine lv_iadd hx hb dX6_pricesOf_29 ?_
  refine lv_topi (fun v1 e_v1 => ?_)
  have h := lt_i h e_v1
  refine lv_istore_n (lv' := [(2, .int v1), (0, .ref (mH Z)), (1, .int x1), (3, .int x3)]) hx hb dX6_pricesOf_30 rfl hl (by decide) rfl (fun ls hl => ?_)
  refine lv_iinc (v := (x3 + 1)) (lv' := [(3, .int (x3 + 1)), (2, .int v1), (0, .ref (mH Z)), (1, .int x1)]) hx hb dX6_pricesOf_31 hl (k := 3) rfl rfl (by decide) rfl (fun ls hl => ?_)
  refine lv_goto (tgt := 4) hx hb dX6_pricesOf_34 (by decide) ?_
  exact hk4 x1 v1 (x3 + 1) ls (lv_sub hl [2, 3, 1, 0] rfl) h
def mo_pricesOf_b4 (I : St) (k4 : Int32 → Int32 → Int32 → Option Int32) (x1 : Int32) (x2 : Int32) (x3 : Int32) : Option Int32 :=
  if (8 : Int32) ≤ x3 then (some x2)
  else (bd_ (mo_isIn x1 x3) fun v2 =>
    if v2 = 0 then (mo_pricesOf_b29 I k4 x1 x3 (0 : Int32) x2)
    else (al_ 8 (I 14) x3 fun v4 =>
      mo_pricesOf_b29 I k4 x1 x3 v4 x2))
theorem mo_pricesOf_w4 {p : Program} {l : Launch} {e : Env} {s : State} {m : MethodId} {args : Array Value} {below : List Frame} {meth : Method} {c : Code} {Z : MZ} {I : St} (C : MCx p s m args meth c cX6_pricesOf 4 (some .int) Z) (hM : mPD Z I s.heap) {r : Int32} {k4 : Int32 → Int32 → Int32 → Option Int32} (hk4 : mo_pricesOf_P4 p l e s m args below meth c Z r k4) : mo_pricesOf_P4 p l e s m args below meth c Z r (mo_pricesOf_b4 I k4) := by
  intro x1 x2 x3 ls hl h
  obtain ⟨⟨hx, hb, hr, hlocks, hml, hown, hts⟩, hK⟩ := id C
  unfold mo_pricesOf_b4 at h
  refine lv_iload_n hx hb dX6_pricesOf_4 rfl (lv_at hl 3 rfl) ?_
  refine lv_bipush (v := 8) hx hb dX6_pricesOf_5 (by decide) ?_
  refine lv_icmp_ge (tgt := 37) hx hb dX6_pricesOf_7 (by decide) (fun c1 => ?_) (fun c1 => ?_)
  · have h := ip_ c1 h
    refine lv_iload_n hx hb dX6_pricesOf_37 rfl (lv_at hl 2 rfl) ?_
    have h := so_ h
    subst h
    exact W.iret hx hb hr (fun t ht hW => ⟨rfl, ht⟩) (fun q hq => by cases hq) dX6_pricesOf_38
  · have h := in_ c1 h
    refine lv_iload_n hx hb dX6_pricesOf_10 rfl (lv_at hl 2 rfl) ?_
    refine lv_iload_n hx hb dX6_pricesOf_11 rfl (lv_at hl 1 rfl) ?_
    refine lv_iload_n hx hb dX6_pricesOf_12 rfl (lv_at hl 3 rfl) ?_
    obtain ⟨v2, q_v2, h⟩ := bd_e h
    refine s_roI (As := [.int x1, .int x3]) (rest := [.int x2]) C.1 (mo_isIn_met _ x1 x3 v2 q_v2) (lw_S q1194 q1195 q88 q1196) mo_isIn_hd ⟨rfl, rfl⟩ ⟨Nat.le_of_ble_eq_true rfl, Nat.le_of_ble_eq_true rfl⟩ ⟨Nat.le_refl _, Nat.le_refl _⟩ rfl hl.1 rfl (Nat.le_of_ble_eq_true rfl) dX6_pricesOf_13 ?_
    refine lv_if_eq (tgt := 28) hx hb dX6_pricesOf_16 (by decide) (fun c3 => ?_) (fun c3 => ?_)
    · have h := ip_ c3 h
      refine lv_iconst (v := 0) hx hb dX6_pricesOf_28 (by decide) ?_
      exact mo_pricesOf_w29 C hM hk4 x1 x3 (0 : Int32) x2 ls (lv_sub hl [0, 1, 3] rfl) h
    · have h := in_ c3 h
      refine lv_aload_n hx hb dX6_pricesOf_19 rfl (lv_at hl 0 rfl) ?_
      refine gm14 C hM dX6_pricesOf_20 ?_
      refine lv_iload_n hx hb dX6_pricesOf_23 rfl (lv_at hl 3 rfl) ?_
      obtain ⟨i_v4, h⟩ := al_e h
      refine m_ald C hM (pos := 12) (k := 14) rfl rfl i_v4 dX6_pricesOf_24 (fun v4 e_v4 => ?_)
      have h := h v4 e_v4
      refine lv_goto (tgt := 29) hx hb dX6_pricesOf_25 (by decide) ?_
      exact mo_pricesOf_w29 C hM hk4 x1 x3 v4 x2 ls (lv_sub hl [0, 1, 3] rfl) h
def mo_pricesOf_l4 (I : St) (n : Nat) : Int32 → Int32 → Int32 → Option Int32 := lp (fun _ _ _ => none) (mo_pricesOf_b4 I) n
theorem mo_pricesOf_lw4 {p : Program} {l : Launch} {e : Env} {s : State} {m : MethodId} {args : Array Value} {below : List Frame} {meth : Method} {c : Code} {Z : MZ} {I : St} (C : MCx p s m args meth c cX6_pricesOf 4 (some .int) Z) (hM : mPD Z I s.heap) {r : Int32} : ∀ n : Nat, mo_pricesOf_P4 p l e s m args below meth c Z r (mo_pricesOf_l4 I n) := by
  intro n
  induction n with
  | zero => intro x1 x2 x3 ls hl h; exact no_ h
  | succ n ih => exact mo_pricesOf_w4 C hM ih
def mo_pricesOf (I : St) (x1 : Int32) : Option Int32 :=
  mo_pricesOf_l4 I FU x1 (0 : Int32) (0 : Int32)
theorem mo_pricesOf_w0 {p : Program} {l : Launch} {e : Env} {s : State} {m : MethodId} {args : Array Value} {below : List Frame} {meth : Method} {c : Code} {Z : MZ} {I : St} (C : MCx p s m args meth c cX6_pricesOf 4 (some .int) Z) (hM : mPD Z I s.heap) {r : Int32} : mo_pricesOf_P0 p l e s m args below meth c Z r (mo_pricesOf I) := by
  intro x1 ls hl h
  obtain ⟨⟨hx, hb, hr, hlocks, hml, hown, hts⟩, hK⟩ := id C
  unfold mo_pricesOf at h
  refine lv_iconst (v := 0) hx hb dX6_pricesOf_0 (by decide) ?_
  refine lv_istore_n (lv' := [(2, .int (0 : Int32)), (0, .ref (mH Z)), (1, .int x1)]) hx hb dX6_pricesOf_1 rfl hl (by decide) rfl (fun ls hl => ?_)
  refine lv_iconst (v := 0) hx hb dX6_pricesOf_2 (by decide) ?_
  refine lv_istore_n (lv' := [(3, .int (0 : Int32)), (2, .int (0 : Int32)), (0, .ref (mH Z)), (1, .int x1)]) hx hb dX6_pricesOf_3 rfl hl (by decide) rfl (fun ls hl => ?_)
  exact mo_pricesOf_lw4 C hM FU x1 (0 : Int32) (0 : Int32) ls (lv_sub hl [2, 3, 1, 0] rfl) h
theorem mo_pricesOf_hd : yX6_pricesOf.cls = RX6 ∧ yX6_pricesOf.cls ≠ "java/lang/invoke/MethodHandle" ∧ yX6_pricesOf.cls ≠ "java/lang/invoke/VarHandle" ∧ (parseMethodDescriptor yX6_pricesOf.desc).map (fun d => d.parameters.length) = some 1 := by decide +kernel
theorem mo_pricesOf_met (l : Launch) (Z : MZ) (I : St) (x1 : Int32) (r : Int32) (h : mo_pricesOf I x1 = some r) : Met l yX6_pricesOf (ws_ yX6_pricesOf cX6_pricesOf 4 (some .int)) mo_pricesOf_rm (va_Pc [.ref (mH Z), .int x1] (mS Z I)) (Qro (some (.int r))) 0 0 (fun _ => False) := by
  refine Met.ofW (cc := cX6_pricesOf) (maxL := 4) (ret := some .int) (by decide) rfl ?_
  intro p e s m args below meth c s₁ B hml hv
  obtain ⟨rfl, hv⟩ := hv
  have hts := atoms_spec (ws := ws_ yX6_pricesOf cX6_pricesOf 4 (some .int)) B.pre
  have hts : ∀ w ∈ lw_all, w.before _ s = true := fun w h => hts w (List.mem_cons_of_mem _ h)
  have C : SCx p s m _ meth c cX6_pricesOf 4 (some .int) RX6 := ⟨B.exec, B.bytes, B.returns, B.notSynchronized, hml, findClass_of_methodNamed B.named, hts⟩
  have hl := lv_entry [.ref (mH Z), .int x1] (n := 4) (Nat.le_of_ble_eq_true rfl)
  rw [lg_entry_eq]
  generalize (lg_sl [.ref (mH Z), .int x1] ++ List.replicate (4 - (lg_sl [.ref (mH Z), .int x1]).length) Slot.unset).toArray = ls at hl ⊢
  have C : MCx p s m _ meth c _ _ _ Z := ⟨C, hv.2⟩
  have hM := hv.1
  exact mo_pricesOf_w0 C hM x1 ls hl h

/-! SecondChancesModel.costsOf(II)I -/
def mo_costsOf_rm : Room := { frames := 3, cells := 0, slots := 0, locals := 71 }
def mo_costsOf_P0 (p : Program) (l : Launch) (e : Env) (s : State) (m : MethodId) (args : Array Value) (below : List Frame) (meth : Method) (c : Code) (Z : MZ) (r : Int32) (f : Int32 → Int32 → Option Int32) : Prop := ∀ (x1 : Int32) (x2 : Int32) (ls : Array Slot), lv_has ls 4 [(0, .ref (mH Z)), (1, .int x1), (2, .int x2)] → f x1 x2 = some r → W p l e mo_costsOf_rm s m args below meth c s.heap [] 0 0 (MQ below (Qro (some (.int r))) args s 0 0 (fun _ => False)) (F0 m 0 ls [])
def mo_costsOf_P42 (p : Program) (l : Launch) (e : Env) (s : State) (m : MethodId) (args : Array Value) (below : List Frame) (meth : Method) (c : Code) (Z : MZ) (r : Int32) (f : Int32 → Int32 → Option Int32) : Prop := ∀ (t0 : Int32) (t1 : Int32) (ls : Array Slot), lv_has ls 4 [] → f t0 t1 = some r → W p l e mo_costsOf_rm s m args below meth c s.heap [] 0 0 (MQ below (Qro (some (.int r))) args s 0 0 (fun _ => False)) (F0 m 42 ls [.int t0, .int t1])
def mo_costsOf_b42 (I : St) (t0 : Int32) (t1 : Int32) : Option Int32 :=
  some (t1 + t0)
theorem mo_costsOf_w42 {p : Program} {l : Launch} {e : Env} {s : State} {m : MethodId} {args : Array Value} {below : List Frame} {meth : Method} {c : Code} {Z : MZ} {I : St} (C : MCx p s m args meth c cX6_costsOf 4 (some .int) Z) (hM : mPD Z I s.heap) {r : Int32} : mo_costsOf_P42 p l e s m args below meth c Z r (mo_costsOf_b42 I) := by
  intro t0 t1 ls hl h
  obtain ⟨⟨hx, hb, hr, hlocks, hml, hown, hts⟩, hK⟩ := id C
  unfold mo_costsOf_b42 at h
  refine lv_iadd hx hb dX6_costsOf_42 ?_
  have h := so_ h
  subst h
  exact W.iret hx hb hr (fun t ht hW => ⟨rfl, ht⟩) (fun q hq => by cases hq) dX6_costsOf_43
def mo_costsOf (I : St) (x1 : Int32) (x2 : Int32) : Option Int32 :=
  bd_ (mo_comesOf I x1 x2) fun v1 =>
  if v1 = (-3 : Int32) then (some (-3 : Int32))
  else (bd_ (mo_pricesOf I v1) fun v3 =>
    bd_ (mo_isTurned I x1 x2) fun v4 =>
    if v4 = 0 then (mo_costsOf_b42 I (0 : Int32) v3)
    else (al_ 4 (I 17) (0 : Int32) fun v6 =>
      mo_costsOf_b42 I v6 v3))
theorem mo_costsOf_w0 {p : Program} {l : Launch} {e : Env} {s : State} {m : MethodId} {args : Array Value} {below : List Frame} {meth : Method} {c : Code} {Z : MZ} {I : St} (C : MCx p s m args meth c cX6_costsOf 4 (some .int) Z) (hM : mPD Z I s.heap) {r : Int32} : mo_costsOf_P0 p l e s m args below meth c Z r (mo_costsOf I) := by
  intro x1 x2 ls hl h
  obtain ⟨⟨hx, hb, hr, hlocks, hml, hown, hts⟩, hK⟩ := id C
  unfold mo_costsOf at h
  refine lv_aload_n hx hb dX6_costsOf_0 rfl (lv_at hl 0 rfl) ?_
  refine lv_iload_n hx hb dX6_costsOf_1 rfl (lv_at hl 1 rfl) ?_
  refine lv_iload_n hx hb dX6_costsOf_2 rfl (lv_at hl 2 rfl) ?_
  obtain ⟨v1, q_v1, h⟩ := bd_e h
  refine m_roI (As := [.int x1, .int x2]) (rest := []) C hM (mo_comesOf_met _ Z I x1 x2 v1 q_v1) (lw_V q1266 q1268 qs52 q88 q1269) mo_comesOf_hd ⟨rfl, rfl⟩ ⟨Nat.le_of_ble_eq_true rfl, Nat.le_of_ble_eq_true rfl⟩ ⟨Nat.le_refl _, Nat.le_refl _⟩ rfl hl.1 rfl (Nat.le_of_ble_eq_true rfl) dX6_costsOf_3 ?_
  refine lv_istore_n (lv' := [(3, .int v1), (0, .ref (mH Z)), (1, .int x1), (2, .int x2)]) hx hb dX6_costsOf_6 rfl hl (by decide) rfl (fun ls hl => ?_)
  refine lv_iload_n hx hb dX6_costsOf_7 rfl (lv_at hl 0 rfl) ?_
  refine lv_bipush (v := -3) hx hb dX6_costsOf_8 (by decide) ?_
  refine lv_icmp_ne (tgt := 18) hx hb dX6_costsOf_10 (by decide) (fun c2 => ?_) (fun c2 => ?_)
  · have h := in_ c2 h
    refine lv_aload_n hx hb dX6_costsOf_18 rfl (lv_at hl 1 rfl) ?_
    refine lv_iload_n hx hb dX6_costsOf_19 rfl (lv_at hl 0 rfl) ?_
    obtain ⟨v3, q_v3, h⟩ := bd_e h
    refine m_roI (As := [.int v1]) (rest := []) C hM (mo_pricesOf_met _ Z I v1 v3 q_v3) (lw_V q1301 q1303 qs57 q88 q1304) mo_pricesOf_hd ⟨rfl, rfl⟩ ⟨Nat.le_of_ble_eq_true rfl, Nat.le_of_ble_eq_true rfl⟩ ⟨Nat.le_refl _, Nat.le_refl _⟩ rfl hl.1 rfl (Nat.le_of_ble_eq_true rfl) dX6_costsOf_20 ?_
    refine lv_aload_n hx hb dX6_costsOf_23 rfl (lv_at hl 1 rfl) ?_
    refine lv_iload_n hx hb dX6_costsOf_24 rfl (lv_at hl 2 rfl) ?_
    refine lv_iload_n hx hb dX6_costsOf_25 rfl (lv_at hl 3 rfl) ?_
    obtain ⟨v4, q_v4, h⟩ := bd_e h
    refine m_roI (As := [.int x1, .int x2]) (rest := [.int v3]) C hM (mo_isTurned_met _ Z I x1 x2 v4 q_v4) (lw_V q1270 q1272 qs53 q88 q1273) mo_isTurned_hd ⟨rfl, rfl⟩ ⟨Nat.le_of_ble_eq_true rfl, Nat.le_of_ble_eq_true rfl⟩ ⟨Nat.le_refl _, Nat.le_refl _⟩ rfl hl.1 rfl (Nat.le_of_ble_eq_true rfl) dX6_costsOf_26 ?_
    refine lv_if_eq (tgt := 41) hx hb dX6_costsOf_29 (by decide) (fun c5 => ?_) (fun c5 => ?_)
    · have h := ip_ c5 h
      refine lv_iconst (v := 0) hx hb dX6_costsOf_41 (by decide) ?_
      exact mo_costsOf_w42 C hM (0 : Int32) v3 ls (lv_sub hl [] rfl) h
    · have h := in_ c5 h
      refine lv_aload_n hx hb dX6_costsOf_32 rfl (lv_at hl 1 rfl) ?_
      refine gm17 C hM dX6_costsOf_33 ?_
      refine lv_iconst (v := 0) hx hb dX6_costsOf_36 (by decide) ?_
      obtain ⟨i_v6, h⟩ := al_e h
      refine m_ald C hM (pos := 15) (k := 17) rfl rfl i_v6 dX6_costsOf_37 (fun v6 e_v6 => ?_)
      have h := h v6 e_v6
      refine lv_goto (tgt := 42) hx hb dX6_costsOf_38 (by decide) ?_
      exact mo_costsOf_w42 C hM v6 v3 ls (lv_sub hl [] rfl) h
  · have h := ip_ c2 h
    refine lv_bipush (v := -3) hx hb dX6_costsOf_13 (by decide) ?_
    refine lv_goto (tgt := 43) hx hb dX6_costsOf_15 (by decide) ?_
    have h := so_ h
    subst h
    exact W.iret hx hb hr (fun t ht hW => ⟨rfl, ht⟩) (fun q hq => by cases hq) dX6_costsOf_43
theorem mo_costsOf_hd : yX6_costsOf.cls = RX6 ∧ yX6_costsOf.cls ≠ "java/lang/invoke/MethodHandle" ∧ yX6_costsOf.cls ≠ "java/lang/invoke/VarHandle" ∧ (parseMethodDescriptor yX6_costsOf.desc).map (fun d => d.parameters.length) = some 2 := by decide +kernel
theorem mo_costsOf_met (l : Launch) (Z : MZ) (I : St) (x1 : Int32) (x2 : Int32) (r : Int32) (h : mo_costsOf I x1 x2 = some r) : Met l yX6_costsOf (ws_ yX6_costsOf cX6_costsOf 4 (some .int)) mo_costsOf_rm (va_Pc [.ref (mH Z), .int x1, .int x2] (mS Z I)) (Qro (some (.int r))) 0 0 (fun _ => False) := by
  refine Met.ofW (cc := cX6_costsOf) (maxL := 4) (ret := some .int) (by decide) rfl ?_
  intro p e s m args below meth c s₁ B hml hv
  obtain ⟨rfl, hv⟩ := hv
  have hts := atoms_spec (ws := ws_ yX6_costsOf cX6_costsOf 4 (some .int)) B.pre
  have hts : ∀ w ∈ lw_all, w.before _ s = true := fun w h => hts w (List.mem_cons_of_mem _ h)
  have C : SCx p s m _ meth c cX6_costsOf 4 (some .int) RX6 := ⟨B.exec, B.bytes, B.returns, B.notSynchronized, hml, findClass_of_methodNamed B.named, hts⟩
  have hl := lv_entry [.ref (mH Z), .int x1, .int x2] (n := 4) (Nat.le_of_ble_eq_true rfl)
  rw [lg_entry_eq]
  generalize (lg_sl [.ref (mH Z), .int x1, .int x2] ++ List.replicate (4 - (lg_sl [.ref (mH Z), .int x1, .int x2]).length) Slot.unset).toArray = ls at hl ⊢
  have C : MCx p s m _ meth c _ _ _ Z := ⟨C, hv.2⟩
  have hM := hv.1
  exact mo_costsOf_w0 C hM x1 x2 ls hl h

/-! SecondChancesModel.costs(II)I -/
def mo_costs_rm : Room := { frames := 5, cells := 0, slots := 0, locals := 110 }
def mo_costs_P0 (p : Program) (l : Launch) (e : Env) (s : State) (m : MethodId) (args : Array Value) (below : List Frame) (meth : Method) (c : Code) (Z : MZ) (r : (Int32 × St)) (f : Int32 → Int32 → St → Option (Int32 × St)) : Prop := ∀ (x1 : Int32) (x2 : Int32) (I : St) (H : Heap) (locs : List Loc) (ls : Array Slot), mIn Z s I H locs → lv_has ls 3 [(0, .ref (mH Z)), (1, .int x1), (2, .int x2)] → f x1 x2 I = some r → W p l e mo_costs_rm s m args below meth c H locs 0 0 (MQ below (Qwr (some (.int r.1)) (mS Z r.2) (mA Z)) args s 0 0 (mA Z)) (F0 m 0 ls [])
def mo_costs (x1 : Int32) (x2 : Int32) (I : St) : Option (Int32 × St) :=
  bd2_ (mo_isDeed x1 I) fun v2 I1 =>
  if v2 = 0 then (some ((-2 : Int32), I1))
  else (bd_ (mo_isHour x2) fun v4 =>
    if v4 = 0 then (some ((-2 : Int32), I1))
    else (bd_ (mo_costsOf I1 x1 x2) fun v6 =>
      some (v6, I1)))
theorem mo_costs_w0 {p : Program} {l : Launch} {e : Env} {s : State} {m : MethodId} {args : Array Value} {below : List Frame} {meth : Method} {c : Code} {Z : MZ} (C : MCx p s m args meth c cX6_costs 3 (some .int) Z) {r : (Int32 × St)} : mo_costs_P0 p l e s m args below meth c Z r (mo_costs) := by
  intro x1 x2 I H locs ls hM hl h
  obtain ⟨⟨hx, hb, hr, hlocks, hml, hown, hts⟩, hK⟩ := id C
  unfold mo_costs at h
  refine lv_aload_n hx hb dX6_costs_0 rfl (lv_at hl 0 rfl) ?_
  refine lv_iload_n hx hb dX6_costs_1 rfl (lv_at hl 1 rfl) ?_
  obtain ⟨v2, I1, q_I1, h⟩ := bd2_e h
  refine m_wrI (As := [.int x1]) (rest := []) C hM (mo_isDeed_met _ Z I x1 (v2, I1) q_I1) (lw_V q1209 q1211 qs46 q88 q1212) mo_isDeed_hd ⟨rfl, rfl⟩ ⟨Nat.le_of_ble_eq_true rfl, Nat.le_of_ble_eq_true rfl⟩ ⟨Nat.le_refl _, Nat.le_refl _⟩ rfl hl.1 rfl (Nat.le_of_ble_eq_true rfl) dX6_costs_2 (fun H locs hM => ?_)
  refine lv_if_eq (tgt := 24) hx hb dX6_costs_5 (by decide) (fun c3 => ?_) (fun c3 => ?_)
  · have h := ip_ c3 h
    refine lv_bipush (v := -2) hx hb dX6_costs_24 (by decide) ?_
    have h := so_ h
    subst h
    exact W.iret hx hb hr (fun t ht hW => ⟨rfl, ⟨by rw [ht]; exact hM.1, va_K.moved hW.alike hK⟩, hM.2.F ht⟩) hM.2.2.2 dX6_costs_26
  · have h := in_ c3 h
    refine lv_iload_n hx hb dX6_costs_8 rfl (lv_at hl 2 rfl) ?_
    obtain ⟨v4, q_v4, h⟩ := bd_e h
    refine s_roI (As := [.int x2]) (rest := []) C.1 (mo_isHour_met _ x2 v4 q_v4) (lw_S q1240 q1241 q88 q1242) mo_isHour_hd ⟨rfl, rfl⟩ ⟨Nat.le_of_ble_eq_true rfl, Nat.le_of_ble_eq_true rfl⟩ ⟨Nat.le_refl _, Nat.le_refl _⟩ rfl hl.1 rfl (Nat.le_of_ble_eq_true rfl) dX6_costs_9 ?_
    refine lv_if_eq (tgt := 24) hx hb dX6_costs_12 (by decide) (fun c5 => ?_) (fun c5 => ?_)
    · have h := ip_ c5 h
      refine lv_bipush (v := -2) hx hb dX6_costs_24 (by decide) ?_
      have h := so_ h
      subst h
      exact W.iret hx hb hr (fun t ht hW => ⟨rfl, ⟨by rw [ht]; exact hM.1, va_K.moved hW.alike hK⟩, hM.2.F ht⟩) hM.2.2.2 dX6_costs_26
    · have h := in_ c5 h
      refine lv_aload_n hx hb dX6_costs_15 rfl (lv_at hl 0 rfl) ?_
      refine lv_iload_n hx hb dX6_costs_16 rfl (lv_at hl 1 rfl) ?_
      refine lv_iload_n hx hb dX6_costs_17 rfl (lv_at hl 2 rfl) ?_
      obtain ⟨v6, q_v6, h⟩ := bd_e h
      refine m_roI (As := [.int x1, .int x2]) (rest := []) C hM.1 (mo_costsOf_met _ Z I1 x1 x2 v6 q_v6) (lw_V q1297 q1299 qs56 q88 q1300) mo_costsOf_hd ⟨rfl, rfl⟩ ⟨Nat.le_of_ble_eq_true rfl, Nat.le_of_ble_eq_true rfl⟩ ⟨Nat.le_refl _, Nat.le_refl _⟩ rfl hl.1 rfl (Nat.le_of_ble_eq_true rfl) dX6_costs_18 ?_
      refine lv_goto (tgt := 26) hx hb dX6_costs_21 (by decide) ?_
      have h := so_ h
      subst h
      exact W.iret hx hb hr (fun t ht hW => ⟨rfl, ⟨by rw [ht]; exact hM.1, va_K.moved hW.alike hK⟩, hM.2.F ht⟩) hM.2.2.2 dX6_costs_26
theorem mo_costs_hd : yX6_costs.cls = RX6 ∧ yX6_costs.cls ≠ "java/lang/invoke/MethodHandle" ∧ yX6_costs.cls ≠ "java/lang/invoke/VarHandle" ∧ (parseMethodDescriptor yX6_costs.desc).map (fun d => d.parameters.length) = some 2 := by decide +kernel
theorem mo_costs_met (l : Launch) (Z : MZ) (I : St) (x1 : Int32) (x2 : Int32) (r : (Int32 × St)) (h : mo_costs x1 x2 I = some r) : Met l yX6_costs (ws_ yX6_costs cX6_costs 3 (some .int)) mo_costs_rm (va_Pc [.ref (mH Z), .int x1, .int x2] (mS Z I)) (Qwr (some (.int r.1)) (mS Z r.2) (mA Z)) 0 0 (mA Z) := by
  refine Met.ofW (cc := cX6_costs) (maxL := 3) (ret := some .int) (by decide) rfl ?_
  intro p e s m args below meth c s₁ B hml hv
  obtain ⟨rfl, hv⟩ := hv
  have hts := atoms_spec (ws := ws_ yX6_costs cX6_costs 3 (some .int)) B.pre
  have hts : ∀ w ∈ lw_all, w.before _ s = true := fun w h => hts w (List.mem_cons_of_mem _ h)
  have C : SCx p s m _ meth c cX6_costs 3 (some .int) RX6 := ⟨B.exec, B.bytes, B.returns, B.notSynchronized, hml, findClass_of_methodNamed B.named, hts⟩
  have hl := lv_entry [.ref (mH Z), .int x1, .int x2] (n := 3) (Nat.le_of_ble_eq_true rfl)
  rw [lg_entry_eq]
  generalize (lg_sl [.ref (mH Z), .int x1, .int x2] ++ List.replicate (3 - (lg_sl [.ref (mH Z), .int x1, .int x2]).length) Slot.unset).toArray = ls at hl ⊢
  have C : MCx p s m _ meth c _ _ _ Z := ⟨C, hv.2⟩
  have hM : mIn Z s I s.heap [] := ⟨hv.1, va_S.rf⟩
  exact mo_costs_w0 C x1 x2 I _ _ ls hM hl h

/-! SecondChancesModel.costTogether(II)I -/
def mo_costTogether_rm : Room := { frames := 3, cells := 0, slots := 0, locals := 71 }
def mo_costTogether_P0 (p : Program) (l : Launch) (e : Env) (s : State) (m : MethodId) (args : Array Value) (below : List Frame) (meth : Method) (c : Code) (Z : MZ) (r : Int32) (f : Int32 → Int32 → Option Int32) : Prop := ∀ (x1 : Int32) (x2 : Int32) (ls : Array Slot), lv_has ls 11 [(0, .ref (mH Z)), (1, .int x1), (2, .int x2)] → f x1 x2 = some r → W p l e mo_costTogether_rm s m args below meth c s.heap [] 0 0 (MQ below (Qro (some (.int r))) args s 0 0 (fun _ => False)) (F0 m 0 ls [])
def mo_costTogether_P11 (p : Program) (l : Launch) (e : Env) (s : State) (m : MethodId) (args : Array Value) (below : List Frame) (meth : Method) (c : Code) (Z : MZ) (r : Int32) (f : Int32 → Int32 → Int32 → Int32 → Int32 → Int32 → Option Int32) : Prop := ∀ (x1 : Int32) (x2 : Int32) (x3 : Int32) (x4 : Int32) (x5 : Int32) (x6 : Int32) (ls : Array Slot), lv_has ls 11 [(0, .ref (mH Z)), (1, .int x1), (2, .int x2), (3, .int x3), (4, .int x4), (5, .int x5), (6, .int x6)] → f x1 x2 x3 x4 x5 x6 = some r → W p l e mo_costTogether_rm s m args below meth c s.heap [] 0 0 (MQ below (Qro (some (.int r))) args s 0 0 (fun _ => False)) (F0 m 11 ls [])
def mo_costTogether_P91 (p : Program) (l : Launch) (e : Env) (s : State) (m : MethodId) (args : Array Value) (below : List Frame) (meth : Method) (c : Code) (Z : MZ) (r : Int32) (f : Int32 → Int32 → Int32 → Int32 → Int32 → Int32 → Option Int32) : Prop := ∀ (x1 : Int32) (x2 : Int32) (x3 : Int32) (x4 : Int32) (x6 : Int32) (t0 : Int32) (ls : Array Slot), lv_has ls 11 [(0, .ref (mH Z)), (1, .int x1), (2, .int x2), (3, .int x3), (4, .int x4), (6, .int x6)] → f x1 x2 x3 x4 x6 t0 = some r → W p l e mo_costTogether_rm s m args below meth c s.heap [] 0 0 (MQ below (Qro (some (.int r))) args s 0 0 (fun _ => False)) (F0 m 91 ls [.int t0])
def mo_costTogether_P96 (p : Program) (l : Launch) (e : Env) (s : State) (m : MethodId) (args : Array Value) (below : List Frame) (meth : Method) (c : Code) (Z : MZ) (r : Int32) (f : Int32 → Int32 → Int32 → Int32 → Int32 → Int32 → Int32 → Option Int32) : Prop := ∀ (x1 : Int32) (x2 : Int32) (x3 : Int32) (x4 : Int32) (x5 : Int32) (x6 : Int32) (x8 : Int32) (ls : Array Slot), lv_has ls 11 [(0, .ref (mH Z)), (1, .int x1), (2, .int x2), (3, .int x3), (4, .int x4), (5, .int x5), (6, .int x6), (8, .int x8)] → f x1 x2 x3 x4 x5 x6 x8 = some r → W p l e mo_costTogether_rm s m args below meth c s.heap [] 0 0 (MQ below (Qro (some (.int r))) args s 0 0 (fun _ => False)) (F0 m 96 ls [])
def mo_costTogether_P166 (p : Program) (l : Launch) (e : Env) (s : State) (m : MethodId) (args : Array Value) (below : List Frame) (meth : Method) (c : Code) (Z : MZ) (r : Int32) (f : Int32 → Int32 → Int32 → Int32 → Int32 → Int32 → Int32 → Int32 → Option Int32) : Prop := ∀ (x1 : Int32) (x2 : Int32) (x3 : Int32) (x4 : Int32) (x5 : Int32) (x6 : Int32) (x8 : Int32) (t0 : Int32) (ls : Array Slot), lv_has ls 11 [(0, .ref (mH Z)), (1, .int x1), (2, .int x2), (3, .int x3), (4, .int x4), (5, .int x5), (6, .int x6), (8, .int x8)] → f x1 x2 x3 x4 x5 x6 x8 t0 = some r → W p l e mo_costTogether_rm s m args below meth c s.heap [] 0 0 (MQ below (Qro (some (.int r))) args s 0 0 (fun _ => False)) (F0 m 166 ls [.int t0])
def mo_costTogether_P231 (p : Program) (l : Launch) (e : Env) (s : State) (m : MethodId) (args : Array Value) (below : List Frame) (meth : Method) (c : Code) (Z : MZ) (r : Int32) (f : Int32 → Int32 → Int32 → Int32 → Int32 → Int32 → Int32 → Int32 → Int32 → Option Int32) : Prop := ∀ (x1 : Int32) (x2 : Int32) (x3 : Int32) (x4 : Int32) (x5 : Int32) (x6 : Int32) (x8 : Int32) (x9 : Int32) (t0 : Int32) (ls : Array Slot), lv_has ls 11 [(0, .ref (mH Z)), (1, .int x1), (2, .int x2), (3, .int x3), (4, .int x4), (5, .int x5), (6, .int x6), (8, .int x8), (9, .int x9)] → f x1 x2 x3 x4 x5 x6 x8 x9 t0 = some r → W p l e mo_costTogether_rm s m args below meth c s.heap [] 0 0 (MQ below (Qro (some (.int r))) args s 0 0 (fun _ => False)) (F0 m 231 ls [.int t0])
def mo_costTogether_P252 (p : Program) (l : Launch) (e : Env) (s : State) (m : MethodId) (args : Array Value) (below : List Frame) (meth : Method) (c : Code) (Z : MZ) (r : Int32) (f : Int32 → Int32 → Int32 → Int32 → Int32 → Int32 → Option Int32) : Prop := ∀ (x1 : Int32) (x2 : Int32) (x3 : Int32) (x4 : Int32) (x5 : Int32) (x6 : Int32) (ls : Array Slot), lv_has ls 11 [(0, .ref (mH Z)), (1, .int x1), (2, .int x2), (3, .int x3), (4, .int x4), (5, .int x5), (6, .int x6)] → f x1 x2 x3 x4 x5 x6 = some r → W p l e mo_costTogether_rm s m args below meth c s.heap [] 0 0 (MQ below (Qro (some (.int r))) args s 0 0 (fun _ => False)) (F0 m 252 ls [])
def mo_costTogether_P275 (p : Program) (l : Launch) (e : Env) (s : State) (m : MethodId) (args : Array Value) (below : List Frame) (meth : Method) (c : Code) (Z : MZ) (r : Int32) (f : Int32 → Int32 → Option Int32) : Prop := ∀ (t0 : Int32) (t1 : Int32) (ls : Array Slot), lv_has ls 11 [] → f t0 t1 = some r → W p l e mo_costTogether_rm s m args below meth c s.heap [] 0 0 (MQ below (Qro (some (.int r))) args s 0 0 (fun _ => False)) (F0 m 275 ls [.int t0, .int t1])
def mo_costTogether_b275 (I : St) (t0 : Int32) (t1 : Int32) : Option Int32 :=
  some (t1 + t0)
theorem mo_costTogether_w275 {p : Program} {l : Launch} {e : Env} {s : State} {m : MethodId} {args : Array Value} {below : List Frame} {meth : Method} {c : Code} {Z : MZ} {I : St} (C : MCx p s m args meth c cX6_costTogether 11 (some .int) Z) (hM : mPD Z I s.heap) {r : Int32} : mo_costTogether_P275 p l e s m args below meth c Z r (mo_costTogether_b275 I) := by
  intro t0 t1 ls hl h
  obtain ⟨⟨hx, hb, hr, hlocks, hml, hown, hts⟩, hK⟩ := id C
  unfold mo_costTogether_b275 at h
  refine lv_iadd hx hb dX6_costTogether_275 ?_
  have h := so_ h
  subst h
  exact W.iret hx hb hr (fun t ht hW => ⟨rfl, ht⟩) (fun q hq => by cases hq) dX6_costTogether_276
def mo_costTogether_b252 (I : St) (k11 : Int32 → Int32 → Int32 → Int32 → Int32 → Int32 → Option Int32) (x1 : Int32) (x2 : Int32) (x3 : Int32) (x4 : Int32) (x5 : Int32) (x6 : Int32) : Option Int32 :=
  k11 x1 x2 x3 x4 x5 (x6 + 1)
theorem mo_costTogether_w252 {p : Program} {l : Launch} {e : Env} {s : State} {m : MethodId} {args : Array Value} {below : List Frame} {meth : Method} {c : Code} {Z : MZ} {I : St} (C : MCx p s m args meth c cX6_costTogether 11 (some .int) Z) (hM : mPD Z I s.heap) {r : Int32} {k11 : Int32 → Int32 → Int32 → Int32 → Int32 → Int32 → Option Int32} (hk11 : mo_costTogether_P11 p l e s m args below meth c Z r k11) : mo_costTogether_P252 p l e s m args below meth c Z r (mo_costTogether_b252 I k11) := by
  intro x1 x2 x3 x4 x5 x6 ls hl h
  obtain ⟨⟨hx, hb, hr, hlocks, hml, hown, hts⟩, hK⟩ := id C
  unfold mo_costTogether_b252 at h
  refine lv_iinc (v := (x6 + 1)) (lv' := [(6, .int (x6 + 1)), (0, .ref (mH Z)), (1, .int x1), (2, .int x2), (3, .int x3), (4, .int x4), (5, .int x5)]) hx hb dX6_costTogether_252 hl (k := 6) rfl rfl (by decide) rfl (fun ls hl => ?_)
  refine lv_goto (tgt := 11) hx hb dX6_costTogether_255 (by decide) ?_
  exact hk11 x1 x2 x3 x4 x5 (x6 + 1) ls (lv_sub hl [1, 2, 3, 4, 5, 6, 0] rfl) h
def mo_costTogether_b231 (I : St) (k11 : Int32 → Int32 → Int32 → Int32 → Int32 → Int32 → Option Int32) (k96 : Int32 → Int32 → Int32 → Int32 → Int32 → Int32 → Int32 → Option Int32) (x1 : Int32) (x2 : Int32) (x3 : Int32) (x4 : Int32) (x5 : Int32) (x6 : Int32) (x8 : Int32) (x9 : Int32) (t0 : Int32) : Option Int32 :=
  if x9 = 0 then (if t0 = 0 then (k96 x1 x2 x3 x4 x5 x6 (x8 + 1))
    else (some (1000000 : Int32)))
  else (some (1000000 : Int32))
theorem mo_costTogether_w231 {p : Program} {l : Launch} {e : Env} {s : State} {m : MethodId} {args : Array Value} {below : List Frame} {meth : Method} {c : Code} {Z : MZ} {I : St} (C : MCx p s m args meth c cX6_costTogether 11 (some .int) Z) (hM : mPD Z I s.heap) {r : Int32} {k11 : Int32 → Int32 → Int32 → Int32 → Int32 → Int32 → Option Int32} (hk11 : mo_costTogether_P11 p l e s m args below meth c Z r k11) {k96 : Int32 → Int32 → Int32 → Int32 → Int32 → Int32 → Int32 → Option Int32} (hk96 : mo_costTogether_P96 p l e s m args below meth c Z r k96) : mo_costTogether_P231 p l e s m args below meth c Z r (mo_costTogether_b231 I k11 k96) := by
  intro x1 x2 x3 x4 x5 x6 x8 x9 t0 ls hl h
  obtain ⟨⟨hx, hb, hr, hlocks, hml, hown, hts⟩, hK⟩ := id C
  unfold mo_costTogether_b231 at h
  refine lv_istore (lv' := [(10, .int t0), (0, .ref (mH Z)), (1, .int x1), (2, .int x2), (3, .int x3), (4, .int x4), (5, .int x5), (6, .int x6), (8, .int x8), (9, .int x9)]) hx hb dX6_costTogether_231 hl (by decide) rfl (fun ls hl => ?_)
  refine lv_iload hx hb dX6_costTogether_233 (lv_at hl 9 rfl) ?_
  refine lv_if_ne (tgt := 243) hx hb dX6_costTogether_235 (by decide) (fun c1 => ?_) (fun c1 => ?_)
  · have h := in_ c1 h
    refine lv_ldc (v := 1000000) hx hb hown (hts _ q1317) dX6_costTogether_243 ?_
    have h := so_ h
    subst h
    exact W.iret hx hb hr (fun t ht hW => ⟨rfl, ht⟩) (fun q hq => by cases hq) dX6_costTogether_245
  · have h := ip_ c1 h
    refine lv_iload hx hb dX6_costTogether_238 (lv_at hl 0 rfl) ?_
    refine lv_if_eq (tgt := 246) hx hb dX6_costTogether_240 (by decide) (fun c2 => ?_) (fun c2 => ?_)
    · have h := ip_ c2 h
      refine lv_iinc (v := (x8 + 1)) (lv' := [(8, .int (x8 + 1)), (10, .int t0), (0, .ref (mH Z)), (1, .int x1), (2, .int x2), (3, .int x3), (4, .int x4), (5, .int x5), (6, .int x6), (9, .int x9)]) hx hb dX6_costTogether_246 hl (k := 8) rfl rfl (by decide) rfl (fun ls hl => ?_)
      refine lv_goto (tgt := 96) hx hb dX6_costTogether_249 (by decide) ?_
      exact hk96 x1 x2 x3 x4 x5 x6 (x8 + 1) ls (lv_sub hl [2, 3, 4, 5, 6, 7, 8, 0] rfl) h
    · have h := in_ c2 h
      refine lv_ldc (v := 1000000) hx hb hown (hts _ q1317) dX6_costTogether_243 ?_
      have h := so_ h
      subst h
      exact W.iret hx hb hr (fun t ht hW => ⟨rfl, ht⟩) (fun q hq => by cases hq) dX6_costTogether_245
def mo_costTogether_b166 (I : St) (k11 : Int32 → Int32 → Int32 → Int32 → Int32 → Int32 → Option Int32) (k96 : Int32 → Int32 → Int32 → Int32 → Int32 → Int32 → Int32 → Option Int32) (x1 : Int32) (x2 : Int32) (x3 : Int32) (x4 : Int32) (x5 : Int32) (x6 : Int32) (x8 : Int32) (t0 : Int32) : Option Int32 :=
  bd_ (mo_isIn x1 x8) fun v1 =>
  if v1 = 0 then (mo_costTogether_b231 I k11 k96 x1 x2 x3 x4 x5 x6 x8 t0 (0 : Int32))
  else (al_ 9 (I 3) x6 fun v3 =>
    al_ 4 (I 10) v3 fun v4 =>
    if v4 = (1 : Int32) then (al_ 9 (I 3) x8 fun v6 =>
      al_ 4 (I 10) v6 fun v7 =>
      if v7 = (1 : Int32) then (al_ 9 (I 5) x6 fun v9 =>
        al_ 9 (I 5) x8 fun v10 =>
        if v9 = v10 then (mo_costTogether_b231 I k11 k96 x1 x2 x3 x4 x5 x6 x8 t0 (0 : Int32))
        else (mo_costTogether_b231 I k11 k96 x1 x2 x3 x4 x5 x6 x8 t0 (1 : Int32)))
      else (mo_costTogether_b231 I k11 k96 x1 x2 x3 x4 x5 x6 x8 t0 (0 : Int32)))
    else (mo_costTogether_b231 I k11 k96 x1 x2 x3 x4 x5 x6 x8 t0 (0 : Int32)))
theorem mo_costTogether_w166 {p : Program} {l : Launch} {e : Env} {s : State} {m : MethodId} {args : Array Value} {below : List Frame} {meth : Method} {c : Code} {Z : MZ} {I : St} (C : MCx p s m args meth c cX6_costTogether 11 (some .int) Z) (hM : mPD Z I s.heap) {r : Int32} {k11 : Int32 → Int32 → Int32 → Int32 → Int32 → Int32 → Option Int32} (hk11 : mo_costTogether_P11 p l e s m args below meth c Z r k11) {k96 : Int32 → Int32 → Int32 → Int32 → Int32 → Int32 → Int32 → Option Int32} (hk96 : mo_costTogether_P96 p l e s m args below meth c Z r k96) : mo_costTogether_P166 p l e s m args below meth c Z r (mo_costTogether_b166 I k11 k96) := by
  intro x1 x2 x3 x4 x5 x6 x8 t0 ls hl h
  obtain ⟨⟨hx, hb, hr, hlocks, hml, hown, hts⟩, hK⟩ := id C
  unfold mo_costTogether_b166 at h
  refine lv_istore (lv' := [(9, .int t0), (0, .ref (mH Z)), (1, .int x1), (2, .int x2), (3, .int x3), (4, .int x4), (5, .int x5), (6, .int x6), (8, .int x8)]) hx hb dX6_costTogether_166 hl (by decide) rfl (fun ls hl => ?_)
  refine lv_iload_n hx hb dX6_costTogether_168 rfl (lv_at hl 2 rfl) ?_
  refine lv_iload hx hb dX6_costTogether_169 (lv_at hl 8 rfl) ?_
  obtain ⟨v1, q_v1, h⟩ := bd_e h
  refine s_roI (As := [.int x1, .int x8]) (rest := []) C.1 (mo_isIn_met _ x1 x8 v1 q_v1) (lw_S q1194 q1195 q88 q1196) mo_isIn_hd ⟨rfl, rfl⟩ ⟨Nat.le_of_ble_eq_true rfl, Nat.le_of_ble_eq_true rfl⟩ ⟨Nat.le_refl _, Nat.le_refl _⟩ rfl hl.1 rfl (Nat.le_of_ble_eq_true rfl) dX6_costTogether_171 ?_
  refine lv_if_eq (tgt := 230) hx hb dX6_costTogether_174 (by decide) (fun c2 => ?_) (fun c2 => ?_)
  · have h := ip_ c2 h
    refine lv_iconst (v := 0) hx hb dX6_costTogether_230 (by decide) ?_
    exact mo_costTogether_w231 C hM hk11 hk96 x1 x2 x3 x4 x5 x6 x8 t0 (0 : Int32) ls (lv_sub hl [1, 2, 3, 4, 5, 6, 7, 8, 0] rfl) h
  · have h := in_ c2 h
    refine lv_aload_n hx hb dX6_costTogether_177 rfl (lv_at hl 1 rfl) ?_
    refine gm10 C hM dX6_costTogether_178 ?_
    refine lv_aload_n hx hb dX6_costTogether_181 rfl (lv_at hl 1 rfl) ?_
    refine gm3 C hM dX6_costTogether_182 ?_
    refine lv_iload hx hb dX6_costTogether_185 (lv_at hl 7 rfl) ?_
    obtain ⟨i_v3, h⟩ := al_e h
    refine m_ald C hM (pos := 2) (k := 3) rfl rfl i_v3 dX6_costTogether_187 (fun v3 e_v3 => ?_)
    have h := h v3 e_v3
    obtain ⟨i_v4, h⟩ := al_e h
    refine m_ald C hM (pos := 8) (k := 10) rfl rfl i_v4 dX6_costTogether_188 (fun v4 e_v4 => ?_)
    have h := h v4 e_v4
    refine lv_iconst (v := 1) hx hb dX6_costTogether_189 (by decide) ?_
    refine lv_icmp_ne (tgt := 230) hx hb dX6_costTogether_190 (by decide) (fun c5 => ?_) (fun c5 => ?_)
    · have h := in_ c5 h
      refine lv_iconst (v := 0) hx hb dX6_costTogether_230 (by decide) ?_
      exact mo_costTogether_w231 C hM hk11 hk96 x1 x2 x3 x4 x5 x6 x8 t0 (0 : Int32) ls (lv_sub hl [1, 2, 3, 4, 5, 6, 7, 8, 0] rfl) h
    · have h := ip_ c5 h
      refine lv_aload_n hx hb dX6_costTogether_193 rfl (lv_at hl 1 rfl) ?_
      refine gm10 C hM dX6_costTogether_194 ?_
      refine lv_aload_n hx hb dX6_costTogether_197 rfl (lv_at hl 1 rfl) ?_
      refine gm3 C hM dX6_costTogether_198 ?_
      refine lv_iload hx hb dX6_costTogether_201 (lv_at hl 8 rfl) ?_
      obtain ⟨i_v6, h⟩ := al_e h
      refine m_ald C hM (pos := 2) (k := 3) rfl rfl i_v6 dX6_costTogether_203 (fun v6 e_v6 => ?_)
      have h := h v6 e_v6
      obtain ⟨i_v7, h⟩ := al_e h
      refine m_ald C hM (pos := 8) (k := 10) rfl rfl i_v7 dX6_costTogether_204 (fun v7 e_v7 => ?_)
      have h := h v7 e_v7
      refine lv_iconst (v := 1) hx hb dX6_costTogether_205 (by decide) ?_
      refine lv_icmp_ne (tgt := 230) hx hb dX6_costTogether_206 (by decide) (fun c8 => ?_) (fun c8 => ?_)
      · have h := in_ c8 h
        refine lv_iconst (v := 0) hx hb dX6_costTogether_230 (by decide) ?_
        exact mo_costTogether_w231 C hM hk11 hk96 x1 x2 x3 x4 x5 x6 x8 t0 (0 : Int32) ls (lv_sub hl [1, 2, 3, 4, 5, 6, 7, 8, 0] rfl) h
      · have h := ip_ c8 h
        refine lv_aload_n hx hb dX6_costTogether_209 rfl (lv_at hl 1 rfl) ?_
        refine gm5 C hM dX6_costTogether_210 ?_
        refine lv_iload hx hb dX6_costTogether_213 (lv_at hl 7 rfl) ?_
        obtain ⟨i_v9, h⟩ := al_e h
        refine m_ald C hM (pos := 4) (k := 5) rfl rfl i_v9 dX6_costTogether_215 (fun v9 e_v9 => ?_)
        have h := h v9 e_v9
        refine lv_aload_n hx hb dX6_costTogether_216 rfl (lv_at hl 1 rfl) ?_
        refine gm5 C hM dX6_costTogether_217 ?_
        refine lv_iload hx hb dX6_costTogether_220 (lv_at hl 8 rfl) ?_
        obtain ⟨i_v10, h⟩ := al_e h
        refine m_ald C hM (pos := 4) (k := 5) rfl rfl i_v10 dX6_costTogether_222 (fun v10 e_v10 => ?_)
        have h := h v10 e_v10
        refine lv_icmp_eq (tgt := 230) hx hb dX6_costTogether_223 (by decide) (fun c11 => ?_) (fun c11 => ?_)
        · have h := ip_ c11 h
          refine lv_iconst (v := 0) hx hb dX6_costTogether_230 (by decide) ?_
          exact mo_costTogether_w231 C hM hk11 hk96 x1 x2 x3 x4 x5 x6 x8 t0 (0 : Int32) ls (lv_sub hl [1, 2, 3, 4, 5, 6, 7, 8, 0] rfl) h
        · have h := in_ c11 h
          refine lv_iconst (v := 1) hx hb dX6_costTogether_226 (by decide) ?_
          refine lv_goto (tgt := 231) hx hb dX6_costTogether_227 (by decide) ?_
          exact mo_costTogether_w231 C hM hk11 hk96 x1 x2 x3 x4 x5 x6 x8 t0 (1 : Int32) ls (lv_sub hl [1, 2, 3, 4, 5, 6, 7, 8, 0] rfl) h
def mo_costTogether_b96 (I : St) (k11 : Int32 → Int32 → Int32 → Int32 → Int32 → Int32 → Option Int32) (k96 : Int32 → Int32 → Int32 → Int32 → Int32 → Int32 → Int32 → Option Int32) (x1 : Int32) (x2 : Int32) (x3 : Int32) (x4 : Int32) (x5 : Int32) (x6 : Int32) (x8 : Int32) : Option Int32 :=
  if x6 ≤ x8 then (mo_costTogether_b252 I k11 x1 x2 x3 x4 x5 x6)
  else (bd_ (mo_isIn x1 x8) fun v2 =>
    if v2 = 0 then (mo_costTogether_b166 I k11 k96 x1 x2 x3 x4 x5 x6 x8 (0 : Int32))
    else (al_ 9 (I 3) x6 fun v4 =>
      al_ 4 (I 11) v4 fun v5 =>
      if v5 = (1 : Int32) then (al_ 9 (I 3) x8 fun v7 =>
        al_ 4 (I 11) v7 fun v8 =>
        if v8 = (1 : Int32) then (al_ 9 (I 4) x6 fun v10 =>
          al_ 9 (I 4) x8 fun v11 =>
          if v10 = v11 then (mo_costTogether_b166 I k11 k96 x1 x2 x3 x4 x5 x6 x8 (1 : Int32))
          else (mo_costTogether_b166 I k11 k96 x1 x2 x3 x4 x5 x6 x8 (0 : Int32)))
        else (mo_costTogether_b166 I k11 k96 x1 x2 x3 x4 x5 x6 x8 (0 : Int32)))
      else (mo_costTogether_b166 I k11 k96 x1 x2 x3 x4 x5 x6 x8 (0 : Int32))))
theorem mo_costTogether_w96 {p : Program} {l : Launch} {e : Env} {s : State} {m : MethodId} {args : Array Value} {below : List Frame} {meth : Method} {c : Code} {Z : MZ} {I : St} (C : MCx p s m args meth c cX6_costTogether 11 (some .int) Z) (hM : mPD Z I s.heap) {r : Int32} {k11 : Int32 → Int32 → Int32 → Int32 → Int32 → Int32 → Option Int32} (hk11 : mo_costTogether_P11 p l e s m args below meth c Z r k11) {k96 : Int32 → Int32 → Int32 → Int32 → Int32 → Int32 → Int32 → Option Int32} (hk96 : mo_costTogether_P96 p l e s m args below meth c Z r k96) : mo_costTogether_P96 p l e s m args below meth c Z r (mo_costTogether_b96 I k11 k96) := by
  intro x1 x2 x3 x4 x5 x6 x8 ls hl h
  obtain ⟨⟨hx, hb, hr, hlocks, hml, hown, hts⟩, hK⟩ := id C
  unfold mo_costTogether_b96 at h
  refine lv_iload hx hb dX6_costTogether_96 (lv_at hl 7 rfl) ?_
  refine lv_iload hx hb dX6_costTogether_98 (lv_at hl 6 rfl) ?_
  refine lv_icmp_ge (tgt := 252) hx hb dX6_costTogether_100 (by decide) (fun c1 => ?_) (fun c1 => ?_)
  · have h := ip_ c1 h
    exact mo_costTogether_w252 C hM hk11 x1 x2 x3 x4 x5 x6 ls (lv_sub hl [0, 1, 2, 3, 4, 5, 6] rfl) h
  · have h := in_ c1 h
    refine lv_iload_n hx hb dX6_costTogether_103 rfl (lv_at hl 1 rfl) ?_
    refine lv_iload hx hb dX6_costTogether_104 (lv_at hl 7 rfl) ?_
    obtain ⟨v2, q_v2, h⟩ := bd_e h
    refine s_roI (As := [.int x1, .int x8]) (rest := []) C.1 (mo_isIn_met _ x1 x8 v2 q_v2) (lw_S q1194 q1195 q88 q1196) mo_isIn_hd ⟨rfl, rfl⟩ ⟨Nat.le_of_ble_eq_true rfl, Nat.le_of_ble_eq_true rfl⟩ ⟨Nat.le_refl _, Nat.le_refl _⟩ rfl hl.1 rfl (Nat.le_of_ble_eq_true rfl) dX6_costTogether_106 ?_
    refine lv_if_eq (tgt := 165) hx hb dX6_costTogether_109 (by decide) (fun c3 => ?_) (fun c3 => ?_)
    · have h := ip_ c3 h
      refine lv_iconst (v := 0) hx hb dX6_costTogether_165 (by decide) ?_
      exact mo_costTogether_w166 C hM hk11 hk96 x1 x2 x3 x4 x5 x6 x8 (0 : Int32) ls (lv_sub hl [0, 1, 2, 3, 4, 5, 6, 7] rfl) h
    · have h := in_ c3 h
      refine lv_aload_n hx hb dX6_costTogether_112 rfl (lv_at hl 0 rfl) ?_
      refine gm11 C hM dX6_costTogether_113 ?_
      refine lv_aload_n hx hb dX6_costTogether_116 rfl (lv_at hl 0 rfl) ?_
      refine gm3 C hM dX6_costTogether_117 ?_
      refine lv_iload hx hb dX6_costTogether_120 (lv_at hl 6 rfl) ?_
      obtain ⟨i_v4, h⟩ := al_e h
      refine m_ald C hM (pos := 2) (k := 3) rfl rfl i_v4 dX6_costTogether_122 (fun v4 e_v4 => ?_)
      have h := h v4 e_v4
      obtain ⟨i_v5, h⟩ := al_e h
      refine m_ald C hM (pos := 9) (k := 11) rfl rfl i_v5 dX6_costTogether_123 (fun v5 e_v5 => ?_)
      have h := h v5 e_v5
      refine lv_iconst (v := 1) hx hb dX6_costTogether_124 (by decide) ?_
      refine lv_icmp_ne (tgt := 165) hx hb dX6_costTogether_125 (by decide) (fun c6 => ?_) (fun c6 => ?_)
      · have h := in_ c6 h
        refine lv_iconst (v := 0) hx hb dX6_costTogether_165 (by decide) ?_
        exact mo_costTogether_w166 C hM hk11 hk96 x1 x2 x3 x4 x5 x6 x8 (0 : Int32) ls (lv_sub hl [0, 1, 2, 3, 4, 5, 6, 7] rfl) h
      · have h := ip_ c6 h
        refine lv_aload_n hx hb dX6_costTogether_128 rfl (lv_at hl 0 rfl) ?_
        refine gm11 C hM dX6_costTogether_129 ?_
        refine lv_aload_n hx hb dX6_costTogether_132 rfl (lv_at hl 0 rfl) ?_
        refine gm3 C hM dX6_costTogether_133 ?_
        refine lv_iload hx hb dX6_costTogether_136 (lv_at hl 7 rfl) ?_
        obtain ⟨i_v7, h⟩ := al_e h
        refine m_ald C hM (pos := 2) (k := 3) rfl rfl i_v7 dX6_costTogether_138 (fun v7 e_v7 => ?_)
        have h := h v7 e_v7
        obtain ⟨i_v8, h⟩ := al_e h
        refine m_ald C hM (pos := 9) (k := 11) rfl rfl i_v8 dX6_costTogether_139 (fun v8 e_v8 => ?_)
        have h := h v8 e_v8
        refine lv_iconst (v := 1) hx hb dX6_costTogether_140 (by decide) ?_
        refine lv_icmp_ne (tgt := 165) hx hb dX6_costTogether_141 (by decide) (fun c9 => ?_) (fun c9 => ?_)
        · have h := in_ c9 h
          refine lv_iconst (v := 0) hx hb dX6_costTogether_165 (by decide) ?_
          exact mo_costTogether_w166 C hM hk11 hk96 x1 x2 x3 x4 x5 x6 x8 (0 : Int32) ls (lv_sub hl [0, 1, 2, 3, 4, 5, 6, 7] rfl) h
        · have h := ip_ c9 h
          refine lv_aload_n hx hb dX6_costTogether_144 rfl (lv_at hl 0 rfl) ?_
          refine gm4 C hM dX6_costTogether_145 ?_
          refine lv_iload hx hb dX6_costTogether_148 (lv_at hl 6 rfl) ?_
          obtain ⟨i_v10, h⟩ := al_e h
          refine m_ald C hM (pos := 3) (k := 4) rfl rfl i_v10 dX6_costTogether_150 (fun v10 e_v10 => ?_)
          have h := h v10 e_v10
          refine lv_aload_n hx hb dX6_costTogether_151 rfl (lv_at hl 0 rfl) ?_
          refine gm4 C hM dX6_costTogether_152 ?_
          refine lv_iload hx hb dX6_costTogether_155 (lv_at hl 7 rfl) ?_
          obtain ⟨i_v11, h⟩ := al_e h
          refine m_ald C hM (pos := 3) (k := 4) rfl rfl i_v11 dX6_costTogether_157 (fun v11 e_v11 => ?_)
          have h := h v11 e_v11
          refine lv_icmp_ne (tgt := 165) hx hb dX6_costTogether_158 (by decide) (fun c12 => ?_) (fun c12 => ?_)
          · have h := in_ c12 h
            refine lv_iconst (v := 0) hx hb dX6_costTogether_165 (by decide) ?_
            exact mo_costTogether_w166 C hM hk11 hk96 x1 x2 x3 x4 x5 x6 x8 (0 : Int32) ls (lv_sub hl [0, 1, 2, 3, 4, 5, 6, 7] rfl) h
          · have h := ip_ c12 h
            refine lv_iconst (v := 1) hx hb dX6_costTogether_161 (by decide) ?_
            refine lv_goto (tgt := 166) hx hb dX6_costTogether_162 (by decide) ?_
            exact mo_costTogether_w166 C hM hk11 hk96 x1 x2 x3 x4 x5 x6 x8 (1 : Int32) ls (lv_sub hl [0, 1, 2, 3, 4, 5, 6, 7] rfl) h
def mo_costTogether_l96 (I : St) (k11 : Int32 → Int32 → Int32 → Int32 → Int32 → Int32 → Option Int32) (n : Nat) : Int32 → Int32 → Int32 → Int32 → Int32 → Int32 → Int32 → Option Int32 := lp (fun _ _ _ _ _ _ _ => none) (mo_costTogether_b96 I k11) n
theorem mo_costTogether_lw96 {p : Program} {l : Launch} {e : Env} {s : State} {m : MethodId} {args : Array Value} {below : List Frame} {meth : Method} {c : Code} {Z : MZ} {I : St} (C : MCx p s m args meth c cX6_costTogether 11 (some .int) Z) (hM : mPD Z I s.heap) {r : Int32} {k11 : Int32 → Int32 → Int32 → Int32 → Int32 → Int32 → Option Int32} (hk11 : mo_costTogether_P11 p l e s m args below meth c Z r k11) : ∀ n : Nat, mo_costTogether_P96 p l e s m args below meth c Z r (mo_costTogether_l96 I k11 n) := by
  intro n
  induction n with
  | zero => intro x1 x2 x3 x4 x5 x6 x8 ls hl h; exact no_ h
  | succ n ih => exact mo_costTogether_w96 C hM hk11 ih
def mo_costTogether_b91 (I : St) (k11 : Int32 → Int32 → Int32 → Int32 → Int32 → Int32 → Option Int32) (x1 : Int32) (x2 : Int32) (x3 : Int32) (x4 : Int32) (x6 : Int32) (t0 : Int32) : Option Int32 :=
  mo_costTogether_l96 I k11 FU x1 x2 x3 x4 t0 x6 (0 : Int32)
theorem mo_costTogether_w91 {p : Program} {l : Launch} {e : Env} {s : State} {m : MethodId} {args : Array Value} {below : List Frame} {meth : Method} {c : Code} {Z : MZ} {I : St} (C : MCx p s m args meth c cX6_costTogether 11 (some .int) Z) (hM : mPD Z I s.heap) {r : Int32} {k11 : Int32 → Int32 → Int32 → Int32 → Int32 → Int32 → Option Int32} (hk11 : mo_costTogether_P11 p l e s m args below meth c Z r k11) : mo_costTogether_P91 p l e s m args below meth c Z r (mo_costTogether_b91 I k11) := by
  intro x1 x2 x3 x4 x6 t0 ls hl h
  obtain ⟨⟨hx, hb, hr, hlocks, hml, hown, hts⟩, hK⟩ := id C
  unfold mo_costTogether_b91 at h
  refine lv_istore (lv' := [(5, .int t0), (0, .ref (mH Z)), (1, .int x1), (2, .int x2), (3, .int x3), (4, .int x4), (6, .int x6)]) hx hb dX6_costTogether_91 hl (by decide) rfl (fun ls hl => ?_)
  refine lv_iconst (v := 0) hx hb dX6_costTogether_93 (by decide) ?_
  refine lv_istore (lv' := [(8, .int (0 : Int32)), (5, .int t0), (0, .ref (mH Z)), (1, .int x1), (2, .int x2), (3, .int x3), (4, .int x4), (6, .int x6)]) hx hb dX6_costTogether_94 hl (by decide) rfl (fun ls hl => ?_)
  exact mo_costTogether_lw96 C hM hk11 FU x1 x2 x3 x4 t0 x6 (0 : Int32) ls (lv_sub hl [2, 3, 4, 5, 6, 1, 7, 0] rfl) h
def mo_costTogether_b11 (I : St) (k11 : Int32 → Int32 → Int32 → Int32 → Int32 → Int32 → Option Int32) (x1 : Int32) (x2 : Int32) (x3 : Int32) (x4 : Int32) (x5 : Int32) (x6 : Int32) : Option Int32 :=
  if (I 2 0) ≤ x6 then (if x5 = 0 then (mo_costTogether_b275 I (0 : Int32) x4)
    else (al_ 4 (I 17) (0 : Int32) fun v3 =>
      mo_costTogether_b275 I v3 x4))
  else (bd_ (mo_isIn x1 x6) fun v4 =>
    if v4 = 0 then (mo_costTogether_b252 I k11 x1 x2 x3 x4 x5 x6)
    else (bd_ (mo_comesOf I x6 x2) fun v6 =>
      if v6 = (-3 : Int32) then (some (1000000 : Int32))
      else (if (v6 &&& x3) = 0 then (lt_ (x3 ||| v6) fun v9 =>
          bd_ (mo_pricesOf I v6) fun v10 =>
          lt_ (x4 + v10) fun v11 =>
          if x5 = 0 then (bd_ (mo_isTurned I x6 x2) fun v13 =>
            if v13 = 0 then (mo_costTogether_b91 I k11 x1 x2 v9 v11 x6 (0 : Int32))
            else (mo_costTogether_b91 I k11 x1 x2 v9 v11 x6 (1 : Int32)))
          else (mo_costTogether_b91 I k11 x1 x2 v9 v11 x6 (1 : Int32)))
        else (some (1000000 : Int32)))))
theorem mo_costTogether_w11 {p : Program} {l : Launch} {e : Env} {s : State} {m : MethodId} {args : Array Value} {below : List Frame} {meth : Method} {c : Code} {Z : MZ} {I : St} (C : MCx p s m args meth c cX6_costTogether 11 (some .int) Z) (hM : mPD Z I s.heap) {r : Int32} {k11 : Int32 → Int32 → Int32 → Int32 → Int32 → Int32 → Option Int32} (hk11 : mo_costTogether_P11 p l e s m args below meth c Z r k11) : mo_costTogether_P11 p l e s m args below meth c Z r (mo_costTogether_b11 I k11) := by
  intro x1 x2 x3 x4 x5 x6 ls hl h
  obtain ⟨⟨hx, hb, hr, hlocks, hml, hown, hts⟩, hK⟩ := id C
  unfold mo_costTogether_b11 at h
  refine lv_iload hx hb dX6_costTogether_11 (lv_at hl 6 rfl) ?_
  refine lv_aload_n hx hb dX6_costTogether_13 rfl (lv_at hl 0 rfl) ?_
  refine gm2 C hM dX6_costTogether_14 ?_
  refine lv_icmp_ge (tgt := 258) hx hb dX6_costTogether_17 (by decide) (fun c1 => ?_) (fun c1 => ?_)
  · have h := ip_ c1 h
    refine lv_iload hx hb dX6_costTogether_258 (lv_at hl 4 rfl) ?_
    refine lv_iload hx hb dX6_costTogether_260 (lv_at hl 5 rfl) ?_
    refine lv_if_eq (tgt := 274) hx hb dX6_costTogether_262 (by decide) (fun c2 => ?_) (fun c2 => ?_)
    · have h := ip_ c2 h
      refine lv_iconst (v := 0) hx hb dX6_costTogether_274 (by decide) ?_
      exact mo_costTogether_w275 C hM (0 : Int32) x4 ls (lv_sub hl [] rfl) h
    · have h := in_ c2 h
      refine lv_aload_n hx hb dX6_costTogether_265 rfl (lv_at hl 0 rfl) ?_
      refine gm17 C hM dX6_costTogether_266 ?_
      refine lv_iconst (v := 0) hx hb dX6_costTogether_269 (by decide) ?_
      obtain ⟨i_v3, h⟩ := al_e h
      refine m_ald C hM (pos := 15) (k := 17) rfl rfl i_v3 dX6_costTogether_270 (fun v3 e_v3 => ?_)
      have h := h v3 e_v3
      refine lv_goto (tgt := 275) hx hb dX6_costTogether_271 (by decide) ?_
      exact mo_costTogether_w275 C hM v3 x4 ls (lv_sub hl [] rfl) h
  · have h := in_ c1 h
    refine lv_iload_n hx hb dX6_costTogether_20 rfl (lv_at hl 1 rfl) ?_
    refine lv_iload hx hb dX6_costTogether_21 (lv_at hl 6 rfl) ?_
    obtain ⟨v4, q_v4, h⟩ := bd_e h
    refine s_roI (As := [.int x1, .int x6]) (rest := []) C.1 (mo_isIn_met _ x1 x6 v4 q_v4) (lw_S q1194 q1195 q88 q1196) mo_isIn_hd ⟨rfl, rfl⟩ ⟨Nat.le_of_ble_eq_true rfl, Nat.le_of_ble_eq_true rfl⟩ ⟨Nat.le_refl _, Nat.le_refl _⟩ rfl hl.1 rfl (Nat.le_of_ble_eq_true rfl) dX6_costTogether_23 ?_
    refine lv_if_eq (tgt := 252) hx hb dX6_costTogether_26 (by decide) (fun c5 => ?_) (fun c5 => ?_)
    · have h := ip_ c5 h
      exact mo_costTogether_w252 C hM hk11 x1 x2 x3 x4 x5 x6 ls (lv_sub hl [0, 1, 2, 3, 4, 5, 6] rfl) h
    · have h := in_ c5 h
      refine lv_aload_n hx hb dX6_costTogether_29 rfl (lv_at hl 0 rfl) ?_
      refine lv_iload hx hb dX6_costTogether_30 (lv_at hl 6 rfl) ?_
      refine lv_iload_n hx hb dX6_costTogether_32 rfl (lv_at hl 2 rfl) ?_
      obtain ⟨v6, q_v6, h⟩ := bd_e h
      refine m_roI (As := [.int x6, .int x2]) (rest := []) C hM (mo_comesOf_met _ Z I x6 x2 v6 q_v6) (lw_V q1266 q1268 qs52 q88 q1269) mo_comesOf_hd ⟨rfl, rfl⟩ ⟨Nat.le_of_ble_eq_true rfl, Nat.le_of_ble_eq_true rfl⟩ ⟨Nat.le_refl _, Nat.le_refl _⟩ rfl hl.1 rfl (Nat.le_of_ble_eq_true rfl) dX6_costTogether_33 ?_
      refine lv_istore (lv' := [(7, .int v6), (0, .ref (mH Z)), (1, .int x1), (2, .int x2), (3, .int x3), (4, .int x4), (5, .int x5), (6, .int x6)]) hx hb dX6_costTogether_36 hl (by decide) rfl (fun ls hl => ?_)
      refine lv_iload hx hb dX6_costTogether_38 (lv_at hl 0 rfl) ?_
      refine lv_bipush (v := -3) hx hb dX6_costTogether_40 (by decide) ?_
      refine lv_icmp_eq (tgt := 52) hx hb dX6_costTogether_42 (by decide) (fun c7 => ?_) (fun c7 => ?_)
      · have h := ip_ c7 h
        refine lv_ldc (v := 1000000) hx hb hown (hts _ q1317) dX6_costTogether_52 ?_
        have h := so_ h
        subst h
        exact W.iret hx hb hr (fun t ht hW => ⟨rfl, ht⟩) (fun q hq => by cases hq) dX6_costTogether_54
      · have h := in_ c7 h
        refine lv_iload hx hb dX6_costTogether_45 (lv_at hl 0 rfl) ?_
        refine lv_iload_n hx hb dX6_costTogether_47 rfl (lv_at hl 4 rfl) ?_
        refine lv_iand hx hb dX6_costTogether_48 ?_
        refine lv_if_eq (tgt := 55) hx hb dX6_costTogether_49 (by decide) (fun c8 => ?_) (fun c8 => ?_)
        · have h := ip_ c8 h
          refine lv_iload_n hx hb dX6_costTogether_55 rfl (lv_at hl 4 rfl) ?_
          refine lv_iload hx hb dX6_costTogether_56 (lv_at hl 0 rfl) ?_
          refine lv_ior hx hb dX6_costTogether_58 ?_
          refine lv_topi (fun v9 e_v9 => ?_)
          have h := lt_i h e_v9
          refine lv_istore_n (lv' := [(3, .int v9), (7, .int v6), (0, .ref (mH Z)), (1, .int x1), (2, .int x2), (4, .int x4), (5, .int x5), (6, .int x6)]) hx hb dX6_costTogether_59 rfl hl (by decide) rfl (fun ls hl => ?_)
          refine lv_iload hx hb dX6_costTogether_60 (lv_at hl 5 rfl) ?_
          refine lv_aload_n hx hb dX6_costTogether_62 rfl (lv_at hl 2 rfl) ?_
          refine lv_iload hx hb dX6_costTogether_63 (lv_at hl 1 rfl) ?_
          obtain ⟨v10, q_v10, h⟩ := bd_e h
          refine m_roI (As := [.int v6]) (rest := [.int x4]) C hM (mo_pricesOf_met _ Z I v6 v10 q_v10) (lw_V q1301 q1303 qs57 q88 q1304) mo_pricesOf_hd ⟨rfl, rfl⟩ ⟨Nat.le_of_ble_eq_true rfl, Nat.le_of_ble_eq_true rfl⟩ ⟨Nat.le_refl _, Nat.le_refl _⟩ rfl hl.1 rfl (Nat.le_of_ble_eq_true rfl) dX6_costTogether_65 ?_
          refine lv_iadd hx hb dX6_costTogether_68 ?_
          refine lv_topi (fun v11 e_v11 => ?_)
          have h := lt_i h e_v11
          refine lv_istore (lv' := [(4, .int v11), (3, .int v9), (7, .int v6), (0, .ref (mH Z)), (1, .int x1), (2, .int x2), (5, .int x5), (6, .int x6)]) hx hb dX6_costTogether_69 hl (by decide) rfl (fun ls hl => ?_)
          refine lv_iload hx hb dX6_costTogether_71 (lv_at hl 6 rfl) ?_
          refine lv_if_ne (tgt := 86) hx hb dX6_costTogether_73 (by decide) (fun c12 => ?_) (fun c12 => ?_)
          · have h := in_ c12 h
            refine lv_iconst (v := 1) hx hb dX6_costTogether_86 (by decide) ?_
            refine lv_goto (tgt := 91) hx hb dX6_costTogether_87 (by decide) ?_
            exact mo_costTogether_w91 C hM hk11 x1 x2 v9 v11 x6 (1 : Int32) ls (lv_sub hl [3, 4, 5, 1, 0, 7] rfl) h
          · have h := ip_ c12 h
            refine lv_aload_n hx hb dX6_costTogether_76 rfl (lv_at hl 3 rfl) ?_
            refine lv_iload hx hb dX6_costTogether_77 (lv_at hl 7 rfl) ?_
            refine lv_iload_n hx hb dX6_costTogether_79 rfl (lv_at hl 5 rfl) ?_
            obtain ⟨v13, q_v13, h⟩ := bd_e h
            refine m_roI (As := [.int x6, .int x2]) (rest := []) C hM (mo_isTurned_met _ Z I x6 x2 v13 q_v13) (lw_V q1270 q1272 qs53 q88 q1273) mo_isTurned_hd ⟨rfl, rfl⟩ ⟨Nat.le_of_ble_eq_true rfl, Nat.le_of_ble_eq_true rfl⟩ ⟨Nat.le_refl _, Nat.le_refl _⟩ rfl hl.1 rfl (Nat.le_of_ble_eq_true rfl) dX6_costTogether_80 ?_
            refine lv_if_eq (tgt := 90) hx hb dX6_costTogether_83 (by decide) (fun c14 => ?_) (fun c14 => ?_)
            · have h := ip_ c14 h
              refine lv_iconst (v := 0) hx hb dX6_costTogether_90 (by decide) ?_
              exact mo_costTogether_w91 C hM hk11 x1 x2 v9 v11 x6 (0 : Int32) ls (lv_sub hl [3, 4, 5, 1, 0, 7] rfl) h
            · have h := in_ c14 h
              refine lv_iconst (v := 1) hx hb dX6_costTogether_86 (by decide) ?_
              refine lv_goto (tgt := 91) hx hb dX6_costTogether_87 (by decide) ?_
              exact mo_costTogether_w91 C hM hk11 x1 x2 v9 v11 x6 (1 : Int32) ls (lv_sub hl [3, 4, 5, 1, 0, 7] rfl) h
        · have h := in_ c8 h
          refine lv_ldc (v := 1000000) hx hb hown (hts _ q1317) dX6_costTogether_52 ?_
          have h := so_ h
          subst h
          exact W.iret hx hb hr (fun t ht hW => ⟨rfl, ht⟩) (fun q hq => by cases hq) dX6_costTogether_54
def mo_costTogether_l11 (I : St) (n : Nat) : Int32 → Int32 → Int32 → Int32 → Int32 → Int32 → Option Int32 := lp (fun _ _ _ _ _ _ => none) (mo_costTogether_b11 I) n
theorem mo_costTogether_lw11 {p : Program} {l : Launch} {e : Env} {s : State} {m : MethodId} {args : Array Value} {below : List Frame} {meth : Method} {c : Code} {Z : MZ} {I : St} (C : MCx p s m args meth c cX6_costTogether 11 (some .int) Z) (hM : mPD Z I s.heap) {r : Int32} : ∀ n : Nat, mo_costTogether_P11 p l e s m args below meth c Z r (mo_costTogether_l11 I n) := by
  intro n
  induction n with
  | zero => intro x1 x2 x3 x4 x5 x6 ls hl h; exact no_ h
  | succ n ih => exact mo_costTogether_w11 C hM ih
def mo_costTogether (I : St) (x1 : Int32) (x2 : Int32) : Option Int32 :=
  mo_costTogether_l11 I FU x1 x2 (0 : Int32) (0 : Int32) (0 : Int32) (0 : Int32)
theorem mo_costTogether_w0 {p : Program} {l : Launch} {e : Env} {s : State} {m : MethodId} {args : Array Value} {below : List Frame} {meth : Method} {c : Code} {Z : MZ} {I : St} (C : MCx p s m args meth c cX6_costTogether 11 (some .int) Z) (hM : mPD Z I s.heap) {r : Int32} : mo_costTogether_P0 p l e s m args below meth c Z r (mo_costTogether I) := by
  intro x1 x2 ls hl h
  obtain ⟨⟨hx, hb, hr, hlocks, hml, hown, hts⟩, hK⟩ := id C
  unfold mo_costTogether at h
  refine lv_iconst (v := 0) hx hb dX6_costTogether_0 (by decide) ?_
  refine lv_istore_n (lv' := [(3, .int (0 : Int32)), (0, .ref (mH Z)), (1, .int x1), (2, .int x2)]) hx hb dX6_costTogether_1 rfl hl (by decide) rfl (fun ls hl => ?_)
  refine lv_iconst (v := 0) hx hb dX6_costTogether_2 (by decide) ?_
  refine lv_istore (lv' := [(4, .int (0 : Int32)), (3, .int (0 : Int32)), (0, .ref (mH Z)), (1, .int x1), (2, .int x2)]) hx hb dX6_costTogether_3 hl (by decide) rfl (fun ls hl => ?_)
  refine lv_iconst (v := 0) hx hb dX6_costTogether_5 (by decide) ?_
  refine lv_istore (lv' := [(5, .int (0 : Int32)), (4, .int (0 : Int32)), (3, .int (0 : Int32)), (0, .ref (mH Z)), (1, .int x1), (2, .int x2)]) hx hb dX6_costTogether_6 hl (by decide) rfl (fun ls hl => ?_)
  refine lv_iconst (v := 0) hx hb dX6_costTogether_8 (by decide) ?_
  refine lv_istore (lv' := [(6, .int (0 : Int32)), (5, .int (0 : Int32)), (4, .int (0 : Int32)), (3, .int (0 : Int32)), (0, .ref (mH Z)), (1, .int x1), (2, .int x2)]) hx hb dX6_costTogether_9 hl (by decide) rfl (fun ls hl => ?_)
  exact mo_costTogether_lw11 C hM FU x1 x2 (0 : Int32) (0 : Int32) (0 : Int32) (0 : Int32) ls (lv_sub hl [4, 5, 6, 3, 2, 1, 0] rfl) h
theorem mo_costTogether_hd : yX6_costTogether.cls = RX6 ∧ yX6_costTogether.cls ≠ "java/lang/invoke/MethodHandle" ∧ yX6_costTogether.cls ≠ "java/lang/invoke/VarHandle" ∧ (parseMethodDescriptor yX6_costTogether.desc).map (fun d => d.parameters.length) = some 2 := by decide +kernel
theorem mo_costTogether_met (l : Launch) (Z : MZ) (I : St) (x1 : Int32) (x2 : Int32) (r : Int32) (h : mo_costTogether I x1 x2 = some r) : Met l yX6_costTogether (ws_ yX6_costTogether cX6_costTogether 11 (some .int)) mo_costTogether_rm (va_Pc [.ref (mH Z), .int x1, .int x2] (mS Z I)) (Qro (some (.int r))) 0 0 (fun _ => False) := by
  refine Met.ofW (cc := cX6_costTogether) (maxL := 11) (ret := some .int) (by decide) rfl ?_
  intro p e s m args below meth c s₁ B hml hv
  obtain ⟨rfl, hv⟩ := hv
  have hts := atoms_spec (ws := ws_ yX6_costTogether cX6_costTogether 11 (some .int)) B.pre
  have hts : ∀ w ∈ lw_all, w.before _ s = true := fun w h => hts w (List.mem_cons_of_mem _ h)
  have C : SCx p s m _ meth c cX6_costTogether 11 (some .int) RX6 := ⟨B.exec, B.bytes, B.returns, B.notSynchronized, hml, findClass_of_methodNamed B.named, hts⟩
  have hl := lv_entry [.ref (mH Z), .int x1, .int x2] (n := 11) (Nat.le_of_ble_eq_true rfl)
  rw [lg_entry_eq]
  generalize (lg_sl [.ref (mH Z), .int x1, .int x2] ++ List.replicate (11 - (lg_sl [.ref (mH Z), .int x1, .int x2]).length) Slot.unset).toArray = ls at hl ⊢
  have C : MCx p s m _ meth c _ _ _ Z := ⟨C, hv.2⟩
  have hM := hv.1
  exact mo_costTogether_w0 C hM x1 x2 ls hl h

/-! SecondChancesModel.worthBy(I)I -/
def mo_worthBy_rm : Room := { frames := 1, cells := 0, slots := 0, locals := 21 }
def mo_worthBy_P0 (p : Program) (l : Launch) (e : Env) (s : State) (m : MethodId) (args : Array Value) (below : List Frame) (meth : Method) (c : Code) (Z : MZ) (r : Int32) (f : Int32 → Option Int32) : Prop := ∀ (x1 : Int32) (ls : Array Slot), lv_has ls 4 [(0, .ref (mH Z)), (1, .int x1)] → f x1 = some r → W p l e mo_worthBy_rm s m args below meth c s.heap [] 0 0 (MQ below (Qro (some (.int r))) args s 0 0 (fun _ => False)) (F0 m 0 ls [])
def mo_worthBy_P4 (p : Program) (l : Launch) (e : Env) (s : State) (m : MethodId) (args : Array Value) (below : List Frame) (meth : Method) (c : Code) (Z : MZ) (r : Int32) (f : Int32 → Int32 → Int32 → Option Int32) : Prop := ∀ (x1 : Int32) (x2 : Int32) (x3 : Int32) (ls : Array Slot), lv_has ls 4 [(0, .ref (mH Z)), (1, .int x1), (2, .int x2), (3, .int x3)] → f x1 x2 x3 = some r → W p l e mo_worthBy_rm s m args below meth c s.heap [] 0 0 (MQ below (Qro (some (.int r))) args s 0 0 (fun _ => False)) (F0 m 4 ls [])
def mo_worthBy_P31 (p : Program) (l : Launch) (e : Env) (s : State) (m : MethodId) (args : Array Value) (below : List Frame) (meth : Method) (c : Code) (Z : MZ) (r : Int32) (f : Int32 → Int32 → Int32 → Int32 → Option Int32) : Prop := ∀ (x1 : Int32) (x3 : Int32) (t0 : Int32) (t1 : Int32) (ls : Array Slot), lv_has ls 4 [(0, .ref (mH Z)), (1, .int x1), (3, .int x3)] → f x1 x3 t0 t1 = some r → W p l e mo_worthBy_rm s m args below meth c s.heap [] 0 0 (MQ below (Qro (some (.int r))) args s 0 0 (fun _ => False)) (F0 m 31 ls [.int t0, .int t1])
def mo_worthBy_b31 (I : St) (k4 : Int32 → Int32 → Int32 → Option Int32) (x1 : Int32) (x3 : Int32) (t0 : Int32) (t1 : Int32) : Option Int32 :=
  lt_ (t1 + t0) fun v1 =>
  k4 x1 v1 (x3 + 1)
theorem mo_worthBy_w31 {p : Program} {l : Launch} {e : Env} {s : State} {m : MethodId} {args : Array Value} {below : List Frame} {meth : Method} {c : Code} {Z : MZ} {I : St} (C : MCx p s m args meth c cX6_worthBy 4 (some .int) Z) (hM : mPD Z I s.heap) {r : Int32} {k4 : Int32 → Int32 → Int32 → Option Int32} (hk4 : mo_worthBy_P4 p l e s m args below meth c Z r k4) : mo_worthBy_P31 p l e s m args below meth c Z r (mo_worthBy_b31 I k4) := by
  intro x1 x3 t0 t1 ls hl h
  obtain ⟨⟨hx, hb, hr, hlocks, hml, hown, hts⟩, hK⟩ := id C
  unfold mo_worthBy_b31 at h
  refine lv_iadd hx hb dX6_worthBy_31 ?_
  refine lv_topi (fun v1 e_v1 => ?_)
  have h := lt_i h e_v1
  refine lv_istore_n (lv' := [(2, .int v1), (0, .ref (mH Z)), (1, .int x1), (3, .int x3)]) hx hb dX6_worthBy_32 rfl hl (by decide) rfl (fun ls hl => ?_)
  refine lv_iinc (v := (x3 + 1)) (lv' := [(3, .int (x3 + 1)), (2, .int v1), (0, .ref (mH Z)), (1, .int x1)]) hx hb dX6_worthBy_33 hl (k := 3) rfl rfl (by decide) rfl (fun ls hl => ?_)
  refine lv_goto (tgt := 4) hx hb dX6_worthBy_36 (by decide) ?_
  exact hk4 x1 v1 (x3 + 1) ls (lv_sub hl [2, 3, 1, 0] rfl) h
def mo_worthBy_b4 (I : St) (k4 : Int32 → Int32 → Int32 → Option Int32) (x1 : Int32) (x2 : Int32) (x3 : Int32) : Option Int32 :=
  if (I 2 0) ≤ x3 then (some x2)
  else (bd_ (mo_isIn x1 x3) fun v2 =>
    if v2 = 0 then (mo_worthBy_b31 I k4 x1 x3 (0 : Int32) x2)
    else (al_ 9 (I 6) x3 fun v4 =>
      mo_worthBy_b31 I k4 x1 x3 v4 x2))
theorem mo_worthBy_w4 {p : Program} {l : Launch} {e : Env} {s : State} {m : MethodId} {args : Array Value} {below : List Frame} {meth : Method} {c : Code} {Z : MZ} {I : St} (C : MCx p s m args meth c cX6_worthBy 4 (some .int) Z) (hM : mPD Z I s.heap) {r : Int32} {k4 : Int32 → Int32 → Int32 → Option Int32} (hk4 : mo_worthBy_P4 p l e s m args below meth c Z r k4) : mo_worthBy_P4 p l e s m args below meth c Z r (mo_worthBy_b4 I k4) := by
  intro x1 x2 x3 ls hl h
  obtain ⟨⟨hx, hb, hr, hlocks, hml, hown, hts⟩, hK⟩ := id C
  unfold mo_worthBy_b4 at h
  refine lv_iload_n hx hb dX6_worthBy_4 rfl (lv_at hl 3 rfl) ?_
  refine lv_aload_n hx hb dX6_worthBy_5 rfl (lv_at hl 0 rfl) ?_
  refine gm2 C hM dX6_worthBy_6 ?_
  refine lv_icmp_ge (tgt := 39) hx hb dX6_worthBy_9 (by decide) (fun c1 => ?_) (fun c1 => ?_)
  · have h := ip_ c1 h
    refine lv_iload_n hx hb dX6_worthBy_39 rfl (lv_at hl 2 rfl) ?_
    have h := so_ h
    subst h
    exact W.iret hx hb hr (fun t ht hW => ⟨rfl, ht⟩) (fun q hq => by cases hq) dX6_worthBy_40
  · have h := in_ c1 h
    refine lv_iload_n hx hb dX6_worthBy_12 rfl (lv_at hl 2 rfl) ?_
    refine lv_iload_n hx hb dX6_worthBy_13 rfl (lv_at hl 1 rfl) ?_
    refine lv_iload_n hx hb dX6_worthBy_14 rfl (lv_at hl 3 rfl) ?_
    obtain ⟨v2, q_v2, h⟩ := bd_e h
    refine s_roI (As := [.int x1, .int x3]) (rest := [.int x2]) C.1 (mo_isIn_met _ x1 x3 v2 q_v2) (lw_S q1194 q1195 q88 q1196) mo_isIn_hd ⟨rfl, rfl⟩ ⟨Nat.le_of_ble_eq_true rfl, Nat.le_of_ble_eq_true rfl⟩ ⟨Nat.le_refl _, Nat.le_refl _⟩ rfl hl.1 rfl (Nat.le_of_ble_eq_true rfl) dX6_worthBy_15 ?_
    refine lv_if_eq (tgt := 30) hx hb dX6_worthBy_18 (by decide) (fun c3 => ?_) (fun c3 => ?_)
    · have h := ip_ c3 h
      refine lv_iconst (v := 0) hx hb dX6_worthBy_30 (by decide) ?_
      exact mo_worthBy_w31 C hM hk4 x1 x3 (0 : Int32) x2 ls (lv_sub hl [0, 1, 3] rfl) h
    · have h := in_ c3 h
      refine lv_aload_n hx hb dX6_worthBy_21 rfl (lv_at hl 0 rfl) ?_
      refine gm6 C hM dX6_worthBy_22 ?_
      refine lv_iload_n hx hb dX6_worthBy_25 rfl (lv_at hl 3 rfl) ?_
      obtain ⟨i_v4, h⟩ := al_e h
      refine m_ald C hM (pos := 5) (k := 6) rfl rfl i_v4 dX6_worthBy_26 (fun v4 e_v4 => ?_)
      have h := h v4 e_v4
      refine lv_goto (tgt := 31) hx hb dX6_worthBy_27 (by decide) ?_
      exact mo_worthBy_w31 C hM hk4 x1 x3 v4 x2 ls (lv_sub hl [0, 1, 3] rfl) h
def mo_worthBy_l4 (I : St) (n : Nat) : Int32 → Int32 → Int32 → Option Int32 := lp (fun _ _ _ => none) (mo_worthBy_b4 I) n
theorem mo_worthBy_lw4 {p : Program} {l : Launch} {e : Env} {s : State} {m : MethodId} {args : Array Value} {below : List Frame} {meth : Method} {c : Code} {Z : MZ} {I : St} (C : MCx p s m args meth c cX6_worthBy 4 (some .int) Z) (hM : mPD Z I s.heap) {r : Int32} : ∀ n : Nat, mo_worthBy_P4 p l e s m args below meth c Z r (mo_worthBy_l4 I n) := by
  intro n
  induction n with
  | zero => intro x1 x2 x3 ls hl h; exact no_ h
  | succ n ih => exact mo_worthBy_w4 C hM ih
def mo_worthBy (I : St) (x1 : Int32) : Option Int32 :=
  mo_worthBy_l4 I FU x1 (0 : Int32) (0 : Int32)
theorem mo_worthBy_w0 {p : Program} {l : Launch} {e : Env} {s : State} {m : MethodId} {args : Array Value} {below : List Frame} {meth : Method} {c : Code} {Z : MZ} {I : St} (C : MCx p s m args meth c cX6_worthBy 4 (some .int) Z) (hM : mPD Z I s.heap) {r : Int32} : mo_worthBy_P0 p l e s m args below meth c Z r (mo_worthBy I) := by
  intro x1 ls hl h
  obtain ⟨⟨hx, hb, hr, hlocks, hml, hown, hts⟩, hK⟩ := id C
  unfold mo_worthBy at h
  refine lv_iconst (v := 0) hx hb dX6_worthBy_0 (by decide) ?_
  refine lv_istore_n (lv' := [(2, .int (0 : Int32)), (0, .ref (mH Z)), (1, .int x1)]) hx hb dX6_worthBy_1 rfl hl (by decide) rfl (fun ls hl => ?_)
  refine lv_iconst (v := 0) hx hb dX6_worthBy_2 (by decide) ?_
  refine lv_istore_n (lv' := [(3, .int (0 : Int32)), (2, .int (0 : Int32)), (0, .ref (mH Z)), (1, .int x1)]) hx hb dX6_worthBy_3 rfl hl (by decide) rfl (fun ls hl => ?_)
  exact mo_worthBy_lw4 C hM FU x1 (0 : Int32) (0 : Int32) ls (lv_sub hl [2, 3, 1, 0] rfl) h
theorem mo_worthBy_hd : yX6_worthBy.cls = RX6 ∧ yX6_worthBy.cls ≠ "java/lang/invoke/MethodHandle" ∧ yX6_worthBy.cls ≠ "java/lang/invoke/VarHandle" ∧ (parseMethodDescriptor yX6_worthBy.desc).map (fun d => d.parameters.length) = some 1 := by decide +kernel
theorem mo_worthBy_met (l : Launch) (Z : MZ) (I : St) (x1 : Int32) (r : Int32) (h : mo_worthBy I x1 = some r) : Met l yX6_worthBy (ws_ yX6_worthBy cX6_worthBy 4 (some .int)) mo_worthBy_rm (va_Pc [.ref (mH Z), .int x1] (mS Z I)) (Qro (some (.int r))) 0 0 (fun _ => False) := by
  refine Met.ofW (cc := cX6_worthBy) (maxL := 4) (ret := some .int) (by decide) rfl ?_
  intro p e s m args below meth c s₁ B hml hv
  obtain ⟨rfl, hv⟩ := hv
  have hts := atoms_spec (ws := ws_ yX6_worthBy cX6_worthBy 4 (some .int)) B.pre
  have hts : ∀ w ∈ lw_all, w.before _ s = true := fun w h => hts w (List.mem_cons_of_mem _ h)
  have C : SCx p s m _ meth c cX6_worthBy 4 (some .int) RX6 := ⟨B.exec, B.bytes, B.returns, B.notSynchronized, hml, findClass_of_methodNamed B.named, hts⟩
  have hl := lv_entry [.ref (mH Z), .int x1] (n := 4) (Nat.le_of_ble_eq_true rfl)
  rw [lg_entry_eq]
  generalize (lg_sl [.ref (mH Z), .int x1] ++ List.replicate (4 - (lg_sl [.ref (mH Z), .int x1]).length) Slot.unset).toArray = ls at hl ⊢
  have C : MCx p s m _ meth c _ _ _ Z := ⟨C, hv.2⟩
  have hM := hv.1
  exact mo_worthBy_w0 C hM x1 ls hl h

