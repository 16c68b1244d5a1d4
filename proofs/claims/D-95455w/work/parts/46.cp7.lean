set_option maxRecDepth 100000
/-! SecondChances.text(I)LSecondChances$Text; -/
def cf_text_rm : Room := { frames := 0, cells := 0, slots := 0, locals := 0 }
def cf_text_P0 (p : Program) (l : Launch) (e : Env) (R : Room) (s : State) (m : MethodId) (args : Array Value) (below : List Frame) (meth : Method) (c : Code) (Z : CZ) (Y : CY) (H : Heap) (cells slots : Nat) (Qc : Array Value → State → Outcome → State → Prop) (free : Addr → Prop) (r : Nat) (f : Int32 → Option Nat) : Prop := ∀ (x1 : Int32) (locs : List Loc) (ls : Array Slot), (∀ q ∈ locs, free q.base) → lv_has ls 2 [(0, .ref (cSa Z 0)), (1, .int x1)] → f x1 = some r → W p l e R s m args below meth c H locs cells slots (MQ below Qc args s cells slots free) (F0 m 0 ls [])
def cf_text (C : St) (x1 : Int32) : Option Nat :=
  if x1 = 0 then (some 0)
  else (some 1)
theorem cf_text_w0 {p : Program} {l : Launch} {e : Env} {R : Room} {s : State} {m : MethodId} {args : Array Value} {below : List Frame} {meth : Method} {c : Code} {Z : CZ} {Y : CY} {A : Nat → Prop} {C : St} {H : Heap} {cells slots : Nat} {Qc : Array Value → State → Outcome → State → Prop} {free : Addr → Prop} (X : CCx p s m args meth c cX0_text 2 (some (.object "SecondChances$Text")) RX0 Z) (hM : cPD Z Y A C H) (hR : cf_text_rm.frames ≤ R.frames ∧ cf_text_rm.locals ≤ R.locals ∧ cells ≤ R.cells ∧ slots ≤ R.slots) (hF : ∀ q, cFr Z q → free q) {r : Nat} (hQ : ∀ t : State, t.heap = H → s.WarmedH t.vm → Qc args s (.returned (some (.ref (cSa Z (40 + r))))) t) : cf_text_P0 p l e R s m args below meth c Z Y H cells slots Qc free r (cf_text C) := by
  intro x1 locs ls hL hl h
  obtain ⟨⟨hx, hb, hr, hlocks, hml, hown, hts⟩, hK⟩ := id X
  unfold cf_text at h
  refine lv_iload_n hx hb dX0_text_0 rfl (lv_at hl 1 rfl) ?_
  refine lv_if_ne (tgt := 11) hx hb dX0_text_1 (by decide) (fun c1 => ?_) (fun c1 => ?_)
  · have h := in_ c1 h
    refine lv_aload_n hx hb dX0_text_11 rfl (lv_at hl 0 rfl) ?_
    refine gc6 X hM dX0_text_12 ?_
    have h := so_ h
    subst h
    exact W.aret hx hb hr (Or.inl ⟨_, rfl⟩) (Or.inr ⟨_, rfl⟩) (fun t ht hW => hQ t ht hW) hL dX0_text_15
  · have h := ip_ c1 h
    refine lv_aload_n hx hb dX0_text_4 rfl (lv_at hl 0 rfl) ?_
    refine gc5 X hM dX0_text_5 ?_
    refine lv_goto (tgt := 15) hx hb dX0_text_8 (by decide) ?_
    have h := so_ h
    subst h
    exact W.aret hx hb hr (Or.inl ⟨_, rfl⟩) (Or.inr ⟨_, rfl⟩) (fun t ht hW => hQ t ht hW) hL dX0_text_15
theorem cf_text_hd : yX0_text.cls = RX0 ∧ yX0_text.cls ≠ "java/lang/invoke/MethodHandle" ∧ yX0_text.cls ≠ "java/lang/invoke/VarHandle" ∧ (parseMethodDescriptor yX0_text.desc).map (fun d => d.parameters.length) = some 1 := by decide +kernel
theorem cf_text_met (l : Launch) (Z : CZ) (Y : CY) (A : Nat → Prop) (C : St) (x1 : Int32) (r : Nat) (h : cf_text C x1 = some r) : Met l yX0_text (ws_ yX0_text cX0_text 2 (some (.object "SecondChances$Text"))) cf_text_rm (va_Pc [.ref (cSa Z 0), .int x1] (cS Z Y A C)) (Qro (some (.ref (cSa Z (40 + r))))) 0 0 (cFr Z) := by
  refine Met.ofW (cc := cX0_text) (maxL := 2) (ret := some (.object "SecondChances$Text")) (by decide) rfl ?_
  intro p e s m args below meth c s₁ B hml hv
  obtain ⟨rfl, hv⟩ := hv
  have hts := atoms_spec (ws := ws_ yX0_text cX0_text 2 (some (.object "SecondChances$Text"))) B.pre
  have hts : ∀ w ∈ lw_all, w.before _ s = true := fun w h => hts w (List.mem_cons_of_mem _ h)
  have X : CCx p s m _ meth c cX0_text 2 (some (.object "SecondChances$Text")) RX0 Z := ⟨⟨B.exec, B.bytes, B.returns, B.notSynchronized, hml, findClass_of_methodNamed B.named, hts⟩, hv.2⟩
  have hl := lv_entry [.ref (cSa Z 0), .int x1] (n := 2) (Nat.le_of_ble_eq_true rfl)
  rw [lg_entry_eq]
  generalize (lg_sl [.ref (cSa Z 0), .int x1] ++ List.replicate (2 - (lg_sl [.ref (cSa Z 0), .int x1]).length) Slot.unset).toArray = ls at hl ⊢
  exact cf_text_w0 X hv.1 ⟨Nat.le_refl _, Nat.le_refl _, Nat.le_refl _, Nat.le_refl _⟩ (fun _ h => h) (fun t ht _ => ⟨rfl, ht⟩) x1 [] ls (fun q hq => by cases hq) hl h

/-! SecondChances.count(I)I -/
def cf_count_rm : Room := { frames := 5, cells := 0, slots := 0, locals := 108 }
def cf_count_P57 (p : Program) (l : Launch) (e : Env) (R : Room) (s : State) (m : MethodId) (args : Array Value) (below : List Frame) (meth : Method) (c : Code) (Z : CZ) (Y : CY) (H : Heap) (cells slots : Nat) (Qc : Array Value → State → Outcome → State → Prop) (free : Addr → Prop) (r : Int32) (f : Int32 → Option Int32) : Prop := ∀ (x1 : Int32) (locs : List Loc) (ls : Array Slot), (∀ q ∈ locs, free q.base) → lv_has ls 4 [(0, .ref (cSa Z 0)), (1, .int x1)] → f x1 = some r → W p l e R s m args below meth c H locs cells slots (MQ below Qc args s cells slots free) (F0 m 57 ls [])
def cf_count_P115 (p : Program) (l : Launch) (e : Env) (R : Room) (s : State) (m : MethodId) (args : Array Value) (below : List Frame) (meth : Method) (c : Code) (Z : CZ) (Y : CY) (H : Heap) (cells slots : Nat) (Qc : Array Value → State → Outcome → State → Prop) (free : Addr → Prop) (r : Int32) (f : Int32 → Int32 → Option Int32) : Prop := ∀ (x2 : Int32) (x3 : Int32) (locs : List Loc) (ls : Array Slot), (∀ q ∈ locs, free q.base) → lv_has ls 4 [(0, .ref (cSa Z 0)), (2, .int x2), (3, .int x3)] → f x2 x3 = some r → W p l e R s m args below meth c H locs cells slots (MQ below Qc args s cells slots free) (F0 m 115 ls [])
def cf_count_P0 (p : Program) (l : Launch) (e : Env) (R : Room) (s : State) (m : MethodId) (args : Array Value) (below : List Frame) (meth : Method) (c : Code) (Z : CZ) (Y : CY) (H : Heap) (cells slots : Nat) (Qc : Array Value → State → Outcome → State → Prop) (free : Addr → Prop) (r : Int32) (f : Int32 → Option Int32) : Prop := ∀ (x1 : Int32) (locs : List Loc) (ls : Array Slot), (∀ q ∈ locs, free q.base) → lv_has ls 4 [(0, .ref (cSa Z 0)), (1, .int x1)] → f x1 = some r → W p l e R s m args below meth c H locs cells slots (MQ below Qc args s cells slots free) (F0 m 0 ls [])
def cf_count_b57 (C : St) (x1 : Int32) : Option Int32 :=
  bd_ (cf_text C (x1 - (1 : Int32))) fun v1 =>
  gd_ (v1 < 2) <|
  some (C (40 + v1) 1)
theorem cf_count_w57 {p : Program} {l : Launch} {e : Env} {R : Room} {s : State} {m : MethodId} {args : Array Value} {below : List Frame} {meth : Method} {c : Code} {Z : CZ} {Y : CY} {A : Nat → Prop} {C : St} {H : Heap} {cells slots : Nat} {Qc : Array Value → State → Outcome → State → Prop} {free : Addr → Prop} (X : CCx p s m args meth c cX0_count 4 (some .int) RX0 Z) (hM : cPD Z Y A C H) (hR : cf_count_rm.frames ≤ R.frames ∧ cf_count_rm.locals ≤ R.locals ∧ cells ≤ R.cells ∧ slots ≤ R.slots) (hF : ∀ q, cFr Z q → free q) {r : Int32} (hQ : ∀ t : State, t.heap = H → s.WarmedH t.vm → Qc args s (.returned (some (.int r))) t) : cf_count_P57 p l e R s m args below meth c Z Y H cells slots Qc free r (cf_count_b57 C) := by
  intro x1 locs ls hL hl h
  obtain ⟨⟨hx, hb, hr, hlocks, hml, hown, hts⟩, hK⟩ := id X
  unfold cf_count_b57 at h
  refine lv_aload_n hx hb dX0_count_57 rfl (lv_at hl 0 rfl) ?_
  refine lv_iload_n hx hb dX0_count_58 rfl (lv_at hl 1 rfl) ?_
  refine lv_iconst (v := 1) hx hb dX0_count_59 (by decide) ?_
  refine lv_isub hx hb dX0_count_60 ?_
  obtain ⟨v1, q_v1, h⟩ := bd_e h
  refine f_roR (As := [.int (x1 - (1 : Int32))]) (rest := []) X hM (c_recv0 X hM) hL hF (cf_text_met _ Z Y A C (x1 - (1 : Int32)) v1 q_v1) (lw_V q353 q355 qs1 q79 q356) cf_text_hd ⟨rfl, rfl⟩ ⟨Nat.le_trans (m := cf_count_rm.frames) (Nat.le_of_ble_eq_true rfl) hR.1, Nat.le_trans (m := cf_count_rm.locals) (Nat.le_of_ble_eq_true rfl) hR.2.1⟩ ⟨hR.2.2.1, hR.2.2.2⟩ rfl hl.1 rfl (Nat.le_of_ble_eq_true rfl) dX0_count_61 (fun locs hL => ?_)
  obtain ⟨b2, h⟩ := gd_e h
  refine gtn1 X hM b2 dX0_count_64 ?_
  have h := so_ h
  subst h
  exact W.iret hx hb hr (fun t ht hW => hQ t ht hW) hL dX0_count_67
def cf_count_b115 (C : St) (k115 : Int32 → Int32 → Option Int32) (x2 : Int32) (x3 : Int32) : Option Int32 :=
  if (8 : Int32) ≤ x3 then (some x2)
  else (al_ 8 (C 2) x3 fun v2 =>
    lt_ (x2 + v2) fun v3 =>
    k115 v3 (x3 + 1))
theorem cf_count_w115 {p : Program} {l : Launch} {e : Env} {R : Room} {s : State} {m : MethodId} {args : Array Value} {below : List Frame} {meth : Method} {c : Code} {Z : CZ} {Y : CY} {A : Nat → Prop} {C : St} {H : Heap} {cells slots : Nat} {Qc : Array Value → State → Outcome → State → Prop} {free : Addr → Prop} (X : CCx p s m args meth c cX0_count 4 (some .int) RX0 Z) (hM : cPD Z Y A C H) (hR : cf_count_rm.frames ≤ R.frames ∧ cf_count_rm.locals ≤ R.locals ∧ cells ≤ R.cells ∧ slots ≤ R.slots) (hF : ∀ q, cFr Z q → free q) {r : Int32} (hQ : ∀ t : State, t.heap = H → s.WarmedH t.vm → Qc args s (.returned (some (.int r))) t) {k115 : Int32 → Int32 → Option Int32} (hk115 : cf_count_P115 p l e R s m args below meth c Z Y H cells slots Qc free r k115) : cf_count_P115 p l e R s m args below meth c Z Y H cells slots Qc free r (cf_count_b115 C k115) := by
  intro x2 x3 locs ls hL hl h
  obtain ⟨⟨hx, hb, hr, hlocks, hml, hown, hts⟩, hK⟩ := id X
  unfold cf_count_b115 at h
  refine lv_iload_n hx hb dX0_count_115 rfl (lv_at hl 2 rfl) ?_
  refine lv_bipush (v := 8) hx hb dX0_count_116 (by decide) ?_
  refine lv_icmp_ge (tgt := 136) hx hb dX0_count_118 (by decide) (fun c1 => ?_) (fun c1 => ?_)
  · have h := ip_ c1 h
    refine lv_iload_n hx hb dX0_count_136 rfl (lv_at hl 1 rfl) ?_
    have h := so_ h
    subst h
    exact W.iret hx hb hr (fun t ht hW => hQ t ht hW) hL dX0_count_137
  · have h := in_ c1 h
    refine lv_iload_n hx hb dX0_count_121 rfl (lv_at hl 1 rfl) ?_
    refine lv_aload_n hx hb dX0_count_122 rfl (lv_at hl 0 rfl) ?_
    refine gc2 X hM dX0_count_123 ?_
    refine lv_iload_n hx hb dX0_count_126 rfl (lv_at hl 2 rfl) ?_
    obtain ⟨i_v2, h⟩ := al_e h
    refine c_ald X hM (k := 2) (cHs_S (by decide)) (fun _ _ _ => rfl) (cAr_s (by decide)) i_v2 dX0_count_127 (fun v2 e_v2 => ?_)
    have h := h v2 e_v2
    refine lv_iadd hx hb dX0_count_128 ?_
    refine lv_topi (fun v3 e_v3 => ?_)
    have h := lt_i h e_v3
    refine lv_istore_n (lv' := [(2, .int v3), (0, .ref (cSa Z 0)), (3, .int x3)]) hx hb dX0_count_129 rfl hl (by decide) rfl (fun ls hl => ?_)
    refine lv_iinc (v := (x3 + 1)) (lv' := [(3, .int (x3 + 1)), (2, .int v3), (0, .ref (cSa Z 0))]) hx hb dX0_count_130 hl (k := 2) rfl rfl (by decide) rfl (fun ls hl => ?_)
    refine lv_goto (tgt := 115) hx hb dX0_count_133 (by decide) ?_
    exact hk115 v3 (x3 + 1) _ ls hL (lv_sub hl [2, 1, 0] rfl) h
def cf_count_l115 (C : St) (n : Nat) : Int32 → Int32 → Option Int32 := lp (fun _ _ => none) (cf_count_b115 C) n
theorem cf_count_lw115 {p : Program} {l : Launch} {e : Env} {R : Room} {s : State} {m : MethodId} {args : Array Value} {below : List Frame} {meth : Method} {c : Code} {Z : CZ} {Y : CY} {A : Nat → Prop} {C : St} {H : Heap} {cells slots : Nat} {Qc : Array Value → State → Outcome → State → Prop} {free : Addr → Prop} (X : CCx p s m args meth c cX0_count 4 (some .int) RX0 Z) (hM : cPD Z Y A C H) (hR : cf_count_rm.frames ≤ R.frames ∧ cf_count_rm.locals ≤ R.locals ∧ cells ≤ R.cells ∧ slots ≤ R.slots) (hF : ∀ q, cFr Z q → free q) {r : Int32} (hQ : ∀ t : State, t.heap = H → s.WarmedH t.vm → Qc args s (.returned (some (.int r))) t) : ∀ n : Nat, cf_count_P115 p l e R s m args below meth c Z Y H cells slots Qc free r (cf_count_l115 C n) := by
  intro n
  induction n with
  | zero => intro x2 x3 locs ls hL hl h; exact no_ h
  | succ n ih => exact cf_count_w115 X hM hR hF hQ ih
def cf_count (C : St) (x1 : Int32) : Option Int32 :=
  if x1 = 0 then (bd_ (cf_deeds C ) fun v2 =>
    some v2)
  else (if x1 = 1 then (cf_count_b57 C x1)
    else (if x1 = 2 then (cf_count_b57 C x1)
      else (if x1 = 3 then (bd_ (cfT_read C 1) fun v6 =>
          some (C 41 8))
        else (if x1 = 4 then (bd_ (cfL_size C 1 ) fun v8 =>
            some v8)
          else (if x1 = 5 then (bd_ (cfL_size C 2 ) fun v10 =>
              some v10)
            else (if x1 = 6 then (bd_ (cf_deeds C ) fun v12 =>
                bd_ (cf_worthOf C (((1 : Int32) <<< (v12 &&& 31)) - (1 : Int32))) fun v13 =>
                some v13)
              else (if x1 = 7 then (cf_count_l115 C FU (0 : Int32) (0 : Int32))
                else (if x1 = 8 then (some (C 0 0))
                  else (some (-2 : Int32))))))))))
theorem cf_count_w0 {p : Program} {l : Launch} {e : Env} {R : Room} {s : State} {m : MethodId} {args : Array Value} {below : List Frame} {meth : Method} {c : Code} {Z : CZ} {Y : CY} {A : Nat → Prop} {C : St} {H : Heap} {cells slots : Nat} {Qc : Array Value → State → Outcome → State → Prop} {free : Addr → Prop} (X : CCx p s m args meth c cX0_count 4 (some .int) RX0 Z) (hM : cPD Z Y A C H) (hR : cf_count_rm.frames ≤ R.frames ∧ cf_count_rm.locals ≤ R.locals ∧ cells ≤ R.cells ∧ slots ≤ R.slots) (hF : ∀ q, cFr Z q → free q) {r : Int32} (hQ : ∀ t : State, t.heap = H → s.WarmedH t.vm → Qc args s (.returned (some (.int r))) t) : cf_count_P0 p l e R s m args below meth c Z Y H cells slots Qc free r (cf_count C) := by
  intro x1 locs ls hL hl h
  obtain ⟨⟨hx, hb, hr, hlocks, hml, hown, hts⟩, hK⟩ := id X
  unfold cf_count at h
  refine lv_iconst (v := 0) hx hb dX0_count_0 (by decide) ?_
  refine lv_istore_n (lv' := [(2, .int (0 : Int32)), (0, .ref (cSa Z 0)), (1, .int x1)]) hx hb dX0_count_1 rfl hl (by decide) rfl (fun ls hl => ?_)
  refine lv_iload_n hx hb dX0_count_2 rfl (lv_at hl 2 rfl) ?_
  by_cases c1 : x1 = 0
  · have h := ip_ c1 h
    refine lv_tableIn (tgt := 52) hx hb dX0_count_3 (by rw [c1]; decide) (by rw [c1]; decide) (by rw [c1]; rfl) (by decide) ?_
    refine lv_aload_n hx hb dX0_count_52 rfl (lv_at hl 1 rfl) ?_
    obtain ⟨v2, q_v2, h⟩ := bd_e h
    refine f_roI (As := []) (rest := []) X hM (c_recv0 X hM) hL hF (cf_deeds_met _ Z Y A C  v2 q_v2) (lw_V q630 q632 qs7 q79 q633) cf_deeds_hd ⟨rfl, rfl⟩ ⟨Nat.le_trans (m := cf_count_rm.frames) (Nat.le_of_ble_eq_true rfl) hR.1, Nat.le_trans (m := cf_count_rm.locals) (Nat.le_of_ble_eq_true rfl) hR.2.1⟩ ⟨hR.2.2.1, hR.2.2.2⟩ rfl hl.1 rfl (Nat.le_of_ble_eq_true rfl) dX0_count_53 (fun locs hL => ?_)
    have h := so_ h
    subst h
    exact W.iret hx hb hr (fun t ht hW => hQ t ht hW) hL dX0_count_56
  have h := in_ c1 h
  by_cases c3 : x1 = 1
  · have h := ip_ c3 h
    refine lv_tableIn (tgt := 57) hx hb dX0_count_3 (by rw [c3]; decide) (by rw [c3]; decide) (by rw [c3]; rfl) (by decide) ?_
    exact cf_count_w57 X hM hR hF hQ x1 _ ls hL (lv_sub hl [1, 2] rfl) h
  have h := in_ c3 h
  by_cases c4 : x1 = 2
  · have h := ip_ c4 h
    refine lv_tableIn (tgt := 57) hx hb dX0_count_3 (by rw [c4]; decide) (by rw [c4]; decide) (by rw [c4]; rfl) (by decide) ?_
    exact cf_count_w57 X hM hR hF hQ x1 _ ls hL (lv_sub hl [1, 2] rfl) h
  have h := in_ c4 h
  by_cases c5 : x1 = 3
  · have h := ip_ c5 h
    refine lv_tableIn (tgt := 68) hx hb dX0_count_3 (by rw [c5]; decide) (by rw [c5]; decide) (by rw [c5]; rfl) (by decide) ?_
    refine lv_aload_n hx hb dX0_count_68 rfl (lv_at hl 1 rfl) ?_
    refine gc6 X hM dX0_count_69 ?_
    obtain ⟨v6, q_v6, h⟩ := bd_e h
    refine f_roUI (As := []) (rest := []) (owner := RX2) (x := ⟨RX4, "read", "()I"⟩) X hM (c_recvX1 X hM) hL hF (cfT_read_met _ Z Y A C 1 v6 q_v6) (lw_U q638 q639 q640 q378 q81 q382) rfl (by decide +kernel) ⟨rfl, rfl⟩ ⟨Nat.le_trans (m := cf_count_rm.frames) (Nat.le_of_ble_eq_true rfl) hR.1, Nat.le_trans (m := cf_count_rm.locals) (Nat.le_of_ble_eq_true rfl) hR.2.1⟩ ⟨hR.2.2.1, hR.2.2.2⟩ rfl hl.1 rfl (Nat.le_of_ble_eq_true rfl) dX0_count_72 (fun locs hL => ?_)
    refine lv_pop hx hb dX0_count_75 rfl ?_
    refine lv_aload_n hx hb dX0_count_76 rfl (lv_at hl 1 rfl) ?_
    refine gc6 X hM dX0_count_77 ?_
    refine gr8 X hM dX0_count_80 ?_
    have h := so_ h
    subst h
    exact W.iret hx hb hr (fun t ht hW => hQ t ht hW) hL dX0_count_83
  have h := in_ c5 h
  by_cases c7 : x1 = 4
  · have h := ip_ c7 h
    refine lv_tableIn (tgt := 84) hx hb dX0_count_3 (by rw [c7]; decide) (by rw [c7]; decide) (by rw [c7]; rfl) (by decide) ?_
    refine lv_aload_n hx hb dX0_count_84 rfl (lv_at hl 1 rfl) ?_
    refine gc17 X hM dX0_count_85 ?_
    obtain ⟨v8, q_v8, h⟩ := bd_e h
    refine f_roI (As := []) (rest := []) X hM (c_recvL (j := 1) X hM (by decide)) hL hF (cfL_size_met _ Z Y A C 1  v8 q_v8) (lw_V q641 q418 q419 q85 q420) cfL_size_hd ⟨rfl, rfl⟩ ⟨Nat.le_trans (m := cf_count_rm.frames) (Nat.le_of_ble_eq_true rfl) hR.1, Nat.le_trans (m := cf_count_rm.locals) (Nat.le_of_ble_eq_true rfl) hR.2.1⟩ ⟨hR.2.2.1, hR.2.2.2⟩ rfl hl.1 rfl (Nat.le_of_ble_eq_true rfl) dX0_count_88 (fun locs hL => ?_)
    have h := so_ h
    subst h
    exact W.iret hx hb hr (fun t ht hW => hQ t ht hW) hL dX0_count_91
  have h := in_ c7 h
  by_cases c9 : x1 = 5
  · have h := ip_ c9 h
    refine lv_tableIn (tgt := 92) hx hb dX0_count_3 (by rw [c9]; decide) (by rw [c9]; decide) (by rw [c9]; rfl) (by decide) ?_
    refine lv_aload_n hx hb dX0_count_92 rfl (lv_at hl 1 rfl) ?_
    refine gc18 X hM dX0_count_93 ?_
    obtain ⟨v10, q_v10, h⟩ := bd_e h
    refine f_roI (As := []) (rest := []) X hM (c_recvL (j := 2) X hM (by decide)) hL hF (cfL_size_met _ Z Y A C 2  v10 q_v10) (lw_V q641 q418 q419 q85 q420) cfL_size_hd ⟨rfl, rfl⟩ ⟨Nat.le_trans (m := cf_count_rm.frames) (Nat.le_of_ble_eq_true rfl) hR.1, Nat.le_trans (m := cf_count_rm.locals) (Nat.le_of_ble_eq_true rfl) hR.2.1⟩ ⟨hR.2.2.1, hR.2.2.2⟩ rfl hl.1 rfl (Nat.le_of_ble_eq_true rfl) dX0_count_96 (fun locs hL => ?_)
    have h := so_ h
    subst h
    exact W.iret hx hb hr (fun t ht hW => hQ t ht hW) hL dX0_count_99
  have h := in_ c9 h
  by_cases c11 : x1 = 6
  · have h := ip_ c11 h
    refine lv_tableIn (tgt := 100) hx hb dX0_count_3 (by rw [c11]; decide) (by rw [c11]; decide) (by rw [c11]; rfl) (by decide) ?_
    refine lv_aload_n hx hb dX0_count_100 rfl (lv_at hl 1 rfl) ?_
    refine lv_iconst (v := 1) hx hb dX0_count_101 (by decide) ?_
    refine lv_aload_n hx hb dX0_count_102 rfl (lv_at hl 1 rfl) ?_
    obtain ⟨v12, q_v12, h⟩ := bd_e h
    refine f_roI (As := []) (rest := [.int (1 : Int32), .ref (cSa Z 0)]) X hM (c_recv0 X hM) hL hF (cf_deeds_met _ Z Y A C  v12 q_v12) (lw_V q630 q632 qs7 q79 q633) cf_deeds_hd ⟨rfl, rfl⟩ ⟨Nat.le_trans (m := cf_count_rm.frames) (Nat.le_of_ble_eq_true rfl) hR.1, Nat.le_trans (m := cf_count_rm.locals) (Nat.le_of_ble_eq_true rfl) hR.2.1⟩ ⟨hR.2.2.1, hR.2.2.2⟩ rfl hl.1 rfl (Nat.le_of_ble_eq_true rfl) dX0_count_103 (fun locs hL => ?_)
    refine lv_ishl hx hb dX0_count_106 ?_
    refine lv_iconst (v := 1) hx hb dX0_count_107 (by decide) ?_
    refine lv_isub hx hb dX0_count_108 ?_
    obtain ⟨v13, q_v13, h⟩ := bd_e h
    refine f_roI (As := [.int (((1 : Int32) <<< (v12 &&& 31)) - (1 : Int32))]) (rest := []) X hM (c_recv0 X hM) hL hF (cf_worthOf_met _ Z Y A C (((1 : Int32) <<< (v12 &&& 31)) - (1 : Int32)) v13 q_v13) (lw_V q747 q749 qs21 q79 q750) cf_worthOf_hd ⟨rfl, rfl⟩ ⟨Nat.le_trans (m := cf_count_rm.frames) (Nat.le_of_ble_eq_true rfl) hR.1, Nat.le_trans (m := cf_count_rm.locals) (Nat.le_of_ble_eq_true rfl) hR.2.1⟩ ⟨hR.2.2.1, hR.2.2.2⟩ rfl hl.1 rfl (Nat.le_of_ble_eq_true rfl) dX0_count_109 (fun locs hL => ?_)
    have h := so_ h
    subst h
    exact W.iret hx hb hr (fun t ht hW => hQ t ht hW) hL dX0_count_112
  have h := in_ c11 h
  by_cases c14 : x1 = 7
  · have h := ip_ c14 h
    refine lv_tableIn (tgt := 113) hx hb dX0_count_3 (by rw [c14]; decide) (by rw [c14]; decide) (by rw [c14]; rfl) (by decide) ?_
    refine lv_iconst (v := 0) hx hb dX0_count_113 (by decide) ?_
    refine lv_istore_n (lv' := [(3, .int (0 : Int32)), (2, .int (0 : Int32)), (0, .ref (cSa Z 0)), (1, .int x1)]) hx hb dX0_count_114 rfl hl (by decide) rfl (fun ls hl => ?_)
    exact cf_count_lw115 X hM hR hF hQ FU (0 : Int32) (0 : Int32) _ ls hL (lv_sub hl [2, 1, 0] rfl) h
  have h := in_ c14 h
  by_cases c15 : x1 = 8
  · have h := ip_ c15 h
    refine lv_tableIn (tgt := 138) hx hb dX0_count_3 (by rw [c15]; decide) (by rw [c15]; decide) (by rw [c15]; rfl) (by decide) ?_
    refine lv_aload_n hx hb dX0_count_138 rfl (lv_at hl 1 rfl) ?_
    refine gc0 X hM dX0_count_139 ?_
    have h := so_ h
    subst h
    exact W.iret hx hb hr (fun t ht hW => hQ t ht hW) hL dX0_count_142
  have h := in_ c15 h
  refine lv_tableOut (tgt := 143) hx hb dX0_count_3 (by have c1_ := lv_neT c1 (show (0 : Int32).toInt = 0 from rfl); have c3_ := lv_neT c3 (show (1 : Int32).toInt = 1 from rfl); have c4_ := lv_neT c4 (show (2 : Int32).toInt = 2 from rfl); have c5_ := lv_neT c5 (show (3 : Int32).toInt = 3 from rfl); have c7_ := lv_neT c7 (show (4 : Int32).toInt = 4 from rfl); have c9_ := lv_neT c9 (show (5 : Int32).toInt = 5 from rfl); have c11_ := lv_neT c11 (show (6 : Int32).toInt = 6 from rfl); have c14_ := lv_neT c14 (show (7 : Int32).toInt = 7 from rfl); have c15_ := lv_neT c15 (show (8 : Int32).toInt = 8 from rfl); omega) (by decide) ?_
  refine lv_bipush (v := -2) hx hb dX0_count_143 (by decide) ?_
  have h := so_ h
  subst h
  exact W.iret hx hb hr (fun t ht hW => hQ t ht hW) hL dX0_count_145
theorem cf_count_hd : yX0_count.cls = RX0 ∧ yX0_count.cls ≠ "java/lang/invoke/MethodHandle" ∧ yX0_count.cls ≠ "java/lang/invoke/VarHandle" ∧ (parseMethodDescriptor yX0_count.desc).map (fun d => d.parameters.length) = some 1 := by decide +kernel
theorem cf_count_met (l : Launch) (Z : CZ) (Y : CY) (A : Nat → Prop) (C : St) (x1 : Int32) (r : Int32) (h : cf_count C x1 = some r) : Met l yX0_count (ws_ yX0_count cX0_count 4 (some .int)) cf_count_rm (va_Pc [.ref (cSa Z 0), .int x1] (cS Z Y A C)) (Qro (some (.int r))) 0 0 (cFr Z) := by
  refine Met.ofW (cc := cX0_count) (maxL := 4) (ret := some .int) (by decide) rfl ?_
  intro p e s m args below meth c s₁ B hml hv
  obtain ⟨rfl, hv⟩ := hv
  have hts := atoms_spec (ws := ws_ yX0_count cX0_count 4 (some .int)) B.pre
  have hts : ∀ w ∈ lw_all, w.before _ s = true := fun w h => hts w (List.mem_cons_of_mem _ h)
  have X : CCx p s m _ meth c cX0_count 4 (some .int) RX0 Z := ⟨⟨B.exec, B.bytes, B.returns, B.notSynchronized, hml, findClass_of_methodNamed B.named, hts⟩, hv.2⟩
  have hl := lv_entry [.ref (cSa Z 0), .int x1] (n := 4) (Nat.le_of_ble_eq_true rfl)
  rw [lg_entry_eq]
  generalize (lg_sl [.ref (cSa Z 0), .int x1] ++ List.replicate (4 - (lg_sl [.ref (cSa Z 0), .int x1]).length) Slot.unset).toArray = ls at hl ⊢
  exact cf_count_w0 X hv.1 ⟨Nat.le_refl _, Nat.le_refl _, Nat.le_refl _, Nat.le_refl _⟩ (fun _ h => h) (fun t ht _ => ⟨rfl, ht⟩) x1 [] ls (fun q hq => by cases hq) hl h

/-! SecondChances.digest()J -/
def cf_digest_rm : Room := { frames := 103, cells := 0, slots := 0, locals := 2376 }
def cf_digest_P348 (p : Program) (l : Launch) (e : Env) (R : Room) (s : State) (m : MethodId) (args : Array Value) (below : List Frame) (meth : Method) (c : Code) (Z : CZ) (A : Nat → Prop) (cells slots : Nat) (Qc : Array Value → State → Outcome → State → Prop) (r : (Int64 × St)) (f : Int64 → Int32 → St → Option (Int64 × St)) : Prop := ∀ (x1 : Int64) (x3 : Int32) (Y : CY) (C : St) (H : Heap) (locs : List Loc) (ls : Array Slot), cPD Z Y A C H → va_S A s.heap H locs → lv_has ls 5 [(0, .ref (cSa Z 0)), (1, .long x1), (3, .int x3)] → f x1 x3 C = some r → W p l e R s m args below meth c H locs cells slots (MQ below Qc args s cells slots A) (F0 m 348 ls [])
def cf_digest_P310 (p : Program) (l : Launch) (e : Env) (R : Room) (s : State) (m : MethodId) (args : Array Value) (below : List Frame) (meth : Method) (c : Code) (Z : CZ) (A : Nat → Prop) (cells slots : Nat) (Qc : Array Value → State → Outcome → State → Prop) (r : (Int64 × St)) (f : Int64 → Int32 → St → Option (Int64 × St)) : Prop := ∀ (x1 : Int64) (x3 : Int32) (Y : CY) (C : St) (H : Heap) (locs : List Loc) (ls : Array Slot), cPD Z Y A C H → va_S A s.heap H locs → lv_has ls 5 [(0, .ref (cSa Z 0)), (1, .long x1), (3, .int x3)] → f x1 x3 C = some r → W p l e R s m args below meth c H locs cells slots (MQ below Qc args s cells slots A) (F0 m 310 ls [])
def cf_digest_P284 (p : Program) (l : Launch) (e : Env) (R : Room) (s : State) (m : MethodId) (args : Array Value) (below : List Frame) (meth : Method) (c : Code) (Z : CZ) (A : Nat → Prop) (cells slots : Nat) (Qc : Array Value → State → Outcome → State → Prop) (r : (Int64 × St)) (f : Int64 → Int32 → St → Option (Int64 × St)) : Prop := ∀ (x1 : Int64) (x3 : Int32) (Y : CY) (C : St) (H : Heap) (locs : List Loc) (ls : Array Slot), cPD Z Y A C H → va_S A s.heap H locs → lv_has ls 5 [(0, .ref (cSa Z 0)), (1, .long x1), (3, .int x3)] → f x1 x3 C = some r → W p l e R s m args below meth c H locs cells slots (MQ below Qc args s cells slots A) (F0 m 284 ls [])
def cf_digest_P219 (p : Program) (l : Launch) (e : Env) (R : Room) (s : State) (m : MethodId) (args : Array Value) (below : List Frame) (meth : Method) (c : Code) (Z : CZ) (A : Nat → Prop) (cells slots : Nat) (Qc : Array Value → State → Outcome → State → Prop) (r : (Int64 × St)) (f : Int64 → Int32 → Int32 → St → Option (Int64 × St)) : Prop := ∀ (x1 : Int64) (x3 : Int32) (x4 : Int32) (Y : CY) (C : St) (H : Heap) (locs : List Loc) (ls : Array Slot), cPD Z Y A C H → va_S A s.heap H locs → lv_has ls 5 [(0, .ref (cSa Z 0)), (1, .long x1), (3, .int x3), (4, .int x4)] → f x1 x3 x4 C = some r → W p l e R s m args below meth c H locs cells slots (MQ below Qc args s cells slots A) (F0 m 219 ls [])
def cf_digest_P211 (p : Program) (l : Launch) (e : Env) (R : Room) (s : State) (m : MethodId) (args : Array Value) (below : List Frame) (meth : Method) (c : Code) (Z : CZ) (A : Nat → Prop) (cells slots : Nat) (Qc : Array Value → State → Outcome → State → Prop) (r : (Int64 × St)) (f : Int64 → Int32 → St → Option (Int64 × St)) : Prop := ∀ (x1 : Int64) (x3 : Int32) (Y : CY) (C : St) (H : Heap) (locs : List Loc) (ls : Array Slot), cPD Z Y A C H → va_S A s.heap H locs → lv_has ls 5 [(0, .ref (cSa Z 0)), (1, .long x1), (3, .int x3)] → f x1 x3 C = some r → W p l e R s m args below meth c H locs cells slots (MQ below Qc args s cells slots A) (F0 m 211 ls [])
def cf_digest_P144 (p : Program) (l : Launch) (e : Env) (R : Room) (s : State) (m : MethodId) (args : Array Value) (below : List Frame) (meth : Method) (c : Code) (Z : CZ) (A : Nat → Prop) (cells slots : Nat) (Qc : Array Value → State → Outcome → State → Prop) (r : (Int64 × St)) (f : Int64 → Int32 → Int32 → St → Option (Int64 × St)) : Prop := ∀ (x1 : Int64) (x3 : Int32) (x4 : Int32) (Y : CY) (C : St) (H : Heap) (locs : List Loc) (ls : Array Slot), cPD Z Y A C H → va_S A s.heap H locs → lv_has ls 5 [(0, .ref (cSa Z 0)), (1, .long x1), (3, .int x3), (4, .int x4)] → f x1 x3 x4 C = some r → W p l e R s m args below meth c H locs cells slots (MQ below Qc args s cells slots A) (F0 m 144 ls [])
def cf_digest_P73 (p : Program) (l : Launch) (e : Env) (R : Room) (s : State) (m : MethodId) (args : Array Value) (below : List Frame) (meth : Method) (c : Code) (Z : CZ) (A : Nat → Prop) (cells slots : Nat) (Qc : Array Value → State → Outcome → State → Prop) (r : (Int64 × St)) (f : Int64 → Int32 → Int32 → St → Option (Int64 × St)) : Prop := ∀ (x1 : Int64) (x3 : Int32) (x4 : Int32) (Y : CY) (C : St) (H : Heap) (locs : List Loc) (ls : Array Slot), cPD Z Y A C H → va_S A s.heap H locs → lv_has ls 5 [(0, .ref (cSa Z 0)), (1, .long x1), (3, .int x3), (4, .int x4)] → f x1 x3 x4 C = some r → W p l e R s m args below meth c H locs cells slots (MQ below Qc args s cells slots A) (F0 m 73 ls [])
def cf_digest_P62 (p : Program) (l : Launch) (e : Env) (R : Room) (s : State) (m : MethodId) (args : Array Value) (below : List Frame) (meth : Method) (c : Code) (Z : CZ) (A : Nat → Prop) (cells slots : Nat) (Qc : Array Value → State → Outcome → State → Prop) (r : (Int64 × St)) (f : Int64 → Int32 → St → Option (Int64 × St)) : Prop := ∀ (x1 : Int64) (x3 : Int32) (Y : CY) (C : St) (H : Heap) (locs : List Loc) (ls : Array Slot), cPD Z Y A C H → va_S A s.heap H locs → lv_has ls 5 [(0, .ref (cSa Z 0)), (1, .long x1), (3, .int x3)] → f x1 x3 C = some r → W p l e R s m args below meth c H locs cells slots (MQ below Qc args s cells slots A) (F0 m 62 ls [])
def cf_digest_P33 (p : Program) (l : Launch) (e : Env) (R : Room) (s : State) (m : MethodId) (args : Array Value) (below : List Frame) (meth : Method) (c : Code) (Z : CZ) (A : Nat → Prop) (cells slots : Nat) (Qc : Array Value → State → Outcome → State → Prop) (r : (Int64 × St)) (f : Int64 → Int32 → St → Option (Int64 × St)) : Prop := ∀ (x1 : Int64) (x3 : Int32) (Y : CY) (C : St) (H : Heap) (locs : List Loc) (ls : Array Slot), cPD Z Y A C H → va_S A s.heap H locs → lv_has ls 5 [(0, .ref (cSa Z 0)), (1, .long x1), (3, .int x3)] → f x1 x3 C = some r → W p l e R s m args below meth c H locs cells slots (MQ below Qc args s cells slots A) (F0 m 33 ls [])
def cf_digest_P22 (p : Program) (l : Launch) (e : Env) (R : Room) (s : State) (m : MethodId) (args : Array Value) (below : List Frame) (meth : Method) (c : Code) (Z : CZ) (A : Nat → Prop) (cells slots : Nat) (Qc : Array Value → State → Outcome → State → Prop) (r : (Int64 × St)) (f : Int32 → Int32 → Int64 → St → Option (Int64 × St)) : Prop := ∀ (x3 : Int32) (t0 : Int32) (t1 : Int64) (Y : CY) (C : St) (H : Heap) (locs : List Loc) (ls : Array Slot), cPD Z Y A C H → va_S A s.heap H locs → lv_has ls 5 [(0, .ref (cSa Z 0)), (3, .int x3)] → f x3 t0 t1 C = some r → W p l e R s m args below meth c H locs cells slots (MQ below Qc args s cells slots A) (F0 m 22 ls [.int t0, .long t1])
def cf_digest_P6 (p : Program) (l : Launch) (e : Env) (R : Room) (s : State) (m : MethodId) (args : Array Value) (below : List Frame) (meth : Method) (c : Code) (Z : CZ) (A : Nat → Prop) (cells slots : Nat) (Qc : Array Value → State → Outcome → State → Prop) (r : (Int64 × St)) (f : Int64 → Int32 → St → Option (Int64 × St)) : Prop := ∀ (x1 : Int64) (x3 : Int32) (Y : CY) (C : St) (H : Heap) (locs : List Loc) (ls : Array Slot), cPD Z Y A C H → va_S A s.heap H locs → lv_has ls 5 [(0, .ref (cSa Z 0)), (1, .long x1), (3, .int x3)] → f x1 x3 C = some r → W p l e R s m args below meth c H locs cells slots (MQ below Qc args s cells slots A) (F0 m 6 ls [])
def cf_digest_P0 (p : Program) (l : Launch) (e : Env) (R : Room) (s : State) (m : MethodId) (args : Array Value) (below : List Frame) (meth : Method) (c : Code) (Z : CZ) (A : Nat → Prop) (cells slots : Nat) (Qc : Array Value → State → Outcome → State → Prop) (r : (Int64 × St)) (f : St → Option (Int64 × St)) : Prop := ∀ (Y : CY) (C : St) (H : Heap) (locs : List Loc) (ls : Array Slot), cPD Z Y A C H → va_S A s.heap H locs → lv_has ls 5 [(0, .ref (cSa Z 0))] → f  C = some r → W p l e R s m args below meth c H locs cells slots (MQ below Qc args s cells slots A) (F0 m 0 ls [])
def cf_digest_b348 (k348 : Int64 → Int32 → St → Option (Int64 × St)) (x1 : Int64) (x3 : Int32) (C : St) : Option (Int64 × St) :=
  if (2 : Int32) ≤ x3 then (some (x1, C))
  else (bd_ (cf_regretsOf C (2 : Int32) x3) fun v2 =>
    lt_ (((31 : Int64) * x1) + v2) fun v3 =>
    k348 v3 (x3 + 1) C)
theorem cf_digest_w348 {p : Program} {l : Launch} {e : Env} {R : Room} {s : State} {m : MethodId} {args : Array Value} {below : List Frame} {meth : Method} {c : Code} {Z : CZ} {A : Nat → Prop} {cells slots : Nat} {Qc : Array Value → State → Outcome → State → Prop} (X : CCx p s m args meth c cX0_digest 5 (some .long) RX0 Z) (hR : cf_digest_rm.frames ≤ R.frames ∧ cf_digest_rm.locals ≤ R.locals ∧ cells ≤ R.cells ∧ slots ≤ R.slots) (hA : ∀ q, s.heap.size ≤ q → A q) {r : (Int64 × St)} (hQ : ∀ (Y : CY) (H : Heap) (locs : List Loc) (t : State), cPD Z Y A r.2 H → va_S A s.heap H locs → t.heap = H → s.WarmedH t.vm → Qc args s (.returned (some (.long r.1))) t) {k348 : Int64 → Int32 → St → Option (Int64 × St)} (hk348 : cf_digest_P348 p l e R s m args below meth c Z A cells slots Qc r k348) : cf_digest_P348 p l e R s m args below meth c Z A cells slots Qc r (cf_digest_b348 k348) := by
  intro x1 x3 Y C H locs ls hM hS hl h
  obtain ⟨⟨hx, hb, hr, hlocks, hml, hown, hts⟩, hK⟩ := id X
  unfold cf_digest_b348 at h
  refine lv_iload_n hx hb dX0_digest_348 rfl (lv_at hl 2 rfl) ?_
  refine lv_iconst (v := 2) hx hb dX0_digest_349 (by decide) ?_
  refine lv_icmp_ge (tgt := 372) hx hb dX0_digest_350 (by decide) (fun c1 => ?_) (fun c1 => ?_)
  · have h := ip_ c1 h
    refine lv_lload_n hx hb dX0_digest_372 rfl (lv_at hl 1 rfl) ?_
    have h := so_ h
    subst h
    exact W.lret hx hb hr (fun t ht hW => hQ _ _ _ t hM hS ht hW) hS.2.2 dX0_digest_373
  · have h := in_ c1 h
    refine lv_ldc2 (v := 31) hx hb hown (hts _ q1038) dX0_digest_353 ?_
    refine lv_lload_n hx hb dX0_digest_356 rfl (lv_at hl 1 rfl) ?_
    refine lv_lmul hx hb dX0_digest_357 ?_
    refine lv_aload_n hx hb dX0_digest_358 rfl (lv_at hl 0 rfl) ?_
    refine lv_iconst (v := 2) hx hb dX0_digest_359 (by decide) ?_
    refine lv_iload_n hx hb dX0_digest_360 rfl (lv_at hl 2 rfl) ?_
    obtain ⟨v2, q_v2, h⟩ := bd_e h
    refine f_roJ (As := [.int (2 : Int32), .int x3]) (rest := [.long ((31 : Int64) * x1)]) X hM (c_recv0 X hM) hS.2.2 (cPD.fr hM) (cf_regretsOf_met _ Z Y A C (2 : Int32) x3 v2 q_v2) (lw_V q921 q923 qs39 q79 q924) cf_regretsOf_hd ⟨rfl, rfl⟩ ⟨Nat.le_trans (m := cf_digest_rm.frames) (Nat.le_of_ble_eq_true rfl) hR.1, Nat.le_trans (m := cf_digest_rm.locals) (Nat.le_of_ble_eq_true rfl) hR.2.1⟩ ⟨hR.2.2.1, hR.2.2.2⟩ rfl hl.1 rfl (Nat.le_of_ble_eq_true rfl) dX0_digest_361 (fun locs hL => ?_)
    have hS : va_S A s.heap _ locs := ⟨hS.1, hS.2.1, hL⟩
    refine lv_ladd hx hb dX0_digest_364 ?_
    refine lv_topl (fun v3 e_v3 => ?_)
    have h := lt_i h e_v3
    refine lv_lstore_n (lv' := [(1, .long v3), (0, .ref (cSa Z 0)), (3, .int x3)]) hx hb dX0_digest_365 rfl hl (by decide) rfl (fun ls hl => ?_)
    refine lv_iinc (v := (x3 + 1)) (lv' := [(3, .int (x3 + 1)), (1, .long v3), (0, .ref (cSa Z 0))]) hx hb dX0_digest_366 hl (k := 2) rfl rfl (by decide) rfl (fun ls hl => ?_)
    refine lv_goto (tgt := 348) hx hb dX0_digest_369 (by decide) ?_
    exact hk348 v3 (x3 + 1) _ C _ _ ls hM hS (lv_sub hl [2, 1, 0] rfl) h
def cf_digest_l348 (n : Nat) : Int64 → Int32 → St → Option (Int64 × St) := lp (fun _ _ _ => none) (cf_digest_b348) n
theorem cf_digest_lw348 {p : Program} {l : Launch} {e : Env} {R : Room} {s : State} {m : MethodId} {args : Array Value} {below : List Frame} {meth : Method} {c : Code} {Z : CZ} {A : Nat → Prop} {cells slots : Nat} {Qc : Array Value → State → Outcome → State → Prop} (X : CCx p s m args meth c cX0_digest 5 (some .long) RX0 Z) (hR : cf_digest_rm.frames ≤ R.frames ∧ cf_digest_rm.locals ≤ R.locals ∧ cells ≤ R.cells ∧ slots ≤ R.slots) (hA : ∀ q, s.heap.size ≤ q → A q) {r : (Int64 × St)} (hQ : ∀ (Y : CY) (H : Heap) (locs : List Loc) (t : State), cPD Z Y A r.2 H → va_S A s.heap H locs → t.heap = H → s.WarmedH t.vm → Qc args s (.returned (some (.long r.1))) t) : ∀ n : Nat, cf_digest_P348 p l e R s m args below meth c Z A cells slots Qc r (cf_digest_l348 n) := by
  intro n
  induction n with
  | zero => intro x1 x3 Y C H locs ls hM hS hl h; exact no_ h
  | succ n ih => exact cf_digest_w348 X hR hA hQ ih
def cf_digest_b310 (k310 : Int64 → Int32 → St → Option (Int64 × St)) (x1 : Int64) (x3 : Int32) (C : St) : Option (Int64 × St) :=
  if (2 : Int32) ≤ x3 then (bd_ (cf_bestNow C ) fun v2 =>
    lt_ (((31 : Int64) * x1) + (v2.toInt64)) fun v3 =>
    cf_digest_l348 FU v3 (0 : Int32) C)
  else (bd_ (cf_hatsOf C x3) fun v4 =>
    lt_ (((31 : Int64) * x1) + (v4.toInt64)) fun v5 =>
    k310 v5 (x3 + 1) C)
theorem cf_digest_w310 {p : Program} {l : Launch} {e : Env} {R : Room} {s : State} {m : MethodId} {args : Array Value} {below : List Frame} {meth : Method} {c : Code} {Z : CZ} {A : Nat → Prop} {cells slots : Nat} {Qc : Array Value → State → Outcome → State → Prop} (X : CCx p s m args meth c cX0_digest 5 (some .long) RX0 Z) (hR : cf_digest_rm.frames ≤ R.frames ∧ cf_digest_rm.locals ≤ R.locals ∧ cells ≤ R.cells ∧ slots ≤ R.slots) (hA : ∀ q, s.heap.size ≤ q → A q) {r : (Int64 × St)} (hQ : ∀ (Y : CY) (H : Heap) (locs : List Loc) (t : State), cPD Z Y A r.2 H → va_S A s.heap H locs → t.heap = H → s.WarmedH t.vm → Qc args s (.returned (some (.long r.1))) t) {k310 : Int64 → Int32 → St → Option (Int64 × St)} (hk310 : cf_digest_P310 p l e R s m args below meth c Z A cells slots Qc r k310) : cf_digest_P310 p l e R s m args below meth c Z A cells slots Qc r (cf_digest_b310 k310) := by
  intro x1 x3 Y C H locs ls hM hS hl h
  obtain ⟨⟨hx, hb, hr, hlocks, hml, hown, hts⟩, hK⟩ := id X
  unfold cf_digest_b310 at h
  refine lv_iload_n hx hb dX0_digest_310 rfl (lv_at hl 2 rfl) ?_
  refine lv_iconst (v := 2) hx hb dX0_digest_311 (by decide) ?_
  refine lv_icmp_ge (tgt := 334) hx hb dX0_digest_312 (by decide) (fun c1 => ?_) (fun c1 => ?_)
  · have h := ip_ c1 h
    refine lv_ldc2 (v := 31) hx hb hown (hts _ q1038) dX0_digest_334 ?_
    refine lv_lload_n hx hb dX0_digest_337 rfl (lv_at hl 1 rfl) ?_
    refine lv_lmul hx hb dX0_digest_338 ?_
    refine lv_aload_n hx hb dX0_digest_339 rfl (lv_at hl 0 rfl) ?_
    obtain ⟨v2, q_v2, h⟩ := bd_e h
    refine f_roI (As := []) (rest := [.long ((31 : Int64) * x1)]) X hM (c_recv0 X hM) hS.2.2 (cPD.fr hM) (cf_bestNow_met _ Z Y A C  v2 q_v2) (lw_V q911 q913 qs38 q79 q914) cf_bestNow_hd ⟨rfl, rfl⟩ ⟨Nat.le_trans (m := cf_digest_rm.frames) (Nat.le_of_ble_eq_true rfl) hR.1, Nat.le_trans (m := cf_digest_rm.locals) (Nat.le_of_ble_eq_true rfl) hR.2.1⟩ ⟨hR.2.2.1, hR.2.2.2⟩ rfl hl.1 rfl (Nat.le_of_ble_eq_true rfl) dX0_digest_340 (fun locs hL => ?_)
    have hS : va_S A s.heap _ locs := ⟨hS.1, hS.2.1, hL⟩
    refine lv_i2l hx hb dX0_digest_343 rfl ?_
    refine lv_ladd hx hb dX0_digest_344 ?_
    refine lv_topl (fun v3 e_v3 => ?_)
    have h := lt_i h e_v3
    refine lv_lstore_n (lv' := [(1, .long v3), (0, .ref (cSa Z 0)), (3, .int x3)]) hx hb dX0_digest_345 rfl hl (by decide) rfl (fun ls hl => ?_)
    refine lv_iconst (v := 0) hx hb dX0_digest_346 (by decide) ?_
    refine lv_istore_n (lv' := [(3, .int (0 : Int32)), (1, .long v3), (0, .ref (cSa Z 0))]) hx hb dX0_digest_347 rfl hl (by decide) rfl (fun ls hl => ?_)
    exact cf_digest_lw348 X hR hA hQ FU v3 (0 : Int32) _ C _ _ ls hM hS (lv_sub hl [2, 1, 0] rfl) h
  · have h := in_ c1 h
    refine lv_ldc2 (v := 31) hx hb hown (hts _ q1038) dX0_digest_315 ?_
    refine lv_lload_n hx hb dX0_digest_318 rfl (lv_at hl 1 rfl) ?_
    refine lv_lmul hx hb dX0_digest_319 ?_
    refine lv_aload_n hx hb dX0_digest_320 rfl (lv_at hl 0 rfl) ?_
    refine lv_iload_n hx hb dX0_digest_321 rfl (lv_at hl 2 rfl) ?_
    obtain ⟨v4, q_v4, h⟩ := bd_e h
    refine f_roI (As := [.int x3]) (rest := [.long ((31 : Int64) * x1)]) X hM (c_recv0 X hM) hS.2.2 (cPD.fr hM) (cf_hatsOf_met _ Z Y A C x3 v4 q_v4) (lw_V q874 q876 qs34 q79 q877) cf_hatsOf_hd ⟨rfl, rfl⟩ ⟨Nat.le_trans (m := cf_digest_rm.frames) (Nat.le_of_ble_eq_true rfl) hR.1, Nat.le_trans (m := cf_digest_rm.locals) (Nat.le_of_ble_eq_true rfl) hR.2.1⟩ ⟨hR.2.2.1, hR.2.2.2⟩ rfl hl.1 rfl (Nat.le_of_ble_eq_true rfl) dX0_digest_322 (fun locs hL => ?_)
    have hS : va_S A s.heap _ locs := ⟨hS.1, hS.2.1, hL⟩
    refine lv_i2l hx hb dX0_digest_325 rfl ?_
    refine lv_ladd hx hb dX0_digest_326 ?_
    refine lv_topl (fun v5 e_v5 => ?_)
    have h := lt_i h e_v5
    refine lv_lstore_n (lv' := [(1, .long v5), (0, .ref (cSa Z 0)), (3, .int x3)]) hx hb dX0_digest_327 rfl hl (by decide) rfl (fun ls hl => ?_)
    refine lv_iinc (v := (x3 + 1)) (lv' := [(3, .int (x3 + 1)), (1, .long v5), (0, .ref (cSa Z 0))]) hx hb dX0_digest_328 hl (k := 2) rfl rfl (by decide) rfl (fun ls hl => ?_)
    refine lv_goto (tgt := 310) hx hb dX0_digest_331 (by decide) ?_
    exact hk310 v5 (x3 + 1) _ C _ _ ls hM hS (lv_sub hl [2, 1, 0] rfl) h
def cf_digest_l310 (n : Nat) : Int64 → Int32 → St → Option (Int64 × St) := lp (fun _ _ _ => none) (cf_digest_b310) n
theorem cf_digest_lw310 {p : Program} {l : Launch} {e : Env} {R : Room} {s : State} {m : MethodId} {args : Array Value} {below : List Frame} {meth : Method} {c : Code} {Z : CZ} {A : Nat → Prop} {cells slots : Nat} {Qc : Array Value → State → Outcome → State → Prop} (X : CCx p s m args meth c cX0_digest 5 (some .long) RX0 Z) (hR : cf_digest_rm.frames ≤ R.frames ∧ cf_digest_rm.locals ≤ R.locals ∧ cells ≤ R.cells ∧ slots ≤ R.slots) (hA : ∀ q, s.heap.size ≤ q → A q) {r : (Int64 × St)} (hQ : ∀ (Y : CY) (H : Heap) (locs : List Loc) (t : State), cPD Z Y A r.2 H → va_S A s.heap H locs → t.heap = H → s.WarmedH t.vm → Qc args s (.returned (some (.long r.1))) t) : ∀ n : Nat, cf_digest_P310 p l e R s m args below meth c Z A cells slots Qc r (cf_digest_l310 n) := by
  intro n
  induction n with
  | zero => intro x1 x3 Y C H locs ls hM hS hl h; exact no_ h
  | succ n ih => exact cf_digest_w310 X hR hA hQ ih
def cf_digest_b284 (k284 : Int64 → Int32 → St → Option (Int64 × St)) (x1 : Int64) (x3 : Int32) (C : St) : Option (Int64 × St) :=
  if (3 : Int32) ≤ x3 then (cf_digest_l310 FU x1 (0 : Int32) C)
  else (bd_ (cf_crowdOf C x3) fun v2 =>
    lt_ (((31 : Int64) * x1) + (v2.toInt64)) fun v3 =>
    k284 v3 (x3 + 1) C)
theorem cf_digest_w284 {p : Program} {l : Launch} {e : Env} {R : Room} {s : State} {m : MethodId} {args : Array Value} {below : List Frame} {meth : Method} {c : Code} {Z : CZ} {A : Nat → Prop} {cells slots : Nat} {Qc : Array Value → State → Outcome → State → Prop} (X : CCx p s m args meth c cX0_digest 5 (some .long) RX0 Z) (hR : cf_digest_rm.frames ≤ R.frames ∧ cf_digest_rm.locals ≤ R.locals ∧ cells ≤ R.cells ∧ slots ≤ R.slots) (hA : ∀ q, s.heap.size ≤ q → A q) {r : (Int64 × St)} (hQ : ∀ (Y : CY) (H : Heap) (locs : List Loc) (t : State), cPD Z Y A r.2 H → va_S A s.heap H locs → t.heap = H → s.WarmedH t.vm → Qc args s (.returned (some (.long r.1))) t) {k284 : Int64 → Int32 → St → Option (Int64 × St)} (hk284 : cf_digest_P284 p l e R s m args below meth c Z A cells slots Qc r k284) : cf_digest_P284 p l e R s m args below meth c Z A cells slots Qc r (cf_digest_b284 k284) := by
  intro x1 x3 Y C H locs ls hM hS hl h
  obtain ⟨⟨hx, hb, hr, hlocks, hml, hown, hts⟩, hK⟩ := id X
  unfold cf_digest_b284 at h
  refine lv_iload_n hx hb dX0_digest_284 rfl (lv_at hl 2 rfl) ?_
  refine lv_iconst (v := 3) hx hb dX0_digest_285 (by decide) ?_
  refine lv_icmp_ge (tgt := 308) hx hb dX0_digest_286 (by decide) (fun c1 => ?_) (fun c1 => ?_)
  · have h := ip_ c1 h
    refine lv_iconst (v := 0) hx hb dX0_digest_308 (by decide) ?_
    refine lv_istore_n (lv' := [(3, .int (0 : Int32)), (0, .ref (cSa Z 0)), (1, .long x1)]) hx hb dX0_digest_309 rfl hl (by decide) rfl (fun ls hl => ?_)
    exact cf_digest_lw310 X hR hA hQ FU x1 (0 : Int32) _ C _ _ ls hM hS (lv_sub hl [1, 2, 0] rfl) h
  · have h := in_ c1 h
    refine lv_ldc2 (v := 31) hx hb hown (hts _ q1038) dX0_digest_289 ?_
    refine lv_lload_n hx hb dX0_digest_292 rfl (lv_at hl 1 rfl) ?_
    refine lv_lmul hx hb dX0_digest_293 ?_
    refine lv_aload_n hx hb dX0_digest_294 rfl (lv_at hl 0 rfl) ?_
    refine lv_iload_n hx hb dX0_digest_295 rfl (lv_at hl 2 rfl) ?_
    obtain ⟨v2, q_v2, h⟩ := bd_e h
    refine f_roI (As := [.int x3]) (rest := [.long ((31 : Int64) * x1)]) X hM (c_recv0 X hM) hS.2.2 (cPD.fr hM) (cf_crowdOf_met _ Z Y A C x3 v2 q_v2) (lw_V q802 q804 qs30 q79 q805) cf_crowdOf_hd ⟨rfl, rfl⟩ ⟨Nat.le_trans (m := cf_digest_rm.frames) (Nat.le_of_ble_eq_true rfl) hR.1, Nat.le_trans (m := cf_digest_rm.locals) (Nat.le_of_ble_eq_true rfl) hR.2.1⟩ ⟨hR.2.2.1, hR.2.2.2⟩ rfl hl.1 rfl (Nat.le_of_ble_eq_true rfl) dX0_digest_296 (fun locs hL => ?_)
    have hS : va_S A s.heap _ locs := ⟨hS.1, hS.2.1, hL⟩
    refine lv_i2l hx hb dX0_digest_299 rfl ?_
    refine lv_ladd hx hb dX0_digest_300 ?_
    refine lv_topl (fun v3 e_v3 => ?_)
    have h := lt_i h e_v3
    refine lv_lstore_n (lv' := [(1, .long v3), (0, .ref (cSa Z 0)), (3, .int x3)]) hx hb dX0_digest_301 rfl hl (by decide) rfl (fun ls hl => ?_)
    refine lv_iinc (v := (x3 + 1)) (lv' := [(3, .int (x3 + 1)), (1, .long v3), (0, .ref (cSa Z 0))]) hx hb dX0_digest_302 hl (k := 2) rfl rfl (by decide) rfl (fun ls hl => ?_)
    refine lv_goto (tgt := 284) hx hb dX0_digest_305 (by decide) ?_
    exact hk284 v3 (x3 + 1) _ C _ _ ls hM hS (lv_sub hl [2, 1, 0] rfl) h
def cf_digest_l284 (n : Nat) : Int64 → Int32 → St → Option (Int64 × St) := lp (fun _ _ _ => none) (cf_digest_b284) n
theorem cf_digest_lw284 {p : Program} {l : Launch} {e : Env} {R : Room} {s : State} {m : MethodId} {args : Array Value} {below : List Frame} {meth : Method} {c : Code} {Z : CZ} {A : Nat → Prop} {cells slots : Nat} {Qc : Array Value → State → Outcome → State → Prop} (X : CCx p s m args meth c cX0_digest 5 (some .long) RX0 Z) (hR : cf_digest_rm.frames ≤ R.frames ∧ cf_digest_rm.locals ≤ R.locals ∧ cells ≤ R.cells ∧ slots ≤ R.slots) (hA : ∀ q, s.heap.size ≤ q → A q) {r : (Int64 × St)} (hQ : ∀ (Y : CY) (H : Heap) (locs : List Loc) (t : State), cPD Z Y A r.2 H → va_S A s.heap H locs → t.heap = H → s.WarmedH t.vm → Qc args s (.returned (some (.long r.1))) t) : ∀ n : Nat, cf_digest_P284 p l e R s m args below meth c Z A cells slots Qc r (cf_digest_l284 n) := by
  intro n
  induction n with
  | zero => intro x1 x3 Y C H locs ls hM hS hl h; exact no_ h
  | succ n ih => exact cf_digest_w284 X hR hA hQ ih
def cf_digest_b219 (k211 : Int64 → Int32 → St → Option (Int64 × St)) (k219 : Int64 → Int32 → Int32 → St → Option (Int64 × St)) (x1 : Int64) (x3 : Int32) (x4 : Int32) (C : St) : Option (Int64 × St) :=
  if (3 : Int32) ≤ x4 then (k211 x1 (x3 + 1) C)
  else (bd_ (cf_ruleOf C x3 x4) fun v2 =>
    lt_ (((31 : Int64) * x1) + (v2.toInt64)) fun v3 =>
    k219 v3 x3 (x4 + 1) C)
theorem cf_digest_w219 {p : Program} {l : Launch} {e : Env} {R : Room} {s : State} {m : MethodId} {args : Array Value} {below : List Frame} {meth : Method} {c : Code} {Z : CZ} {A : Nat → Prop} {cells slots : Nat} {Qc : Array Value → State → Outcome → State → Prop} (X : CCx p s m args meth c cX0_digest 5 (some .long) RX0 Z) (hR : cf_digest_rm.frames ≤ R.frames ∧ cf_digest_rm.locals ≤ R.locals ∧ cells ≤ R.cells ∧ slots ≤ R.slots) (hA : ∀ q, s.heap.size ≤ q → A q) {r : (Int64 × St)} (hQ : ∀ (Y : CY) (H : Heap) (locs : List Loc) (t : State), cPD Z Y A r.2 H → va_S A s.heap H locs → t.heap = H → s.WarmedH t.vm → Qc args s (.returned (some (.long r.1))) t) {k211 : Int64 → Int32 → St → Option (Int64 × St)} (hk211 : cf_digest_P211 p l e R s m args below meth c Z A cells slots Qc r k211) {k219 : Int64 → Int32 → Int32 → St → Option (Int64 × St)} (hk219 : cf_digest_P219 p l e R s m args below meth c Z A cells slots Qc r k219) : cf_digest_P219 p l e R s m args below meth c Z A cells slots Qc r (cf_digest_b219 k211 k219) := by
  intro x1 x3 x4 Y C H locs ls hM hS hl h
  obtain ⟨⟨hx, hb, hr, hlocks, hml, hown, hts⟩, hK⟩ := id X
  unfold cf_digest_b219 at h
  refine lv_iload hx hb dX0_digest_219 (lv_at hl 3 rfl) ?_
  refine lv_iconst (v := 3) hx hb dX0_digest_221 (by decide) ?_
  refine lv_icmp_ge (tgt := 246) hx hb dX0_digest_222 (by decide) (fun c1 => ?_) (fun c1 => ?_)
  · have h := ip_ c1 h
    refine lv_iinc (v := (x3 + 1)) (lv' := [(3, .int (x3 + 1)), (0, .ref (cSa Z 0)), (1, .long x1), (4, .int x4)]) hx hb dX0_digest_246 hl (k := 2) rfl rfl (by decide) rfl (fun ls hl => ?_)
    refine lv_goto (tgt := 211) hx hb dX0_digest_249 (by decide) ?_
    exact hk211 x1 (x3 + 1) _ C _ _ ls hM hS (lv_sub hl [1, 2, 0] rfl) h
  · have h := in_ c1 h
    refine lv_ldc2 (v := 31) hx hb hown (hts _ q1038) dX0_digest_225 ?_
    refine lv_lload_n hx hb dX0_digest_228 rfl (lv_at hl 1 rfl) ?_
    refine lv_lmul hx hb dX0_digest_229 ?_
    refine lv_aload_n hx hb dX0_digest_230 rfl (lv_at hl 0 rfl) ?_
    refine lv_iload_n hx hb dX0_digest_231 rfl (lv_at hl 2 rfl) ?_
    refine lv_iload hx hb dX0_digest_232 (lv_at hl 3 rfl) ?_
    obtain ⟨v2, q_v2, h⟩ := bd_e h
    refine f_roI (As := [.int x3, .int x4]) (rest := [.long ((31 : Int64) * x1)]) X hM (c_recv0 X hM) hS.2.2 (cPD.fr hM) (cf_ruleOf_met _ Z Y A C x3 x4 v2 q_v2) (lw_V q671 q673 qs10 q79 q674) cf_ruleOf_hd ⟨rfl, rfl⟩ ⟨Nat.le_trans (m := cf_digest_rm.frames) (Nat.le_of_ble_eq_true rfl) hR.1, Nat.le_trans (m := cf_digest_rm.locals) (Nat.le_of_ble_eq_true rfl) hR.2.1⟩ ⟨hR.2.2.1, hR.2.2.2⟩ rfl hl.1 rfl (Nat.le_of_ble_eq_true rfl) dX0_digest_234 (fun locs hL => ?_)
    have hS : va_S A s.heap _ locs := ⟨hS.1, hS.2.1, hL⟩
    refine lv_i2l hx hb dX0_digest_237 rfl ?_
    refine lv_ladd hx hb dX0_digest_238 ?_
    refine lv_topl (fun v3 e_v3 => ?_)
    have h := lt_i h e_v3
    refine lv_lstore_n (lv' := [(1, .long v3), (0, .ref (cSa Z 0)), (3, .int x3), (4, .int x4)]) hx hb dX0_digest_239 rfl hl (by decide) rfl (fun ls hl => ?_)
    refine lv_iinc (v := (x4 + 1)) (lv' := [(4, .int (x4 + 1)), (1, .long v3), (0, .ref (cSa Z 0)), (3, .int x3)]) hx hb dX0_digest_240 hl (k := 3) rfl rfl (by decide) rfl (fun ls hl => ?_)
    refine lv_goto (tgt := 219) hx hb dX0_digest_243 (by decide) ?_
    exact hk219 v3 x3 (x4 + 1) _ C _ _ ls hM hS (lv_sub hl [2, 1, 3, 0] rfl) h
def cf_digest_l219 (k211 : Int64 → Int32 → St → Option (Int64 × St)) (n : Nat) : Int64 → Int32 → Int32 → St → Option (Int64 × St) := lp (fun _ _ _ _ => none) (cf_digest_b219 k211) n
theorem cf_digest_lw219 {p : Program} {l : Launch} {e : Env} {R : Room} {s : State} {m : MethodId} {args : Array Value} {below : List Frame} {meth : Method} {c : Code} {Z : CZ} {A : Nat → Prop} {cells slots : Nat} {Qc : Array Value → State → Outcome → State → Prop} (X : CCx p s m args meth c cX0_digest 5 (some .long) RX0 Z) (hR : cf_digest_rm.frames ≤ R.frames ∧ cf_digest_rm.locals ≤ R.locals ∧ cells ≤ R.cells ∧ slots ≤ R.slots) (hA : ∀ q, s.heap.size ≤ q → A q) {r : (Int64 × St)} (hQ : ∀ (Y : CY) (H : Heap) (locs : List Loc) (t : State), cPD Z Y A r.2 H → va_S A s.heap H locs → t.heap = H → s.WarmedH t.vm → Qc args s (.returned (some (.long r.1))) t) {k211 : Int64 → Int32 → St → Option (Int64 × St)} (hk211 : cf_digest_P211 p l e R s m args below meth c Z A cells slots Qc r k211) : ∀ n : Nat, cf_digest_P219 p l e R s m args below meth c Z A cells slots Qc r (cf_digest_l219 k211 n) := by
  intro n
  induction n with
  | zero => intro x1 x3 x4 Y C H locs ls hM hS hl h; exact no_ h
  | succ n ih => exact cf_digest_w219 X hR hA hQ hk211 ih
def cf_digest_b211 (k211 : Int64 → Int32 → St → Option (Int64 × St)) (x1 : Int64) (x3 : Int32) (C : St) : Option (Int64 × St) :=
  if (4 : Int32) ≤ x3 then (bd_ (cf_planned  C) fun C2 =>
    lt_ (((31 : Int64) * x1) + ((C2 0 14).toInt64)) fun v3 =>
    bd_ (cf_planned  C2) fun C4 =>
    lt_ (((31 : Int64) * v3) + ((C4 0 15).toInt64)) fun v5 =>
    cf_digest_l284 FU v5 (0 : Int32) C4)
  else (cf_digest_l219 k211 FU x1 x3 (0 : Int32) C)
theorem cf_digest_w211 {p : Program} {l : Launch} {e : Env} {R : Room} {s : State} {m : MethodId} {args : Array Value} {below : List Frame} {meth : Method} {c : Code} {Z : CZ} {A : Nat → Prop} {cells slots : Nat} {Qc : Array Value → State → Outcome → State → Prop} (X : CCx p s m args meth c cX0_digest 5 (some .long) RX0 Z) (hR : cf_digest_rm.frames ≤ R.frames ∧ cf_digest_rm.locals ≤ R.locals ∧ cells ≤ R.cells ∧ slots ≤ R.slots) (hA : ∀ q, s.heap.size ≤ q → A q) {r : (Int64 × St)} (hQ : ∀ (Y : CY) (H : Heap) (locs : List Loc) (t : State), cPD Z Y A r.2 H → va_S A s.heap H locs → t.heap = H → s.WarmedH t.vm → Qc args s (.returned (some (.long r.1))) t) {k211 : Int64 → Int32 → St → Option (Int64 × St)} (hk211 : cf_digest_P211 p l e R s m args below meth c Z A cells slots Qc r k211) : cf_digest_P211 p l e R s m args below meth c Z A cells slots Qc r (cf_digest_b211 k211) := by
  intro x1 x3 Y C H locs ls hM hS hl h
  obtain ⟨⟨hx, hb, hr, hlocks, hml, hown, hts⟩, hK⟩ := id X
  unfold cf_digest_b211 at h
  refine lv_iload_n hx hb dX0_digest_211 rfl (lv_at hl 2 rfl) ?_
  refine lv_iconst (v := 4) hx hb dX0_digest_212 (by decide) ?_
  refine lv_icmp_ge (tgt := 252) hx hb dX0_digest_213 (by decide) (fun c1 => ?_) (fun c1 => ?_)
  · have h := ip_ c1 h
    refine lv_ldc2 (v := 31) hx hb hown (hts _ q1038) dX0_digest_252 ?_
    refine lv_lload_n hx hb dX0_digest_255 rfl (lv_at hl 1 rfl) ?_
    refine lv_lmul hx hb dX0_digest_256 ?_
    refine lv_aload_n hx hb dX0_digest_257 rfl (lv_at hl 0 rfl) ?_
    obtain ⟨C2, q_C2, h⟩ := bd_e h
    refine w_wrR (As := []) (rest := [.long ((31 : Int64) * x1)]) X hM hS hA (c_recv0 X hM) (cf_planned_met _ Z _ C _  C2 q_C2) (lw_V q739 q741 qs19 q79 q742) cf_planned_hd ⟨rfl, rfl⟩ ⟨Nat.le_trans (m := cf_digest_rm.frames) (Nat.le_of_ble_eq_true rfl) hR.1, Nat.le_trans (m := cf_digest_rm.locals) (Nat.le_of_ble_eq_true rfl) hR.2.1⟩ ⟨hR.2.2.1, hR.2.2.2⟩ rfl hl.1 rfl (Nat.le_of_ble_eq_true rfl) dX0_digest_258 (fun Y H locs hM hS => ?_)
    refine gc14 X hM dX0_digest_261 ?_
    refine lv_i2l hx hb dX0_digest_264 rfl ?_
    refine lv_ladd hx hb dX0_digest_265 ?_
    refine lv_topl (fun v3 e_v3 => ?_)
    have h := lt_i h e_v3
    refine lv_lstore_n (lv' := [(1, .long v3), (0, .ref (cSa Z 0)), (3, .int x3)]) hx hb dX0_digest_266 rfl hl (by decide) rfl (fun ls hl => ?_)
    refine lv_ldc2 (v := 31) hx hb hown (hts _ q1038) dX0_digest_267 ?_
    refine lv_lload_n hx hb dX0_digest_270 rfl (lv_at hl 0 rfl) ?_
    refine lv_lmul hx hb dX0_digest_271 ?_
    refine lv_aload_n hx hb dX0_digest_272 rfl (lv_at hl 1 rfl) ?_
    obtain ⟨C4, q_C4, h⟩ := bd_e h
    refine w_wrR (As := []) (rest := [.long ((31 : Int64) * v3)]) X hM hS hA (c_recv0 X hM) (cf_planned_met _ Z _ C2 _  C4 q_C4) (lw_V q739 q741 qs19 q79 q742) cf_planned_hd ⟨rfl, rfl⟩ ⟨Nat.le_trans (m := cf_digest_rm.frames) (Nat.le_of_ble_eq_true rfl) hR.1, Nat.le_trans (m := cf_digest_rm.locals) (Nat.le_of_ble_eq_true rfl) hR.2.1⟩ ⟨hR.2.2.1, hR.2.2.2⟩ rfl hl.1 rfl (Nat.le_of_ble_eq_true rfl) dX0_digest_273 (fun Y H locs hM hS => ?_)
    refine gc15 X hM dX0_digest_276 ?_
    refine lv_i2l hx hb dX0_digest_279 rfl ?_
    refine lv_ladd hx hb dX0_digest_280 ?_
    refine lv_topl (fun v5 e_v5 => ?_)
    have h := lt_i h e_v5
    refine lv_lstore_n (lv' := [(1, .long v5), (0, .ref (cSa Z 0)), (3, .int x3)]) hx hb dX0_digest_281 rfl hl (by decide) rfl (fun ls hl => ?_)
    refine lv_iconst (v := 0) hx hb dX0_digest_282 (by decide) ?_
    refine lv_istore_n (lv' := [(3, .int (0 : Int32)), (1, .long v5), (0, .ref (cSa Z 0))]) hx hb dX0_digest_283 rfl hl (by decide) rfl (fun ls hl => ?_)
    exact cf_digest_lw284 X hR hA hQ FU v5 (0 : Int32) _ C4 _ _ ls hM hS (lv_sub hl [2, 1, 0] rfl) h
  · have h := in_ c1 h
    refine lv_iconst (v := 0) hx hb dX0_digest_216 (by decide) ?_
    refine lv_istore (lv' := [(4, .int (0 : Int32)), (0, .ref (cSa Z 0)), (1, .long x1), (3, .int x3)]) hx hb dX0_digest_217 hl (by decide) rfl (fun ls hl => ?_)
    exact cf_digest_lw219 X hR hA hQ hk211 FU x1 x3 (0 : Int32) _ C _ _ ls hM hS (lv_sub hl [1, 2, 3, 0] rfl) h
def cf_digest_l211 (n : Nat) : Int64 → Int32 → St → Option (Int64 × St) := lp (fun _ _ _ => none) (cf_digest_b211) n
theorem cf_digest_lw211 {p : Program} {l : Launch} {e : Env} {R : Room} {s : State} {m : MethodId} {args : Array Value} {below : List Frame} {meth : Method} {c : Code} {Z : CZ} {A : Nat → Prop} {cells slots : Nat} {Qc : Array Value → State → Outcome → State → Prop} (X : CCx p s m args meth c cX0_digest 5 (some .long) RX0 Z) (hR : cf_digest_rm.frames ≤ R.frames ∧ cf_digest_rm.locals ≤ R.locals ∧ cells ≤ R.cells ∧ slots ≤ R.slots) (hA : ∀ q, s.heap.size ≤ q → A q) {r : (Int64 × St)} (hQ : ∀ (Y : CY) (H : Heap) (locs : List Loc) (t : State), cPD Z Y A r.2 H → va_S A s.heap H locs → t.heap = H → s.WarmedH t.vm → Qc args s (.returned (some (.long r.1))) t) : ∀ n : Nat, cf_digest_P211 p l e R s m args below meth c Z A cells slots Qc r (cf_digest_l211 n) := by
  intro n
  induction n with
  | zero => intro x1 x3 Y C H locs ls hM hS hl h; exact no_ h
  | succ n ih => exact cf_digest_w211 X hR hA hQ ih
def cf_digest_b144 (k62 : Int64 → Int32 → St → Option (Int64 × St)) (k144 : Int64 → Int32 → Int32 → St → Option (Int64 × St)) (x1 : Int64) (x3 : Int32) (x4 : Int32) (C : St) : Option (Int64 × St) :=
  if (2 : Int32) ≤ x4 then (bd_ (cf_planned  C) fun C2 =>
    al_ 8 (C2 16) x3 fun v3 =>
    lt_ (((31 : Int64) * x1) + (v3.toInt64)) fun v4 =>
    bd_ (cf_sparedOf C2 ((1 : Int32) <<< (x3 &&& 31))) fun v5 =>
    lt_ (((31 : Int64) * v4) + (v5.toInt64)) fun v6 =>
    k62 v6 (x3 + 1) C2)
  else (bd_ (cf_oddsOf C x3 (2 : Int32) x4) fun v7 =>
    lt_ (((31 : Int64) * x1) + v7) fun v8 =>
    k144 v8 x3 (x4 + 1) C)
theorem cf_digest_w144 {p : Program} {l : Launch} {e : Env} {R : Room} {s : State} {m : MethodId} {args : Array Value} {below : List Frame} {meth : Method} {c : Code} {Z : CZ} {A : Nat → Prop} {cells slots : Nat} {Qc : Array Value → State → Outcome → State → Prop} (X : CCx p s m args meth c cX0_digest 5 (some .long) RX0 Z) (hR : cf_digest_rm.frames ≤ R.frames ∧ cf_digest_rm.locals ≤ R.locals ∧ cells ≤ R.cells ∧ slots ≤ R.slots) (hA : ∀ q, s.heap.size ≤ q → A q) {r : (Int64 × St)} (hQ : ∀ (Y : CY) (H : Heap) (locs : List Loc) (t : State), cPD Z Y A r.2 H → va_S A s.heap H locs → t.heap = H → s.WarmedH t.vm → Qc args s (.returned (some (.long r.1))) t) {k62 : Int64 → Int32 → St → Option (Int64 × St)} (hk62 : cf_digest_P62 p l e R s m args below meth c Z A cells slots Qc r k62) {k144 : Int64 → Int32 → Int32 → St → Option (Int64 × St)} (hk144 : cf_digest_P144 p l e R s m args below meth c Z A cells slots Qc r k144) : cf_digest_P144 p l e R s m args below meth c Z A cells slots Qc r (cf_digest_b144 k62 k144) := by
  intro x1 x3 x4 Y C H locs ls hM hS hl h
  obtain ⟨⟨hx, hb, hr, hlocks, hml, hown, hts⟩, hK⟩ := id X
  unfold cf_digest_b144 at h
  refine lv_iload hx hb dX0_digest_144 (lv_at hl 3 rfl) ?_
  refine lv_iconst (v := 2) hx hb dX0_digest_146 (by decide) ?_
  refine lv_icmp_ge (tgt := 171) hx hb dX0_digest_147 (by decide) (fun c1 => ?_) (fun c1 => ?_)
  · have h := ip_ c1 h
    refine lv_ldc2 (v := 31) hx hb hown (hts _ q1038) dX0_digest_171 ?_
    refine lv_lload_n hx hb dX0_digest_174 rfl (lv_at hl 1 rfl) ?_
    refine lv_lmul hx hb dX0_digest_175 ?_
    refine lv_aload_n hx hb dX0_digest_176 rfl (lv_at hl 0 rfl) ?_
    obtain ⟨C2, q_C2, h⟩ := bd_e h
    refine w_wrR (As := []) (rest := [.long ((31 : Int64) * x1)]) X hM hS hA (c_recv0 X hM) (cf_planned_met _ Z _ C _  C2 q_C2) (lw_V q739 q741 qs19 q79 q742) cf_planned_hd ⟨rfl, rfl⟩ ⟨Nat.le_trans (m := cf_digest_rm.frames) (Nat.le_of_ble_eq_true rfl) hR.1, Nat.le_trans (m := cf_digest_rm.locals) (Nat.le_of_ble_eq_true rfl) hR.2.1⟩ ⟨hR.2.2.1, hR.2.2.2⟩ rfl hl.1 rfl (Nat.le_of_ble_eq_true rfl) dX0_digest_177 (fun Y H locs hM hS => ?_)
    refine gc16 X hM dX0_digest_180 ?_
    refine lv_iload_n hx hb dX0_digest_183 rfl (lv_at hl 2 rfl) ?_
    obtain ⟨i_v3, h⟩ := al_e h
    refine c_ald X hM (k := 16) (cHs_S (by decide)) (fun _ _ _ => rfl) (cAr_s (by decide)) i_v3 dX0_digest_184 (fun v3 e_v3 => ?_)
    have h := h v3 e_v3
    refine lv_i2l hx hb dX0_digest_185 rfl ?_
    refine lv_ladd hx hb dX0_digest_186 ?_
    refine lv_topl (fun v4 e_v4 => ?_)
    have h := lt_i h e_v4
    refine lv_lstore_n (lv' := [(1, .long v4), (0, .ref (cSa Z 0)), (3, .int x3), (4, .int x4)]) hx hb dX0_digest_187 rfl hl (by decide) rfl (fun ls hl => ?_)
    refine lv_ldc2 (v := 31) hx hb hown (hts _ q1038) dX0_digest_188 ?_
    refine lv_lload_n hx hb dX0_digest_191 rfl (lv_at hl 0 rfl) ?_
    refine lv_lmul hx hb dX0_digest_192 ?_
    refine lv_aload_n hx hb dX0_digest_193 rfl (lv_at hl 1 rfl) ?_
    refine lv_iconst (v := 1) hx hb dX0_digest_194 (by decide) ?_
    refine lv_iload_n hx hb dX0_digest_195 rfl (lv_at hl 2 rfl) ?_
    refine lv_ishl hx hb dX0_digest_196 ?_
    obtain ⟨v5, q_v5, h⟩ := bd_e h
    refine f_roI (As := [.int ((1 : Int32) <<< (x3 &&& 31))]) (rest := [.long ((31 : Int64) * v4)]) X hM (c_recv0 X hM) hS.2.2 (cPD.fr hM) (cf_sparedOf_met _ Z Y A C2 ((1 : Int32) <<< (x3 &&& 31)) v5 q_v5) (lw_V q898 q900 qs36 q79 q901) cf_sparedOf_hd ⟨rfl, rfl⟩ ⟨Nat.le_trans (m := cf_digest_rm.frames) (Nat.le_of_ble_eq_true rfl) hR.1, Nat.le_trans (m := cf_digest_rm.locals) (Nat.le_of_ble_eq_true rfl) hR.2.1⟩ ⟨hR.2.2.1, hR.2.2.2⟩ rfl hl.1 rfl (Nat.le_of_ble_eq_true rfl) dX0_digest_197 (fun locs hL => ?_)
    have hS : va_S A s.heap _ locs := ⟨hS.1, hS.2.1, hL⟩
    refine lv_i2l hx hb dX0_digest_200 rfl ?_
    refine lv_ladd hx hb dX0_digest_201 ?_
    refine lv_topl (fun v6 e_v6 => ?_)
    have h := lt_i h e_v6
    refine lv_lstore_n (lv' := [(1, .long v6), (0, .ref (cSa Z 0)), (3, .int x3), (4, .int x4)]) hx hb dX0_digest_202 rfl hl (by decide) rfl (fun ls hl => ?_)
    refine lv_iinc (v := (x3 + 1)) (lv' := [(3, .int (x3 + 1)), (1, .long v6), (0, .ref (cSa Z 0)), (4, .int x4)]) hx hb dX0_digest_203 hl (k := 2) rfl rfl (by decide) rfl (fun ls hl => ?_)
    refine lv_goto (tgt := 62) hx hb dX0_digest_206 (by decide) ?_
    exact hk62 v6 (x3 + 1) _ C2 _ _ ls hM hS (lv_sub hl [2, 1, 0] rfl) h
  · have h := in_ c1 h
    refine lv_ldc2 (v := 31) hx hb hown (hts _ q1038) dX0_digest_150 ?_
    refine lv_lload_n hx hb dX0_digest_153 rfl (lv_at hl 1 rfl) ?_
    refine lv_lmul hx hb dX0_digest_154 ?_
    refine lv_aload_n hx hb dX0_digest_155 rfl (lv_at hl 0 rfl) ?_
    refine lv_iload_n hx hb dX0_digest_156 rfl (lv_at hl 2 rfl) ?_
    refine lv_iconst (v := 2) hx hb dX0_digest_157 (by decide) ?_
    refine lv_iload hx hb dX0_digest_158 (lv_at hl 3 rfl) ?_
    obtain ⟨v7, q_v7, h⟩ := bd_e h
    refine f_roJ (As := [.int x3, .int (2 : Int32), .int x4]) (rest := [.long ((31 : Int64) * x1)]) X hM (c_recv0 X hM) hS.2.2 (cPD.fr hM) (cf_oddsOf_met _ Z Y A C x3 (2 : Int32) x4 v7 q_v7) (lw_V q818 q820 qs32 q79 q821) cf_oddsOf_hd ⟨rfl, rfl⟩ ⟨Nat.le_trans (m := cf_digest_rm.frames) (Nat.le_of_ble_eq_true rfl) hR.1, Nat.le_trans (m := cf_digest_rm.locals) (Nat.le_of_ble_eq_true rfl) hR.2.1⟩ ⟨hR.2.2.1, hR.2.2.2⟩ rfl hl.1 rfl (Nat.le_of_ble_eq_true rfl) dX0_digest_160 (fun locs hL => ?_)
    have hS : va_S A s.heap _ locs := ⟨hS.1, hS.2.1, hL⟩
    refine lv_ladd hx hb dX0_digest_163 ?_
    refine lv_topl (fun v8 e_v8 => ?_)
    have h := lt_i h e_v8
    refine lv_lstore_n (lv' := [(1, .long v8), (0, .ref (cSa Z 0)), (3, .int x3), (4, .int x4)]) hx hb dX0_digest_164 rfl hl (by decide) rfl (fun ls hl => ?_)
    refine lv_iinc (v := (x4 + 1)) (lv' := [(4, .int (x4 + 1)), (1, .long v8), (0, .ref (cSa Z 0)), (3, .int x3)]) hx hb dX0_digest_165 hl (k := 3) rfl rfl (by decide) rfl (fun ls hl => ?_)
    refine lv_goto (tgt := 144) hx hb dX0_digest_168 (by decide) ?_
    exact hk144 v8 x3 (x4 + 1) _ C _ _ ls hM hS (lv_sub hl [2, 1, 3, 0] rfl) h
def cf_digest_l144 (k62 : Int64 → Int32 → St → Option (Int64 × St)) (n : Nat) : Int64 → Int32 → Int32 → St → Option (Int64 × St) := lp (fun _ _ _ _ => none) (cf_digest_b144 k62) n
theorem cf_digest_lw144 {p : Program} {l : Launch} {e : Env} {R : Room} {s : State} {m : MethodId} {args : Array Value} {below : List Frame} {meth : Method} {c : Code} {Z : CZ} {A : Nat → Prop} {cells slots : Nat} {Qc : Array Value → State → Outcome → State → Prop} (X : CCx p s m args meth c cX0_digest 5 (some .long) RX0 Z) (hR : cf_digest_rm.frames ≤ R.frames ∧ cf_digest_rm.locals ≤ R.locals ∧ cells ≤ R.cells ∧ slots ≤ R.slots) (hA : ∀ q, s.heap.size ≤ q → A q) {r : (Int64 × St)} (hQ : ∀ (Y : CY) (H : Heap) (locs : List Loc) (t : State), cPD Z Y A r.2 H → va_S A s.heap H locs → t.heap = H → s.WarmedH t.vm → Qc args s (.returned (some (.long r.1))) t) {k62 : Int64 → Int32 → St → Option (Int64 × St)} (hk62 : cf_digest_P62 p l e R s m args below meth c Z A cells slots Qc r k62) : ∀ n : Nat, cf_digest_P144 p l e R s m args below meth c Z A cells slots Qc r (cf_digest_l144 k62 n) := by
  intro n
  induction n with
  | zero => intro x1 x3 x4 Y C H locs ls hM hS hl h; exact no_ h
  | succ n ih => exact cf_digest_w144 X hR hA hQ hk62 ih
def cf_digest_b73 (k62 : Int64 → Int32 → St → Option (Int64 × St)) (k73 : Int64 → Int32 → Int32 → St → Option (Int64 × St)) (x1 : Int64) (x3 : Int32) (x4 : Int32) (C : St) : Option (Int64 × St) :=
  if (5 : Int32) ≤ x4 then (bd_ (cf_hoursOf C x3) fun v2 =>
    lt_ (((31 : Int64) * x1) + (v2.toInt64)) fun v3 =>
    bd_ (cf_costsOf C x3 (2 : Int32)) fun v4 =>
    lt_ (((31 : Int64) * v3) + (v4.toInt64)) fun v5 =>
    bd_ (cf_likenessOf C x3 (2 : Int32)) fun v6 =>
    lt_ (((31 : Int64) * v5) + (v6.toInt64)) fun v7 =>
    cf_digest_l144 k62 FU v7 x3 (0 : Int32) C)
  else (bd_ (cf_deedBy C x3 x4) fun v8 =>
    lt_ (((31 : Int64) * x1) + (v8.toInt64)) fun v9 =>
    k73 v9 x3 (x4 + 1) C)
theorem cf_digest_w73 {p : Program} {l : Launch} {e : Env} {R : Room} {s : State} {m : MethodId} {args : Array Value} {below : List Frame} {meth : Method} {c : Code} {Z : CZ} {A : Nat → Prop} {cells slots : Nat} {Qc : Array Value → State → Outcome → State → Prop} (X : CCx p s m args meth c cX0_digest 5 (some .long) RX0 Z) (hR : cf_digest_rm.frames ≤ R.frames ∧ cf_digest_rm.locals ≤ R.locals ∧ cells ≤ R.cells ∧ slots ≤ R.slots) (hA : ∀ q, s.heap.size ≤ q → A q) {r : (Int64 × St)} (hQ : ∀ (Y : CY) (H : Heap) (locs : List Loc) (t : State), cPD Z Y A r.2 H → va_S A s.heap H locs → t.heap = H → s.WarmedH t.vm → Qc args s (.returned (some (.long r.1))) t) {k62 : Int64 → Int32 → St → Option (Int64 × St)} (hk62 : cf_digest_P62 p l e R s m args below meth c Z A cells slots Qc r k62) {k73 : Int64 → Int32 → Int32 → St → Option (Int64 × St)} (hk73 : cf_digest_P73 p l e R s m args below meth c Z A cells slots Qc r k73) : cf_digest_P73 p l e R s m args below meth c Z A cells slots Qc r (cf_digest_b73 k62 k73) := by
  intro x1 x3 x4 Y C H locs ls hM hS hl h
  obtain ⟨⟨hx, hb, hr, hlocks, hml, hown, hts⟩, hK⟩ := id X
  unfold cf_digest_b73 at h
  refine lv_iload hx hb dX0_digest_73 (lv_at hl 3 rfl) ?_
  refine lv_iconst (v := 5) hx hb dX0_digest_75 (by decide) ?_
  refine lv_icmp_ge (tgt := 100) hx hb dX0_digest_76 (by decide) (fun c1 => ?_) (fun c1 => ?_)
  · have h := ip_ c1 h
    refine lv_ldc2 (v := 31) hx hb hown (hts _ q1038) dX0_digest_100 ?_
    refine lv_lload_n hx hb dX0_digest_103 rfl (lv_at hl 1 rfl) ?_
    refine lv_lmul hx hb dX0_digest_104 ?_
    refine lv_aload_n hx hb dX0_digest_105 rfl (lv_at hl 0 rfl) ?_
    refine lv_iload_n hx hb dX0_digest_106 rfl (lv_at hl 2 rfl) ?_
    obtain ⟨v2, q_v2, h⟩ := bd_e h
    refine f_roI (As := [.int x3]) (rest := [.long ((31 : Int64) * x1)]) X hM (c_recv0 X hM) hS.2.2 (cPD.fr hM) (cf_hoursOf_met _ Z Y A C x3 v2 q_v2) (lw_V q715 q717 qs16 q79 q718) cf_hoursOf_hd ⟨rfl, rfl⟩ ⟨Nat.le_trans (m := cf_digest_rm.frames) (Nat.le_of_ble_eq_true rfl) hR.1, Nat.le_trans (m := cf_digest_rm.locals) (Nat.le_of_ble_eq_true rfl) hR.2.1⟩ ⟨hR.2.2.1, hR.2.2.2⟩ rfl hl.1 rfl (Nat.le_of_ble_eq_true rfl) dX0_digest_107 (fun locs hL => ?_)
    have hS : va_S A s.heap _ locs := ⟨hS.1, hS.2.1, hL⟩
    refine lv_i2l hx hb dX0_digest_110 rfl ?_
    refine lv_ladd hx hb dX0_digest_111 ?_
    refine lv_topl (fun v3 e_v3 => ?_)
    have h := lt_i h e_v3
    refine lv_lstore_n (lv' := [(1, .long v3), (0, .ref (cSa Z 0)), (3, .int x3), (4, .int x4)]) hx hb dX0_digest_112 rfl hl (by decide) rfl (fun ls hl => ?_)
    refine lv_ldc2 (v := 31) hx hb hown (hts _ q1038) dX0_digest_113 ?_
    refine lv_lload_n hx hb dX0_digest_116 rfl (lv_at hl 0 rfl) ?_
    refine lv_lmul hx hb dX0_digest_117 ?_
    refine lv_aload_n hx hb dX0_digest_118 rfl (lv_at hl 1 rfl) ?_
    refine lv_iload_n hx hb dX0_digest_119 rfl (lv_at hl 2 rfl) ?_
    refine lv_iconst (v := 2) hx hb dX0_digest_120 (by decide) ?_
    obtain ⟨v4, q_v4, h⟩ := bd_e h
    refine f_roI (As := [.int x3, .int (2 : Int32)]) (rest := [.long ((31 : Int64) * v3)]) X hM (c_recv0 X hM) hS.2.2 (cPD.fr hM) (cf_costsOf_met _ Z Y A C x3 (2 : Int32) v4 q_v4) (lw_V q727 q729 qs17 q79 q730) cf_costsOf_hd ⟨rfl, rfl⟩ ⟨Nat.le_trans (m := cf_digest_rm.frames) (Nat.le_of_ble_eq_true rfl) hR.1, Nat.le_trans (m := cf_digest_rm.locals) (Nat.le_of_ble_eq_true rfl) hR.2.1⟩ ⟨hR.2.2.1, hR.2.2.2⟩ rfl hl.1 rfl (Nat.le_of_ble_eq_true rfl) dX0_digest_121 (fun locs hL => ?_)
    have hS : va_S A s.heap _ locs := ⟨hS.1, hS.2.1, hL⟩
    refine lv_i2l hx hb dX0_digest_124 rfl ?_
    refine lv_ladd hx hb dX0_digest_125 ?_
    refine lv_topl (fun v5 e_v5 => ?_)
    have h := lt_i h e_v5
    refine lv_lstore_n (lv' := [(1, .long v5), (0, .ref (cSa Z 0)), (3, .int x3), (4, .int x4)]) hx hb dX0_digest_126 rfl hl (by decide) rfl (fun ls hl => ?_)
    refine lv_ldc2 (v := 31) hx hb hown (hts _ q1038) dX0_digest_127 ?_
    refine lv_lload_n hx hb dX0_digest_130 rfl (lv_at hl 0 rfl) ?_
    refine lv_lmul hx hb dX0_digest_131 ?_
    refine lv_aload_n hx hb dX0_digest_132 rfl (lv_at hl 1 rfl) ?_
    refine lv_iload_n hx hb dX0_digest_133 rfl (lv_at hl 2 rfl) ?_
    refine lv_iconst (v := 2) hx hb dX0_digest_134 (by decide) ?_
    obtain ⟨v6, q_v6, h⟩ := bd_e h
    refine f_roI (As := [.int x3, .int (2 : Int32)]) (rest := [.long ((31 : Int64) * v5)]) X hM (c_recv0 X hM) hS.2.2 (cPD.fr hM) (cf_likenessOf_met _ Z Y A C x3 (2 : Int32) v6 q_v6) (lw_V q810 q812 qs31 q79 q813) cf_likenessOf_hd ⟨rfl, rfl⟩ ⟨Nat.le_trans (m := cf_digest_rm.frames) (Nat.le_of_ble_eq_true rfl) hR.1, Nat.le_trans (m := cf_digest_rm.locals) (Nat.le_of_ble_eq_true rfl) hR.2.1⟩ ⟨hR.2.2.1, hR.2.2.2⟩ rfl hl.1 rfl (Nat.le_of_ble_eq_true rfl) dX0_digest_135 (fun locs hL => ?_)
    have hS : va_S A s.heap _ locs := ⟨hS.1, hS.2.1, hL⟩
    refine lv_i2l hx hb dX0_digest_138 rfl ?_
    refine lv_ladd hx hb dX0_digest_139 ?_
    refine lv_topl (fun v7 e_v7 => ?_)
    have h := lt_i h e_v7
    refine lv_lstore_n (lv' := [(1, .long v7), (0, .ref (cSa Z 0)), (3, .int x3), (4, .int x4)]) hx hb dX0_digest_140 rfl hl (by decide) rfl (fun ls hl => ?_)
    refine lv_iconst (v := 0) hx hb dX0_digest_141 (by decide) ?_
    refine lv_istore (lv' := [(4, .int (0 : Int32)), (1, .long v7), (0, .ref (cSa Z 0)), (3, .int x3)]) hx hb dX0_digest_142 hl (by decide) rfl (fun ls hl => ?_)
    exact cf_digest_lw144 X hR hA hQ hk62 FU v7 x3 (0 : Int32) _ C _ _ ls hM hS (lv_sub hl [2, 1, 3, 0] rfl) h
  · have h := in_ c1 h
    refine lv_ldc2 (v := 31) hx hb hown (hts _ q1038) dX0_digest_79 ?_
    refine lv_lload_n hx hb dX0_digest_82 rfl (lv_at hl 1 rfl) ?_
    refine lv_lmul hx hb dX0_digest_83 ?_
    refine lv_aload_n hx hb dX0_digest_84 rfl (lv_at hl 0 rfl) ?_
    refine lv_iload_n hx hb dX0_digest_85 rfl (lv_at hl 2 rfl) ?_
    refine lv_iload hx hb dX0_digest_86 (lv_at hl 3 rfl) ?_
    obtain ⟨v8, q_v8, h⟩ := bd_e h
    refine f_roI (As := [.int x3, .int x4]) (rest := [.long ((31 : Int64) * x1)]) X hM (c_recv0 X hM) hS.2.2 (cPD.fr hM) (cf_deedBy_met _ Z Y A C x3 x4 v8 q_v8) (lw_V q643 q645 qs8 q79 q646) cf_deedBy_hd ⟨rfl, rfl⟩ ⟨Nat.le_trans (m := cf_digest_rm.frames) (Nat.le_of_ble_eq_true rfl) hR.1, Nat.le_trans (m := cf_digest_rm.locals) (Nat.le_of_ble_eq_true rfl) hR.2.1⟩ ⟨hR.2.2.1, hR.2.2.2⟩ rfl hl.1 rfl (Nat.le_of_ble_eq_true rfl) dX0_digest_88 (fun locs hL => ?_)
    have hS : va_S A s.heap _ locs := ⟨hS.1, hS.2.1, hL⟩
    refine lv_i2l hx hb dX0_digest_91 rfl ?_
    refine lv_ladd hx hb dX0_digest_92 ?_
    refine lv_topl (fun v9 e_v9 => ?_)
    have h := lt_i h e_v9
    refine lv_lstore_n (lv' := [(1, .long v9), (0, .ref (cSa Z 0)), (3, .int x3), (4, .int x4)]) hx hb dX0_digest_93 rfl hl (by decide) rfl (fun ls hl => ?_)
    refine lv_iinc (v := (x4 + 1)) (lv' := [(4, .int (x4 + 1)), (1, .long v9), (0, .ref (cSa Z 0)), (3, .int x3)]) hx hb dX0_digest_94 hl (k := 3) rfl rfl (by decide) rfl (fun ls hl => ?_)
    refine lv_goto (tgt := 73) hx hb dX0_digest_97 (by decide) ?_
    exact hk73 v9 x3 (x4 + 1) _ C _ _ ls hM hS (lv_sub hl [2, 1, 3, 0] rfl) h
def cf_digest_l73 (k62 : Int64 → Int32 → St → Option (Int64 × St)) (n : Nat) : Int64 → Int32 → Int32 → St → Option (Int64 × St) := lp (fun _ _ _ _ => none) (cf_digest_b73 k62) n
theorem cf_digest_lw73 {p : Program} {l : Launch} {e : Env} {R : Room} {s : State} {m : MethodId} {args : Array Value} {below : List Frame} {meth : Method} {c : Code} {Z : CZ} {A : Nat → Prop} {cells slots : Nat} {Qc : Array Value → State → Outcome → State → Prop} (X : CCx p s m args meth c cX0_digest 5 (some .long) RX0 Z) (hR : cf_digest_rm.frames ≤ R.frames ∧ cf_digest_rm.locals ≤ R.locals ∧ cells ≤ R.cells ∧ slots ≤ R.slots) (hA : ∀ q, s.heap.size ≤ q → A q) {r : (Int64 × St)} (hQ : ∀ (Y : CY) (H : Heap) (locs : List Loc) (t : State), cPD Z Y A r.2 H → va_S A s.heap H locs → t.heap = H → s.WarmedH t.vm → Qc args s (.returned (some (.long r.1))) t) {k62 : Int64 → Int32 → St → Option (Int64 × St)} (hk62 : cf_digest_P62 p l e R s m args below meth c Z A cells slots Qc r k62) : ∀ n : Nat, cf_digest_P73 p l e R s m args below meth c Z A cells slots Qc r (cf_digest_l73 k62 n) := by
  intro n
  induction n with
  | zero => intro x1 x3 x4 Y C H locs ls hM hS hl h; exact no_ h
  | succ n ih => exact cf_digest_w73 X hR hA hQ hk62 ih
def cf_digest_b62 (k62 : Int64 → Int32 → St → Option (Int64 × St)) (x1 : Int64) (x3 : Int32) (C : St) : Option (Int64 × St) :=
  bd_ (cf_deeds C ) fun v1 =>
  if v1 ≤ x3 then (cf_digest_l211 FU x1 (0 : Int32) C)
  else (cf_digest_l73 k62 FU x1 x3 (0 : Int32) C)
theorem cf_digest_w62 {p : Program} {l : Launch} {e : Env} {R : Room} {s : State} {m : MethodId} {args : Array Value} {below : List Frame} {meth : Method} {c : Code} {Z : CZ} {A : Nat → Prop} {cells slots : Nat} {Qc : Array Value → State → Outcome → State → Prop} (X : CCx p s m args meth c cX0_digest 5 (some .long) RX0 Z) (hR : cf_digest_rm.frames ≤ R.frames ∧ cf_digest_rm.locals ≤ R.locals ∧ cells ≤ R.cells ∧ slots ≤ R.slots) (hA : ∀ q, s.heap.size ≤ q → A q) {r : (Int64 × St)} (hQ : ∀ (Y : CY) (H : Heap) (locs : List Loc) (t : State), cPD Z Y A r.2 H → va_S A s.heap H locs → t.heap = H → s.WarmedH t.vm → Qc args s (.returned (some (.long r.1))) t) {k62 : Int64 → Int32 → St → Option (Int64 × St)} (hk62 : cf_digest_P62 p l e R s m args below meth c Z A cells slots Qc r k62) : cf_digest_P62 p l e R s m args below meth c Z A cells slots Qc r (cf_digest_b62 k62) := by
  intro x1 x3 Y C H locs ls hM hS hl h
  obtain ⟨⟨hx, hb, hr, hlocks, hml, hown, hts⟩, hK⟩ := id X
  unfold cf_digest_b62 at h
  refine lv_iload_n hx hb dX0_digest_62 rfl (lv_at hl 2 rfl) ?_
  refine lv_aload_n hx hb dX0_digest_63 rfl (lv_at hl 0 rfl) ?_
  obtain ⟨v1, q_v1, h⟩ := bd_e h
  refine f_roI (As := []) (rest := [.int x3]) X hM (c_recv0 X hM) hS.2.2 (cPD.fr hM) (cf_deeds_met _ Z Y A C  v1 q_v1) (lw_V q630 q632 qs7 q79 q633) cf_deeds_hd ⟨rfl, rfl⟩ ⟨Nat.le_trans (m := cf_digest_rm.frames) (Nat.le_of_ble_eq_true rfl) hR.1, Nat.le_trans (m := cf_digest_rm.locals) (Nat.le_of_ble_eq_true rfl) hR.2.1⟩ ⟨hR.2.2.1, hR.2.2.2⟩ rfl hl.1 rfl (Nat.le_of_ble_eq_true rfl) dX0_digest_64 (fun locs hL => ?_)
  have hS : va_S A s.heap _ locs := ⟨hS.1, hS.2.1, hL⟩
  refine lv_icmp_ge (tgt := 209) hx hb dX0_digest_67 (by decide) (fun c2 => ?_) (fun c2 => ?_)
  · have h := ip_ c2 h
    refine lv_iconst (v := 0) hx hb dX0_digest_209 (by decide) ?_
    refine lv_istore_n (lv' := [(3, .int (0 : Int32)), (0, .ref (cSa Z 0)), (1, .long x1)]) hx hb dX0_digest_210 rfl hl (by decide) rfl (fun ls hl => ?_)
    exact cf_digest_lw211 X hR hA hQ FU x1 (0 : Int32) _ C _ _ ls hM hS (lv_sub hl [1, 2, 0] rfl) h
  · have h := in_ c2 h
    refine lv_iconst (v := 0) hx hb dX0_digest_70 (by decide) ?_
    refine lv_istore (lv' := [(4, .int (0 : Int32)), (0, .ref (cSa Z 0)), (1, .long x1), (3, .int x3)]) hx hb dX0_digest_71 hl (by decide) rfl (fun ls hl => ?_)
    exact cf_digest_lw73 X hR hA hQ hk62 FU x1 x3 (0 : Int32) _ C _ _ ls hM hS (lv_sub hl [1, 2, 3, 0] rfl) h
def cf_digest_l62 (n : Nat) : Int64 → Int32 → St → Option (Int64 × St) := lp (fun _ _ _ => none) (cf_digest_b62) n
theorem cf_digest_lw62 {p : Program} {l : Launch} {e : Env} {R : Room} {s : State} {m : MethodId} {args : Array Value} {below : List Frame} {meth : Method} {c : Code} {Z : CZ} {A : Nat → Prop} {cells slots : Nat} {Qc : Array Value → State → Outcome → State → Prop} (X : CCx p s m args meth c cX0_digest 5 (some .long) RX0 Z) (hR : cf_digest_rm.frames ≤ R.frames ∧ cf_digest_rm.locals ≤ R.locals ∧ cells ≤ R.cells ∧ slots ≤ R.slots) (hA : ∀ q, s.heap.size ≤ q → A q) {r : (Int64 × St)} (hQ : ∀ (Y : CY) (H : Heap) (locs : List Loc) (t : State), cPD Z Y A r.2 H → va_S A s.heap H locs → t.heap = H → s.WarmedH t.vm → Qc args s (.returned (some (.long r.1))) t) : ∀ n : Nat, cf_digest_P62 p l e R s m args below meth c Z A cells slots Qc r (cf_digest_l62 n) := by
  intro n
  induction n with
  | zero => intro x1 x3 Y C H locs ls hM hS hl h; exact no_ h
  | succ n ih => exact cf_digest_w62 X hR hA hQ ih
def cf_digest_b33 (k33 : Int64 → Int32 → St → Option (Int64 × St)) (x1 : Int64) (x3 : Int32) (C : St) : Option (Int64 × St) :=
  if (2 : Int32) ≤ x3 then (cf_digest_l62 FU x1 (0 : Int32) C)
  else (bd_ (cf_text C x3) fun v2 =>
    gd_ (v2 < 2) <|
    bd_ (cfT_read C v2) fun v4 =>
    lt_ (((31 : Int64) * x1) + (v4.toInt64)) fun v5 =>
    k33 v5 (x3 + 1) C)
theorem cf_digest_w33 {p : Program} {l : Launch} {e : Env} {R : Room} {s : State} {m : MethodId} {args : Array Value} {below : List Frame} {meth : Method} {c : Code} {Z : CZ} {A : Nat → Prop} {cells slots : Nat} {Qc : Array Value → State → Outcome → State → Prop} (X : CCx p s m args meth c cX0_digest 5 (some .long) RX0 Z) (hR : cf_digest_rm.frames ≤ R.frames ∧ cf_digest_rm.locals ≤ R.locals ∧ cells ≤ R.cells ∧ slots ≤ R.slots) (hA : ∀ q, s.heap.size ≤ q → A q) {r : (Int64 × St)} (hQ : ∀ (Y : CY) (H : Heap) (locs : List Loc) (t : State), cPD Z Y A r.2 H → va_S A s.heap H locs → t.heap = H → s.WarmedH t.vm → Qc args s (.returned (some (.long r.1))) t) {k33 : Int64 → Int32 → St → Option (Int64 × St)} (hk33 : cf_digest_P33 p l e R s m args below meth c Z A cells slots Qc r k33) : cf_digest_P33 p l e R s m args below meth c Z A cells slots Qc r (cf_digest_b33 k33) := by
  intro x1 x3 Y C H locs ls hM hS hl h
  obtain ⟨⟨hx, hb, hr, hlocks, hml, hown, hts⟩, hK⟩ := id X
  unfold cf_digest_b33 at h
  refine lv_iload_n hx hb dX0_digest_33 rfl (lv_at hl 2 rfl) ?_
  refine lv_iconst (v := 2) hx hb dX0_digest_34 (by decide) ?_
  refine lv_icmp_ge (tgt := 60) hx hb dX0_digest_35 (by decide) (fun c1 => ?_) (fun c1 => ?_)
  · have h := ip_ c1 h
    refine lv_iconst (v := 0) hx hb dX0_digest_60 (by decide) ?_
    refine lv_istore_n (lv' := [(3, .int (0 : Int32)), (0, .ref (cSa Z 0)), (1, .long x1)]) hx hb dX0_digest_61 rfl hl (by decide) rfl (fun ls hl => ?_)
    exact cf_digest_lw62 X hR hA hQ FU x1 (0 : Int32) _ C _ _ ls hM hS (lv_sub hl [1, 2, 0] rfl) h
  · have h := in_ c1 h
    refine lv_ldc2 (v := 31) hx hb hown (hts _ q1038) dX0_digest_38 ?_
    refine lv_lload_n hx hb dX0_digest_41 rfl (lv_at hl 1 rfl) ?_
    refine lv_lmul hx hb dX0_digest_42 ?_
    refine lv_aload_n hx hb dX0_digest_43 rfl (lv_at hl 0 rfl) ?_
    refine lv_iload_n hx hb dX0_digest_44 rfl (lv_at hl 2 rfl) ?_
    obtain ⟨v2, q_v2, h⟩ := bd_e h
    refine f_roR (As := [.int x3]) (rest := [.long ((31 : Int64) * x1)]) X hM (c_recv0 X hM) hS.2.2 (cPD.fr hM) (cf_text_met _ Z Y A C x3 v2 q_v2) (lw_V q353 q355 qs1 q79 q356) cf_text_hd ⟨rfl, rfl⟩ ⟨Nat.le_trans (m := cf_digest_rm.frames) (Nat.le_of_ble_eq_true rfl) hR.1, Nat.le_trans (m := cf_digest_rm.locals) (Nat.le_of_ble_eq_true rfl) hR.2.1⟩ ⟨hR.2.2.1, hR.2.2.2⟩ rfl hl.1 rfl (Nat.le_of_ble_eq_true rfl) dX0_digest_45 (fun locs hL => ?_)
    have hS : va_S A s.heap _ locs := ⟨hS.1, hS.2.1, hL⟩
    obtain ⟨b3, h⟩ := gd_e h
    obtain ⟨v4, q_v4, h⟩ := bd_e h
    refine f_roXI (As := []) (rest := [.long ((31 : Int64) * x1)]) (owner := RX2) (x := ⟨RX2, "read", "()I"⟩) X hM b3 hS.2.2 (cPD.fr hM) (cfT_read_met _ Z Y A C v2 v4 q_v4) (lw_U q377 q379 q380 q378 q81 q382) (lw_U q377 q379 q381 q378 q81 q382) rfl (by decide +kernel) ⟨rfl, rfl⟩ ⟨Nat.le_trans (m := cf_digest_rm.frames) (Nat.le_of_ble_eq_true rfl) hR.1, Nat.le_trans (m := cf_digest_rm.locals) (Nat.le_of_ble_eq_true rfl) hR.2.1⟩ ⟨hR.2.2.1, hR.2.2.2⟩ rfl hl.1 rfl (Nat.le_of_ble_eq_true rfl) dX0_digest_48 (fun locs hL => ?_)
    have hS : va_S A s.heap _ locs := ⟨hS.1, hS.2.1, hL⟩
    refine lv_i2l hx hb dX0_digest_51 rfl ?_
    refine lv_ladd hx hb dX0_digest_52 ?_
    refine lv_topl (fun v5 e_v5 => ?_)
    have h := lt_i h e_v5
    refine lv_lstore_n (lv' := [(1, .long v5), (0, .ref (cSa Z 0)), (3, .int x3)]) hx hb dX0_digest_53 rfl hl (by decide) rfl (fun ls hl => ?_)
    refine lv_iinc (v := (x3 + 1)) (lv' := [(3, .int (x3 + 1)), (1, .long v5), (0, .ref (cSa Z 0))]) hx hb dX0_digest_54 hl (k := 2) rfl rfl (by decide) rfl (fun ls hl => ?_)
    refine lv_goto (tgt := 33) hx hb dX0_digest_57 (by decide) ?_
    exact hk33 v5 (x3 + 1) _ C _ _ ls hM hS (lv_sub hl [2, 1, 0] rfl) h
def cf_digest_l33 (n : Nat) : Int64 → Int32 → St → Option (Int64 × St) := lp (fun _ _ _ => none) (cf_digest_b33) n
theorem cf_digest_lw33 {p : Program} {l : Launch} {e : Env} {R : Room} {s : State} {m : MethodId} {args : Array Value} {below : List Frame} {meth : Method} {c : Code} {Z : CZ} {A : Nat → Prop} {cells slots : Nat} {Qc : Array Value → State → Outcome → State → Prop} (X : CCx p s m args meth c cX0_digest 5 (some .long) RX0 Z) (hR : cf_digest_rm.frames ≤ R.frames ∧ cf_digest_rm.locals ≤ R.locals ∧ cells ≤ R.cells ∧ slots ≤ R.slots) (hA : ∀ q, s.heap.size ≤ q → A q) {r : (Int64 × St)} (hQ : ∀ (Y : CY) (H : Heap) (locs : List Loc) (t : State), cPD Z Y A r.2 H → va_S A s.heap H locs → t.heap = H → s.WarmedH t.vm → Qc args s (.returned (some (.long r.1))) t) : ∀ n : Nat, cf_digest_P33 p l e R s m args below meth c Z A cells slots Qc r (cf_digest_l33 n) := by
  intro n
  induction n with
  | zero => intro x1 x3 Y C H locs ls hM hS hl h; exact no_ h
  | succ n ih => exact cf_digest_w33 X hR hA hQ ih
def cf_digest_b22 (k6 : Int64 → Int32 → St → Option (Int64 × St)) (x3 : Int32) (t0 : Int32) (t1 : Int64) (C : St) : Option (Int64 × St) :=
  lt_ (t1 + (t0.toInt64)) fun v1 =>
  k6 v1 (x3 + 1) C
theorem cf_digest_w22 {p : Program} {l : Launch} {e : Env} {R : Room} {s : State} {m : MethodId} {args : Array Value} {below : List Frame} {meth : Method} {c : Code} {Z : CZ} {A : Nat → Prop} {cells slots : Nat} {Qc : Array Value → State → Outcome → State → Prop} (X : CCx p s m args meth c cX0_digest 5 (some .long) RX0 Z) (hR : cf_digest_rm.frames ≤ R.frames ∧ cf_digest_rm.locals ≤ R.locals ∧ cells ≤ R.cells ∧ slots ≤ R.slots) (hA : ∀ q, s.heap.size ≤ q → A q) {r : (Int64 × St)} (hQ : ∀ (Y : CY) (H : Heap) (locs : List Loc) (t : State), cPD Z Y A r.2 H → va_S A s.heap H locs → t.heap = H → s.WarmedH t.vm → Qc args s (.returned (some (.long r.1))) t) {k6 : Int64 → Int32 → St → Option (Int64 × St)} (hk6 : cf_digest_P6 p l e R s m args below meth c Z A cells slots Qc r k6) : cf_digest_P22 p l e R s m args below meth c Z A cells slots Qc r (cf_digest_b22 k6) := by
  intro x3 t0 t1 Y C H locs ls hM hS hl h
  obtain ⟨⟨hx, hb, hr, hlocks, hml, hown, hts⟩, hK⟩ := id X
  unfold cf_digest_b22 at h
  refine lv_i2l hx hb dX0_digest_22 rfl ?_
  refine lv_ladd hx hb dX0_digest_23 ?_
  refine lv_topl (fun v1 e_v1 => ?_)
  have h := lt_i h e_v1
  refine lv_lstore_n (lv' := [(1, .long v1), (0, .ref (cSa Z 0)), (3, .int x3)]) hx hb dX0_digest_24 rfl hl (by decide) rfl (fun ls hl => ?_)
  refine lv_iinc (v := (x3 + 1)) (lv' := [(3, .int (x3 + 1)), (1, .long v1), (0, .ref (cSa Z 0))]) hx hb dX0_digest_25 hl (k := 2) rfl rfl (by decide) rfl (fun ls hl => ?_)
  refine lv_goto (tgt := 6) hx hb dX0_digest_28 (by decide) ?_
  exact hk6 v1 (x3 + 1) _ C _ _ ls hM hS (lv_sub hl [2, 1, 0] rfl) h
def cf_digest_b6 (k6 : Int64 → Int32 → St → Option (Int64 × St)) (x1 : Int64) (x3 : Int32) (C : St) : Option (Int64 × St) :=
  if (8 : Int32) ≤ x3 then (cf_digest_l33 FU x1 (0 : Int32) C)
  else (bd_ (cf_count C x3) fun v2 =>
    cf_digest_b22 k6 x3 v2 ((31 : Int64) * x1) C)
theorem cf_digest_w6 {p : Program} {l : Launch} {e : Env} {R : Room} {s : State} {m : MethodId} {args : Array Value} {below : List Frame} {meth : Method} {c : Code} {Z : CZ} {A : Nat → Prop} {cells slots : Nat} {Qc : Array Value → State → Outcome → State → Prop} (X : CCx p s m args meth c cX0_digest 5 (some .long) RX0 Z) (hR : cf_digest_rm.frames ≤ R.frames ∧ cf_digest_rm.locals ≤ R.locals ∧ cells ≤ R.cells ∧ slots ≤ R.slots) (hA : ∀ q, s.heap.size ≤ q → A q) {r : (Int64 × St)} (hQ : ∀ (Y : CY) (H : Heap) (locs : List Loc) (t : State), cPD Z Y A r.2 H → va_S A s.heap H locs → t.heap = H → s.WarmedH t.vm → Qc args s (.returned (some (.long r.1))) t) {k6 : Int64 → Int32 → St → Option (Int64 × St)} (hk6 : cf_digest_P6 p l e R s m args below meth c Z A cells slots Qc r k6) : cf_digest_P6 p l e R s m args below meth c Z A cells slots Qc r (cf_digest_b6 k6) := by
  intro x1 x3 Y C H locs ls hM hS hl h
  obtain ⟨⟨hx, hb, hr, hlocks, hml, hown, hts⟩, hK⟩ := id X
  unfold cf_digest_b6 at h
  refine lv_iload_n hx hb dX0_digest_6 rfl (lv_at hl 2 rfl) ?_
  refine lv_bipush (v := 8) hx hb dX0_digest_7 (by decide) ?_
  refine lv_icmp_ge (tgt := 31) hx hb dX0_digest_9 (by decide) (fun c1 => ?_) (fun c1 => ?_)
  · have h := ip_ c1 h
    refine lv_iconst (v := 0) hx hb dX0_digest_31 (by decide) ?_
    refine lv_istore_n (lv' := [(3, .int (0 : Int32)), (0, .ref (cSa Z 0)), (1, .long x1)]) hx hb dX0_digest_32 rfl hl (by decide) rfl (fun ls hl => ?_)
    exact cf_digest_lw33 X hR hA hQ FU x1 (0 : Int32) _ C _ _ ls hM hS (lv_sub hl [1, 2, 0] rfl) h
  · have h := in_ c1 h
    refine lv_ldc2 (v := 31) hx hb hown (hts _ q1038) dX0_digest_12 ?_
    refine lv_lload_n hx hb dX0_digest_15 rfl (lv_at hl 1 rfl) ?_
    refine lv_lmul hx hb dX0_digest_16 ?_
    refine lv_aload_n hx hb dX0_digest_17 rfl (lv_at hl 0 rfl) ?_
    refine lv_iload_n hx hb dX0_digest_18 rfl (lv_at hl 2 rfl) ?_
    obtain ⟨v2, q_v2, h⟩ := bd_e h
    refine f_roI (As := [.int x3]) (rest := [.long ((31 : Int64) * x1)]) X hM (c_recv0 X hM) hS.2.2 (cPD.fr hM) (cf_count_met _ Z Y A C x3 v2 q_v2) (lw_V q1039 q1030 q1031 q79 q1032) cf_count_hd ⟨rfl, rfl⟩ ⟨Nat.le_trans (m := cf_digest_rm.frames) (Nat.le_of_ble_eq_true rfl) hR.1, Nat.le_trans (m := cf_digest_rm.locals) (Nat.le_of_ble_eq_true rfl) hR.2.1⟩ ⟨hR.2.2.1, hR.2.2.2⟩ rfl hl.1 rfl (Nat.le_of_ble_eq_true rfl) dX0_digest_19 (fun locs hL => ?_)
    have hS : va_S A s.heap _ locs := ⟨hS.1, hS.2.1, hL⟩
    exact cf_digest_w22 X hR hA hQ hk6 x3 v2 ((31 : Int64) * x1) _ C _ _ ls hM hS (lv_sub hl [0, 2] rfl) h
def cf_digest_l6 (n : Nat) : Int64 → Int32 → St → Option (Int64 × St) := lp (fun _ _ _ => none) (cf_digest_b6) n
theorem cf_digest_lw6 {p : Program} {l : Launch} {e : Env} {R : Room} {s : State} {m : MethodId} {args : Array Value} {below : List Frame} {meth : Method} {c : Code} {Z : CZ} {A : Nat → Prop} {cells slots : Nat} {Qc : Array Value → State → Outcome → State → Prop} (X : CCx p s m args meth c cX0_digest 5 (some .long) RX0 Z) (hR : cf_digest_rm.frames ≤ R.frames ∧ cf_digest_rm.locals ≤ R.locals ∧ cells ≤ R.cells ∧ slots ≤ R.slots) (hA : ∀ q, s.heap.size ≤ q → A q) {r : (Int64 × St)} (hQ : ∀ (Y : CY) (H : Heap) (locs : List Loc) (t : State), cPD Z Y A r.2 H → va_S A s.heap H locs → t.heap = H → s.WarmedH t.vm → Qc args s (.returned (some (.long r.1))) t) : ∀ n : Nat, cf_digest_P6 p l e R s m args below meth c Z A cells slots Qc r (cf_digest_l6 n) := by
  intro n
  induction n with
  | zero => intro x1 x3 Y C H locs ls hM hS hl h; exact no_ h
  | succ n ih => exact cf_digest_w6 X hR hA hQ ih
def cf_digest (C : St) : Option (Int64 × St) :=
  cf_digest_l6 FU (17 : Int64) (0 : Int32) C
theorem cf_digest_w0 {p : Program} {l : Launch} {e : Env} {R : Room} {s : State} {m : MethodId} {args : Array Value} {below : List Frame} {meth : Method} {c : Code} {Z : CZ} {A : Nat → Prop} {cells slots : Nat} {Qc : Array Value → State → Outcome → State → Prop} (X : CCx p s m args meth c cX0_digest 5 (some .long) RX0 Z) (hR : cf_digest_rm.frames ≤ R.frames ∧ cf_digest_rm.locals ≤ R.locals ∧ cells ≤ R.cells ∧ slots ≤ R.slots) (hA : ∀ q, s.heap.size ≤ q → A q) {r : (Int64 × St)} (hQ : ∀ (Y : CY) (H : Heap) (locs : List Loc) (t : State), cPD Z Y A r.2 H → va_S A s.heap H locs → t.heap = H → s.WarmedH t.vm → Qc args s (.returned (some (.long r.1))) t) : cf_digest_P0 p l e R s m args below meth c Z A cells slots Qc r (cf_digest) := by
  intro Y C H locs ls hM hS hl h
  obtain ⟨⟨hx, hb, hr, hlocks, hml, hown, hts⟩, hK⟩ := id X
  unfold cf_digest at h
  refine lv_ldc2 (v := 17) hx hb hown (hts _ q1037) dX0_digest_0 ?_
  refine lv_lstore_n (lv' := [(1, .long (17 : Int64)), (0, .ref (cSa Z 0))]) hx hb dX0_digest_3 rfl hl (by decide) rfl (fun ls hl => ?_)
  refine lv_iconst (v := 0) hx hb dX0_digest_4 (by decide) ?_
  refine lv_istore_n (lv' := [(3, .int (0 : Int32)), (1, .long (17 : Int64)), (0, .ref (cSa Z 0))]) hx hb dX0_digest_5 rfl hl (by decide) rfl (fun ls hl => ?_)
  exact cf_digest_lw6 X hR hA hQ FU (17 : Int64) (0 : Int32) _ C _ _ ls hM hS (lv_sub hl [2, 1, 0] rfl) h
theorem cf_digest_hd : yX0_digest.cls = RX0 ∧ yX0_digest.cls ≠ "java/lang/invoke/MethodHandle" ∧ yX0_digest.cls ≠ "java/lang/invoke/VarHandle" ∧ (parseMethodDescriptor yX0_digest.desc).map (fun d => d.parameters.length) = some 0 := by decide +kernel
theorem cf_digest_met (l : Launch) (Z : CZ) (Y : CY) (C : St) (sz : Nat) (r : (Int64 × St)) (h : cf_digest C = some r) : Met l yX0_digest (ws_ yX0_digest cX0_digest 5 (some .long)) cf_digest_rm (va_Pc [.ref (cSa Z 0)] (cSw Z Y C sz)) (Qcw (some (.long r.1)) Z (va_A (cWs Z Y C) sz) r.2) 0 0 (va_A (cWs Z Y C) sz) := by
  refine Met.ofW (cc := cX0_digest) (maxL := 5) (ret := some .long) (by decide) rfl ?_
  intro p e s m args below meth c s₁ B hml hv
  obtain ⟨rfl, hsz, hv⟩ := hv
  subst hsz
  have hts := atoms_spec (ws := ws_ yX0_digest cX0_digest 5 (some .long)) B.pre
  have hts : ∀ w ∈ lw_all, w.before _ s = true := fun w h => hts w (List.mem_cons_of_mem _ h)
  have X : CCx p s m _ meth c cX0_digest 5 (some .long) RX0 Z := ⟨⟨B.exec, B.bytes, B.returns, B.notSynchronized, hml, findClass_of_methodNamed B.named, hts⟩, hv.2⟩
  have hl := lv_entry [.ref (cSa Z 0)] (n := 5) (Nat.le_of_ble_eq_true rfl)
  rw [lg_entry_eq]
  generalize (lg_sl [.ref (cSa Z 0)] ++ List.replicate (5 - (lg_sl [.ref (cSa Z 0)]).length) Slot.unset).toArray = ls at hl ⊢
  exact cf_digest_w0 X ⟨Nat.le_refl _, Nat.le_refl _, Nat.le_refl _, Nat.le_refl _⟩ (fun q h => Or.inr h) (fun Y H locs t hM hS ht hW => ⟨rfl, ⟨Y, by rw [ht]; exact hM, cKs.warm hW X.2⟩, hS.F ht⟩)  Y C _ _ ls (cPD.self hv.1) va_S.rf hl h
