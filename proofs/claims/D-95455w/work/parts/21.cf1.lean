set_option maxRecDepth 100000
/-! SecondChances.divisor: calls itself -/
def cf_divisor : Nat → Int64 → Int64 → Option Int64
  | 0, _, _ => none
  | n + 1, a, b => if lg_cmp b 0 = 0 then some a else cf_divisor n b (a - a / b * b)
def cf_divisor_rm (n : Nat) : Room := { frames := n, cells := 0, slots := 0, locals := 23 * n }
theorem cf_divisor_hd : yX0_divisor.cls ≠ "java/lang/invoke/MethodHandle" ∧ yX0_divisor.cls ≠ "java/lang/invoke/VarHandle" ∧ (parseMethodDescriptor yX0_divisor.desc).map (fun d => d.parameters.length) = some 2 := by decide +kernel
theorem cf_divisor_met (l : Launch) : ∀ (n : Nat) (x0 x2 r : Int64), cf_divisor n x0 x2 = some r → Met l yX0_divisor (ws_ yX0_divisor cX0_divisor 4 (some .long)) (cf_divisor_rm n) (va_Pc [.long x0, .long x2] (fun _ => True)) (Qro (some (.long r))) 0 0 (fun _ => False) := by
  intro n
  induction n with
  | zero => intro x0 x2 r h; exact no_ h
  | succ n ih =>
    intro x0 x2 r h
    refine Met.ofW (cc := cX0_divisor) (maxL := 4) (ret := some .long) (by decide) rfl ?_
    intro p e s m args below meth c s₁ B hml hv
    obtain ⟨rfl, hv⟩ := hv
    have hts := atoms_spec (ws := ws_ yX0_divisor cX0_divisor 4 (some .long)) B.pre
    have hts : ∀ w ∈ lw_all, w.before _ s = true := fun w h => hts w (List.mem_cons_of_mem _ h)
    have C : SCx p s m _ meth c cX0_divisor 4 (some .long) RX0 := ⟨B.exec, B.bytes, B.returns, B.notSynchronized, hml, findClass_of_methodNamed B.named, hts⟩
    have hl := lv_entry [.long x0, .long x2] (n := 4) (Nat.le_of_ble_eq_true rfl)
    rw [lg_entry_eq]
    generalize (lg_sl [.long x0, .long x2] ++ List.replicate (4 - (lg_sl [.long x0, .long x2]).length) Slot.unset).toArray = ls at hl ⊢
    have hl : lv_has ls 4 [(0, .long x0), (2, .long x2)] := hl
    obtain ⟨hx, hb, hr, hlocks, hml, hown, hts⟩ := id C
    unfold cf_divisor at h
    refine lv_lload_n hx hb dX0_divisor_0 rfl (lv_at hl 1 rfl) ?_
    refine lv_lconst (v := 0) hx hb dX0_divisor_1 (by decide) ?_
    refine W.lcmp hx hb dX0_divisor_2 ?_
    refine lv_if_ne (tgt := 10) hx hb dX0_divisor_3 (by decide) (fun c1 => ?_) (fun c1 => ?_)
    · have h := in_ c1 h
      refine lv_lload_n hx hb dX0_divisor_10 rfl (lv_at hl 1 rfl) ?_
      refine lv_lload_n hx hb dX0_divisor_11 rfl (lv_at hl 0 rfl) ?_
      refine lv_lload_n hx hb dX0_divisor_12 rfl (lv_at hl 1 rfl) ?_
      refine lv_lrem hx hb dX0_divisor_13 (fun e => c1 (by rw [e]; rfl)) ?_
      refine s_roJ (As := [.long x2, .long (x0 - x0 / x2 * x2)]) (rest := []) C (ih _ _ r h) (lw_S q830 q831 q79 q832) cf_divisor_hd ⟨rfl, rfl⟩ ⟨Nat.le_refl _, by show 8 + (4 + 11) + 23 * n ≤ 23 * (n + 1); omega⟩ ⟨Nat.le_refl _, Nat.le_refl _⟩ rfl hl.1 rfl (Nat.le_of_ble_eq_true rfl) dX0_divisor_14 ?_
      exact W.lret hx hb hr (fun t ht hW => ⟨rfl, ht⟩) (fun q hq => by cases hq) dX0_divisor_17
    · have h := ip_ c1 h
      refine lv_lload_n hx hb dX0_divisor_6 rfl (lv_at hl 0 rfl) ?_
      refine lv_goto (tgt := 17) hx hb dX0_divisor_7 (by decide) ?_
      have h := so_ h
      subst h
      exact W.lret hx hb hr (fun t ht hW => ⟨rfl, ht⟩) (fun q hq => by cases hq) dX0_divisor_17
def cf_divisor100 (a b : Int64) : Option Int64 := cf_divisor 100 a b
def cf_divisor100_rm : Room := cf_divisor_rm 100
theorem cf_divisor100_hd : yX0_divisor.cls ≠ "java/lang/invoke/MethodHandle" ∧ yX0_divisor.cls ≠ "java/lang/invoke/VarHandle" ∧ (parseMethodDescriptor yX0_divisor.desc).map (fun d => d.parameters.length) = some 2 := cf_divisor_hd
theorem cf_divisor100_met (l : Launch) (x0 x2 : Int64) (r : Int64) (h : cf_divisor100 x0 x2 = some r) : Met l yX0_divisor (ws_ yX0_divisor cX0_divisor 4 (some .long)) cf_divisor100_rm (va_Pc [.long x0, .long x2] (fun _ => True)) (Qro (some (.long r))) 0 0 (fun _ => False) := cf_divisor_met l 100 x0 x2 r h

/-! SecondChances$Text.read()I -/
def cfT_read_rm : Room := { frames := 0, cells := 0, slots := 0, locals := 0 }
def cfT_read_P15 (p : Program) (l : Launch) (e : Env) (R : Room) (s : State) (m : MethodId) (args : Array Value) (below : List Frame) (meth : Method) (c : Code) (Z : CZ) (Y : CY) (H : Heap) (cells slots : Nat) (Qc : Array Value → State → Outcome → State → Prop) (free : Addr → Prop) (r : Int32) (f : Nat → Option Int32) : Prop := ∀ (x0 : Nat) (locs : List Loc) (ls : Array Slot), (∀ q ∈ locs, free q.base) → lv_has ls 1 [(0, .ref (cSa Z (40 + x0)))] → f x0 = some r → W p l e R s m args below meth c H locs cells slots (MQ below Qc args s cells slots free) (F0 m 15 ls [])
def cfT_read_P0 (p : Program) (l : Launch) (e : Env) (R : Room) (s : State) (m : MethodId) (args : Array Value) (below : List Frame) (meth : Method) (c : Code) (Z : CZ) (Y : CY) (H : Heap) (cells slots : Nat) (Qc : Array Value → State → Outcome → State → Prop) (free : Addr → Prop) (r : Int32) (f : Nat → Option Int32) : Prop := ∀ (x0 : Nat) (locs : List Loc) (ls : Array Slot), (∀ q ∈ locs, free q.base) → lv_has ls 1 [(0, .ref (cSa Z (40 + x0)))] → f x0 = some r → W p l e R s m args below meth c H locs cells slots (MQ below Qc args s cells slots free) (F0 m 0 ls [])
def cfT_read_b15 (C : St) (x0 : Nat) : Option Int32 :=
  gd_ (x0 < 2) <|
  gd_ (C (40 + x0) 3 = 1) <|
  some (C (40 + x0) 4)
theorem cfT_read_w15 {p : Program} {l : Launch} {e : Env} {R : Room} {s : State} {m : MethodId} {args : Array Value} {below : List Frame} {meth : Method} {c : Code} {Z : CZ} {Y : CY} {A : Nat → Prop} {C : St} {H : Heap} {cells slots : Nat} {Qc : Array Value → State → Outcome → State → Prop} {free : Addr → Prop} (X : CCx p s m args meth c cX2_read 1 (some .int) RX2 Z) (hM : cPD Z Y A C H) (hR : cfT_read_rm.frames ≤ R.frames ∧ cfT_read_rm.locals ≤ R.locals ∧ cells ≤ R.cells ∧ slots ≤ R.slots) (hF : ∀ q, cFr Z q → free q) {r : Int32} (hQ : ∀ t : State, t.heap = H → s.WarmedH t.vm → Qc args s (.returned (some (.int r))) t) : cfT_read_P15 p l e R s m args below meth c Z Y H cells slots Qc free r (cfT_read_b15 C) := by
  intro x0 locs ls hL hl h
  obtain ⟨⟨hx, hb, hr, hlocks, hml, hown, hts⟩, hK⟩ := id X
  unfold cfT_read_b15 at h
  refine lv_aload_n hx hb dX2_read_15 rfl (lv_at hl 0 rfl) ?_
  refine lv_iconst (v := 1) hx hb dX2_read_16 (by decide) ?_
  obtain ⟨b2, h⟩ := gd_e h
  obtain ⟨e1, h⟩ := gd_e h
  refine pt3F X hM b2 e1 hL hF dX2_read_17 (fun locs hL => ?_)
  refine lv_aload_n hx hb dX2_read_20 rfl (lv_at hl 0 rfl) ?_
  refine gt4 X hM b2 dX2_read_21 ?_
  have h := so_ h
  subst h
  exact W.iret hx hb hr (fun t ht hW => hQ t ht hW) hL dX2_read_24
def cfT_read (C : St) (x0 : Nat) : Option Int32 :=
  gd_ (x0 < 2) <|
  if (C (40 + x0) 3) = 0 then (none)
  else (cfT_read_b15 C x0)
theorem cfT_read_w0 {p : Program} {l : Launch} {e : Env} {R : Room} {s : State} {m : MethodId} {args : Array Value} {below : List Frame} {meth : Method} {c : Code} {Z : CZ} {Y : CY} {A : Nat → Prop} {C : St} {H : Heap} {cells slots : Nat} {Qc : Array Value → State → Outcome → State → Prop} {free : Addr → Prop} (X : CCx p s m args meth c cX2_read 1 (some .int) RX2 Z) (hM : cPD Z Y A C H) (hR : cfT_read_rm.frames ≤ R.frames ∧ cfT_read_rm.locals ≤ R.locals ∧ cells ≤ R.cells ∧ slots ≤ R.slots) (hF : ∀ q, cFr Z q → free q) {r : Int32} (hQ : ∀ t : State, t.heap = H → s.WarmedH t.vm → Qc args s (.returned (some (.int r))) t) : cfT_read_P0 p l e R s m args below meth c Z Y H cells slots Qc free r (cfT_read C) := by
  intro x0 locs ls hL hl h
  obtain ⟨⟨hx, hb, hr, hlocks, hml, hown, hts⟩, hK⟩ := id X
  unfold cfT_read at h
  refine lv_aload_n hx hb dX2_read_0 rfl (lv_at hl 0 rfl) ?_
  obtain ⟨b1, h⟩ := gd_e h
  refine gt3 X hM b1 dX2_read_1 ?_
  refine lv_if_ne (tgt := 15) hx hb dX2_read_4 (by decide) (fun c2 => ?_) (fun c2 => ?_)
  · have h := in_ c2 h
    exact cfT_read_w15 X hM hR hF hQ x0 _ ls hL (lv_sub hl [0] rfl) h
  · have h := ip_ c2 h
    exact no_ h
theorem cfT_read_hd : yX2_read.cls = RX2 ∧ yX2_read.cls ≠ "java/lang/invoke/MethodHandle" ∧ yX2_read.cls ≠ "java/lang/invoke/VarHandle" ∧ (parseMethodDescriptor yX2_read.desc).map (fun d => d.parameters.length) = some 0 := by decide +kernel
theorem cfT_read_met (l : Launch) (Z : CZ) (Y : CY) (A : Nat → Prop) (C : St) (x0 : Nat) (r : Int32) (h : cfT_read C x0 = some r) : Met l yX2_read (ws_ yX2_read cX2_read 1 (some .int)) cfT_read_rm (va_Pc [.ref (cSa Z (40 + x0))] (cS Z Y A C)) (Qro (some (.int r))) 0 0 (cFr Z) := by
  refine Met.ofW (cc := cX2_read) (maxL := 1) (ret := some .int) (by decide) rfl ?_
  intro p e s m args below meth c s₁ B hml hv
  obtain ⟨rfl, hv⟩ := hv
  have hts := atoms_spec (ws := ws_ yX2_read cX2_read 1 (some .int)) B.pre
  have hts : ∀ w ∈ lw_all, w.before _ s = true := fun w h => hts w (List.mem_cons_of_mem _ h)
  have X : CCx p s m _ meth c cX2_read 1 (some .int) RX2 Z := ⟨⟨B.exec, B.bytes, B.returns, B.notSynchronized, hml, findClass_of_methodNamed B.named, hts⟩, hv.2⟩
  have hl := lv_entry [.ref (cSa Z (40 + x0))] (n := 1) (Nat.le_of_ble_eq_true rfl)
  rw [lg_entry_eq]
  generalize (lg_sl [.ref (cSa Z (40 + x0))] ++ List.replicate (1 - (lg_sl [.ref (cSa Z (40 + x0))]).length) Slot.unset).toArray = ls at hl ⊢
  exact cfT_read_w0 X hv.1 ⟨Nat.le_refl _, Nat.le_refl _, Nat.le_refl _, Nat.le_refl _⟩ (fun _ h => h) (fun t ht _ => ⟨rfl, ht⟩) x0 [] ls (fun q hq => by cases hq) hl h

/-! SecondChances.part(JJI)J -/
def cf_part_rm : Room := { frames := 101, cells := 0, slots := 0, locals := 2323 }
def cf_part_P0 (p : Program) (l : Launch) (e : Env) (s : State) (m : MethodId) (args : Array Value) (below : List Frame) (meth : Method) (c : Code) (r : Int64) (f : Int64 → Int64 → Int32 → Option Int64) : Prop := ∀ (x0 : Int64) (x2 : Int64) (x4 : Int32) (ls : Array Slot), lv_has ls 5 [(0, .long x0), (2, .long x2), (4, .int x4)] → f x0 x2 x4 = some r → W p l e cf_part_rm s m args below meth c s.heap [] 0 0 (MQ below (Qro (some (.long r))) args s 0 0 (fun _ => False)) (F0 m 0 ls [])
def cf_part_P10 (p : Program) (l : Launch) (e : Env) (s : State) (m : MethodId) (args : Array Value) (below : List Frame) (meth : Method) (c : Code) (r : Int64) (f : Int64 → Int64 → Int64 → Option Int64) : Prop := ∀ (x0 : Int64) (x2 : Int64) (t0 : Int64) (ls : Array Slot), lv_has ls 5 [(0, .long x0), (2, .long x2)] → f x0 x2 t0 = some r → W p l e cf_part_rm s m args below meth c s.heap [] 0 0 (MQ below (Qro (some (.long r))) args s 0 0 (fun _ => False)) (F0 m 10 ls [.long t0])
def cf_part_b10 (x0 : Int64) (x2 : Int64) (t0 : Int64) : Option Int64 :=
  bd_ (cf_divisor100 x0 x2) fun v1 =>
  if v1 = 0 then none else
  some (t0 / v1)
theorem cf_part_w10 {p : Program} {l : Launch} {e : Env} {s : State} {m : MethodId} {args : Array Value} {below : List Frame} {meth : Method} {c : Code} (C : SCx p s m args meth c cX0_part 5 (some .long) RX0) {r : Int64} : cf_part_P10 p l e s m args below meth c r (cf_part_b10) := by
  intro x0 x2 t0 ls hl h
  obtain ⟨hx, hb, hr, hlocks, hml, hown, hts⟩ := id C
  unfold cf_part_b10 at h
  refine lv_lload_n hx hb dX0_part_10 rfl (lv_at hl 0 rfl) ?_
  refine lv_lload_n hx hb dX0_part_11 rfl (lv_at hl 1 rfl) ?_
  obtain ⟨v1, q_v1, h⟩ := bd_e h
  refine s_roJ (As := [.long x0, .long x2]) (rest := [.long t0]) C (cf_divisor100_met _ x0 x2 v1 q_v1) (lw_S q830 q831 q79 q832) cf_divisor100_hd ⟨rfl, rfl⟩ ⟨Nat.le_of_ble_eq_true rfl, Nat.le_of_ble_eq_true rfl⟩ ⟨Nat.le_refl _, Nat.le_refl _⟩ rfl hl.1 rfl (Nat.le_of_ble_eq_true rfl) dX0_part_12 ?_
  by_cases c2 : v1 = 0
  · exact no_ (ip_ c2 h)
  have h := in_ c2 h
  refine lv_ldiv hx hb dX0_part_15 c2 ?_
  have h := so_ h
  subst h
  exact W.lret hx hb hr (fun t ht hW => ⟨rfl, ht⟩) (fun q hq => by cases hq) dX0_part_16
def cf_part (x0 : Int64) (x2 : Int64) (x4 : Int32) : Option Int64 :=
  if x4 = 0 then (cf_part_b10 x0 x2 x0)
  else (cf_part_b10 x0 x2 x2)
theorem cf_part_w0 {p : Program} {l : Launch} {e : Env} {s : State} {m : MethodId} {args : Array Value} {below : List Frame} {meth : Method} {c : Code} (C : SCx p s m args meth c cX0_part 5 (some .long) RX0) {r : Int64} : cf_part_P0 p l e s m args below meth c r (cf_part) := by
  intro x0 x2 x4 ls hl h
  obtain ⟨hx, hb, hr, hlocks, hml, hown, hts⟩ := id C
  unfold cf_part at h
  refine lv_iload hx hb dX0_part_0 (lv_at hl 2 rfl) ?_
  refine lv_if_ne (tgt := 9) hx hb dX0_part_2 (by decide) (fun c1 => ?_) (fun c1 => ?_)
  · have h := in_ c1 h
    refine lv_lload_n hx hb dX0_part_9 rfl (lv_at hl 1 rfl) ?_
    exact cf_part_w10 C x0 x2 x2 ls (lv_sub hl [0, 1] rfl) h
  · have h := ip_ c1 h
    refine lv_lload_n hx hb dX0_part_5 rfl (lv_at hl 0 rfl) ?_
    refine lv_goto (tgt := 10) hx hb dX0_part_6 (by decide) ?_
    exact cf_part_w10 C x0 x2 x0 ls (lv_sub hl [0, 1] rfl) h
theorem cf_part_hd : yX0_part.cls ≠ "java/lang/invoke/MethodHandle" ∧ yX0_part.cls ≠ "java/lang/invoke/VarHandle" ∧ (parseMethodDescriptor yX0_part.desc).map (fun d => d.parameters.length) = some 3 := by decide +kernel
theorem cf_part_met (l : Launch) (x0 : Int64) (x2 : Int64) (x4 : Int32) (r : Int64) (h : cf_part x0 x2 x4 = some r) : Met l yX0_part (ws_ yX0_part cX0_part 5 (some .long)) cf_part_rm (va_Pc [.long x0, .long x2, .int x4] (fun _ => True)) (Qro (some (.long r))) 0 0 (fun _ => False) := by
  refine Met.ofW (cc := cX0_part) (maxL := 5) (ret := some .long) (by decide) rfl ?_
  intro p e s m args below meth c s₁ B hml hv
  obtain ⟨rfl, hv⟩ := hv
  have hts := atoms_spec (ws := ws_ yX0_part cX0_part 5 (some .long)) B.pre
  have hts : ∀ w ∈ lw_all, w.before _ s = true := fun w h => hts w (List.mem_cons_of_mem _ h)
  have C : SCx p s m _ meth c cX0_part 5 (some .long) RX0 := ⟨B.exec, B.bytes, B.returns, B.notSynchronized, hml, findClass_of_methodNamed B.named, hts⟩
  have hl := lv_entry [.long x0, .long x2, .int x4] (n := 5) (Nat.le_of_ble_eq_true rfl)
  rw [lg_entry_eq]
  generalize (lg_sl [.long x0, .long x2, .int x4] ++ List.replicate (5 - (lg_sl [.long x0, .long x2, .int x4]).length) Slot.unset).toArray = ls at hl ⊢
  exact cf_part_w0 C x0 x2 x4 ls hl h

/-! SecondChances.oddsOf(III)J -/
def cf_oddsOf_rm : Room := { frames := 102, cells := 0, slots := 0, locals := 2347 }
def cf_oddsOf_P105 (p : Program) (l : Launch) (e : Env) (R : Room) (s : State) (m : MethodId) (args : Array Value) (below : List Frame) (meth : Method) (c : Code) (Z : CZ) (Y : CY) (H : Heap) (cells slots : Nat) (Qc : Array Value → State → Outcome → State → Prop) (free : Addr → Prop) (r : Int64) (f : Int32 → Int64 → Int64 → Int32 → Int32 → Option Int64) : Prop := ∀ (x3 : Int32) (x4 : Int64) (x6 : Int64) (x8 : Int32) (x9 : Int32) (locs : List Loc) (ls : Array Slot), (∀ q ∈ locs, free q.base) → lv_has ls 10 [(0, .ref (cSa Z 0)), (3, .int x3), (4, .long x4), (6, .long x6), (8, .int x8), (9, .int x9)] → f x3 x4 x6 x8 x9 = some r → W p l e R s m args below meth c H locs cells slots (MQ below Qc args s cells slots free) (F0 m 105 ls [])
def cf_oddsOf_P59 (p : Program) (l : Launch) (e : Env) (R : Room) (s : State) (m : MethodId) (args : Array Value) (below : List Frame) (meth : Method) (c : Code) (Z : CZ) (Y : CY) (H : Heap) (cells slots : Nat) (Qc : Array Value → State → Outcome → State → Prop) (free : Addr → Prop) (r : Int64) (f : Int32 → Int64 → Int64 → Int32 → Int32 → Option Int64) : Prop := ∀ (x3 : Int32) (x4 : Int64) (x6 : Int64) (x8 : Int32) (x9 : Int32) (locs : List Loc) (ls : Array Slot), (∀ q ∈ locs, free q.base) → lv_has ls 10 [(0, .ref (cSa Z 0)), (3, .int x3), (4, .long x4), (6, .long x6), (8, .int x8), (9, .int x9)] → f x3 x4 x6 x8 x9 = some r → W p l e R s m args below meth c H locs cells slots (MQ below Qc args s cells slots free) (F0 m 59 ls [])
def cf_oddsOf_P54 (p : Program) (l : Launch) (e : Env) (R : Room) (s : State) (m : MethodId) (args : Array Value) (below : List Frame) (meth : Method) (c : Code) (Z : CZ) (Y : CY) (H : Heap) (cells slots : Nat) (Qc : Array Value → State → Outcome → State → Prop) (free : Addr → Prop) (r : Int64) (f : Int32 → Int64 → Int64 → Int32 → Option Int64) : Prop := ∀ (x3 : Int32) (x4 : Int64) (x6 : Int64) (t0 : Int32) (locs : List Loc) (ls : Array Slot), (∀ q ∈ locs, free q.base) → lv_has ls 10 [(0, .ref (cSa Z 0)), (3, .int x3), (4, .long x4), (6, .long x6)] → f x3 x4 x6 t0 = some r → W p l e R s m args below meth c H locs cells slots (MQ below Qc args s cells slots free) (F0 m 54 ls [.int t0])
def cf_oddsOf_P0 (p : Program) (l : Launch) (e : Env) (R : Room) (s : State) (m : MethodId) (args : Array Value) (below : List Frame) (meth : Method) (c : Code) (Z : CZ) (Y : CY) (H : Heap) (cells slots : Nat) (Qc : Array Value → State → Outcome → State → Prop) (free : Addr → Prop) (r : Int64) (f : Int32 → Int32 → Int32 → Option Int64) : Prop := ∀ (x1 : Int32) (x2 : Int32) (x3 : Int32) (locs : List Loc) (ls : Array Slot), (∀ q ∈ locs, free q.base) → lv_has ls 10 [(0, .ref (cSa Z 0)), (1, .int x1), (2, .int x2), (3, .int x3)] → f x1 x2 x3 = some r → W p l e R s m args below meth c H locs cells slots (MQ below Qc args s cells slots free) (F0 m 0 ls [])
def cf_oddsOf_b105 (C : St) (k59 : Int32 → Int64 → Int64 → Int32 → Int32 → Option Int64) (x3 : Int32) (x4 : Int64) (x6 : Int64) (x8 : Int32) (x9 : Int32) : Option Int64 :=
  k59 x3 x4 x6 x8 (x9 + 1)
theorem cf_oddsOf_w105 {p : Program} {l : Launch} {e : Env} {R : Room} {s : State} {m : MethodId} {args : Array Value} {below : List Frame} {meth : Method} {c : Code} {Z : CZ} {Y : CY} {A : Nat → Prop} {C : St} {H : Heap} {cells slots : Nat} {Qc : Array Value → State → Outcome → State → Prop} {free : Addr → Prop} (X : CCx p s m args meth c cX0_oddsOf 10 (some .long) RX0 Z) (hM : cPD Z Y A C H) (hR : cf_oddsOf_rm.frames ≤ R.frames ∧ cf_oddsOf_rm.locals ≤ R.locals ∧ cells ≤ R.cells ∧ slots ≤ R.slots) (hF : ∀ q, cFr Z q → free q) {r : Int64} (hQ : ∀ t : State, t.heap = H → s.WarmedH t.vm → Qc args s (.returned (some (.long r))) t) {k59 : Int32 → Int64 → Int64 → Int32 → Int32 → Option Int64} (hk59 : cf_oddsOf_P59 p l e R s m args below meth c Z Y H cells slots Qc free r k59) : cf_oddsOf_P105 p l e R s m args below meth c Z Y H cells slots Qc free r (cf_oddsOf_b105 C k59) := by
  intro x3 x4 x6 x8 x9 locs ls hL hl h
  obtain ⟨⟨hx, hb, hr, hlocks, hml, hown, hts⟩, hK⟩ := id X
  unfold cf_oddsOf_b105 at h
  refine lv_iinc (v := (x9 + 1)) (lv' := [(9, .int (x9 + 1)), (0, .ref (cSa Z 0)), (3, .int x3), (4, .long x4), (6, .long x6), (8, .int x8)]) hx hb dX0_oddsOf_105 hl (k := 5) rfl rfl (by decide) rfl (fun ls hl => ?_)
  refine lv_goto (tgt := 59) hx hb dX0_oddsOf_108 (by decide) ?_
  exact hk59 x3 x4 x6 x8 (x9 + 1) _ ls hL (lv_sub hl [1, 2, 3, 4, 5, 0] rfl) h
def cf_oddsOf_b59 (C : St) (k59 : Int32 → Int64 → Int64 → Int32 → Int32 → Option Int64) (x3 : Int32) (x4 : Int64) (x6 : Int64) (x8 : Int32) (x9 : Int32) : Option Int64 :=
  if (8 : Int32) ≤ x9 then (bd_ (cf_part x4 x6 x3) fun v2 =>
    some v2)
  else (bd_ (cf_isIn x8 x9) fun v3 =>
    if v3 = 0 then (cf_oddsOf_b105 C k59 x3 x4 x6 x8 x9)
    else (ix_ 8 x9 fun q5 =>
      al_ 4 (C (20 + q5)) (3 : Int32) fun v6 =>
      lt_ (x4 * (((16 : Int32) - v6).toInt64)) fun v7 =>
      lt_ (x6 * (16 : Int64)) fun v8 =>
      cf_oddsOf_b105 C k59 x3 v7 v8 x8 x9))
theorem cf_oddsOf_w59 {p : Program} {l : Launch} {e : Env} {R : Room} {s : State} {m : MethodId} {args : Array Value} {below : List Frame} {meth : Method} {c : Code} {Z : CZ} {Y : CY} {A : Nat → Prop} {C : St} {H : Heap} {cells slots : Nat} {Qc : Array Value → State → Outcome → State → Prop} {free : Addr → Prop} (X : CCx p s m args meth c cX0_oddsOf 10 (some .long) RX0 Z) (hM : cPD Z Y A C H) (hR : cf_oddsOf_rm.frames ≤ R.frames ∧ cf_oddsOf_rm.locals ≤ R.locals ∧ cells ≤ R.cells ∧ slots ≤ R.slots) (hF : ∀ q, cFr Z q → free q) {r : Int64} (hQ : ∀ t : State, t.heap = H → s.WarmedH t.vm → Qc args s (.returned (some (.long r))) t) {k59 : Int32 → Int64 → Int64 → Int32 → Int32 → Option Int64} (hk59 : cf_oddsOf_P59 p l e R s m args below meth c Z Y H cells slots Qc free r k59) : cf_oddsOf_P59 p l e R s m args below meth c Z Y H cells slots Qc free r (cf_oddsOf_b59 C k59) := by
  intro x3 x4 x6 x8 x9 locs ls hL hl h
  obtain ⟨⟨hx, hb, hr, hlocks, hml, hown, hts⟩, hK⟩ := id X
  unfold cf_oddsOf_b59 at h
  refine lv_iload hx hb dX0_oddsOf_59 (lv_at hl 5 rfl) ?_
  refine lv_bipush (v := 8) hx hb dX0_oddsOf_61 (by decide) ?_
  refine lv_icmp_ge (tgt := 111) hx hb dX0_oddsOf_63 (by decide) (fun c1 => ?_) (fun c1 => ?_)
  · have h := ip_ c1 h
    refine lv_lload hx hb dX0_oddsOf_111 (lv_at hl 2 rfl) ?_
    refine lv_lload hx hb dX0_oddsOf_113 (lv_at hl 3 rfl) ?_
    refine lv_iload_n hx hb dX0_oddsOf_115 rfl (lv_at hl 1 rfl) ?_
    obtain ⟨v2, q_v2, h⟩ := bd_e h
    refine s_roJ (As := [.long x4, .long x6, .int x3]) (rest := []) X.1 (cf_part_met _ x4 x6 x3 v2 q_v2) (lw_S q827 q828 q79 q829) cf_part_hd ⟨rfl, rfl⟩ ⟨Nat.le_trans (m := cf_oddsOf_rm.frames) (Nat.le_of_ble_eq_true rfl) hR.1, Nat.le_trans (m := cf_oddsOf_rm.locals) (Nat.le_of_ble_eq_true rfl) hR.2.1⟩ ⟨hR.2.2.1, hR.2.2.2⟩ rfl hl.1 rfl (Nat.le_of_ble_eq_true rfl) dX0_oddsOf_116 ?_
    have h := so_ h
    subst h
    exact W.lret hx hb hr (fun t ht hW => hQ t ht hW) hL dX0_oddsOf_119
  · have h := in_ c1 h
    refine lv_iload hx hb dX0_oddsOf_66 (lv_at hl 4 rfl) ?_
    refine lv_iload hx hb dX0_oddsOf_68 (lv_at hl 5 rfl) ?_
    obtain ⟨v3, q_v3, h⟩ := bd_e h
    refine s_roI (As := [.int x8, .int x9]) (rest := []) X.1 (cf_isIn_met _ x8 x9 v3 q_v3) (lw_S q698 q550 q79 q551) cf_isIn_hd ⟨rfl, rfl⟩ ⟨Nat.le_trans (m := cf_oddsOf_rm.frames) (Nat.le_of_ble_eq_true rfl) hR.1, Nat.le_trans (m := cf_oddsOf_rm.locals) (Nat.le_of_ble_eq_true rfl) hR.2.1⟩ ⟨hR.2.2.1, hR.2.2.2⟩ rfl hl.1 rfl (Nat.le_of_ble_eq_true rfl) dX0_oddsOf_70 ?_
    refine lv_if_eq (tgt := 105) hx hb dX0_oddsOf_73 (by decide) (fun c4 => ?_) (fun c4 => ?_)
    · have h := ip_ c4 h
      exact cf_oddsOf_w105 X hM hR hF hQ hk59 x3 x4 x6 x8 x9 _ ls hL (lv_sub hl [0, 1, 2, 3, 4, 5] rfl) h
    · have h := in_ c4 h
      refine lv_lload hx hb dX0_oddsOf_76 (lv_at hl 2 rfl) ?_
      refine lv_bipush (v := 16) hx hb dX0_oddsOf_78 (by decide) ?_
      refine lv_aload_n hx hb dX0_oddsOf_80 rfl (lv_at hl 0 rfl) ?_
      refine gc1 X hM dX0_oddsOf_81 ?_
      refine lv_iload hx hb dX0_oddsOf_84 (lv_at hl 5 rfl) ?_
      obtain ⟨i_q5, b_q5, h⟩ := ix_e h
      refine c_aldP X hM i_q5 dX0_oddsOf_86 (fun q5 e_q5 => ?_)
      have h := h q5 e_q5
      rw [← e_q5] at b_q5
      refine gpf X hM b_q5 dX0_oddsOf_87 ?_
      refine lv_iconst (v := 3) hx hb dX0_oddsOf_90 (by decide) ?_
      obtain ⟨i_v6, h⟩ := al_e h
      refine c_ald X hM (k := (20 + q5)) (cHs_S (cS_f b_q5)) (cArr_f b_q5) (cAr_s (by omega)) i_v6 dX0_oddsOf_91 (fun v6 e_v6 => ?_)
      have h := h v6 e_v6
      refine lv_isub hx hb dX0_oddsOf_92 ?_
      refine lv_i2l hx hb dX0_oddsOf_93 rfl ?_
      refine lv_lmul hx hb dX0_oddsOf_94 ?_
      refine lv_topl (fun v7 e_v7 => ?_)
      have h := lt_i h e_v7
      refine lv_lstore (lv' := [(4, .long v7), (0, .ref (cSa Z 0)), (3, .int x3), (6, .long x6), (8, .int x8), (9, .int x9)]) hx hb dX0_oddsOf_95 hl (by decide) rfl (fun ls hl => ?_)
      refine lv_lload hx hb dX0_oddsOf_97 (lv_at hl 3 rfl) ?_
      refine lv_ldc2 (v := 16) hx hb hown (hts _ q826) dX0_oddsOf_99 ?_
      refine lv_lmul hx hb dX0_oddsOf_102 ?_
      refine lv_topl (fun v8 e_v8 => ?_)
      have h := lt_i h e_v8
      refine lv_lstore (lv' := [(6, .long v8), (4, .long v7), (0, .ref (cSa Z 0)), (3, .int x3), (8, .int x8), (9, .int x9)]) hx hb dX0_oddsOf_103 hl (by decide) rfl (fun ls hl => ?_)
      exact cf_oddsOf_w105 X hM hR hF hQ hk59 x3 v7 v8 x8 x9 _ ls hL (lv_sub hl [2, 3, 1, 0, 4, 5] rfl) h
def cf_oddsOf_l59 (C : St) (n : Nat) : Int32 → Int64 → Int64 → Int32 → Int32 → Option Int64 := lp (fun _ _ _ _ _ => none) (cf_oddsOf_b59 C) n
theorem cf_oddsOf_lw59 {p : Program} {l : Launch} {e : Env} {R : Room} {s : State} {m : MethodId} {args : Array Value} {below : List Frame} {meth : Method} {c : Code} {Z : CZ} {Y : CY} {A : Nat → Prop} {C : St} {H : Heap} {cells slots : Nat} {Qc : Array Value → State → Outcome → State → Prop} {free : Addr → Prop} (X : CCx p s m args meth c cX0_oddsOf 10 (some .long) RX0 Z) (hM : cPD Z Y A C H) (hR : cf_oddsOf_rm.frames ≤ R.frames ∧ cf_oddsOf_rm.locals ≤ R.locals ∧ cells ≤ R.cells ∧ slots ≤ R.slots) (hF : ∀ q, cFr Z q → free q) {r : Int64} (hQ : ∀ t : State, t.heap = H → s.WarmedH t.vm → Qc args s (.returned (some (.long r))) t) : ∀ n : Nat, cf_oddsOf_P59 p l e R s m args below meth c Z Y H cells slots Qc free r (cf_oddsOf_l59 C n) := by
  intro n
  induction n with
  | zero => intro x3 x4 x6 x8 x9 locs ls hL hl h; exact no_ h
  | succ n ih => exact cf_oddsOf_w59 X hM hR hF hQ ih
def cf_oddsOf_b54 (C : St) (x3 : Int32) (x4 : Int64) (x6 : Int64) (t0 : Int32) : Option Int64 :=
  cf_oddsOf_l59 C FU x3 x4 x6 t0 (0 : Int32)
theorem cf_oddsOf_w54 {p : Program} {l : Launch} {e : Env} {R : Room} {s : State} {m : MethodId} {args : Array Value} {below : List Frame} {meth : Method} {c : Code} {Z : CZ} {Y : CY} {A : Nat → Prop} {C : St} {H : Heap} {cells slots : Nat} {Qc : Array Value → State → Outcome → State → Prop} {free : Addr → Prop} (X : CCx p s m args meth c cX0_oddsOf 10 (some .long) RX0 Z) (hM : cPD Z Y A C H) (hR : cf_oddsOf_rm.frames ≤ R.frames ∧ cf_oddsOf_rm.locals ≤ R.locals ∧ cells ≤ R.cells ∧ slots ≤ R.slots) (hF : ∀ q, cFr Z q → free q) {r : Int64} (hQ : ∀ t : State, t.heap = H → s.WarmedH t.vm → Qc args s (.returned (some (.long r))) t) : cf_oddsOf_P54 p l e R s m args below meth c Z Y H cells slots Qc free r (cf_oddsOf_b54 C) := by
  intro x3 x4 x6 t0 locs ls hL hl h
  obtain ⟨⟨hx, hb, hr, hlocks, hml, hown, hts⟩, hK⟩ := id X
  unfold cf_oddsOf_b54 at h
  refine lv_istore (lv' := [(8, .int t0), (0, .ref (cSa Z 0)), (3, .int x3), (4, .long x4), (6, .long x6)]) hx hb dX0_oddsOf_54 hl (by decide) rfl (fun ls hl => ?_)
  refine lv_iconst (v := 0) hx hb dX0_oddsOf_56 (by decide) ?_
  refine lv_istore (lv' := [(9, .int (0 : Int32)), (8, .int t0), (0, .ref (cSa Z 0)), (3, .int x3), (4, .long x4), (6, .long x6)]) hx hb dX0_oddsOf_57 hl (by decide) rfl (fun ls hl => ?_)
  exact cf_oddsOf_lw59 X hM hR hF hQ FU x3 x4 x6 t0 (0 : Int32) _ ls hL (lv_sub hl [2, 3, 4, 5, 1, 0] rfl) h
def cf_oddsOf (C : St) (x1 : Int32) (x2 : Int32) (x3 : Int32) : Option Int64 :=
  bd_ (cf_deed_2 C x1) fun v1 =>
  bd_ (cf_canBe C v1 x2) fun v2 =>
  if v2 = 0 then (bd_ (cf_no (-3 : Int32)) fun v9 =>
    some v9)
  else (bd_ (cf_likenessOf C x1 x2) fun v4 =>
    al_ 4 (C 3) (3 : Int32) fun v5 =>
    if v4 < v5 then (bd_ (cf_deed_2 C x1) fun v7 =>
      bd_ (cf_comers C v7 x2) fun v8 =>
      cf_oddsOf_b54 C x3 (1 : Int64) (1 : Int64) v8)
    else (cf_oddsOf_b54 C x3 (1 : Int64) (1 : Int64) (0 : Int32)))
theorem cf_oddsOf_w0 {p : Program} {l : Launch} {e : Env} {R : Room} {s : State} {m : MethodId} {args : Array Value} {below : List Frame} {meth : Method} {c : Code} {Z : CZ} {Y : CY} {A : Nat → Prop} {C : St} {H : Heap} {cells slots : Nat} {Qc : Array Value → State → Outcome → State → Prop} {free : Addr → Prop} (X : CCx p s m args meth c cX0_oddsOf 10 (some .long) RX0 Z) (hM : cPD Z Y A C H) (hR : cf_oddsOf_rm.frames ≤ R.frames ∧ cf_oddsOf_rm.locals ≤ R.locals ∧ cells ≤ R.cells ∧ slots ≤ R.slots) (hF : ∀ q, cFr Z q → free q) {r : Int64} (hQ : ∀ t : State, t.heap = H → s.WarmedH t.vm → Qc args s (.returned (some (.long r))) t) : cf_oddsOf_P0 p l e R s m args below meth c Z Y H cells slots Qc free r (cf_oddsOf C) := by
  intro x1 x2 x3 locs ls hL hl h
  obtain ⟨⟨hx, hb, hr, hlocks, hml, hown, hts⟩, hK⟩ := id X
  unfold cf_oddsOf at h
  refine lv_aload_n hx hb dX0_oddsOf_0 rfl (lv_at hl 0 rfl) ?_
  refine lv_aload_n hx hb dX0_oddsOf_1 rfl (lv_at hl 0 rfl) ?_
  refine lv_iload_n hx hb dX0_oddsOf_2 rfl (lv_at hl 1 rfl) ?_
  obtain ⟨v1, q_v1, h⟩ := bd_e h
  refine f_roR (As := [.int x1]) (rest := [.ref (cSa Z 0)]) X hM (c_recv0 X hM) hL hF (cf_deed_2_met _ Z Y A C x1 v1 q_v1) (lw_V q647 q649 qs9 q79 q650) cf_deed_2_hd ⟨rfl, rfl⟩ ⟨Nat.le_trans (m := cf_oddsOf_rm.frames) (Nat.le_of_ble_eq_true rfl) hR.1, Nat.le_trans (m := cf_oddsOf_rm.locals) (Nat.le_of_ble_eq_true rfl) hR.2.1⟩ ⟨hR.2.2.1, hR.2.2.2⟩ rfl hl.1 rfl (Nat.le_of_ble_eq_true rfl) dX0_oddsOf_3 (fun locs hL => ?_)
  refine lv_iload_n hx hb dX0_oddsOf_6 rfl (lv_at hl 2 rfl) ?_
  obtain ⟨v2, q_v2, h⟩ := bd_e h
  refine f_roI (As := [.ref (cDa Y (100 + v1)), .int x2]) (rest := []) X hM (c_recv0 X hM) hL hF (cf_canBe_met _ Z Y A C v1 x2 v2 q_v2) (lw_V q679 q681 qs11 q79 q682) cf_canBe_hd ⟨rfl, rfl⟩ ⟨Nat.le_trans (m := cf_oddsOf_rm.frames) (Nat.le_of_ble_eq_true rfl) hR.1, Nat.le_trans (m := cf_oddsOf_rm.locals) (Nat.le_of_ble_eq_true rfl) hR.2.1⟩ ⟨hR.2.2.1, hR.2.2.2⟩ rfl hl.1 rfl (Nat.le_of_ble_eq_true rfl) dX0_oddsOf_7 (fun locs hL => ?_)
  refine lv_if_ne (tgt := 19) hx hb dX0_oddsOf_10 (by decide) (fun c3 => ?_) (fun c3 => ?_)
  · have h := in_ c3 h
    refine lv_lconst (v := 1) hx hb dX0_oddsOf_19 (by decide) ?_
    refine lv_lstore (lv' := [(4, .long (1 : Int64)), (0, .ref (cSa Z 0)), (1, .int x1), (2, .int x2), (3, .int x3)]) hx hb dX0_oddsOf_20 hl (by decide) rfl (fun ls hl => ?_)
    refine lv_lconst (v := 1) hx hb dX0_oddsOf_22 (by decide) ?_
    refine lv_lstore (lv' := [(6, .long (1 : Int64)), (4, .long (1 : Int64)), (0, .ref (cSa Z 0)), (1, .int x1), (2, .int x2), (3, .int x3)]) hx hb dX0_oddsOf_23 hl (by decide) rfl (fun ls hl => ?_)
    refine lv_aload_n hx hb dX0_oddsOf_25 rfl (lv_at hl 2 rfl) ?_
    refine lv_iload_n hx hb dX0_oddsOf_26 rfl (lv_at hl 3 rfl) ?_
    refine lv_iload_n hx hb dX0_oddsOf_27 rfl (lv_at hl 4 rfl) ?_
    obtain ⟨v4, q_v4, h⟩ := bd_e h
    refine f_roI (As := [.int x1, .int x2]) (rest := []) X hM (c_recv0 X hM) hL hF (cf_likenessOf_met _ Z Y A C x1 x2 v4 q_v4) (lw_V q810 q812 qs31 q79 q813) cf_likenessOf_hd ⟨rfl, rfl⟩ ⟨Nat.le_trans (m := cf_oddsOf_rm.frames) (Nat.le_of_ble_eq_true rfl) hR.1, Nat.le_trans (m := cf_oddsOf_rm.locals) (Nat.le_of_ble_eq_true rfl) hR.2.1⟩ ⟨hR.2.2.1, hR.2.2.2⟩ rfl hl.1 rfl (Nat.le_of_ble_eq_true rfl) dX0_oddsOf_28 (fun locs hL => ?_)
    refine lv_aload_n hx hb dX0_oddsOf_31 rfl (lv_at hl 2 rfl) ?_
    refine gc3 X hM dX0_oddsOf_32 ?_
    refine lv_iconst (v := 3) hx hb dX0_oddsOf_35 (by decide) ?_
    obtain ⟨i_v5, h⟩ := al_e h
    refine c_ald X hM (k := 3) (cHs_S (by decide)) (fun _ _ _ => rfl) (cAr_s (by decide)) i_v5 dX0_oddsOf_36 (fun v5 e_v5 => ?_)
    have h := h v5 e_v5
    refine lv_icmp_lt (tgt := 44) hx hb dX0_oddsOf_37 (by decide) (fun c6 => ?_) (fun c6 => ?_)
    · have h := ip_ c6 h
      refine lv_aload_n hx hb dX0_oddsOf_44 rfl (lv_at hl 2 rfl) ?_
      refine lv_aload_n hx hb dX0_oddsOf_45 rfl (lv_at hl 2 rfl) ?_
      refine lv_iload_n hx hb dX0_oddsOf_46 rfl (lv_at hl 3 rfl) ?_
      obtain ⟨v7, q_v7, h⟩ := bd_e h
      refine f_roR (As := [.int x1]) (rest := [.ref (cSa Z 0)]) X hM (c_recv0 X hM) hL hF (cf_deed_2_met _ Z Y A C x1 v7 q_v7) (lw_V q647 q649 qs9 q79 q650) cf_deed_2_hd ⟨rfl, rfl⟩ ⟨Nat.le_trans (m := cf_oddsOf_rm.frames) (Nat.le_of_ble_eq_true rfl) hR.1, Nat.le_trans (m := cf_oddsOf_rm.locals) (Nat.le_of_ble_eq_true rfl) hR.2.1⟩ ⟨hR.2.2.1, hR.2.2.2⟩ rfl hl.1 rfl (Nat.le_of_ble_eq_true rfl) dX0_oddsOf_47 (fun locs hL => ?_)
      refine lv_iload_n hx hb dX0_oddsOf_50 rfl (lv_at hl 4 rfl) ?_
      obtain ⟨v8, q_v8, h⟩ := bd_e h
      refine f_roI (As := [.ref (cDa Y (100 + v7)), .int x2]) (rest := []) X hM (c_recv0 X hM) hL hF (cf_comers_met _ Z Y A C v7 x2 v8 q_v8) (lw_V q683 q685 qs12 q79 q686) cf_comers_hd ⟨rfl, rfl⟩ ⟨Nat.le_trans (m := cf_oddsOf_rm.frames) (Nat.le_of_ble_eq_true rfl) hR.1, Nat.le_trans (m := cf_oddsOf_rm.locals) (Nat.le_of_ble_eq_true rfl) hR.2.1⟩ ⟨hR.2.2.1, hR.2.2.2⟩ rfl hl.1 rfl (Nat.le_of_ble_eq_true rfl) dX0_oddsOf_51 (fun locs hL => ?_)
      exact cf_oddsOf_w54 X hM hR hF hQ x3 (1 : Int64) (1 : Int64) v8 _ ls hL (lv_sub hl [2, 5, 1, 0] rfl) h
    · have h := in_ c6 h
      refine lv_iconst (v := 0) hx hb dX0_oddsOf_40 (by decide) ?_
      refine lv_goto (tgt := 54) hx hb dX0_oddsOf_41 (by decide) ?_
      exact cf_oddsOf_w54 X hM hR hF hQ x3 (1 : Int64) (1 : Int64) (0 : Int32) _ ls hL (lv_sub hl [2, 5, 1, 0] rfl) h
  · have h := ip_ c3 h
    refine lv_bipush (v := -3) hx hb dX0_oddsOf_13 (by decide) ?_
    obtain ⟨v9, q_v9, h⟩ := bd_e h
    refine s_roJ (As := [.int (-3 : Int32)]) (rest := []) X.1 (cf_no_met _ (-3 : Int32) v9 q_v9) (lw_S q822 q823 q79 q824) cf_no_hd ⟨rfl, rfl⟩ ⟨Nat.le_trans (m := cf_oddsOf_rm.frames) (Nat.le_of_ble_eq_true rfl) hR.1, Nat.le_trans (m := cf_oddsOf_rm.locals) (Nat.le_of_ble_eq_true rfl) hR.2.1⟩ ⟨hR.2.2.1, hR.2.2.2⟩ rfl hl.1 rfl (Nat.le_of_ble_eq_true rfl) dX0_oddsOf_15 ?_
    have h := so_ h
    subst h
    exact W.lret hx hb hr (fun t ht hW => hQ t ht hW) hL dX0_oddsOf_18
theorem cf_oddsOf_hd : yX0_oddsOf.cls = RX0 ∧ yX0_oddsOf.cls ≠ "java/lang/invoke/MethodHandle" ∧ yX0_oddsOf.cls ≠ "java/lang/invoke/VarHandle" ∧ (parseMethodDescriptor yX0_oddsOf.desc).map (fun d => d.parameters.length) = some 3 := by decide +kernel
theorem cf_oddsOf_met (l : Launch) (Z : CZ) (Y : CY) (A : Nat → Prop) (C : St) (x1 : Int32) (x2 : Int32) (x3 : Int32) (r : Int64) (h : cf_oddsOf C x1 x2 x3 = some r) : Met l yX0_oddsOf (ws_ yX0_oddsOf cX0_oddsOf 10 (some .long)) cf_oddsOf_rm (va_Pc [.ref (cSa Z 0), .int x1, .int x2, .int x3] (cS Z Y A C)) (Qro (some (.long r))) 0 0 (cFr Z) := by
  refine Met.ofW (cc := cX0_oddsOf) (maxL := 10) (ret := some .long) (by decide) rfl ?_
  intro p e s m args below meth c s₁ B hml hv
  obtain ⟨rfl, hv⟩ := hv
  have hts := atoms_spec (ws := ws_ yX0_oddsOf cX0_oddsOf 10 (some .long)) B.pre
  have hts : ∀ w ∈ lw_all, w.before _ s = true := fun w h => hts w (List.mem_cons_of_mem _ h)
  have X : CCx p s m _ meth c cX0_oddsOf 10 (some .long) RX0 Z := ⟨⟨B.exec, B.bytes, B.returns, B.notSynchronized, hml, findClass_of_methodNamed B.named, hts⟩, hv.2⟩
  have hl := lv_entry [.ref (cSa Z 0), .int x1, .int x2, .int x3] (n := 10) (Nat.le_of_ble_eq_true rfl)
  rw [lg_entry_eq]
  generalize (lg_sl [.ref (cSa Z 0), .int x1, .int x2, .int x3] ++ List.replicate (10 - (lg_sl [.ref (cSa Z 0), .int x1, .int x2, .int x3]).length) Slot.unset).toArray = ls at hl ⊢
  exact cf_oddsOf_w0 X hv.1 ⟨Nat.le_refl _, Nat.le_refl _, Nat.le_refl _, Nat.le_refl _⟩ (fun _ h => h) (fun t ht _ => ⟨rfl, ht⟩) x1 x2 x3 [] ls (fun q hq => by cases hq) hl h

/-! SecondChances.deeds()I -/
def cf_deeds_rm : Room := { frames := 1, cells := 0, slots := 0, locals := 20 }
def cf_deeds_P0 (p : Program) (l : Launch) (e : Env) (R : Room) (s : State) (m : MethodId) (args : Array Value) (below : List Frame) (meth : Method) (c : Code) (Z : CZ) (Y : CY) (H : Heap) (cells slots : Nat) (Qc : Array Value → State → Outcome → State → Prop) (free : Addr → Prop) (r : Int32) (f : Option Int32) : Prop := ∀ (locs : List Loc) (ls : Array Slot), (∀ q ∈ locs, free q.base) → lv_has ls 1 [(0, .ref (cSa Z 0))] → f  = some r → W p l e R s m args below meth c H locs cells slots (MQ below Qc args s cells slots free) (F0 m 0 ls [])
def cf_deeds (C : St) : Option Int32 :=
  bd_ (cfT_read C 0) fun v1 =>
  bd_ (cfT_read C 1) fun v2 =>
  bd_ (cfL_size C 0 ) fun v3 =>
  some v3
theorem cf_deeds_w0 {p : Program} {l : Launch} {e : Env} {R : Room} {s : State} {m : MethodId} {args : Array Value} {below : List Frame} {meth : Method} {c : Code} {Z : CZ} {Y : CY} {A : Nat → Prop} {C : St} {H : Heap} {cells slots : Nat} {Qc : Array Value → State → Outcome → State → Prop} {free : Addr → Prop} (X : CCx p s m args meth c cX0_deeds 1 (some .int) RX0 Z) (hM : cPD Z Y A C H) (hR : cf_deeds_rm.frames ≤ R.frames ∧ cf_deeds_rm.locals ≤ R.locals ∧ cells ≤ R.cells ∧ slots ≤ R.slots) (hF : ∀ q, cFr Z q → free q) {r : Int32} (hQ : ∀ t : State, t.heap = H → s.WarmedH t.vm → Qc args s (.returned (some (.int r))) t) : cf_deeds_P0 p l e R s m args below meth c Z Y H cells slots Qc free r (cf_deeds C) := by
  intro locs ls hL hl h
  obtain ⟨⟨hx, hb, hr, hlocks, hml, hown, hts⟩, hK⟩ := id X
  unfold cf_deeds at h
  refine lv_aload_n hx hb dX0_deeds_0 rfl (lv_at hl 0 rfl) ?_
  refine gc5 X hM dX0_deeds_1 ?_
  obtain ⟨v1, q_v1, h⟩ := bd_e h
  refine f_roUI (As := []) (rest := []) (owner := RX2) (x := ⟨RX3, "read", "()I"⟩) X hM (c_recvX0 X hM) hL hF (cfT_read_met _ Z Y A C 0 v1 q_v1) (lw_U q634 q635 q637 q378 q81 q382) rfl (by decide +kernel) ⟨rfl, rfl⟩ ⟨Nat.le_trans (m := cf_deeds_rm.frames) (Nat.le_of_ble_eq_true rfl) hR.1, Nat.le_trans (m := cf_deeds_rm.locals) (Nat.le_of_ble_eq_true rfl) hR.2.1⟩ ⟨hR.2.2.1, hR.2.2.2⟩ rfl hl.1 rfl (Nat.le_of_ble_eq_true rfl) dX0_deeds_4 (fun locs hL => ?_)
  refine lv_pop hx hb dX0_deeds_7 rfl ?_
  refine lv_aload_n hx hb dX0_deeds_8 rfl (lv_at hl 0 rfl) ?_
  refine gc6 X hM dX0_deeds_9 ?_
  obtain ⟨v2, q_v2, h⟩ := bd_e h
  refine f_roUI (As := []) (rest := []) (owner := RX2) (x := ⟨RX4, "read", "()I"⟩) X hM (c_recvX1 X hM) hL hF (cfT_read_met _ Z Y A C 1 v2 q_v2) (lw_U q638 q639 q640 q378 q81 q382) rfl (by decide +kernel) ⟨rfl, rfl⟩ ⟨Nat.le_trans (m := cf_deeds_rm.frames) (Nat.le_of_ble_eq_true rfl) hR.1, Nat.le_trans (m := cf_deeds_rm.locals) (Nat.le_of_ble_eq_true rfl) hR.2.1⟩ ⟨hR.2.2.1, hR.2.2.2⟩ rfl hl.1 rfl (Nat.le_of_ble_eq_true rfl) dX0_deeds_12 (fun locs hL => ?_)
  refine lv_pop hx hb dX0_deeds_15 rfl ?_
  refine lv_aload_n hx hb dX0_deeds_16 rfl (lv_at hl 0 rfl) ?_
  refine gc5 X hM dX0_deeds_17 ?_
  refine gd5 X hM dX0_deeds_20 ?_
  obtain ⟨v3, q_v3, h⟩ := bd_e h
  refine f_roI (As := []) (rest := []) X hM (c_recvL (j := 0) X hM (by decide)) hL hF (cfL_size_met _ Z Y A C 0  v3 q_v3) (lw_V q641 q418 q419 q85 q420) cfL_size_hd ⟨rfl, rfl⟩ ⟨Nat.le_trans (m := cf_deeds_rm.frames) (Nat.le_of_ble_eq_true rfl) hR.1, Nat.le_trans (m := cf_deeds_rm.locals) (Nat.le_of_ble_eq_true rfl) hR.2.1⟩ ⟨hR.2.2.1, hR.2.2.2⟩ rfl hl.1 rfl (Nat.le_of_ble_eq_true rfl) dX0_deeds_23 (fun locs hL => ?_)
  have h := so_ h
  subst h
  exact W.iret hx hb hr (fun t ht hW => hQ t ht hW) hL dX0_deeds_26
theorem cf_deeds_hd : yX0_deeds.cls = RX0 ∧ yX0_deeds.cls ≠ "java/lang/invoke/MethodHandle" ∧ yX0_deeds.cls ≠ "java/lang/invoke/VarHandle" ∧ (parseMethodDescriptor yX0_deeds.desc).map (fun d => d.parameters.length) = some 0 := by decide +kernel
theorem cf_deeds_met (l : Launch) (Z : CZ) (Y : CY) (A : Nat → Prop) (C : St) (r : Int32) (h : cf_deeds C  = some r) : Met l yX0_deeds (ws_ yX0_deeds cX0_deeds 1 (some .int)) cf_deeds_rm (va_Pc [.ref (cSa Z 0)] (cS Z Y A C)) (Qro (some (.int r))) 0 0 (cFr Z) := by
  refine Met.ofW (cc := cX0_deeds) (maxL := 1) (ret := some .int) (by decide) rfl ?_
  intro p e s m args below meth c s₁ B hml hv
  obtain ⟨rfl, hv⟩ := hv
  have hts := atoms_spec (ws := ws_ yX0_deeds cX0_deeds 1 (some .int)) B.pre
  have hts : ∀ w ∈ lw_all, w.before _ s = true := fun w h => hts w (List.mem_cons_of_mem _ h)
  have X : CCx p s m _ meth c cX0_deeds 1 (some .int) RX0 Z := ⟨⟨B.exec, B.bytes, B.returns, B.notSynchronized, hml, findClass_of_methodNamed B.named, hts⟩, hv.2⟩
  have hl := lv_entry [.ref (cSa Z 0)] (n := 1) (Nat.le_of_ble_eq_true rfl)
  rw [lg_entry_eq]
  generalize (lg_sl [.ref (cSa Z 0)] ++ List.replicate (1 - (lg_sl [.ref (cSa Z 0)]).length) Slot.unset).toArray = ls at hl ⊢
  exact cf_deeds_w0 X hv.1 ⟨Nat.le_refl _, Nat.le_refl _, Nat.le_refl _, Nat.le_refl _⟩ (fun _ h => h) (fun t ht _ => ⟨rfl, ht⟩)  [] ls (fun q hq => by cases hq) hl h

/-! SecondChances.isDeed(I)Z -/
def cf_isDeed_rm : Room := { frames := 2, cells := 0, slots := 0, locals := 40 }
def cf_isDeed_P0 (p : Program) (l : Launch) (e : Env) (R : Room) (s : State) (m : MethodId) (args : Array Value) (below : List Frame) (meth : Method) (c : Code) (Z : CZ) (Y : CY) (H : Heap) (cells slots : Nat) (Qc : Array Value → State → Outcome → State → Prop) (free : Addr → Prop) (r : Int32) (f : Int32 → Option Int32) : Prop := ∀ (x1 : Int32) (locs : List Loc) (ls : Array Slot), (∀ q ∈ locs, free q.base) → lv_has ls 2 [(0, .ref (cSa Z 0)), (1, .int x1)] → f x1 = some r → W p l e R s m args below meth c H locs cells slots (MQ below Qc args s cells slots free) (F0 m 0 ls [])
def cf_isDeed (C : St) (x1 : Int32) : Option Int32 :=
  bd_ (cf_deeds C ) fun v1 =>
  bd_ (cf_in (x1.toInt64) (0 : Int64) ((v1 - (1 : Int32)).toInt64)) fun v2 =>
  if zb v2 = true then some v2 else none
theorem cf_isDeed_w0 {p : Program} {l : Launch} {e : Env} {R : Room} {s : State} {m : MethodId} {args : Array Value} {below : List Frame} {meth : Method} {c : Code} {Z : CZ} {Y : CY} {A : Nat → Prop} {C : St} {H : Heap} {cells slots : Nat} {Qc : Array Value → State → Outcome → State → Prop} {free : Addr → Prop} (X : CCx p s m args meth c cX0_isDeed 2 (some .boolean) RX0 Z) (hM : cPD Z Y A C H) (hR : cf_isDeed_rm.frames ≤ R.frames ∧ cf_isDeed_rm.locals ≤ R.locals ∧ cells ≤ R.cells ∧ slots ≤ R.slots) (hF : ∀ q, cFr Z q → free q) {r : Int32} (hQ : ∀ t : State, t.heap = H → s.WarmedH t.vm → Qc args s (.returned (some (.int r))) t) : cf_isDeed_P0 p l e R s m args below meth c Z Y H cells slots Qc free r (cf_isDeed C) := by
  intro x1 locs ls hL hl h
  obtain ⟨⟨hx, hb, hr, hlocks, hml, hown, hts⟩, hK⟩ := id X
  unfold cf_isDeed at h
  refine lv_iload_n hx hb dX0_isDeed_0 rfl (lv_at hl 1 rfl) ?_
  refine lv_i2l hx hb dX0_isDeed_1 rfl ?_
  refine lv_lconst (v := 0) hx hb dX0_isDeed_2 (by decide) ?_
  refine lv_aload_n hx hb dX0_isDeed_3 rfl (lv_at hl 0 rfl) ?_
  obtain ⟨v1, q_v1, h⟩ := bd_e h
  refine f_roI (As := []) (rest := [.long (0 : Int64), .long (x1.toInt64)]) X hM (c_recv0 X hM) hL hF (cf_deeds_met _ Z Y A C  v1 q_v1) (lw_V q630 q632 qs7 q79 q633) cf_deeds_hd ⟨rfl, rfl⟩ ⟨Nat.le_trans (m := cf_isDeed_rm.frames) (Nat.le_of_ble_eq_true rfl) hR.1, Nat.le_trans (m := cf_isDeed_rm.locals) (Nat.le_of_ble_eq_true rfl) hR.2.1⟩ ⟨hR.2.2.1, hR.2.2.2⟩ rfl hl.1 rfl (Nat.le_of_ble_eq_true rfl) dX0_isDeed_4 (fun locs hL => ?_)
  refine lv_iconst (v := 1) hx hb dX0_isDeed_7 (by decide) ?_
  refine lv_isub hx hb dX0_isDeed_8 ?_
  refine lv_i2l hx hb dX0_isDeed_9 rfl ?_
  obtain ⟨v2, q_v2, h⟩ := bd_e h
  refine s_roI (As := [.long (x1.toInt64), .long (0 : Int64), .long ((v1 - (1 : Int32)).toInt64)]) (rest := []) X.1 (cf_in_met _ (x1.toInt64) (0 : Int64) ((v1 - (1 : Int32)).toInt64) v2 q_v2) (lw_S q298 q299 q79 q300) cf_in_hd ⟨rfl, rfl⟩ ⟨Nat.le_trans (m := cf_isDeed_rm.frames) (Nat.le_of_ble_eq_true rfl) hR.1, Nat.le_trans (m := cf_isDeed_rm.locals) (Nat.le_of_ble_eq_true rfl) hR.2.1⟩ ⟨hR.2.2.1, hR.2.2.2⟩ rfl hl.1 rfl (Nat.le_of_ble_eq_true rfl) dX0_isDeed_10 ?_
  by_cases c3 : zb v2 = true
  case neg => exact no_ (in_ c3 h)
  have h := ip_ c3 h
  have h := so_ h
  subst h
  exact W.zret hx hb hr (zb_n c3) (fun t ht hW => hQ t ht hW) hL dX0_isDeed_13
theorem cf_isDeed_hd : yX0_isDeed.cls = RX0 ∧ yX0_isDeed.cls ≠ "java/lang/invoke/MethodHandle" ∧ yX0_isDeed.cls ≠ "java/lang/invoke/VarHandle" ∧ (parseMethodDescriptor yX0_isDeed.desc).map (fun d => d.parameters.length) = some 1 := by decide +kernel
theorem cf_isDeed_met (l : Launch) (Z : CZ) (Y : CY) (A : Nat → Prop) (C : St) (x1 : Int32) (r : Int32) (h : cf_isDeed C x1 = some r) : Met l yX0_isDeed (ws_ yX0_isDeed cX0_isDeed 2 (some .boolean)) cf_isDeed_rm (va_Pc [.ref (cSa Z 0), .int x1] (cS Z Y A C)) (Qro (some (.int r))) 0 0 (cFr Z) := by
  refine Met.ofW (cc := cX0_isDeed) (maxL := 2) (ret := some .boolean) (by decide) rfl ?_
  intro p e s m args below meth c s₁ B hml hv
  obtain ⟨rfl, hv⟩ := hv
  have hts := atoms_spec (ws := ws_ yX0_isDeed cX0_isDeed 2 (some .boolean)) B.pre
  have hts : ∀ w ∈ lw_all, w.before _ s = true := fun w h => hts w (List.mem_cons_of_mem _ h)
  have X : CCx p s m _ meth c cX0_isDeed 2 (some .boolean) RX0 Z := ⟨⟨B.exec, B.bytes, B.returns, B.notSynchronized, hml, findClass_of_methodNamed B.named, hts⟩, hv.2⟩
  have hl := lv_entry [.ref (cSa Z 0), .int x1] (n := 2) (Nat.le_of_ble_eq_true rfl)
  rw [lg_entry_eq]
  generalize (lg_sl [.ref (cSa Z 0), .int x1] ++ List.replicate (2 - (lg_sl [.ref (cSa Z 0), .int x1]).length) Slot.unset).toArray = ls at hl ⊢
  exact cf_isDeed_w0 X hv.1 ⟨Nat.le_refl _, Nat.le_refl _, Nat.le_refl _, Nat.le_refl _⟩ (fun _ h => h) (fun t ht _ => ⟨rfl, ht⟩) x1 [] ls (fun q hq => by cases hq) hl h

/-! SecondChances.ruleOf(II)I -/
def cf_ruleOf_rm : Room := { frames := 1, cells := 0, slots := 0, locals := 20 }
def cf_ruleOf_P0 (p : Program) (l : Launch) (e : Env) (R : Room) (s : State) (m : MethodId) (args : Array Value) (below : List Frame) (meth : Method) (c : Code) (Z : CZ) (Y : CY) (H : Heap) (cells slots : Nat) (Qc : Array Value → State → Outcome → State → Prop) (free : Addr → Prop) (r : Int32) (f : Int32 → Int32 → Option Int32) : Prop := ∀ (x1 : Int32) (x2 : Int32) (locs : List Loc) (ls : Array Slot), (∀ q ∈ locs, free q.base) → lv_has ls 3 [(0, .ref (cSa Z 0)), (1, .int x1), (2, .int x2)] → f x1 x2 = some r → W p l e R s m args below meth c H locs cells slots (MQ below Qc args s cells slots free) (F0 m 0 ls [])
def cf_ruleOf (C : St) (x1 : Int32) (x2 : Int32) : Option Int32 :=
  bd_ (cfT_read C 1) fun v1 =>
  if x2 = 0 then (al_ 4 (C 44) x1 fun v8 =>
    some v8)
  else (if x2 = (1 : Int32) then (al_ 4 (C 45) x1 fun v6 =>
      if v6 = 0 then (some (0 : Int32))
      else (some (1 : Int32)))
    else (al_ 4 (C 46) x1 fun v4 =>
      if v4 = 0 then (some (0 : Int32))
      else (some (1 : Int32))))
theorem cf_ruleOf_w0 {p : Program} {l : Launch} {e : Env} {R : Room} {s : State} {m : MethodId} {args : Array Value} {below : List Frame} {meth : Method} {c : Code} {Z : CZ} {Y : CY} {A : Nat → Prop} {C : St} {H : Heap} {cells slots : Nat} {Qc : Array Value → State → Outcome → State → Prop} {free : Addr → Prop} (X : CCx p s m args meth c cX0_ruleOf 3 (some .int) RX0 Z) (hM : cPD Z Y A C H) (hR : cf_ruleOf_rm.frames ≤ R.frames ∧ cf_ruleOf_rm.locals ≤ R.locals ∧ cells ≤ R.cells ∧ slots ≤ R.slots) (hF : ∀ q, cFr Z q → free q) {r : Int32} (hQ : ∀ t : State, t.heap = H → s.WarmedH t.vm → Qc args s (.returned (some (.int r))) t) : cf_ruleOf_P0 p l e R s m args below meth c Z Y H cells slots Qc free r (cf_ruleOf C) := by
  intro x1 x2 locs ls hL hl h
  obtain ⟨⟨hx, hb, hr, hlocks, hml, hown, hts⟩, hK⟩ := id X
  unfold cf_ruleOf at h
  refine lv_aload_n hx hb dX0_ruleOf_0 rfl (lv_at hl 0 rfl) ?_
  refine gc6 X hM dX0_ruleOf_1 ?_
  obtain ⟨v1, q_v1, h⟩ := bd_e h
  refine f_roUI (As := []) (rest := []) (owner := RX2) (x := ⟨RX4, "read", "()I"⟩) X hM (c_recvX1 X hM) hL hF (cfT_read_met _ Z Y A C 1 v1 q_v1) (lw_U q638 q639 q640 q378 q81 q382) rfl (by decide +kernel) ⟨rfl, rfl⟩ ⟨Nat.le_trans (m := cf_ruleOf_rm.frames) (Nat.le_of_ble_eq_true rfl) hR.1, Nat.le_trans (m := cf_ruleOf_rm.locals) (Nat.le_of_ble_eq_true rfl) hR.2.1⟩ ⟨hR.2.2.1, hR.2.2.2⟩ rfl hl.1 rfl (Nat.le_of_ble_eq_true rfl) dX0_ruleOf_4 (fun locs hL => ?_)
  refine lv_pop hx hb dX0_ruleOf_7 rfl ?_
  refine lv_iload_n hx hb dX0_ruleOf_8 rfl (lv_at hl 2 rfl) ?_
  refine lv_if_ne (tgt := 24) hx hb dX0_ruleOf_9 (by decide) (fun c2 => ?_) (fun c2 => ?_)
  · have h := in_ c2 h
    refine lv_iload_n hx hb dX0_ruleOf_24 rfl (lv_at hl 2 rfl) ?_
    refine lv_iconst (v := 1) hx hb dX0_ruleOf_25 (by decide) ?_
    refine lv_icmp_ne (tgt := 44) hx hb dX0_ruleOf_26 (by decide) (fun c3 => ?_) (fun c3 => ?_)
    · have h := in_ c3 h
      refine lv_aload_n hx hb dX0_ruleOf_44 rfl (lv_at hl 0 rfl) ?_
      refine gc6 X hM dX0_ruleOf_45 ?_
      refine gr7 X hM dX0_ruleOf_48 ?_
      refine lv_iload_n hx hb dX0_ruleOf_51 rfl (lv_at hl 1 rfl) ?_
      obtain ⟨i_v4, h⟩ := al_e h
      refine c_zald X hM (k := 46) (cHs_S (by decide)) (fun _ _ _ => rfl) (cAr_s (by decide)) i_v4 dX0_ruleOf_52 (fun v4 e_v4 => ?_)
      have h := h v4 e_v4
      refine lv_if_eq (tgt := 60) hx hb dX0_ruleOf_53 (by decide) (fun c5 => ?_) (fun c5 => ?_)
      · have h := ip_ c5 h
        refine lv_iconst (v := 0) hx hb dX0_ruleOf_60 (by decide) ?_
        have h := so_ h
        subst h
        exact W.iret hx hb hr (fun t ht hW => hQ t ht hW) hL dX0_ruleOf_61
      · have h := in_ c5 h
        refine lv_iconst (v := 1) hx hb dX0_ruleOf_56 (by decide) ?_
        refine lv_goto (tgt := 61) hx hb dX0_ruleOf_57 (by decide) ?_
        have h := so_ h
        subst h
        exact W.iret hx hb hr (fun t ht hW => hQ t ht hW) hL dX0_ruleOf_61
    · have h := ip_ c3 h
      refine lv_aload_n hx hb dX0_ruleOf_29 rfl (lv_at hl 0 rfl) ?_
      refine gc6 X hM dX0_ruleOf_30 ?_
      refine gr6 X hM dX0_ruleOf_33 ?_
      refine lv_iload_n hx hb dX0_ruleOf_36 rfl (lv_at hl 1 rfl) ?_
      obtain ⟨i_v6, h⟩ := al_e h
      refine c_zald X hM (k := 45) (cHs_S (by decide)) (fun _ _ _ => rfl) (cAr_s (by decide)) i_v6 dX0_ruleOf_37 (fun v6 e_v6 => ?_)
      have h := h v6 e_v6
      refine lv_if_eq (tgt := 60) hx hb dX0_ruleOf_38 (by decide) (fun c7 => ?_) (fun c7 => ?_)
      · have h := ip_ c7 h
        refine lv_iconst (v := 0) hx hb dX0_ruleOf_60 (by decide) ?_
        have h := so_ h
        subst h
        exact W.iret hx hb hr (fun t ht hW => hQ t ht hW) hL dX0_ruleOf_61
      · have h := in_ c7 h
        refine lv_goto (tgt := 56) hx hb dX0_ruleOf_41 (by decide) ?_
        refine lv_iconst (v := 1) hx hb dX0_ruleOf_56 (by decide) ?_
        refine lv_goto (tgt := 61) hx hb dX0_ruleOf_57 (by decide) ?_
        have h := so_ h
        subst h
        exact W.iret hx hb hr (fun t ht hW => hQ t ht hW) hL dX0_ruleOf_61
  · have h := ip_ c2 h
    refine lv_aload_n hx hb dX0_ruleOf_12 rfl (lv_at hl 0 rfl) ?_
    refine gc6 X hM dX0_ruleOf_13 ?_
    refine gr5 X hM dX0_ruleOf_16 ?_
    refine lv_iload_n hx hb dX0_ruleOf_19 rfl (lv_at hl 1 rfl) ?_
    obtain ⟨i_v8, h⟩ := al_e h
    refine c_ald X hM (k := 44) (cHs_S (by decide)) (fun _ _ _ => rfl) (cAr_s (by decide)) i_v8 dX0_ruleOf_20 (fun v8 e_v8 => ?_)
    have h := h v8 e_v8
    refine lv_goto (tgt := 61) hx hb dX0_ruleOf_21 (by decide) ?_
    have h := so_ h
    subst h
    exact W.iret hx hb hr (fun t ht hW => hQ t ht hW) hL dX0_ruleOf_61
theorem cf_ruleOf_hd : yX0_ruleOf.cls = RX0 ∧ yX0_ruleOf.cls ≠ "java/lang/invoke/MethodHandle" ∧ yX0_ruleOf.cls ≠ "java/lang/invoke/VarHandle" ∧ (parseMethodDescriptor yX0_ruleOf.desc).map (fun d => d.parameters.length) = some 2 := by decide +kernel
theorem cf_ruleOf_met (l : Launch) (Z : CZ) (Y : CY) (A : Nat → Prop) (C : St) (x1 : Int32) (x2 : Int32) (r : Int32) (h : cf_ruleOf C x1 x2 = some r) : Met l yX0_ruleOf (ws_ yX0_ruleOf cX0_ruleOf 3 (some .int)) cf_ruleOf_rm (va_Pc [.ref (cSa Z 0), .int x1, .int x2] (cS Z Y A C)) (Qro (some (.int r))) 0 0 (cFr Z) := by
  refine Met.ofW (cc := cX0_ruleOf) (maxL := 3) (ret := some .int) (by decide) rfl ?_
  intro p e s m args below meth c s₁ B hml hv
  obtain ⟨rfl, hv⟩ := hv
  have hts := atoms_spec (ws := ws_ yX0_ruleOf cX0_ruleOf 3 (some .int)) B.pre
  have hts : ∀ w ∈ lw_all, w.before _ s = true := fun w h => hts w (List.mem_cons_of_mem _ h)
  have X : CCx p s m _ meth c cX0_ruleOf 3 (some .int) RX0 Z := ⟨⟨B.exec, B.bytes, B.returns, B.notSynchronized, hml, findClass_of_methodNamed B.named, hts⟩, hv.2⟩
  have hl := lv_entry [.ref (cSa Z 0), .int x1, .int x2] (n := 3) (Nat.le_of_ble_eq_true rfl)
  rw [lg_entry_eq]
  generalize (lg_sl [.ref (cSa Z 0), .int x1, .int x2] ++ List.replicate (3 - (lg_sl [.ref (cSa Z 0), .int x1, .int x2]).length) Slot.unset).toArray = ls at hl ⊢
  exact cf_ruleOf_w0 X hv.1 ⟨Nat.le_refl _, Nat.le_refl _, Nat.le_refl _, Nat.le_refl _⟩ (fun _ h => h) (fun t ht _ => ⟨rfl, ht⟩) x1 x2 [] ls (fun q hq => by cases hq) hl h

/-! SecondChances.worthOf(I)I -/
def cf_worthOf_rm : Room := { frames := 4, cells := 0, slots := 0, locals := 85 }
def cf_worthOf_P33 (p : Program) (l : Launch) (e : Env) (R : Room) (s : State) (m : MethodId) (args : Array Value) (below : List Frame) (meth : Method) (c : Code) (Z : CZ) (Y : CY) (H : Heap) (cells slots : Nat) (Qc : Array Value → State → Outcome → State → Prop) (free : Addr → Prop) (r : Int32) (f : Int32 → Int32 → Int32 → Int32 → Option Int32) : Prop := ∀ (x1 : Int32) (x3 : Int32) (t0 : Int32) (t1 : Int32) (locs : List Loc) (ls : Array Slot), (∀ q ∈ locs, free q.base) → lv_has ls 4 [(0, .ref (cSa Z 0)), (1, .int x1), (3, .int x3)] → f x1 x3 t0 t1 = some r → W p l e R s m args below meth c H locs cells slots (MQ below Qc args s cells slots free) (F0 m 33 ls [.int t0, .int t1])
def cf_worthOf_P4 (p : Program) (l : Launch) (e : Env) (R : Room) (s : State) (m : MethodId) (args : Array Value) (below : List Frame) (meth : Method) (c : Code) (Z : CZ) (Y : CY) (H : Heap) (cells slots : Nat) (Qc : Array Value → State → Outcome → State → Prop) (free : Addr → Prop) (r : Int32) (f : Int32 → Int32 → Int32 → Option Int32) : Prop := ∀ (x1 : Int32) (x2 : Int32) (x3 : Int32) (locs : List Loc) (ls : Array Slot), (∀ q ∈ locs, free q.base) → lv_has ls 4 [(0, .ref (cSa Z 0)), (1, .int x1), (2, .int x2), (3, .int x3)] → f x1 x2 x3 = some r → W p l e R s m args below meth c H locs cells slots (MQ below Qc args s cells slots free) (F0 m 4 ls [])
def cf_worthOf_P0 (p : Program) (l : Launch) (e : Env) (R : Room) (s : State) (m : MethodId) (args : Array Value) (below : List Frame) (meth : Method) (c : Code) (Z : CZ) (Y : CY) (H : Heap) (cells slots : Nat) (Qc : Array Value → State → Outcome → State → Prop) (free : Addr → Prop) (r : Int32) (f : Int32 → Option Int32) : Prop := ∀ (x1 : Int32) (locs : List Loc) (ls : Array Slot), (∀ q ∈ locs, free q.base) → lv_has ls 4 [(0, .ref (cSa Z 0)), (1, .int x1)] → f x1 = some r → W p l e R s m args below meth c H locs cells slots (MQ below Qc args s cells slots free) (F0 m 0 ls [])
def cf_worthOf_b33 (C : St) (k4 : Int32 → Int32 → Int32 → Option Int32) (x1 : Int32) (x3 : Int32) (t0 : Int32) (t1 : Int32) : Option Int32 :=
  lt_ (t1 + t0) fun v1 =>
  k4 x1 v1 (x3 + 1)
theorem cf_worthOf_w33 {p : Program} {l : Launch} {e : Env} {R : Room} {s : State} {m : MethodId} {args : Array Value} {below : List Frame} {meth : Method} {c : Code} {Z : CZ} {Y : CY} {A : Nat → Prop} {C : St} {H : Heap} {cells slots : Nat} {Qc : Array Value → State → Outcome → State → Prop} {free : Addr → Prop} (X : CCx p s m args meth c cX0_worthOf 4 (some .int) RX0 Z) (hM : cPD Z Y A C H) (hR : cf_worthOf_rm.frames ≤ R.frames ∧ cf_worthOf_rm.locals ≤ R.locals ∧ cells ≤ R.cells ∧ slots ≤ R.slots) (hF : ∀ q, cFr Z q → free q) {r : Int32} (hQ : ∀ t : State, t.heap = H → s.WarmedH t.vm → Qc args s (.returned (some (.int r))) t) {k4 : Int32 → Int32 → Int32 → Option Int32} (hk4 : cf_worthOf_P4 p l e R s m args below meth c Z Y H cells slots Qc free r k4) : cf_worthOf_P33 p l e R s m args below meth c Z Y H cells slots Qc free r (cf_worthOf_b33 C k4) := by
  intro x1 x3 t0 t1 locs ls hL hl h
  obtain ⟨⟨hx, hb, hr, hlocks, hml, hown, hts⟩, hK⟩ := id X
  unfold cf_worthOf_b33 at h
  refine lv_iadd hx hb dX0_worthOf_33 ?_
  refine lv_topi (fun v1 e_v1 => ?_)
  have h := lt_i h e_v1
  refine lv_istore_n (lv' := [(2, .int v1), (0, .ref (cSa Z 0)), (1, .int x1), (3, .int x3)]) hx hb dX0_worthOf_34 rfl hl (by decide) rfl (fun ls hl => ?_)
  refine lv_iinc (v := (x3 + 1)) (lv' := [(3, .int (x3 + 1)), (2, .int v1), (0, .ref (cSa Z 0)), (1, .int x1)]) hx hb dX0_worthOf_35 hl (k := 3) rfl rfl (by decide) rfl (fun ls hl => ?_)
  refine lv_goto (tgt := 4) hx hb dX0_worthOf_38 (by decide) ?_
  exact hk4 x1 v1 (x3 + 1) _ ls hL (lv_sub hl [2, 3, 1, 0] rfl) h
def cf_worthOf_b4 (C : St) (k4 : Int32 → Int32 → Int32 → Option Int32) (x1 : Int32) (x2 : Int32) (x3 : Int32) : Option Int32 :=
  bd_ (cf_deeds C ) fun v1 =>
  if v1 ≤ x3 then (some x2)
  else (bd_ (cf_isIn x1 x3) fun v3 =>
    if v3 = 0 then (cf_worthOf_b33 C k4 x1 x3 (0 : Int32) x2)
    else (bd_ (cf_deed_2 C x3) fun v5 =>
      fx_ (cNn C 0) v5 (C (100 + v5) 3) fun v6 =>
      cf_worthOf_b33 C k4 x1 x3 v6 x2))
theorem cf_worthOf_w4 {p : Program} {l : Launch} {e : Env} {R : Room} {s : State} {m : MethodId} {args : Array Value} {below : List Frame} {meth : Method} {c : Code} {Z : CZ} {Y : CY} {A : Nat → Prop} {C : St} {H : Heap} {cells slots : Nat} {Qc : Array Value → State → Outcome → State → Prop} {free : Addr → Prop} (X : CCx p s m args meth c cX0_worthOf 4 (some .int) RX0 Z) (hM : cPD Z Y A C H) (hR : cf_worthOf_rm.frames ≤ R.frames ∧ cf_worthOf_rm.locals ≤ R.locals ∧ cells ≤ R.cells ∧ slots ≤ R.slots) (hF : ∀ q, cFr Z q → free q) {r : Int32} (hQ : ∀ t : State, t.heap = H → s.WarmedH t.vm → Qc args s (.returned (some (.int r))) t) {k4 : Int32 → Int32 → Int32 → Option Int32} (hk4 : cf_worthOf_P4 p l e R s m args below meth c Z Y H cells slots Qc free r k4) : cf_worthOf_P4 p l e R s m args below meth c Z Y H cells slots Qc free r (cf_worthOf_b4 C k4) := by
  intro x1 x2 x3 locs ls hL hl h
  obtain ⟨⟨hx, hb, hr, hlocks, hml, hown, hts⟩, hK⟩ := id X
  unfold cf_worthOf_b4 at h
  refine lv_iload_n hx hb dX0_worthOf_4 rfl (lv_at hl 3 rfl) ?_
  refine lv_aload_n hx hb dX0_worthOf_5 rfl (lv_at hl 0 rfl) ?_
  obtain ⟨v1, q_v1, h⟩ := bd_e h
  refine f_roI (As := []) (rest := [.int x3]) X hM (c_recv0 X hM) hL hF (cf_deeds_met _ Z Y A C  v1 q_v1) (lw_V q630 q632 qs7 q79 q633) cf_deeds_hd ⟨rfl, rfl⟩ ⟨Nat.le_trans (m := cf_worthOf_rm.frames) (Nat.le_of_ble_eq_true rfl) hR.1, Nat.le_trans (m := cf_worthOf_rm.locals) (Nat.le_of_ble_eq_true rfl) hR.2.1⟩ ⟨hR.2.2.1, hR.2.2.2⟩ rfl hl.1 rfl (Nat.le_of_ble_eq_true rfl) dX0_worthOf_6 (fun locs hL => ?_)
  refine lv_icmp_ge (tgt := 41) hx hb dX0_worthOf_9 (by decide) (fun c2 => ?_) (fun c2 => ?_)
  · have h := ip_ c2 h
    refine lv_iload_n hx hb dX0_worthOf_41 rfl (lv_at hl 2 rfl) ?_
    have h := so_ h
    subst h
    exact W.iret hx hb hr (fun t ht hW => hQ t ht hW) hL dX0_worthOf_42
  · have h := in_ c2 h
    refine lv_iload_n hx hb dX0_worthOf_12 rfl (lv_at hl 2 rfl) ?_
    refine lv_iload_n hx hb dX0_worthOf_13 rfl (lv_at hl 1 rfl) ?_
    refine lv_iload_n hx hb dX0_worthOf_14 rfl (lv_at hl 3 rfl) ?_
    obtain ⟨v3, q_v3, h⟩ := bd_e h
    refine s_roI (As := [.int x1, .int x3]) (rest := [.int x2]) X.1 (cf_isIn_met _ x1 x3 v3 q_v3) (lw_S q698 q550 q79 q551) cf_isIn_hd ⟨rfl, rfl⟩ ⟨Nat.le_trans (m := cf_worthOf_rm.frames) (Nat.le_of_ble_eq_true rfl) hR.1, Nat.le_trans (m := cf_worthOf_rm.locals) (Nat.le_of_ble_eq_true rfl) hR.2.1⟩ ⟨hR.2.2.1, hR.2.2.2⟩ rfl hl.1 rfl (Nat.le_of_ble_eq_true rfl) dX0_worthOf_15 ?_
    refine lv_if_eq (tgt := 32) hx hb dX0_worthOf_18 (by decide) (fun c4 => ?_) (fun c4 => ?_)
    · have h := ip_ c4 h
      refine lv_iconst (v := 0) hx hb dX0_worthOf_32 (by decide) ?_
      exact cf_worthOf_w33 X hM hR hF hQ hk4 x1 x3 (0 : Int32) x2 _ ls hL (lv_sub hl [0, 1, 3] rfl) h
    · have h := in_ c4 h
      refine lv_aload_n hx hb dX0_worthOf_21 rfl (lv_at hl 0 rfl) ?_
      refine lv_iload_n hx hb dX0_worthOf_22 rfl (lv_at hl 3 rfl) ?_
      obtain ⟨v5, q_v5, h⟩ := bd_e h
      refine f_roR (As := [.int x3]) (rest := [.int x2]) X hM (c_recv0 X hM) hL hF (cf_deed_2_met _ Z Y A C x3 v5 q_v5) (lw_V q647 q649 qs9 q79 q650) cf_deed_2_hd ⟨rfl, rfl⟩ ⟨Nat.le_trans (m := cf_worthOf_rm.frames) (Nat.le_of_ble_eq_true rfl) hR.1, Nat.le_trans (m := cf_worthOf_rm.locals) (Nat.le_of_ble_eq_true rfl) hR.2.1⟩ ⟨hR.2.2.1, hR.2.2.2⟩ rfl hl.1 rfl (Nat.le_of_ble_eq_true rfl) dX0_worthOf_23 (fun locs hL => ?_)
      obtain ⟨b_v6, h⟩ := fx_e h
      refine gq3 X hM b_v6 dX0_worthOf_26 ?_
      refine lv_topi (fun v6 e_v6 => ?_)
      have h := h v6 e_v6
      refine lv_goto (tgt := 33) hx hb dX0_worthOf_29 (by decide) ?_
      exact cf_worthOf_w33 X hM hR hF hQ hk4 x1 x3 v6 x2 _ ls hL (lv_sub hl [0, 1, 3] rfl) h
def cf_worthOf_l4 (C : St) (n : Nat) : Int32 → Int32 → Int32 → Option Int32 := lp (fun _ _ _ => none) (cf_worthOf_b4 C) n
theorem cf_worthOf_lw4 {p : Program} {l : Launch} {e : Env} {R : Room} {s : State} {m : MethodId} {args : Array Value} {below : List Frame} {meth : Method} {c : Code} {Z : CZ} {Y : CY} {A : Nat → Prop} {C : St} {H : Heap} {cells slots : Nat} {Qc : Array Value → State → Outcome → State → Prop} {free : Addr → Prop} (X : CCx p s m args meth c cX0_worthOf 4 (some .int) RX0 Z) (hM : cPD Z Y A C H) (hR : cf_worthOf_rm.frames ≤ R.frames ∧ cf_worthOf_rm.locals ≤ R.locals ∧ cells ≤ R.cells ∧ slots ≤ R.slots) (hF : ∀ q, cFr Z q → free q) {r : Int32} (hQ : ∀ t : State, t.heap = H → s.WarmedH t.vm → Qc args s (.returned (some (.int r))) t) : ∀ n : Nat, cf_worthOf_P4 p l e R s m args below meth c Z Y H cells slots Qc free r (cf_worthOf_l4 C n) := by
  intro n
  induction n with
  | zero => intro x1 x2 x3 locs ls hL hl h; exact no_ h
  | succ n ih => exact cf_worthOf_w4 X hM hR hF hQ ih
def cf_worthOf (C : St) (x1 : Int32) : Option Int32 :=
  cf_worthOf_l4 C FU x1 (0 : Int32) (0 : Int32)
theorem cf_worthOf_w0 {p : Program} {l : Launch} {e : Env} {R : Room} {s : State} {m : MethodId} {args : Array Value} {below : List Frame} {meth : Method} {c : Code} {Z : CZ} {Y : CY} {A : Nat → Prop} {C : St} {H : Heap} {cells slots : Nat} {Qc : Array Value → State → Outcome → State → Prop} {free : Addr → Prop} (X : CCx p s m args meth c cX0_worthOf 4 (some .int) RX0 Z) (hM : cPD Z Y A C H) (hR : cf_worthOf_rm.frames ≤ R.frames ∧ cf_worthOf_rm.locals ≤ R.locals ∧ cells ≤ R.cells ∧ slots ≤ R.slots) (hF : ∀ q, cFr Z q → free q) {r : Int32} (hQ : ∀ t : State, t.heap = H → s.WarmedH t.vm → Qc args s (.returned (some (.int r))) t) : cf_worthOf_P0 p l e R s m args below meth c Z Y H cells slots Qc free r (cf_worthOf C) := by
  intro x1 locs ls hL hl h
  obtain ⟨⟨hx, hb, hr, hlocks, hml, hown, hts⟩, hK⟩ := id X
  unfold cf_worthOf at h
  refine lv_iconst (v := 0) hx hb dX0_worthOf_0 (by decide) ?_
  refine lv_istore_n (lv' := [(2, .int (0 : Int32)), (0, .ref (cSa Z 0)), (1, .int x1)]) hx hb dX0_worthOf_1 rfl hl (by decide) rfl (fun ls hl => ?_)
  refine lv_iconst (v := 0) hx hb dX0_worthOf_2 (by decide) ?_
  refine lv_istore_n (lv' := [(3, .int (0 : Int32)), (2, .int (0 : Int32)), (0, .ref (cSa Z 0)), (1, .int x1)]) hx hb dX0_worthOf_3 rfl hl (by decide) rfl (fun ls hl => ?_)
  exact cf_worthOf_lw4 X hM hR hF hQ FU x1 (0 : Int32) (0 : Int32) _ ls hL (lv_sub hl [2, 3, 1, 0] rfl) h
theorem cf_worthOf_hd : yX0_worthOf.cls = RX0 ∧ yX0_worthOf.cls ≠ "java/lang/invoke/MethodHandle" ∧ yX0_worthOf.cls ≠ "java/lang/invoke/VarHandle" ∧ (parseMethodDescriptor yX0_worthOf.desc).map (fun d => d.parameters.length) = some 1 := by decide +kernel
theorem cf_worthOf_met (l : Launch) (Z : CZ) (Y : CY) (A : Nat → Prop) (C : St) (x1 : Int32) (r : Int32) (h : cf_worthOf C x1 = some r) : Met l yX0_worthOf (ws_ yX0_worthOf cX0_worthOf 4 (some .int)) cf_worthOf_rm (va_Pc [.ref (cSa Z 0), .int x1] (cS Z Y A C)) (Qro (some (.int r))) 0 0 (cFr Z) := by
  refine Met.ofW (cc := cX0_worthOf) (maxL := 4) (ret := some .int) (by decide) rfl ?_
  intro p e s m args below meth c s₁ B hml hv
  obtain ⟨rfl, hv⟩ := hv
  have hts := atoms_spec (ws := ws_ yX0_worthOf cX0_worthOf 4 (some .int)) B.pre
  have hts : ∀ w ∈ lw_all, w.before _ s = true := fun w h => hts w (List.mem_cons_of_mem _ h)
  have X : CCx p s m _ meth c cX0_worthOf 4 (some .int) RX0 Z := ⟨⟨B.exec, B.bytes, B.returns, B.notSynchronized, hml, findClass_of_methodNamed B.named, hts⟩, hv.2⟩
  have hl := lv_entry [.ref (cSa Z 0), .int x1] (n := 4) (Nat.le_of_ble_eq_true rfl)
  rw [lg_entry_eq]
  generalize (lg_sl [.ref (cSa Z 0), .int x1] ++ List.replicate (4 - (lg_sl [.ref (cSa Z 0), .int x1]).length) Slot.unset).toArray = ls at hl ⊢
  exact cf_worthOf_w0 X hv.1 ⟨Nat.le_refl _, Nat.le_refl _, Nat.le_refl _, Nat.le_refl _⟩ (fun _ h => h) (fun t ht _ => ⟨rfl, ht⟩) x1 [] ls (fun q hq => by cases hq) hl h

/-! SecondChances.costOf(II)I -/
def cf_costOf_rm : Room := { frames := 4, cells := 0, slots := 0, locals := 95 }
def cf_costOf_P147 (p : Program) (l : Launch) (e : Env) (R : Room) (s : State) (m : MethodId) (args : Array Value) (below : List Frame) (meth : Method) (c : Code) (Z : CZ) (Y : CY) (H : Heap) (cells slots : Nat) (Qc : Array Value → State → Outcome → State → Prop) (free : Addr → Prop) (r : Int32) (f : Int32 → Int32 → Option Int32) : Prop := ∀ (t0 : Int32) (t1 : Int32) (locs : List Loc) (ls : Array Slot), (∀ q ∈ locs, free q.base) → lv_has ls 7 [] → f t0 t1 = some r → W p l e R s m args below meth c H locs cells slots (MQ below Qc args s cells slots free) (F0 m 147 ls [.int t0, .int t1])
def cf_costOf_P125 (p : Program) (l : Launch) (e : Env) (R : Room) (s : State) (m : MethodId) (args : Array Value) (below : List Frame) (meth : Method) (c : Code) (Z : CZ) (Y : CY) (H : Heap) (cells slots : Nat) (Qc : Array Value → State → Outcome → State → Prop) (free : Addr → Prop) (r : Int32) (f : Int32 → Int32 → Int32 → Int32 → Int32 → Option Int32) : Prop := ∀ (x1 : Int32) (x2 : Int32) (x3 : Int32) (x4 : Int32) (x5 : Int32) (locs : List Loc) (ls : Array Slot), (∀ q ∈ locs, free q.base) → lv_has ls 7 [(0, .ref (cSa Z 0)), (1, .int x1), (2, .int x2), (3, .int x3), (4, .int x4), (5, .int x5)] → f x1 x2 x3 x4 x5 = some r → W p l e R s m args below meth c H locs cells slots (MQ below Qc args s cells slots free) (F0 m 125 ls [])
def cf_costOf_P85 (p : Program) (l : Launch) (e : Env) (R : Room) (s : State) (m : MethodId) (args : Array Value) (below : List Frame) (meth : Method) (c : Code) (Z : CZ) (Y : CY) (H : Heap) (cells slots : Nat) (Qc : Array Value → State → Outcome → State → Prop) (free : Addr → Prop) (r : Int32) (f : Int32 → Int32 → Int32 → Int32 → Int32 → Int32 → Option Int32) : Prop := ∀ (x1 : Int32) (x2 : Int32) (x3 : Int32) (x4 : Int32) (x5 : Int32) (x6 : Int32) (locs : List Loc) (ls : Array Slot), (∀ q ∈ locs, free q.base) → lv_has ls 7 [(0, .ref (cSa Z 0)), (1, .int x1), (2, .int x2), (3, .int x3), (4, .int x4), (5, .int x5), (6, .int x6)] → f x1 x2 x3 x4 x5 x6 = some r → W p l e R s m args below meth c H locs cells slots (MQ below Qc args s cells slots free) (F0 m 85 ls [])
def cf_costOf_P46 (p : Program) (l : Launch) (e : Env) (R : Room) (s : State) (m : MethodId) (args : Array Value) (below : List Frame) (meth : Method) (c : Code) (Z : CZ) (Y : CY) (H : Heap) (cells slots : Nat) (Qc : Array Value → State → Outcome → State → Prop) (free : Addr → Prop) (r : Int32) (f : Int32 → Int32 → Int32 → Int32 → Int32 → Int32 → Option Int32) : Prop := ∀ (x1 : Int32) (x2 : Int32) (x3 : Int32) (x4 : Int32) (x5 : Int32) (x6 : Int32) (locs : List Loc) (ls : Array Slot), (∀ q ∈ locs, free q.base) → lv_has ls 7 [(0, .ref (cSa Z 0)), (1, .int x1), (2, .int x2), (3, .int x3), (4, .int x4), (5, .int x5), (6, .int x6)] → f x1 x2 x3 x4 x5 x6 = some r → W p l e R s m args below meth c H locs cells slots (MQ below Qc args s cells slots free) (F0 m 46 ls [])
def cf_costOf_P8 (p : Program) (l : Launch) (e : Env) (R : Room) (s : State) (m : MethodId) (args : Array Value) (below : List Frame) (meth : Method) (c : Code) (Z : CZ) (Y : CY) (H : Heap) (cells slots : Nat) (Qc : Array Value → State → Outcome → State → Prop) (free : Addr → Prop) (r : Int32) (f : Int32 → Int32 → Int32 → Int32 → Int32 → Option Int32) : Prop := ∀ (x1 : Int32) (x2 : Int32) (x3 : Int32) (x4 : Int32) (x5 : Int32) (locs : List Loc) (ls : Array Slot), (∀ q ∈ locs, free q.base) → lv_has ls 7 [(0, .ref (cSa Z 0)), (1, .int x1), (2, .int x2), (3, .int x3), (4, .int x4), (5, .int x5)] → f x1 x2 x3 x4 x5 = some r → W p l e R s m args below meth c H locs cells slots (MQ below Qc args s cells slots free) (F0 m 8 ls [])
def cf_costOf_P0 (p : Program) (l : Launch) (e : Env) (R : Room) (s : State) (m : MethodId) (args : Array Value) (below : List Frame) (meth : Method) (c : Code) (Z : CZ) (Y : CY) (H : Heap) (cells slots : Nat) (Qc : Array Value → State → Outcome → State → Prop) (free : Addr → Prop) (r : Int32) (f : Int32 → Int32 → Option Int32) : Prop := ∀ (x1 : Int32) (x2 : Int32) (locs : List Loc) (ls : Array Slot), (∀ q ∈ locs, free q.base) → lv_has ls 7 [(0, .ref (cSa Z 0)), (1, .int x1), (2, .int x2)] → f x1 x2 = some r → W p l e R s m args below meth c H locs cells slots (MQ below Qc args s cells slots free) (F0 m 0 ls [])
def cf_costOf_b147 (C : St) (t0 : Int32) (t1 : Int32) : Option Int32 :=
  some (t1 + t0)
theorem cf_costOf_w147 {p : Program} {l : Launch} {e : Env} {R : Room} {s : State} {m : MethodId} {args : Array Value} {below : List Frame} {meth : Method} {c : Code} {Z : CZ} {Y : CY} {A : Nat → Prop} {C : St} {H : Heap} {cells slots : Nat} {Qc : Array Value → State → Outcome → State → Prop} {free : Addr → Prop} (X : CCx p s m args meth c cX0_costOf 7 (some .int) RX0 Z) (hM : cPD Z Y A C H) (hR : cf_costOf_rm.frames ≤ R.frames ∧ cf_costOf_rm.locals ≤ R.locals ∧ cells ≤ R.cells ∧ slots ≤ R.slots) (hF : ∀ q, cFr Z q → free q) {r : Int32} (hQ : ∀ t : State, t.heap = H → s.WarmedH t.vm → Qc args s (.returned (some (.int r))) t) : cf_costOf_P147 p l e R s m args below meth c Z Y H cells slots Qc free r (cf_costOf_b147 C) := by
  intro t0 t1 locs ls hL hl h
  obtain ⟨⟨hx, hb, hr, hlocks, hml, hown, hts⟩, hK⟩ := id X
  unfold cf_costOf_b147 at h
  refine lv_iadd hx hb dX0_costOf_147 ?_
  have h := so_ h
  subst h
  exact W.iret hx hb hr (fun t ht hW => hQ t ht hW) hL dX0_costOf_148
def cf_costOf_b125 (C : St) (k8 : Int32 → Int32 → Int32 → Int32 → Int32 → Option Int32) (x1 : Int32) (x2 : Int32) (x3 : Int32) (x4 : Int32) (x5 : Int32) : Option Int32 :=
  k8 x1 x2 x3 x4 (x5 + 1)
theorem cf_costOf_w125 {p : Program} {l : Launch} {e : Env} {R : Room} {s : State} {m : MethodId} {args : Array Value} {below : List Frame} {meth : Method} {c : Code} {Z : CZ} {Y : CY} {A : Nat → Prop} {C : St} {H : Heap} {cells slots : Nat} {Qc : Array Value → State → Outcome → State → Prop} {free : Addr → Prop} (X : CCx p s m args meth c cX0_costOf 7 (some .int) RX0 Z) (hM : cPD Z Y A C H) (hR : cf_costOf_rm.frames ≤ R.frames ∧ cf_costOf_rm.locals ≤ R.locals ∧ cells ≤ R.cells ∧ slots ≤ R.slots) (hF : ∀ q, cFr Z q → free q) {r : Int32} (hQ : ∀ t : State, t.heap = H → s.WarmedH t.vm → Qc args s (.returned (some (.int r))) t) {k8 : Int32 → Int32 → Int32 → Int32 → Int32 → Option Int32} (hk8 : cf_costOf_P8 p l e R s m args below meth c Z Y H cells slots Qc free r k8) : cf_costOf_P125 p l e R s m args below meth c Z Y H cells slots Qc free r (cf_costOf_b125 C k8) := by
  intro x1 x2 x3 x4 x5 locs ls hL hl h
  obtain ⟨⟨hx, hb, hr, hlocks, hml, hown, hts⟩, hK⟩ := id X
  unfold cf_costOf_b125 at h
  refine lv_iinc (v := (x5 + 1)) (lv' := [(5, .int (x5 + 1)), (0, .ref (cSa Z 0)), (1, .int x1), (2, .int x2), (3, .int x3), (4, .int x4)]) hx hb dX0_costOf_125 hl (k := 5) rfl rfl (by decide) rfl (fun ls hl => ?_)
  refine lv_goto (tgt := 8) hx hb dX0_costOf_128 (by decide) ?_
  exact hk8 x1 x2 x3 x4 (x5 + 1) _ ls hL (lv_sub hl [1, 2, 3, 4, 5, 0] rfl) h
def cf_costOf_b85 (C : St) (k8 : Int32 → Int32 → Int32 → Int32 → Int32 → Option Int32) (k46 : Int32 → Int32 → Int32 → Int32 → Int32 → Int32 → Option Int32) (x1 : Int32) (x2 : Int32) (x3 : Int32) (x4 : Int32) (x5 : Int32) (x6 : Int32) : Option Int32 :=
  k46 x1 x2 x3 x4 x5 (x6 + 1)
theorem cf_costOf_w85 {p : Program} {l : Launch} {e : Env} {R : Room} {s : State} {m : MethodId} {args : Array Value} {below : List Frame} {meth : Method} {c : Code} {Z : CZ} {Y : CY} {A : Nat → Prop} {C : St} {H : Heap} {cells slots : Nat} {Qc : Array Value → State → Outcome → State → Prop} {free : Addr → Prop} (X : CCx p s m args meth c cX0_costOf 7 (some .int) RX0 Z) (hM : cPD Z Y A C H) (hR : cf_costOf_rm.frames ≤ R.frames ∧ cf_costOf_rm.locals ≤ R.locals ∧ cells ≤ R.cells ∧ slots ≤ R.slots) (hF : ∀ q, cFr Z q → free q) {r : Int32} (hQ : ∀ t : State, t.heap = H → s.WarmedH t.vm → Qc args s (.returned (some (.int r))) t) {k8 : Int32 → Int32 → Int32 → Int32 → Int32 → Option Int32} (hk8 : cf_costOf_P8 p l e R s m args below meth c Z Y H cells slots Qc free r k8) {k46 : Int32 → Int32 → Int32 → Int32 → Int32 → Int32 → Option Int32} (hk46 : cf_costOf_P46 p l e R s m args below meth c Z Y H cells slots Qc free r k46) : cf_costOf_P85 p l e R s m args below meth c Z Y H cells slots Qc free r (cf_costOf_b85 C k8 k46) := by
  intro x1 x2 x3 x4 x5 x6 locs ls hL hl h
  obtain ⟨⟨hx, hb, hr, hlocks, hml, hown, hts⟩, hK⟩ := id X
  unfold cf_costOf_b85 at h
  refine lv_iinc (v := (x6 + 1)) (lv' := [(6, .int (x6 + 1)), (0, .ref (cSa Z 0)), (1, .int x1), (2, .int x2), (3, .int x3), (4, .int x4), (5, .int x5)]) hx hb dX0_costOf_85 hl (k := 6) rfl rfl (by decide) rfl (fun ls hl => ?_)
  refine lv_goto (tgt := 46) hx hb dX0_costOf_88 (by decide) ?_
  exact hk46 x1 x2 x3 x4 x5 (x6 + 1) _ ls hL (lv_sub hl [1, 2, 3, 4, 5, 6, 0] rfl) h
def cf_costOf_b46 (C : St) (k8 : Int32 → Int32 → Int32 → Int32 → Int32 → Option Int32) (k46 : Int32 → Int32 → Int32 → Int32 → Int32 → Int32 → Option Int32) (x1 : Int32) (x2 : Int32) (x3 : Int32) (x4 : Int32) (x5 : Int32) (x6 : Int32) : Option Int32 :=
  if x5 ≤ x6 then (bd_ (cf_deed_2 C x5) fun v2 =>
    bd_ (cf_comers C v2 x2) fun v3 =>
    bd_ (cf_prices C v3) fun v4 =>
    lt_ (x3 + v4) fun v5 =>
    bd_ (cf_deed_2 C x5) fun v6 =>
    bd_ (cf_isTurned C v6 x2) fun v7 =>
    lt_ (x4 ||| v7) fun v8 =>
    cf_costOf_b125 C k8 x1 x2 v5 v8 x5)
  else (bd_ (cf_isIn x1 x6) fun v9 =>
    if v9 = 0 then (cf_costOf_b85 C k8 k46 x1 x2 x3 x4 x5 x6)
    else (bd_ (cf_deed_2 C x5) fun v11 =>
      bd_ (cf_deed_2 C x6) fun v12 =>
      bd_ (cf_goTogether C v11 v12 x2) fun v13 =>
      if v13 = 0 then (some (1000000 : Int32))
      else (cf_costOf_b85 C k8 k46 x1 x2 x3 x4 x5 x6)))
theorem cf_costOf_w46 {p : Program} {l : Launch} {e : Env} {R : Room} {s : State} {m : MethodId} {args : Array Value} {below : List Frame} {meth : Method} {c : Code} {Z : CZ} {Y : CY} {A : Nat → Prop} {C : St} {H : Heap} {cells slots : Nat} {Qc : Array Value → State → Outcome → State → Prop} {free : Addr → Prop} (X : CCx p s m args meth c cX0_costOf 7 (some .int) RX0 Z) (hM : cPD Z Y A C H) (hR : cf_costOf_rm.frames ≤ R.frames ∧ cf_costOf_rm.locals ≤ R.locals ∧ cells ≤ R.cells ∧ slots ≤ R.slots) (hF : ∀ q, cFr Z q → free q) {r : Int32} (hQ : ∀ t : State, t.heap = H → s.WarmedH t.vm → Qc args s (.returned (some (.int r))) t) {k8 : Int32 → Int32 → Int32 → Int32 → Int32 → Option Int32} (hk8 : cf_costOf_P8 p l e R s m args below meth c Z Y H cells slots Qc free r k8) {k46 : Int32 → Int32 → Int32 → Int32 → Int32 → Int32 → Option Int32} (hk46 : cf_costOf_P46 p l e R s m args below meth c Z Y H cells slots Qc free r k46) : cf_costOf_P46 p l e R s m args below meth c Z Y H cells slots Qc free r (cf_costOf_b46 C k8 k46) := by
  intro x1 x2 x3 x4 x5 x6 locs ls hL hl h
  obtain ⟨⟨hx, hb, hr, hlocks, hml, hown, hts⟩, hK⟩ := id X
  unfold cf_costOf_b46 at h
  refine lv_iload hx hb dX0_costOf_46 (lv_at hl 6 rfl) ?_
  refine lv_iload hx hb dX0_costOf_48 (lv_at hl 5 rfl) ?_
  refine lv_icmp_ge (tgt := 91) hx hb dX0_costOf_50 (by decide) (fun c1 => ?_) (fun c1 => ?_)
  · have h := ip_ c1 h
    refine lv_iload_n hx hb dX0_costOf_91 rfl (lv_at hl 3 rfl) ?_
    refine lv_aload_n hx hb dX0_costOf_92 rfl (lv_at hl 0 rfl) ?_
    refine lv_aload_n hx hb dX0_costOf_93 rfl (lv_at hl 0 rfl) ?_
    refine lv_aload_n hx hb dX0_costOf_94 rfl (lv_at hl 0 rfl) ?_
    refine lv_iload hx hb dX0_costOf_95 (lv_at hl 5 rfl) ?_
    obtain ⟨v2, q_v2, h⟩ := bd_e h
    refine f_roR (As := [.int x5]) (rest := [.ref (cSa Z 0), .ref (cSa Z 0), .int x3]) X hM (c_recv0 X hM) hL hF (cf_deed_2_met _ Z Y A C x5 v2 q_v2) (lw_V q647 q649 qs9 q79 q650) cf_deed_2_hd ⟨rfl, rfl⟩ ⟨Nat.le_trans (m := cf_costOf_rm.frames) (Nat.le_of_ble_eq_true rfl) hR.1, Nat.le_trans (m := cf_costOf_rm.locals) (Nat.le_of_ble_eq_true rfl) hR.2.1⟩ ⟨hR.2.2.1, hR.2.2.2⟩ rfl hl.1 rfl (Nat.le_of_ble_eq_true rfl) dX0_costOf_97 (fun locs hL => ?_)
    refine lv_iload_n hx hb dX0_costOf_100 rfl (lv_at hl 2 rfl) ?_
    obtain ⟨v3, q_v3, h⟩ := bd_e h
    refine f_roI (As := [.ref (cDa Y (100 + v2)), .int x2]) (rest := [.ref (cSa Z 0), .int x3]) X hM (c_recv0 X hM) hL hF (cf_comers_met _ Z Y A C v2 x2 v3 q_v3) (lw_V q683 q685 qs12 q79 q686) cf_comers_hd ⟨rfl, rfl⟩ ⟨Nat.le_trans (m := cf_costOf_rm.frames) (Nat.le_of_ble_eq_true rfl) hR.1, Nat.le_trans (m := cf_costOf_rm.locals) (Nat.le_of_ble_eq_true rfl) hR.2.1⟩ ⟨hR.2.2.1, hR.2.2.2⟩ rfl hl.1 rfl (Nat.le_of_ble_eq_true rfl) dX0_costOf_101 (fun locs hL => ?_)
    obtain ⟨v4, q_v4, h⟩ := bd_e h
    refine f_roI (As := [.int v3]) (rest := [.int x3]) X hM (c_recv0 X hM) hL hF (cf_prices_met _ Z Y A C v3 v4 q_v4) (lw_V q731 q733 qs18 q79 q734) cf_prices_hd ⟨rfl, rfl⟩ ⟨Nat.le_trans (m := cf_costOf_rm.frames) (Nat.le_of_ble_eq_true rfl) hR.1, Nat.le_trans (m := cf_costOf_rm.locals) (Nat.le_of_ble_eq_true rfl) hR.2.1⟩ ⟨hR.2.2.1, hR.2.2.2⟩ rfl hl.1 rfl (Nat.le_of_ble_eq_true rfl) dX0_costOf_104 (fun locs hL => ?_)
    refine lv_iadd hx hb dX0_costOf_107 ?_
    refine lv_topi (fun v5 e_v5 => ?_)
    have h := lt_i h e_v5
    refine lv_istore_n (lv' := [(3, .int v5), (0, .ref (cSa Z 0)), (1, .int x1), (2, .int x2), (4, .int x4), (5, .int x5), (6, .int x6)]) hx hb dX0_costOf_108 rfl hl (by decide) rfl (fun ls hl => ?_)
    refine lv_iload hx hb dX0_costOf_109 (lv_at hl 4 rfl) ?_
    refine lv_aload_n hx hb dX0_costOf_111 rfl (lv_at hl 1 rfl) ?_
    refine lv_aload_n hx hb dX0_costOf_112 rfl (lv_at hl 1 rfl) ?_
    refine lv_iload hx hb dX0_costOf_113 (lv_at hl 5 rfl) ?_
    obtain ⟨v6, q_v6, h⟩ := bd_e h
    refine f_roR (As := [.int x5]) (rest := [.ref (cSa Z 0), .int x4]) X hM (c_recv0 X hM) hL hF (cf_deed_2_met _ Z Y A C x5 v6 q_v6) (lw_V q647 q649 qs9 q79 q650) cf_deed_2_hd ⟨rfl, rfl⟩ ⟨Nat.le_trans (m := cf_costOf_rm.frames) (Nat.le_of_ble_eq_true rfl) hR.1, Nat.le_trans (m := cf_costOf_rm.locals) (Nat.le_of_ble_eq_true rfl) hR.2.1⟩ ⟨hR.2.2.1, hR.2.2.2⟩ rfl hl.1 rfl (Nat.le_of_ble_eq_true rfl) dX0_costOf_115 (fun locs hL => ?_)
    refine lv_iload_n hx hb dX0_costOf_118 rfl (lv_at hl 3 rfl) ?_
    obtain ⟨v7, q_v7, h⟩ := bd_e h
    refine f_roI (As := [.ref (cDa Y (100 + v6)), .int x2]) (rest := [.int x4]) X hM (c_recv0 X hM) hL hF (cf_isTurned_met _ Z Y A C v6 x2 v7 q_v7) (lw_V q703 q705 qs14 q79 q706) cf_isTurned_hd ⟨rfl, rfl⟩ ⟨Nat.le_trans (m := cf_costOf_rm.frames) (Nat.le_of_ble_eq_true rfl) hR.1, Nat.le_trans (m := cf_costOf_rm.locals) (Nat.le_of_ble_eq_true rfl) hR.2.1⟩ ⟨hR.2.2.1, hR.2.2.2⟩ rfl hl.1 rfl (Nat.le_of_ble_eq_true rfl) dX0_costOf_119 (fun locs hL => ?_)
    refine lv_ior hx hb dX0_costOf_122 ?_
    refine lv_topi (fun v8 e_v8 => ?_)
    have h := lt_i h e_v8
    refine lv_istore (lv' := [(4, .int v8), (3, .int v5), (0, .ref (cSa Z 0)), (1, .int x1), (2, .int x2), (5, .int x5), (6, .int x6)]) hx hb dX0_costOf_123 hl (by decide) rfl (fun ls hl => ?_)
    exact cf_costOf_w125 X hM hR hF hQ hk8 x1 x2 v5 v8 x5 _ ls hL (lv_sub hl [2, 3, 4, 1, 0, 5] rfl) h
  · have h := in_ c1 h
    refine lv_iload_n hx hb dX0_costOf_53 rfl (lv_at hl 1 rfl) ?_
    refine lv_iload hx hb dX0_costOf_54 (lv_at hl 6 rfl) ?_
    obtain ⟨v9, q_v9, h⟩ := bd_e h
    refine s_roI (As := [.int x1, .int x6]) (rest := []) X.1 (cf_isIn_met _ x1 x6 v9 q_v9) (lw_S q698 q550 q79 q551) cf_isIn_hd ⟨rfl, rfl⟩ ⟨Nat.le_trans (m := cf_costOf_rm.frames) (Nat.le_of_ble_eq_true rfl) hR.1, Nat.le_trans (m := cf_costOf_rm.locals) (Nat.le_of_ble_eq_true rfl) hR.2.1⟩ ⟨hR.2.2.1, hR.2.2.2⟩ rfl hl.1 rfl (Nat.le_of_ble_eq_true rfl) dX0_costOf_56 ?_
    refine lv_if_eq (tgt := 85) hx hb dX0_costOf_59 (by decide) (fun c10 => ?_) (fun c10 => ?_)
    · have h := ip_ c10 h
      exact cf_costOf_w85 X hM hR hF hQ hk8 hk46 x1 x2 x3 x4 x5 x6 _ ls hL (lv_sub hl [0, 1, 2, 3, 4, 5, 6] rfl) h
    · have h := in_ c10 h
      refine lv_aload_n hx hb dX0_costOf_62 rfl (lv_at hl 0 rfl) ?_
      refine lv_aload_n hx hb dX0_costOf_63 rfl (lv_at hl 0 rfl) ?_
      refine lv_iload hx hb dX0_costOf_64 (lv_at hl 5 rfl) ?_
      obtain ⟨v11, q_v11, h⟩ := bd_e h
      refine f_roR (As := [.int x5]) (rest := [.ref (cSa Z 0)]) X hM (c_recv0 X hM) hL hF (cf_deed_2_met _ Z Y A C x5 v11 q_v11) (lw_V q647 q649 qs9 q79 q650) cf_deed_2_hd ⟨rfl, rfl⟩ ⟨Nat.le_trans (m := cf_costOf_rm.frames) (Nat.le_of_ble_eq_true rfl) hR.1, Nat.le_trans (m := cf_costOf_rm.locals) (Nat.le_of_ble_eq_true rfl) hR.2.1⟩ ⟨hR.2.2.1, hR.2.2.2⟩ rfl hl.1 rfl (Nat.le_of_ble_eq_true rfl) dX0_costOf_66 (fun locs hL => ?_)
      refine lv_aload_n hx hb dX0_costOf_69 rfl (lv_at hl 0 rfl) ?_
      refine lv_iload hx hb dX0_costOf_70 (lv_at hl 6 rfl) ?_
      obtain ⟨v12, q_v12, h⟩ := bd_e h
      refine f_roR (As := [.int x6]) (rest := [.ref (cDa Y (100 + v11)), .ref (cSa Z 0)]) X hM (c_recv0 X hM) hL hF (cf_deed_2_met _ Z Y A C x6 v12 q_v12) (lw_V q647 q649 qs9 q79 q650) cf_deed_2_hd ⟨rfl, rfl⟩ ⟨Nat.le_trans (m := cf_costOf_rm.frames) (Nat.le_of_ble_eq_true rfl) hR.1, Nat.le_trans (m := cf_costOf_rm.locals) (Nat.le_of_ble_eq_true rfl) hR.2.1⟩ ⟨hR.2.2.1, hR.2.2.2⟩ rfl hl.1 rfl (Nat.le_of_ble_eq_true rfl) dX0_costOf_72 (fun locs hL => ?_)
      refine lv_iload_n hx hb dX0_costOf_75 rfl (lv_at hl 2 rfl) ?_
      obtain ⟨v13, q_v13, h⟩ := bd_e h
      refine f_roI (As := [.ref (cDa Y (100 + v11)), .ref (cDa Y (100 + v12)), .int x2]) (rest := []) X hM (c_recv0 X hM) hL hF (cf_goTogether_met _ Z Y A C v11 v12 x2 v13 q_v13) (lw_V q756 q758 qs23 q79 q759) cf_goTogether_hd ⟨rfl, rfl⟩ ⟨Nat.le_trans (m := cf_costOf_rm.frames) (Nat.le_of_ble_eq_true rfl) hR.1, Nat.le_trans (m := cf_costOf_rm.locals) (Nat.le_of_ble_eq_true rfl) hR.2.1⟩ ⟨hR.2.2.1, hR.2.2.2⟩ rfl hl.1 rfl (Nat.le_of_ble_eq_true rfl) dX0_costOf_76 (fun locs hL => ?_)
      refine lv_if_ne (tgt := 85) hx hb dX0_costOf_79 (by decide) (fun c14 => ?_) (fun c14 => ?_)
      · have h := in_ c14 h
        exact cf_costOf_w85 X hM hR hF hQ hk8 hk46 x1 x2 x3 x4 x5 x6 _ ls hL (lv_sub hl [0, 1, 2, 3, 4, 5, 6] rfl) h
      · have h := ip_ c14 h
        refine lv_ldc (v := 1000000) hx hb hown (hts _ q755) dX0_costOf_82 ?_
        have h := so_ h
        subst h
        exact W.iret hx hb hr (fun t ht hW => hQ t ht hW) hL dX0_costOf_84
def cf_costOf_l46 (C : St) (k8 : Int32 → Int32 → Int32 → Int32 → Int32 → Option Int32) (n : Nat) : Int32 → Int32 → Int32 → Int32 → Int32 → Int32 → Option Int32 := lp (fun _ _ _ _ _ _ => none) (cf_costOf_b46 C k8) n
theorem cf_costOf_lw46 {p : Program} {l : Launch} {e : Env} {R : Room} {s : State} {m : MethodId} {args : Array Value} {below : List Frame} {meth : Method} {c : Code} {Z : CZ} {Y : CY} {A : Nat → Prop} {C : St} {H : Heap} {cells slots : Nat} {Qc : Array Value → State → Outcome → State → Prop} {free : Addr → Prop} (X : CCx p s m args meth c cX0_costOf 7 (some .int) RX0 Z) (hM : cPD Z Y A C H) (hR : cf_costOf_rm.frames ≤ R.frames ∧ cf_costOf_rm.locals ≤ R.locals ∧ cells ≤ R.cells ∧ slots ≤ R.slots) (hF : ∀ q, cFr Z q → free q) {r : Int32} (hQ : ∀ t : State, t.heap = H → s.WarmedH t.vm → Qc args s (.returned (some (.int r))) t) {k8 : Int32 → Int32 → Int32 → Int32 → Int32 → Option Int32} (hk8 : cf_costOf_P8 p l e R s m args below meth c Z Y H cells slots Qc free r k8) : ∀ n : Nat, cf_costOf_P46 p l e R s m args below meth c Z Y H cells slots Qc free r (cf_costOf_l46 C k8 n) := by
  intro n
  induction n with
  | zero => intro x1 x2 x3 x4 x5 x6 locs ls hL hl h; exact no_ h
  | succ n ih => exact cf_costOf_w46 X hM hR hF hQ hk8 ih
def cf_costOf_b8 (C : St) (k8 : Int32 → Int32 → Int32 → Int32 → Int32 → Option Int32) (x1 : Int32) (x2 : Int32) (x3 : Int32) (x4 : Int32) (x5 : Int32) : Option Int32 :=
  bd_ (cf_deeds C ) fun v1 =>
  if v1 ≤ x5 then (if x4 = 0 then (cf_costOf_b147 C (0 : Int32) x3)
    else (al_ 4 (C 3) (0 : Int32) fun v4 =>
      cf_costOf_b147 C v4 x3))
  else (bd_ (cf_isIn x1 x5) fun v5 =>
    if v5 = 0 then (cf_costOf_b125 C k8 x1 x2 x3 x4 x5)
    else (bd_ (cf_deed_2 C x5) fun v7 =>
      bd_ (cf_canBe C v7 x2) fun v8 =>
      if v8 = 0 then (some (1000000 : Int32))
      else (cf_costOf_l46 C k8 FU x1 x2 x3 x4 x5 (0 : Int32))))
theorem cf_costOf_w8 {p : Program} {l : Launch} {e : Env} {R : Room} {s : State} {m : MethodId} {args : Array Value} {below : List Frame} {meth : Method} {c : Code} {Z : CZ} {Y : CY} {A : Nat → Prop} {C : St} {H : Heap} {cells slots : Nat} {Qc : Array Value → State → Outcome → State → Prop} {free : Addr → Prop} (X : CCx p s m args meth c cX0_costOf 7 (some .int) RX0 Z) (hM : cPD Z Y A C H) (hR : cf_costOf_rm.frames ≤ R.frames ∧ cf_costOf_rm.locals ≤ R.locals ∧ cells ≤ R.cells ∧ slots ≤ R.slots) (hF : ∀ q, cFr Z q → free q) {r : Int32} (hQ : ∀ t : State, t.heap = H → s.WarmedH t.vm → Qc args s (.returned (some (.int r))) t) {k8 : Int32 → Int32 → Int32 → Int32 → Int32 → Option Int32} (hk8 : cf_costOf_P8 p l e R s m args below meth c Z Y H cells slots Qc free r k8) : cf_costOf_P8 p l e R s m args below meth c Z Y H cells slots Qc free r (cf_costOf_b8 C k8) := by
  intro x1 x2 x3 x4 x5 locs ls hL hl h
  obtain ⟨⟨hx, hb, hr, hlocks, hml, hown, hts⟩, hK⟩ := id X
  unfold cf_costOf_b8 at h
  refine lv_iload hx hb dX0_costOf_8 (lv_at hl 5 rfl) ?_
  refine lv_aload_n hx hb dX0_costOf_10 rfl (lv_at hl 0 rfl) ?_
  obtain ⟨v1, q_v1, h⟩ := bd_e h
  refine f_roI (As := []) (rest := [.int x5]) X hM (c_recv0 X hM) hL hF (cf_deeds_met _ Z Y A C  v1 q_v1) (lw_V q630 q632 qs7 q79 q633) cf_deeds_hd ⟨rfl, rfl⟩ ⟨Nat.le_trans (m := cf_costOf_rm.frames) (Nat.le_of_ble_eq_true rfl) hR.1, Nat.le_trans (m := cf_costOf_rm.locals) (Nat.le_of_ble_eq_true rfl) hR.2.1⟩ ⟨hR.2.2.1, hR.2.2.2⟩ rfl hl.1 rfl (Nat.le_of_ble_eq_true rfl) dX0_costOf_11 (fun locs hL => ?_)
  refine lv_icmp_ge (tgt := 131) hx hb dX0_costOf_14 (by decide) (fun c2 => ?_) (fun c2 => ?_)
  · have h := ip_ c2 h
    refine lv_iload_n hx hb dX0_costOf_131 rfl (lv_at hl 3 rfl) ?_
    refine lv_iload hx hb dX0_costOf_132 (lv_at hl 4 rfl) ?_
    refine lv_if_eq (tgt := 146) hx hb dX0_costOf_134 (by decide) (fun c3 => ?_) (fun c3 => ?_)
    · have h := ip_ c3 h
      refine lv_iconst (v := 0) hx hb dX0_costOf_146 (by decide) ?_
      exact cf_costOf_w147 X hM hR hF hQ (0 : Int32) x3 _ ls hL (lv_sub hl [] rfl) h
    · have h := in_ c3 h
      refine lv_aload_n hx hb dX0_costOf_137 rfl (lv_at hl 0 rfl) ?_
      refine gc3 X hM dX0_costOf_138 ?_
      refine lv_iconst (v := 0) hx hb dX0_costOf_141 (by decide) ?_
      obtain ⟨i_v4, h⟩ := al_e h
      refine c_ald X hM (k := 3) (cHs_S (by decide)) (fun _ _ _ => rfl) (cAr_s (by decide)) i_v4 dX0_costOf_142 (fun v4 e_v4 => ?_)
      have h := h v4 e_v4
      refine lv_goto (tgt := 147) hx hb dX0_costOf_143 (by decide) ?_
      exact cf_costOf_w147 X hM hR hF hQ v4 x3 _ ls hL (lv_sub hl [] rfl) h
  · have h := in_ c2 h
    refine lv_iload_n hx hb dX0_costOf_17 rfl (lv_at hl 1 rfl) ?_
    refine lv_iload hx hb dX0_costOf_18 (lv_at hl 5 rfl) ?_
    obtain ⟨v5, q_v5, h⟩ := bd_e h
    refine s_roI (As := [.int x1, .int x5]) (rest := []) X.1 (cf_isIn_met _ x1 x5 v5 q_v5) (lw_S q698 q550 q79 q551) cf_isIn_hd ⟨rfl, rfl⟩ ⟨Nat.le_trans (m := cf_costOf_rm.frames) (Nat.le_of_ble_eq_true rfl) hR.1, Nat.le_trans (m := cf_costOf_rm.locals) (Nat.le_of_ble_eq_true rfl) hR.2.1⟩ ⟨hR.2.2.1, hR.2.2.2⟩ rfl hl.1 rfl (Nat.le_of_ble_eq_true rfl) dX0_costOf_20 ?_
    refine lv_if_eq (tgt := 125) hx hb dX0_costOf_23 (by decide) (fun c6 => ?_) (fun c6 => ?_)
    · have h := ip_ c6 h
      exact cf_costOf_w125 X hM hR hF hQ hk8 x1 x2 x3 x4 x5 _ ls hL (lv_sub hl [0, 1, 2, 3, 4, 5] rfl) h
    · have h := in_ c6 h
      refine lv_aload_n hx hb dX0_costOf_26 rfl (lv_at hl 0 rfl) ?_
      refine lv_aload_n hx hb dX0_costOf_27 rfl (lv_at hl 0 rfl) ?_
      refine lv_iload hx hb dX0_costOf_28 (lv_at hl 5 rfl) ?_
      obtain ⟨v7, q_v7, h⟩ := bd_e h
      refine f_roR (As := [.int x5]) (rest := [.ref (cSa Z 0)]) X hM (c_recv0 X hM) hL hF (cf_deed_2_met _ Z Y A C x5 v7 q_v7) (lw_V q647 q649 qs9 q79 q650) cf_deed_2_hd ⟨rfl, rfl⟩ ⟨Nat.le_trans (m := cf_costOf_rm.frames) (Nat.le_of_ble_eq_true rfl) hR.1, Nat.le_trans (m := cf_costOf_rm.locals) (Nat.le_of_ble_eq_true rfl) hR.2.1⟩ ⟨hR.2.2.1, hR.2.2.2⟩ rfl hl.1 rfl (Nat.le_of_ble_eq_true rfl) dX0_costOf_30 (fun locs hL => ?_)
      refine lv_iload_n hx hb dX0_costOf_33 rfl (lv_at hl 2 rfl) ?_
      obtain ⟨v8, q_v8, h⟩ := bd_e h
      refine f_roI (As := [.ref (cDa Y (100 + v7)), .int x2]) (rest := []) X hM (c_recv0 X hM) hL hF (cf_canBe_met _ Z Y A C v7 x2 v8 q_v8) (lw_V q679 q681 qs11 q79 q682) cf_canBe_hd ⟨rfl, rfl⟩ ⟨Nat.le_trans (m := cf_costOf_rm.frames) (Nat.le_of_ble_eq_true rfl) hR.1, Nat.le_trans (m := cf_costOf_rm.locals) (Nat.le_of_ble_eq_true rfl) hR.2.1⟩ ⟨hR.2.2.1, hR.2.2.2⟩ rfl hl.1 rfl (Nat.le_of_ble_eq_true rfl) dX0_costOf_34 (fun locs hL => ?_)
      refine lv_if_ne (tgt := 43) hx hb dX0_costOf_37 (by decide) (fun c9 => ?_) (fun c9 => ?_)
      · have h := in_ c9 h
        refine lv_iconst (v := 0) hx hb dX0_costOf_43 (by decide) ?_
        refine lv_istore (lv' := [(6, .int (0 : Int32)), (0, .ref (cSa Z 0)), (1, .int x1), (2, .int x2), (3, .int x3), (4, .int x4), (5, .int x5)]) hx hb dX0_costOf_44 hl (by decide) rfl (fun ls hl => ?_)
        exact cf_costOf_lw46 X hM hR hF hQ hk8 FU x1 x2 x3 x4 x5 (0 : Int32) _ ls hL (lv_sub hl [1, 2, 3, 4, 5, 6, 0] rfl) h
      · have h := ip_ c9 h
        refine lv_ldc (v := 1000000) hx hb hown (hts _ q755) dX0_costOf_40 ?_
        have h := so_ h
        subst h
        exact W.iret hx hb hr (fun t ht hW => hQ t ht hW) hL dX0_costOf_42
def cf_costOf_l8 (C : St) (n : Nat) : Int32 → Int32 → Int32 → Int32 → Int32 → Option Int32 := lp (fun _ _ _ _ _ => none) (cf_costOf_b8 C) n
theorem cf_costOf_lw8 {p : Program} {l : Launch} {e : Env} {R : Room} {s : State} {m : MethodId} {args : Array Value} {below : List Frame} {meth : Method} {c : Code} {Z : CZ} {Y : CY} {A : Nat → Prop} {C : St} {H : Heap} {cells slots : Nat} {Qc : Array Value → State → Outcome → State → Prop} {free : Addr → Prop} (X : CCx p s m args meth c cX0_costOf 7 (some .int) RX0 Z) (hM : cPD Z Y A C H) (hR : cf_costOf_rm.frames ≤ R.frames ∧ cf_costOf_rm.locals ≤ R.locals ∧ cells ≤ R.cells ∧ slots ≤ R.slots) (hF : ∀ q, cFr Z q → free q) {r : Int32} (hQ : ∀ t : State, t.heap = H → s.WarmedH t.vm → Qc args s (.returned (some (.int r))) t) : ∀ n : Nat, cf_costOf_P8 p l e R s m args below meth c Z Y H cells slots Qc free r (cf_costOf_l8 C n) := by
  intro n
  induction n with
  | zero => intro x1 x2 x3 x4 x5 locs ls hL hl h; exact no_ h
  | succ n ih => exact cf_costOf_w8 X hM hR hF hQ ih
def cf_costOf (C : St) (x1 : Int32) (x2 : Int32) : Option Int32 :=
  cf_costOf_l8 C FU x1 x2 (0 : Int32) (0 : Int32) (0 : Int32)
theorem cf_costOf_w0 {p : Program} {l : Launch} {e : Env} {R : Room} {s : State} {m : MethodId} {args : Array Value} {below : List Frame} {meth : Method} {c : Code} {Z : CZ} {Y : CY} {A : Nat → Prop} {C : St} {H : Heap} {cells slots : Nat} {Qc : Array Value → State → Outcome → State → Prop} {free : Addr → Prop} (X : CCx p s m args meth c cX0_costOf 7 (some .int) RX0 Z) (hM : cPD Z Y A C H) (hR : cf_costOf_rm.frames ≤ R.frames ∧ cf_costOf_rm.locals ≤ R.locals ∧ cells ≤ R.cells ∧ slots ≤ R.slots) (hF : ∀ q, cFr Z q → free q) {r : Int32} (hQ : ∀ t : State, t.heap = H → s.WarmedH t.vm → Qc args s (.returned (some (.int r))) t) : cf_costOf_P0 p l e R s m args below meth c Z Y H cells slots Qc free r (cf_costOf C) := by
  intro x1 x2 locs ls hL hl h
  obtain ⟨⟨hx, hb, hr, hlocks, hml, hown, hts⟩, hK⟩ := id X
  unfold cf_costOf at h
  refine lv_iconst (v := 0) hx hb dX0_costOf_0 (by decide) ?_
  refine lv_istore_n (lv' := [(3, .int (0 : Int32)), (0, .ref (cSa Z 0)), (1, .int x1), (2, .int x2)]) hx hb dX0_costOf_1 rfl hl (by decide) rfl (fun ls hl => ?_)
  refine lv_iconst (v := 0) hx hb dX0_costOf_2 (by decide) ?_
  refine lv_istore (lv' := [(4, .int (0 : Int32)), (3, .int (0 : Int32)), (0, .ref (cSa Z 0)), (1, .int x1), (2, .int x2)]) hx hb dX0_costOf_3 hl (by decide) rfl (fun ls hl => ?_)
  refine lv_iconst (v := 0) hx hb dX0_costOf_5 (by decide) ?_
  refine lv_istore (lv' := [(5, .int (0 : Int32)), (4, .int (0 : Int32)), (3, .int (0 : Int32)), (0, .ref (cSa Z 0)), (1, .int x1), (2, .int x2)]) hx hb dX0_costOf_6 hl (by decide) rfl (fun ls hl => ?_)
  exact cf_costOf_lw8 X hM hR hF hQ FU x1 x2 (0 : Int32) (0 : Int32) (0 : Int32) _ ls hL (lv_sub hl [3, 4, 5, 2, 1, 0] rfl) h
theorem cf_costOf_hd : yX0_costOf.cls = RX0 ∧ yX0_costOf.cls ≠ "java/lang/invoke/MethodHandle" ∧ yX0_costOf.cls ≠ "java/lang/invoke/VarHandle" ∧ (parseMethodDescriptor yX0_costOf.desc).map (fun d => d.parameters.length) = some 2 := by decide +kernel
theorem cf_costOf_met (l : Launch) (Z : CZ) (Y : CY) (A : Nat → Prop) (C : St) (x1 : Int32) (x2 : Int32) (r : Int32) (h : cf_costOf C x1 x2 = some r) : Met l yX0_costOf (ws_ yX0_costOf cX0_costOf 7 (some .int)) cf_costOf_rm (va_Pc [.ref (cSa Z 0), .int x1, .int x2] (cS Z Y A C)) (Qro (some (.int r))) 0 0 (cFr Z) := by
  refine Met.ofW (cc := cX0_costOf) (maxL := 7) (ret := some .int) (by decide) rfl ?_
  intro p e s m args below meth c s₁ B hml hv
  obtain ⟨rfl, hv⟩ := hv
  have hts := atoms_spec (ws := ws_ yX0_costOf cX0_costOf 7 (some .int)) B.pre
  have hts : ∀ w ∈ lw_all, w.before _ s = true := fun w h => hts w (List.mem_cons_of_mem _ h)
  have X : CCx p s m _ meth c cX0_costOf 7 (some .int) RX0 Z := ⟨⟨B.exec, B.bytes, B.returns, B.notSynchronized, hml, findClass_of_methodNamed B.named, hts⟩, hv.2⟩
  have hl := lv_entry [.ref (cSa Z 0), .int x1, .int x2] (n := 7) (Nat.le_of_ble_eq_true rfl)
  rw [lg_entry_eq]
  generalize (lg_sl [.ref (cSa Z 0), .int x1, .int x2] ++ List.replicate (7 - (lg_sl [.ref (cSa Z 0), .int x1, .int x2]).length) Slot.unset).toArray = ls at hl ⊢
  exact cf_costOf_w0 X hv.1 ⟨Nat.le_refl _, Nat.le_refl _, Nat.le_refl _, Nat.le_refl _⟩ (fun _ h => h) (fun t ht _ => ⟨rfl, ht⟩) x1 x2 [] ls (fun q hq => by cases hq) hl h

/-! SecondChances.isFixed(II)Z -/
def cf_isFixed_rm : Room := { frames := 2, cells := 0, slots := 0, locals := 40 }
def cf_isFixed_P57 (p : Program) (l : Launch) (e : Env) (R : Room) (s : State) (m : MethodId) (args : Array Value) (below : List Frame) (meth : Method) (c : Code) (Z : CZ) (Y : CY) (H : Heap) (cells slots : Nat) (Qc : Array Value → State → Outcome → State → Prop) (free : Addr → Prop) (r : Int32) (f : Int32 → Int32 → Int32 → Int32 → Int32 → Option Int32) : Prop := ∀ (x1 : Int32) (x2 : Int32) (x4 : Int32) (t0 : Int32) (t1 : Int32) (locs : List Loc) (ls : Array Slot), (∀ q ∈ locs, free q.base) → lv_has ls 5 [(0, .ref (cSa Z 0)), (1, .int x1), (2, .int x2), (4, .int x4)] → f x1 x2 x4 t0 t1 = some r → W p l e R s m args below meth c H locs cells slots (MQ below Qc args s cells slots free) (F0 m 57 ls [.int t0, .int t1])
def cf_isFixed_P49 (p : Program) (l : Launch) (e : Env) (R : Room) (s : State) (m : MethodId) (args : Array Value) (below : List Frame) (meth : Method) (c : Code) (Z : CZ) (Y : CY) (H : Heap) (cells slots : Nat) (Qc : Array Value → State → Outcome → State → Prop) (free : Addr → Prop) (r : Int32) (f : Int32 → Int32 → Int32 → Int32 → Int32 → Int32 → Option Int32) : Prop := ∀ (x1 : Int32) (x2 : Int32) (x4 : Int32) (t0 : Int32) (t1 : Int32) (t2 : Int32) (locs : List Loc) (ls : Array Slot), (∀ q ∈ locs, free q.base) → lv_has ls 5 [(0, .ref (cSa Z 0)), (1, .int x1), (2, .int x2), (4, .int x4)] → f x1 x2 x4 t0 t1 t2 = some r → W p l e R s m args below meth c H locs cells slots (MQ below Qc args s cells slots free) (F0 m 49 ls [.int t0, .int t1, .int t2])
def cf_isFixed_P5 (p : Program) (l : Launch) (e : Env) (R : Room) (s : State) (m : MethodId) (args : Array Value) (below : List Frame) (meth : Method) (c : Code) (Z : CZ) (Y : CY) (H : Heap) (cells slots : Nat) (Qc : Array Value → State → Outcome → State → Prop) (free : Addr → Prop) (r : Int32) (f : Int32 → Int32 → Int32 → Int32 → Option Int32) : Prop := ∀ (x1 : Int32) (x2 : Int32) (x3 : Int32) (x4 : Int32) (locs : List Loc) (ls : Array Slot), (∀ q ∈ locs, free q.base) → lv_has ls 5 [(0, .ref (cSa Z 0)), (1, .int x1), (2, .int x2), (3, .int x3), (4, .int x4)] → f x1 x2 x3 x4 = some r → W p l e R s m args below meth c H locs cells slots (MQ below Qc args s cells slots free) (F0 m 5 ls [])
def cf_isFixed_P0 (p : Program) (l : Launch) (e : Env) (R : Room) (s : State) (m : MethodId) (args : Array Value) (below : List Frame) (meth : Method) (c : Code) (Z : CZ) (Y : CY) (H : Heap) (cells slots : Nat) (Qc : Array Value → State → Outcome → State → Prop) (free : Addr → Prop) (r : Int32) (f : Int32 → Int32 → Option Int32) : Prop := ∀ (x1 : Int32) (x2 : Int32) (locs : List Loc) (ls : Array Slot), (∀ q ∈ locs, free q.base) → lv_has ls 5 [(0, .ref (cSa Z 0)), (1, .int x1), (2, .int x2)] → f x1 x2 = some r → W p l e R s m args below meth c H locs cells slots (MQ below Qc args s cells slots free) (F0 m 0 ls [])
def cf_isFixed_b57 (C : St) (k5 : Int32 → Int32 → Int32 → Int32 → Option Int32) (x1 : Int32) (x2 : Int32) (x4 : Int32) (t0 : Int32) (t1 : Int32) : Option Int32 :=
  lt_ (t1 &&& t0) fun v1 =>
  k5 x1 x2 v1 (x4 + 1)
theorem cf_isFixed_w57 {p : Program} {l : Launch} {e : Env} {R : Room} {s : State} {m : MethodId} {args : Array Value} {below : List Frame} {meth : Method} {c : Code} {Z : CZ} {Y : CY} {A : Nat → Prop} {C : St} {H : Heap} {cells slots : Nat} {Qc : Array Value → State → Outcome → State → Prop} {free : Addr → Prop} (X : CCx p s m args meth c cX0_isFixed 5 (some .boolean) RX0 Z) (hM : cPD Z Y A C H) (hR : cf_isFixed_rm.frames ≤ R.frames ∧ cf_isFixed_rm.locals ≤ R.locals ∧ cells ≤ R.cells ∧ slots ≤ R.slots) (hF : ∀ q, cFr Z q → free q) {r : Int32} (hQ : ∀ t : State, t.heap = H → s.WarmedH t.vm → Qc args s (.returned (some (.int r))) t) {k5 : Int32 → Int32 → Int32 → Int32 → Option Int32} (hk5 : cf_isFixed_P5 p l e R s m args below meth c Z Y H cells slots Qc free r k5) : cf_isFixed_P57 p l e R s m args below meth c Z Y H cells slots Qc free r (cf_isFixed_b57 C k5) := by
  intro x1 x2 x4 t0 t1 locs ls hL hl h
  obtain ⟨⟨hx, hb, hr, hlocks, hml, hown, hts⟩, hK⟩ := id X
  unfold cf_isFixed_b57 at h
  refine lv_iand hx hb dX0_isFixed_57 ?_
  refine lv_topi (fun v1 e_v1 => ?_)
  have h := lt_i h e_v1
  refine lv_istore_n (lv' := [(3, .int v1), (0, .ref (cSa Z 0)), (1, .int x1), (2, .int x2), (4, .int x4)]) hx hb dX0_isFixed_58 rfl hl (by decide) rfl (fun ls hl => ?_)
  refine lv_iinc (v := (x4 + 1)) (lv' := [(4, .int (x4 + 1)), (3, .int v1), (0, .ref (cSa Z 0)), (1, .int x1), (2, .int x2)]) hx hb dX0_isFixed_59 hl (k := 4) rfl rfl (by decide) rfl (fun ls hl => ?_)
  refine lv_goto (tgt := 5) hx hb dX0_isFixed_62 (by decide) ?_
  exact hk5 x1 x2 v1 (x4 + 1) _ ls hL (lv_sub hl [2, 3, 4, 1, 0] rfl) h
def cf_isFixed_b49 (C : St) (k5 : Int32 → Int32 → Int32 → Int32 → Option Int32) (x1 : Int32) (x2 : Int32) (x4 : Int32) (t0 : Int32) (t1 : Int32) (t2 : Int32) : Option Int32 :=
  if t1 = t0 then (cf_isFixed_b57 C k5 x1 x2 x4 (1 : Int32) t2)
  else (cf_isFixed_b57 C k5 x1 x2 x4 (0 : Int32) t2)
theorem cf_isFixed_w49 {p : Program} {l : Launch} {e : Env} {R : Room} {s : State} {m : MethodId} {args : Array Value} {below : List Frame} {meth : Method} {c : Code} {Z : CZ} {Y : CY} {A : Nat → Prop} {C : St} {H : Heap} {cells slots : Nat} {Qc : Array Value → State → Outcome → State → Prop} {free : Addr → Prop} (X : CCx p s m args meth c cX0_isFixed 5 (some .boolean) RX0 Z) (hM : cPD Z Y A C H) (hR : cf_isFixed_rm.frames ≤ R.frames ∧ cf_isFixed_rm.locals ≤ R.locals ∧ cells ≤ R.cells ∧ slots ≤ R.slots) (hF : ∀ q, cFr Z q → free q) {r : Int32} (hQ : ∀ t : State, t.heap = H → s.WarmedH t.vm → Qc args s (.returned (some (.int r))) t) {k5 : Int32 → Int32 → Int32 → Int32 → Option Int32} (hk5 : cf_isFixed_P5 p l e R s m args below meth c Z Y H cells slots Qc free r k5) : cf_isFixed_P49 p l e R s m args below meth c Z Y H cells slots Qc free r (cf_isFixed_b49 C k5) := by
  intro x1 x2 x4 t0 t1 t2 locs ls hL hl h
  obtain ⟨⟨hx, hb, hr, hlocks, hml, hown, hts⟩, hK⟩ := id X
  unfold cf_isFixed_b49 at h
  refine lv_icmp_ne (tgt := 56) hx hb dX0_isFixed_49 (by decide) (fun c1 => ?_) (fun c1 => ?_)
  · have h := in_ c1 h
    refine lv_iconst (v := 0) hx hb dX0_isFixed_56 (by decide) ?_
    exact cf_isFixed_w57 X hM hR hF hQ hk5 x1 x2 x4 (0 : Int32) t2 _ ls hL (lv_sub hl [0, 1, 2, 3] rfl) h
  · have h := ip_ c1 h
    refine lv_iconst (v := 1) hx hb dX0_isFixed_52 (by decide) ?_
    refine lv_goto (tgt := 57) hx hb dX0_isFixed_53 (by decide) ?_
    exact cf_isFixed_w57 X hM hR hF hQ hk5 x1 x2 x4 (1 : Int32) t2 _ ls hL (lv_sub hl [0, 1, 2, 3] rfl) h
def cf_isFixed_b5 (C : St) (k5 : Int32 → Int32 → Int32 → Int32 → Option Int32) (x1 : Int32) (x2 : Int32) (x3 : Int32) (x4 : Int32) : Option Int32 :=
  bd_ (cf_deeds C ) fun v1 =>
  if v1 ≤ x4 then (if zb x3 = true then some x3 else none)
  else (al_ 8 (C 11) x4 fun v4 =>
    if v4 = (-2 : Int32) then (cf_isFixed_b57 C k5 x1 x2 x4 (1 : Int32) x3)
    else (bd_ (cf_isIn x1 x4) fun v6 =>
      al_ 8 (C 11) x4 fun v7 =>
      if v7 = x2 then (cf_isFixed_b49 C k5 x1 x2 x4 (1 : Int32) v6 x3)
      else (cf_isFixed_b49 C k5 x1 x2 x4 (0 : Int32) v6 x3)))
theorem cf_isFixed_w5 {p : Program} {l : Launch} {e : Env} {R : Room} {s : State} {m : MethodId} {args : Array Value} {below : List Frame} {meth : Method} {c : Code} {Z : CZ} {Y : CY} {A : Nat → Prop} {C : St} {H : Heap} {cells slots : Nat} {Qc : Array Value → State → Outcome → State → Prop} {free : Addr → Prop} (X : CCx p s m args meth c cX0_isFixed 5 (some .boolean) RX0 Z) (hM : cPD Z Y A C H) (hR : cf_isFixed_rm.frames ≤ R.frames ∧ cf_isFixed_rm.locals ≤ R.locals ∧ cells ≤ R.cells ∧ slots ≤ R.slots) (hF : ∀ q, cFr Z q → free q) {r : Int32} (hQ : ∀ t : State, t.heap = H → s.WarmedH t.vm → Qc args s (.returned (some (.int r))) t) {k5 : Int32 → Int32 → Int32 → Int32 → Option Int32} (hk5 : cf_isFixed_P5 p l e R s m args below meth c Z Y H cells slots Qc free r k5) : cf_isFixed_P5 p l e R s m args below meth c Z Y H cells slots Qc free r (cf_isFixed_b5 C k5) := by
  intro x1 x2 x3 x4 locs ls hL hl h
  obtain ⟨⟨hx, hb, hr, hlocks, hml, hown, hts⟩, hK⟩ := id X
  unfold cf_isFixed_b5 at h
  refine lv_iload hx hb dX0_isFixed_5 (lv_at hl 4 rfl) ?_
  refine lv_aload_n hx hb dX0_isFixed_7 rfl (lv_at hl 0 rfl) ?_
  obtain ⟨v1, q_v1, h⟩ := bd_e h
  refine f_roI (As := []) (rest := [.int x4]) X hM (c_recv0 X hM) hL hF (cf_deeds_met _ Z Y A C  v1 q_v1) (lw_V q630 q632 qs7 q79 q633) cf_deeds_hd ⟨rfl, rfl⟩ ⟨Nat.le_trans (m := cf_isFixed_rm.frames) (Nat.le_of_ble_eq_true rfl) hR.1, Nat.le_trans (m := cf_isFixed_rm.locals) (Nat.le_of_ble_eq_true rfl) hR.2.1⟩ ⟨hR.2.2.1, hR.2.2.2⟩ rfl hl.1 rfl (Nat.le_of_ble_eq_true rfl) dX0_isFixed_8 (fun locs hL => ?_)
  refine lv_icmp_ge (tgt := 65) hx hb dX0_isFixed_11 (by decide) (fun c2 => ?_) (fun c2 => ?_)
  · have h := ip_ c2 h
    refine lv_iload_n hx hb dX0_isFixed_65 rfl (lv_at hl 3 rfl) ?_
    by_cases c3 : zb x3 = true
    case neg => exact no_ (in_ c3 h)
    have h := ip_ c3 h
    have h := so_ h
    subst h
    exact W.zret hx hb hr (zb_n c3) (fun t ht hW => hQ t ht hW) hL dX0_isFixed_66
  · have h := in_ c2 h
    refine lv_iload_n hx hb dX0_isFixed_14 rfl (lv_at hl 3 rfl) ?_
    refine lv_aload_n hx hb dX0_isFixed_15 rfl (lv_at hl 0 rfl) ?_
    refine gc11 X hM dX0_isFixed_16 ?_
    refine lv_iload hx hb dX0_isFixed_19 (lv_at hl 4 rfl) ?_
    obtain ⟨i_v4, h⟩ := al_e h
    refine c_ald X hM (k := 11) (cHs_S (by decide)) (fun _ _ _ => rfl) (cAr_s (by decide)) i_v4 dX0_isFixed_21 (fun v4 e_v4 => ?_)
    have h := h v4 e_v4
    refine lv_bipush (v := -2) hx hb dX0_isFixed_22 (by decide) ?_
    refine lv_icmp_eq (tgt := 52) hx hb dX0_isFixed_24 (by decide) (fun c5 => ?_) (fun c5 => ?_)
    · have h := ip_ c5 h
      refine lv_iconst (v := 1) hx hb dX0_isFixed_52 (by decide) ?_
      refine lv_goto (tgt := 57) hx hb dX0_isFixed_53 (by decide) ?_
      exact cf_isFixed_w57 X hM hR hF hQ hk5 x1 x2 x4 (1 : Int32) x3 _ ls hL (lv_sub hl [0, 1, 2, 4] rfl) h
    · have h := in_ c5 h
      refine lv_iload_n hx hb dX0_isFixed_27 rfl (lv_at hl 1 rfl) ?_
      refine lv_iload hx hb dX0_isFixed_28 (lv_at hl 4 rfl) ?_
      obtain ⟨v6, q_v6, h⟩ := bd_e h
      refine s_roI (As := [.int x1, .int x4]) (rest := [.int x3]) X.1 (cf_isIn_met _ x1 x4 v6 q_v6) (lw_S q698 q550 q79 q551) cf_isIn_hd ⟨rfl, rfl⟩ ⟨Nat.le_trans (m := cf_isFixed_rm.frames) (Nat.le_of_ble_eq_true rfl) hR.1, Nat.le_trans (m := cf_isFixed_rm.locals) (Nat.le_of_ble_eq_true rfl) hR.2.1⟩ ⟨hR.2.2.1, hR.2.2.2⟩ rfl hl.1 rfl (Nat.le_of_ble_eq_true rfl) dX0_isFixed_30 ?_
      refine lv_aload_n hx hb dX0_isFixed_33 rfl (lv_at hl 0 rfl) ?_
      refine gc11 X hM dX0_isFixed_34 ?_
      refine lv_iload hx hb dX0_isFixed_37 (lv_at hl 4 rfl) ?_
      obtain ⟨i_v7, h⟩ := al_e h
      refine c_ald X hM (k := 11) (cHs_S (by decide)) (fun _ _ _ => rfl) (cAr_s (by decide)) i_v7 dX0_isFixed_39 (fun v7 e_v7 => ?_)
      have h := h v7 e_v7
      refine lv_iload_n hx hb dX0_isFixed_40 rfl (lv_at hl 2 rfl) ?_
      refine lv_icmp_ne (tgt := 48) hx hb dX0_isFixed_41 (by decide) (fun c8 => ?_) (fun c8 => ?_)
      · have h := in_ c8 h
        refine lv_iconst (v := 0) hx hb dX0_isFixed_48 (by decide) ?_
        exact cf_isFixed_w49 X hM hR hF hQ hk5 x1 x2 x4 (0 : Int32) v6 x3 _ ls hL (lv_sub hl [0, 1, 2, 4] rfl) h
      · have h := ip_ c8 h
        refine lv_iconst (v := 1) hx hb dX0_isFixed_44 (by decide) ?_
        refine lv_goto (tgt := 49) hx hb dX0_isFixed_45 (by decide) ?_
        exact cf_isFixed_w49 X hM hR hF hQ hk5 x1 x2 x4 (1 : Int32) v6 x3 _ ls hL (lv_sub hl [0, 1, 2, 4] rfl) h
def cf_isFixed_l5 (C : St) (n : Nat) : Int32 → Int32 → Int32 → Int32 → Option Int32 := lp (fun _ _ _ _ => none) (cf_isFixed_b5 C) n
theorem cf_isFixed_lw5 {p : Program} {l : Launch} {e : Env} {R : Room} {s : State} {m : MethodId} {args : Array Value} {below : List Frame} {meth : Method} {c : Code} {Z : CZ} {Y : CY} {A : Nat → Prop} {C : St} {H : Heap} {cells slots : Nat} {Qc : Array Value → State → Outcome → State → Prop} {free : Addr → Prop} (X : CCx p s m args meth c cX0_isFixed 5 (some .boolean) RX0 Z) (hM : cPD Z Y A C H) (hR : cf_isFixed_rm.frames ≤ R.frames ∧ cf_isFixed_rm.locals ≤ R.locals ∧ cells ≤ R.cells ∧ slots ≤ R.slots) (hF : ∀ q, cFr Z q → free q) {r : Int32} (hQ : ∀ t : State, t.heap = H → s.WarmedH t.vm → Qc args s (.returned (some (.int r))) t) : ∀ n : Nat, cf_isFixed_P5 p l e R s m args below meth c Z Y H cells slots Qc free r (cf_isFixed_l5 C n) := by
  intro n
  induction n with
  | zero => intro x1 x2 x3 x4 locs ls hL hl h; exact no_ h
  | succ n ih => exact cf_isFixed_w5 X hM hR hF hQ ih
def cf_isFixed (C : St) (x1 : Int32) (x2 : Int32) : Option Int32 :=
  cf_isFixed_l5 C FU x1 x2 (1 : Int32) (0 : Int32)
theorem cf_isFixed_w0 {p : Program} {l : Launch} {e : Env} {R : Room} {s : State} {m : MethodId} {args : Array Value} {below : List Frame} {meth : Method} {c : Code} {Z : CZ} {Y : CY} {A : Nat → Prop} {C : St} {H : Heap} {cells slots : Nat} {Qc : Array Value → State → Outcome → State → Prop} {free : Addr → Prop} (X : CCx p s m args meth c cX0_isFixed 5 (some .boolean) RX0 Z) (hM : cPD Z Y A C H) (hR : cf_isFixed_rm.frames ≤ R.frames ∧ cf_isFixed_rm.locals ≤ R.locals ∧ cells ≤ R.cells ∧ slots ≤ R.slots) (hF : ∀ q, cFr Z q → free q) {r : Int32} (hQ : ∀ t : State, t.heap = H → s.WarmedH t.vm → Qc args s (.returned (some (.int r))) t) : cf_isFixed_P0 p l e R s m args below meth c Z Y H cells slots Qc free r (cf_isFixed C) := by
  intro x1 x2 locs ls hL hl h
  obtain ⟨⟨hx, hb, hr, hlocks, hml, hown, hts⟩, hK⟩ := id X
  unfold cf_isFixed at h
  refine lv_iconst (v := 1) hx hb dX0_isFixed_0 (by decide) ?_
  refine lv_istore_n (lv' := [(3, .int (1 : Int32)), (0, .ref (cSa Z 0)), (1, .int x1), (2, .int x2)]) hx hb dX0_isFixed_1 rfl hl (by decide) rfl (fun ls hl => ?_)
  refine lv_iconst (v := 0) hx hb dX0_isFixed_2 (by decide) ?_
  refine lv_istore (lv' := [(4, .int (0 : Int32)), (3, .int (1 : Int32)), (0, .ref (cSa Z 0)), (1, .int x1), (2, .int x2)]) hx hb dX0_isFixed_3 hl (by decide) rfl (fun ls hl => ?_)
  exact cf_isFixed_lw5 X hM hR hF hQ FU x1 x2 (1 : Int32) (0 : Int32) _ ls hL (lv_sub hl [2, 3, 4, 1, 0] rfl) h
theorem cf_isFixed_hd : yX0_isFixed.cls = RX0 ∧ yX0_isFixed.cls ≠ "java/lang/invoke/MethodHandle" ∧ yX0_isFixed.cls ≠ "java/lang/invoke/VarHandle" ∧ (parseMethodDescriptor yX0_isFixed.desc).map (fun d => d.parameters.length) = some 2 := by decide +kernel
theorem cf_isFixed_met (l : Launch) (Z : CZ) (Y : CY) (A : Nat → Prop) (C : St) (x1 : Int32) (x2 : Int32) (r : Int32) (h : cf_isFixed C x1 x2 = some r) : Met l yX0_isFixed (ws_ yX0_isFixed cX0_isFixed 5 (some .boolean)) cf_isFixed_rm (va_Pc [.ref (cSa Z 0), .int x1, .int x2] (cS Z Y A C)) (Qro (some (.int r))) 0 0 (cFr Z) := by
  refine Met.ofW (cc := cX0_isFixed) (maxL := 5) (ret := some .boolean) (by decide) rfl ?_
  intro p e s m args below meth c s₁ B hml hv
  obtain ⟨rfl, hv⟩ := hv
  have hts := atoms_spec (ws := ws_ yX0_isFixed cX0_isFixed 5 (some .boolean)) B.pre
  have hts : ∀ w ∈ lw_all, w.before _ s = true := fun w h => hts w (List.mem_cons_of_mem _ h)
  have X : CCx p s m _ meth c cX0_isFixed 5 (some .boolean) RX0 Z := ⟨⟨B.exec, B.bytes, B.returns, B.notSynchronized, hml, findClass_of_methodNamed B.named, hts⟩, hv.2⟩
  have hl := lv_entry [.ref (cSa Z 0), .int x1, .int x2] (n := 5) (Nat.le_of_ble_eq_true rfl)
  rw [lg_entry_eq]
  generalize (lg_sl [.ref (cSa Z 0), .int x1, .int x2] ++ List.replicate (5 - (lg_sl [.ref (cSa Z 0), .int x1, .int x2]).length) Slot.unset).toArray = ls at hl ⊢
  exact cf_isFixed_w0 X hv.1 ⟨Nat.le_refl _, Nat.le_refl _, Nat.le_refl _, Nat.le_refl _⟩ (fun _ h => h) (fun t ht _ => ⟨rfl, ht⟩) x1 x2 [] ls (fun q hq => by cases hq) hl h

/-! SecondChances.askedOf(II)I -/
def cf_askedOf_rm : Room := { frames := 4, cells := 0, slots := 0, locals := 91 }
def cf_askedOf_P52 (p : Program) (l : Launch) (e : Env) (R : Room) (s : State) (m : MethodId) (args : Array Value) (below : List Frame) (meth : Method) (c : Code) (Z : CZ) (Y : CY) (H : Heap) (cells slots : Nat) (Qc : Array Value → State → Outcome → State → Prop) (free : Addr → Prop) (r : Int32) (f : Int32 → Int32 → Int32 → Int32 → Int32 → Option Int32) : Prop := ∀ (x1 : Int32) (x2 : Int32) (x4 : Int32) (t0 : Int32) (t1 : Int32) (locs : List Loc) (ls : Array Slot), (∀ q ∈ locs, free q.base) → lv_has ls 5 [(0, .ref (cSa Z 0)), (1, .int x1), (2, .int x2), (4, .int x4)] → f x1 x2 x4 t0 t1 = some r → W p l e R s m args below meth c H locs cells slots (MQ below Qc args s cells slots free) (F0 m 52 ls [.int t0, .int t1])
def cf_askedOf_P11 (p : Program) (l : Launch) (e : Env) (R : Room) (s : State) (m : MethodId) (args : Array Value) (below : List Frame) (meth : Method) (c : Code) (Z : CZ) (Y : CY) (H : Heap) (cells slots : Nat) (Qc : Array Value → State → Outcome → State → Prop) (free : Addr → Prop) (r : Int32) (f : Int32 → Int32 → Int32 → Int32 → Int32 → Int32 → Option Int32) : Prop := ∀ (x1 : Int32) (x2 : Int32) (x3 : Int32) (x4 : Int32) (t0 : Int32) (t1 : Int32) (locs : List Loc) (ls : Array Slot), (∀ q ∈ locs, free q.base) → lv_has ls 5 [(0, .ref (cSa Z 0)), (1, .int x1), (2, .int x2), (3, .int x3), (4, .int x4)] → f x1 x2 x3 x4 t0 t1 = some r → W p l e R s m args below meth c H locs cells slots (MQ below Qc args s cells slots free) (F0 m 11 ls [.int t0, .int t1])
def cf_askedOf_P5 (p : Program) (l : Launch) (e : Env) (R : Room) (s : State) (m : MethodId) (args : Array Value) (below : List Frame) (meth : Method) (c : Code) (Z : CZ) (Y : CY) (H : Heap) (cells slots : Nat) (Qc : Array Value → State → Outcome → State → Prop) (free : Addr → Prop) (r : Int32) (f : Int32 → Int32 → Int32 → Int32 → Option Int32) : Prop := ∀ (x1 : Int32) (x2 : Int32) (x3 : Int32) (x4 : Int32) (locs : List Loc) (ls : Array Slot), (∀ q ∈ locs, free q.base) → lv_has ls 5 [(0, .ref (cSa Z 0)), (1, .int x1), (2, .int x2), (3, .int x3), (4, .int x4)] → f x1 x2 x3 x4 = some r → W p l e R s m args below meth c H locs cells slots (MQ below Qc args s cells slots free) (F0 m 5 ls [])
def cf_askedOf_P0 (p : Program) (l : Launch) (e : Env) (R : Room) (s : State) (m : MethodId) (args : Array Value) (below : List Frame) (meth : Method) (c : Code) (Z : CZ) (Y : CY) (H : Heap) (cells slots : Nat) (Qc : Array Value → State → Outcome → State → Prop) (free : Addr → Prop) (r : Int32) (f : Int32 → Int32 → Option Int32) : Prop := ∀ (x1 : Int32) (x2 : Int32) (locs : List Loc) (ls : Array Slot), (∀ q ∈ locs, free q.base) → lv_has ls 5 [(0, .ref (cSa Z 0)), (1, .int x1), (2, .int x2)] → f x1 x2 = some r → W p l e R s m args below meth c H locs cells slots (MQ below Qc args s cells slots free) (F0 m 0 ls [])
def cf_askedOf_b52 (C : St) (k5 : Int32 → Int32 → Int32 → Int32 → Option Int32) (x1 : Int32) (x2 : Int32) (x4 : Int32) (t0 : Int32) (t1 : Int32) : Option Int32 :=
  lt_ (t1 + t0) fun v1 =>
  k5 x1 x2 v1 (x4 + 1)
theorem cf_askedOf_w52 {p : Program} {l : Launch} {e : Env} {R : Room} {s : State} {m : MethodId} {args : Array Value} {below : List Frame} {meth : Method} {c : Code} {Z : CZ} {Y : CY} {A : Nat → Prop} {C : St} {H : Heap} {cells slots : Nat} {Qc : Array Value → State → Outcome → State → Prop} {free : Addr → Prop} (X : CCx p s m args meth c cX0_askedOf 5 (some .int) RX0 Z) (hM : cPD Z Y A C H) (hR : cf_askedOf_rm.frames ≤ R.frames ∧ cf_askedOf_rm.locals ≤ R.locals ∧ cells ≤ R.cells ∧ slots ≤ R.slots) (hF : ∀ q, cFr Z q → free q) {r : Int32} (hQ : ∀ t : State, t.heap = H → s.WarmedH t.vm → Qc args s (.returned (some (.int r))) t) {k5 : Int32 → Int32 → Int32 → Int32 → Option Int32} (hk5 : cf_askedOf_P5 p l e R s m args below meth c Z Y H cells slots Qc free r k5) : cf_askedOf_P52 p l e R s m args below meth c Z Y H cells slots Qc free r (cf_askedOf_b52 C k5) := by
  intro x1 x2 x4 t0 t1 locs ls hL hl h
  obtain ⟨⟨hx, hb, hr, hlocks, hml, hown, hts⟩, hK⟩ := id X
  unfold cf_askedOf_b52 at h
  refine lv_iadd hx hb dX0_askedOf_52 ?_
  refine lv_topi (fun v1 e_v1 => ?_)
  have h := lt_i h e_v1
  refine lv_istore_n (lv' := [(3, .int v1), (0, .ref (cSa Z 0)), (1, .int x1), (2, .int x2), (4, .int x4)]) hx hb dX0_askedOf_53 rfl hl (by decide) rfl (fun ls hl => ?_)
  refine lv_iinc (v := (x4 + 1)) (lv' := [(4, .int (x4 + 1)), (3, .int v1), (0, .ref (cSa Z 0)), (1, .int x1), (2, .int x2)]) hx hb dX0_askedOf_54 hl (k := 4) rfl rfl (by decide) rfl (fun ls hl => ?_)
  refine lv_goto (tgt := 5) hx hb dX0_askedOf_57 (by decide) ?_
  exact hk5 x1 x2 v1 (x4 + 1) _ ls hL (lv_sub hl [2, 3, 4, 1, 0] rfl) h
def cf_askedOf_b11 (C : St) (k5 : Int32 → Int32 → Int32 → Int32 → Option Int32) (x1 : Int32) (x2 : Int32) (x3 : Int32) (x4 : Int32) (t0 : Int32) (t1 : Int32) : Option Int32 :=
  if t0 ≤ t1 then (some x3)
  else (bd_ (cf_deed_2 C x4) fun v2 =>
    bd_ (cf_canBe C v2 x2) fun v3 =>
    if v3 = 0 then (cf_askedOf_b52 C k5 x1 x2 x4 (0 : Int32) x3)
    else (bd_ (cf_deed_2 C x4) fun v5 =>
      bd_ (cf_comers C v5 x2) fun v6 =>
      bd_ (cf_isIn v6 x1) fun v7 =>
      if v7 = 0 then (cf_askedOf_b52 C k5 x1 x2 x4 (0 : Int32) x3)
      else (cf_askedOf_b52 C k5 x1 x2 x4 (1 : Int32) x3)))
theorem cf_askedOf_w11 {p : Program} {l : Launch} {e : Env} {R : Room} {s : State} {m : MethodId} {args : Array Value} {below : List Frame} {meth : Method} {c : Code} {Z : CZ} {Y : CY} {A : Nat → Prop} {C : St} {H : Heap} {cells slots : Nat} {Qc : Array Value → State → Outcome → State → Prop} {free : Addr → Prop} (X : CCx p s m args meth c cX0_askedOf 5 (some .int) RX0 Z) (hM : cPD Z Y A C H) (hR : cf_askedOf_rm.frames ≤ R.frames ∧ cf_askedOf_rm.locals ≤ R.locals ∧ cells ≤ R.cells ∧ slots ≤ R.slots) (hF : ∀ q, cFr Z q → free q) {r : Int32} (hQ : ∀ t : State, t.heap = H → s.WarmedH t.vm → Qc args s (.returned (some (.int r))) t) {k5 : Int32 → Int32 → Int32 → Int32 → Option Int32} (hk5 : cf_askedOf_P5 p l e R s m args below meth c Z Y H cells slots Qc free r k5) : cf_askedOf_P11 p l e R s m args below meth c Z Y H cells slots Qc free r (cf_askedOf_b11 C k5) := by
  intro x1 x2 x3 x4 t0 t1 locs ls hL hl h
  obtain ⟨⟨hx, hb, hr, hlocks, hml, hown, hts⟩, hK⟩ := id X
  unfold cf_askedOf_b11 at h
  refine lv_icmp_ge (tgt := 60) hx hb dX0_askedOf_11 (by decide) (fun c1 => ?_) (fun c1 => ?_)
  · have h := ip_ c1 h
    refine lv_iload_n hx hb dX0_askedOf_60 rfl (lv_at hl 3 rfl) ?_
    have h := so_ h
    subst h
    exact W.iret hx hb hr (fun t ht hW => hQ t ht hW) hL dX0_askedOf_61
  · have h := in_ c1 h
    refine lv_iload_n hx hb dX0_askedOf_14 rfl (lv_at hl 3 rfl) ?_
    refine lv_aload_n hx hb dX0_askedOf_15 rfl (lv_at hl 0 rfl) ?_
    refine lv_aload_n hx hb dX0_askedOf_16 rfl (lv_at hl 0 rfl) ?_
    refine lv_iload hx hb dX0_askedOf_17 (lv_at hl 4 rfl) ?_
    obtain ⟨v2, q_v2, h⟩ := bd_e h
    refine f_roR (As := [.int x4]) (rest := [.ref (cSa Z 0), .int x3]) X hM (c_recv0 X hM) hL hF (cf_deed_2_met _ Z Y A C x4 v2 q_v2) (lw_V q647 q649 qs9 q79 q650) cf_deed_2_hd ⟨rfl, rfl⟩ ⟨Nat.le_trans (m := cf_askedOf_rm.frames) (Nat.le_of_ble_eq_true rfl) hR.1, Nat.le_trans (m := cf_askedOf_rm.locals) (Nat.le_of_ble_eq_true rfl) hR.2.1⟩ ⟨hR.2.2.1, hR.2.2.2⟩ rfl hl.1 rfl (Nat.le_of_ble_eq_true rfl) dX0_askedOf_19 (fun locs hL => ?_)
    refine lv_iload_n hx hb dX0_askedOf_22 rfl (lv_at hl 2 rfl) ?_
    obtain ⟨v3, q_v3, h⟩ := bd_e h
    refine f_roI (As := [.ref (cDa Y (100 + v2)), .int x2]) (rest := [.int x3]) X hM (c_recv0 X hM) hL hF (cf_canBe_met _ Z Y A C v2 x2 v3 q_v3) (lw_V q679 q681 qs11 q79 q682) cf_canBe_hd ⟨rfl, rfl⟩ ⟨Nat.le_trans (m := cf_askedOf_rm.frames) (Nat.le_of_ble_eq_true rfl) hR.1, Nat.le_trans (m := cf_askedOf_rm.locals) (Nat.le_of_ble_eq_true rfl) hR.2.1⟩ ⟨hR.2.2.1, hR.2.2.2⟩ rfl hl.1 rfl (Nat.le_of_ble_eq_true rfl) dX0_askedOf_23 (fun locs hL => ?_)
    refine lv_if_eq (tgt := 51) hx hb dX0_askedOf_26 (by decide) (fun c4 => ?_) (fun c4 => ?_)
    · have h := ip_ c4 h
      refine lv_iconst (v := 0) hx hb dX0_askedOf_51 (by decide) ?_
      exact cf_askedOf_w52 X hM hR hF hQ hk5 x1 x2 x4 (0 : Int32) x3 _ ls hL (lv_sub hl [0, 1, 2, 4] rfl) h
    · have h := in_ c4 h
      refine lv_aload_n hx hb dX0_askedOf_29 rfl (lv_at hl 0 rfl) ?_
      refine lv_aload_n hx hb dX0_askedOf_30 rfl (lv_at hl 0 rfl) ?_
      refine lv_iload hx hb dX0_askedOf_31 (lv_at hl 4 rfl) ?_
      obtain ⟨v5, q_v5, h⟩ := bd_e h
      refine f_roR (As := [.int x4]) (rest := [.ref (cSa Z 0), .int x3]) X hM (c_recv0 X hM) hL hF (cf_deed_2_met _ Z Y A C x4 v5 q_v5) (lw_V q647 q649 qs9 q79 q650) cf_deed_2_hd ⟨rfl, rfl⟩ ⟨Nat.le_trans (m := cf_askedOf_rm.frames) (Nat.le_of_ble_eq_true rfl) hR.1, Nat.le_trans (m := cf_askedOf_rm.locals) (Nat.le_of_ble_eq_true rfl) hR.2.1⟩ ⟨hR.2.2.1, hR.2.2.2⟩ rfl hl.1 rfl (Nat.le_of_ble_eq_true rfl) dX0_askedOf_33 (fun locs hL => ?_)
      refine lv_iload_n hx hb dX0_askedOf_36 rfl (lv_at hl 2 rfl) ?_
      obtain ⟨v6, q_v6, h⟩ := bd_e h
      refine f_roI (As := [.ref (cDa Y (100 + v5)), .int x2]) (rest := [.int x3]) X hM (c_recv0 X hM) hL hF (cf_comers_met _ Z Y A C v5 x2 v6 q_v6) (lw_V q683 q685 qs12 q79 q686) cf_comers_hd ⟨rfl, rfl⟩ ⟨Nat.le_trans (m := cf_askedOf_rm.frames) (Nat.le_of_ble_eq_true rfl) hR.1, Nat.le_trans (m := cf_askedOf_rm.locals) (Nat.le_of_ble_eq_true rfl) hR.2.1⟩ ⟨hR.2.2.1, hR.2.2.2⟩ rfl hl.1 rfl (Nat.le_of_ble_eq_true rfl) dX0_askedOf_37 (fun locs hL => ?_)
      refine lv_iload_n hx hb dX0_askedOf_40 rfl (lv_at hl 1 rfl) ?_
      obtain ⟨v7, q_v7, h⟩ := bd_e h
      refine s_roI (As := [.int v6, .int x1]) (rest := [.int x3]) X.1 (cf_isIn_met _ v6 x1 v7 q_v7) (lw_S q698 q550 q79 q551) cf_isIn_hd ⟨rfl, rfl⟩ ⟨Nat.le_trans (m := cf_askedOf_rm.frames) (Nat.le_of_ble_eq_true rfl) hR.1, Nat.le_trans (m := cf_askedOf_rm.locals) (Nat.le_of_ble_eq_true rfl) hR.2.1⟩ ⟨hR.2.2.1, hR.2.2.2⟩ rfl hl.1 rfl (Nat.le_of_ble_eq_true rfl) dX0_askedOf_41 ?_
      refine lv_if_eq (tgt := 51) hx hb dX0_askedOf_44 (by decide) (fun c8 => ?_) (fun c8 => ?_)
      · have h := ip_ c8 h
        refine lv_iconst (v := 0) hx hb dX0_askedOf_51 (by decide) ?_
        exact cf_askedOf_w52 X hM hR hF hQ hk5 x1 x2 x4 (0 : Int32) x3 _ ls hL (lv_sub hl [0, 1, 2, 4] rfl) h
      · have h := in_ c8 h
        refine lv_iconst (v := 1) hx hb dX0_askedOf_47 (by decide) ?_
        refine lv_goto (tgt := 52) hx hb dX0_askedOf_48 (by decide) ?_
        exact cf_askedOf_w52 X hM hR hF hQ hk5 x1 x2 x4 (1 : Int32) x3 _ ls hL (lv_sub hl [0, 1, 2, 4] rfl) h
def cf_askedOf_b5 (C : St) (k5 : Int32 → Int32 → Int32 → Int32 → Option Int32) (x1 : Int32) (x2 : Int32) (x3 : Int32) (x4 : Int32) : Option Int32 :=
  bd_ (cf_deeds C ) fun v1 =>
  cf_askedOf_b11 C k5 x1 x2 x3 x4 v1 x4
theorem cf_askedOf_w5 {p : Program} {l : Launch} {e : Env} {R : Room} {s : State} {m : MethodId} {args : Array Value} {below : List Frame} {meth : Method} {c : Code} {Z : CZ} {Y : CY} {A : Nat → Prop} {C : St} {H : Heap} {cells slots : Nat} {Qc : Array Value → State → Outcome → State → Prop} {free : Addr → Prop} (X : CCx p s m args meth c cX0_askedOf 5 (some .int) RX0 Z) (hM : cPD Z Y A C H) (hR : cf_askedOf_rm.frames ≤ R.frames ∧ cf_askedOf_rm.locals ≤ R.locals ∧ cells ≤ R.cells ∧ slots ≤ R.slots) (hF : ∀ q, cFr Z q → free q) {r : Int32} (hQ : ∀ t : State, t.heap = H → s.WarmedH t.vm → Qc args s (.returned (some (.int r))) t) {k5 : Int32 → Int32 → Int32 → Int32 → Option Int32} (hk5 : cf_askedOf_P5 p l e R s m args below meth c Z Y H cells slots Qc free r k5) : cf_askedOf_P5 p l e R s m args below meth c Z Y H cells slots Qc free r (cf_askedOf_b5 C k5) := by
  intro x1 x2 x3 x4 locs ls hL hl h
  obtain ⟨⟨hx, hb, hr, hlocks, hml, hown, hts⟩, hK⟩ := id X
  unfold cf_askedOf_b5 at h
  refine lv_iload hx hb dX0_askedOf_5 (lv_at hl 4 rfl) ?_
  refine lv_aload_n hx hb dX0_askedOf_7 rfl (lv_at hl 0 rfl) ?_
  obtain ⟨v1, q_v1, h⟩ := bd_e h
  refine f_roI (As := []) (rest := [.int x4]) X hM (c_recv0 X hM) hL hF (cf_deeds_met _ Z Y A C  v1 q_v1) (lw_V q630 q632 qs7 q79 q633) cf_deeds_hd ⟨rfl, rfl⟩ ⟨Nat.le_trans (m := cf_askedOf_rm.frames) (Nat.le_of_ble_eq_true rfl) hR.1, Nat.le_trans (m := cf_askedOf_rm.locals) (Nat.le_of_ble_eq_true rfl) hR.2.1⟩ ⟨hR.2.2.1, hR.2.2.2⟩ rfl hl.1 rfl (Nat.le_of_ble_eq_true rfl) dX0_askedOf_8 (fun locs hL => ?_)
  exact cf_askedOf_w11 X hM hR hF hQ hk5 x1 x2 x3 x4 v1 x4 _ ls hL (lv_sub hl [0, 1, 2, 3, 4] rfl) h
def cf_askedOf_l5 (C : St) (n : Nat) : Int32 → Int32 → Int32 → Int32 → Option Int32 := lp (fun _ _ _ _ => none) (cf_askedOf_b5 C) n
theorem cf_askedOf_lw5 {p : Program} {l : Launch} {e : Env} {R : Room} {s : State} {m : MethodId} {args : Array Value} {below : List Frame} {meth : Method} {c : Code} {Z : CZ} {Y : CY} {A : Nat → Prop} {C : St} {H : Heap} {cells slots : Nat} {Qc : Array Value → State → Outcome → State → Prop} {free : Addr → Prop} (X : CCx p s m args meth c cX0_askedOf 5 (some .int) RX0 Z) (hM : cPD Z Y A C H) (hR : cf_askedOf_rm.frames ≤ R.frames ∧ cf_askedOf_rm.locals ≤ R.locals ∧ cells ≤ R.cells ∧ slots ≤ R.slots) (hF : ∀ q, cFr Z q → free q) {r : Int32} (hQ : ∀ t : State, t.heap = H → s.WarmedH t.vm → Qc args s (.returned (some (.int r))) t) : ∀ n : Nat, cf_askedOf_P5 p l e R s m args below meth c Z Y H cells slots Qc free r (cf_askedOf_l5 C n) := by
  intro n
  induction n with
  | zero => intro x1 x2 x3 x4 locs ls hL hl h; exact no_ h
  | succ n ih => exact cf_askedOf_w5 X hM hR hF hQ ih
def cf_askedOf (C : St) (x1 : Int32) (x2 : Int32) : Option Int32 :=
  cf_askedOf_l5 C FU x1 x2 (0 : Int32) (0 : Int32)
theorem cf_askedOf_w0 {p : Program} {l : Launch} {e : Env} {R : Room} {s : State} {m : MethodId} {args : Array Value} {below : List Frame} {meth : Method} {c : Code} {Z : CZ} {Y : CY} {A : Nat → Prop} {C : St} {H : Heap} {cells slots : Nat} {Qc : Array Value → State → Outcome → State → Prop} {free : Addr → Prop} (X : CCx p s m args meth c cX0_askedOf 5 (some .int) RX0 Z) (hM : cPD Z Y A C H) (hR : cf_askedOf_rm.frames ≤ R.frames ∧ cf_askedOf_rm.locals ≤ R.locals ∧ cells ≤ R.cells ∧ slots ≤ R.slots) (hF : ∀ q, cFr Z q → free q) {r : Int32} (hQ : ∀ t : State, t.heap = H → s.WarmedH t.vm → Qc args s (.returned (some (.int r))) t) : cf_askedOf_P0 p l e R s m args below meth c Z Y H cells slots Qc free r (cf_askedOf C) := by
  intro x1 x2 locs ls hL hl h
  obtain ⟨⟨hx, hb, hr, hlocks, hml, hown, hts⟩, hK⟩ := id X
  unfold cf_askedOf at h
  refine lv_iconst (v := 0) hx hb dX0_askedOf_0 (by decide) ?_
  refine lv_istore_n (lv' := [(3, .int (0 : Int32)), (0, .ref (cSa Z 0)), (1, .int x1), (2, .int x2)]) hx hb dX0_askedOf_1 rfl hl (by decide) rfl (fun ls hl => ?_)
  refine lv_iconst (v := 0) hx hb dX0_askedOf_2 (by decide) ?_
  refine lv_istore (lv' := [(4, .int (0 : Int32)), (3, .int (0 : Int32)), (0, .ref (cSa Z 0)), (1, .int x1), (2, .int x2)]) hx hb dX0_askedOf_3 hl (by decide) rfl (fun ls hl => ?_)
  exact cf_askedOf_lw5 X hM hR hF hQ FU x1 x2 (0 : Int32) (0 : Int32) _ ls hL (lv_sub hl [2, 3, 4, 1, 0] rfl) h
theorem cf_askedOf_hd : yX0_askedOf.cls = RX0 ∧ yX0_askedOf.cls ≠ "java/lang/invoke/MethodHandle" ∧ yX0_askedOf.cls ≠ "java/lang/invoke/VarHandle" ∧ (parseMethodDescriptor yX0_askedOf.desc).map (fun d => d.parameters.length) = some 2 := by decide +kernel
theorem cf_askedOf_met (l : Launch) (Z : CZ) (Y : CY) (A : Nat → Prop) (C : St) (x1 : Int32) (x2 : Int32) (r : Int32) (h : cf_askedOf C x1 x2 = some r) : Met l yX0_askedOf (ws_ yX0_askedOf cX0_askedOf 5 (some .int)) cf_askedOf_rm (va_Pc [.ref (cSa Z 0), .int x1, .int x2] (cS Z Y A C)) (Qro (some (.int r))) 0 0 (cFr Z) := by
  refine Met.ofW (cc := cX0_askedOf) (maxL := 5) (ret := some .int) (by decide) rfl ?_
  intro p e s m args below meth c s₁ B hml hv
  obtain ⟨rfl, hv⟩ := hv
  have hts := atoms_spec (ws := ws_ yX0_askedOf cX0_askedOf 5 (some .int)) B.pre
  have hts : ∀ w ∈ lw_all, w.before _ s = true := fun w h => hts w (List.mem_cons_of_mem _ h)
  have X : CCx p s m _ meth c cX0_askedOf 5 (some .int) RX0 Z := ⟨⟨B.exec, B.bytes, B.returns, B.notSynchronized, hml, findClass_of_methodNamed B.named, hts⟩, hv.2⟩
  have hl := lv_entry [.ref (cSa Z 0), .int x1, .int x2] (n := 5) (Nat.le_of_ble_eq_true rfl)
  rw [lg_entry_eq]
  generalize (lg_sl [.ref (cSa Z 0), .int x1, .int x2] ++ List.replicate (5 - (lg_sl [.ref (cSa Z 0), .int x1, .int x2]).length) Slot.unset).toArray = ls at hl ⊢
  exact cf_askedOf_w0 X hv.1 ⟨Nat.le_refl _, Nat.le_refl _, Nat.le_refl _, Nat.le_refl _⟩ (fun _ h => h) (fun t ht _ => ⟨rfl, ht⟩) x1 x2 [] ls (fun q hq => by cases hq) hl h

/-! SecondChances.crowdOf(I)I -/
def cf_crowdOf_rm : Room := { frames := 5, cells := 0, slots := 0, locals := 115 }
def cf_crowdOf_P56 (p : Program) (l : Launch) (e : Env) (R : Room) (s : State) (m : MethodId) (args : Array Value) (below : List Frame) (meth : Method) (c : Code) (Z : CZ) (Y : CY) (H : Heap) (cells slots : Nat) (Qc : Array Value → State → Outcome → State → Prop) (free : Addr → Prop) (r : Int32) (f : Int32 → Int32 → Int32 → Int32 → Int32 → Int32 → Option Int32) : Prop := ∀ (x1 : Int32) (x2 : Int32) (x3 : Int32) (x4 : Int32) (x5 : Int32) (x6 : Int32) (locs : List Loc) (ls : Array Slot), (∀ q ∈ locs, free q.base) → lv_has ls 7 [(0, .ref (cSa Z 0)), (1, .int x1), (2, .int x2), (3, .int x3), (4, .int x4), (5, .int x5), (6, .int x6)] → f x1 x2 x3 x4 x5 x6 = some r → W p l e R s m args below meth c H locs cells slots (MQ below Qc args s cells slots free) (F0 m 56 ls [])
def cf_crowdOf_P35 (p : Program) (l : Launch) (e : Env) (R : Room) (s : State) (m : MethodId) (args : Array Value) (below : List Frame) (meth : Method) (c : Code) (Z : CZ) (Y : CY) (H : Heap) (cells slots : Nat) (Qc : Array Value → State → Outcome → State → Prop) (free : Addr → Prop) (r : Int32) (f : Int32 → Int32 → Int32 → Int32 → Int32 → Int32 → Int32 → Option Int32) : Prop := ∀ (x1 : Int32) (x2 : Int32) (x3 : Int32) (x4 : Int32) (x5 : Int32) (x6 : Int32) (t0 : Int32) (locs : List Loc) (ls : Array Slot), (∀ q ∈ locs, free q.base) → lv_has ls 7 [(0, .ref (cSa Z 0)), (1, .int x1), (2, .int x2), (3, .int x3), (4, .int x4), (5, .int x5), (6, .int x6)] → f x1 x2 x3 x4 x5 x6 t0 = some r → W p l e R s m args below meth c H locs cells slots (MQ below Qc args s cells slots free) (F0 m 35 ls [.int t0])
def cf_crowdOf_P20 (p : Program) (l : Launch) (e : Env) (R : Room) (s : State) (m : MethodId) (args : Array Value) (below : List Frame) (meth : Method) (c : Code) (Z : CZ) (Y : CY) (H : Heap) (cells slots : Nat) (Qc : Array Value → State → Outcome → State → Prop) (free : Addr → Prop) (r : Int32) (f : Int32 → Int32 → Int32 → Int32 → Int32 → Int32 → Option Int32) : Prop := ∀ (x1 : Int32) (x2 : Int32) (x3 : Int32) (x4 : Int32) (x5 : Int32) (x6 : Int32) (locs : List Loc) (ls : Array Slot), (∀ q ∈ locs, free q.base) → lv_has ls 7 [(0, .ref (cSa Z 0)), (1, .int x1), (2, .int x2), (3, .int x3), (4, .int x4), (5, .int x5), (6, .int x6)] → f x1 x2 x3 x4 x5 x6 = some r → W p l e R s m args below meth c H locs cells slots (MQ below Qc args s cells slots free) (F0 m 20 ls [])
def cf_crowdOf_P10 (p : Program) (l : Launch) (e : Env) (R : Room) (s : State) (m : MethodId) (args : Array Value) (below : List Frame) (meth : Method) (c : Code) (Z : CZ) (Y : CY) (H : Heap) (cells slots : Nat) (Qc : Array Value → State → Outcome → State → Prop) (free : Addr → Prop) (r : Int32) (f : Int32 → Int32 → Int32 → Int32 → Int32 → Option Int32) : Prop := ∀ (x1 : Int32) (x2 : Int32) (x3 : Int32) (x4 : Int32) (x5 : Int32) (locs : List Loc) (ls : Array Slot), (∀ q ∈ locs, free q.base) → lv_has ls 7 [(0, .ref (cSa Z 0)), (1, .int x1), (2, .int x2), (3, .int x3), (4, .int x4), (5, .int x5)] → f x1 x2 x3 x4 x5 = some r → W p l e R s m args below meth c H locs cells slots (MQ below Qc args s cells slots free) (F0 m 10 ls [])
def cf_crowdOf_P0 (p : Program) (l : Launch) (e : Env) (R : Room) (s : State) (m : MethodId) (args : Array Value) (below : List Frame) (meth : Method) (c : Code) (Z : CZ) (Y : CY) (H : Heap) (cells slots : Nat) (Qc : Array Value → State → Outcome → State → Prop) (free : Addr → Prop) (r : Int32) (f : Int32 → Option Int32) : Prop := ∀ (x1 : Int32) (locs : List Loc) (ls : Array Slot), (∀ q ∈ locs, free q.base) → lv_has ls 7 [(0, .ref (cSa Z 0)), (1, .int x1)] → f x1 = some r → W p l e R s m args below meth c H locs cells slots (MQ below Qc args s cells slots free) (F0 m 0 ls [])
def cf_crowdOf_b56 (C : St) (k10 : Int32 → Int32 → Int32 → Int32 → Int32 → Option Int32) (k20 : Int32 → Int32 → Int32 → Int32 → Int32 → Int32 → Option Int32) (x1 : Int32) (x2 : Int32) (x3 : Int32) (x4 : Int32) (x5 : Int32) (x6 : Int32) : Option Int32 :=
  k20 x1 x2 x3 x4 x5 (x6 + 1)
theorem cf_crowdOf_w56 {p : Program} {l : Launch} {e : Env} {R : Room} {s : State} {m : MethodId} {args : Array Value} {below : List Frame} {meth : Method} {c : Code} {Z : CZ} {Y : CY} {A : Nat → Prop} {C : St} {H : Heap} {cells slots : Nat} {Qc : Array Value → State → Outcome → State → Prop} {free : Addr → Prop} (X : CCx p s m args meth c cX0_crowdOf 7 (some .int) RX0 Z) (hM : cPD Z Y A C H) (hR : cf_crowdOf_rm.frames ≤ R.frames ∧ cf_crowdOf_rm.locals ≤ R.locals ∧ cells ≤ R.cells ∧ slots ≤ R.slots) (hF : ∀ q, cFr Z q → free q) {r : Int32} (hQ : ∀ t : State, t.heap = H → s.WarmedH t.vm → Qc args s (.returned (some (.int r))) t) {k10 : Int32 → Int32 → Int32 → Int32 → Int32 → Option Int32} (hk10 : cf_crowdOf_P10 p l e R s m args below meth c Z Y H cells slots Qc free r k10) {k20 : Int32 → Int32 → Int32 → Int32 → Int32 → Int32 → Option Int32} (hk20 : cf_crowdOf_P20 p l e R s m args below meth c Z Y H cells slots Qc free r k20) : cf_crowdOf_P56 p l e R s m args below meth c Z Y H cells slots Qc free r (cf_crowdOf_b56 C k10 k20) := by
  intro x1 x2 x3 x4 x5 x6 locs ls hL hl h
  obtain ⟨⟨hx, hb, hr, hlocks, hml, hown, hts⟩, hK⟩ := id X
  unfold cf_crowdOf_b56 at h
  refine lv_iinc (v := (x6 + 1)) (lv' := [(6, .int (x6 + 1)), (0, .ref (cSa Z 0)), (1, .int x1), (2, .int x2), (3, .int x3), (4, .int x4), (5, .int x5)]) hx hb dX0_crowdOf_56 hl (k := 6) rfl rfl (by decide) rfl (fun ls hl => ?_)
  refine lv_goto (tgt := 20) hx hb dX0_crowdOf_59 (by decide) ?_
  exact hk20 x1 x2 x3 x4 x5 (x6 + 1) _ ls hL (lv_sub hl [1, 2, 3, 4, 5, 6, 0] rfl) h
def cf_crowdOf_b35 (C : St) (k10 : Int32 → Int32 → Int32 → Int32 → Int32 → Option Int32) (k20 : Int32 → Int32 → Int32 → Int32 → Int32 → Int32 → Option Int32) (x1 : Int32) (x2 : Int32) (x3 : Int32) (x4 : Int32) (x5 : Int32) (x6 : Int32) (t0 : Int32) : Option Int32 :=
  if t0 ≤ x4 then (cf_crowdOf_b56 C k10 k20 x1 x2 x3 x4 x5 x6)
  else (bd_ (cf_askedOf C x5 x6) fun v2 =>
    cf_crowdOf_b56 C k10 k20 x1 x5 x6 v2 x5 x6)
theorem cf_crowdOf_w35 {p : Program} {l : Launch} {e : Env} {R : Room} {s : State} {m : MethodId} {args : Array Value} {below : List Frame} {meth : Method} {c : Code} {Z : CZ} {Y : CY} {A : Nat → Prop} {C : St} {H : Heap} {cells slots : Nat} {Qc : Array Value → State → Outcome → State → Prop} {free : Addr → Prop} (X : CCx p s m args meth c cX0_crowdOf 7 (some .int) RX0 Z) (hM : cPD Z Y A C H) (hR : cf_crowdOf_rm.frames ≤ R.frames ∧ cf_crowdOf_rm.locals ≤ R.locals ∧ cells ≤ R.cells ∧ slots ≤ R.slots) (hF : ∀ q, cFr Z q → free q) {r : Int32} (hQ : ∀ t : State, t.heap = H → s.WarmedH t.vm → Qc args s (.returned (some (.int r))) t) {k10 : Int32 → Int32 → Int32 → Int32 → Int32 → Option Int32} (hk10 : cf_crowdOf_P10 p l e R s m args below meth c Z Y H cells slots Qc free r k10) {k20 : Int32 → Int32 → Int32 → Int32 → Int32 → Int32 → Option Int32} (hk20 : cf_crowdOf_P20 p l e R s m args below meth c Z Y H cells slots Qc free r k20) : cf_crowdOf_P35 p l e R s m args below meth c Z Y H cells slots Qc free r (cf_crowdOf_b35 C k10 k20) := by
  intro x1 x2 x3 x4 x5 x6 t0 locs ls hL hl h
  obtain ⟨⟨hx, hb, hr, hlocks, hml, hown, hts⟩, hK⟩ := id X
  unfold cf_crowdOf_b35 at h
  refine lv_iload hx hb dX0_crowdOf_35 (lv_at hl 4 rfl) ?_
  refine lv_icmp_le (tgt := 56) hx hb dX0_crowdOf_37 (by decide) (fun c1 => ?_) (fun c1 => ?_)
  · have h := ip_ c1 h
    exact cf_crowdOf_w56 X hM hR hF hQ hk10 hk20 x1 x2 x3 x4 x5 x6 _ ls hL (lv_sub hl [0, 1, 2, 3, 4, 5, 6] rfl) h
  · have h := in_ c1 h
    refine lv_iload hx hb dX0_crowdOf_40 (lv_at hl 5 rfl) ?_
    refine lv_istore_n (lv' := [(2, .int x5), (0, .ref (cSa Z 0)), (1, .int x1), (3, .int x3), (4, .int x4), (5, .int x5), (6, .int x6)]) hx hb dX0_crowdOf_42 rfl hl (by decide) rfl (fun ls hl => ?_)
    refine lv_iload hx hb dX0_crowdOf_43 (lv_at hl 6 rfl) ?_
    refine lv_istore_n (lv' := [(3, .int x6), (2, .int x5), (0, .ref (cSa Z 0)), (1, .int x1), (4, .int x4), (5, .int x5), (6, .int x6)]) hx hb dX0_crowdOf_45 rfl hl (by decide) rfl (fun ls hl => ?_)
    refine lv_aload_n hx hb dX0_crowdOf_46 rfl (lv_at hl 2 rfl) ?_
    refine lv_iload hx hb dX0_crowdOf_47 (lv_at hl 5 rfl) ?_
    refine lv_iload hx hb dX0_crowdOf_49 (lv_at hl 6 rfl) ?_
    obtain ⟨v2, q_v2, h⟩ := bd_e h
    refine f_roI (As := [.int x5, .int x6]) (rest := []) X hM (c_recv0 X hM) hL hF (cf_askedOf_met _ Z Y A C x5 x6 v2 q_v2) (lw_V q794 q796 qs29 q79 q797) cf_askedOf_hd ⟨rfl, rfl⟩ ⟨Nat.le_trans (m := cf_crowdOf_rm.frames) (Nat.le_of_ble_eq_true rfl) hR.1, Nat.le_trans (m := cf_crowdOf_rm.locals) (Nat.le_of_ble_eq_true rfl) hR.2.1⟩ ⟨hR.2.2.1, hR.2.2.2⟩ rfl hl.1 rfl (Nat.le_of_ble_eq_true rfl) dX0_crowdOf_51 (fun locs hL => ?_)
    refine lv_istore (lv' := [(4, .int v2), (3, .int x6), (2, .int x5), (0, .ref (cSa Z 0)), (1, .int x1), (5, .int x5), (6, .int x6)]) hx hb dX0_crowdOf_54 hl (by decide) rfl (fun ls hl => ?_)
    exact cf_crowdOf_w56 X hM hR hF hQ hk10 hk20 x1 x5 x6 v2 x5 x6 _ ls hL (lv_sub hl [3, 4, 2, 1, 0, 5, 6] rfl) h
def cf_crowdOf_b20 (C : St) (k10 : Int32 → Int32 → Int32 → Int32 → Int32 → Option Int32) (k20 : Int32 → Int32 → Int32 → Int32 → Int32 → Int32 → Option Int32) (x1 : Int32) (x2 : Int32) (x3 : Int32) (x4 : Int32) (x5 : Int32) (x6 : Int32) : Option Int32 :=
  if (8 : Int32) ≤ x6 then (k10 x1 x2 x3 x4 (x5 + 1))
  else (bd_ (cf_askedOf C x5 x6) fun v2 =>
    cf_crowdOf_b35 C k10 k20 x1 x2 x3 x4 x5 x6 v2)
theorem cf_crowdOf_w20 {p : Program} {l : Launch} {e : Env} {R : Room} {s : State} {m : MethodId} {args : Array Value} {below : List Frame} {meth : Method} {c : Code} {Z : CZ} {Y : CY} {A : Nat → Prop} {C : St} {H : Heap} {cells slots : Nat} {Qc : Array Value → State → Outcome → State → Prop} {free : Addr → Prop} (X : CCx p s m args meth c cX0_crowdOf 7 (some .int) RX0 Z) (hM : cPD Z Y A C H) (hR : cf_crowdOf_rm.frames ≤ R.frames ∧ cf_crowdOf_rm.locals ≤ R.locals ∧ cells ≤ R.cells ∧ slots ≤ R.slots) (hF : ∀ q, cFr Z q → free q) {r : Int32} (hQ : ∀ t : State, t.heap = H → s.WarmedH t.vm → Qc args s (.returned (some (.int r))) t) {k10 : Int32 → Int32 → Int32 → Int32 → Int32 → Option Int32} (hk10 : cf_crowdOf_P10 p l e R s m args below meth c Z Y H cells slots Qc free r k10) {k20 : Int32 → Int32 → Int32 → Int32 → Int32 → Int32 → Option Int32} (hk20 : cf_crowdOf_P20 p l e R s m args below meth c Z Y H cells slots Qc free r k20) : cf_crowdOf_P20 p l e R s m args below meth c Z Y H cells slots Qc free r (cf_crowdOf_b20 C k10 k20) := by
  intro x1 x2 x3 x4 x5 x6 locs ls hL hl h
  obtain ⟨⟨hx, hb, hr, hlocks, hml, hown, hts⟩, hK⟩ := id X
  unfold cf_crowdOf_b20 at h
  refine lv_iload hx hb dX0_crowdOf_20 (lv_at hl 6 rfl) ?_
  refine lv_bipush (v := 8) hx hb dX0_crowdOf_22 (by decide) ?_
  refine lv_icmp_ge (tgt := 62) hx hb dX0_crowdOf_24 (by decide) (fun c1 => ?_) (fun c1 => ?_)
  · have h := ip_ c1 h
    refine lv_iinc (v := (x5 + 1)) (lv' := [(5, .int (x5 + 1)), (0, .ref (cSa Z 0)), (1, .int x1), (2, .int x2), (3, .int x3), (4, .int x4), (6, .int x6)]) hx hb dX0_crowdOf_62 hl (k := 5) rfl rfl (by decide) rfl (fun ls hl => ?_)
    refine lv_goto (tgt := 10) hx hb dX0_crowdOf_65 (by decide) ?_
    exact hk10 x1 x2 x3 x4 (x5 + 1) _ ls hL (lv_sub hl [1, 2, 3, 4, 5, 0] rfl) h
  · have h := in_ c1 h
    refine lv_aload_n hx hb dX0_crowdOf_27 rfl (lv_at hl 0 rfl) ?_
    refine lv_iload hx hb dX0_crowdOf_28 (lv_at hl 5 rfl) ?_
    refine lv_iload hx hb dX0_crowdOf_30 (lv_at hl 6 rfl) ?_
    obtain ⟨v2, q_v2, h⟩ := bd_e h
    refine f_roI (As := [.int x5, .int x6]) (rest := []) X hM (c_recv0 X hM) hL hF (cf_askedOf_met _ Z Y A C x5 x6 v2 q_v2) (lw_V q794 q796 qs29 q79 q797) cf_askedOf_hd ⟨rfl, rfl⟩ ⟨Nat.le_trans (m := cf_crowdOf_rm.frames) (Nat.le_of_ble_eq_true rfl) hR.1, Nat.le_trans (m := cf_crowdOf_rm.locals) (Nat.le_of_ble_eq_true rfl) hR.2.1⟩ ⟨hR.2.2.1, hR.2.2.2⟩ rfl hl.1 rfl (Nat.le_of_ble_eq_true rfl) dX0_crowdOf_32 (fun locs hL => ?_)
    exact cf_crowdOf_w35 X hM hR hF hQ hk10 hk20 x1 x2 x3 x4 x5 x6 v2 _ ls hL (lv_sub hl [0, 1, 2, 3, 4, 5, 6] rfl) h
def cf_crowdOf_l20 (C : St) (k10 : Int32 → Int32 → Int32 → Int32 → Int32 → Option Int32) (n : Nat) : Int32 → Int32 → Int32 → Int32 → Int32 → Int32 → Option Int32 := lp (fun _ _ _ _ _ _ => none) (cf_crowdOf_b20 C k10) n
theorem cf_crowdOf_lw20 {p : Program} {l : Launch} {e : Env} {R : Room} {s : State} {m : MethodId} {args : Array Value} {below : List Frame} {meth : Method} {c : Code} {Z : CZ} {Y : CY} {A : Nat → Prop} {C : St} {H : Heap} {cells slots : Nat} {Qc : Array Value → State → Outcome → State → Prop} {free : Addr → Prop} (X : CCx p s m args meth c cX0_crowdOf 7 (some .int) RX0 Z) (hM : cPD Z Y A C H) (hR : cf_crowdOf_rm.frames ≤ R.frames ∧ cf_crowdOf_rm.locals ≤ R.locals ∧ cells ≤ R.cells ∧ slots ≤ R.slots) (hF : ∀ q, cFr Z q → free q) {r : Int32} (hQ : ∀ t : State, t.heap = H → s.WarmedH t.vm → Qc args s (.returned (some (.int r))) t) {k10 : Int32 → Int32 → Int32 → Int32 → Int32 → Option Int32} (hk10 : cf_crowdOf_P10 p l e R s m args below meth c Z Y H cells slots Qc free r k10) : ∀ n : Nat, cf_crowdOf_P20 p l e R s m args below meth c Z Y H cells slots Qc free r (cf_crowdOf_l20 C k10 n) := by
  intro n
  induction n with
  | zero => intro x1 x2 x3 x4 x5 x6 locs ls hL hl h; exact no_ h
  | succ n ih => exact cf_crowdOf_w20 X hM hR hF hQ hk10 ih
def cf_crowdOf_b10 (C : St) (k10 : Int32 → Int32 → Int32 → Int32 → Int32 → Option Int32) (x1 : Int32) (x2 : Int32) (x3 : Int32) (x4 : Int32) (x5 : Int32) : Option Int32 :=
  if (8 : Int32) ≤ x5 then (if x1 = 0 then (some x2)
    else (if x1 = (1 : Int32) then (some x3)
      else (some x4)))
  else (cf_crowdOf_l20 C k10 FU x1 x2 x3 x4 x5 (0 : Int32))
theorem cf_crowdOf_w10 {p : Program} {l : Launch} {e : Env} {R : Room} {s : State} {m : MethodId} {args : Array Value} {below : List Frame} {meth : Method} {c : Code} {Z : CZ} {Y : CY} {A : Nat → Prop} {C : St} {H : Heap} {cells slots : Nat} {Qc : Array Value → State → Outcome → State → Prop} {free : Addr → Prop} (X : CCx p s m args meth c cX0_crowdOf 7 (some .int) RX0 Z) (hM : cPD Z Y A C H) (hR : cf_crowdOf_rm.frames ≤ R.frames ∧ cf_crowdOf_rm.locals ≤ R.locals ∧ cells ≤ R.cells ∧ slots ≤ R.slots) (hF : ∀ q, cFr Z q → free q) {r : Int32} (hQ : ∀ t : State, t.heap = H → s.WarmedH t.vm → Qc args s (.returned (some (.int r))) t) {k10 : Int32 → Int32 → Int32 → Int32 → Int32 → Option Int32} (hk10 : cf_crowdOf_P10 p l e R s m args below meth c Z Y H cells slots Qc free r k10) : cf_crowdOf_P10 p l e R s m args below meth c Z Y H cells slots Qc free r (cf_crowdOf_b10 C k10) := by
  intro x1 x2 x3 x4 x5 locs ls hL hl h
  obtain ⟨⟨hx, hb, hr, hlocks, hml, hown, hts⟩, hK⟩ := id X
  unfold cf_crowdOf_b10 at h
  refine lv_iload hx hb dX0_crowdOf_10 (lv_at hl 5 rfl) ?_
  refine lv_bipush (v := 8) hx hb dX0_crowdOf_12 (by decide) ?_
  refine lv_icmp_ge (tgt := 68) hx hb dX0_crowdOf_14 (by decide) (fun c1 => ?_) (fun c1 => ?_)
  · have h := ip_ c1 h
    refine lv_iload_n hx hb dX0_crowdOf_68 rfl (lv_at hl 1 rfl) ?_
    refine lv_if_ne (tgt := 76) hx hb dX0_crowdOf_69 (by decide) (fun c2 => ?_) (fun c2 => ?_)
    · have h := in_ c2 h
      refine lv_iload_n hx hb dX0_crowdOf_76 rfl (lv_at hl 1 rfl) ?_
      refine lv_iconst (v := 1) hx hb dX0_crowdOf_77 (by decide) ?_
      refine lv_icmp_ne (tgt := 85) hx hb dX0_crowdOf_78 (by decide) (fun c3 => ?_) (fun c3 => ?_)
      · have h := in_ c3 h
        refine lv_iload hx hb dX0_crowdOf_85 (lv_at hl 4 rfl) ?_
        have h := so_ h
        subst h
        exact W.iret hx hb hr (fun t ht hW => hQ t ht hW) hL dX0_crowdOf_87
      · have h := ip_ c3 h
        refine lv_iload_n hx hb dX0_crowdOf_81 rfl (lv_at hl 3 rfl) ?_
        refine lv_goto (tgt := 87) hx hb dX0_crowdOf_82 (by decide) ?_
        have h := so_ h
        subst h
        exact W.iret hx hb hr (fun t ht hW => hQ t ht hW) hL dX0_crowdOf_87
    · have h := ip_ c2 h
      refine lv_iload_n hx hb dX0_crowdOf_72 rfl (lv_at hl 2 rfl) ?_
      refine lv_goto (tgt := 87) hx hb dX0_crowdOf_73 (by decide) ?_
      have h := so_ h
      subst h
      exact W.iret hx hb hr (fun t ht hW => hQ t ht hW) hL dX0_crowdOf_87
  · have h := in_ c1 h
    refine lv_iconst (v := 0) hx hb dX0_crowdOf_17 (by decide) ?_
    refine lv_istore (lv' := [(6, .int (0 : Int32)), (0, .ref (cSa Z 0)), (1, .int x1), (2, .int x2), (3, .int x3), (4, .int x4), (5, .int x5)]) hx hb dX0_crowdOf_18 hl (by decide) rfl (fun ls hl => ?_)
    exact cf_crowdOf_lw20 X hM hR hF hQ hk10 FU x1 x2 x3 x4 x5 (0 : Int32) _ ls hL (lv_sub hl [1, 2, 3, 4, 5, 6, 0] rfl) h
def cf_crowdOf_l10 (C : St) (n : Nat) : Int32 → Int32 → Int32 → Int32 → Int32 → Option Int32 := lp (fun _ _ _ _ _ => none) (cf_crowdOf_b10 C) n
theorem cf_crowdOf_lw10 {p : Program} {l : Launch} {e : Env} {R : Room} {s : State} {m : MethodId} {args : Array Value} {below : List Frame} {meth : Method} {c : Code} {Z : CZ} {Y : CY} {A : Nat → Prop} {C : St} {H : Heap} {cells slots : Nat} {Qc : Array Value → State → Outcome → State → Prop} {free : Addr → Prop} (X : CCx p s m args meth c cX0_crowdOf 7 (some .int) RX0 Z) (hM : cPD Z Y A C H) (hR : cf_crowdOf_rm.frames ≤ R.frames ∧ cf_crowdOf_rm.locals ≤ R.locals ∧ cells ≤ R.cells ∧ slots ≤ R.slots) (hF : ∀ q, cFr Z q → free q) {r : Int32} (hQ : ∀ t : State, t.heap = H → s.WarmedH t.vm → Qc args s (.returned (some (.int r))) t) : ∀ n : Nat, cf_crowdOf_P10 p l e R s m args below meth c Z Y H cells slots Qc free r (cf_crowdOf_l10 C n) := by
  intro n
  induction n with
  | zero => intro x1 x2 x3 x4 x5 locs ls hL hl h; exact no_ h
  | succ n ih => exact cf_crowdOf_w10 X hM hR hF hQ ih
def cf_crowdOf (C : St) (x1 : Int32) : Option Int32 :=
  cf_crowdOf_l10 C FU x1 (-1 : Int32) (-1 : Int32) (0 : Int32) (0 : Int32)
theorem cf_crowdOf_w0 {p : Program} {l : Launch} {e : Env} {R : Room} {s : State} {m : MethodId} {args : Array Value} {below : List Frame} {meth : Method} {c : Code} {Z : CZ} {Y : CY} {A : Nat → Prop} {C : St} {H : Heap} {cells slots : Nat} {Qc : Array Value → State → Outcome → State → Prop} {free : Addr → Prop} (X : CCx p s m args meth c cX0_crowdOf 7 (some .int) RX0 Z) (hM : cPD Z Y A C H) (hR : cf_crowdOf_rm.frames ≤ R.frames ∧ cf_crowdOf_rm.locals ≤ R.locals ∧ cells ≤ R.cells ∧ slots ≤ R.slots) (hF : ∀ q, cFr Z q → free q) {r : Int32} (hQ : ∀ t : State, t.heap = H → s.WarmedH t.vm → Qc args s (.returned (some (.int r))) t) : cf_crowdOf_P0 p l e R s m args below meth c Z Y H cells slots Qc free r (cf_crowdOf C) := by
  intro x1 locs ls hL hl h
  obtain ⟨⟨hx, hb, hr, hlocks, hml, hown, hts⟩, hK⟩ := id X
  unfold cf_crowdOf at h
  refine lv_iconst (v := -1) hx hb dX0_crowdOf_0 (by decide) ?_
  refine lv_istore_n (lv' := [(2, .int (-1 : Int32)), (0, .ref (cSa Z 0)), (1, .int x1)]) hx hb dX0_crowdOf_1 rfl hl (by decide) rfl (fun ls hl => ?_)
  refine lv_iconst (v := -1) hx hb dX0_crowdOf_2 (by decide) ?_
  refine lv_istore_n (lv' := [(3, .int (-1 : Int32)), (2, .int (-1 : Int32)), (0, .ref (cSa Z 0)), (1, .int x1)]) hx hb dX0_crowdOf_3 rfl hl (by decide) rfl (fun ls hl => ?_)
  refine lv_iconst (v := 0) hx hb dX0_crowdOf_4 (by decide) ?_
  refine lv_istore (lv' := [(4, .int (0 : Int32)), (3, .int (-1 : Int32)), (2, .int (-1 : Int32)), (0, .ref (cSa Z 0)), (1, .int x1)]) hx hb dX0_crowdOf_5 hl (by decide) rfl (fun ls hl => ?_)
  refine lv_iconst (v := 0) hx hb dX0_crowdOf_7 (by decide) ?_
  refine lv_istore (lv' := [(5, .int (0 : Int32)), (4, .int (0 : Int32)), (3, .int (-1 : Int32)), (2, .int (-1 : Int32)), (0, .ref (cSa Z 0)), (1, .int x1)]) hx hb dX0_crowdOf_8 hl (by decide) rfl (fun ls hl => ?_)
  exact cf_crowdOf_lw10 X hM hR hF hQ FU x1 (-1 : Int32) (-1 : Int32) (0 : Int32) (0 : Int32) _ ls hL (lv_sub hl [4, 5, 3, 2, 1, 0] rfl) h
theorem cf_crowdOf_hd : yX0_crowdOf.cls = RX0 ∧ yX0_crowdOf.cls ≠ "java/lang/invoke/MethodHandle" ∧ yX0_crowdOf.cls ≠ "java/lang/invoke/VarHandle" ∧ (parseMethodDescriptor yX0_crowdOf.desc).map (fun d => d.parameters.length) = some 1 := by decide +kernel
theorem cf_crowdOf_met (l : Launch) (Z : CZ) (Y : CY) (A : Nat → Prop) (C : St) (x1 : Int32) (r : Int32) (h : cf_crowdOf C x1 = some r) : Met l yX0_crowdOf (ws_ yX0_crowdOf cX0_crowdOf 7 (some .int)) cf_crowdOf_rm (va_Pc [.ref (cSa Z 0), .int x1] (cS Z Y A C)) (Qro (some (.int r))) 0 0 (cFr Z) := by
  refine Met.ofW (cc := cX0_crowdOf) (maxL := 7) (ret := some .int) (by decide) rfl ?_
  intro p e s m args below meth c s₁ B hml hv
  obtain ⟨rfl, hv⟩ := hv
  have hts := atoms_spec (ws := ws_ yX0_crowdOf cX0_crowdOf 7 (some .int)) B.pre
  have hts : ∀ w ∈ lw_all, w.before _ s = true := fun w h => hts w (List.mem_cons_of_mem _ h)
  have X : CCx p s m _ meth c cX0_crowdOf 7 (some .int) RX0 Z := ⟨⟨B.exec, B.bytes, B.returns, B.notSynchronized, hml, findClass_of_methodNamed B.named, hts⟩, hv.2⟩
  have hl := lv_entry [.ref (cSa Z 0), .int x1] (n := 7) (Nat.le_of_ble_eq_true rfl)
  rw [lg_entry_eq]
  generalize (lg_sl [.ref (cSa Z 0), .int x1] ++ List.replicate (7 - (lg_sl [.ref (cSa Z 0), .int x1]).length) Slot.unset).toArray = ls at hl ⊢
  exact cf_crowdOf_w0 X hv.1 ⟨Nat.le_refl _, Nat.le_refl _, Nat.le_refl _, Nat.le_refl _⟩ (fun _ h => h) (fun t ht _ => ⟨rfl, ht⟩) x1 [] ls (fun q hq => by cases hq) hl h

/-! SecondChances.reaches(I)I -/
def cf_reaches_rm : Room := { frames := 3, cells := 0, slots := 0, locals := 64 }
def cf_reaches_P83 (p : Program) (l : Launch) (e : Env) (R : Room) (s : State) (m : MethodId) (args : Array Value) (below : List Frame) (meth : Method) (c : Code) (Z : CZ) (Y : CY) (H : Heap) (cells slots : Nat) (Qc : Array Value → State → Outcome → State → Prop) (free : Addr → Prop) (r : Int32) (f : Int32 → Int32 → Int32 → Int32 → Option Int32) : Prop := ∀ (x3 : Int32) (x4 : Int32) (t0 : Int32) (t1 : Int32) (locs : List Loc) (ls : Array Slot), (∀ q ∈ locs, free q.base) → lv_has ls 6 [(0, .ref (cSa Z 0)), (3, .int x3), (4, .int x4)] → f x3 x4 t0 t1 = some r → W p l e R s m args below meth c H locs cells slots (MQ below Qc args s cells slots free) (F0 m 83 ls [.int t0, .int t1])
def cf_reaches_P13 (p : Program) (l : Launch) (e : Env) (R : Room) (s : State) (m : MethodId) (args : Array Value) (below : List Frame) (meth : Method) (c : Code) (Z : CZ) (Y : CY) (H : Heap) (cells slots : Nat) (Qc : Array Value → State → Outcome → State → Prop) (free : Addr → Prop) (r : Int32) (f : Int32 → Int32 → Int32 → Option Int32) : Prop := ∀ (x2 : Int32) (x3 : Int32) (x4 : Int32) (locs : List Loc) (ls : Array Slot), (∀ q ∈ locs, free q.base) → lv_has ls 6 [(0, .ref (cSa Z 0)), (2, .int x2), (3, .int x3), (4, .int x4)] → f x2 x3 x4 = some r → W p l e R s m args below meth c H locs cells slots (MQ below Qc args s cells slots free) (F0 m 13 ls [])
def cf_reaches_P4 (p : Program) (l : Launch) (e : Env) (R : Room) (s : State) (m : MethodId) (args : Array Value) (below : List Frame) (meth : Method) (c : Code) (Z : CZ) (Y : CY) (H : Heap) (cells slots : Nat) (Qc : Array Value → State → Outcome → State → Prop) (free : Addr → Prop) (r : Int32) (f : Int32 → Int32 → Option Int32) : Prop := ∀ (x2 : Int32) (x3 : Int32) (locs : List Loc) (ls : Array Slot), (∀ q ∈ locs, free q.base) → lv_has ls 6 [(0, .ref (cSa Z 0)), (2, .int x2), (3, .int x3)] → f x2 x3 = some r → W p l e R s m args below meth c H locs cells slots (MQ below Qc args s cells slots free) (F0 m 4 ls [])
def cf_reaches_P0 (p : Program) (l : Launch) (e : Env) (R : Room) (s : State) (m : MethodId) (args : Array Value) (below : List Frame) (meth : Method) (c : Code) (Z : CZ) (Y : CY) (H : Heap) (cells slots : Nat) (Qc : Array Value → State → Outcome → State → Prop) (free : Addr → Prop) (r : Int32) (f : Int32 → Option Int32) : Prop := ∀ (x1 : Int32) (locs : List Loc) (ls : Array Slot), (∀ q ∈ locs, free q.base) → lv_has ls 6 [(0, .ref (cSa Z 0)), (1, .int x1)] → f x1 = some r → W p l e R s m args below meth c H locs cells slots (MQ below Qc args s cells slots free) (F0 m 0 ls [])
def cf_reaches_b83 (C : St) (k4 : Int32 → Int32 → Option Int32) (k13 : Int32 → Int32 → Int32 → Option Int32) (x3 : Int32) (x4 : Int32) (t0 : Int32) (t1 : Int32) : Option Int32 :=
  lt_ (t1 ||| t0) fun v1 =>
  k13 v1 x3 (x4 + 1)
theorem cf_reaches_w83 {p : Program} {l : Launch} {e : Env} {R : Room} {s : State} {m : MethodId} {args : Array Value} {below : List Frame} {meth : Method} {c : Code} {Z : CZ} {Y : CY} {A : Nat → Prop} {C : St} {H : Heap} {cells slots : Nat} {Qc : Array Value → State → Outcome → State → Prop} {free : Addr → Prop} (X : CCx p s m args meth c cX0_reaches 6 (some .int) RX0 Z) (hM : cPD Z Y A C H) (hR : cf_reaches_rm.frames ≤ R.frames ∧ cf_reaches_rm.locals ≤ R.locals ∧ cells ≤ R.cells ∧ slots ≤ R.slots) (hF : ∀ q, cFr Z q → free q) {r : Int32} (hQ : ∀ t : State, t.heap = H → s.WarmedH t.vm → Qc args s (.returned (some (.int r))) t) {k4 : Int32 → Int32 → Option Int32} (hk4 : cf_reaches_P4 p l e R s m args below meth c Z Y H cells slots Qc free r k4) {k13 : Int32 → Int32 → Int32 → Option Int32} (hk13 : cf_reaches_P13 p l e R s m args below meth c Z Y H cells slots Qc free r k13) : cf_reaches_P83 p l e R s m args below meth c Z Y H cells slots Qc free r (cf_reaches_b83 C k4 k13) := by
  intro x3 x4 t0 t1 locs ls hL hl h
  obtain ⟨⟨hx, hb, hr, hlocks, hml, hown, hts⟩, hK⟩ := id X
  unfold cf_reaches_b83 at h
  refine lv_ior hx hb dX0_reaches_83 ?_
  refine lv_topi (fun v1 e_v1 => ?_)
  have h := lt_i h e_v1
  refine lv_istore_n (lv' := [(2, .int v1), (0, .ref (cSa Z 0)), (3, .int x3), (4, .int x4)]) hx hb dX0_reaches_84 rfl hl (by decide) rfl (fun ls hl => ?_)
  refine lv_iinc (v := (x4 + 1)) (lv' := [(4, .int (x4 + 1)), (2, .int v1), (0, .ref (cSa Z 0)), (3, .int x3)]) hx hb dX0_reaches_85 hl (k := 3) rfl rfl (by decide) rfl (fun ls hl => ?_)
  refine lv_goto (tgt := 13) hx hb dX0_reaches_88 (by decide) ?_
  exact hk13 v1 x3 (x4 + 1) _ ls hL (lv_sub hl [2, 1, 3, 0] rfl) h
def cf_reaches_b13 (C : St) (k4 : Int32 → Int32 → Option Int32) (k13 : Int32 → Int32 → Int32 → Option Int32) (x2 : Int32) (x3 : Int32) (x4 : Int32) : Option Int32 :=
  bd_ (cfL_size C 2 ) fun v1 =>
  if v1 ≤ x4 then (k4 x2 (x3 + 1))
  else (bd_ (cfL_get C 2 x4) fun v3 =>
    gd_ (v3 < cNn C 2) <|
    gd_ (v3 < cNn C 2) <|
    al_ 2 (C (300 + v3)) (0 : Int32) fun v5 =>
    bd_ (cf_isIn x2 v5) fun v7 =>
    if v7 = 0 then (cf_reaches_b83 C k4 k13 x3 x4 (0 : Int32) x2)
    else (gd_ (v3 < cNn C 2) <|
      al_ 2 (C (300 + v3)) (0 : Int32) fun v9 =>
      bd_ (cf_isDeed C v9) fun v11 =>
      if v11 = 0 then (cf_reaches_b83 C k4 k13 x3 x4 (0 : Int32) x2)
      else (gd_ (v3 < cNn C 2) <|
        al_ 2 (C (300 + v3)) (1 : Int32) fun v13 =>
        bd_ (cf_isDeed C v13) fun v15 =>
        if v15 = 0 then (cf_reaches_b83 C k4 k13 x3 x4 (0 : Int32) x2)
        else (gd_ (v3 < cNn C 2) <|
          al_ 2 (C (300 + v3)) (1 : Int32) fun v17 =>
          cf_reaches_b83 C k4 k13 x3 x4 ((1 : Int32) <<< (v17 &&& 31)) x2))))
theorem cf_reaches_w13 {p : Program} {l : Launch} {e : Env} {R : Room} {s : State} {m : MethodId} {args : Array Value} {below : List Frame} {meth : Method} {c : Code} {Z : CZ} {Y : CY} {A : Nat → Prop} {C : St} {H : Heap} {cells slots : Nat} {Qc : Array Value → State → Outcome → State → Prop} {free : Addr → Prop} (X : CCx p s m args meth c cX0_reaches 6 (some .int) RX0 Z) (hM : cPD Z Y A C H) (hR : cf_reaches_rm.frames ≤ R.frames ∧ cf_reaches_rm.locals ≤ R.locals ∧ cells ≤ R.cells ∧ slots ≤ R.slots) (hF : ∀ q, cFr Z q → free q) {r : Int32} (hQ : ∀ t : State, t.heap = H → s.WarmedH t.vm → Qc args s (.returned (some (.int r))) t) {k4 : Int32 → Int32 → Option Int32} (hk4 : cf_reaches_P4 p l e R s m args below meth c Z Y H cells slots Qc free r k4) {k13 : Int32 → Int32 → Int32 → Option Int32} (hk13 : cf_reaches_P13 p l e R s m args below meth c Z Y H cells slots Qc free r k13) : cf_reaches_P13 p l e R s m args below meth c Z Y H cells slots Qc free r (cf_reaches_b13 C k4 k13) := by
  intro x2 x3 x4 locs ls hL hl h
  obtain ⟨⟨hx, hb, hr, hlocks, hml, hown, hts⟩, hK⟩ := id X
  unfold cf_reaches_b13 at h
  refine lv_iload hx hb dX0_reaches_13 (lv_at hl 3 rfl) ?_
  refine lv_aload_n hx hb dX0_reaches_15 rfl (lv_at hl 0 rfl) ?_
  refine gc18 X hM dX0_reaches_16 ?_
  obtain ⟨v1, q_v1, h⟩ := bd_e h
  refine f_roI (As := []) (rest := [.int x4]) X hM (c_recvL (j := 2) X hM (by decide)) hL hF (cfL_size_met _ Z Y A C 2  v1 q_v1) (lw_V q641 q418 q419 q85 q420) cfL_size_hd ⟨rfl, rfl⟩ ⟨Nat.le_trans (m := cf_reaches_rm.frames) (Nat.le_of_ble_eq_true rfl) hR.1, Nat.le_trans (m := cf_reaches_rm.locals) (Nat.le_of_ble_eq_true rfl) hR.2.1⟩ ⟨hR.2.2.1, hR.2.2.2⟩ rfl hl.1 rfl (Nat.le_of_ble_eq_true rfl) dX0_reaches_19 (fun locs hL => ?_)
  refine lv_icmp_ge (tgt := 91) hx hb dX0_reaches_22 (by decide) (fun c2 => ?_) (fun c2 => ?_)
  · have h := ip_ c2 h
    refine lv_iinc (v := (x3 + 1)) (lv' := [(3, .int (x3 + 1)), (0, .ref (cSa Z 0)), (2, .int x2), (4, .int x4)]) hx hb dX0_reaches_91 hl (k := 2) rfl rfl (by decide) rfl (fun ls hl => ?_)
    refine lv_goto (tgt := 4) hx hb dX0_reaches_94 (by decide) ?_
    exact hk4 x2 (x3 + 1) _ ls hL (lv_sub hl [1, 2, 0] rfl) h
  · have h := in_ c2 h
    refine lv_aload_n hx hb dX0_reaches_25 rfl (lv_at hl 0 rfl) ?_
    refine gc18 X hM dX0_reaches_26 ?_
    refine lv_iload hx hb dX0_reaches_29 (lv_at hl 3 rfl) ?_
    obtain ⟨v3, q_v3, h⟩ := bd_e h
    refine f_roR (As := [.int x4]) (rest := []) X hM (c_recvL (j := 2) X hM (by decide)) hL hF (cfL_get_met _ Z Y A C 2 x4 v3 q_v3) (lw_V q651 q652 q653 q85 q654) cfL_get_hd ⟨rfl, rfl⟩ ⟨Nat.le_trans (m := cf_reaches_rm.frames) (Nat.le_of_ble_eq_true rfl) hR.1, Nat.le_trans (m := cf_reaches_rm.locals) (Nat.le_of_ble_eq_true rfl) hR.2.1⟩ ⟨hR.2.2.1, hR.2.2.2⟩ rfl hl.1 rfl (Nat.le_of_ble_eq_true rfl) dX0_reaches_31 (fun locs hL => ?_)
    obtain ⟨b4, h⟩ := gd_e h
    refine c_castA X hM b4 (hts _ q906) dX0_reaches_34 ?_
    refine lv_astore (lv' := [(5, .ref (cDa Y (300 + v3))), (0, .ref (cSa Z 0)), (2, .int x2), (3, .int x3), (4, .int x4)]) hx hb dX0_reaches_37 hl (by decide) rfl (fun ls hl => ?_)
    refine lv_iload_n hx hb dX0_reaches_39 rfl (lv_at hl 2 rfl) ?_
    refine lv_iload_n hx hb dX0_reaches_40 rfl (lv_at hl 2 rfl) ?_
    refine lv_aload hx hb dX0_reaches_41 (lv_at hl 0 rfl) ?_
    refine lv_iconst (v := 0) hx hb dX0_reaches_43 (by decide) ?_
    obtain ⟨b6, h⟩ := gd_e h
    have b6_ := (hM.2.2 2 (by decide)).1
    obtain ⟨i_v5, h⟩ := al_e h
    refine c_ald X hM (k := (300 + v3)) (cHs_A b6) (cArr_p (by omega)) (cAr_d (by omega)) i_v5 dX0_reaches_44 (fun v5 e_v5 => ?_)
    have h := h v5 e_v5
    obtain ⟨v7, q_v7, h⟩ := bd_e h
    refine s_roI (As := [.int x2, .int v5]) (rest := [.int x2]) X.1 (cf_isIn_met _ x2 v5 v7 q_v7) (lw_S q698 q550 q79 q551) cf_isIn_hd ⟨rfl, rfl⟩ ⟨Nat.le_trans (m := cf_reaches_rm.frames) (Nat.le_of_ble_eq_true rfl) hR.1, Nat.le_trans (m := cf_reaches_rm.locals) (Nat.le_of_ble_eq_true rfl) hR.2.1⟩ ⟨hR.2.2.1, hR.2.2.2⟩ rfl hl.1 rfl (Nat.le_of_ble_eq_true rfl) dX0_reaches_45 ?_
    refine lv_if_eq (tgt := 82) hx hb dX0_reaches_48 (by decide) (fun c8 => ?_) (fun c8 => ?_)
    · have h := ip_ c8 h
      refine lv_iconst (v := 0) hx hb dX0_reaches_82 (by decide) ?_
      exact cf_reaches_w83 X hM hR hF hQ hk4 hk13 x3 x4 (0 : Int32) x2 _ ls hL (lv_sub hl [1, 3, 4] rfl) h
    · have h := in_ c8 h
      refine lv_aload_n hx hb dX0_reaches_51 rfl (lv_at hl 1 rfl) ?_
      refine lv_aload hx hb dX0_reaches_52 (lv_at hl 0 rfl) ?_
      refine lv_iconst (v := 0) hx hb dX0_reaches_54 (by decide) ?_
      obtain ⟨b10, h⟩ := gd_e h
      have b10_ := (hM.2.2 2 (by decide)).1
      obtain ⟨i_v9, h⟩ := al_e h
      refine c_ald X hM (k := (300 + v3)) (cHs_A b10) (cArr_p (by omega)) (cAr_d (by omega)) i_v9 dX0_reaches_55 (fun v9 e_v9 => ?_)
      have h := h v9 e_v9
      obtain ⟨v11, q_v11, h⟩ := bd_e h
      refine f_roI (As := [.int v9]) (rest := [.int x2]) X hM (c_recv0 X hM) hL hF (cf_isDeed_met _ Z Y A C v9 v11 q_v11) (lw_V q626 q628 qs6 q79 q629) cf_isDeed_hd ⟨rfl, rfl⟩ ⟨Nat.le_trans (m := cf_reaches_rm.frames) (Nat.le_of_ble_eq_true rfl) hR.1, Nat.le_trans (m := cf_reaches_rm.locals) (Nat.le_of_ble_eq_true rfl) hR.2.1⟩ ⟨hR.2.2.1, hR.2.2.2⟩ rfl hl.1 rfl (Nat.le_of_ble_eq_true rfl) dX0_reaches_56 (fun locs hL => ?_)
      refine lv_if_eq (tgt := 82) hx hb dX0_reaches_59 (by decide) (fun c12 => ?_) (fun c12 => ?_)
      · have h := ip_ c12 h
        refine lv_iconst (v := 0) hx hb dX0_reaches_82 (by decide) ?_
        exact cf_reaches_w83 X hM hR hF hQ hk4 hk13 x3 x4 (0 : Int32) x2 _ ls hL (lv_sub hl [1, 3, 4] rfl) h
      · have h := in_ c12 h
        refine lv_aload_n hx hb dX0_reaches_62 rfl (lv_at hl 1 rfl) ?_
        refine lv_aload hx hb dX0_reaches_63 (lv_at hl 0 rfl) ?_
        refine lv_iconst (v := 1) hx hb dX0_reaches_65 (by decide) ?_
        obtain ⟨b14, h⟩ := gd_e h
        have b14_ := (hM.2.2 2 (by decide)).1
        obtain ⟨i_v13, h⟩ := al_e h
        refine c_ald X hM (k := (300 + v3)) (cHs_A b14) (cArr_p (by omega)) (cAr_d (by omega)) i_v13 dX0_reaches_66 (fun v13 e_v13 => ?_)
        have h := h v13 e_v13
        obtain ⟨v15, q_v15, h⟩ := bd_e h
        refine f_roI (As := [.int v13]) (rest := [.int x2]) X hM (c_recv0 X hM) hL hF (cf_isDeed_met _ Z Y A C v13 v15 q_v15) (lw_V q626 q628 qs6 q79 q629) cf_isDeed_hd ⟨rfl, rfl⟩ ⟨Nat.le_trans (m := cf_reaches_rm.frames) (Nat.le_of_ble_eq_true rfl) hR.1, Nat.le_trans (m := cf_reaches_rm.locals) (Nat.le_of_ble_eq_true rfl) hR.2.1⟩ ⟨hR.2.2.1, hR.2.2.2⟩ rfl hl.1 rfl (Nat.le_of_ble_eq_true rfl) dX0_reaches_67 (fun locs hL => ?_)
        refine lv_if_eq (tgt := 82) hx hb dX0_reaches_70 (by decide) (fun c16 => ?_) (fun c16 => ?_)
        · have h := ip_ c16 h
          refine lv_iconst (v := 0) hx hb dX0_reaches_82 (by decide) ?_
          exact cf_reaches_w83 X hM hR hF hQ hk4 hk13 x3 x4 (0 : Int32) x2 _ ls hL (lv_sub hl [1, 3, 4] rfl) h
        · have h := in_ c16 h
          refine lv_iconst (v := 1) hx hb dX0_reaches_73 (by decide) ?_
          refine lv_aload hx hb dX0_reaches_74 (lv_at hl 0 rfl) ?_
          refine lv_iconst (v := 1) hx hb dX0_reaches_76 (by decide) ?_
          obtain ⟨b18, h⟩ := gd_e h
          have b18_ := (hM.2.2 2 (by decide)).1
          obtain ⟨i_v17, h⟩ := al_e h
          refine c_ald X hM (k := (300 + v3)) (cHs_A b18) (cArr_p (by omega)) (cAr_d (by omega)) i_v17 dX0_reaches_77 (fun v17 e_v17 => ?_)
          have h := h v17 e_v17
          refine lv_ishl hx hb dX0_reaches_78 ?_
          refine lv_goto (tgt := 83) hx hb dX0_reaches_79 (by decide) ?_
          exact cf_reaches_w83 X hM hR hF hQ hk4 hk13 x3 x4 ((1 : Int32) <<< (v17 &&& 31)) x2 _ ls hL (lv_sub hl [1, 3, 4] rfl) h
def cf_reaches_l13 (C : St) (k4 : Int32 → Int32 → Option Int32) (n : Nat) : Int32 → Int32 → Int32 → Option Int32 := lp (fun _ _ _ => none) (cf_reaches_b13 C k4) n
theorem cf_reaches_lw13 {p : Program} {l : Launch} {e : Env} {R : Room} {s : State} {m : MethodId} {args : Array Value} {below : List Frame} {meth : Method} {c : Code} {Z : CZ} {Y : CY} {A : Nat → Prop} {C : St} {H : Heap} {cells slots : Nat} {Qc : Array Value → State → Outcome → State → Prop} {free : Addr → Prop} (X : CCx p s m args meth c cX0_reaches 6 (some .int) RX0 Z) (hM : cPD Z Y A C H) (hR : cf_reaches_rm.frames ≤ R.frames ∧ cf_reaches_rm.locals ≤ R.locals ∧ cells ≤ R.cells ∧ slots ≤ R.slots) (hF : ∀ q, cFr Z q → free q) {r : Int32} (hQ : ∀ t : State, t.heap = H → s.WarmedH t.vm → Qc args s (.returned (some (.int r))) t) {k4 : Int32 → Int32 → Option Int32} (hk4 : cf_reaches_P4 p l e R s m args below meth c Z Y H cells slots Qc free r k4) : ∀ n : Nat, cf_reaches_P13 p l e R s m args below meth c Z Y H cells slots Qc free r (cf_reaches_l13 C k4 n) := by
  intro n
  induction n with
  | zero => intro x2 x3 x4 locs ls hL hl h; exact no_ h
  | succ n ih => exact cf_reaches_w13 X hM hR hF hQ hk4 ih
def cf_reaches_b4 (C : St) (k4 : Int32 → Int32 → Option Int32) (x2 : Int32) (x3 : Int32) : Option Int32 :=
  if (8 : Int32) ≤ x3 then (some x2)
  else (cf_reaches_l13 C k4 FU x2 x3 (0 : Int32))
theorem cf_reaches_w4 {p : Program} {l : Launch} {e : Env} {R : Room} {s : State} {m : MethodId} {args : Array Value} {below : List Frame} {meth : Method} {c : Code} {Z : CZ} {Y : CY} {A : Nat → Prop} {C : St} {H : Heap} {cells slots : Nat} {Qc : Array Value → State → Outcome → State → Prop} {free : Addr → Prop} (X : CCx p s m args meth c cX0_reaches 6 (some .int) RX0 Z) (hM : cPD Z Y A C H) (hR : cf_reaches_rm.frames ≤ R.frames ∧ cf_reaches_rm.locals ≤ R.locals ∧ cells ≤ R.cells ∧ slots ≤ R.slots) (hF : ∀ q, cFr Z q → free q) {r : Int32} (hQ : ∀ t : State, t.heap = H → s.WarmedH t.vm → Qc args s (.returned (some (.int r))) t) {k4 : Int32 → Int32 → Option Int32} (hk4 : cf_reaches_P4 p l e R s m args below meth c Z Y H cells slots Qc free r k4) : cf_reaches_P4 p l e R s m args below meth c Z Y H cells slots Qc free r (cf_reaches_b4 C k4) := by
  intro x2 x3 locs ls hL hl h
  obtain ⟨⟨hx, hb, hr, hlocks, hml, hown, hts⟩, hK⟩ := id X
  unfold cf_reaches_b4 at h
  refine lv_iload_n hx hb dX0_reaches_4 rfl (lv_at hl 2 rfl) ?_
  refine lv_bipush (v := 8) hx hb dX0_reaches_5 (by decide) ?_
  refine lv_icmp_ge (tgt := 97) hx hb dX0_reaches_7 (by decide) (fun c1 => ?_) (fun c1 => ?_)
  · have h := ip_ c1 h
    refine lv_iload_n hx hb dX0_reaches_97 rfl (lv_at hl 1 rfl) ?_
    have h := so_ h
    subst h
    exact W.iret hx hb hr (fun t ht hW => hQ t ht hW) hL dX0_reaches_98
  · have h := in_ c1 h
    refine lv_iconst (v := 0) hx hb dX0_reaches_10 (by decide) ?_
    refine lv_istore (lv' := [(4, .int (0 : Int32)), (0, .ref (cSa Z 0)), (2, .int x2), (3, .int x3)]) hx hb dX0_reaches_11 hl (by decide) rfl (fun ls hl => ?_)
    exact cf_reaches_lw13 X hM hR hF hQ hk4 FU x2 x3 (0 : Int32) _ ls hL (lv_sub hl [1, 2, 3, 0] rfl) h
def cf_reaches_l4 (C : St) (n : Nat) : Int32 → Int32 → Option Int32 := lp (fun _ _ => none) (cf_reaches_b4 C) n
theorem cf_reaches_lw4 {p : Program} {l : Launch} {e : Env} {R : Room} {s : State} {m : MethodId} {args : Array Value} {below : List Frame} {meth : Method} {c : Code} {Z : CZ} {Y : CY} {A : Nat → Prop} {C : St} {H : Heap} {cells slots : Nat} {Qc : Array Value → State → Outcome → State → Prop} {free : Addr → Prop} (X : CCx p s m args meth c cX0_reaches 6 (some .int) RX0 Z) (hM : cPD Z Y A C H) (hR : cf_reaches_rm.frames ≤ R.frames ∧ cf_reaches_rm.locals ≤ R.locals ∧ cells ≤ R.cells ∧ slots ≤ R.slots) (hF : ∀ q, cFr Z q → free q) {r : Int32} (hQ : ∀ t : State, t.heap = H → s.WarmedH t.vm → Qc args s (.returned (some (.int r))) t) : ∀ n : Nat, cf_reaches_P4 p l e R s m args below meth c Z Y H cells slots Qc free r (cf_reaches_l4 C n) := by
  intro n
  induction n with
  | zero => intro x2 x3 locs ls hL hl h; exact no_ h
  | succ n ih => exact cf_reaches_w4 X hM hR hF hQ ih
def cf_reaches (C : St) (x1 : Int32) : Option Int32 :=
  cf_reaches_l4 C FU x1 (0 : Int32)
theorem cf_reaches_w0 {p : Program} {l : Launch} {e : Env} {R : Room} {s : State} {m : MethodId} {args : Array Value} {below : List Frame} {meth : Method} {c : Code} {Z : CZ} {Y : CY} {A : Nat → Prop} {C : St} {H : Heap} {cells slots : Nat} {Qc : Array Value → State → Outcome → State → Prop} {free : Addr → Prop} (X : CCx p s m args meth c cX0_reaches 6 (some .int) RX0 Z) (hM : cPD Z Y A C H) (hR : cf_reaches_rm.frames ≤ R.frames ∧ cf_reaches_rm.locals ≤ R.locals ∧ cells ≤ R.cells ∧ slots ≤ R.slots) (hF : ∀ q, cFr Z q → free q) {r : Int32} (hQ : ∀ t : State, t.heap = H → s.WarmedH t.vm → Qc args s (.returned (some (.int r))) t) : cf_reaches_P0 p l e R s m args below meth c Z Y H cells slots Qc free r (cf_reaches C) := by
  intro x1 locs ls hL hl h
  obtain ⟨⟨hx, hb, hr, hlocks, hml, hown, hts⟩, hK⟩ := id X
  unfold cf_reaches at h
  refine lv_iload_n hx hb dX0_reaches_0 rfl (lv_at hl 1 rfl) ?_
  refine lv_istore_n (lv' := [(2, .int x1), (0, .ref (cSa Z 0)), (1, .int x1)]) hx hb dX0_reaches_1 rfl hl (by decide) rfl (fun ls hl => ?_)
  refine lv_iconst (v := 0) hx hb dX0_reaches_2 (by decide) ?_
  refine lv_istore_n (lv' := [(3, .int (0 : Int32)), (2, .int x1), (0, .ref (cSa Z 0)), (1, .int x1)]) hx hb dX0_reaches_3 rfl hl (by decide) rfl (fun ls hl => ?_)
  exact cf_reaches_lw4 X hM hR hF hQ FU x1 (0 : Int32) _ ls hL (lv_sub hl [2, 1, 0] rfl) h
theorem cf_reaches_hd : yX0_reaches.cls = RX0 ∧ yX0_reaches.cls ≠ "java/lang/invoke/MethodHandle" ∧ yX0_reaches.cls ≠ "java/lang/invoke/VarHandle" ∧ (parseMethodDescriptor yX0_reaches.desc).map (fun d => d.parameters.length) = some 1 := by decide +kernel
theorem cf_reaches_met (l : Launch) (Z : CZ) (Y : CY) (A : Nat → Prop) (C : St) (x1 : Int32) (r : Int32) (h : cf_reaches C x1 = some r) : Met l yX0_reaches (ws_ yX0_reaches cX0_reaches 6 (some .int)) cf_reaches_rm (va_Pc [.ref (cSa Z 0), .int x1] (cS Z Y A C)) (Qro (some (.int r))) 0 0 (cFr Z) := by
  refine Met.ofW (cc := cX0_reaches) (maxL := 6) (ret := some .int) (by decide) rfl ?_
  intro p e s m args below meth c s₁ B hml hv
  obtain ⟨rfl, hv⟩ := hv
  have hts := atoms_spec (ws := ws_ yX0_reaches cX0_reaches 6 (some .int)) B.pre
  have hts : ∀ w ∈ lw_all, w.before _ s = true := fun w h => hts w (List.mem_cons_of_mem _ h)
  have X : CCx p s m _ meth c cX0_reaches 6 (some .int) RX0 Z := ⟨⟨B.exec, B.bytes, B.returns, B.notSynchronized, hml, findClass_of_methodNamed B.named, hts⟩, hv.2⟩
  have hl := lv_entry [.ref (cSa Z 0), .int x1] (n := 6) (Nat.le_of_ble_eq_true rfl)
  rw [lg_entry_eq]
  generalize (lg_sl [.ref (cSa Z 0), .int x1] ++ List.replicate (6 - (lg_sl [.ref (cSa Z 0), .int x1]).length) Slot.unset).toArray = ls at hl ⊢
  exact cf_reaches_w0 X hv.1 ⟨Nat.le_refl _, Nat.le_refl _, Nat.le_refl _, Nat.le_refl _⟩ (fun _ h => h) (fun t ht _ => ⟨rfl, ht⟩) x1 [] ls (fun q hq => by cases hq) hl h

/-! SecondChances.sparedOf(I)I -/
def cf_sparedOf_rm : Room := { frames := 5, cells := 0, slots := 0, locals := 108 }
def cf_sparedOf_P0 (p : Program) (l : Launch) (e : Env) (R : Room) (s : State) (m : MethodId) (args : Array Value) (below : List Frame) (meth : Method) (c : Code) (Z : CZ) (Y : CY) (H : Heap) (cells slots : Nat) (Qc : Array Value → State → Outcome → State → Prop) (free : Addr → Prop) (r : Int32) (f : Int32 → Option Int32) : Prop := ∀ (x1 : Int32) (locs : List Loc) (ls : Array Slot), (∀ q ∈ locs, free q.base) → lv_has ls 2 [(0, .ref (cSa Z 0)), (1, .int x1)] → f x1 = some r → W p l e R s m args below meth c H locs cells slots (MQ below Qc args s cells slots free) (F0 m 0 ls [])
def cf_sparedOf (C : St) (x1 : Int32) : Option Int32 :=
  bd_ (cf_reaches C x1) fun v1 =>
  bd_ (cf_worthOf C (v1 &&& (x1 ^^^ (-1 : Int32)))) fun v2 =>
  some v2
theorem cf_sparedOf_w0 {p : Program} {l : Launch} {e : Env} {R : Room} {s : State} {m : MethodId} {args : Array Value} {below : List Frame} {meth : Method} {c : Code} {Z : CZ} {Y : CY} {A : Nat → Prop} {C : St} {H : Heap} {cells slots : Nat} {Qc : Array Value → State → Outcome → State → Prop} {free : Addr → Prop} (X : CCx p s m args meth c cX0_sparedOf 2 (some .int) RX0 Z) (hM : cPD Z Y A C H) (hR : cf_sparedOf_rm.frames ≤ R.frames ∧ cf_sparedOf_rm.locals ≤ R.locals ∧ cells ≤ R.cells ∧ slots ≤ R.slots) (hF : ∀ q, cFr Z q → free q) {r : Int32} (hQ : ∀ t : State, t.heap = H → s.WarmedH t.vm → Qc args s (.returned (some (.int r))) t) : cf_sparedOf_P0 p l e R s m args below meth c Z Y H cells slots Qc free r (cf_sparedOf C) := by
  intro x1 locs ls hL hl h
  obtain ⟨⟨hx, hb, hr, hlocks, hml, hown, hts⟩, hK⟩ := id X
  unfold cf_sparedOf at h
  refine lv_aload_n hx hb dX0_sparedOf_0 rfl (lv_at hl 0 rfl) ?_
  refine lv_aload_n hx hb dX0_sparedOf_1 rfl (lv_at hl 0 rfl) ?_
  refine lv_iload_n hx hb dX0_sparedOf_2 rfl (lv_at hl 1 rfl) ?_
  obtain ⟨v1, q_v1, h⟩ := bd_e h
  refine f_roI (As := [.int x1]) (rest := [.ref (cSa Z 0)]) X hM (c_recv0 X hM) hL hF (cf_reaches_met _ Z Y A C x1 v1 q_v1) (lw_V q902 q904 qs37 q79 q905) cf_reaches_hd ⟨rfl, rfl⟩ ⟨Nat.le_trans (m := cf_sparedOf_rm.frames) (Nat.le_of_ble_eq_true rfl) hR.1, Nat.le_trans (m := cf_sparedOf_rm.locals) (Nat.le_of_ble_eq_true rfl) hR.2.1⟩ ⟨hR.2.2.1, hR.2.2.2⟩ rfl hl.1 rfl (Nat.le_of_ble_eq_true rfl) dX0_sparedOf_3 (fun locs hL => ?_)
  refine lv_iload_n hx hb dX0_sparedOf_6 rfl (lv_at hl 1 rfl) ?_
  refine lv_iconst (v := -1) hx hb dX0_sparedOf_7 (by decide) ?_
  refine lv_ixor hx hb dX0_sparedOf_8 ?_
  refine lv_iand hx hb dX0_sparedOf_9 ?_
  obtain ⟨v2, q_v2, h⟩ := bd_e h
  refine f_roI (As := [.int (v1 &&& (x1 ^^^ (-1 : Int32)))]) (rest := []) X hM (c_recv0 X hM) hL hF (cf_worthOf_met _ Z Y A C (v1 &&& (x1 ^^^ (-1 : Int32))) v2 q_v2) (lw_V q747 q749 qs21 q79 q750) cf_worthOf_hd ⟨rfl, rfl⟩ ⟨Nat.le_trans (m := cf_sparedOf_rm.frames) (Nat.le_of_ble_eq_true rfl) hR.1, Nat.le_trans (m := cf_sparedOf_rm.locals) (Nat.le_of_ble_eq_true rfl) hR.2.1⟩ ⟨hR.2.2.1, hR.2.2.2⟩ rfl hl.1 rfl (Nat.le_of_ble_eq_true rfl) dX0_sparedOf_10 (fun locs hL => ?_)
  have h := so_ h
  subst h
  exact W.iret hx hb hr (fun t ht hW => hQ t ht hW) hL dX0_sparedOf_13
theorem cf_sparedOf_hd : yX0_sparedOf.cls = RX0 ∧ yX0_sparedOf.cls ≠ "java/lang/invoke/MethodHandle" ∧ yX0_sparedOf.cls ≠ "java/lang/invoke/VarHandle" ∧ (parseMethodDescriptor yX0_sparedOf.desc).map (fun d => d.parameters.length) = some 1 := by decide +kernel
theorem cf_sparedOf_met (l : Launch) (Z : CZ) (Y : CY) (A : Nat → Prop) (C : St) (x1 : Int32) (r : Int32) (h : cf_sparedOf C x1 = some r) : Met l yX0_sparedOf (ws_ yX0_sparedOf cX0_sparedOf 2 (some .int)) cf_sparedOf_rm (va_Pc [.ref (cSa Z 0), .int x1] (cS Z Y A C)) (Qro (some (.int r))) 0 0 (cFr Z) := by
  refine Met.ofW (cc := cX0_sparedOf) (maxL := 2) (ret := some .int) (by decide) rfl ?_
  intro p e s m args below meth c s₁ B hml hv
  obtain ⟨rfl, hv⟩ := hv
  have hts := atoms_spec (ws := ws_ yX0_sparedOf cX0_sparedOf 2 (some .int)) B.pre
  have hts : ∀ w ∈ lw_all, w.before _ s = true := fun w h => hts w (List.mem_cons_of_mem _ h)
  have X : CCx p s m _ meth c cX0_sparedOf 2 (some .int) RX0 Z := ⟨⟨B.exec, B.bytes, B.returns, B.notSynchronized, hml, findClass_of_methodNamed B.named, hts⟩, hv.2⟩
  have hl := lv_entry [.ref (cSa Z 0), .int x1] (n := 2) (Nat.le_of_ble_eq_true rfl)
  rw [lg_entry_eq]
  generalize (lg_sl [.ref (cSa Z 0), .int x1] ++ List.replicate (2 - (lg_sl [.ref (cSa Z 0), .int x1]).length) Slot.unset).toArray = ls at hl ⊢
  exact cf_sparedOf_w0 X hv.1 ⟨Nat.le_refl _, Nat.le_refl _, Nat.le_refl _, Nat.le_refl _⟩ (fun _ h => h) (fun t ht _ => ⟨rfl, ht⟩) x1 [] ls (fun q hq => by cases hq) hl h

/-! SecondChances.bestNow()I -/
def cf_bestNow_rm : Room := { frames := 6, cells := 0, slots := 0, locals := 129 }
def cf_bestNow_P43 (p : Program) (l : Launch) (e : Env) (R : Room) (s : State) (m : MethodId) (args : Array Value) (below : List Frame) (meth : Method) (c : Code) (Z : CZ) (Y : CY) (H : Heap) (cells slots : Nat) (Qc : Array Value → State → Outcome → State → Prop) (free : Addr → Prop) (r : Int32) (f : Int32 → Int32 → Int32 → Int32 → Option Int32) : Prop := ∀ (x2 : Int32) (x3 : Int32) (x4 : Int32) (t0 : Int32) (locs : List Loc) (ls : Array Slot), (∀ q ∈ locs, free q.base) → lv_has ls 5 [(0, .ref (cSa Z 0)), (2, .int x2), (3, .int x3), (4, .int x4)] → f x2 x3 x4 t0 = some r → W p l e R s m args below meth c H locs cells slots (MQ below Qc args s cells slots free) (F0 m 43 ls [.int t0])
def cf_bestNow_P11 (p : Program) (l : Launch) (e : Env) (R : Room) (s : State) (m : MethodId) (args : Array Value) (below : List Frame) (meth : Method) (c : Code) (Z : CZ) (Y : CY) (H : Heap) (cells slots : Nat) (Qc : Array Value → State → Outcome → State → Prop) (free : Addr → Prop) (r : Int32) (f : Int32 → Int32 → Int32 → Int32 → Int32 → Option Int32) : Prop := ∀ (x1 : Int32) (x2 : Int32) (x3 : Int32) (t0 : Int32) (t1 : Int32) (locs : List Loc) (ls : Array Slot), (∀ q ∈ locs, free q.base) → lv_has ls 5 [(0, .ref (cSa Z 0)), (1, .int x1), (2, .int x2), (3, .int x3)] → f x1 x2 x3 t0 t1 = some r → W p l e R s m args below meth c H locs cells slots (MQ below Qc args s cells slots free) (F0 m 11 ls [.int t0, .int t1])
def cf_bestNow_P6 (p : Program) (l : Launch) (e : Env) (R : Room) (s : State) (m : MethodId) (args : Array Value) (below : List Frame) (meth : Method) (c : Code) (Z : CZ) (Y : CY) (H : Heap) (cells slots : Nat) (Qc : Array Value → State → Outcome → State → Prop) (free : Addr → Prop) (r : Int32) (f : Int32 → Int32 → Int32 → Option Int32) : Prop := ∀ (x1 : Int32) (x2 : Int32) (x3 : Int32) (locs : List Loc) (ls : Array Slot), (∀ q ∈ locs, free q.base) → lv_has ls 5 [(0, .ref (cSa Z 0)), (1, .int x1), (2, .int x2), (3, .int x3)] → f x1 x2 x3 = some r → W p l e R s m args below meth c H locs cells slots (MQ below Qc args s cells slots free) (F0 m 6 ls [])
def cf_bestNow_P0 (p : Program) (l : Launch) (e : Env) (R : Room) (s : State) (m : MethodId) (args : Array Value) (below : List Frame) (meth : Method) (c : Code) (Z : CZ) (Y : CY) (H : Heap) (cells slots : Nat) (Qc : Array Value → State → Outcome → State → Prop) (free : Addr → Prop) (r : Int32) (f : Option Int32) : Prop := ∀ (locs : List Loc) (ls : Array Slot), (∀ q ∈ locs, free q.base) → lv_has ls 5 [(0, .ref (cSa Z 0))] → f  = some r → W p l e R s m args below meth c H locs cells slots (MQ below Qc args s cells slots free) (F0 m 0 ls [])
def cf_bestNow_b43 (C : St) (k6 : Int32 → Int32 → Int32 → Option Int32) (x2 : Int32) (x3 : Int32) (x4 : Int32) (t0 : Int32) : Option Int32 :=
  lt_ (if x2 < x4 then x4 else x2) fun v1 =>
  k6 t0 v1 (x3 + 1)
theorem cf_bestNow_w43 {p : Program} {l : Launch} {e : Env} {R : Room} {s : State} {m : MethodId} {args : Array Value} {below : List Frame} {meth : Method} {c : Code} {Z : CZ} {Y : CY} {A : Nat → Prop} {C : St} {H : Heap} {cells slots : Nat} {Qc : Array Value → State → Outcome → State → Prop} {free : Addr → Prop} (X : CCx p s m args meth c cX0_bestNow 5 (some .int) RX0 Z) (hM : cPD Z Y A C H) (hR : cf_bestNow_rm.frames ≤ R.frames ∧ cf_bestNow_rm.locals ≤ R.locals ∧ cells ≤ R.cells ∧ slots ≤ R.slots) (hF : ∀ q, cFr Z q → free q) {r : Int32} (hQ : ∀ t : State, t.heap = H → s.WarmedH t.vm → Qc args s (.returned (some (.int r))) t) {k6 : Int32 → Int32 → Int32 → Option Int32} (hk6 : cf_bestNow_P6 p l e R s m args below meth c Z Y H cells slots Qc free r k6) : cf_bestNow_P43 p l e R s m args below meth c Z Y H cells slots Qc free r (cf_bestNow_b43 C k6) := by
  intro x2 x3 x4 t0 locs ls hL hl h
  obtain ⟨⟨hx, hb, hr, hlocks, hml, hown, hts⟩, hK⟩ := id X
  unfold cf_bestNow_b43 at h
  refine lv_istore_n (lv' := [(1, .int t0), (0, .ref (cSa Z 0)), (2, .int x2), (3, .int x3), (4, .int x4)]) hx hb dX0_bestNow_43 rfl hl (by decide) rfl (fun ls hl => ?_)
  refine lv_iload_n hx hb dX0_bestNow_44 rfl (lv_at hl 2 rfl) ?_
  refine lv_iload hx hb dX0_bestNow_45 (lv_at hl 4 rfl) ?_
  refine va_mmax (rest := []) hx hb (hml.trans hl.1.symm) hown (hts _ q915) (hts _ q572) (hts _ q94) (hts _ q573) (Nat.le_trans (m := cf_bestNow_rm.frames) (Nat.le_of_ble_eq_true rfl) hR.1) (Nat.le_trans (m := cf_bestNow_rm.locals) (Nat.le_of_ble_eq_true rfl) hR.2.1) hR.2.2.1 hR.2.2.2 dX0_bestNow_47 ?_
  refine lv_topi (fun v1 e_v1 => ?_)
  have h := lt_i h e_v1
  refine lv_istore_n (lv' := [(2, .int v1), (1, .int t0), (0, .ref (cSa Z 0)), (3, .int x3), (4, .int x4)]) hx hb dX0_bestNow_50 rfl hl (by decide) rfl (fun ls hl => ?_)
  refine lv_iinc (v := (x3 + 1)) (lv' := [(3, .int (x3 + 1)), (2, .int v1), (1, .int t0), (0, .ref (cSa Z 0)), (4, .int x4)]) hx hb dX0_bestNow_51 hl (k := 3) rfl rfl (by decide) rfl (fun ls hl => ?_)
  refine lv_goto (tgt := 6) hx hb dX0_bestNow_54 (by decide) ?_
  exact hk6 t0 v1 (x3 + 1) _ ls hL (lv_sub hl [3, 2, 1, 0] rfl) h
def cf_bestNow_b11 (C : St) (k6 : Int32 → Int32 → Int32 → Option Int32) (x1 : Int32) (x2 : Int32) (x3 : Int32) (t0 : Int32) (t1 : Int32) : Option Int32 :=
  if t0 ≤ t1 then (some x1)
  else (bd_ (cf_deed_2 C x3) fun v2 =>
    fx_ (cNn C 0) v2 (C (100 + v2) 3) fun v3 =>
    bd_ (cf_sparedOf C ((1 : Int32) <<< (x3 &&& 31))) fun v4 =>
    lt_ (v3 + v4) fun v5 =>
    if v5 ≤ x2 then (cf_bestNow_b43 C k6 x2 x3 v5 x1)
    else (cf_bestNow_b43 C k6 x2 x3 v5 x3))
theorem cf_bestNow_w11 {p : Program} {l : Launch} {e : Env} {R : Room} {s : State} {m : MethodId} {args : Array Value} {below : List Frame} {meth : Method} {c : Code} {Z : CZ} {Y : CY} {A : Nat → Prop} {C : St} {H : Heap} {cells slots : Nat} {Qc : Array Value → State → Outcome → State → Prop} {free : Addr → Prop} (X : CCx p s m args meth c cX0_bestNow 5 (some .int) RX0 Z) (hM : cPD Z Y A C H) (hR : cf_bestNow_rm.frames ≤ R.frames ∧ cf_bestNow_rm.locals ≤ R.locals ∧ cells ≤ R.cells ∧ slots ≤ R.slots) (hF : ∀ q, cFr Z q → free q) {r : Int32} (hQ : ∀ t : State, t.heap = H → s.WarmedH t.vm → Qc args s (.returned (some (.int r))) t) {k6 : Int32 → Int32 → Int32 → Option Int32} (hk6 : cf_bestNow_P6 p l e R s m args below meth c Z Y H cells slots Qc free r k6) : cf_bestNow_P11 p l e R s m args below meth c Z Y H cells slots Qc free r (cf_bestNow_b11 C k6) := by
  intro x1 x2 x3 t0 t1 locs ls hL hl h
  obtain ⟨⟨hx, hb, hr, hlocks, hml, hown, hts⟩, hK⟩ := id X
  unfold cf_bestNow_b11 at h
  refine lv_icmp_ge (tgt := 57) hx hb dX0_bestNow_11 (by decide) (fun c1 => ?_) (fun c1 => ?_)
  · have h := ip_ c1 h
    refine lv_iload_n hx hb dX0_bestNow_57 rfl (lv_at hl 1 rfl) ?_
    have h := so_ h
    subst h
    exact W.iret hx hb hr (fun t ht hW => hQ t ht hW) hL dX0_bestNow_58
  · have h := in_ c1 h
    refine lv_aload_n hx hb dX0_bestNow_14 rfl (lv_at hl 0 rfl) ?_
    refine lv_iload_n hx hb dX0_bestNow_15 rfl (lv_at hl 3 rfl) ?_
    obtain ⟨v2, q_v2, h⟩ := bd_e h
    refine f_roR (As := [.int x3]) (rest := []) X hM (c_recv0 X hM) hL hF (cf_deed_2_met _ Z Y A C x3 v2 q_v2) (lw_V q647 q649 qs9 q79 q650) cf_deed_2_hd ⟨rfl, rfl⟩ ⟨Nat.le_trans (m := cf_bestNow_rm.frames) (Nat.le_of_ble_eq_true rfl) hR.1, Nat.le_trans (m := cf_bestNow_rm.locals) (Nat.le_of_ble_eq_true rfl) hR.2.1⟩ ⟨hR.2.2.1, hR.2.2.2⟩ rfl hl.1 rfl (Nat.le_of_ble_eq_true rfl) dX0_bestNow_16 (fun locs hL => ?_)
    obtain ⟨b_v3, h⟩ := fx_e h
    refine gq3 X hM b_v3 dX0_bestNow_19 ?_
    refine lv_topi (fun v3 e_v3 => ?_)
    have h := h v3 e_v3
    refine lv_aload_n hx hb dX0_bestNow_22 rfl (lv_at hl 0 rfl) ?_
    refine lv_iconst (v := 1) hx hb dX0_bestNow_23 (by decide) ?_
    refine lv_iload_n hx hb dX0_bestNow_24 rfl (lv_at hl 3 rfl) ?_
    refine lv_ishl hx hb dX0_bestNow_25 ?_
    obtain ⟨v4, q_v4, h⟩ := bd_e h
    refine f_roI (As := [.int ((1 : Int32) <<< (x3 &&& 31))]) (rest := [.int v3]) X hM (c_recv0 X hM) hL hF (cf_sparedOf_met _ Z Y A C ((1 : Int32) <<< (x3 &&& 31)) v4 q_v4) (lw_V q898 q900 qs36 q79 q901) cf_sparedOf_hd ⟨rfl, rfl⟩ ⟨Nat.le_trans (m := cf_bestNow_rm.frames) (Nat.le_of_ble_eq_true rfl) hR.1, Nat.le_trans (m := cf_bestNow_rm.locals) (Nat.le_of_ble_eq_true rfl) hR.2.1⟩ ⟨hR.2.2.1, hR.2.2.2⟩ rfl hl.1 rfl (Nat.le_of_ble_eq_true rfl) dX0_bestNow_26 (fun locs hL => ?_)
    refine lv_iadd hx hb dX0_bestNow_29 ?_
    refine lv_topi (fun v5 e_v5 => ?_)
    have h := lt_i h e_v5
    refine lv_istore (lv' := [(4, .int v5), (0, .ref (cSa Z 0)), (1, .int x1), (2, .int x2), (3, .int x3)]) hx hb dX0_bestNow_30 hl (by decide) rfl (fun ls hl => ?_)
    refine lv_iload hx hb dX0_bestNow_32 (lv_at hl 0 rfl) ?_
    refine lv_iload_n hx hb dX0_bestNow_34 rfl (lv_at hl 3 rfl) ?_
    refine lv_icmp_le (tgt := 42) hx hb dX0_bestNow_35 (by decide) (fun c6 => ?_) (fun c6 => ?_)
    · have h := ip_ c6 h
      refine lv_iload_n hx hb dX0_bestNow_42 rfl (lv_at hl 2 rfl) ?_
      exact cf_bestNow_w43 X hM hR hF hQ hk6 x2 x3 v5 x1 _ ls hL (lv_sub hl [1, 3, 4, 0] rfl) h
    · have h := in_ c6 h
      refine lv_iload_n hx hb dX0_bestNow_38 rfl (lv_at hl 4 rfl) ?_
      refine lv_goto (tgt := 43) hx hb dX0_bestNow_39 (by decide) ?_
      exact cf_bestNow_w43 X hM hR hF hQ hk6 x2 x3 v5 x3 _ ls hL (lv_sub hl [1, 3, 4, 0] rfl) h
def cf_bestNow_b6 (C : St) (k6 : Int32 → Int32 → Int32 → Option Int32) (x1 : Int32) (x2 : Int32) (x3 : Int32) : Option Int32 :=
  bd_ (cf_deeds C ) fun v1 =>
  cf_bestNow_b11 C k6 x1 x2 x3 v1 x3
theorem cf_bestNow_w6 {p : Program} {l : Launch} {e : Env} {R : Room} {s : State} {m : MethodId} {args : Array Value} {below : List Frame} {meth : Method} {c : Code} {Z : CZ} {Y : CY} {A : Nat → Prop} {C : St} {H : Heap} {cells slots : Nat} {Qc : Array Value → State → Outcome → State → Prop} {free : Addr → Prop} (X : CCx p s m args meth c cX0_bestNow 5 (some .int) RX0 Z) (hM : cPD Z Y A C H) (hR : cf_bestNow_rm.frames ≤ R.frames ∧ cf_bestNow_rm.locals ≤ R.locals ∧ cells ≤ R.cells ∧ slots ≤ R.slots) (hF : ∀ q, cFr Z q → free q) {r : Int32} (hQ : ∀ t : State, t.heap = H → s.WarmedH t.vm → Qc args s (.returned (some (.int r))) t) {k6 : Int32 → Int32 → Int32 → Option Int32} (hk6 : cf_bestNow_P6 p l e R s m args below meth c Z Y H cells slots Qc free r k6) : cf_bestNow_P6 p l e R s m args below meth c Z Y H cells slots Qc free r (cf_bestNow_b6 C k6) := by
  intro x1 x2 x3 locs ls hL hl h
  obtain ⟨⟨hx, hb, hr, hlocks, hml, hown, hts⟩, hK⟩ := id X
  unfold cf_bestNow_b6 at h
  refine lv_iload_n hx hb dX0_bestNow_6 rfl (lv_at hl 3 rfl) ?_
  refine lv_aload_n hx hb dX0_bestNow_7 rfl (lv_at hl 0 rfl) ?_
  obtain ⟨v1, q_v1, h⟩ := bd_e h
  refine f_roI (As := []) (rest := [.int x3]) X hM (c_recv0 X hM) hL hF (cf_deeds_met _ Z Y A C  v1 q_v1) (lw_V q630 q632 qs7 q79 q633) cf_deeds_hd ⟨rfl, rfl⟩ ⟨Nat.le_trans (m := cf_bestNow_rm.frames) (Nat.le_of_ble_eq_true rfl) hR.1, Nat.le_trans (m := cf_bestNow_rm.locals) (Nat.le_of_ble_eq_true rfl) hR.2.1⟩ ⟨hR.2.2.1, hR.2.2.2⟩ rfl hl.1 rfl (Nat.le_of_ble_eq_true rfl) dX0_bestNow_8 (fun locs hL => ?_)
  exact cf_bestNow_w11 X hM hR hF hQ hk6 x1 x2 x3 v1 x3 _ ls hL (lv_sub hl [0, 1, 2, 3] rfl) h
def cf_bestNow_l6 (C : St) (n : Nat) : Int32 → Int32 → Int32 → Option Int32 := lp (fun _ _ _ => none) (cf_bestNow_b6 C) n
theorem cf_bestNow_lw6 {p : Program} {l : Launch} {e : Env} {R : Room} {s : State} {m : MethodId} {args : Array Value} {below : List Frame} {meth : Method} {c : Code} {Z : CZ} {Y : CY} {A : Nat → Prop} {C : St} {H : Heap} {cells slots : Nat} {Qc : Array Value → State → Outcome → State → Prop} {free : Addr → Prop} (X : CCx p s m args meth c cX0_bestNow 5 (some .int) RX0 Z) (hM : cPD Z Y A C H) (hR : cf_bestNow_rm.frames ≤ R.frames ∧ cf_bestNow_rm.locals ≤ R.locals ∧ cells ≤ R.cells ∧ slots ≤ R.slots) (hF : ∀ q, cFr Z q → free q) {r : Int32} (hQ : ∀ t : State, t.heap = H → s.WarmedH t.vm → Qc args s (.returned (some (.int r))) t) : ∀ n : Nat, cf_bestNow_P6 p l e R s m args below meth c Z Y H cells slots Qc free r (cf_bestNow_l6 C n) := by
  intro n
  induction n with
  | zero => intro x1 x2 x3 locs ls hL hl h; exact no_ h
  | succ n ih => exact cf_bestNow_w6 X hM hR hF hQ ih
def cf_bestNow (C : St) : Option Int32 :=
  cf_bestNow_l6 C FU (-1 : Int32) (0 : Int32) (0 : Int32)
theorem cf_bestNow_w0 {p : Program} {l : Launch} {e : Env} {R : Room} {s : State} {m : MethodId} {args : Array Value} {below : List Frame} {meth : Method} {c : Code} {Z : CZ} {Y : CY} {A : Nat → Prop} {C : St} {H : Heap} {cells slots : Nat} {Qc : Array Value → State → Outcome → State → Prop} {free : Addr → Prop} (X : CCx p s m args meth c cX0_bestNow 5 (some .int) RX0 Z) (hM : cPD Z Y A C H) (hR : cf_bestNow_rm.frames ≤ R.frames ∧ cf_bestNow_rm.locals ≤ R.locals ∧ cells ≤ R.cells ∧ slots ≤ R.slots) (hF : ∀ q, cFr Z q → free q) {r : Int32} (hQ : ∀ t : State, t.heap = H → s.WarmedH t.vm → Qc args s (.returned (some (.int r))) t) : cf_bestNow_P0 p l e R s m args below meth c Z Y H cells slots Qc free r (cf_bestNow C) := by
  intro locs ls hL hl h
  obtain ⟨⟨hx, hb, hr, hlocks, hml, hown, hts⟩, hK⟩ := id X
  unfold cf_bestNow at h
  refine lv_iconst (v := -1) hx hb dX0_bestNow_0 (by decide) ?_
  refine lv_istore_n (lv' := [(1, .int (-1 : Int32)), (0, .ref (cSa Z 0))]) hx hb dX0_bestNow_1 rfl hl (by decide) rfl (fun ls hl => ?_)
  refine lv_iconst (v := 0) hx hb dX0_bestNow_2 (by decide) ?_
  refine lv_istore_n (lv' := [(2, .int (0 : Int32)), (1, .int (-1 : Int32)), (0, .ref (cSa Z 0))]) hx hb dX0_bestNow_3 rfl hl (by decide) rfl (fun ls hl => ?_)
  refine lv_iconst (v := 0) hx hb dX0_bestNow_4 (by decide) ?_
  refine lv_istore_n (lv' := [(3, .int (0 : Int32)), (2, .int (0 : Int32)), (1, .int (-1 : Int32)), (0, .ref (cSa Z 0))]) hx hb dX0_bestNow_5 rfl hl (by decide) rfl (fun ls hl => ?_)
  exact cf_bestNow_lw6 X hM hR hF hQ FU (-1 : Int32) (0 : Int32) (0 : Int32) _ ls hL (lv_sub hl [3, 2, 1, 0] rfl) h
theorem cf_bestNow_hd : yX0_bestNow.cls = RX0 ∧ yX0_bestNow.cls ≠ "java/lang/invoke/MethodHandle" ∧ yX0_bestNow.cls ≠ "java/lang/invoke/VarHandle" ∧ (parseMethodDescriptor yX0_bestNow.desc).map (fun d => d.parameters.length) = some 0 := by decide +kernel
theorem cf_bestNow_met (l : Launch) (Z : CZ) (Y : CY) (A : Nat → Prop) (C : St) (r : Int32) (h : cf_bestNow C  = some r) : Met l yX0_bestNow (ws_ yX0_bestNow cX0_bestNow 5 (some .int)) cf_bestNow_rm (va_Pc [.ref (cSa Z 0)] (cS Z Y A C)) (Qro (some (.int r))) 0 0 (cFr Z) := by
  refine Met.ofW (cc := cX0_bestNow) (maxL := 5) (ret := some .int) (by decide) rfl ?_
  intro p e s m args below meth c s₁ B hml hv
  obtain ⟨rfl, hv⟩ := hv
  have hts := atoms_spec (ws := ws_ yX0_bestNow cX0_bestNow 5 (some .int)) B.pre
  have hts : ∀ w ∈ lw_all, w.before _ s = true := fun w h => hts w (List.mem_cons_of_mem _ h)
  have X : CCx p s m _ meth c cX0_bestNow 5 (some .int) RX0 Z := ⟨⟨B.exec, B.bytes, B.returns, B.notSynchronized, hml, findClass_of_methodNamed B.named, hts⟩, hv.2⟩
  have hl := lv_entry [.ref (cSa Z 0)] (n := 5) (Nat.le_of_ble_eq_true rfl)
  rw [lg_entry_eq]
  generalize (lg_sl [.ref (cSa Z 0)] ++ List.replicate (5 - (lg_sl [.ref (cSa Z 0)]).length) Slot.unset).toArray = ls at hl ⊢
  exact cf_bestNow_w0 X hv.1 ⟨Nat.le_refl _, Nat.le_refl _, Nat.le_refl _, Nat.le_refl _⟩ (fun _ h => h) (fun t ht _ => ⟨rfl, ht⟩)  [] ls (fun q hq => by cases hq) hl h

/-! SecondChances.regretsOf(II)J -/
def cf_regretsOf_rm : Room := { frames := 102, cells := 0, slots := 0, locals := 2347 }
def cf_regretsOf_P29 (p : Program) (l : Launch) (e : Env) (R : Room) (s : State) (m : MethodId) (args : Array Value) (below : List Frame) (meth : Method) (c : Code) (Z : CZ) (Y : CY) (H : Heap) (cells slots : Nat) (Qc : Array Value → State → Outcome → State → Prop) (free : Addr → Prop) (r : Int64) (f : Int32 → Int32 → Int32 → Int32 → Int32 → Option Int64) : Prop := ∀ (x1 : Int32) (x2 : Int32) (x4 : Int32) (t0 : Int32) (t1 : Int32) (locs : List Loc) (ls : Array Slot), (∀ q ∈ locs, free q.base) → lv_has ls 5 [(0, .ref (cSa Z 0)), (1, .int x1), (2, .int x2), (4, .int x4)] → f x1 x2 x4 t0 t1 = some r → W p l e R s m args below meth c H locs cells slots (MQ below Qc args s cells slots free) (F0 m 29 ls [.int t0, .int t1])
def cf_regretsOf_P11 (p : Program) (l : Launch) (e : Env) (R : Room) (s : State) (m : MethodId) (args : Array Value) (below : List Frame) (meth : Method) (c : Code) (Z : CZ) (Y : CY) (H : Heap) (cells slots : Nat) (Qc : Array Value → State → Outcome → State → Prop) (free : Addr → Prop) (r : Int64) (f : Int32 → Int32 → Int32 → Int32 → Int32 → Int32 → Option Int64) : Prop := ∀ (x1 : Int32) (x2 : Int32) (x3 : Int32) (x4 : Int32) (t0 : Int32) (t1 : Int32) (locs : List Loc) (ls : Array Slot), (∀ q ∈ locs, free q.base) → lv_has ls 5 [(0, .ref (cSa Z 0)), (1, .int x1), (2, .int x2), (3, .int x3), (4, .int x4)] → f x1 x2 x3 x4 t0 t1 = some r → W p l e R s m args below meth c H locs cells slots (MQ below Qc args s cells slots free) (F0 m 11 ls [.int t0, .int t1])
def cf_regretsOf_P5 (p : Program) (l : Launch) (e : Env) (R : Room) (s : State) (m : MethodId) (args : Array Value) (below : List Frame) (meth : Method) (c : Code) (Z : CZ) (Y : CY) (H : Heap) (cells slots : Nat) (Qc : Array Value → State → Outcome → State → Prop) (free : Addr → Prop) (r : Int64) (f : Int32 → Int32 → Int32 → Int32 → Option Int64) : Prop := ∀ (x1 : Int32) (x2 : Int32) (x3 : Int32) (x4 : Int32) (locs : List Loc) (ls : Array Slot), (∀ q ∈ locs, free q.base) → lv_has ls 5 [(0, .ref (cSa Z 0)), (1, .int x1), (2, .int x2), (3, .int x3), (4, .int x4)] → f x1 x2 x3 x4 = some r → W p l e R s m args below meth c H locs cells slots (MQ below Qc args s cells slots free) (F0 m 5 ls [])
def cf_regretsOf_P0 (p : Program) (l : Launch) (e : Env) (R : Room) (s : State) (m : MethodId) (args : Array Value) (below : List Frame) (meth : Method) (c : Code) (Z : CZ) (Y : CY) (H : Heap) (cells slots : Nat) (Qc : Array Value → State → Outcome → State → Prop) (free : Addr → Prop) (r : Int64) (f : Int32 → Int32 → Option Int64) : Prop := ∀ (x1 : Int32) (x2 : Int32) (locs : List Loc) (ls : Array Slot), (∀ q ∈ locs, free q.base) → lv_has ls 5 [(0, .ref (cSa Z 0)), (1, .int x1), (2, .int x2)] → f x1 x2 = some r → W p l e R s m args below meth c H locs cells slots (MQ below Qc args s cells slots free) (F0 m 0 ls [])
def cf_regretsOf_b29 (C : St) (k5 : Int32 → Int32 → Int32 → Int32 → Option Int64) (x1 : Int32) (x2 : Int32) (x4 : Int32) (t0 : Int32) (t1 : Int32) : Option Int64 :=
  lt_ (t1 + t0) fun v1 =>
  k5 x1 x2 v1 (x4 + 1)
theorem cf_regretsOf_w29 {p : Program} {l : Launch} {e : Env} {R : Room} {s : State} {m : MethodId} {args : Array Value} {below : List Frame} {meth : Method} {c : Code} {Z : CZ} {Y : CY} {A : Nat → Prop} {C : St} {H : Heap} {cells slots : Nat} {Qc : Array Value → State → Outcome → State → Prop} {free : Addr → Prop} (X : CCx p s m args meth c cX0_regretsOf 5 (some .long) RX0 Z) (hM : cPD Z Y A C H) (hR : cf_regretsOf_rm.frames ≤ R.frames ∧ cf_regretsOf_rm.locals ≤ R.locals ∧ cells ≤ R.cells ∧ slots ≤ R.slots) (hF : ∀ q, cFr Z q → free q) {r : Int64} (hQ : ∀ t : State, t.heap = H → s.WarmedH t.vm → Qc args s (.returned (some (.long r))) t) {k5 : Int32 → Int32 → Int32 → Int32 → Option Int64} (hk5 : cf_regretsOf_P5 p l e R s m args below meth c Z Y H cells slots Qc free r k5) : cf_regretsOf_P29 p l e R s m args below meth c Z Y H cells slots Qc free r (cf_regretsOf_b29 C k5) := by
  intro x1 x2 x4 t0 t1 locs ls hL hl h
  obtain ⟨⟨hx, hb, hr, hlocks, hml, hown, hts⟩, hK⟩ := id X
  unfold cf_regretsOf_b29 at h
  refine lv_iadd hx hb dX0_regretsOf_29 ?_
  refine lv_topi (fun v1 e_v1 => ?_)
  have h := lt_i h e_v1
  refine lv_istore_n (lv' := [(3, .int v1), (0, .ref (cSa Z 0)), (1, .int x1), (2, .int x2), (4, .int x4)]) hx hb dX0_regretsOf_30 rfl hl (by decide) rfl (fun ls hl => ?_)
  refine lv_iinc (v := (x4 + 1)) (lv' := [(4, .int (x4 + 1)), (3, .int v1), (0, .ref (cSa Z 0)), (1, .int x1), (2, .int x2)]) hx hb dX0_regretsOf_31 hl (k := 4) rfl rfl (by decide) rfl (fun ls hl => ?_)
  refine lv_goto (tgt := 5) hx hb dX0_regretsOf_34 (by decide) ?_
  exact hk5 x1 x2 v1 (x4 + 1) _ ls hL (lv_sub hl [2, 3, 4, 1, 0] rfl) h
def cf_regretsOf_b11 (C : St) (k5 : Int32 → Int32 → Int32 → Int32 → Option Int64) (x1 : Int32) (x2 : Int32) (x3 : Int32) (x4 : Int32) (t0 : Int32) (t1 : Int32) : Option Int64 :=
  if t0 ≤ t1 then (bd_ (cf_deeds C ) fun v2 =>
    if x1 ≤ v2 then (bd_ (cf_choices x3 x1) fun v4 =>
      bd_ (cf_deeds C ) fun v5 =>
      bd_ (cf_choices v5 x1) fun v6 =>
      bd_ (cf_part v4 v6 x2) fun v7 =>
      some v7)
    else (bd_ (cf_no (-3 : Int32)) fun v8 =>
      some v8))
  else (bd_ (cf_hoursOf C x4) fun v9 =>
    if v9 = 0 then (cf_regretsOf_b29 C k5 x1 x2 x4 (1 : Int32) x3)
    else (cf_regretsOf_b29 C k5 x1 x2 x4 (0 : Int32) x3))
theorem cf_regretsOf_w11 {p : Program} {l : Launch} {e : Env} {R : Room} {s : State} {m : MethodId} {args : Array Value} {below : List Frame} {meth : Method} {c : Code} {Z : CZ} {Y : CY} {A : Nat → Prop} {C : St} {H : Heap} {cells slots : Nat} {Qc : Array Value → State → Outcome → State → Prop} {free : Addr → Prop} (X : CCx p s m args meth c cX0_regretsOf 5 (some .long) RX0 Z) (hM : cPD Z Y A C H) (hR : cf_regretsOf_rm.frames ≤ R.frames ∧ cf_regretsOf_rm.locals ≤ R.locals ∧ cells ≤ R.cells ∧ slots ≤ R.slots) (hF : ∀ q, cFr Z q → free q) {r : Int64} (hQ : ∀ t : State, t.heap = H → s.WarmedH t.vm → Qc args s (.returned (some (.long r))) t) {k5 : Int32 → Int32 → Int32 → Int32 → Option Int64} (hk5 : cf_regretsOf_P5 p l e R s m args below meth c Z Y H cells slots Qc free r k5) : cf_regretsOf_P11 p l e R s m args below meth c Z Y H cells slots Qc free r (cf_regretsOf_b11 C k5) := by
  intro x1 x2 x3 x4 t0 t1 locs ls hL hl h
  obtain ⟨⟨hx, hb, hr, hlocks, hml, hown, hts⟩, hK⟩ := id X
  unfold cf_regretsOf_b11 at h
  refine lv_icmp_ge (tgt := 37) hx hb dX0_regretsOf_11 (by decide) (fun c1 => ?_) (fun c1 => ?_)
  · have h := ip_ c1 h
    refine lv_aload_n hx hb dX0_regretsOf_37 rfl (lv_at hl 0 rfl) ?_
    obtain ⟨v2, q_v2, h⟩ := bd_e h
    refine f_roI (As := []) (rest := []) X hM (c_recv0 X hM) hL hF (cf_deeds_met _ Z Y A C  v2 q_v2) (lw_V q630 q632 qs7 q79 q633) cf_deeds_hd ⟨rfl, rfl⟩ ⟨Nat.le_trans (m := cf_regretsOf_rm.frames) (Nat.le_of_ble_eq_true rfl) hR.1, Nat.le_trans (m := cf_regretsOf_rm.locals) (Nat.le_of_ble_eq_true rfl) hR.2.1⟩ ⟨hR.2.2.1, hR.2.2.2⟩ rfl hl.1 rfl (Nat.le_of_ble_eq_true rfl) dX0_regretsOf_38 (fun locs hL => ?_)
    refine lv_iload_n hx hb dX0_regretsOf_41 rfl (lv_at hl 1 rfl) ?_
    refine lv_icmp_ge (tgt := 53) hx hb dX0_regretsOf_42 (by decide) (fun c3 => ?_) (fun c3 => ?_)
    · have h := ip_ c3 h
      refine lv_iload_n hx hb dX0_regretsOf_53 rfl (lv_at hl 3 rfl) ?_
      refine lv_iload_n hx hb dX0_regretsOf_54 rfl (lv_at hl 1 rfl) ?_
      obtain ⟨v4, q_v4, h⟩ := bd_e h
      refine s_roJ (As := [.int x3, .int x1]) (rest := []) X.1 (cf_choices_met _ x3 x1 v4 q_v4) (lw_S q925 q926 q79 q927) cf_choices_hd ⟨rfl, rfl⟩ ⟨Nat.le_trans (m := cf_regretsOf_rm.frames) (Nat.le_of_ble_eq_true rfl) hR.1, Nat.le_trans (m := cf_regretsOf_rm.locals) (Nat.le_of_ble_eq_true rfl) hR.2.1⟩ ⟨hR.2.2.1, hR.2.2.2⟩ rfl hl.1 rfl (Nat.le_of_ble_eq_true rfl) dX0_regretsOf_55 ?_
      refine lv_aload_n hx hb dX0_regretsOf_58 rfl (lv_at hl 0 rfl) ?_
      obtain ⟨v5, q_v5, h⟩ := bd_e h
      refine f_roI (As := []) (rest := [.long v4]) X hM (c_recv0 X hM) hL hF (cf_deeds_met _ Z Y A C  v5 q_v5) (lw_V q630 q632 qs7 q79 q633) cf_deeds_hd ⟨rfl, rfl⟩ ⟨Nat.le_trans (m := cf_regretsOf_rm.frames) (Nat.le_of_ble_eq_true rfl) hR.1, Nat.le_trans (m := cf_regretsOf_rm.locals) (Nat.le_of_ble_eq_true rfl) hR.2.1⟩ ⟨hR.2.2.1, hR.2.2.2⟩ rfl hl.1 rfl (Nat.le_of_ble_eq_true rfl) dX0_regretsOf_59 (fun locs hL => ?_)
      refine lv_iload_n hx hb dX0_regretsOf_62 rfl (lv_at hl 1 rfl) ?_
      obtain ⟨v6, q_v6, h⟩ := bd_e h
      refine s_roJ (As := [.int v5, .int x1]) (rest := [.long v4]) X.1 (cf_choices_met _ v5 x1 v6 q_v6) (lw_S q925 q926 q79 q927) cf_choices_hd ⟨rfl, rfl⟩ ⟨Nat.le_trans (m := cf_regretsOf_rm.frames) (Nat.le_of_ble_eq_true rfl) hR.1, Nat.le_trans (m := cf_regretsOf_rm.locals) (Nat.le_of_ble_eq_true rfl) hR.2.1⟩ ⟨hR.2.2.1, hR.2.2.2⟩ rfl hl.1 rfl (Nat.le_of_ble_eq_true rfl) dX0_regretsOf_63 ?_
      refine lv_iload_n hx hb dX0_regretsOf_66 rfl (lv_at hl 2 rfl) ?_
      obtain ⟨v7, q_v7, h⟩ := bd_e h
      refine s_roJ (As := [.long v4, .long v6, .int x2]) (rest := []) X.1 (cf_part_met _ v4 v6 x2 v7 q_v7) (lw_S q827 q828 q79 q829) cf_part_hd ⟨rfl, rfl⟩ ⟨Nat.le_trans (m := cf_regretsOf_rm.frames) (Nat.le_of_ble_eq_true rfl) hR.1, Nat.le_trans (m := cf_regretsOf_rm.locals) (Nat.le_of_ble_eq_true rfl) hR.2.1⟩ ⟨hR.2.2.1, hR.2.2.2⟩ rfl hl.1 rfl (Nat.le_of_ble_eq_true rfl) dX0_regretsOf_67 ?_
      have h := so_ h
      subst h
      exact W.lret hx hb hr (fun t ht hW => hQ t ht hW) hL dX0_regretsOf_70
    · have h := in_ c3 h
      refine lv_bipush (v := -3) hx hb dX0_regretsOf_45 (by decide) ?_
      obtain ⟨v8, q_v8, h⟩ := bd_e h
      refine s_roJ (As := [.int (-3 : Int32)]) (rest := []) X.1 (cf_no_met _ (-3 : Int32) v8 q_v8) (lw_S q822 q823 q79 q824) cf_no_hd ⟨rfl, rfl⟩ ⟨Nat.le_trans (m := cf_regretsOf_rm.frames) (Nat.le_of_ble_eq_true rfl) hR.1, Nat.le_trans (m := cf_regretsOf_rm.locals) (Nat.le_of_ble_eq_true rfl) hR.2.1⟩ ⟨hR.2.2.1, hR.2.2.2⟩ rfl hl.1 rfl (Nat.le_of_ble_eq_true rfl) dX0_regretsOf_47 ?_
      refine lv_goto (tgt := 70) hx hb dX0_regretsOf_50 (by decide) ?_
      have h := so_ h
      subst h
      exact W.lret hx hb hr (fun t ht hW => hQ t ht hW) hL dX0_regretsOf_70
  · have h := in_ c1 h
    refine lv_iload_n hx hb dX0_regretsOf_14 rfl (lv_at hl 3 rfl) ?_
    refine lv_aload_n hx hb dX0_regretsOf_15 rfl (lv_at hl 0 rfl) ?_
    refine lv_iload hx hb dX0_regretsOf_16 (lv_at hl 4 rfl) ?_
    obtain ⟨v9, q_v9, h⟩ := bd_e h
    refine f_roI (As := [.int x4]) (rest := [.int x3]) X hM (c_recv0 X hM) hL hF (cf_hoursOf_met _ Z Y A C x4 v9 q_v9) (lw_V q715 q717 qs16 q79 q718) cf_hoursOf_hd ⟨rfl, rfl⟩ ⟨Nat.le_trans (m := cf_regretsOf_rm.frames) (Nat.le_of_ble_eq_true rfl) hR.1, Nat.le_trans (m := cf_regretsOf_rm.locals) (Nat.le_of_ble_eq_true rfl) hR.2.1⟩ ⟨hR.2.2.1, hR.2.2.2⟩ rfl hl.1 rfl (Nat.le_of_ble_eq_true rfl) dX0_regretsOf_18 (fun locs hL => ?_)
    refine lv_if_ne (tgt := 28) hx hb dX0_regretsOf_21 (by decide) (fun c10 => ?_) (fun c10 => ?_)
    · have h := in_ c10 h
      refine lv_iconst (v := 0) hx hb dX0_regretsOf_28 (by decide) ?_
      exact cf_regretsOf_w29 X hM hR hF hQ hk5 x1 x2 x4 (0 : Int32) x3 _ ls hL (lv_sub hl [0, 1, 2, 4] rfl) h
    · have h := ip_ c10 h
      refine lv_iconst (v := 1) hx hb dX0_regretsOf_24 (by decide) ?_
      refine lv_goto (tgt := 29) hx hb dX0_regretsOf_25 (by decide) ?_
      exact cf_regretsOf_w29 X hM hR hF hQ hk5 x1 x2 x4 (1 : Int32) x3 _ ls hL (lv_sub hl [0, 1, 2, 4] rfl) h
def cf_regretsOf_b5 (C : St) (k5 : Int32 → Int32 → Int32 → Int32 → Option Int64) (x1 : Int32) (x2 : Int32) (x3 : Int32) (x4 : Int32) : Option Int64 :=
  bd_ (cf_deeds C ) fun v1 =>
  cf_regretsOf_b11 C k5 x1 x2 x3 x4 v1 x4
theorem cf_regretsOf_w5 {p : Program} {l : Launch} {e : Env} {R : Room} {s : State} {m : MethodId} {args : Array Value} {below : List Frame} {meth : Method} {c : Code} {Z : CZ} {Y : CY} {A : Nat → Prop} {C : St} {H : Heap} {cells slots : Nat} {Qc : Array Value → State → Outcome → State → Prop} {free : Addr → Prop} (X : CCx p s m args meth c cX0_regretsOf 5 (some .long) RX0 Z) (hM : cPD Z Y A C H) (hR : cf_regretsOf_rm.frames ≤ R.frames ∧ cf_regretsOf_rm.locals ≤ R.locals ∧ cells ≤ R.cells ∧ slots ≤ R.slots) (hF : ∀ q, cFr Z q → free q) {r : Int64} (hQ : ∀ t : State, t.heap = H → s.WarmedH t.vm → Qc args s (.returned (some (.long r))) t) {k5 : Int32 → Int32 → Int32 → Int32 → Option Int64} (hk5 : cf_regretsOf_P5 p l e R s m args below meth c Z Y H cells slots Qc free r k5) : cf_regretsOf_P5 p l e R s m args below meth c Z Y H cells slots Qc free r (cf_regretsOf_b5 C k5) := by
  intro x1 x2 x3 x4 locs ls hL hl h
  obtain ⟨⟨hx, hb, hr, hlocks, hml, hown, hts⟩, hK⟩ := id X
  unfold cf_regretsOf_b5 at h
  refine lv_iload hx hb dX0_regretsOf_5 (lv_at hl 4 rfl) ?_
  refine lv_aload_n hx hb dX0_regretsOf_7 rfl (lv_at hl 0 rfl) ?_
  obtain ⟨v1, q_v1, h⟩ := bd_e h
  refine f_roI (As := []) (rest := [.int x4]) X hM (c_recv0 X hM) hL hF (cf_deeds_met _ Z Y A C  v1 q_v1) (lw_V q630 q632 qs7 q79 q633) cf_deeds_hd ⟨rfl, rfl⟩ ⟨Nat.le_trans (m := cf_regretsOf_rm.frames) (Nat.le_of_ble_eq_true rfl) hR.1, Nat.le_trans (m := cf_regretsOf_rm.locals) (Nat.le_of_ble_eq_true rfl) hR.2.1⟩ ⟨hR.2.2.1, hR.2.2.2⟩ rfl hl.1 rfl (Nat.le_of_ble_eq_true rfl) dX0_regretsOf_8 (fun locs hL => ?_)
  exact cf_regretsOf_w11 X hM hR hF hQ hk5 x1 x2 x3 x4 v1 x4 _ ls hL (lv_sub hl [0, 1, 2, 3, 4] rfl) h
def cf_regretsOf_l5 (C : St) (n : Nat) : Int32 → Int32 → Int32 → Int32 → Option Int64 := lp (fun _ _ _ _ => none) (cf_regretsOf_b5 C) n
theorem cf_regretsOf_lw5 {p : Program} {l : Launch} {e : Env} {R : Room} {s : State} {m : MethodId} {args : Array Value} {below : List Frame} {meth : Method} {c : Code} {Z : CZ} {Y : CY} {A : Nat → Prop} {C : St} {H : Heap} {cells slots : Nat} {Qc : Array Value → State → Outcome → State → Prop} {free : Addr → Prop} (X : CCx p s m args meth c cX0_regretsOf 5 (some .long) RX0 Z) (hM : cPD Z Y A C H) (hR : cf_regretsOf_rm.frames ≤ R.frames ∧ cf_regretsOf_rm.locals ≤ R.locals ∧ cells ≤ R.cells ∧ slots ≤ R.slots) (hF : ∀ q, cFr Z q → free q) {r : Int64} (hQ : ∀ t : State, t.heap = H → s.WarmedH t.vm → Qc args s (.returned (some (.long r))) t) : ∀ n : Nat, cf_regretsOf_P5 p l e R s m args below meth c Z Y H cells slots Qc free r (cf_regretsOf_l5 C n) := by
  intro n
  induction n with
  | zero => intro x1 x2 x3 x4 locs ls hL hl h; exact no_ h
  | succ n ih => exact cf_regretsOf_w5 X hM hR hF hQ ih
def cf_regretsOf (C : St) (x1 : Int32) (x2 : Int32) : Option Int64 :=
  cf_regretsOf_l5 C FU x1 x2 (0 : Int32) (0 : Int32)
theorem cf_regretsOf_w0 {p : Program} {l : Launch} {e : Env} {R : Room} {s : State} {m : MethodId} {args : Array Value} {below : List Frame} {meth : Method} {c : Code} {Z : CZ} {Y : CY} {A : Nat → Prop} {C : St} {H : Heap} {cells slots : Nat} {Qc : Array Value → State → Outcome → State → Prop} {free : Addr → Prop} (X : CCx p s m args meth c cX0_regretsOf 5 (some .long) RX0 Z) (hM : cPD Z Y A C H) (hR : cf_regretsOf_rm.frames ≤ R.frames ∧ cf_regretsOf_rm.locals ≤ R.locals ∧ cells ≤ R.cells ∧ slots ≤ R.slots) (hF : ∀ q, cFr Z q → free q) {r : Int64} (hQ : ∀ t : State, t.heap = H → s.WarmedH t.vm → Qc args s (.returned (some (.long r))) t) : cf_regretsOf_P0 p l e R s m args below meth c Z Y H cells slots Qc free r (cf_regretsOf C) := by
  intro x1 x2 locs ls hL hl h
  obtain ⟨⟨hx, hb, hr, hlocks, hml, hown, hts⟩, hK⟩ := id X
  unfold cf_regretsOf at h
  refine lv_iconst (v := 0) hx hb dX0_regretsOf_0 (by decide) ?_
  refine lv_istore_n (lv' := [(3, .int (0 : Int32)), (0, .ref (cSa Z 0)), (1, .int x1), (2, .int x2)]) hx hb dX0_regretsOf_1 rfl hl (by decide) rfl (fun ls hl => ?_)
  refine lv_iconst (v := 0) hx hb dX0_regretsOf_2 (by decide) ?_
  refine lv_istore (lv' := [(4, .int (0 : Int32)), (3, .int (0 : Int32)), (0, .ref (cSa Z 0)), (1, .int x1), (2, .int x2)]) hx hb dX0_regretsOf_3 hl (by decide) rfl (fun ls hl => ?_)
  exact cf_regretsOf_lw5 X hM hR hF hQ FU x1 x2 (0 : Int32) (0 : Int32) _ ls hL (lv_sub hl [2, 3, 4, 1, 0] rfl) h
theorem cf_regretsOf_hd : yX0_regretsOf.cls = RX0 ∧ yX0_regretsOf.cls ≠ "java/lang/invoke/MethodHandle" ∧ yX0_regretsOf.cls ≠ "java/lang/invoke/VarHandle" ∧ (parseMethodDescriptor yX0_regretsOf.desc).map (fun d => d.parameters.length) = some 2 := by decide +kernel
theorem cf_regretsOf_met (l : Launch) (Z : CZ) (Y : CY) (A : Nat → Prop) (C : St) (x1 : Int32) (x2 : Int32) (r : Int64) (h : cf_regretsOf C x1 x2 = some r) : Met l yX0_regretsOf (ws_ yX0_regretsOf cX0_regretsOf 5 (some .long)) cf_regretsOf_rm (va_Pc [.ref (cSa Z 0), .int x1, .int x2] (cS Z Y A C)) (Qro (some (.long r))) 0 0 (cFr Z) := by
  refine Met.ofW (cc := cX0_regretsOf) (maxL := 5) (ret := some .long) (by decide) rfl ?_
  intro p e s m args below meth c s₁ B hml hv
  obtain ⟨rfl, hv⟩ := hv
  have hts := atoms_spec (ws := ws_ yX0_regretsOf cX0_regretsOf 5 (some .long)) B.pre
  have hts : ∀ w ∈ lw_all, w.before _ s = true := fun w h => hts w (List.mem_cons_of_mem _ h)
  have X : CCx p s m _ meth c cX0_regretsOf 5 (some .long) RX0 Z := ⟨⟨B.exec, B.bytes, B.returns, B.notSynchronized, hml, findClass_of_methodNamed B.named, hts⟩, hv.2⟩
  have hl := lv_entry [.ref (cSa Z 0), .int x1, .int x2] (n := 5) (Nat.le_of_ble_eq_true rfl)
  rw [lg_entry_eq]
  generalize (lg_sl [.ref (cSa Z 0), .int x1, .int x2] ++ List.replicate (5 - (lg_sl [.ref (cSa Z 0), .int x1, .int x2]).length) Slot.unset).toArray = ls at hl ⊢
  exact cf_regretsOf_w0 X hv.1 ⟨Nat.le_refl _, Nat.le_refl _, Nat.le_refl _, Nat.le_refl _⟩ (fun _ h => h) (fun t ht _ => ⟨rfl, ht⟩) x1 x2 [] ls (fun q hq => by cases hq) hl h
