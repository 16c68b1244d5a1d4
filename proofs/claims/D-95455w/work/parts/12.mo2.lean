set_option maxRecDepth 100000
/-! SecondChancesModel.bestOf(I)V -/
def mo_bestOf_rm : Room := { frames := 2, cells := 0, slots := 0, locals := 44 }
def mo_bestOf_P0 (p : Program) (l : Launch) (e : Env) (s : State) (m : MethodId) (args : Array Value) (below : List Frame) (meth : Method) (c : Code) (Z : MZ) (r : St) (f : Int32 → St → Option St) : Prop := ∀ (x1 : Int32) (I : St) (H : Heap) (locs : List Loc) (ls : Array Slot), mIn Z s I H locs → lv_has ls 10 [(0, .ref (mH Z)), (1, .int x1)] → f x1 I = some r → W p l e mo_bestOf_rm s m args below meth c H locs 0 0 (MQ below (Qwr (none) (mS Z r) (mA Z)) args s 0 0 (mA Z)) (F0 m 0 ls [])
def mo_bestOf_P11 (p : Program) (l : Launch) (e : Env) (s : State) (m : MethodId) (args : Array Value) (below : List Frame) (meth : Method) (c : Code) (Z : MZ) (r : St) (f : Int32 → Int32 → Int32 → St → Option St) : Prop := ∀ (x1 : Int32) (x2 : Int32) (x3 : Int32) (I : St) (H : Heap) (locs : List Loc) (ls : Array Slot), mIn Z s I H locs → lv_has ls 10 [(0, .ref (mH Z)), (1, .int x1), (2, .int x2), (3, .int x3)] → f x1 x2 x3 I = some r → W p l e mo_bestOf_rm s m args below meth c H locs 0 0 (MQ below (Qwr (none) (mS Z r) (mA Z)) args s 0 0 (mA Z)) (F0 m 11 ls [])
def mo_bestOf_P31 (p : Program) (l : Launch) (e : Env) (s : State) (m : MethodId) (args : Array Value) (below : List Frame) (meth : Method) (c : Code) (Z : MZ) (r : St) (f : Int32 → Int32 → Int32 → Int32 → Int32 → St → Option St) : Prop := ∀ (x1 : Int32) (x2 : Int32) (x3 : Int32) (t0 : Int32) (t1 : Int32) (I : St) (H : Heap) (locs : List Loc) (ls : Array Slot), mIn Z s I H locs → lv_has ls 10 [(0, .ref (mH Z)), (1, .int x1), (2, .int x2), (3, .int x3)] → f x1 x2 x3 t0 t1 I = some r → W p l e mo_bestOf_rm s m args below meth c H locs 0 0 (MQ below (Qwr (none) (mS Z r) (mA Z)) args s 0 0 (mA Z)) (F0 m 31 ls [.int t0, .int t1, .ref (mAd Z 19)])
def mo_bestOf_P40 (p : Program) (l : Launch) (e : Env) (s : State) (m : MethodId) (args : Array Value) (below : List Frame) (meth : Method) (c : Code) (Z : MZ) (r : St) (f : Int32 → Int32 → Int32 → St → Option St) : Prop := ∀ (x1 : Int32) (x2 : Int32) (x3 : Int32) (I : St) (H : Heap) (locs : List Loc) (ls : Array Slot), mIn Z s I H locs → lv_has ls 10 [(0, .ref (mH Z)), (1, .int x1), (2, .int x2), (3, .int x3)] → f x1 x2 x3 I = some r → W p l e mo_bestOf_rm s m args below meth c H locs 0 0 (MQ below (Qwr (none) (mS Z r) (mA Z)) args s 0 0 (mA Z)) (F0 m 40 ls [])
def mo_bestOf_P55 (p : Program) (l : Launch) (e : Env) (s : State) (m : MethodId) (args : Array Value) (below : List Frame) (meth : Method) (c : Code) (Z : MZ) (r : St) (f : Int32 → Int32 → Int32 → Int32 → Int32 → Int32 → St → Option St) : Prop := ∀ (x1 : Int32) (x2 : Int32) (x3 : Int32) (x4 : Int32) (x5 : Int32) (x6 : Int32) (I : St) (H : Heap) (locs : List Loc) (ls : Array Slot), mIn Z s I H locs → lv_has ls 10 [(0, .ref (mH Z)), (1, .int x1), (2, .int x2), (3, .int x3), (4, .int x4), (5, .int x5), (6, .int x6)] → f x1 x2 x3 x4 x5 x6 I = some r → W p l e mo_bestOf_rm s m args below meth c H locs 0 0 (MQ below (Qwr (none) (mS Z r) (mA Z)) args s 0 0 (mA Z)) (F0 m 55 ls [])
def mo_bestOf_P82 (p : Program) (l : Launch) (e : Env) (s : State) (m : MethodId) (args : Array Value) (below : List Frame) (meth : Method) (c : Code) (Z : MZ) (r : St) (f : Int32 → Int32 → Int32 → Int32 → Int32 → Int32 → Int32 → St → Option St) : Prop := ∀ (x1 : Int32) (x2 : Int32) (x3 : Int32) (x5 : Int32) (x6 : Int32) (t0 : Int32) (t1 : Int32) (I : St) (H : Heap) (locs : List Loc) (ls : Array Slot), mIn Z s I H locs → lv_has ls 10 [(0, .ref (mH Z)), (1, .int x1), (2, .int x2), (3, .int x3), (5, .int x5), (6, .int x6)] → f x1 x2 x3 x5 x6 t0 t1 I = some r → W p l e mo_bestOf_rm s m args below meth c H locs 0 0 (MQ below (Qwr (none) (mS Z r) (mA Z)) args s 0 0 (mA Z)) (F0 m 82 ls [.int t0, .int t1])
def mo_bestOf_P108 (p : Program) (l : Launch) (e : Env) (s : State) (m : MethodId) (args : Array Value) (below : List Frame) (meth : Method) (c : Code) (Z : MZ) (r : St) (f : Int32 → Int32 → Int32 → Int32 → Int32 → Int32 → Int32 → St → Option St) : Prop := ∀ (x1 : Int32) (x2 : Int32) (x3 : Int32) (x4 : Int32) (x6 : Int32) (t0 : Int32) (t1 : Int32) (I : St) (H : Heap) (locs : List Loc) (ls : Array Slot), mIn Z s I H locs → lv_has ls 10 [(0, .ref (mH Z)), (1, .int x1), (2, .int x2), (3, .int x3), (4, .int x4), (6, .int x6)] → f x1 x2 x3 x4 x6 t0 t1 I = some r → W p l e mo_bestOf_rm s m args below meth c H locs 0 0 (MQ below (Qwr (none) (mS Z r) (mA Z)) args s 0 0 (mA Z)) (F0 m 108 ls [.int t0, .int t1])
def mo_bestOf_P120 (p : Program) (l : Launch) (e : Env) (s : State) (m : MethodId) (args : Array Value) (below : List Frame) (meth : Method) (c : Code) (Z : MZ) (r : St) (f : Int32 → Int32 → Int32 → Int32 → Int32 → Int32 → St → Option St) : Prop := ∀ (x1 : Int32) (x2 : Int32) (x3 : Int32) (x4 : Int32) (x5 : Int32) (x6 : Int32) (I : St) (H : Heap) (locs : List Loc) (ls : Array Slot), mIn Z s I H locs → lv_has ls 10 [(0, .ref (mH Z)), (1, .int x1), (2, .int x2), (3, .int x3), (4, .int x4), (5, .int x5), (6, .int x6)] → f x1 x2 x3 x4 x5 x6 I = some r → W p l e mo_bestOf_rm s m args below meth c H locs 0 0 (MQ below (Qwr (none) (mS Z r) (mA Z)) args s 0 0 (mA Z)) (F0 m 120 ls [])
def mo_bestOf_P142 (p : Program) (l : Launch) (e : Env) (s : State) (m : MethodId) (args : Array Value) (below : List Frame) (meth : Method) (c : Code) (Z : MZ) (r : St) (f : Int32 → Int32 → Int32 → Int32 → Int32 → Int32 → Int32 → Int32 → St → Option St) : Prop := ∀ (x1 : Int32) (x2 : Int32) (x3 : Int32) (x4 : Int32) (x5 : Int32) (x6 : Int32) (x7 : Int32) (x8 : Int32) (I : St) (H : Heap) (locs : List Loc) (ls : Array Slot), mIn Z s I H locs → lv_has ls 10 [(0, .ref (mH Z)), (1, .int x1), (2, .int x2), (3, .int x3), (4, .int x4), (5, .int x5), (6, .int x6), (7, .int x7), (8, .int x8)] → f x1 x2 x3 x4 x5 x6 x7 x8 I = some r → W p l e mo_bestOf_rm s m args below meth c H locs 0 0 (MQ below (Qwr (none) (mS Z r) (mA Z)) args s 0 0 (mA Z)) (F0 m 142 ls [])
def mo_bestOf_P260 (p : Program) (l : Launch) (e : Env) (s : State) (m : MethodId) (args : Array Value) (below : List Frame) (meth : Method) (c : Code) (Z : MZ) (r : St) (f : Int32 → Int32 → Int32 → Int32 → Int32 → Int32 → Int32 → Int32 → Int32 → St → Option St) : Prop := ∀ (x1 : Int32) (x2 : Int32) (x3 : Int32) (x4 : Int32) (x5 : Int32) (x6 : Int32) (x7 : Int32) (t0 : Int32) (t1 : Int32) (I : St) (H : Heap) (locs : List Loc) (ls : Array Slot), mIn Z s I H locs → lv_has ls 10 [(0, .ref (mH Z)), (1, .int x1), (2, .int x2), (3, .int x3), (4, .int x4), (5, .int x5), (6, .int x6), (7, .int x7)] → f x1 x2 x3 x4 x5 x6 x7 t0 t1 I = some r → W p l e mo_bestOf_rm s m args below meth c H locs 0 0 (MQ below (Qwr (none) (mS Z r) (mA Z)) args s 0 0 (mA Z)) (F0 m 260 ls [.int t0, .int t1, .ref (mAd Z 20)])
def mo_bestOf_P261 (p : Program) (l : Launch) (e : Env) (s : State) (m : MethodId) (args : Array Value) (below : List Frame) (meth : Method) (c : Code) (Z : MZ) (r : St) (f : Int32 → Int32 → Int32 → Int32 → Int32 → Int32 → Int32 → St → Option St) : Prop := ∀ (x1 : Int32) (x2 : Int32) (x3 : Int32) (x4 : Int32) (x5 : Int32) (x6 : Int32) (x7 : Int32) (I : St) (H : Heap) (locs : List Loc) (ls : Array Slot), mIn Z s I H locs → lv_has ls 10 [(0, .ref (mH Z)), (1, .int x1), (2, .int x2), (3, .int x3), (4, .int x4), (5, .int x5), (6, .int x6), (7, .int x7)] → f x1 x2 x3 x4 x5 x6 x7 I = some r → W p l e mo_bestOf_rm s m args below meth c H locs 0 0 (MQ below (Qwr (none) (mS Z r) (mA Z)) args s 0 0 (mA Z)) (F0 m 261 ls [])
def mo_bestOf_P271 (p : Program) (l : Launch) (e : Env) (s : State) (m : MethodId) (args : Array Value) (below : List Frame) (meth : Method) (c : Code) (Z : MZ) (r : St) (f : Int32 → Int32 → Int32 → Int32 → Int32 → Int32 → Int32 → Int32 → St → Option St) : Prop := ∀ (x1 : Int32) (x2 : Int32) (x3 : Int32) (x4 : Int32) (x5 : Int32) (x6 : Int32) (x7 : Int32) (t0 : Int32) (I : St) (H : Heap) (locs : List Loc) (ls : Array Slot), mIn Z s I H locs → lv_has ls 10 [(0, .ref (mH Z)), (1, .int x1), (2, .int x2), (3, .int x3), (4, .int x4), (5, .int x5), (6, .int x6), (7, .int x7)] → f x1 x2 x3 x4 x5 x6 x7 t0 I = some r → W p l e mo_bestOf_rm s m args below meth c H locs 0 0 (MQ below (Qwr (none) (mS Z r) (mA Z)) args s 0 0 (mA Z)) (F0 m 271 ls [.int t0])
def mo_bestOf_P294 (p : Program) (l : Launch) (e : Env) (s : State) (m : MethodId) (args : Array Value) (below : List Frame) (meth : Method) (c : Code) (Z : MZ) (r : St) (f : Int32 → Int32 → Int32 → Int32 → St → Option St) : Prop := ∀ (x1 : Int32) (x2 : Int32) (x3 : Int32) (x6 : Int32) (I : St) (H : Heap) (locs : List Loc) (ls : Array Slot), mIn Z s I H locs → lv_has ls 10 [(0, .ref (mH Z)), (1, .int x1), (2, .int x2), (3, .int x3), (6, .int x6)] → f x1 x2 x3 x6 I = some r → W p l e mo_bestOf_rm s m args below meth c H locs 0 0 (MQ below (Qwr (none) (mS Z r) (mA Z)) args s 0 0 (mA Z)) (F0 m 294 ls [])
def mo_bestOf_P338 (p : Program) (l : Launch) (e : Env) (s : State) (m : MethodId) (args : Array Value) (below : List Frame) (meth : Method) (c : Code) (Z : MZ) (r : St) (f : Int32 → Int32 → St → Option St) : Prop := ∀ (x2 : Int32) (x3 : Int32) (I : St) (H : Heap) (locs : List Loc) (ls : Array Slot), mIn Z s I H locs → lv_has ls 10 [(0, .ref (mH Z)), (2, .int x2), (3, .int x3)] → f x2 x3 I = some r → W p l e mo_bestOf_rm s m args below meth c H locs 0 0 (MQ below (Qwr (none) (mS Z r) (mA Z)) args s 0 0 (mA Z)) (F0 m 338 ls [])
def mo_bestOf_P401 (p : Program) (l : Launch) (e : Env) (s : State) (m : MethodId) (args : Array Value) (below : List Frame) (meth : Method) (c : Code) (Z : MZ) (r : St) (f : Int32 → Int32 → Int32 → Int32 → St → Option St) : Prop := ∀ (x2 : Int32) (x3 : Int32) (x4 : Int32) (t0 : Int32) (I : St) (H : Heap) (locs : List Loc) (ls : Array Slot), mIn Z s I H locs → lv_has ls 10 [(0, .ref (mH Z)), (2, .int x2), (3, .int x3), (4, .int x4)] → f x2 x3 x4 t0 I = some r → W p l e mo_bestOf_rm s m args below meth c H locs 0 0 (MQ below (Qwr (none) (mS Z r) (mA Z)) args s 0 0 (mA Z)) (F0 m 401 ls [.int t0])
def mo_bestOf_P418 (p : Program) (l : Launch) (e : Env) (s : State) (m : MethodId) (args : Array Value) (below : List Frame) (meth : Method) (c : Code) (Z : MZ) (r : St) (f : Int32 → Int32 → Int32 → Int32 → St → Option St) : Prop := ∀ (x2 : Int32) (x3 : Int32) (x5 : Int32) (t0 : Int32) (I : St) (H : Heap) (locs : List Loc) (ls : Array Slot), mIn Z s I H locs → lv_has ls 10 [(0, .ref (mH Z)), (2, .int x2), (3, .int x3), (5, .int x5)] → f x2 x3 x5 t0 I = some r → W p l e mo_bestOf_rm s m args below meth c H locs 0 0 (MQ below (Qwr (none) (mS Z r) (mA Z)) args s 0 0 (mA Z)) (F0 m 418 ls [.int t0, .ref (mH Z)])
def mo_bestOf_P440 (p : Program) (l : Launch) (e : Env) (s : State) (m : MethodId) (args : Array Value) (below : List Frame) (meth : Method) (c : Code) (Z : MZ) (r : St) (f : Int32 → Int32 → Int32 → St → Option St) : Prop := ∀ (x2 : Int32) (x3 : Int32) (t0 : Int32) (I : St) (H : Heap) (locs : List Loc) (ls : Array Slot), mIn Z s I H locs → lv_has ls 10 [(0, .ref (mH Z)), (2, .int x2), (3, .int x3)] → f x2 x3 t0 I = some r → W p l e mo_bestOf_rm s m args below meth c H locs 0 0 (MQ below (Qwr (none) (mS Z r) (mA Z)) args s 0 0 (mA Z)) (F0 m 440 ls [.int t0, .ref (mH Z)])
def mo_bestOf_b440 (k338 : Int32 → Int32 → St → Option St) (x2 : Int32) (x3 : Int32) (t0 : Int32) (I : St) : Option St :=
  lt_ (upd2 I 23 0 t0) fun I1 =>
  k338 x2 (x3 + 1) I1
theorem mo_bestOf_w440 {p : Program} {l : Launch} {e : Env} {s : State} {m : MethodId} {args : Array Value} {below : List Frame} {meth : Method} {c : Code} {Z : MZ} (C : MCx p s m args meth c cX6_bestOf 10 (none) Z) {r : St} {k338 : Int32 → Int32 → St → Option St} (hk338 : mo_bestOf_P338 p l e s m args below meth c Z r k338) : mo_bestOf_P440 p l e s m args below meth c Z r (mo_bestOf_b440 k338) := by
  intro x2 x3 t0 I H locs ls hM hl h
  obtain ⟨⟨hx, hb, hr, hlocks, hml, hown, hts⟩, hK⟩ := id C
  unfold mo_bestOf_b440 at h
  refine pm23 C hM dX6_bestOf_440 (fun H locs I1 e_I1 hM => ?_)
  have h := lt_i h e_I1
  refine lv_iinc (v := (x3 + 1)) (lv' := [(3, .int (x3 + 1)), (0, .ref (mH Z)), (2, .int x2)]) hx hb dX6_bestOf_443 hl (k := 2) rfl rfl (by decide) rfl (fun ls hl => ?_)
  refine lv_goto (tgt := 338) hx hb dX6_bestOf_446 (by decide) ?_
  exact hk338 x2 (x3 + 1) I1 _ _ ls hM (lv_sub hl [1, 2, 0] rfl) h
def mo_bestOf_b418 (k338 : Int32 → Int32 → St → Option St) (x2 : Int32) (x3 : Int32) (x5 : Int32) (t0 : Int32) (I : St) : Option St :=
  lt_ (upd2 I 22 0 t0) fun I1 =>
  if x5 = 0 then (mo_bestOf_b440 k338 x2 x3 (I1 23 0) I1)
  else (al_ 256 (I1 19) x3 fun v3 =>
    mo_bestOf_b440 k338 x2 x3 v3 I1)
theorem mo_bestOf_w418 {p : Program} {l : Launch} {e : Env} {s : State} {m : MethodId} {args : Array Value} {below : List Frame} {meth : Method} {c : Code} {Z : MZ} (C : MCx p s m args meth c cX6_bestOf 10 (none) Z) {r : St} {k338 : Int32 → Int32 → St → Option St} (hk338 : mo_bestOf_P338 p l e s m args below meth c Z r k338) : mo_bestOf_P418 p l e s m args below meth c Z r (mo_bestOf_b418 k338) := by
  intro x2 x3 x5 t0 I H locs ls hM hl h
  obtain ⟨⟨hx, hb, hr, hlocks, hml, hown, hts⟩, hK⟩ := id C
  unfold mo_bestOf_b418 at h
  refine pm22 C hM dX6_bestOf_418 (fun H locs I1 e_I1 hM => ?_)
  have h := lt_i h e_I1
  refine lv_aload_n hx hb dX6_bestOf_421 rfl (lv_at hl 0 rfl) ?_
  refine lv_iload hx hb dX6_bestOf_422 (lv_at hl 3 rfl) ?_
  refine lv_if_eq (tgt := 436) hx hb dX6_bestOf_424 (by decide) (fun c2 => ?_) (fun c2 => ?_)
  · have h := ip_ c2 h
    refine lv_aload_n hx hb dX6_bestOf_436 rfl (lv_at hl 0 rfl) ?_
    refine gm23 C hM.1 dX6_bestOf_437 ?_
    exact mo_bestOf_w440 C hk338 x2 x3 (I1 23 0) I1 _ _ ls hM (lv_sub hl [0, 1, 2] rfl) h
  · have h := in_ c2 h
    refine lv_aload_n hx hb dX6_bestOf_427 rfl (lv_at hl 0 rfl) ?_
    refine gm19 C hM.1 dX6_bestOf_428 ?_
    refine lv_iload_n hx hb dX6_bestOf_431 rfl (lv_at hl 2 rfl) ?_
    obtain ⟨i_v3, h⟩ := al_e h
    refine m_ald C hM.1 (pos := 17) (k := 19) rfl rfl i_v3 dX6_bestOf_432 (fun v3 e_v3 => ?_)
    have h := h v3 e_v3
    refine lv_goto (tgt := 440) hx hb dX6_bestOf_433 (by decide) ?_
    exact mo_bestOf_w440 C hk338 x2 x3 v3 I1 _ _ ls hM (lv_sub hl [0, 1, 2] rfl) h
def mo_bestOf_b401 (k338 : Int32 → Int32 → St → Option St) (x2 : Int32) (x3 : Int32) (x4 : Int32) (t0 : Int32) (I : St) : Option St :=
  if t0 = 0 then (mo_bestOf_b418 k338 x2 x3 t0 (I 22 0) I)
  else (mo_bestOf_b418 k338 x2 x3 t0 x4 I)
theorem mo_bestOf_w401 {p : Program} {l : Launch} {e : Env} {s : State} {m : MethodId} {args : Array Value} {below : List Frame} {meth : Method} {c : Code} {Z : MZ} (C : MCx p s m args meth c cX6_bestOf 10 (none) Z) {r : St} {k338 : Int32 → Int32 → St → Option St} (hk338 : mo_bestOf_P338 p l e s m args below meth c Z r k338) : mo_bestOf_P401 p l e s m args below meth c Z r (mo_bestOf_b401 k338) := by
  intro x2 x3 x4 t0 I H locs ls hM hl h
  obtain ⟨⟨hx, hb, hr, hlocks, hml, hown, hts⟩, hK⟩ := id C
  unfold mo_bestOf_b401 at h
  refine lv_istore (lv' := [(5, .int t0), (0, .ref (mH Z)), (2, .int x2), (3, .int x3), (4, .int x4)]) hx hb dX6_bestOf_401 hl (by decide) rfl (fun ls hl => ?_)
  refine lv_aload_n hx hb dX6_bestOf_403 rfl (lv_at hl 1 rfl) ?_
  refine lv_iload hx hb dX6_bestOf_404 (lv_at hl 0 rfl) ?_
  refine lv_if_eq (tgt := 414) hx hb dX6_bestOf_406 (by decide) (fun c1 => ?_) (fun c1 => ?_)
  · have h := ip_ c1 h
    refine lv_aload_n hx hb dX6_bestOf_414 rfl (lv_at hl 1 rfl) ?_
    refine gm22 C hM.1 dX6_bestOf_415 ?_
    exact mo_bestOf_w418 C hk338 x2 x3 t0 (I 22 0) I _ _ ls hM (lv_sub hl [1, 2, 3, 0] rfl) h
  · have h := in_ c1 h
    refine lv_iload hx hb dX6_bestOf_409 (lv_at hl 4 rfl) ?_
    refine lv_goto (tgt := 418) hx hb dX6_bestOf_411 (by decide) ?_
    exact mo_bestOf_w418 C hk338 x2 x3 t0 x4 I _ _ ls hM (lv_sub hl [1, 2, 3, 0] rfl) h
def mo_bestOf_b338 (k338 : Int32 → Int32 → St → Option St) (x2 : Int32) (x3 : Int32) (I : St) : Option St :=
  if x2 < x3 then (some I)
  else (bd_ (mo_worthBy I x3) fun v2 =>
    al_ 256 (I 19) x3 fun v3 =>
    al_ 4 (I 17) (2 : Int32) fun v4 =>
    if v4 < v3 then (mo_bestOf_b401 k338 x2 x3 v2 (0 : Int32) I)
    else (if (I 22 0) < v2 then (mo_bestOf_b401 k338 x2 x3 v2 (1 : Int32) I)
      else (if v2 = (I 22 0) then (al_ 256 (I 19) x3 fun v8 =>
          if (I 23 0) ≤ v8 then (mo_bestOf_b401 k338 x2 x3 v2 (0 : Int32) I)
          else (mo_bestOf_b401 k338 x2 x3 v2 (1 : Int32) I))
        else (mo_bestOf_b401 k338 x2 x3 v2 (0 : Int32) I))))
theorem mo_bestOf_w338 {p : Program} {l : Launch} {e : Env} {s : State} {m : MethodId} {args : Array Value} {below : List Frame} {meth : Method} {c : Code} {Z : MZ} (C : MCx p s m args meth c cX6_bestOf 10 (none) Z) {r : St} {k338 : Int32 → Int32 → St → Option St} (hk338 : mo_bestOf_P338 p l e s m args below meth c Z r k338) : mo_bestOf_P338 p l e s m args below meth c Z r (mo_bestOf_b338 k338) := by
  intro x2 x3 I H locs ls hM hl h
  obtain ⟨⟨hx, hb, hr, hlocks, hml, hown, hts⟩, hK⟩ := id C
  unfold mo_bestOf_b338 at h
  refine lv_iload_n hx hb dX6_bestOf_338 rfl (lv_at hl 2 rfl) ?_
  refine lv_iload_n hx hb dX6_bestOf_339 rfl (lv_at hl 1 rfl) ?_
  refine lv_icmp_gt (tgt := 449) hx hb dX6_bestOf_340 (by decide) (fun c1 => ?_) (fun c1 => ?_)
  · have h := ip_ c1 h
    have h := so_ h
    subst h
    exact W.vret hx hb hr (fun t ht hW => ⟨rfl, ⟨by rw [ht]; exact hM.1, va_K.moved hW.alike hK⟩, hM.2.F ht⟩) hM.2.2.2 dX6_bestOf_449
  · have h := in_ c1 h
    refine lv_aload_n hx hb dX6_bestOf_343 rfl (lv_at hl 0 rfl) ?_
    refine lv_iload_n hx hb dX6_bestOf_344 rfl (lv_at hl 2 rfl) ?_
    obtain ⟨v2, q_v2, h⟩ := bd_e h
    refine m_roI (As := [.int x3]) (rest := []) C hM.1 (mo_worthBy_met _ Z I x3 v2 q_v2) (lw_V q1322 q1324 qs61 q88 q1325) mo_worthBy_hd ⟨rfl, rfl⟩ ⟨Nat.le_of_ble_eq_true rfl, Nat.le_of_ble_eq_true rfl⟩ ⟨Nat.le_refl _, Nat.le_refl _⟩ rfl hl.1 rfl (Nat.le_of_ble_eq_true rfl) dX6_bestOf_345 ?_
    refine lv_istore (lv' := [(4, .int v2), (0, .ref (mH Z)), (2, .int x2), (3, .int x3)]) hx hb dX6_bestOf_348 hl (by decide) rfl (fun ls hl => ?_)
    refine lv_aload_n hx hb dX6_bestOf_350 rfl (lv_at hl 1 rfl) ?_
    refine gm19 C hM.1 dX6_bestOf_351 ?_
    refine lv_iload_n hx hb dX6_bestOf_354 rfl (lv_at hl 3 rfl) ?_
    obtain ⟨i_v3, h⟩ := al_e h
    refine m_ald C hM.1 (pos := 17) (k := 19) rfl rfl i_v3 dX6_bestOf_355 (fun v3 e_v3 => ?_)
    have h := h v3 e_v3
    refine lv_aload_n hx hb dX6_bestOf_356 rfl (lv_at hl 1 rfl) ?_
    refine gm17 C hM.1 dX6_bestOf_357 ?_
    refine lv_iconst (v := 2) hx hb dX6_bestOf_360 (by decide) ?_
    obtain ⟨i_v4, h⟩ := al_e h
    refine m_ald C hM.1 (pos := 15) (k := 17) rfl rfl i_v4 dX6_bestOf_361 (fun v4 e_v4 => ?_)
    have h := h v4 e_v4
    refine lv_icmp_gt (tgt := 400) hx hb dX6_bestOf_362 (by decide) (fun c5 => ?_) (fun c5 => ?_)
    · have h := ip_ c5 h
      refine lv_iconst (v := 0) hx hb dX6_bestOf_400 (by decide) ?_
      exact mo_bestOf_w401 C hk338 x2 x3 v2 (0 : Int32) I _ _ ls hM (lv_sub hl [1, 2, 3, 0] rfl) h
    · have h := in_ c5 h
      refine lv_iload hx hb dX6_bestOf_365 (lv_at hl 0 rfl) ?_
      refine lv_aload_n hx hb dX6_bestOf_367 rfl (lv_at hl 1 rfl) ?_
      refine gm22 C hM.1 dX6_bestOf_368 ?_
      refine lv_icmp_gt (tgt := 396) hx hb dX6_bestOf_371 (by decide) (fun c6 => ?_) (fun c6 => ?_)
      · have h := ip_ c6 h
        refine lv_iconst (v := 1) hx hb dX6_bestOf_396 (by decide) ?_
        refine lv_goto (tgt := 401) hx hb dX6_bestOf_397 (by decide) ?_
        exact mo_bestOf_w401 C hk338 x2 x3 v2 (1 : Int32) I _ _ ls hM (lv_sub hl [1, 2, 3, 0] rfl) h
      · have h := in_ c6 h
        refine lv_iload hx hb dX6_bestOf_374 (lv_at hl 0 rfl) ?_
        refine lv_aload_n hx hb dX6_bestOf_376 rfl (lv_at hl 1 rfl) ?_
        refine gm22 C hM.1 dX6_bestOf_377 ?_
        refine lv_icmp_ne (tgt := 400) hx hb dX6_bestOf_380 (by decide) (fun c7 => ?_) (fun c7 => ?_)
        · have h := in_ c7 h
          refine lv_iconst (v := 0) hx hb dX6_bestOf_400 (by decide) ?_
          exact mo_bestOf_w401 C hk338 x2 x3 v2 (0 : Int32) I _ _ ls hM (lv_sub hl [1, 2, 3, 0] rfl) h
        · have h := ip_ c7 h
          refine lv_aload_n hx hb dX6_bestOf_383 rfl (lv_at hl 1 rfl) ?_
          refine gm19 C hM.1 dX6_bestOf_384 ?_
          refine lv_iload_n hx hb dX6_bestOf_387 rfl (lv_at hl 3 rfl) ?_
          obtain ⟨i_v8, h⟩ := al_e h
          refine m_ald C hM.1 (pos := 17) (k := 19) rfl rfl i_v8 dX6_bestOf_388 (fun v8 e_v8 => ?_)
          have h := h v8 e_v8
          refine lv_aload_n hx hb dX6_bestOf_389 rfl (lv_at hl 1 rfl) ?_
          refine gm23 C hM.1 dX6_bestOf_390 ?_
          refine lv_icmp_ge (tgt := 400) hx hb dX6_bestOf_393 (by decide) (fun c9 => ?_) (fun c9 => ?_)
          · have h := ip_ c9 h
            refine lv_iconst (v := 0) hx hb dX6_bestOf_400 (by decide) ?_
            exact mo_bestOf_w401 C hk338 x2 x3 v2 (0 : Int32) I _ _ ls hM (lv_sub hl [1, 2, 3, 0] rfl) h
          · have h := in_ c9 h
            refine lv_iconst (v := 1) hx hb dX6_bestOf_396 (by decide) ?_
            refine lv_goto (tgt := 401) hx hb dX6_bestOf_397 (by decide) ?_
            exact mo_bestOf_w401 C hk338 x2 x3 v2 (1 : Int32) I _ _ ls hM (lv_sub hl [1, 2, 3, 0] rfl) h
def mo_bestOf_l338 (n : Nat) : Int32 → Int32 → St → Option St := lp (fun _ _ _ => none) (mo_bestOf_b338) n
theorem mo_bestOf_lw338 {p : Program} {l : Launch} {e : Env} {s : State} {m : MethodId} {args : Array Value} {below : List Frame} {meth : Method} {c : Code} {Z : MZ} (C : MCx p s m args meth c cX6_bestOf 10 (none) Z) {r : St} : ∀ n : Nat, mo_bestOf_P338 p l e s m args below meth c Z r (mo_bestOf_l338 n) := by
  intro n
  induction n with
  | zero => intro x2 x3 I H locs ls hM hl h; exact no_ h
  | succ n ih => exact mo_bestOf_w338 C ih
def mo_bestOf_b294 (k40 : Int32 → Int32 → Int32 → St → Option St) (k294 : Int32 → Int32 → Int32 → Int32 → St → Option St) (x1 : Int32) (x2 : Int32) (x3 : Int32) (x6 : Int32) (I : St) : Option St :=
  if x2 < x6 then (k40 x1 x2 (x3 + 1) I)
  else (al_ 256 (I 20) x6 fun v2 =>
    as_ 256 19 I x6 v2 fun I3 =>
    k294 x1 x2 x3 (x6 + 1) I3)
theorem mo_bestOf_w294 {p : Program} {l : Launch} {e : Env} {s : State} {m : MethodId} {args : Array Value} {below : List Frame} {meth : Method} {c : Code} {Z : MZ} (C : MCx p s m args meth c cX6_bestOf 10 (none) Z) {r : St} {k40 : Int32 → Int32 → Int32 → St → Option St} (hk40 : mo_bestOf_P40 p l e s m args below meth c Z r k40) {k294 : Int32 → Int32 → Int32 → Int32 → St → Option St} (hk294 : mo_bestOf_P294 p l e s m args below meth c Z r k294) : mo_bestOf_P294 p l e s m args below meth c Z r (mo_bestOf_b294 k40 k294) := by
  intro x1 x2 x3 x6 I H locs ls hM hl h
  obtain ⟨⟨hx, hb, hr, hlocks, hml, hown, hts⟩, hK⟩ := id C
  unfold mo_bestOf_b294 at h
  refine lv_iload hx hb dX6_bestOf_294 (lv_at hl 4 rfl) ?_
  refine lv_iload_n hx hb dX6_bestOf_296 rfl (lv_at hl 2 rfl) ?_
  refine lv_icmp_gt (tgt := 320) hx hb dX6_bestOf_297 (by decide) (fun c1 => ?_) (fun c1 => ?_)
  · have h := ip_ c1 h
    refine lv_iinc (v := (x3 + 1)) (lv' := [(3, .int (x3 + 1)), (0, .ref (mH Z)), (1, .int x1), (2, .int x2), (6, .int x6)]) hx hb dX6_bestOf_320 hl (k := 3) rfl rfl (by decide) rfl (fun ls hl => ?_)
    refine lv_goto (tgt := 40) hx hb dX6_bestOf_323 (by decide) ?_
    exact hk40 x1 x2 (x3 + 1) I _ _ ls hM (lv_sub hl [1, 2, 3, 0] rfl) h
  · have h := in_ c1 h
    refine lv_aload_n hx hb dX6_bestOf_300 rfl (lv_at hl 0 rfl) ?_
    refine gm19 C hM.1 dX6_bestOf_301 ?_
    refine lv_iload hx hb dX6_bestOf_304 (lv_at hl 4 rfl) ?_
    refine lv_aload_n hx hb dX6_bestOf_306 rfl (lv_at hl 0 rfl) ?_
    refine gm20 C hM.1 dX6_bestOf_307 ?_
    refine lv_iload hx hb dX6_bestOf_310 (lv_at hl 4 rfl) ?_
    obtain ⟨i_v2, h⟩ := al_e h
    refine m_ald C hM.1 (pos := 18) (k := 20) rfl rfl i_v2 dX6_bestOf_312 (fun v2 e_v2 => ?_)
    have h := h v2 e_v2
    obtain ⟨i_I3, h⟩ := as_e h
    refine m_ast C hM (pos := 17) (k := 19) rfl rfl i_I3 dX6_bestOf_313 (fun H locs I3 e_I3 hM => ?_)
    have h := h I3 e_I3
    refine lv_iinc (v := (x6 + 1)) (lv' := [(6, .int (x6 + 1)), (0, .ref (mH Z)), (1, .int x1), (2, .int x2), (3, .int x3)]) hx hb dX6_bestOf_314 hl (k := 4) rfl rfl (by decide) rfl (fun ls hl => ?_)
    refine lv_goto (tgt := 294) hx hb dX6_bestOf_317 (by decide) ?_
    exact hk294 x1 x2 x3 (x6 + 1) I3 _ _ ls hM (lv_sub hl [1, 2, 3, 4, 0] rfl) h
def mo_bestOf_l294 (k40 : Int32 → Int32 → Int32 → St → Option St) (n : Nat) : Int32 → Int32 → Int32 → Int32 → St → Option St := lp (fun _ _ _ _ _ => none) (mo_bestOf_b294 k40) n
theorem mo_bestOf_lw294 {p : Program} {l : Launch} {e : Env} {s : State} {m : MethodId} {args : Array Value} {below : List Frame} {meth : Method} {c : Code} {Z : MZ} (C : MCx p s m args meth c cX6_bestOf 10 (none) Z) {r : St} {k40 : Int32 → Int32 → Int32 → St → Option St} (hk40 : mo_bestOf_P40 p l e s m args below meth c Z r k40) : ∀ n : Nat, mo_bestOf_P294 p l e s m args below meth c Z r (mo_bestOf_l294 k40 n) := by
  intro n
  induction n with
  | zero => intro x1 x2 x3 x6 I H locs ls hM hl h; exact no_ h
  | succ n ih => exact mo_bestOf_w294 C hk40 ih
def mo_bestOf_b271 (k40 : Int32 → Int32 → Int32 → St → Option St) (k120 : Int32 → Int32 → Int32 → Int32 → Int32 → Int32 → St → Option St) (k142 : Int32 → Int32 → Int32 → Int32 → Int32 → Int32 → Int32 → Int32 → St → Option St) (x1 : Int32) (x2 : Int32) (x3 : Int32) (x4 : Int32) (x5 : Int32) (x6 : Int32) (x7 : Int32) (t0 : Int32) (I : St) : Option St :=
  lt_ ((x7 - (1 : Int32)) &&& x6) fun v1 =>
  k142 x1 x2 x3 x4 x5 x6 v1 t0 I
theorem mo_bestOf_w271 {p : Program} {l : Launch} {e : Env} {s : State} {m : MethodId} {args : Array Value} {below : List Frame} {meth : Method} {c : Code} {Z : MZ} (C : MCx p s m args meth c cX6_bestOf 10 (none) Z) {r : St} {k40 : Int32 → Int32 → Int32 → St → Option St} (hk40 : mo_bestOf_P40 p l e s m args below meth c Z r k40) {k120 : Int32 → Int32 → Int32 → Int32 → Int32 → Int32 → St → Option St} (hk120 : mo_bestOf_P120 p l e s m args below meth c Z r k120) {k142 : Int32 → Int32 → Int32 → Int32 → Int32 → Int32 → Int32 → Int32 → St → Option St} (hk142 : mo_bestOf_P142 p l e s m args below meth c Z r k142) : mo_bestOf_P271 p l e s m args below meth c Z r (mo_bestOf_b271 k40 k120 k142) := by
  intro x1 x2 x3 x4 x5 x6 x7 t0 I H locs ls hM hl h
  obtain ⟨⟨hx, hb, hr, hlocks, hml, hown, hts⟩, hK⟩ := id C
  unfold mo_bestOf_b271 at h
  refine lv_istore (lv' := [(8, .int t0), (0, .ref (mH Z)), (1, .int x1), (2, .int x2), (3, .int x3), (4, .int x4), (5, .int x5), (6, .int x6), (7, .int x7)]) hx hb dX6_bestOf_271 hl (by decide) rfl (fun ls hl => ?_)
  refine lv_iload hx hb dX6_bestOf_273 (lv_at hl 8 rfl) ?_
  refine lv_iconst (v := 1) hx hb dX6_bestOf_275 (by decide) ?_
  refine lv_isub hx hb dX6_bestOf_276 ?_
  refine lv_iload hx hb dX6_bestOf_277 (lv_at hl 7 rfl) ?_
  refine lv_iand hx hb dX6_bestOf_279 ?_
  refine lv_topi (fun v1 e_v1 => ?_)
  have h := lt_i h e_v1
  refine lv_istore (lv' := [(7, .int v1), (8, .int t0), (0, .ref (mH Z)), (1, .int x1), (2, .int x2), (3, .int x3), (4, .int x4), (5, .int x5), (6, .int x6)]) hx hb dX6_bestOf_280 hl (by decide) rfl (fun ls hl => ?_)
  refine lv_goto (tgt := 142) hx hb dX6_bestOf_282 (by decide) ?_
  exact hk142 x1 x2 x3 x4 x5 x6 v1 t0 I _ _ ls hM (lv_sub hl [2, 3, 4, 5, 6, 7, 8, 0, 1] rfl) h
def mo_bestOf_b261 (k40 : Int32 → Int32 → Int32 → St → Option St) (k120 : Int32 → Int32 → Int32 → Int32 → Int32 → Int32 → St → Option St) (k142 : Int32 → Int32 → Int32 → Int32 → Int32 → Int32 → Int32 → Int32 → St → Option St) (x1 : Int32) (x2 : Int32) (x3 : Int32) (x4 : Int32) (x5 : Int32) (x6 : Int32) (x7 : Int32) (I : St) : Option St :=
  if x7 = 0 then (mo_bestOf_b271 k40 k120 k142 x1 x2 x3 x4 x5 x6 x7 (0 : Int32) I)
  else (mo_bestOf_b271 k40 k120 k142 x1 x2 x3 x4 x5 x6 x7 (1 : Int32) I)
theorem mo_bestOf_w261 {p : Program} {l : Launch} {e : Env} {s : State} {m : MethodId} {args : Array Value} {below : List Frame} {meth : Method} {c : Code} {Z : MZ} (C : MCx p s m args meth c cX6_bestOf 10 (none) Z) {r : St} {k40 : Int32 → Int32 → Int32 → St → Option St} (hk40 : mo_bestOf_P40 p l e s m args below meth c Z r k40) {k120 : Int32 → Int32 → Int32 → Int32 → Int32 → Int32 → St → Option St} (hk120 : mo_bestOf_P120 p l e s m args below meth c Z r k120) {k142 : Int32 → Int32 → Int32 → Int32 → Int32 → Int32 → Int32 → Int32 → St → Option St} (hk142 : mo_bestOf_P142 p l e s m args below meth c Z r k142) : mo_bestOf_P261 p l e s m args below meth c Z r (mo_bestOf_b261 k40 k120 k142) := by
  intro x1 x2 x3 x4 x5 x6 x7 I H locs ls hM hl h
  obtain ⟨⟨hx, hb, hr, hlocks, hml, hown, hts⟩, hK⟩ := id C
  unfold mo_bestOf_b261 at h
  refine lv_iload hx hb dX6_bestOf_261 (lv_at hl 7 rfl) ?_
  refine lv_if_eq (tgt := 270) hx hb dX6_bestOf_263 (by decide) (fun c1 => ?_) (fun c1 => ?_)
  · have h := ip_ c1 h
    refine lv_iconst (v := 0) hx hb dX6_bestOf_270 (by decide) ?_
    exact mo_bestOf_w271 C hk40 hk120 hk142 x1 x2 x3 x4 x5 x6 x7 (0 : Int32) I _ _ ls hM (lv_sub hl [0, 1, 2, 3, 4, 5, 6, 7] rfl) h
  · have h := in_ c1 h
    refine lv_iconst (v := 1) hx hb dX6_bestOf_266 (by decide) ?_
    refine lv_goto (tgt := 271) hx hb dX6_bestOf_267 (by decide) ?_
    exact mo_bestOf_w271 C hk40 hk120 hk142 x1 x2 x3 x4 x5 x6 x7 (1 : Int32) I _ _ ls hM (lv_sub hl [0, 1, 2, 3, 4, 5, 6, 7] rfl) h
def mo_bestOf_b260 (k40 : Int32 → Int32 → Int32 → St → Option St) (k120 : Int32 → Int32 → Int32 → Int32 → Int32 → Int32 → St → Option St) (k142 : Int32 → Int32 → Int32 → Int32 → Int32 → Int32 → Int32 → Int32 → St → Option St) (x1 : Int32) (x2 : Int32) (x3 : Int32) (x4 : Int32) (x5 : Int32) (x6 : Int32) (x7 : Int32) (t0 : Int32) (t1 : Int32) (I : St) : Option St :=
  as_ 256 20 I t1 t0 fun I1 =>
  mo_bestOf_b261 k40 k120 k142 x1 x2 x3 x4 x5 x6 x7 I1
theorem mo_bestOf_w260 {p : Program} {l : Launch} {e : Env} {s : State} {m : MethodId} {args : Array Value} {below : List Frame} {meth : Method} {c : Code} {Z : MZ} (C : MCx p s m args meth c cX6_bestOf 10 (none) Z) {r : St} {k40 : Int32 → Int32 → Int32 → St → Option St} (hk40 : mo_bestOf_P40 p l e s m args below meth c Z r k40) {k120 : Int32 → Int32 → Int32 → Int32 → Int32 → Int32 → St → Option St} (hk120 : mo_bestOf_P120 p l e s m args below meth c Z r k120) {k142 : Int32 → Int32 → Int32 → Int32 → Int32 → Int32 → Int32 → Int32 → St → Option St} (hk142 : mo_bestOf_P142 p l e s m args below meth c Z r k142) : mo_bestOf_P260 p l e s m args below meth c Z r (mo_bestOf_b260 k40 k120 k142) := by
  intro x1 x2 x3 x4 x5 x6 x7 t0 t1 I H locs ls hM hl h
  obtain ⟨⟨hx, hb, hr, hlocks, hml, hown, hts⟩, hK⟩ := id C
  unfold mo_bestOf_b260 at h
  obtain ⟨i_I1, h⟩ := as_e h
  refine m_ast C hM (pos := 18) (k := 20) rfl rfl i_I1 dX6_bestOf_260 (fun H locs I1 e_I1 hM => ?_)
  have h := h I1 e_I1
  exact mo_bestOf_w261 C hk40 hk120 hk142 x1 x2 x3 x4 x5 x6 x7 I1 _ _ ls hM (lv_sub hl [0, 1, 2, 3, 4, 5, 6, 7] rfl) h
def mo_bestOf_b142 (k40 : Int32 → Int32 → Int32 → St → Option St) (k120 : Int32 → Int32 → Int32 → Int32 → Int32 → Int32 → St → Option St) (k142 : Int32 → Int32 → Int32 → Int32 → Int32 → Int32 → Int32 → Int32 → St → Option St) (x1 : Int32) (x2 : Int32) (x3 : Int32) (x4 : Int32) (x5 : Int32) (x6 : Int32) (x7 : Int32) (x8 : Int32) (I : St) : Option St :=
  if x8 = 0 then (k120 x1 x2 x3 x4 x5 (x6 + 1) I)
  else (if (x7 &&& x4) = x4 then (if (x7 &&& (x5 ^^^ (-1 : Int32))) = 0 then (al_ 2048 (I 18) (((256 : Int32) * x3) + x7) fun v4 =>
        if (1000000 : Int32) ≤ v4 then (mo_bestOf_b261 k40 k120 k142 x1 x2 x3 x4 x5 x6 x7 I)
        else (al_ 256 (I 19) (x6 &&& (x7 ^^^ (-1 : Int32))) fun v6 =>
          if (1000000 : Int32) ≤ v6 then (mo_bestOf_b261 k40 k120 k142 x1 x2 x3 x4 x5 x6 x7 I)
          else (al_ 256 (I 19) (x6 &&& (x7 ^^^ (-1 : Int32))) fun v8 =>
            al_ 2048 (I 18) (((256 : Int32) * x3) + x7) fun v9 =>
            lt_ (v8 + v9) fun v10 =>
            al_ 256 (I 20) x6 fun v11 =>
            if v11 ≤ v10 then (al_ 256 (I 20) x6 fun v13 =>
              mo_bestOf_b260 k40 k120 k142 x1 x2 x3 x4 x5 x6 x7 v13 x6 I)
            else (mo_bestOf_b260 k40 k120 k142 x1 x2 x3 x4 x5 x6 x7 v10 x6 I))))
      else (mo_bestOf_b261 k40 k120 k142 x1 x2 x3 x4 x5 x6 x7 I))
    else (mo_bestOf_b261 k40 k120 k142 x1 x2 x3 x4 x5 x6 x7 I))
theorem mo_bestOf_w142 {p : Program} {l : Launch} {e : Env} {s : State} {m : MethodId} {args : Array Value} {below : List Frame} {meth : Method} {c : Code} {Z : MZ} (C : MCx p s m args meth c cX6_bestOf 10 (none) Z) {r : St} {k40 : Int32 → Int32 → Int32 → St → Option St} (hk40 : mo_bestOf_P40 p l e s m args below meth c Z r k40) {k120 : Int32 → Int32 → Int32 → Int32 → Int32 → Int32 → St → Option St} (hk120 : mo_bestOf_P120 p l e s m args below meth c Z r k120) {k142 : Int32 → Int32 → Int32 → Int32 → Int32 → Int32 → Int32 → Int32 → St → Option St} (hk142 : mo_bestOf_P142 p l e s m args below meth c Z r k142) : mo_bestOf_P142 p l e s m args below meth c Z r (mo_bestOf_b142 k40 k120 k142) := by
  intro x1 x2 x3 x4 x5 x6 x7 x8 I H locs ls hM hl h
  obtain ⟨⟨hx, hb, hr, hlocks, hml, hown, hts⟩, hK⟩ := id C
  unfold mo_bestOf_b142 at h
  refine lv_iload hx hb dX6_bestOf_142 (lv_at hl 8 rfl) ?_
  refine lv_if_eq (tgt := 285) hx hb dX6_bestOf_144 (by decide) (fun c1 => ?_) (fun c1 => ?_)
  · have h := ip_ c1 h
    refine lv_iinc (v := (x6 + 1)) (lv' := [(6, .int (x6 + 1)), (0, .ref (mH Z)), (1, .int x1), (2, .int x2), (3, .int x3), (4, .int x4), (5, .int x5), (7, .int x7), (8, .int x8)]) hx hb dX6_bestOf_285 hl (k := 6) rfl rfl (by decide) rfl (fun ls hl => ?_)
    refine lv_goto (tgt := 120) hx hb dX6_bestOf_288 (by decide) ?_
    exact hk120 x1 x2 x3 x4 x5 (x6 + 1) I _ _ ls hM (lv_sub hl [1, 2, 3, 4, 5, 6, 0] rfl) h
  · have h := in_ c1 h
    refine lv_iload hx hb dX6_bestOf_147 (lv_at hl 7 rfl) ?_
    refine lv_iload hx hb dX6_bestOf_149 (lv_at hl 4 rfl) ?_
    refine lv_iand hx hb dX6_bestOf_151 ?_
    refine lv_iload hx hb dX6_bestOf_152 (lv_at hl 4 rfl) ?_
    refine lv_icmp_ne (tgt := 261) hx hb dX6_bestOf_154 (by decide) (fun c2 => ?_) (fun c2 => ?_)
    · have h := in_ c2 h
      exact mo_bestOf_w261 C hk40 hk120 hk142 x1 x2 x3 x4 x5 x6 x7 I _ _ ls hM (lv_sub hl [0, 1, 2, 3, 4, 5, 6, 7] rfl) h
    · have h := ip_ c2 h
      refine lv_iload hx hb dX6_bestOf_157 (lv_at hl 7 rfl) ?_
      refine lv_iload hx hb dX6_bestOf_159 (lv_at hl 5 rfl) ?_
      refine lv_iconst (v := -1) hx hb dX6_bestOf_161 (by decide) ?_
      refine lv_ixor hx hb dX6_bestOf_162 ?_
      refine lv_iand hx hb dX6_bestOf_163 ?_
      refine lv_if_ne (tgt := 261) hx hb dX6_bestOf_164 (by decide) (fun c3 => ?_) (fun c3 => ?_)
      · have h := in_ c3 h
        exact mo_bestOf_w261 C hk40 hk120 hk142 x1 x2 x3 x4 x5 x6 x7 I _ _ ls hM (lv_sub hl [0, 1, 2, 3, 4, 5, 6, 7] rfl) h
      · have h := ip_ c3 h
        refine lv_aload_n hx hb dX6_bestOf_167 rfl (lv_at hl 0 rfl) ?_
        refine gm18 C hM.1 dX6_bestOf_168 ?_
        refine lv_sipush (v := 256) hx hb dX6_bestOf_171 (by decide) ?_
        refine lv_iload_n hx hb dX6_bestOf_174 rfl (lv_at hl 3 rfl) ?_
        refine lv_imul hx hb dX6_bestOf_175 ?_
        refine lv_iload hx hb dX6_bestOf_176 (lv_at hl 7 rfl) ?_
        refine lv_iadd hx hb dX6_bestOf_178 ?_
        obtain ⟨i_v4, h⟩ := al_e h
        refine m_ald C hM.1 (pos := 16) (k := 18) rfl rfl i_v4 dX6_bestOf_179 (fun v4 e_v4 => ?_)
        have h := h v4 e_v4
        refine lv_ldc (v := 1000000) hx hb hown (hts _ q1317) dX6_bestOf_180 ?_
        refine lv_icmp_ge (tgt := 261) hx hb dX6_bestOf_182 (by decide) (fun c5 => ?_) (fun c5 => ?_)
        · have h := ip_ c5 h
          exact mo_bestOf_w261 C hk40 hk120 hk142 x1 x2 x3 x4 x5 x6 x7 I _ _ ls hM (lv_sub hl [0, 1, 2, 3, 4, 5, 6, 7] rfl) h
        · have h := in_ c5 h
          refine lv_aload_n hx hb dX6_bestOf_185 rfl (lv_at hl 0 rfl) ?_
          refine gm19 C hM.1 dX6_bestOf_186 ?_
          refine lv_iload hx hb dX6_bestOf_189 (lv_at hl 6 rfl) ?_
          refine lv_iload hx hb dX6_bestOf_191 (lv_at hl 7 rfl) ?_
          refine lv_iconst (v := -1) hx hb dX6_bestOf_193 (by decide) ?_
          refine lv_ixor hx hb dX6_bestOf_194 ?_
          refine lv_iand hx hb dX6_bestOf_195 ?_
          obtain ⟨i_v6, h⟩ := al_e h
          refine m_ald C hM.1 (pos := 17) (k := 19) rfl rfl i_v6 dX6_bestOf_196 (fun v6 e_v6 => ?_)
          have h := h v6 e_v6
          refine lv_ldc (v := 1000000) hx hb hown (hts _ q1317) dX6_bestOf_197 ?_
          refine lv_icmp_ge (tgt := 261) hx hb dX6_bestOf_199 (by decide) (fun c7 => ?_) (fun c7 => ?_)
          · have h := ip_ c7 h
            exact mo_bestOf_w261 C hk40 hk120 hk142 x1 x2 x3 x4 x5 x6 x7 I _ _ ls hM (lv_sub hl [0, 1, 2, 3, 4, 5, 6, 7] rfl) h
          · have h := in_ c7 h
            refine lv_aload_n hx hb dX6_bestOf_202 rfl (lv_at hl 0 rfl) ?_
            refine gm19 C hM.1 dX6_bestOf_203 ?_
            refine lv_iload hx hb dX6_bestOf_206 (lv_at hl 6 rfl) ?_
            refine lv_iload hx hb dX6_bestOf_208 (lv_at hl 7 rfl) ?_
            refine lv_iconst (v := -1) hx hb dX6_bestOf_210 (by decide) ?_
            refine lv_ixor hx hb dX6_bestOf_211 ?_
            refine lv_iand hx hb dX6_bestOf_212 ?_
            obtain ⟨i_v8, h⟩ := al_e h
            refine m_ald C hM.1 (pos := 17) (k := 19) rfl rfl i_v8 dX6_bestOf_213 (fun v8 e_v8 => ?_)
            have h := h v8 e_v8
            refine lv_aload_n hx hb dX6_bestOf_214 rfl (lv_at hl 0 rfl) ?_
            refine gm18 C hM.1 dX6_bestOf_215 ?_
            refine lv_sipush (v := 256) hx hb dX6_bestOf_218 (by decide) ?_
            refine lv_iload_n hx hb dX6_bestOf_221 rfl (lv_at hl 3 rfl) ?_
            refine lv_imul hx hb dX6_bestOf_222 ?_
            refine lv_iload hx hb dX6_bestOf_223 (lv_at hl 7 rfl) ?_
            refine lv_iadd hx hb dX6_bestOf_225 ?_
            obtain ⟨i_v9, h⟩ := al_e h
            refine m_ald C hM.1 (pos := 16) (k := 18) rfl rfl i_v9 dX6_bestOf_226 (fun v9 e_v9 => ?_)
            have h := h v9 e_v9
            refine lv_iadd hx hb dX6_bestOf_227 ?_
            refine lv_topi (fun v10 e_v10 => ?_)
            have h := lt_i h e_v10
            refine lv_istore (lv' := [(9, .int v10), (0, .ref (mH Z)), (1, .int x1), (2, .int x2), (3, .int x3), (4, .int x4), (5, .int x5), (6, .int x6), (7, .int x7), (8, .int x8)]) hx hb dX6_bestOf_228 hl (by decide) rfl (fun ls hl => ?_)
            refine lv_aload_n hx hb dX6_bestOf_230 rfl (lv_at hl 1 rfl) ?_
            refine gm20 C hM.1 dX6_bestOf_231 ?_
            refine lv_iload hx hb dX6_bestOf_234 (lv_at hl 7 rfl) ?_
            refine lv_iload hx hb dX6_bestOf_236 (lv_at hl 0 rfl) ?_
            refine lv_aload_n hx hb dX6_bestOf_238 rfl (lv_at hl 1 rfl) ?_
            refine gm20 C hM.1 dX6_bestOf_239 ?_
            refine lv_iload hx hb dX6_bestOf_242 (lv_at hl 7 rfl) ?_
            obtain ⟨i_v11, h⟩ := al_e h
            refine m_ald C hM.1 (pos := 18) (k := 20) rfl rfl i_v11 dX6_bestOf_244 (fun v11 e_v11 => ?_)
            have h := h v11 e_v11
            refine lv_icmp_ge (tgt := 253) hx hb dX6_bestOf_245 (by decide) (fun c12 => ?_) (fun c12 => ?_)
            · have h := ip_ c12 h
              refine lv_aload_n hx hb dX6_bestOf_253 rfl (lv_at hl 1 rfl) ?_
              refine gm20 C hM.1 dX6_bestOf_254 ?_
              refine lv_iload hx hb dX6_bestOf_257 (lv_at hl 7 rfl) ?_
              obtain ⟨i_v13, h⟩ := al_e h
              refine m_ald C hM.1 (pos := 18) (k := 20) rfl rfl i_v13 dX6_bestOf_259 (fun v13 e_v13 => ?_)
              have h := h v13 e_v13
              exact mo_bestOf_w260 C hk40 hk120 hk142 x1 x2 x3 x4 x5 x6 x7 v13 x6 I _ _ ls hM (lv_sub hl [1, 2, 3, 4, 5, 6, 7, 8] rfl) h
            · have h := in_ c12 h
              refine lv_iload hx hb dX6_bestOf_248 (lv_at hl 0 rfl) ?_
              refine lv_goto (tgt := 260) hx hb dX6_bestOf_250 (by decide) ?_
              exact mo_bestOf_w260 C hk40 hk120 hk142 x1 x2 x3 x4 x5 x6 x7 v10 x6 I _ _ ls hM (lv_sub hl [1, 2, 3, 4, 5, 6, 7, 8] rfl) h
def mo_bestOf_l142 (k40 : Int32 → Int32 → Int32 → St → Option St) (k120 : Int32 → Int32 → Int32 → Int32 → Int32 → Int32 → St → Option St) (n : Nat) : Int32 → Int32 → Int32 → Int32 → Int32 → Int32 → Int32 → Int32 → St → Option St := lp (fun _ _ _ _ _ _ _ _ _ => none) (mo_bestOf_b142 k40 k120) n
theorem mo_bestOf_lw142 {p : Program} {l : Launch} {e : Env} {s : State} {m : MethodId} {args : Array Value} {below : List Frame} {meth : Method} {c : Code} {Z : MZ} (C : MCx p s m args meth c cX6_bestOf 10 (none) Z) {r : St} {k40 : Int32 → Int32 → Int32 → St → Option St} (hk40 : mo_bestOf_P40 p l e s m args below meth c Z r k40) {k120 : Int32 → Int32 → Int32 → Int32 → Int32 → Int32 → St → Option St} (hk120 : mo_bestOf_P120 p l e s m args below meth c Z r k120) : ∀ n : Nat, mo_bestOf_P142 p l e s m args below meth c Z r (mo_bestOf_l142 k40 k120 n) := by
  intro n
  induction n with
  | zero => intro x1 x2 x3 x4 x5 x6 x7 x8 I H locs ls hM hl h; exact no_ h
  | succ n ih => exact mo_bestOf_w142 C hk40 hk120 ih
def mo_bestOf_b120 (k40 : Int32 → Int32 → Int32 → St → Option St) (k120 : Int32 → Int32 → Int32 → Int32 → Int32 → Int32 → St → Option St) (x1 : Int32) (x2 : Int32) (x3 : Int32) (x4 : Int32) (x5 : Int32) (x6 : Int32) (I : St) : Option St :=
  if x2 < x6 then (mo_bestOf_l294 k40 FU x1 x2 x3 (0 : Int32) I)
  else (as_ 256 20 I x6 (1000000 : Int32) fun I2 =>
    mo_bestOf_l142 k40 k120 FU x1 x2 x3 x4 x5 x6 x6 (1 : Int32) I2)
theorem mo_bestOf_w120 {p : Program} {l : Launch} {e : Env} {s : State} {m : MethodId} {args : Array Value} {below : List Frame} {meth : Method} {c : Code} {Z : MZ} (C : MCx p s m args meth c cX6_bestOf 10 (none) Z) {r : St} {k40 : Int32 → Int32 → Int32 → St → Option St} (hk40 : mo_bestOf_P40 p l e s m args below meth c Z r k40) {k120 : Int32 → Int32 → Int32 → Int32 → Int32 → Int32 → St → Option St} (hk120 : mo_bestOf_P120 p l e s m args below meth c Z r k120) : mo_bestOf_P120 p l e s m args below meth c Z r (mo_bestOf_b120 k40 k120) := by
  intro x1 x2 x3 x4 x5 x6 I H locs ls hM hl h
  obtain ⟨⟨hx, hb, hr, hlocks, hml, hown, hts⟩, hK⟩ := id C
  unfold mo_bestOf_b120 at h
  refine lv_iload hx hb dX6_bestOf_120 (lv_at hl 6 rfl) ?_
  refine lv_iload_n hx hb dX6_bestOf_122 rfl (lv_at hl 2 rfl) ?_
  refine lv_icmp_gt (tgt := 291) hx hb dX6_bestOf_123 (by decide) (fun c1 => ?_) (fun c1 => ?_)
  · have h := ip_ c1 h
    refine lv_iconst (v := 0) hx hb dX6_bestOf_291 (by decide) ?_
    refine lv_istore (lv' := [(6, .int (0 : Int32)), (0, .ref (mH Z)), (1, .int x1), (2, .int x2), (3, .int x3), (4, .int x4), (5, .int x5)]) hx hb dX6_bestOf_292 hl (by decide) rfl (fun ls hl => ?_)
    exact mo_bestOf_lw294 C hk40 FU x1 x2 x3 (0 : Int32) I _ _ ls hM (lv_sub hl [1, 2, 3, 4, 0] rfl) h
  · have h := in_ c1 h
    refine lv_aload_n hx hb dX6_bestOf_126 rfl (lv_at hl 0 rfl) ?_
    refine gm20 C hM.1 dX6_bestOf_127 ?_
    refine lv_iload hx hb dX6_bestOf_130 (lv_at hl 6 rfl) ?_
    refine lv_ldc (v := 1000000) hx hb hown (hts _ q1317) dX6_bestOf_132 ?_
    obtain ⟨i_I2, h⟩ := as_e h
    refine m_ast C hM (pos := 18) (k := 20) rfl rfl i_I2 dX6_bestOf_134 (fun H locs I2 e_I2 hM => ?_)
    have h := h I2 e_I2
    refine lv_iload hx hb dX6_bestOf_135 (lv_at hl 6 rfl) ?_
    refine lv_istore (lv' := [(7, .int x6), (0, .ref (mH Z)), (1, .int x1), (2, .int x2), (3, .int x3), (4, .int x4), (5, .int x5), (6, .int x6)]) hx hb dX6_bestOf_137 hl (by decide) rfl (fun ls hl => ?_)
    refine lv_iconst (v := 1) hx hb dX6_bestOf_139 (by decide) ?_
    refine lv_istore (lv' := [(8, .int (1 : Int32)), (7, .int x6), (0, .ref (mH Z)), (1, .int x1), (2, .int x2), (3, .int x3), (4, .int x4), (5, .int x5), (6, .int x6)]) hx hb dX6_bestOf_140 hl (by decide) rfl (fun ls hl => ?_)
    exact mo_bestOf_lw142 C hk40 hk120 FU x1 x2 x3 x4 x5 x6 x6 (1 : Int32) I2 _ _ ls hM (lv_sub hl [2, 3, 4, 5, 6, 7, 8, 1, 0] rfl) h
def mo_bestOf_l120 (k40 : Int32 → Int32 → Int32 → St → Option St) (n : Nat) : Int32 → Int32 → Int32 → Int32 → Int32 → Int32 → St → Option St := lp (fun _ _ _ _ _ _ _ => none) (mo_bestOf_b120 k40) n
theorem mo_bestOf_lw120 {p : Program} {l : Launch} {e : Env} {s : State} {m : MethodId} {args : Array Value} {below : List Frame} {meth : Method} {c : Code} {Z : MZ} (C : MCx p s m args meth c cX6_bestOf 10 (none) Z) {r : St} {k40 : Int32 → Int32 → Int32 → St → Option St} (hk40 : mo_bestOf_P40 p l e s m args below meth c Z r k40) : ∀ n : Nat, mo_bestOf_P120 p l e s m args below meth c Z r (mo_bestOf_l120 k40 n) := by
  intro n
  induction n with
  | zero => intro x1 x2 x3 x4 x5 x6 I H locs ls hM hl h; exact no_ h
  | succ n ih => exact mo_bestOf_w120 C hk40 ih
def mo_bestOf_b108 (k40 : Int32 → Int32 → Int32 → St → Option St) (k55 : Int32 → Int32 → Int32 → Int32 → Int32 → Int32 → St → Option St) (x1 : Int32) (x2 : Int32) (x3 : Int32) (x4 : Int32) (x6 : Int32) (t0 : Int32) (t1 : Int32) (I : St) : Option St :=
  lt_ (t1 &&& t0) fun v1 =>
  k55 x1 x2 x3 x4 v1 (x6 + 1) I
theorem mo_bestOf_w108 {p : Program} {l : Launch} {e : Env} {s : State} {m : MethodId} {args : Array Value} {below : List Frame} {meth : Method} {c : Code} {Z : MZ} (C : MCx p s m args meth c cX6_bestOf 10 (none) Z) {r : St} {k40 : Int32 → Int32 → Int32 → St → Option St} (hk40 : mo_bestOf_P40 p l e s m args below meth c Z r k40) {k55 : Int32 → Int32 → Int32 → Int32 → Int32 → Int32 → St → Option St} (hk55 : mo_bestOf_P55 p l e s m args below meth c Z r k55) : mo_bestOf_P108 p l e s m args below meth c Z r (mo_bestOf_b108 k40 k55) := by
  intro x1 x2 x3 x4 x6 t0 t1 I H locs ls hM hl h
  obtain ⟨⟨hx, hb, hr, hlocks, hml, hown, hts⟩, hK⟩ := id C
  unfold mo_bestOf_b108 at h
  refine lv_iand hx hb dX6_bestOf_108 ?_
  refine lv_topi (fun v1 e_v1 => ?_)
  have h := lt_i h e_v1
  refine lv_istore (lv' := [(5, .int v1), (0, .ref (mH Z)), (1, .int x1), (2, .int x2), (3, .int x3), (4, .int x4), (6, .int x6)]) hx hb dX6_bestOf_109 hl (by decide) rfl (fun ls hl => ?_)
  refine lv_iinc (v := (x6 + 1)) (lv' := [(6, .int (x6 + 1)), (5, .int v1), (0, .ref (mH Z)), (1, .int x1), (2, .int x2), (3, .int x3), (4, .int x4)]) hx hb dX6_bestOf_111 hl (k := 6) rfl rfl (by decide) rfl (fun ls hl => ?_)
  refine lv_goto (tgt := 55) hx hb dX6_bestOf_114 (by decide) ?_
  exact hk55 x1 x2 x3 x4 v1 (x6 + 1) I _ _ ls hM (lv_sub hl [2, 3, 4, 5, 6, 1, 0] rfl) h
def mo_bestOf_b82 (k40 : Int32 → Int32 → Int32 → St → Option St) (k55 : Int32 → Int32 → Int32 → Int32 → Int32 → Int32 → St → Option St) (x1 : Int32) (x2 : Int32) (x3 : Int32) (x5 : Int32) (x6 : Int32) (t0 : Int32) (t1 : Int32) (I : St) : Option St :=
  lt_ (t1 ||| t0) fun v1 =>
  al_ 8 (I 21) x6 fun v2 =>
  if v2 = x3 then (mo_bestOf_b108 k40 k55 x1 x2 x3 v1 x6 x2 x5 I)
  else (mo_bestOf_b108 k40 k55 x1 x2 x3 v1 x6 (((1 : Int32) <<< (x6 &&& 31)) ^^^ (-1 : Int32)) x5 I)
theorem mo_bestOf_w82 {p : Program} {l : Launch} {e : Env} {s : State} {m : MethodId} {args : Array Value} {below : List Frame} {meth : Method} {c : Code} {Z : MZ} (C : MCx p s m args meth c cX6_bestOf 10 (none) Z) {r : St} {k40 : Int32 → Int32 → Int32 → St → Option St} (hk40 : mo_bestOf_P40 p l e s m args below meth c Z r k40) {k55 : Int32 → Int32 → Int32 → Int32 → Int32 → Int32 → St → Option St} (hk55 : mo_bestOf_P55 p l e s m args below meth c Z r k55) : mo_bestOf_P82 p l e s m args below meth c Z r (mo_bestOf_b82 k40 k55) := by
  intro x1 x2 x3 x5 x6 t0 t1 I H locs ls hM hl h
  obtain ⟨⟨hx, hb, hr, hlocks, hml, hown, hts⟩, hK⟩ := id C
  unfold mo_bestOf_b82 at h
  refine lv_ior hx hb dX6_bestOf_82 ?_
  refine lv_topi (fun v1 e_v1 => ?_)
  have h := lt_i h e_v1
  refine lv_istore (lv' := [(4, .int v1), (0, .ref (mH Z)), (1, .int x1), (2, .int x2), (3, .int x3), (5, .int x5), (6, .int x6)]) hx hb dX6_bestOf_83 hl (by decide) rfl (fun ls hl => ?_)
  refine lv_iload hx hb dX6_bestOf_85 (lv_at hl 5 rfl) ?_
  refine lv_aload_n hx hb dX6_bestOf_87 rfl (lv_at hl 1 rfl) ?_
  refine gm21 C hM.1 dX6_bestOf_88 ?_
  refine lv_iload hx hb dX6_bestOf_91 (lv_at hl 6 rfl) ?_
  obtain ⟨i_v2, h⟩ := al_e h
  refine m_ald C hM.1 (pos := 19) (k := 21) rfl rfl i_v2 dX6_bestOf_93 (fun v2 e_v2 => ?_)
  have h := h v2 e_v2
  refine lv_iload_n hx hb dX6_bestOf_94 rfl (lv_at hl 4 rfl) ?_
  refine lv_icmp_ne (tgt := 102) hx hb dX6_bestOf_95 (by decide) (fun c3 => ?_) (fun c3 => ?_)
  · have h := in_ c3 h
    refine lv_iconst (v := 1) hx hb dX6_bestOf_102 (by decide) ?_
    refine lv_iload hx hb dX6_bestOf_103 (lv_at hl 6 rfl) ?_
    refine lv_ishl hx hb dX6_bestOf_105 ?_
    refine lv_iconst (v := -1) hx hb dX6_bestOf_106 (by decide) ?_
    refine lv_ixor hx hb dX6_bestOf_107 ?_
    exact mo_bestOf_w108 C hk40 hk55 x1 x2 x3 v1 x6 (((1 : Int32) <<< (x6 &&& 31)) ^^^ (-1 : Int32)) x5 I _ _ ls hM (lv_sub hl [1, 2, 3, 4, 0, 6] rfl) h
  · have h := ip_ c3 h
    refine lv_iload_n hx hb dX6_bestOf_98 rfl (lv_at hl 3 rfl) ?_
    refine lv_goto (tgt := 108) hx hb dX6_bestOf_99 (by decide) ?_
    exact mo_bestOf_w108 C hk40 hk55 x1 x2 x3 v1 x6 x2 x5 I _ _ ls hM (lv_sub hl [1, 2, 3, 4, 0, 6] rfl) h
def mo_bestOf_b55 (k40 : Int32 → Int32 → Int32 → St → Option St) (k55 : Int32 → Int32 → Int32 → Int32 → Int32 → Int32 → St → Option St) (x1 : Int32) (x2 : Int32) (x3 : Int32) (x4 : Int32) (x5 : Int32) (x6 : Int32) (I : St) : Option St :=
  if x1 ≤ x6 then (mo_bestOf_l120 k40 FU x1 x2 x3 x4 x5 (0 : Int32) I)
  else (al_ 8 (I 21) x6 fun v2 =>
    if v2 = x3 then (mo_bestOf_b82 k40 k55 x1 x2 x3 x5 x6 ((1 : Int32) <<< (x6 &&& 31)) x4 I)
    else (mo_bestOf_b82 k40 k55 x1 x2 x3 x5 x6 (0 : Int32) x4 I))
theorem mo_bestOf_w55 {p : Program} {l : Launch} {e : Env} {s : State} {m : MethodId} {args : Array Value} {below : List Frame} {meth : Method} {c : Code} {Z : MZ} (C : MCx p s m args meth c cX6_bestOf 10 (none) Z) {r : St} {k40 : Int32 → Int32 → Int32 → St → Option St} (hk40 : mo_bestOf_P40 p l e s m args below meth c Z r k40) {k55 : Int32 → Int32 → Int32 → Int32 → Int32 → Int32 → St → Option St} (hk55 : mo_bestOf_P55 p l e s m args below meth c Z r k55) : mo_bestOf_P55 p l e s m args below meth c Z r (mo_bestOf_b55 k40 k55) := by
  intro x1 x2 x3 x4 x5 x6 I H locs ls hM hl h
  obtain ⟨⟨hx, hb, hr, hlocks, hml, hown, hts⟩, hK⟩ := id C
  unfold mo_bestOf_b55 at h
  refine lv_iload hx hb dX6_bestOf_55 (lv_at hl 6 rfl) ?_
  refine lv_iload_n hx hb dX6_bestOf_57 rfl (lv_at hl 1 rfl) ?_
  refine lv_icmp_ge (tgt := 117) hx hb dX6_bestOf_58 (by decide) (fun c1 => ?_) (fun c1 => ?_)
  · have h := ip_ c1 h
    refine lv_iconst (v := 0) hx hb dX6_bestOf_117 (by decide) ?_
    refine lv_istore (lv' := [(6, .int (0 : Int32)), (0, .ref (mH Z)), (1, .int x1), (2, .int x2), (3, .int x3), (4, .int x4), (5, .int x5)]) hx hb dX6_bestOf_118 hl (by decide) rfl (fun ls hl => ?_)
    exact mo_bestOf_lw120 C hk40 FU x1 x2 x3 x4 x5 (0 : Int32) I _ _ ls hM (lv_sub hl [1, 2, 3, 4, 5, 6, 0] rfl) h
  · have h := in_ c1 h
    refine lv_iload hx hb dX6_bestOf_61 (lv_at hl 4 rfl) ?_
    refine lv_aload_n hx hb dX6_bestOf_63 rfl (lv_at hl 0 rfl) ?_
    refine gm21 C hM.1 dX6_bestOf_64 ?_
    refine lv_iload hx hb dX6_bestOf_67 (lv_at hl 6 rfl) ?_
    obtain ⟨i_v2, h⟩ := al_e h
    refine m_ald C hM.1 (pos := 19) (k := 21) rfl rfl i_v2 dX6_bestOf_69 (fun v2 e_v2 => ?_)
    have h := h v2 e_v2
    refine lv_iload_n hx hb dX6_bestOf_70 rfl (lv_at hl 3 rfl) ?_
    refine lv_icmp_ne (tgt := 81) hx hb dX6_bestOf_71 (by decide) (fun c3 => ?_) (fun c3 => ?_)
    · have h := in_ c3 h
      refine lv_iconst (v := 0) hx hb dX6_bestOf_81 (by decide) ?_
      exact mo_bestOf_w82 C hk40 hk55 x1 x2 x3 x5 x6 (0 : Int32) x4 I _ _ ls hM (lv_sub hl [0, 1, 2, 3, 5, 6] rfl) h
    · have h := ip_ c3 h
      refine lv_iconst (v := 1) hx hb dX6_bestOf_74 (by decide) ?_
      refine lv_iload hx hb dX6_bestOf_75 (lv_at hl 6 rfl) ?_
      refine lv_ishl hx hb dX6_bestOf_77 ?_
      refine lv_goto (tgt := 82) hx hb dX6_bestOf_78 (by decide) ?_
      exact mo_bestOf_w82 C hk40 hk55 x1 x2 x3 x5 x6 ((1 : Int32) <<< (x6 &&& 31)) x4 I _ _ ls hM (lv_sub hl [0, 1, 2, 3, 5, 6] rfl) h
def mo_bestOf_l55 (k40 : Int32 → Int32 → Int32 → St → Option St) (n : Nat) : Int32 → Int32 → Int32 → Int32 → Int32 → Int32 → St → Option St := lp (fun _ _ _ _ _ _ _ => none) (mo_bestOf_b55 k40) n
theorem mo_bestOf_lw55 {p : Program} {l : Launch} {e : Env} {s : State} {m : MethodId} {args : Array Value} {below : List Frame} {meth : Method} {c : Code} {Z : MZ} (C : MCx p s m args meth c cX6_bestOf 10 (none) Z) {r : St} {k40 : Int32 → Int32 → Int32 → St → Option St} (hk40 : mo_bestOf_P40 p l e s m args below meth c Z r k40) : ∀ n : Nat, mo_bestOf_P55 p l e s m args below meth c Z r (mo_bestOf_l55 k40 n) := by
  intro n
  induction n with
  | zero => intro x1 x2 x3 x4 x5 x6 I H locs ls hM hl h; exact no_ h
  | succ n ih => exact mo_bestOf_w55 C hk40 ih
def mo_bestOf_b40 (k40 : Int32 → Int32 → Int32 → St → Option St) (x1 : Int32) (x2 : Int32) (x3 : Int32) (I : St) : Option St :=
  if (8 : Int32) ≤ x3 then (lt_ (upd2 I 22 0 (-1 : Int32)) fun I2 =>
    lt_ (upd2 I2 23 0 (0 : Int32)) fun I3 =>
    mo_bestOf_l338 FU x2 (0 : Int32) I3)
  else (mo_bestOf_l55 k40 FU x1 x2 x3 (0 : Int32) x2 (0 : Int32) I)
theorem mo_bestOf_w40 {p : Program} {l : Launch} {e : Env} {s : State} {m : MethodId} {args : Array Value} {below : List Frame} {meth : Method} {c : Code} {Z : MZ} (C : MCx p s m args meth c cX6_bestOf 10 (none) Z) {r : St} {k40 : Int32 → Int32 → Int32 → St → Option St} (hk40 : mo_bestOf_P40 p l e s m args below meth c Z r k40) : mo_bestOf_P40 p l e s m args below meth c Z r (mo_bestOf_b40 k40) := by
  intro x1 x2 x3 I H locs ls hM hl h
  obtain ⟨⟨hx, hb, hr, hlocks, hml, hown, hts⟩, hK⟩ := id C
  unfold mo_bestOf_b40 at h
  refine lv_iload_n hx hb dX6_bestOf_40 rfl (lv_at hl 3 rfl) ?_
  refine lv_bipush (v := 8) hx hb dX6_bestOf_41 (by decide) ?_
  refine lv_icmp_ge (tgt := 326) hx hb dX6_bestOf_43 (by decide) (fun c1 => ?_) (fun c1 => ?_)
  · have h := ip_ c1 h
    refine lv_aload_n hx hb dX6_bestOf_326 rfl (lv_at hl 0 rfl) ?_
    refine lv_iconst (v := -1) hx hb dX6_bestOf_327 (by decide) ?_
    refine pm22 C hM dX6_bestOf_328 (fun H locs I2 e_I2 hM => ?_)
    have h := lt_i h e_I2
    refine lv_aload_n hx hb dX6_bestOf_331 rfl (lv_at hl 0 rfl) ?_
    refine lv_iconst (v := 0) hx hb dX6_bestOf_332 (by decide) ?_
    refine pm23 C hM dX6_bestOf_333 (fun H locs I3 e_I3 hM => ?_)
    have h := lt_i h e_I3
    refine lv_iconst (v := 0) hx hb dX6_bestOf_336 (by decide) ?_
    refine lv_istore_n (lv' := [(3, .int (0 : Int32)), (0, .ref (mH Z)), (1, .int x1), (2, .int x2)]) hx hb dX6_bestOf_337 rfl hl (by decide) rfl (fun ls hl => ?_)
    exact mo_bestOf_lw338 C FU x2 (0 : Int32) I3 _ _ ls hM (lv_sub hl [1, 3, 0] rfl) h
  · have h := in_ c1 h
    refine lv_iconst (v := 0) hx hb dX6_bestOf_46 (by decide) ?_
    refine lv_istore (lv' := [(4, .int (0 : Int32)), (0, .ref (mH Z)), (1, .int x1), (2, .int x2), (3, .int x3)]) hx hb dX6_bestOf_47 hl (by decide) rfl (fun ls hl => ?_)
    refine lv_iload_n hx hb dX6_bestOf_49 rfl (lv_at hl 3 rfl) ?_
    refine lv_istore (lv' := [(5, .int x2), (4, .int (0 : Int32)), (0, .ref (mH Z)), (1, .int x1), (2, .int x2), (3, .int x3)]) hx hb dX6_bestOf_50 hl (by decide) rfl (fun ls hl => ?_)
    refine lv_iconst (v := 0) hx hb dX6_bestOf_52 (by decide) ?_
    refine lv_istore (lv' := [(6, .int (0 : Int32)), (5, .int x2), (4, .int (0 : Int32)), (0, .ref (mH Z)), (1, .int x1), (2, .int x2), (3, .int x3)]) hx hb dX6_bestOf_53 hl (by decide) rfl (fun ls hl => ?_)
    exact mo_bestOf_lw55 C hk40 FU x1 x2 x3 (0 : Int32) x2 (0 : Int32) I _ _ ls hM (lv_sub hl [3, 4, 5, 6, 2, 1, 0] rfl) h
def mo_bestOf_l40 (n : Nat) : Int32 → Int32 → Int32 → St → Option St := lp (fun _ _ _ _ => none) (mo_bestOf_b40) n
theorem mo_bestOf_lw40 {p : Program} {l : Launch} {e : Env} {s : State} {m : MethodId} {args : Array Value} {below : List Frame} {meth : Method} {c : Code} {Z : MZ} (C : MCx p s m args meth c cX6_bestOf 10 (none) Z) {r : St} : ∀ n : Nat, mo_bestOf_P40 p l e s m args below meth c Z r (mo_bestOf_l40 n) := by
  intro n
  induction n with
  | zero => intro x1 x2 x3 I H locs ls hM hl h; exact no_ h
  | succ n ih => exact mo_bestOf_w40 C ih
def mo_bestOf_b31 (k11 : Int32 → Int32 → Int32 → St → Option St) (x1 : Int32) (x2 : Int32) (x3 : Int32) (t0 : Int32) (t1 : Int32) (I : St) : Option St :=
  as_ 256 19 I t1 t0 fun I1 =>
  k11 x1 x2 (x3 + 1) I1
theorem mo_bestOf_w31 {p : Program} {l : Launch} {e : Env} {s : State} {m : MethodId} {args : Array Value} {below : List Frame} {meth : Method} {c : Code} {Z : MZ} (C : MCx p s m args meth c cX6_bestOf 10 (none) Z) {r : St} {k11 : Int32 → Int32 → Int32 → St → Option St} (hk11 : mo_bestOf_P11 p l e s m args below meth c Z r k11) : mo_bestOf_P31 p l e s m args below meth c Z r (mo_bestOf_b31 k11) := by
  intro x1 x2 x3 t0 t1 I H locs ls hM hl h
  obtain ⟨⟨hx, hb, hr, hlocks, hml, hown, hts⟩, hK⟩ := id C
  unfold mo_bestOf_b31 at h
  obtain ⟨i_I1, h⟩ := as_e h
  refine m_ast C hM (pos := 17) (k := 19) rfl rfl i_I1 dX6_bestOf_31 (fun H locs I1 e_I1 hM => ?_)
  have h := h I1 e_I1
  refine lv_iinc (v := (x3 + 1)) (lv' := [(3, .int (x3 + 1)), (0, .ref (mH Z)), (1, .int x1), (2, .int x2)]) hx hb dX6_bestOf_32 hl (k := 3) rfl rfl (by decide) rfl (fun ls hl => ?_)
  refine lv_goto (tgt := 11) hx hb dX6_bestOf_35 (by decide) ?_
  exact hk11 x1 x2 (x3 + 1) I1 _ _ ls hM (lv_sub hl [1, 2, 3, 0] rfl) h
def mo_bestOf_b11 (k11 : Int32 → Int32 → Int32 → St → Option St) (x1 : Int32) (x2 : Int32) (x3 : Int32) (I : St) : Option St :=
  if x2 < x3 then (mo_bestOf_l40 FU x1 x2 (0 : Int32) I)
  else (if x3 = 0 then (mo_bestOf_b31 k11 x1 x2 x3 (0 : Int32) x3 I)
    else (mo_bestOf_b31 k11 x1 x2 x3 (1000000 : Int32) x3 I))
theorem mo_bestOf_w11 {p : Program} {l : Launch} {e : Env} {s : State} {m : MethodId} {args : Array Value} {below : List Frame} {meth : Method} {c : Code} {Z : MZ} (C : MCx p s m args meth c cX6_bestOf 10 (none) Z) {r : St} {k11 : Int32 → Int32 → Int32 → St → Option St} (hk11 : mo_bestOf_P11 p l e s m args below meth c Z r k11) : mo_bestOf_P11 p l e s m args below meth c Z r (mo_bestOf_b11 k11) := by
  intro x1 x2 x3 I H locs ls hM hl h
  obtain ⟨⟨hx, hb, hr, hlocks, hml, hown, hts⟩, hK⟩ := id C
  unfold mo_bestOf_b11 at h
  refine lv_iload_n hx hb dX6_bestOf_11 rfl (lv_at hl 3 rfl) ?_
  refine lv_iload_n hx hb dX6_bestOf_12 rfl (lv_at hl 2 rfl) ?_
  refine lv_icmp_gt (tgt := 38) hx hb dX6_bestOf_13 (by decide) (fun c1 => ?_) (fun c1 => ?_)
  · have h := ip_ c1 h
    refine lv_iconst (v := 0) hx hb dX6_bestOf_38 (by decide) ?_
    refine lv_istore_n (lv' := [(3, .int (0 : Int32)), (0, .ref (mH Z)), (1, .int x1), (2, .int x2)]) hx hb dX6_bestOf_39 rfl hl (by decide) rfl (fun ls hl => ?_)
    exact mo_bestOf_lw40 C FU x1 x2 (0 : Int32) I _ _ ls hM (lv_sub hl [1, 2, 3, 0] rfl) h
  · have h := in_ c1 h
    refine lv_aload_n hx hb dX6_bestOf_16 rfl (lv_at hl 0 rfl) ?_
    refine gm19 C hM.1 dX6_bestOf_17 ?_
    refine lv_iload_n hx hb dX6_bestOf_20 rfl (lv_at hl 3 rfl) ?_
    refine lv_iload_n hx hb dX6_bestOf_21 rfl (lv_at hl 3 rfl) ?_
    refine lv_if_ne (tgt := 29) hx hb dX6_bestOf_22 (by decide) (fun c2 => ?_) (fun c2 => ?_)
    · have h := in_ c2 h
      refine lv_ldc (v := 1000000) hx hb hown (hts _ q1317) dX6_bestOf_29 ?_
      exact mo_bestOf_w31 C hk11 x1 x2 x3 (1000000 : Int32) x3 I _ _ ls hM (lv_sub hl [0, 1, 2, 3] rfl) h
    · have h := ip_ c2 h
      refine lv_iconst (v := 0) hx hb dX6_bestOf_25 (by decide) ?_
      refine lv_goto (tgt := 31) hx hb dX6_bestOf_26 (by decide) ?_
      exact mo_bestOf_w31 C hk11 x1 x2 x3 (0 : Int32) x3 I _ _ ls hM (lv_sub hl [0, 1, 2, 3] rfl) h
def mo_bestOf_l11 (n : Nat) : Int32 → Int32 → Int32 → St → Option St := lp (fun _ _ _ _ => none) (mo_bestOf_b11) n
theorem mo_bestOf_lw11 {p : Program} {l : Launch} {e : Env} {s : State} {m : MethodId} {args : Array Value} {below : List Frame} {meth : Method} {c : Code} {Z : MZ} (C : MCx p s m args meth c cX6_bestOf 10 (none) Z) {r : St} : ∀ n : Nat, mo_bestOf_P11 p l e s m args below meth c Z r (mo_bestOf_l11 n) := by
  intro n
  induction n with
  | zero => intro x1 x2 x3 I H locs ls hM hl h; exact no_ h
  | succ n ih => exact mo_bestOf_w11 C ih
def mo_bestOf (x1 : Int32) (I : St) : Option St :=
  lt_ (((1 : Int32) <<< ((I 2 0) &&& 31)) - (1 : Int32)) fun v1 =>
  mo_bestOf_l11 FU x1 v1 (0 : Int32) I
theorem mo_bestOf_w0 {p : Program} {l : Launch} {e : Env} {s : State} {m : MethodId} {args : Array Value} {below : List Frame} {meth : Method} {c : Code} {Z : MZ} (C : MCx p s m args meth c cX6_bestOf 10 (none) Z) {r : St} : mo_bestOf_P0 p l e s m args below meth c Z r (mo_bestOf) := by
  intro x1 I H locs ls hM hl h
  obtain ⟨⟨hx, hb, hr, hlocks, hml, hown, hts⟩, hK⟩ := id C
  unfold mo_bestOf at h
  refine lv_iconst (v := 1) hx hb dX6_bestOf_0 (by decide) ?_
  refine lv_aload_n hx hb dX6_bestOf_1 rfl (lv_at hl 0 rfl) ?_
  refine gm2 C hM.1 dX6_bestOf_2 ?_
  refine lv_ishl hx hb dX6_bestOf_5 ?_
  refine lv_iconst (v := 1) hx hb dX6_bestOf_6 (by decide) ?_
  refine lv_isub hx hb dX6_bestOf_7 ?_
  refine lv_topi (fun v1 e_v1 => ?_)
  have h := lt_i h e_v1
  refine lv_istore_n (lv' := [(2, .int v1), (0, .ref (mH Z)), (1, .int x1)]) hx hb dX6_bestOf_8 rfl hl (by decide) rfl (fun ls hl => ?_)
  refine lv_iconst (v := 0) hx hb dX6_bestOf_9 (by decide) ?_
  refine lv_istore_n (lv' := [(3, .int (0 : Int32)), (2, .int v1), (0, .ref (mH Z)), (1, .int x1)]) hx hb dX6_bestOf_10 rfl hl (by decide) rfl (fun ls hl => ?_)
  exact mo_bestOf_lw11 C FU x1 v1 (0 : Int32) I _ _ ls hM (lv_sub hl [2, 3, 1, 0] rfl) h
theorem mo_bestOf_hd : yX6_bestOf.cls = RX6 ∧ yX6_bestOf.cls ≠ "java/lang/invoke/MethodHandle" ∧ yX6_bestOf.cls ≠ "java/lang/invoke/VarHandle" ∧ (parseMethodDescriptor yX6_bestOf.desc).map (fun d => d.parameters.length) = some 1 := by decide +kernel
theorem mo_bestOf_met (l : Launch) (Z : MZ) (I : St) (x1 : Int32) (r : St) (h : mo_bestOf x1 I = some r) : Met l yX6_bestOf (ws_ yX6_bestOf cX6_bestOf 10 (none)) mo_bestOf_rm (va_Pc [.ref (mH Z), .int x1] (mS Z I)) (Qwr (none) (mS Z r) (mA Z)) 0 0 (mA Z) := by
  refine Met.ofW (cc := cX6_bestOf) (maxL := 10) (ret := none) (by decide) rfl ?_
  intro p e s m args below meth c s₁ B hml hv
  obtain ⟨rfl, hv⟩ := hv
  have hts := atoms_spec (ws := ws_ yX6_bestOf cX6_bestOf 10 (none)) B.pre
  have hts : ∀ w ∈ lw_all, w.before _ s = true := fun w h => hts w (List.mem_cons_of_mem _ h)
  have C : SCx p s m _ meth c cX6_bestOf 10 (none) RX6 := ⟨B.exec, B.bytes, B.returns, B.notSynchronized, hml, findClass_of_methodNamed B.named, hts⟩
  have hl := lv_entry [.ref (mH Z), .int x1] (n := 10) (Nat.le_of_ble_eq_true rfl)
  rw [lg_entry_eq]
  generalize (lg_sl [.ref (mH Z), .int x1] ++ List.replicate (10 - (lg_sl [.ref (mH Z), .int x1]).length) Slot.unset).toArray = ls at hl ⊢
  have C : MCx p s m _ meth c _ _ _ Z := ⟨C, hv.2⟩
  have hM : mIn Z s I s.heap [] := ⟨hv.1, va_S.rf⟩
  exact mo_bestOf_w0 C x1 I _ _ ls hM hl h

/-! SecondChancesModel.laysMost()V -/
def mo_laysMost_rm : Room := { frames := 4, cells := 0, slots := 0, locals := 101 }
def mo_laysMost_P0 (p : Program) (l : Launch) (e : Env) (s : State) (m : MethodId) (args : Array Value) (below : List Frame) (meth : Method) (c : Code) (Z : MZ) (r : St) (f : St → Option St) : Prop := ∀ (I : St) (H : Heap) (locs : List Loc) (ls : Array Slot), mIn Z s I H locs → lv_has ls 3 [(0, .ref (mH Z))] → f  I = some r → W p l e mo_laysMost_rm s m args below meth c H locs 0 0 (MQ below (Qwr (none) (mS Z r) (mA Z)) args s 0 0 (mA Z)) (F0 m 0 ls [])
def mo_laysMost_P6 (p : Program) (l : Launch) (e : Env) (s : State) (m : MethodId) (args : Array Value) (below : List Frame) (meth : Method) (c : Code) (Z : MZ) (r : St) (f : Int32 → St → Option St) : Prop := ∀ (x1 : Int32) (I : St) (H : Heap) (locs : List Loc) (ls : Array Slot), mIn Z s I H locs → lv_has ls 3 [(0, .ref (mH Z)), (1, .int x1)] → f x1 I = some r → W p l e mo_laysMost_rm s m args below meth c H locs 0 0 (MQ below (Qwr (none) (mS Z r) (mA Z)) args s 0 0 (mA Z)) (F0 m 6 ls [])
def mo_laysMost_P14 (p : Program) (l : Launch) (e : Env) (s : State) (m : MethodId) (args : Array Value) (below : List Frame) (meth : Method) (c : Code) (Z : MZ) (r : St) (f : Int32 → Int32 → St → Option St) : Prop := ∀ (x1 : Int32) (x2 : Int32) (I : St) (H : Heap) (locs : List Loc) (ls : Array Slot), mIn Z s I H locs → lv_has ls 3 [(0, .ref (mH Z)), (1, .int x1), (2, .int x2)] → f x1 x2 I = some r → W p l e mo_laysMost_rm s m args below meth c H locs 0 0 (MQ below (Qwr (none) (mS Z r) (mA Z)) args s 0 0 (mA Z)) (F0 m 14 ls [])
def mo_laysMost_P77 (p : Program) (l : Launch) (e : Env) (s : State) (m : MethodId) (args : Array Value) (below : List Frame) (meth : Method) (c : Code) (Z : MZ) (r : St) (f : Int32 → St → Option St) : Prop := ∀ (x1 : Int32) (I : St) (H : Heap) (locs : List Loc) (ls : Array Slot), mIn Z s I H locs → lv_has ls 3 [(0, .ref (mH Z)), (1, .int x1)] → f x1 I = some r → W p l e mo_laysMost_rm s m args below meth c H locs 0 0 (MQ below (Qwr (none) (mS Z r) (mA Z)) args s 0 0 (mA Z)) (F0 m 77 ls [])
def mo_laysMost_P99 (p : Program) (l : Launch) (e : Env) (s : State) (m : MethodId) (args : Array Value) (below : List Frame) (meth : Method) (c : Code) (Z : MZ) (r : St) (f : Int32 → St → Option St) : Prop := ∀ (x1 : Int32) (I : St) (H : Heap) (locs : List Loc) (ls : Array Slot), mIn Z s I H locs → lv_has ls 3 [(0, .ref (mH Z)), (1, .int x1)] → f x1 I = some r → W p l e mo_laysMost_rm s m args below meth c H locs 0 0 (MQ below (Qwr (none) (mS Z r) (mA Z)) args s 0 0 (mA Z)) (F0 m 99 ls [])
def mo_laysMost_P121 (p : Program) (l : Launch) (e : Env) (s : State) (m : MethodId) (args : Array Value) (below : List Frame) (meth : Method) (c : Code) (Z : MZ) (r : St) (f : Int32 → St → Option St) : Prop := ∀ (x1 : Int32) (I : St) (H : Heap) (locs : List Loc) (ls : Array Slot), mIn Z s I H locs → lv_has ls 3 [(0, .ref (mH Z)), (1, .int x1)] → f x1 I = some r → W p l e mo_laysMost_rm s m args below meth c H locs 0 0 (MQ below (Qwr (none) (mS Z r) (mA Z)) args s 0 0 (mA Z)) (F0 m 121 ls [])
def mo_laysMost_b121 (k77 : Int32 → St → Option St) (k99 : Int32 → St → Option St) (x1 : Int32) (I : St) : Option St :=
  al_ 8 (I 21) x1 fun v1 =>
  as_ 8 21 I x1 (v1 + (1 : Int32)) fun I2 =>
  bd_ (mo_bestOf (x1 + (1 : Int32)) I2) fun I3 =>
  k99 x1 I3
theorem mo_laysMost_w121 {p : Program} {l : Launch} {e : Env} {s : State} {m : MethodId} {args : Array Value} {below : List Frame} {meth : Method} {c : Code} {Z : MZ} (C : MCx p s m args meth c cX6_laysMost 3 (none) Z) {r : St} {k77 : Int32 → St → Option St} (hk77 : mo_laysMost_P77 p l e s m args below meth c Z r k77) {k99 : Int32 → St → Option St} (hk99 : mo_laysMost_P99 p l e s m args below meth c Z r k99) : mo_laysMost_P121 p l e s m args below meth c Z r (mo_laysMost_b121 k77 k99) := by
  intro x1 I H locs ls hM hl h
  obtain ⟨⟨hx, hb, hr, hlocks, hml, hown, hts⟩, hK⟩ := id C
  unfold mo_laysMost_b121 at h
  refine lv_aload_n hx hb dX6_laysMost_121 rfl (lv_at hl 0 rfl) ?_
  refine gm21 C hM.1 dX6_laysMost_122 ?_
  refine lv_iload_n hx hb dX6_laysMost_125 rfl (lv_at hl 1 rfl) ?_
  refine lv_dup2_11 hx hb dX6_laysMost_126 rfl rfl ?_
  obtain ⟨i_v1, h⟩ := al_e h
  refine m_ald C hM.1 (pos := 19) (k := 21) rfl rfl i_v1 dX6_laysMost_127 (fun v1 e_v1 => ?_)
  have h := h v1 e_v1
  refine lv_iconst (v := 1) hx hb dX6_laysMost_128 (by decide) ?_
  refine lv_iadd hx hb dX6_laysMost_129 ?_
  obtain ⟨i_I2, h⟩ := as_e h
  refine m_ast C hM (pos := 19) (k := 21) rfl rfl i_I2 dX6_laysMost_130 (fun H locs I2 e_I2 hM => ?_)
  have h := h I2 e_I2
  refine lv_aload_n hx hb dX6_laysMost_131 rfl (lv_at hl 0 rfl) ?_
  refine lv_iload_n hx hb dX6_laysMost_132 rfl (lv_at hl 1 rfl) ?_
  refine lv_iconst (v := 1) hx hb dX6_laysMost_133 (by decide) ?_
  refine lv_iadd hx hb dX6_laysMost_134 ?_
  obtain ⟨I3, q_I3, h⟩ := bd_e h
  refine m_wrV (As := [.int (x1 + (1 : Int32))]) (rest := []) C hM (mo_bestOf_met _ Z I2 (x1 + (1 : Int32)) I3 q_I3) (lw_V q1318 q1320 qs60 q88 q1321) mo_bestOf_hd ⟨rfl, rfl⟩ ⟨Nat.le_of_ble_eq_true rfl, Nat.le_of_ble_eq_true rfl⟩ ⟨Nat.le_refl _, Nat.le_refl _⟩ rfl hl.1 rfl (Nat.le_of_ble_eq_true rfl) dX6_laysMost_135 (fun H locs hM => ?_)
  refine lv_goto (tgt := 99) hx hb dX6_laysMost_138 (by decide) ?_
  exact hk99 x1 I3 _ _ ls hM (lv_sub hl [0, 1] rfl) h
def mo_laysMost_b99 (k77 : Int32 → St → Option St) (k99 : Int32 → St → Option St) (x1 : Int32) (I : St) : Option St :=
  if (I 22 0) = (I 24 0) then (if (I 23 0) = (I 25 0) then (k77 (x1 + 1) I)
    else (mo_laysMost_b121 k77 k99 x1 I))
  else (mo_laysMost_b121 k77 k99 x1 I)
theorem mo_laysMost_w99 {p : Program} {l : Launch} {e : Env} {s : State} {m : MethodId} {args : Array Value} {below : List Frame} {meth : Method} {c : Code} {Z : MZ} (C : MCx p s m args meth c cX6_laysMost 3 (none) Z) {r : St} {k77 : Int32 → St → Option St} (hk77 : mo_laysMost_P77 p l e s m args below meth c Z r k77) {k99 : Int32 → St → Option St} (hk99 : mo_laysMost_P99 p l e s m args below meth c Z r k99) : mo_laysMost_P99 p l e s m args below meth c Z r (mo_laysMost_b99 k77 k99) := by
  intro x1 I H locs ls hM hl h
  obtain ⟨⟨hx, hb, hr, hlocks, hml, hown, hts⟩, hK⟩ := id C
  unfold mo_laysMost_b99 at h
  refine lv_aload_n hx hb dX6_laysMost_99 rfl (lv_at hl 0 rfl) ?_
  refine gm22 C hM.1 dX6_laysMost_100 ?_
  refine lv_aload_n hx hb dX6_laysMost_103 rfl (lv_at hl 0 rfl) ?_
  refine gm24 C hM.1 dX6_laysMost_104 ?_
  refine lv_icmp_ne (tgt := 121) hx hb dX6_laysMost_107 (by decide) (fun c1 => ?_) (fun c1 => ?_)
  · have h := in_ c1 h
    exact mo_laysMost_w121 C hk77 hk99 x1 I _ _ ls hM (lv_sub hl [0, 1] rfl) h
  · have h := ip_ c1 h
    refine lv_aload_n hx hb dX6_laysMost_110 rfl (lv_at hl 0 rfl) ?_
    refine gm23 C hM.1 dX6_laysMost_111 ?_
    refine lv_aload_n hx hb dX6_laysMost_114 rfl (lv_at hl 0 rfl) ?_
    refine gm25 C hM.1 dX6_laysMost_115 ?_
    refine lv_icmp_eq (tgt := 141) hx hb dX6_laysMost_118 (by decide) (fun c2 => ?_) (fun c2 => ?_)
    · have h := ip_ c2 h
      refine lv_iinc (v := (x1 + 1)) (lv' := [(1, .int (x1 + 1)), (0, .ref (mH Z))]) hx hb dX6_laysMost_141 hl (k := 1) rfl rfl (by decide) rfl (fun ls hl => ?_)
      refine lv_goto (tgt := 77) hx hb dX6_laysMost_144 (by decide) ?_
      exact hk77 (x1 + 1) I _ _ ls hM (lv_sub hl [1, 0] rfl) h
    · have h := in_ c2 h
      exact mo_laysMost_w121 C hk77 hk99 x1 I _ _ ls hM (lv_sub hl [0, 1] rfl) h
def mo_laysMost_l99 (k77 : Int32 → St → Option St) (n : Nat) : Int32 → St → Option St := lp (fun _ _ => none) (mo_laysMost_b99 k77) n
theorem mo_laysMost_lw99 {p : Program} {l : Launch} {e : Env} {s : State} {m : MethodId} {args : Array Value} {below : List Frame} {meth : Method} {c : Code} {Z : MZ} (C : MCx p s m args meth c cX6_laysMost 3 (none) Z) {r : St} {k77 : Int32 → St → Option St} (hk77 : mo_laysMost_P77 p l e s m args below meth c Z r k77) : ∀ n : Nat, mo_laysMost_P99 p l e s m args below meth c Z r (mo_laysMost_l99 k77 n) := by
  intro n
  induction n with
  | zero => intro x1 I H locs ls hM hl h; exact no_ h
  | succ n ih => exact mo_laysMost_w99 C hk77 ih
def mo_laysMost_b77 (k77 : Int32 → St → Option St) (x1 : Int32) (I : St) : Option St :=
  if (I 2 0) ≤ x1 then (some I)
  else (as_ 8 21 I x1 (-1 : Int32) fun I2 =>
    bd_ (mo_bestOf (x1 + (1 : Int32)) I2) fun I3 =>
    mo_laysMost_l99 k77 FU x1 I3)
theorem mo_laysMost_w77 {p : Program} {l : Launch} {e : Env} {s : State} {m : MethodId} {args : Array Value} {below : List Frame} {meth : Method} {c : Code} {Z : MZ} (C : MCx p s m args meth c cX6_laysMost 3 (none) Z) {r : St} {k77 : Int32 → St → Option St} (hk77 : mo_laysMost_P77 p l e s m args below meth c Z r k77) : mo_laysMost_P77 p l e s m args below meth c Z r (mo_laysMost_b77 k77) := by
  intro x1 I H locs ls hM hl h
  obtain ⟨⟨hx, hb, hr, hlocks, hml, hown, hts⟩, hK⟩ := id C
  unfold mo_laysMost_b77 at h
  refine lv_iload_n hx hb dX6_laysMost_77 rfl (lv_at hl 1 rfl) ?_
  refine lv_aload_n hx hb dX6_laysMost_78 rfl (lv_at hl 0 rfl) ?_
  refine gm2 C hM.1 dX6_laysMost_79 ?_
  refine lv_icmp_ge (tgt := 147) hx hb dX6_laysMost_82 (by decide) (fun c1 => ?_) (fun c1 => ?_)
  · have h := ip_ c1 h
    have h := so_ h
    subst h
    exact W.vret hx hb hr (fun t ht hW => ⟨rfl, ⟨by rw [ht]; exact hM.1, va_K.moved hW.alike hK⟩, hM.2.F ht⟩) hM.2.2.2 dX6_laysMost_147
  · have h := in_ c1 h
    refine lv_aload_n hx hb dX6_laysMost_85 rfl (lv_at hl 0 rfl) ?_
    refine gm21 C hM.1 dX6_laysMost_86 ?_
    refine lv_iload_n hx hb dX6_laysMost_89 rfl (lv_at hl 1 rfl) ?_
    refine lv_iconst (v := -1) hx hb dX6_laysMost_90 (by decide) ?_
    obtain ⟨i_I2, h⟩ := as_e h
    refine m_ast C hM (pos := 19) (k := 21) rfl rfl i_I2 dX6_laysMost_91 (fun H locs I2 e_I2 hM => ?_)
    have h := h I2 e_I2
    refine lv_aload_n hx hb dX6_laysMost_92 rfl (lv_at hl 0 rfl) ?_
    refine lv_iload_n hx hb dX6_laysMost_93 rfl (lv_at hl 1 rfl) ?_
    refine lv_iconst (v := 1) hx hb dX6_laysMost_94 (by decide) ?_
    refine lv_iadd hx hb dX6_laysMost_95 ?_
    obtain ⟨I3, q_I3, h⟩ := bd_e h
    refine m_wrV (As := [.int (x1 + (1 : Int32))]) (rest := []) C hM (mo_bestOf_met _ Z I2 (x1 + (1 : Int32)) I3 q_I3) (lw_V q1318 q1320 qs60 q88 q1321) mo_bestOf_hd ⟨rfl, rfl⟩ ⟨Nat.le_of_ble_eq_true rfl, Nat.le_of_ble_eq_true rfl⟩ ⟨Nat.le_refl _, Nat.le_refl _⟩ rfl hl.1 rfl (Nat.le_of_ble_eq_true rfl) dX6_laysMost_96 (fun H locs hM => ?_)
    exact mo_laysMost_lw99 C hk77 FU x1 I3 _ _ ls hM (lv_sub hl [0, 1] rfl) h
def mo_laysMost_l77 (n : Nat) : Int32 → St → Option St := lp (fun _ _ => none) (mo_laysMost_b77) n
theorem mo_laysMost_lw77 {p : Program} {l : Launch} {e : Env} {s : State} {m : MethodId} {args : Array Value} {below : List Frame} {meth : Method} {c : Code} {Z : MZ} (C : MCx p s m args meth c cX6_laysMost 3 (none) Z) {r : St} : ∀ n : Nat, mo_laysMost_P77 p l e s m args below meth c Z r (mo_laysMost_l77 n) := by
  intro n
  induction n with
  | zero => intro x1 I H locs ls hM hl h; exact no_ h
  | succ n ih => exact mo_laysMost_w77 C ih
def mo_laysMost_b14 (k6 : Int32 → St → Option St) (k14 : Int32 → Int32 → St → Option St) (x1 : Int32) (x2 : Int32) (I : St) : Option St :=
  if ((1 : Int32) <<< ((I 2 0) &&& 31)) ≤ x2 then (k6 (x1 + 1) I)
  else (bd_ (mo_costTogether I x2 x1) fun v2 =>
    as_ 2048 18 I (((256 : Int32) * x1) + x2) v2 fun I3 =>
    k14 x1 (x2 + 1) I3)
theorem mo_laysMost_w14 {p : Program} {l : Launch} {e : Env} {s : State} {m : MethodId} {args : Array Value} {below : List Frame} {meth : Method} {c : Code} {Z : MZ} (C : MCx p s m args meth c cX6_laysMost 3 (none) Z) {r : St} {k6 : Int32 → St → Option St} (hk6 : mo_laysMost_P6 p l e s m args below meth c Z r k6) {k14 : Int32 → Int32 → St → Option St} (hk14 : mo_laysMost_P14 p l e s m args below meth c Z r k14) : mo_laysMost_P14 p l e s m args below meth c Z r (mo_laysMost_b14 k6 k14) := by
  intro x1 x2 I H locs ls hM hl h
  obtain ⟨⟨hx, hb, hr, hlocks, hml, hown, hts⟩, hK⟩ := id C
  unfold mo_laysMost_b14 at h
  refine lv_iload_n hx hb dX6_laysMost_14 rfl (lv_at hl 2 rfl) ?_
  refine lv_iconst (v := 1) hx hb dX6_laysMost_15 (by decide) ?_
  refine lv_aload_n hx hb dX6_laysMost_16 rfl (lv_at hl 0 rfl) ?_
  refine gm2 C hM.1 dX6_laysMost_17 ?_
  refine lv_ishl hx hb dX6_laysMost_20 ?_
  refine lv_icmp_ge (tgt := 48) hx hb dX6_laysMost_21 (by decide) (fun c1 => ?_) (fun c1 => ?_)
  · have h := ip_ c1 h
    refine lv_iinc (v := (x1 + 1)) (lv' := [(1, .int (x1 + 1)), (0, .ref (mH Z)), (2, .int x2)]) hx hb dX6_laysMost_48 hl (k := 1) rfl rfl (by decide) rfl (fun ls hl => ?_)
    refine lv_goto (tgt := 6) hx hb dX6_laysMost_51 (by decide) ?_
    exact hk6 (x1 + 1) I _ _ ls hM (lv_sub hl [1, 0] rfl) h
  · have h := in_ c1 h
    refine lv_aload_n hx hb dX6_laysMost_24 rfl (lv_at hl 0 rfl) ?_
    refine gm18 C hM.1 dX6_laysMost_25 ?_
    refine lv_sipush (v := 256) hx hb dX6_laysMost_28 (by decide) ?_
    refine lv_iload_n hx hb dX6_laysMost_31 rfl (lv_at hl 1 rfl) ?_
    refine lv_imul hx hb dX6_laysMost_32 ?_
    refine lv_iload_n hx hb dX6_laysMost_33 rfl (lv_at hl 2 rfl) ?_
    refine lv_iadd hx hb dX6_laysMost_34 ?_
    refine lv_aload_n hx hb dX6_laysMost_35 rfl (lv_at hl 0 rfl) ?_
    refine lv_iload_n hx hb dX6_laysMost_36 rfl (lv_at hl 2 rfl) ?_
    refine lv_iload_n hx hb dX6_laysMost_37 rfl (lv_at hl 1 rfl) ?_
    obtain ⟨v2, q_v2, h⟩ := bd_e h
    refine m_roI (As := [.int x2, .int x1]) (rest := [.int (((256 : Int32) * x1) + x2), .ref (mAd Z 18)]) C hM.1 (mo_costTogether_met _ Z I x2 x1 v2 q_v2) (lw_V q1313 q1315 qs59 q88 q1316) mo_costTogether_hd ⟨rfl, rfl⟩ ⟨Nat.le_of_ble_eq_true rfl, Nat.le_of_ble_eq_true rfl⟩ ⟨Nat.le_refl _, Nat.le_refl _⟩ rfl hl.1 rfl (Nat.le_of_ble_eq_true rfl) dX6_laysMost_38 ?_
    obtain ⟨i_I3, h⟩ := as_e h
    refine m_ast C hM (pos := 16) (k := 18) rfl rfl i_I3 dX6_laysMost_41 (fun H locs I3 e_I3 hM => ?_)
    have h := h I3 e_I3
    refine lv_iinc (v := (x2 + 1)) (lv' := [(2, .int (x2 + 1)), (0, .ref (mH Z)), (1, .int x1)]) hx hb dX6_laysMost_42 hl (k := 2) rfl rfl (by decide) rfl (fun ls hl => ?_)
    refine lv_goto (tgt := 14) hx hb dX6_laysMost_45 (by decide) ?_
    exact hk14 x1 (x2 + 1) I3 _ _ ls hM (lv_sub hl [1, 2, 0] rfl) h
def mo_laysMost_l14 (k6 : Int32 → St → Option St) (n : Nat) : Int32 → Int32 → St → Option St := lp (fun _ _ _ => none) (mo_laysMost_b14 k6) n
theorem mo_laysMost_lw14 {p : Program} {l : Launch} {e : Env} {s : State} {m : MethodId} {args : Array Value} {below : List Frame} {meth : Method} {c : Code} {Z : MZ} (C : MCx p s m args meth c cX6_laysMost 3 (none) Z) {r : St} {k6 : Int32 → St → Option St} (hk6 : mo_laysMost_P6 p l e s m args below meth c Z r k6) : ∀ n : Nat, mo_laysMost_P14 p l e s m args below meth c Z r (mo_laysMost_l14 k6 n) := by
  intro n
  induction n with
  | zero => intro x1 x2 I H locs ls hM hl h; exact no_ h
  | succ n ih => exact mo_laysMost_w14 C hk6 ih
def mo_laysMost_b6 (k6 : Int32 → St → Option St) (x1 : Int32) (I : St) : Option St :=
  if (8 : Int32) ≤ x1 then (bd_ (mo_bestOf (0 : Int32) I) fun I2 =>
    lt_ (upd2 I2 24 0 (I2 22 0)) fun I3 =>
    lt_ (upd2 I3 25 0 (I3 23 0)) fun I4 =>
    mo_laysMost_l77 FU (0 : Int32) I4)
  else (mo_laysMost_l14 k6 FU x1 (0 : Int32) I)
theorem mo_laysMost_w6 {p : Program} {l : Launch} {e : Env} {s : State} {m : MethodId} {args : Array Value} {below : List Frame} {meth : Method} {c : Code} {Z : MZ} (C : MCx p s m args meth c cX6_laysMost 3 (none) Z) {r : St} {k6 : Int32 → St → Option St} (hk6 : mo_laysMost_P6 p l e s m args below meth c Z r k6) : mo_laysMost_P6 p l e s m args below meth c Z r (mo_laysMost_b6 k6) := by
  intro x1 I H locs ls hM hl h
  obtain ⟨⟨hx, hb, hr, hlocks, hml, hown, hts⟩, hK⟩ := id C
  unfold mo_laysMost_b6 at h
  refine lv_iload_n hx hb dX6_laysMost_6 rfl (lv_at hl 1 rfl) ?_
  refine lv_bipush (v := 8) hx hb dX6_laysMost_7 (by decide) ?_
  refine lv_icmp_ge (tgt := 54) hx hb dX6_laysMost_9 (by decide) (fun c1 => ?_) (fun c1 => ?_)
  · have h := ip_ c1 h
    refine lv_aload_n hx hb dX6_laysMost_54 rfl (lv_at hl 0 rfl) ?_
    refine lv_iconst (v := 0) hx hb dX6_laysMost_55 (by decide) ?_
    obtain ⟨I2, q_I2, h⟩ := bd_e h
    refine m_wrV (As := [.int (0 : Int32)]) (rest := []) C hM (mo_bestOf_met _ Z I (0 : Int32) I2 q_I2) (lw_V q1318 q1320 qs60 q88 q1321) mo_bestOf_hd ⟨rfl, rfl⟩ ⟨Nat.le_of_ble_eq_true rfl, Nat.le_of_ble_eq_true rfl⟩ ⟨Nat.le_refl _, Nat.le_refl _⟩ rfl hl.1 rfl (Nat.le_of_ble_eq_true rfl) dX6_laysMost_56 (fun H locs hM => ?_)
    refine lv_aload_n hx hb dX6_laysMost_59 rfl (lv_at hl 0 rfl) ?_
    refine lv_aload_n hx hb dX6_laysMost_60 rfl (lv_at hl 0 rfl) ?_
    refine gm22 C hM.1 dX6_laysMost_61 ?_
    refine pm24 C hM dX6_laysMost_64 (fun H locs I3 e_I3 hM => ?_)
    have h := lt_i h e_I3
    refine lv_aload_n hx hb dX6_laysMost_67 rfl (lv_at hl 0 rfl) ?_
    refine lv_aload_n hx hb dX6_laysMost_68 rfl (lv_at hl 0 rfl) ?_
    refine gm23 C hM.1 dX6_laysMost_69 ?_
    refine pm25 C hM dX6_laysMost_72 (fun H locs I4 e_I4 hM => ?_)
    have h := lt_i h e_I4
    refine lv_iconst (v := 0) hx hb dX6_laysMost_75 (by decide) ?_
    refine lv_istore_n (lv' := [(1, .int (0 : Int32)), (0, .ref (mH Z))]) hx hb dX6_laysMost_76 rfl hl (by decide) rfl (fun ls hl => ?_)
    exact mo_laysMost_lw77 C FU (0 : Int32) I4 _ _ ls hM (lv_sub hl [1, 0] rfl) h
  · have h := in_ c1 h
    refine lv_iconst (v := 0) hx hb dX6_laysMost_12 (by decide) ?_
    refine lv_istore_n (lv' := [(2, .int (0 : Int32)), (0, .ref (mH Z)), (1, .int x1)]) hx hb dX6_laysMost_13 rfl hl (by decide) rfl (fun ls hl => ?_)
    exact mo_laysMost_lw14 C hk6 FU x1 (0 : Int32) I _ _ ls hM (lv_sub hl [1, 2, 0] rfl) h
def mo_laysMost_l6 (n : Nat) : Int32 → St → Option St := lp (fun _ _ => none) (mo_laysMost_b6) n
theorem mo_laysMost_lw6 {p : Program} {l : Launch} {e : Env} {s : State} {m : MethodId} {args : Array Value} {below : List Frame} {meth : Method} {c : Code} {Z : MZ} (C : MCx p s m args meth c cX6_laysMost 3 (none) Z) {r : St} : ∀ n : Nat, mo_laysMost_P6 p l e s m args below meth c Z r (mo_laysMost_l6 n) := by
  intro n
  induction n with
  | zero => intro x1 I H locs ls hM hl h; exact no_ h
  | succ n ih => exact mo_laysMost_w6 C ih
def mo_laysMost (I : St) : Option St :=
  bd_ (mo_reads  I) fun I1 =>
  mo_laysMost_l6 FU (0 : Int32) I1
theorem mo_laysMost_w0 {p : Program} {l : Launch} {e : Env} {s : State} {m : MethodId} {args : Array Value} {below : List Frame} {meth : Method} {c : Code} {Z : MZ} (C : MCx p s m args meth c cX6_laysMost 3 (none) Z) {r : St} : mo_laysMost_P0 p l e s m args below meth c Z r (mo_laysMost) := by
  intro I H locs ls hM hl h
  obtain ⟨⟨hx, hb, hr, hlocks, hml, hown, hts⟩, hK⟩ := id C
  unfold mo_laysMost at h
  refine lv_aload_n hx hb dX6_laysMost_0 rfl (lv_at hl 0 rfl) ?_
  obtain ⟨I1, q_I1, h⟩ := bd_e h
  refine m_wrV (As := []) (rest := []) C hM (mo_reads_met _ Z I  I1 q_I1) (lw_V q1213 q1215 qs47 q88 q1216) mo_reads_hd ⟨rfl, rfl⟩ ⟨Nat.le_of_ble_eq_true rfl, Nat.le_of_ble_eq_true rfl⟩ ⟨Nat.le_refl _, Nat.le_refl _⟩ rfl hl.1 rfl (Nat.le_of_ble_eq_true rfl) dX6_laysMost_1 (fun H locs hM => ?_)
  refine lv_iconst (v := 0) hx hb dX6_laysMost_4 (by decide) ?_
  refine lv_istore_n (lv' := [(1, .int (0 : Int32)), (0, .ref (mH Z))]) hx hb dX6_laysMost_5 rfl hl (by decide) rfl (fun ls hl => ?_)
  exact mo_laysMost_lw6 C FU (0 : Int32) I1 _ _ ls hM (lv_sub hl [1, 0] rfl) h
theorem mo_laysMost_hd : yX6_laysMost.cls = RX6 ∧ yX6_laysMost.cls ≠ "java/lang/invoke/MethodHandle" ∧ yX6_laysMost.cls ≠ "java/lang/invoke/VarHandle" ∧ (parseMethodDescriptor yX6_laysMost.desc).map (fun d => d.parameters.length) = some 0 := by decide +kernel
theorem mo_laysMost_met (l : Launch) (Z : MZ) (I : St) (r : St) (h : mo_laysMost I = some r) : Met l yX6_laysMost (ws_ yX6_laysMost cX6_laysMost 3 (none)) mo_laysMost_rm (va_Pc [.ref (mH Z)] (mS Z I)) (Qwr (none) (mS Z r) (mA Z)) 0 0 (mA Z) := by
  refine Met.ofW (cc := cX6_laysMost) (maxL := 3) (ret := none) (by decide) rfl ?_
  intro p e s m args below meth c s₁ B hml hv
  obtain ⟨rfl, hv⟩ := hv
  have hts := atoms_spec (ws := ws_ yX6_laysMost cX6_laysMost 3 (none)) B.pre
  have hts : ∀ w ∈ lw_all, w.before _ s = true := fun w h => hts w (List.mem_cons_of_mem _ h)
  have C : SCx p s m _ meth c cX6_laysMost 3 (none) RX6 := ⟨B.exec, B.bytes, B.returns, B.notSynchronized, hml, findClass_of_methodNamed B.named, hts⟩
  have hl := lv_entry [.ref (mH Z)] (n := 3) (Nat.le_of_ble_eq_true rfl)
  rw [lg_entry_eq]
  generalize (lg_sl [.ref (mH Z)] ++ List.replicate (3 - (lg_sl [.ref (mH Z)]).length) Slot.unset).toArray = ls at hl ⊢
  have C : MCx p s m _ meth c _ _ _ Z := ⟨C, hv.2⟩
  have hM : mIn Z s I s.heap [] := ⟨hv.1, va_S.rf⟩
  exact mo_laysMost_w0 C  I _ _ ls hM hl h

/-! SecondChancesModel.most(I)I -/
def mo_most_rm : Room := { frames := 5, cells := 0, slots := 0, locals := 123 }
def mo_most_P0 (p : Program) (l : Launch) (e : Env) (s : State) (m : MethodId) (args : Array Value) (below : List Frame) (meth : Method) (c : Code) (Z : MZ) (r : (Int32 × St)) (f : Int32 → St → Option (Int32 × St)) : Prop := ∀ (x1 : Int32) (I : St) (H : Heap) (locs : List Loc) (ls : Array Slot), mIn Z s I H locs → lv_has ls 2 [(0, .ref (mH Z)), (1, .int x1)] → f x1 I = some r → W p l e mo_most_rm s m args below meth c H locs 0 0 (MQ below (Qwr (some (.int r.1)) (mS Z r.2) (mA Z)) args s 0 0 (mA Z)) (F0 m 0 ls [])
def mo_most (x1 : Int32) (I : St) : Option (Int32 × St) :=
  bd_ (mo_in x1 (0 : Int32) (1 : Int32)) fun v1 =>
  if v1 = 0 then (some ((-2 : Int32), I))
  else (bd_ (mo_laysMost  I) fun I3 =>
    if x1 = 0 then (some ((I3 24 0), I3))
    else (some ((I3 25 0), I3)))
theorem mo_most_w0 {p : Program} {l : Launch} {e : Env} {s : State} {m : MethodId} {args : Array Value} {below : List Frame} {meth : Method} {c : Code} {Z : MZ} (C : MCx p s m args meth c cX6_most 2 (some .int) Z) {r : (Int32 × St)} : mo_most_P0 p l e s m args below meth c Z r (mo_most) := by
  intro x1 I H locs ls hM hl h
  obtain ⟨⟨hx, hb, hr, hlocks, hml, hown, hts⟩, hK⟩ := id C
  unfold mo_most at h
  refine lv_iload_n hx hb dX6_most_0 rfl (lv_at hl 1 rfl) ?_
  refine lv_iconst (v := 0) hx hb dX6_most_1 (by decide) ?_
  refine lv_iconst (v := 1) hx hb dX6_most_2 (by decide) ?_
  obtain ⟨v1, q_v1, h⟩ := bd_e h
  refine s_roI (As := [.int x1, .int (0 : Int32), .int (1 : Int32)]) (rest := []) C.1 (mo_in_met _ x1 (0 : Int32) (1 : Int32) v1 q_v1) (lw_S q1168 q1169 q88 q1170) mo_in_hd ⟨rfl, rfl⟩ ⟨Nat.le_of_ble_eq_true rfl, Nat.le_of_ble_eq_true rfl⟩ ⟨Nat.le_refl _, Nat.le_refl _⟩ rfl hl.1 rfl (Nat.le_of_ble_eq_true rfl) dX6_most_3 ?_
  refine lv_if_ne (tgt := 12) hx hb dX6_most_6 (by decide) (fun c2 => ?_) (fun c2 => ?_)
  · have h := in_ c2 h
    refine lv_aload_n hx hb dX6_most_12 rfl (lv_at hl 0 rfl) ?_
    obtain ⟨I3, q_I3, h⟩ := bd_e h
    refine m_wrV (As := []) (rest := []) C hM (mo_laysMost_met _ Z I  I3 q_I3) (lw_V q1309 q1311 qs58 q88 q1312) mo_laysMost_hd ⟨rfl, rfl⟩ ⟨Nat.le_of_ble_eq_true rfl, Nat.le_of_ble_eq_true rfl⟩ ⟨Nat.le_refl _, Nat.le_refl _⟩ rfl hl.1 rfl (Nat.le_of_ble_eq_true rfl) dX6_most_13 (fun H locs hM => ?_)
    refine lv_iload_n hx hb dX6_most_16 rfl (lv_at hl 1 rfl) ?_
    refine lv_if_ne (tgt := 27) hx hb dX6_most_17 (by decide) (fun c4 => ?_) (fun c4 => ?_)
    · have h := in_ c4 h
      refine lv_aload_n hx hb dX6_most_27 rfl (lv_at hl 0 rfl) ?_
      refine gm25 C hM.1 dX6_most_28 ?_
      have h := so_ h
      subst h
      exact W.iret hx hb hr (fun t ht hW => ⟨rfl, ⟨by rw [ht]; exact hM.1, va_K.moved hW.alike hK⟩, hM.2.F ht⟩) hM.2.2.2 dX6_most_31
    · have h := ip_ c4 h
      refine lv_aload_n hx hb dX6_most_20 rfl (lv_at hl 0 rfl) ?_
      refine gm24 C hM.1 dX6_most_21 ?_
      refine lv_goto (tgt := 31) hx hb dX6_most_24 (by decide) ?_
      have h := so_ h
      subst h
      exact W.iret hx hb hr (fun t ht hW => ⟨rfl, ⟨by rw [ht]; exact hM.1, va_K.moved hW.alike hK⟩, hM.2.F ht⟩) hM.2.2.2 dX6_most_31
  · have h := ip_ c2 h
    refine lv_bipush (v := -2) hx hb dX6_most_9 (by decide) ?_
    have h := so_ h
    subst h
    exact W.iret hx hb hr (fun t ht hW => ⟨rfl, ⟨by rw [ht]; exact hM.1, va_K.moved hW.alike hK⟩, hM.2.F ht⟩) hM.2.2.2 dX6_most_11
theorem mo_most_hd : yX6_most.cls = RX6 ∧ yX6_most.cls ≠ "java/lang/invoke/MethodHandle" ∧ yX6_most.cls ≠ "java/lang/invoke/VarHandle" ∧ (parseMethodDescriptor yX6_most.desc).map (fun d => d.parameters.length) = some 1 := by decide +kernel
theorem mo_most_met (l : Launch) (Z : MZ) (I : St) (x1 : Int32) (r : (Int32 × St)) (h : mo_most x1 I = some r) : Met l yX6_most (ws_ yX6_most cX6_most 2 (some .int)) mo_most_rm (va_Pc [.ref (mH Z), .int x1] (mS Z I)) (Qwr (some (.int r.1)) (mS Z r.2) (mA Z)) 0 0 (mA Z) := by
  refine Met.ofW (cc := cX6_most) (maxL := 2) (ret := some .int) (by decide) rfl ?_
  intro p e s m args below meth c s₁ B hml hv
  obtain ⟨rfl, hv⟩ := hv
  have hts := atoms_spec (ws := ws_ yX6_most cX6_most 2 (some .int)) B.pre
  have hts : ∀ w ∈ lw_all, w.before _ s = true := fun w h => hts w (List.mem_cons_of_mem _ h)
  have C : SCx p s m _ meth c cX6_most 2 (some .int) RX6 := ⟨B.exec, B.bytes, B.returns, B.notSynchronized, hml, findClass_of_methodNamed B.named, hts⟩
  have hl := lv_entry [.ref (mH Z), .int x1] (n := 2) (Nat.le_of_ble_eq_true rfl)
  rw [lg_entry_eq]
  generalize (lg_sl [.ref (mH Z), .int x1] ++ List.replicate (2 - (lg_sl [.ref (mH Z), .int x1]).length) Slot.unset).toArray = ls at hl ⊢
  have C : MCx p s m _ meth c _ _ _ Z := ⟨C, hv.2⟩
  have hM : mIn Z s I s.heap [] := ⟨hv.1, va_S.rf⟩
  exact mo_most_w0 C x1 I _ _ ls hM hl h

/-! SecondChancesModel.when(I)I -/
def mo_when_rm : Room := { frames := 5, cells := 0, slots := 0, locals := 123 }
def mo_when_P0 (p : Program) (l : Launch) (e : Env) (s : State) (m : MethodId) (args : Array Value) (below : List Frame) (meth : Method) (c : Code) (Z : MZ) (r : (Int32 × St)) (f : Int32 → St → Option (Int32 × St)) : Prop := ∀ (x1 : Int32) (I : St) (H : Heap) (locs : List Loc) (ls : Array Slot), mIn Z s I H locs → lv_has ls 2 [(0, .ref (mH Z)), (1, .int x1)] → f x1 I = some r → W p l e mo_when_rm s m args below meth c H locs 0 0 (MQ below (Qwr (some (.int r.1)) (mS Z r.2) (mA Z)) args s 0 0 (mA Z)) (F0 m 0 ls [])
def mo_when (x1 : Int32) (I : St) : Option (Int32 × St) :=
  bd2_ (mo_isDeed x1 I) fun v2 I1 =>
  if v2 = 0 then (some ((-2 : Int32), I1))
  else (bd_ (mo_laysMost  I1) fun I4 =>
    al_ 8 (I4 21) x1 fun v5 =>
    some (v5, I4))
theorem mo_when_w0 {p : Program} {l : Launch} {e : Env} {s : State} {m : MethodId} {args : Array Value} {below : List Frame} {meth : Method} {c : Code} {Z : MZ} (C : MCx p s m args meth c cX6_when 2 (some .int) Z) {r : (Int32 × St)} : mo_when_P0 p l e s m args below meth c Z r (mo_when) := by
  intro x1 I H locs ls hM hl h
  obtain ⟨⟨hx, hb, hr, hlocks, hml, hown, hts⟩, hK⟩ := id C
  unfold mo_when at h
  refine lv_aload_n hx hb dX6_when_0 rfl (lv_at hl 0 rfl) ?_
  refine lv_iload_n hx hb dX6_when_1 rfl (lv_at hl 1 rfl) ?_
  obtain ⟨v2, I1, q_I1, h⟩ := bd2_e h
  refine m_wrI (As := [.int x1]) (rest := []) C hM (mo_isDeed_met _ Z I x1 (v2, I1) q_I1) (lw_V q1209 q1211 qs46 q88 q1212) mo_isDeed_hd ⟨rfl, rfl⟩ ⟨Nat.le_of_ble_eq_true rfl, Nat.le_of_ble_eq_true rfl⟩ ⟨Nat.le_refl _, Nat.le_refl _⟩ rfl hl.1 rfl (Nat.le_of_ble_eq_true rfl) dX6_when_2 (fun H locs hM => ?_)
  refine lv_if_ne (tgt := 11) hx hb dX6_when_5 (by decide) (fun c3 => ?_) (fun c3 => ?_)
  · have h := in_ c3 h
    refine lv_aload_n hx hb dX6_when_11 rfl (lv_at hl 0 rfl) ?_
    obtain ⟨I4, q_I4, h⟩ := bd_e h
    refine m_wrV (As := []) (rest := []) C hM (mo_laysMost_met _ Z I1  I4 q_I4) (lw_V q1309 q1311 qs58 q88 q1312) mo_laysMost_hd ⟨rfl, rfl⟩ ⟨Nat.le_of_ble_eq_true rfl, Nat.le_of_ble_eq_true rfl⟩ ⟨Nat.le_refl _, Nat.le_refl _⟩ rfl hl.1 rfl (Nat.le_of_ble_eq_true rfl) dX6_when_12 (fun H locs hM => ?_)
    refine lv_aload_n hx hb dX6_when_15 rfl (lv_at hl 0 rfl) ?_
    refine gm21 C hM.1 dX6_when_16 ?_
    refine lv_iload_n hx hb dX6_when_19 rfl (lv_at hl 1 rfl) ?_
    obtain ⟨i_v5, h⟩ := al_e h
    refine m_ald C hM.1 (pos := 19) (k := 21) rfl rfl i_v5 dX6_when_20 (fun v5 e_v5 => ?_)
    have h := h v5 e_v5
    have h := so_ h
    subst h
    exact W.iret hx hb hr (fun t ht hW => ⟨rfl, ⟨by rw [ht]; exact hM.1, va_K.moved hW.alike hK⟩, hM.2.F ht⟩) hM.2.2.2 dX6_when_21
  · have h := ip_ c3 h
    refine lv_bipush (v := -2) hx hb dX6_when_8 (by decide) ?_
    have h := so_ h
    subst h
    exact W.iret hx hb hr (fun t ht hW => ⟨rfl, ⟨by rw [ht]; exact hM.1, va_K.moved hW.alike hK⟩, hM.2.F ht⟩) hM.2.2.2 dX6_when_10
theorem mo_when_hd : yX6_when.cls = RX6 ∧ yX6_when.cls ≠ "java/lang/invoke/MethodHandle" ∧ yX6_when.cls ≠ "java/lang/invoke/VarHandle" ∧ (parseMethodDescriptor yX6_when.desc).map (fun d => d.parameters.length) = some 1 := by decide +kernel
theorem mo_when_met (l : Launch) (Z : MZ) (I : St) (x1 : Int32) (r : (Int32 × St)) (h : mo_when x1 I = some r) : Met l yX6_when (ws_ yX6_when cX6_when 2 (some .int)) mo_when_rm (va_Pc [.ref (mH Z), .int x1] (mS Z I)) (Qwr (some (.int r.1)) (mS Z r.2) (mA Z)) 0 0 (mA Z) := by
  refine Met.ofW (cc := cX6_when) (maxL := 2) (ret := some .int) (by decide) rfl ?_
  intro p e s m args below meth c s₁ B hml hv
  obtain ⟨rfl, hv⟩ := hv
  have hts := atoms_spec (ws := ws_ yX6_when cX6_when 2 (some .int)) B.pre
  have hts : ∀ w ∈ lw_all, w.before _ s = true := fun w h => hts w (List.mem_cons_of_mem _ h)
  have C : SCx p s m _ meth c cX6_when 2 (some .int) RX6 := ⟨B.exec, B.bytes, B.returns, B.notSynchronized, hml, findClass_of_methodNamed B.named, hts⟩
  have hl := lv_entry [.ref (mH Z), .int x1] (n := 2) (Nat.le_of_ble_eq_true rfl)
  rw [lg_entry_eq]
  generalize (lg_sl [.ref (mH Z), .int x1] ++ List.replicate (2 - (lg_sl [.ref (mH Z), .int x1]).length) Slot.unset).toArray = ls at hl ⊢
  have C : MCx p s m _ meth c _ _ _ Z := ⟨C, hv.2⟩
  have hM : mIn Z s I s.heap [] := ⟨hv.1, va_S.rf⟩
  exact mo_when_w0 C x1 I _ _ ls hM hl h

/-! SecondChancesModel.planCostOf(I)I -/
def mo_planCostOf_rm : Room := { frames := 4, cells := 0, slots := 0, locals := 101 }
def mo_planCostOf_P0 (p : Program) (l : Launch) (e : Env) (s : State) (m : MethodId) (args : Array Value) (below : List Frame) (meth : Method) (c : Code) (Z : MZ) (r : Int32) (f : Int32 → Option Int32) : Prop := ∀ (x1 : Int32) (ls : Array Slot), lv_has ls 6 [(0, .ref (mH Z)), (1, .int x1)] → f x1 = some r → W p l e mo_planCostOf_rm s m args below meth c s.heap [] 0 0 (MQ below (Qro (some (.int r))) args s 0 0 (fun _ => False)) (F0 m 0 ls [])
def mo_planCostOf_P4 (p : Program) (l : Launch) (e : Env) (s : State) (m : MethodId) (args : Array Value) (below : List Frame) (meth : Method) (c : Code) (Z : MZ) (r : Int32) (f : Int32 → Int32 → Int32 → Option Int32) : Prop := ∀ (x1 : Int32) (x2 : Int32) (x3 : Int32) (ls : Array Slot), lv_has ls 6 [(0, .ref (mH Z)), (1, .int x1), (2, .int x2), (3, .int x3)] → f x1 x2 x3 = some r → W p l e mo_planCostOf_rm s m args below meth c s.heap [] 0 0 (MQ below (Qro (some (.int r))) args s 0 0 (fun _ => False)) (F0 m 4 ls [])
def mo_planCostOf_P43 (p : Program) (l : Launch) (e : Env) (s : State) (m : MethodId) (args : Array Value) (below : List Frame) (meth : Method) (c : Code) (Z : MZ) (r : Int32) (f : Int32 → Int32 → Int32 → Option Int32) : Prop := ∀ (x1 : Int32) (x2 : Int32) (x3 : Int32) (ls : Array Slot), lv_has ls 6 [(0, .ref (mH Z)), (1, .int x1), (2, .int x2), (3, .int x3)] → f x1 x2 x3 = some r → W p l e mo_planCostOf_rm s m args below meth c s.heap [] 0 0 (MQ below (Qro (some (.int r))) args s 0 0 (fun _ => False)) (F0 m 43 ls [])
def mo_planCostOf_P55 (p : Program) (l : Launch) (e : Env) (s : State) (m : MethodId) (args : Array Value) (below : List Frame) (meth : Method) (c : Code) (Z : MZ) (r : Int32) (f : Int32 → Int32 → Int32 → Int32 → Int32 → Option Int32) : Prop := ∀ (x1 : Int32) (x2 : Int32) (x3 : Int32) (x4 : Int32) (x5 : Int32) (ls : Array Slot), lv_has ls 6 [(0, .ref (mH Z)), (1, .int x1), (2, .int x2), (3, .int x3), (4, .int x4), (5, .int x5)] → f x1 x2 x3 x4 x5 = some r → W p l e mo_planCostOf_rm s m args below meth c s.heap [] 0 0 (MQ below (Qro (some (.int r))) args s 0 0 (fun _ => False)) (F0 m 55 ls [])
def mo_planCostOf_P90 (p : Program) (l : Launch) (e : Env) (s : State) (m : MethodId) (args : Array Value) (below : List Frame) (meth : Method) (c : Code) (Z : MZ) (r : Int32) (f : Int32 → Int32 → Int32 → Int32 → Int32 → Int32 → Option Int32) : Prop := ∀ (x1 : Int32) (x2 : Int32) (x3 : Int32) (x5 : Int32) (t0 : Int32) (t1 : Int32) (ls : Array Slot), lv_has ls 6 [(0, .ref (mH Z)), (1, .int x1), (2, .int x2), (3, .int x3), (5, .int x5)] → f x1 x2 x3 x5 t0 t1 = some r → W p l e mo_planCostOf_rm s m args below meth c s.heap [] 0 0 (MQ below (Qro (some (.int r))) args s 0 0 (fun _ => False)) (F0 m 90 ls [.int t0, .int t1])
def mo_planCostOf_b90 (I : St) (k43 : Int32 → Int32 → Int32 → Option Int32) (k55 : Int32 → Int32 → Int32 → Int32 → Int32 → Option Int32) (x1 : Int32) (x2 : Int32) (x3 : Int32) (x5 : Int32) (t0 : Int32) (t1 : Int32) : Option Int32 :=
  lt_ (t1 ||| t0) fun v1 =>
  k55 x1 x2 x3 v1 (x5 + 1)
theorem mo_planCostOf_w90 {p : Program} {l : Launch} {e : Env} {s : State} {m : MethodId} {args : Array Value} {below : List Frame} {meth : Method} {c : Code} {Z : MZ} {I : St} (C : MCx p s m args meth c cX6_planCostOf 6 (some .int) Z) (hM : mPD Z I s.heap) {r : Int32} {k43 : Int32 → Int32 → Int32 → Option Int32} (hk43 : mo_planCostOf_P43 p l e s m args below meth c Z r k43) {k55 : Int32 → Int32 → Int32 → Int32 → Int32 → Option Int32} (hk55 : mo_planCostOf_P55 p l e s m args below meth c Z r k55) : mo_planCostOf_P90 p l e s m args below meth c Z r (mo_planCostOf_b90 I k43 k55) := by
  intro x1 x2 x3 x5 t0 t1 ls hl h
  obtain ⟨⟨hx, hb, hr, hlocks, hml, hown, hts⟩, hK⟩ := id C
  unfold mo_planCostOf_b90 at h
  refine lv_ior hx hb dX6_planCostOf_90 ?_
  refine lv_topi (fun v1 e_v1 => ?_)
  have h := lt_i h e_v1
  refine lv_istore (lv' := [(4, .int v1), (0, .ref (mH Z)), (1, .int x1), (2, .int x2), (3, .int x3), (5, .int x5)]) hx hb dX6_planCostOf_91 hl (by decide) rfl (fun ls hl => ?_)
  refine lv_iinc (v := (x5 + 1)) (lv' := [(5, .int (x5 + 1)), (4, .int v1), (0, .ref (mH Z)), (1, .int x1), (2, .int x2), (3, .int x3)]) hx hb dX6_planCostOf_93 hl (k := 5) rfl rfl (by decide) rfl (fun ls hl => ?_)
  refine lv_goto (tgt := 55) hx hb dX6_planCostOf_96 (by decide) ?_
  exact hk55 x1 x2 x3 v1 (x5 + 1) ls (lv_sub hl [2, 3, 4, 5, 1, 0] rfl) h
def mo_planCostOf_b55 (I : St) (k43 : Int32 → Int32 → Int32 → Option Int32) (k55 : Int32 → Int32 → Int32 → Int32 → Int32 → Option Int32) (x1 : Int32) (x2 : Int32) (x3 : Int32) (x4 : Int32) (x5 : Int32) : Option Int32 :=
  if (I 2 0) ≤ x5 then (bd_ (mo_costTogether I x4 x3) fun v2 =>
    if v2 < (1000000 : Int32) then (lt_ (x2 + v2) fun v4 =>
      k43 x1 v4 (x3 + 1))
    else (some (-3 : Int32)))
  else (al_ 240 (I 36) (((60 : Int32) * x1) + x5) fun v5 =>
    if v5 = x3 then (mo_planCostOf_b90 I k43 k55 x1 x2 x3 x5 ((1 : Int32) <<< (x5 &&& 31)) x4)
    else (mo_planCostOf_b90 I k43 k55 x1 x2 x3 x5 (0 : Int32) x4))
theorem mo_planCostOf_w55 {p : Program} {l : Launch} {e : Env} {s : State} {m : MethodId} {args : Array Value} {below : List Frame} {meth : Method} {c : Code} {Z : MZ} {I : St} (C : MCx p s m args meth c cX6_planCostOf 6 (some .int) Z) (hM : mPD Z I s.heap) {r : Int32} {k43 : Int32 → Int32 → Int32 → Option Int32} (hk43 : mo_planCostOf_P43 p l e s m args below meth c Z r k43) {k55 : Int32 → Int32 → Int32 → Int32 → Int32 → Option Int32} (hk55 : mo_planCostOf_P55 p l e s m args below meth c Z r k55) : mo_planCostOf_P55 p l e s m args below meth c Z r (mo_planCostOf_b55 I k43 k55) := by
  intro x1 x2 x3 x4 x5 ls hl h
  obtain ⟨⟨hx, hb, hr, hlocks, hml, hown, hts⟩, hK⟩ := id C
  unfold mo_planCostOf_b55 at h
  refine lv_iload hx hb dX6_planCostOf_55 (lv_at hl 5 rfl) ?_
  refine lv_aload_n hx hb dX6_planCostOf_57 rfl (lv_at hl 0 rfl) ?_
  refine gm2 C hM dX6_planCostOf_58 ?_
  refine lv_icmp_ge (tgt := 99) hx hb dX6_planCostOf_61 (by decide) (fun c1 => ?_) (fun c1 => ?_)
  · have h := ip_ c1 h
    refine lv_aload_n hx hb dX6_planCostOf_99 rfl (lv_at hl 0 rfl) ?_
    refine lv_iload hx hb dX6_planCostOf_100 (lv_at hl 4 rfl) ?_
    refine lv_iload_n hx hb dX6_planCostOf_102 rfl (lv_at hl 3 rfl) ?_
    obtain ⟨v2, q_v2, h⟩ := bd_e h
    refine m_roI (As := [.int x4, .int x3]) (rest := []) C hM (mo_costTogether_met _ Z I x4 x3 v2 q_v2) (lw_V q1313 q1315 qs59 q88 q1316) mo_costTogether_hd ⟨rfl, rfl⟩ ⟨Nat.le_of_ble_eq_true rfl, Nat.le_of_ble_eq_true rfl⟩ ⟨Nat.le_refl _, Nat.le_refl _⟩ rfl hl.1 rfl (Nat.le_of_ble_eq_true rfl) dX6_planCostOf_103 ?_
    refine lv_istore (lv' := [(5, .int v2), (0, .ref (mH Z)), (1, .int x1), (2, .int x2), (3, .int x3), (4, .int x4)]) hx hb dX6_planCostOf_106 hl (by decide) rfl (fun ls hl => ?_)
    refine lv_iload hx hb dX6_planCostOf_108 (lv_at hl 0 rfl) ?_
    refine lv_ldc (v := 1000000) hx hb hown (hts _ q1317) dX6_planCostOf_110 ?_
    refine lv_icmp_lt (tgt := 118) hx hb dX6_planCostOf_112 (by decide) (fun c3 => ?_) (fun c3 => ?_)
    · have h := ip_ c3 h
      refine lv_iload_n hx hb dX6_planCostOf_118 rfl (lv_at hl 3 rfl) ?_
      refine lv_iload hx hb dX6_planCostOf_119 (lv_at hl 0 rfl) ?_
      refine lv_iadd hx hb dX6_planCostOf_121 ?_
      refine lv_topi (fun v4 e_v4 => ?_)
      have h := lt_i h e_v4
      refine lv_istore_n (lv' := [(2, .int v4), (5, .int v2), (0, .ref (mH Z)), (1, .int x1), (3, .int x3), (4, .int x4)]) hx hb dX6_planCostOf_122 rfl hl (by decide) rfl (fun ls hl => ?_)
      refine lv_iinc (v := (x3 + 1)) (lv' := [(3, .int (x3 + 1)), (2, .int v4), (5, .int v2), (0, .ref (mH Z)), (1, .int x1), (4, .int x4)]) hx hb dX6_planCostOf_123 hl (k := 4) rfl rfl (by decide) rfl (fun ls hl => ?_)
      refine lv_goto (tgt := 43) hx hb dX6_planCostOf_126 (by decide) ?_
      exact hk43 x1 v4 (x3 + 1) ls (lv_sub hl [3, 4, 1, 0] rfl) h
    · have h := in_ c3 h
      refine lv_bipush (v := -3) hx hb dX6_planCostOf_115 (by decide) ?_
      have h := so_ h
      subst h
      exact W.iret hx hb hr (fun t ht hW => ⟨rfl, ht⟩) (fun q hq => by cases hq) dX6_planCostOf_117
  · have h := in_ c1 h
    refine lv_iload hx hb dX6_planCostOf_64 (lv_at hl 4 rfl) ?_
    refine lv_aload_n hx hb dX6_planCostOf_66 rfl (lv_at hl 0 rfl) ?_
    refine gm36 C hM dX6_planCostOf_67 ?_
    refine lv_bipush (v := 60) hx hb dX6_planCostOf_70 (by decide) ?_
    refine lv_iload_n hx hb dX6_planCostOf_72 rfl (lv_at hl 1 rfl) ?_
    refine lv_imul hx hb dX6_planCostOf_73 ?_
    refine lv_iload hx hb dX6_planCostOf_74 (lv_at hl 5 rfl) ?_
    refine lv_iadd hx hb dX6_planCostOf_76 ?_
    obtain ⟨i_v5, h⟩ := al_e h
    refine m_ald C hM (pos := 28) (k := 36) rfl rfl i_v5 dX6_planCostOf_77 (fun v5 e_v5 => ?_)
    have h := h v5 e_v5
    refine lv_iload_n hx hb dX6_planCostOf_78 rfl (lv_at hl 3 rfl) ?_
    refine lv_icmp_ne (tgt := 89) hx hb dX6_planCostOf_79 (by decide) (fun c6 => ?_) (fun c6 => ?_)
    · have h := in_ c6 h
      refine lv_iconst (v := 0) hx hb dX6_planCostOf_89 (by decide) ?_
      exact mo_planCostOf_w90 C hM hk43 hk55 x1 x2 x3 x5 (0 : Int32) x4 ls (lv_sub hl [0, 1, 2, 3, 5] rfl) h
    · have h := ip_ c6 h
      refine lv_iconst (v := 1) hx hb dX6_planCostOf_82 (by decide) ?_
      refine lv_iload hx hb dX6_planCostOf_83 (lv_at hl 5 rfl) ?_
      refine lv_ishl hx hb dX6_planCostOf_85 ?_
      refine lv_goto (tgt := 90) hx hb dX6_planCostOf_86 (by decide) ?_
      exact mo_planCostOf_w90 C hM hk43 hk55 x1 x2 x3 x5 ((1 : Int32) <<< (x5 &&& 31)) x4 ls (lv_sub hl [0, 1, 2, 3, 5] rfl) h
def mo_planCostOf_l55 (I : St) (k43 : Int32 → Int32 → Int32 → Option Int32) (n : Nat) : Int32 → Int32 → Int32 → Int32 → Int32 → Option Int32 := lp (fun _ _ _ _ _ => none) (mo_planCostOf_b55 I k43) n
theorem mo_planCostOf_lw55 {p : Program} {l : Launch} {e : Env} {s : State} {m : MethodId} {args : Array Value} {below : List Frame} {meth : Method} {c : Code} {Z : MZ} {I : St} (C : MCx p s m args meth c cX6_planCostOf 6 (some .int) Z) (hM : mPD Z I s.heap) {r : Int32} {k43 : Int32 → Int32 → Int32 → Option Int32} (hk43 : mo_planCostOf_P43 p l e s m args below meth c Z r k43) : ∀ n : Nat, mo_planCostOf_P55 p l e s m args below meth c Z r (mo_planCostOf_l55 I k43 n) := by
  intro n
  induction n with
  | zero => intro x1 x2 x3 x4 x5 ls hl h; exact no_ h
  | succ n ih => exact mo_planCostOf_w55 C hM hk43 ih
def mo_planCostOf_b43 (I : St) (k43 : Int32 → Int32 → Int32 → Option Int32) (x1 : Int32) (x2 : Int32) (x3 : Int32) : Option Int32 :=
  if (8 : Int32) ≤ x3 then (some x2)
  else (mo_planCostOf_l55 I k43 FU x1 x2 x3 (0 : Int32) (0 : Int32))
theorem mo_planCostOf_w43 {p : Program} {l : Launch} {e : Env} {s : State} {m : MethodId} {args : Array Value} {below : List Frame} {meth : Method} {c : Code} {Z : MZ} {I : St} (C : MCx p s m args meth c cX6_planCostOf 6 (some .int) Z) (hM : mPD Z I s.heap) {r : Int32} {k43 : Int32 → Int32 → Int32 → Option Int32} (hk43 : mo_planCostOf_P43 p l e s m args below meth c Z r k43) : mo_planCostOf_P43 p l e s m args below meth c Z r (mo_planCostOf_b43 I k43) := by
  intro x1 x2 x3 ls hl h
  obtain ⟨⟨hx, hb, hr, hlocks, hml, hown, hts⟩, hK⟩ := id C
  unfold mo_planCostOf_b43 at h
  refine lv_iload_n hx hb dX6_planCostOf_43 rfl (lv_at hl 3 rfl) ?_
  refine lv_bipush (v := 8) hx hb dX6_planCostOf_44 (by decide) ?_
  refine lv_icmp_ge (tgt := 129) hx hb dX6_planCostOf_46 (by decide) (fun c1 => ?_) (fun c1 => ?_)
  · have h := ip_ c1 h
    refine lv_iload_n hx hb dX6_planCostOf_129 rfl (lv_at hl 2 rfl) ?_
    have h := so_ h
    subst h
    exact W.iret hx hb hr (fun t ht hW => ⟨rfl, ht⟩) (fun q hq => by cases hq) dX6_planCostOf_130
  · have h := in_ c1 h
    refine lv_iconst (v := 0) hx hb dX6_planCostOf_49 (by decide) ?_
    refine lv_istore (lv' := [(4, .int (0 : Int32)), (0, .ref (mH Z)), (1, .int x1), (2, .int x2), (3, .int x3)]) hx hb dX6_planCostOf_50 hl (by decide) rfl (fun ls hl => ?_)
    refine lv_iconst (v := 0) hx hb dX6_planCostOf_52 (by decide) ?_
    refine lv_istore (lv' := [(5, .int (0 : Int32)), (4, .int (0 : Int32)), (0, .ref (mH Z)), (1, .int x1), (2, .int x2), (3, .int x3)]) hx hb dX6_planCostOf_53 hl (by decide) rfl (fun ls hl => ?_)
    exact mo_planCostOf_lw55 C hM hk43 FU x1 x2 x3 (0 : Int32) (0 : Int32) ls (lv_sub hl [2, 3, 4, 5, 1, 0] rfl) h
def mo_planCostOf_l43 (I : St) (n : Nat) : Int32 → Int32 → Int32 → Option Int32 := lp (fun _ _ _ => none) (mo_planCostOf_b43 I) n
theorem mo_planCostOf_lw43 {p : Program} {l : Launch} {e : Env} {s : State} {m : MethodId} {args : Array Value} {below : List Frame} {meth : Method} {c : Code} {Z : MZ} {I : St} (C : MCx p s m args meth c cX6_planCostOf 6 (some .int) Z) (hM : mPD Z I s.heap) {r : Int32} : ∀ n : Nat, mo_planCostOf_P43 p l e s m args below meth c Z r (mo_planCostOf_l43 I n) := by
  intro n
  induction n with
  | zero => intro x1 x2 x3 ls hl h; exact no_ h
  | succ n ih => exact mo_planCostOf_w43 C hM ih
def mo_planCostOf_b4 (I : St) (k4 : Int32 → Int32 → Int32 → Option Int32) (x1 : Int32) (x2 : Int32) (x3 : Int32) : Option Int32 :=
  if (I 2 0) ≤ x3 then (mo_planCostOf_l43 I FU x1 x2 (0 : Int32))
  else (al_ 240 (I 36) (((60 : Int32) * x1) + x3) fun v2 =>
    bd_ (mo_in v2 (-1 : Int32) (7 : Int32)) fun v3 =>
    if v3 = 0 then (some (-3 : Int32))
    else (k4 x1 x2 (x3 + 1)))
theorem mo_planCostOf_w4 {p : Program} {l : Launch} {e : Env} {s : State} {m : MethodId} {args : Array Value} {below : List Frame} {meth : Method} {c : Code} {Z : MZ} {I : St} (C : MCx p s m args meth c cX6_planCostOf 6 (some .int) Z) (hM : mPD Z I s.heap) {r : Int32} {k4 : Int32 → Int32 → Int32 → Option Int32} (hk4 : mo_planCostOf_P4 p l e s m args below meth c Z r k4) : mo_planCostOf_P4 p l e s m args below meth c Z r (mo_planCostOf_b4 I k4) := by
  intro x1 x2 x3 ls hl h
  obtain ⟨⟨hx, hb, hr, hlocks, hml, hown, hts⟩, hK⟩ := id C
  unfold mo_planCostOf_b4 at h
  refine lv_iload_n hx hb dX6_planCostOf_4 rfl (lv_at hl 3 rfl) ?_
  refine lv_aload_n hx hb dX6_planCostOf_5 rfl (lv_at hl 0 rfl) ?_
  refine gm2 C hM dX6_planCostOf_6 ?_
  refine lv_icmp_ge (tgt := 41) hx hb dX6_planCostOf_9 (by decide) (fun c1 => ?_) (fun c1 => ?_)
  · have h := ip_ c1 h
    refine lv_iconst (v := 0) hx hb dX6_planCostOf_41 (by decide) ?_
    refine lv_istore_n (lv' := [(3, .int (0 : Int32)), (0, .ref (mH Z)), (1, .int x1), (2, .int x2)]) hx hb dX6_planCostOf_42 rfl hl (by decide) rfl (fun ls hl => ?_)
    exact mo_planCostOf_lw43 C hM FU x1 x2 (0 : Int32) ls (lv_sub hl [1, 2, 3, 0] rfl) h
  · have h := in_ c1 h
    refine lv_aload_n hx hb dX6_planCostOf_12 rfl (lv_at hl 0 rfl) ?_
    refine gm36 C hM dX6_planCostOf_13 ?_
    refine lv_bipush (v := 60) hx hb dX6_planCostOf_16 (by decide) ?_
    refine lv_iload_n hx hb dX6_planCostOf_18 rfl (lv_at hl 1 rfl) ?_
    refine lv_imul hx hb dX6_planCostOf_19 ?_
    refine lv_iload_n hx hb dX6_planCostOf_20 rfl (lv_at hl 3 rfl) ?_
    refine lv_iadd hx hb dX6_planCostOf_21 ?_
    obtain ⟨i_v2, h⟩ := al_e h
    refine m_ald C hM (pos := 28) (k := 36) rfl rfl i_v2 dX6_planCostOf_22 (fun v2 e_v2 => ?_)
    have h := h v2 e_v2
    refine lv_iconst (v := -1) hx hb dX6_planCostOf_23 (by decide) ?_
    refine lv_bipush (v := 7) hx hb dX6_planCostOf_24 (by decide) ?_
    obtain ⟨v3, q_v3, h⟩ := bd_e h
    refine s_roI (As := [.int v2, .int (-1 : Int32), .int (7 : Int32)]) (rest := []) C.1 (mo_in_met _ v2 (-1 : Int32) (7 : Int32) v3 q_v3) (lw_S q1168 q1169 q88 q1170) mo_in_hd ⟨rfl, rfl⟩ ⟨Nat.le_of_ble_eq_true rfl, Nat.le_of_ble_eq_true rfl⟩ ⟨Nat.le_refl _, Nat.le_refl _⟩ rfl hl.1 rfl (Nat.le_of_ble_eq_true rfl) dX6_planCostOf_26 ?_
    refine lv_if_ne (tgt := 35) hx hb dX6_planCostOf_29 (by decide) (fun c4 => ?_) (fun c4 => ?_)
    · have h := in_ c4 h
      refine lv_iinc (v := (x3 + 1)) (lv' := [(3, .int (x3 + 1)), (0, .ref (mH Z)), (1, .int x1), (2, .int x2)]) hx hb dX6_planCostOf_35 hl (k := 3) rfl rfl (by decide) rfl (fun ls hl => ?_)
      refine lv_goto (tgt := 4) hx hb dX6_planCostOf_38 (by decide) ?_
      exact hk4 x1 x2 (x3 + 1) ls (lv_sub hl [1, 2, 3, 0] rfl) h
    · have h := ip_ c4 h
      refine lv_bipush (v := -3) hx hb dX6_planCostOf_32 (by decide) ?_
      have h := so_ h
      subst h
      exact W.iret hx hb hr (fun t ht hW => ⟨rfl, ht⟩) (fun q hq => by cases hq) dX6_planCostOf_34
def mo_planCostOf_l4 (I : St) (n : Nat) : Int32 → Int32 → Int32 → Option Int32 := lp (fun _ _ _ => none) (mo_planCostOf_b4 I) n
theorem mo_planCostOf_lw4 {p : Program} {l : Launch} {e : Env} {s : State} {m : MethodId} {args : Array Value} {below : List Frame} {meth : Method} {c : Code} {Z : MZ} {I : St} (C : MCx p s m args meth c cX6_planCostOf 6 (some .int) Z) (hM : mPD Z I s.heap) {r : Int32} : ∀ n : Nat, mo_planCostOf_P4 p l e s m args below meth c Z r (mo_planCostOf_l4 I n) := by
  intro n
  induction n with
  | zero => intro x1 x2 x3 ls hl h; exact no_ h
  | succ n ih => exact mo_planCostOf_w4 C hM ih
def mo_planCostOf (I : St) (x1 : Int32) : Option Int32 :=
  mo_planCostOf_l4 I FU x1 (0 : Int32) (0 : Int32)
theorem mo_planCostOf_w0 {p : Program} {l : Launch} {e : Env} {s : State} {m : MethodId} {args : Array Value} {below : List Frame} {meth : Method} {c : Code} {Z : MZ} {I : St} (C : MCx p s m args meth c cX6_planCostOf 6 (some .int) Z) (hM : mPD Z I s.heap) {r : Int32} : mo_planCostOf_P0 p l e s m args below meth c Z r (mo_planCostOf I) := by
  intro x1 ls hl h
  obtain ⟨⟨hx, hb, hr, hlocks, hml, hown, hts⟩, hK⟩ := id C
  unfold mo_planCostOf at h
  refine lv_iconst (v := 0) hx hb dX6_planCostOf_0 (by decide) ?_
  refine lv_istore_n (lv' := [(2, .int (0 : Int32)), (0, .ref (mH Z)), (1, .int x1)]) hx hb dX6_planCostOf_1 rfl hl (by decide) rfl (fun ls hl => ?_)
  refine lv_iconst (v := 0) hx hb dX6_planCostOf_2 (by decide) ?_
  refine lv_istore_n (lv' := [(3, .int (0 : Int32)), (2, .int (0 : Int32)), (0, .ref (mH Z)), (1, .int x1)]) hx hb dX6_planCostOf_3 rfl hl (by decide) rfl (fun ls hl => ?_)
  exact mo_planCostOf_lw4 C hM FU x1 (0 : Int32) (0 : Int32) ls (lv_sub hl [2, 3, 1, 0] rfl) h
theorem mo_planCostOf_hd : yX6_planCostOf.cls = RX6 ∧ yX6_planCostOf.cls ≠ "java/lang/invoke/MethodHandle" ∧ yX6_planCostOf.cls ≠ "java/lang/invoke/VarHandle" ∧ (parseMethodDescriptor yX6_planCostOf.desc).map (fun d => d.parameters.length) = some 1 := by decide +kernel
theorem mo_planCostOf_met (l : Launch) (Z : MZ) (I : St) (x1 : Int32) (r : Int32) (h : mo_planCostOf I x1 = some r) : Met l yX6_planCostOf (ws_ yX6_planCostOf cX6_planCostOf 6 (some .int)) mo_planCostOf_rm (va_Pc [.ref (mH Z), .int x1] (mS Z I)) (Qro (some (.int r))) 0 0 (fun _ => False) := by
  refine Met.ofW (cc := cX6_planCostOf) (maxL := 6) (ret := some .int) (by decide) rfl ?_
  intro p e s m args below meth c s₁ B hml hv
  obtain ⟨rfl, hv⟩ := hv
  have hts := atoms_spec (ws := ws_ yX6_planCostOf cX6_planCostOf 6 (some .int)) B.pre
  have hts : ∀ w ∈ lw_all, w.before _ s = true := fun w h => hts w (List.mem_cons_of_mem _ h)
  have C : SCx p s m _ meth c cX6_planCostOf 6 (some .int) RX6 := ⟨B.exec, B.bytes, B.returns, B.notSynchronized, hml, findClass_of_methodNamed B.named, hts⟩
  have hl := lv_entry [.ref (mH Z), .int x1] (n := 6) (Nat.le_of_ble_eq_true rfl)
  rw [lg_entry_eq]
  generalize (lg_sl [.ref (mH Z), .int x1] ++ List.replicate (6 - (lg_sl [.ref (mH Z), .int x1]).length) Slot.unset).toArray = ls at hl ⊢
  have C : MCx p s m _ meth c _ _ _ Z := ⟨C, hv.2⟩
  have hM := hv.1
  exact mo_planCostOf_w0 C hM x1 ls hl h

/-! SecondChancesModel.planOf(II)I -/
def mo_planOf_rm : Room := { frames := 5, cells := 0, slots := 0, locals := 126 }
def mo_planOf_P0 (p : Program) (l : Launch) (e : Env) (s : State) (m : MethodId) (args : Array Value) (below : List Frame) (meth : Method) (c : Code) (Z : MZ) (r : (Int32 × St)) (f : Int32 → Int32 → St → Option (Int32 × St)) : Prop := ∀ (x1 : Int32) (x2 : Int32) (I : St) (H : Heap) (locs : List Loc) (ls : Array Slot), mIn Z s I H locs → lv_has ls 6 [(0, .ref (mH Z)), (1, .int x1), (2, .int x2)] → f x1 x2 I = some r → W p l e mo_planOf_rm s m args below meth c H locs 0 0 (MQ below (Qwr (some (.int r.1)) (mS Z r.2) (mA Z)) args s 0 0 (mA Z)) (F0 m 0 ls [])
def mo_planOf_P48 (p : Program) (l : Launch) (e : Env) (s : State) (m : MethodId) (args : Array Value) (below : List Frame) (meth : Method) (c : Code) (Z : MZ) (r : (Int32 × St)) (f : Int32 → Int32 → Int32 → Int32 → Int32 → St → Option (Int32 × St)) : Prop := ∀ (x1 : Int32) (x2 : Int32) (x3 : Int32) (x4 : Int32) (x5 : Int32) (I : St) (H : Heap) (locs : List Loc) (ls : Array Slot), mIn Z s I H locs → lv_has ls 6 [(0, .ref (mH Z)), (1, .int x1), (2, .int x2), (3, .int x3), (4, .int x4), (5, .int x5)] → f x1 x2 x3 x4 x5 I = some r → W p l e mo_planOf_rm s m args below meth c H locs 0 0 (MQ below (Qwr (some (.int r.1)) (mS Z r.2) (mA Z)) args s 0 0 (mA Z)) (F0 m 48 ls [])
def mo_planOf_P86 (p : Program) (l : Launch) (e : Env) (s : State) (m : MethodId) (args : Array Value) (below : List Frame) (meth : Method) (c : Code) (Z : MZ) (r : (Int32 × St)) (f : Int32 → Int32 → Int32 → Int32 → Int32 → Int32 → St → Option (Int32 × St)) : Prop := ∀ (x1 : Int32) (x2 : Int32) (x3 : Int32) (x5 : Int32) (t0 : Int32) (t1 : Int32) (I : St) (H : Heap) (locs : List Loc) (ls : Array Slot), mIn Z s I H locs → lv_has ls 6 [(0, .ref (mH Z)), (1, .int x1), (2, .int x2), (3, .int x3), (5, .int x5)] → f x1 x2 x3 x5 t0 t1 I = some r → W p l e mo_planOf_rm s m args below meth c H locs 0 0 (MQ below (Qwr (some (.int r.1)) (mS Z r.2) (mA Z)) args s 0 0 (mA Z)) (F0 m 86 ls [.int t0, .int t1])
def mo_planOf_b86 (k48 : Int32 → Int32 → Int32 → Int32 → Int32 → St → Option (Int32 × St)) (x1 : Int32) (x2 : Int32) (x3 : Int32) (x5 : Int32) (t0 : Int32) (t1 : Int32) (I : St) : Option (Int32 × St) :=
  lt_ (t1 + t0) fun v1 =>
  k48 x1 x2 x3 v1 (x5 + 1) I
theorem mo_planOf_w86 {p : Program} {l : Launch} {e : Env} {s : State} {m : MethodId} {args : Array Value} {below : List Frame} {meth : Method} {c : Code} {Z : MZ} (C : MCx p s m args meth c cX6_planOf 6 (some .int) Z) {r : (Int32 × St)} {k48 : Int32 → Int32 → Int32 → Int32 → Int32 → St → Option (Int32 × St)} (hk48 : mo_planOf_P48 p l e s m args below meth c Z r k48) : mo_planOf_P86 p l e s m args below meth c Z r (mo_planOf_b86 k48) := by
  intro x1 x2 x3 x5 t0 t1 I H locs ls hM hl h
  obtain ⟨⟨hx, hb, hr, hlocks, hml, hown, hts⟩, hK⟩ := id C
  unfold mo_planOf_b86 at h
  refine lv_iadd hx hb dX6_planOf_86 ?_
  refine lv_topi (fun v1 e_v1 => ?_)
  have h := lt_i h e_v1
  refine lv_istore (lv' := [(4, .int v1), (0, .ref (mH Z)), (1, .int x1), (2, .int x2), (3, .int x3), (5, .int x5)]) hx hb dX6_planOf_87 hl (by decide) rfl (fun ls hl => ?_)
  refine lv_iinc (v := (x5 + 1)) (lv' := [(5, .int (x5 + 1)), (4, .int v1), (0, .ref (mH Z)), (1, .int x1), (2, .int x2), (3, .int x3)]) hx hb dX6_planOf_89 hl (k := 5) rfl rfl (by decide) rfl (fun ls hl => ?_)
  refine lv_goto (tgt := 48) hx hb dX6_planOf_92 (by decide) ?_
  exact hk48 x1 x2 x3 v1 (x5 + 1) I _ _ ls hM (lv_sub hl [2, 3, 4, 5, 1, 0] rfl) h
def mo_planOf_b48 (k48 : Int32 → Int32 → Int32 → Int32 → Int32 → St → Option (Int32 × St)) (x1 : Int32) (x2 : Int32) (x3 : Int32) (x4 : Int32) (x5 : Int32) (I : St) : Option (Int32 × St) :=
  if (I 2 0) ≤ x5 then (if x3 = (-3 : Int32) then (some ((-3 : Int32), I))
    else (if x2 = (1 : Int32) then (some (x4, I))
      else (some (x3, I))))
  else (al_ 240 (I 36) (((60 : Int32) * x1) + x5) fun v4 =>
    if v4 = (-1 : Int32) then (mo_planOf_b86 k48 x1 x2 x3 x5 (0 : Int32) x4 I)
    else (al_ 9 (I 6) x5 fun v6 =>
      mo_planOf_b86 k48 x1 x2 x3 x5 v6 x4 I))
theorem mo_planOf_w48 {p : Program} {l : Launch} {e : Env} {s : State} {m : MethodId} {args : Array Value} {below : List Frame} {meth : Method} {c : Code} {Z : MZ} (C : MCx p s m args meth c cX6_planOf 6 (some .int) Z) {r : (Int32 × St)} {k48 : Int32 → Int32 → Int32 → Int32 → Int32 → St → Option (Int32 × St)} (hk48 : mo_planOf_P48 p l e s m args below meth c Z r k48) : mo_planOf_P48 p l e s m args below meth c Z r (mo_planOf_b48 k48) := by
  intro x1 x2 x3 x4 x5 I H locs ls hM hl h
  obtain ⟨⟨hx, hb, hr, hlocks, hml, hown, hts⟩, hK⟩ := id C
  unfold mo_planOf_b48 at h
  refine lv_iload hx hb dX6_planOf_48 (lv_at hl 5 rfl) ?_
  refine lv_aload_n hx hb dX6_planOf_50 rfl (lv_at hl 0 rfl) ?_
  refine gm2 C hM.1 dX6_planOf_51 ?_
  refine lv_icmp_ge (tgt := 95) hx hb dX6_planOf_54 (by decide) (fun c1 => ?_) (fun c1 => ?_)
  · have h := ip_ c1 h
    refine lv_iload_n hx hb dX6_planOf_95 rfl (lv_at hl 3 rfl) ?_
    refine lv_bipush (v := -3) hx hb dX6_planOf_96 (by decide) ?_
    refine lv_icmp_ne (tgt := 106) hx hb dX6_planOf_98 (by decide) (fun c2 => ?_) (fun c2 => ?_)
    · have h := in_ c2 h
      refine lv_iload_n hx hb dX6_planOf_106 rfl (lv_at hl 2 rfl) ?_
      refine lv_iconst (v := 1) hx hb dX6_planOf_107 (by decide) ?_
      refine lv_icmp_ne (tgt := 116) hx hb dX6_planOf_108 (by decide) (fun c3 => ?_) (fun c3 => ?_)
      · have h := in_ c3 h
        refine lv_iload_n hx hb dX6_planOf_116 rfl (lv_at hl 3 rfl) ?_
        have h := so_ h
        subst h
        exact W.iret hx hb hr (fun t ht hW => ⟨rfl, ⟨by rw [ht]; exact hM.1, va_K.moved hW.alike hK⟩, hM.2.F ht⟩) hM.2.2.2 dX6_planOf_117
      · have h := ip_ c3 h
        refine lv_iload hx hb dX6_planOf_111 (lv_at hl 4 rfl) ?_
        refine lv_goto (tgt := 117) hx hb dX6_planOf_113 (by decide) ?_
        have h := so_ h
        subst h
        exact W.iret hx hb hr (fun t ht hW => ⟨rfl, ⟨by rw [ht]; exact hM.1, va_K.moved hW.alike hK⟩, hM.2.F ht⟩) hM.2.2.2 dX6_planOf_117
    · have h := ip_ c2 h
      refine lv_bipush (v := -3) hx hb dX6_planOf_101 (by decide) ?_
      refine lv_goto (tgt := 117) hx hb dX6_planOf_103 (by decide) ?_
      have h := so_ h
      subst h
      exact W.iret hx hb hr (fun t ht hW => ⟨rfl, ⟨by rw [ht]; exact hM.1, va_K.moved hW.alike hK⟩, hM.2.F ht⟩) hM.2.2.2 dX6_planOf_117
  · have h := in_ c1 h
    refine lv_iload hx hb dX6_planOf_57 (lv_at hl 4 rfl) ?_
    refine lv_aload_n hx hb dX6_planOf_59 rfl (lv_at hl 0 rfl) ?_
    refine gm36 C hM.1 dX6_planOf_60 ?_
    refine lv_bipush (v := 60) hx hb dX6_planOf_63 (by decide) ?_
    refine lv_iload_n hx hb dX6_planOf_65 rfl (lv_at hl 1 rfl) ?_
    refine lv_imul hx hb dX6_planOf_66 ?_
    refine lv_iload hx hb dX6_planOf_67 (lv_at hl 5 rfl) ?_
    refine lv_iadd hx hb dX6_planOf_69 ?_
    obtain ⟨i_v4, h⟩ := al_e h
    refine m_ald C hM.1 (pos := 28) (k := 36) rfl rfl i_v4 dX6_planOf_70 (fun v4 e_v4 => ?_)
    have h := h v4 e_v4
    refine lv_iconst (v := -1) hx hb dX6_planOf_71 (by decide) ?_
    refine lv_icmp_ne (tgt := 79) hx hb dX6_planOf_72 (by decide) (fun c5 => ?_) (fun c5 => ?_)
    · have h := in_ c5 h
      refine lv_aload_n hx hb dX6_planOf_79 rfl (lv_at hl 0 rfl) ?_
      refine gm6 C hM.1 dX6_planOf_80 ?_
      refine lv_iload hx hb dX6_planOf_83 (lv_at hl 5 rfl) ?_
      obtain ⟨i_v6, h⟩ := al_e h
      refine m_ald C hM.1 (pos := 5) (k := 6) rfl rfl i_v6 dX6_planOf_85 (fun v6 e_v6 => ?_)
      have h := h v6 e_v6
      exact mo_planOf_w86 C hk48 x1 x2 x3 x5 v6 x4 I _ _ ls hM (lv_sub hl [0, 1, 2, 3, 5] rfl) h
    · have h := ip_ c5 h
      refine lv_iconst (v := 0) hx hb dX6_planOf_75 (by decide) ?_
      refine lv_goto (tgt := 86) hx hb dX6_planOf_76 (by decide) ?_
      exact mo_planOf_w86 C hk48 x1 x2 x3 x5 (0 : Int32) x4 I _ _ ls hM (lv_sub hl [0, 1, 2, 3, 5] rfl) h
def mo_planOf_l48 (n : Nat) : Int32 → Int32 → Int32 → Int32 → Int32 → St → Option (Int32 × St) := lp (fun _ _ _ _ _ _ => none) (mo_planOf_b48) n
theorem mo_planOf_lw48 {p : Program} {l : Launch} {e : Env} {s : State} {m : MethodId} {args : Array Value} {below : List Frame} {meth : Method} {c : Code} {Z : MZ} (C : MCx p s m args meth c cX6_planOf 6 (some .int) Z) {r : (Int32 × St)} : ∀ n : Nat, mo_planOf_P48 p l e s m args below meth c Z r (mo_planOf_l48 n) := by
  intro n
  induction n with
  | zero => intro x1 x2 x3 x4 x5 I H locs ls hM hl h; exact no_ h
  | succ n ih => exact mo_planOf_w48 C ih
def mo_planOf (x1 : Int32) (x2 : Int32) (I : St) : Option (Int32 × St) :=
  bd_ (mo_reads  I) fun I1 =>
  al_ 4 (I1 35) x1 fun v2 =>
  if (I1 2 0) ≤ v2 then (bd_ (mo_planCostOf I1 x1) fun v4 =>
    if x2 = 0 then (if v4 = (-3 : Int32) then (some ((0 : Int32), I1))
      else (some ((1 : Int32), I1)))
    else (mo_planOf_l48 FU x1 x2 v4 (0 : Int32) (0 : Int32) I1))
  else (some ((-3 : Int32), I1))
theorem mo_planOf_w0 {p : Program} {l : Launch} {e : Env} {s : State} {m : MethodId} {args : Array Value} {below : List Frame} {meth : Method} {c : Code} {Z : MZ} (C : MCx p s m args meth c cX6_planOf 6 (some .int) Z) {r : (Int32 × St)} : mo_planOf_P0 p l e s m args below meth c Z r (mo_planOf) := by
  intro x1 x2 I H locs ls hM hl h
  obtain ⟨⟨hx, hb, hr, hlocks, hml, hown, hts⟩, hK⟩ := id C
  unfold mo_planOf at h
  refine lv_aload_n hx hb dX6_planOf_0 rfl (lv_at hl 0 rfl) ?_
  obtain ⟨I1, q_I1, h⟩ := bd_e h
  refine m_wrV (As := []) (rest := []) C hM (mo_reads_met _ Z I  I1 q_I1) (lw_V q1213 q1215 qs47 q88 q1216) mo_reads_hd ⟨rfl, rfl⟩ ⟨Nat.le_of_ble_eq_true rfl, Nat.le_of_ble_eq_true rfl⟩ ⟨Nat.le_refl _, Nat.le_refl _⟩ rfl hl.1 rfl (Nat.le_of_ble_eq_true rfl) dX6_planOf_1 (fun H locs hM => ?_)
  refine lv_aload_n hx hb dX6_planOf_4 rfl (lv_at hl 0 rfl) ?_
  refine gm35 C hM.1 dX6_planOf_5 ?_
  refine lv_iload_n hx hb dX6_planOf_8 rfl (lv_at hl 1 rfl) ?_
  obtain ⟨i_v2, h⟩ := al_e h
  refine m_ald C hM.1 (pos := 27) (k := 35) rfl rfl i_v2 dX6_planOf_9 (fun v2 e_v2 => ?_)
  have h := h v2 e_v2
  refine lv_aload_n hx hb dX6_planOf_10 rfl (lv_at hl 0 rfl) ?_
  refine gm2 C hM.1 dX6_planOf_11 ?_
  refine lv_icmp_ge (tgt := 20) hx hb dX6_planOf_14 (by decide) (fun c3 => ?_) (fun c3 => ?_)
  · have h := ip_ c3 h
    refine lv_aload_n hx hb dX6_planOf_20 rfl (lv_at hl 0 rfl) ?_
    refine lv_iload_n hx hb dX6_planOf_21 rfl (lv_at hl 1 rfl) ?_
    obtain ⟨v4, q_v4, h⟩ := bd_e h
    refine m_roI (As := [.int x1]) (rest := []) C hM.1 (mo_planCostOf_met _ Z I1 x1 v4 q_v4) (lw_V q1338 q1340 qs63 q88 q1341) mo_planCostOf_hd ⟨rfl, rfl⟩ ⟨Nat.le_of_ble_eq_true rfl, Nat.le_of_ble_eq_true rfl⟩ ⟨Nat.le_refl _, Nat.le_refl _⟩ rfl hl.1 rfl (Nat.le_of_ble_eq_true rfl) dX6_planOf_22 ?_
    refine lv_istore_n (lv' := [(3, .int v4), (0, .ref (mH Z)), (1, .int x1), (2, .int x2)]) hx hb dX6_planOf_25 rfl hl (by decide) rfl (fun ls hl => ?_)
    refine lv_iload_n hx hb dX6_planOf_26 rfl (lv_at hl 3 rfl) ?_
    refine lv_if_ne (tgt := 42) hx hb dX6_planOf_27 (by decide) (fun c5 => ?_) (fun c5 => ?_)
    · have h := in_ c5 h
      refine lv_iconst (v := 0) hx hb dX6_planOf_42 (by decide) ?_
      refine lv_istore (lv' := [(4, .int (0 : Int32)), (3, .int v4), (0, .ref (mH Z)), (1, .int x1), (2, .int x2)]) hx hb dX6_planOf_43 hl (by decide) rfl (fun ls hl => ?_)
      refine lv_iconst (v := 0) hx hb dX6_planOf_45 (by decide) ?_
      refine lv_istore (lv' := [(5, .int (0 : Int32)), (4, .int (0 : Int32)), (3, .int v4), (0, .ref (mH Z)), (1, .int x1), (2, .int x2)]) hx hb dX6_planOf_46 hl (by decide) rfl (fun ls hl => ?_)
      exact mo_planOf_lw48 C FU x1 x2 v4 (0 : Int32) (0 : Int32) I1 _ _ ls hM (lv_sub hl [3, 4, 5, 2, 1, 0] rfl) h
    · have h := ip_ c5 h
      refine lv_iload_n hx hb dX6_planOf_30 rfl (lv_at hl 0 rfl) ?_
      refine lv_bipush (v := -3) hx hb dX6_planOf_31 (by decide) ?_
      refine lv_icmp_ne (tgt := 40) hx hb dX6_planOf_33 (by decide) (fun c6 => ?_) (fun c6 => ?_)
      · have h := in_ c6 h
        refine lv_iconst (v := 1) hx hb dX6_planOf_40 (by decide) ?_
        have h := so_ h
        subst h
        exact W.iret hx hb hr (fun t ht hW => ⟨rfl, ⟨by rw [ht]; exact hM.1, va_K.moved hW.alike hK⟩, hM.2.F ht⟩) hM.2.2.2 dX6_planOf_41
      · have h := ip_ c6 h
        refine lv_iconst (v := 0) hx hb dX6_planOf_36 (by decide) ?_
        refine lv_goto (tgt := 41) hx hb dX6_planOf_37 (by decide) ?_
        have h := so_ h
        subst h
        exact W.iret hx hb hr (fun t ht hW => ⟨rfl, ⟨by rw [ht]; exact hM.1, va_K.moved hW.alike hK⟩, hM.2.F ht⟩) hM.2.2.2 dX6_planOf_41
  · have h := in_ c3 h
    refine lv_bipush (v := -3) hx hb dX6_planOf_17 (by decide) ?_
    have h := so_ h
    subst h
    exact W.iret hx hb hr (fun t ht hW => ⟨rfl, ⟨by rw [ht]; exact hM.1, va_K.moved hW.alike hK⟩, hM.2.F ht⟩) hM.2.2.2 dX6_planOf_19
theorem mo_planOf_hd : yX6_planOf.cls = RX6 ∧ yX6_planOf.cls ≠ "java/lang/invoke/MethodHandle" ∧ yX6_planOf.cls ≠ "java/lang/invoke/VarHandle" ∧ (parseMethodDescriptor yX6_planOf.desc).map (fun d => d.parameters.length) = some 2 := by decide +kernel
theorem mo_planOf_met (l : Launch) (Z : MZ) (I : St) (x1 : Int32) (x2 : Int32) (r : (Int32 × St)) (h : mo_planOf x1 x2 I = some r) : Met l yX6_planOf (ws_ yX6_planOf cX6_planOf 6 (some .int)) mo_planOf_rm (va_Pc [.ref (mH Z), .int x1, .int x2] (mS Z I)) (Qwr (some (.int r.1)) (mS Z r.2) (mA Z)) 0 0 (mA Z) := by
  refine Met.ofW (cc := cX6_planOf) (maxL := 6) (ret := some .int) (by decide) rfl ?_
  intro p e s m args below meth c s₁ B hml hv
  obtain ⟨rfl, hv⟩ := hv
  have hts := atoms_spec (ws := ws_ yX6_planOf cX6_planOf 6 (some .int)) B.pre
  have hts : ∀ w ∈ lw_all, w.before _ s = true := fun w h => hts w (List.mem_cons_of_mem _ h)
  have C : SCx p s m _ meth c cX6_planOf 6 (some .int) RX6 := ⟨B.exec, B.bytes, B.returns, B.notSynchronized, hml, findClass_of_methodNamed B.named, hts⟩
  have hl := lv_entry [.ref (mH Z), .int x1, .int x2] (n := 6) (Nat.le_of_ble_eq_true rfl)
  rw [lg_entry_eq]
  generalize (lg_sl [.ref (mH Z), .int x1, .int x2] ++ List.replicate (6 - (lg_sl [.ref (mH Z), .int x1, .int x2]).length) Slot.unset).toArray = ls at hl ⊢
  have C : MCx p s m _ meth c _ _ _ Z := ⟨C, hv.2⟩
  have hM : mIn Z s I s.heap [] := ⟨hv.1, va_S.rf⟩
  exact mo_planOf_w0 C x1 x2 I _ _ ls hM hl h

/-! SecondChancesModel.plan(II)I -/
def mo_plan_rm : Room := { frames := 6, cells := 0, slots := 0, locals := 151 }
def mo_plan_P0 (p : Program) (l : Launch) (e : Env) (s : State) (m : MethodId) (args : Array Value) (below : List Frame) (meth : Method) (c : Code) (Z : MZ) (r : (Int32 × St)) (f : Int32 → Int32 → St → Option (Int32 × St)) : Prop := ∀ (x1 : Int32) (x2 : Int32) (I : St) (H : Heap) (locs : List Loc) (ls : Array Slot), mIn Z s I H locs → lv_has ls 3 [(0, .ref (mH Z)), (1, .int x1), (2, .int x2)] → f x1 x2 I = some r → W p l e mo_plan_rm s m args below meth c H locs 0 0 (MQ below (Qwr (some (.int r.1)) (mS Z r.2) (mA Z)) args s 0 0 (mA Z)) (F0 m 0 ls [])
def mo_plan (x1 : Int32) (x2 : Int32) (I : St) : Option (Int32 × St) :=
  bd_ (mo_isSheet x1) fun v1 =>
  if v1 = 0 then (some ((-2 : Int32), I))
  else (bd_ (mo_in x2 (0 : Int32) (2 : Int32)) fun v3 =>
    if v3 = 0 then (some ((-2 : Int32), I))
    else (al_ 4 (I 33) x1 fun v5 =>
      if v5 = 0 then (bd2_ (mo_meets (1 : Int32) I) fun v8 I7 =>
        some (v8, I7))
      else (bd2_ (mo_planOf x1 x2 I) fun v10 I9 =>
        some (v10, I9))))
theorem mo_plan_w0 {p : Program} {l : Launch} {e : Env} {s : State} {m : MethodId} {args : Array Value} {below : List Frame} {meth : Method} {c : Code} {Z : MZ} (C : MCx p s m args meth c cX6_plan 3 (some .int) Z) {r : (Int32 × St)} : mo_plan_P0 p l e s m args below meth c Z r (mo_plan) := by
  intro x1 x2 I H locs ls hM hl h
  obtain ⟨⟨hx, hb, hr, hlocks, hml, hown, hts⟩, hK⟩ := id C
  unfold mo_plan at h
  refine lv_iload_n hx hb dX6_plan_0 rfl (lv_at hl 1 rfl) ?_
  obtain ⟨v1, q_v1, h⟩ := bd_e h
  refine s_roI (As := [.int x1]) (rest := []) C.1 (mo_isSheet_met _ x1 v1 q_v1) (lw_S q1251 q1252 q88 q1253) mo_isSheet_hd ⟨rfl, rfl⟩ ⟨Nat.le_of_ble_eq_true rfl, Nat.le_of_ble_eq_true rfl⟩ ⟨Nat.le_refl _, Nat.le_refl _⟩ rfl hl.1 rfl (Nat.le_of_ble_eq_true rfl) dX6_plan_1 ?_
  refine lv_if_eq (tgt := 16) hx hb dX6_plan_4 (by decide) (fun c2 => ?_) (fun c2 => ?_)
  · have h := ip_ c2 h
    refine lv_bipush (v := -2) hx hb dX6_plan_16 (by decide) ?_
    have h := so_ h
    subst h
    exact W.iret hx hb hr (fun t ht hW => ⟨rfl, ⟨by rw [ht]; exact hM.1, va_K.moved hW.alike hK⟩, hM.2.F ht⟩) hM.2.2.2 dX6_plan_18
  · have h := in_ c2 h
    refine lv_iload_n hx hb dX6_plan_7 rfl (lv_at hl 2 rfl) ?_
    refine lv_iconst (v := 0) hx hb dX6_plan_8 (by decide) ?_
    refine lv_iconst (v := 2) hx hb dX6_plan_9 (by decide) ?_
    obtain ⟨v3, q_v3, h⟩ := bd_e h
    refine s_roI (As := [.int x2, .int (0 : Int32), .int (2 : Int32)]) (rest := []) C.1 (mo_in_met _ x2 (0 : Int32) (2 : Int32) v3 q_v3) (lw_S q1168 q1169 q88 q1170) mo_in_hd ⟨rfl, rfl⟩ ⟨Nat.le_of_ble_eq_true rfl, Nat.le_of_ble_eq_true rfl⟩ ⟨Nat.le_refl _, Nat.le_refl _⟩ rfl hl.1 rfl (Nat.le_of_ble_eq_true rfl) dX6_plan_10 ?_
    refine lv_if_ne (tgt := 19) hx hb dX6_plan_13 (by decide) (fun c4 => ?_) (fun c4 => ?_)
    · have h := in_ c4 h
      refine lv_aload_n hx hb dX6_plan_19 rfl (lv_at hl 0 rfl) ?_
      refine gm33 C hM.1 dX6_plan_20 ?_
      refine lv_iload_n hx hb dX6_plan_23 rfl (lv_at hl 1 rfl) ?_
      obtain ⟨i_v5, h⟩ := al_e h
      refine m_zald C hM.1 (pos := 25) (k := 33) rfl rfl i_v5 dX6_plan_24 (fun v5 e_v5 => ?_)
      have h := h v5 e_v5
      refine lv_if_eq (tgt := 37) hx hb dX6_plan_25 (by decide) (fun c6 => ?_) (fun c6 => ?_)
      · have h := ip_ c6 h
        refine lv_aload_n hx hb dX6_plan_37 rfl (lv_at hl 0 rfl) ?_
        refine lv_iconst (v := 1) hx hb dX6_plan_38 (by decide) ?_
        obtain ⟨v8, I7, q_I7, h⟩ := bd2_e h
        refine m_wrI (As := [.int (1 : Int32)]) (rest := []) C hM (mo_meets_met _ Z I (1 : Int32) (v8, I7) q_I7) (lw_V q1254 q1256 qs50 q88 q1257) mo_meets_hd ⟨rfl, rfl⟩ ⟨Nat.le_of_ble_eq_true rfl, Nat.le_of_ble_eq_true rfl⟩ ⟨Nat.le_refl _, Nat.le_refl _⟩ rfl hl.1 rfl (Nat.le_of_ble_eq_true rfl) dX6_plan_39 (fun H locs hM => ?_)
        have h := so_ h
        subst h
        exact W.iret hx hb hr (fun t ht hW => ⟨rfl, ⟨by rw [ht]; exact hM.1, va_K.moved hW.alike hK⟩, hM.2.F ht⟩) hM.2.2.2 dX6_plan_42
      · have h := in_ c6 h
        refine lv_aload_n hx hb dX6_plan_28 rfl (lv_at hl 0 rfl) ?_
        refine lv_iload_n hx hb dX6_plan_29 rfl (lv_at hl 1 rfl) ?_
        refine lv_iload_n hx hb dX6_plan_30 rfl (lv_at hl 2 rfl) ?_
        obtain ⟨v10, I9, q_I9, h⟩ := bd2_e h
        refine m_wrI (As := [.int x1, .int x2]) (rest := []) C hM (mo_planOf_met _ Z I x1 x2 (v10, I9) q_I9) (lw_V q1334 q1336 qs62 q88 q1337) mo_planOf_hd ⟨rfl, rfl⟩ ⟨Nat.le_of_ble_eq_true rfl, Nat.le_of_ble_eq_true rfl⟩ ⟨Nat.le_refl _, Nat.le_refl _⟩ rfl hl.1 rfl (Nat.le_of_ble_eq_true rfl) dX6_plan_31 (fun H locs hM => ?_)
        refine lv_goto (tgt := 42) hx hb dX6_plan_34 (by decide) ?_
        have h := so_ h
        subst h
        exact W.iret hx hb hr (fun t ht hW => ⟨rfl, ⟨by rw [ht]; exact hM.1, va_K.moved hW.alike hK⟩, hM.2.F ht⟩) hM.2.2.2 dX6_plan_42
    · have h := ip_ c4 h
      refine lv_bipush (v := -2) hx hb dX6_plan_16 (by decide) ?_
      have h := so_ h
      subst h
      exact W.iret hx hb hr (fun t ht hW => ⟨rfl, ⟨by rw [ht]; exact hM.1, va_K.moved hW.alike hK⟩, hM.2.F ht⟩) hM.2.2.2 dX6_plan_18
theorem mo_plan_hd : yX6_plan.cls = RX6 ∧ yX6_plan.cls ≠ "java/lang/invoke/MethodHandle" ∧ yX6_plan.cls ≠ "java/lang/invoke/VarHandle" ∧ (parseMethodDescriptor yX6_plan.desc).map (fun d => d.parameters.length) = some 2 := by decide +kernel
theorem mo_plan_met (l : Launch) (Z : MZ) (I : St) (x1 : Int32) (x2 : Int32) (r : (Int32 × St)) (h : mo_plan x1 x2 I = some r) : Met l yX6_plan (ws_ yX6_plan cX6_plan 3 (some .int)) mo_plan_rm (va_Pc [.ref (mH Z), .int x1, .int x2] (mS Z I)) (Qwr (some (.int r.1)) (mS Z r.2) (mA Z)) 0 0 (mA Z) := by
  refine Met.ofW (cc := cX6_plan) (maxL := 3) (ret := some .int) (by decide) rfl ?_
  intro p e s m args below meth c s₁ B hml hv
  obtain ⟨rfl, hv⟩ := hv
  have hts := atoms_spec (ws := ws_ yX6_plan cX6_plan 3 (some .int)) B.pre
  have hts : ∀ w ∈ lw_all, w.before _ s = true := fun w h => hts w (List.mem_cons_of_mem _ h)
  have C : SCx p s m _ meth c cX6_plan 3 (some .int) RX6 := ⟨B.exec, B.bytes, B.returns, B.notSynchronized, hml, findClass_of_methodNamed B.named, hts⟩
  have hl := lv_entry [.ref (mH Z), .int x1, .int x2] (n := 3) (Nat.le_of_ble_eq_true rfl)
  rw [lg_entry_eq]
  generalize (lg_sl [.ref (mH Z), .int x1, .int x2] ++ List.replicate (3 - (lg_sl [.ref (mH Z), .int x1, .int x2]).length) Slot.unset).toArray = ls at hl ⊢
  have C : MCx p s m _ meth c _ _ _ Z := ⟨C, hv.2⟩
  have hM : mIn Z s I s.heap [] := ⟨hv.1, va_S.rf⟩
  exact mo_plan_w0 C x1 x2 I _ _ ls hM hl h

/-! SecondChancesModel.askedOf(II)I -/
def mo_askedOf_rm : Room := { frames := 3, cells := 0, slots := 0, locals := 71 }
def mo_askedOf_P0 (p : Program) (l : Launch) (e : Env) (s : State) (m : MethodId) (args : Array Value) (below : List Frame) (meth : Method) (c : Code) (Z : MZ) (r : Int32) (f : Int32 → Int32 → Option Int32) : Prop := ∀ (x1 : Int32) (x2 : Int32) (ls : Array Slot), lv_has ls 6 [(0, .ref (mH Z)), (1, .int x1), (2, .int x2)] → f x1 x2 = some r → W p l e mo_askedOf_rm s m args below meth c s.heap [] 0 0 (MQ below (Qro (some (.int r))) args s 0 0 (fun _ => False)) (F0 m 0 ls [])
def mo_askedOf_P5 (p : Program) (l : Launch) (e : Env) (s : State) (m : MethodId) (args : Array Value) (below : List Frame) (meth : Method) (c : Code) (Z : MZ) (r : Int32) (f : Int32 → Int32 → Int32 → Int32 → Option Int32) : Prop := ∀ (x1 : Int32) (x2 : Int32) (x3 : Int32) (x4 : Int32) (ls : Array Slot), lv_has ls 6 [(0, .ref (mH Z)), (1, .int x1), (2, .int x2), (3, .int x3), (4, .int x4)] → f x1 x2 x3 x4 = some r → W p l e mo_askedOf_rm s m args below meth c s.heap [] 0 0 (MQ below (Qro (some (.int r))) args s 0 0 (fun _ => False)) (F0 m 5 ls [])
def mo_askedOf_P45 (p : Program) (l : Launch) (e : Env) (s : State) (m : MethodId) (args : Array Value) (below : List Frame) (meth : Method) (c : Code) (Z : MZ) (r : Int32) (f : Int32 → Int32 → Int32 → Int32 → Int32 → Option Int32) : Prop := ∀ (x1 : Int32) (x2 : Int32) (x4 : Int32) (t0 : Int32) (t1 : Int32) (ls : Array Slot), lv_has ls 6 [(0, .ref (mH Z)), (1, .int x1), (2, .int x2), (4, .int x4)] → f x1 x2 x4 t0 t1 = some r → W p l e mo_askedOf_rm s m args below meth c s.heap [] 0 0 (MQ below (Qro (some (.int r))) args s 0 0 (fun _ => False)) (F0 m 45 ls [.int t0, .int t1])
def mo_askedOf_b45 (I : St) (k5 : Int32 → Int32 → Int32 → Int32 → Option Int32) (x1 : Int32) (x2 : Int32) (x4 : Int32) (t0 : Int32) (t1 : Int32) : Option Int32 :=
  lt_ (t1 + t0) fun v1 =>
  k5 x1 x2 v1 (x4 + 1)
theorem mo_askedOf_w45 {p : Program} {l : Launch} {e : Env} {s : State} {m : MethodId} {args : Array Value} {below : List Frame} {meth : Method} {c : Code} {Z : MZ} {I : St} (C : MCx p s m args meth c cX6_askedOf 6 (some .int) Z) (hM : mPD Z I s.heap) {r : Int32} {k5 : Int32 → Int32 → Int32 → Int32 → Option Int32} (hk5 : mo_askedOf_P5 p l e s m args below meth c Z r k5) : mo_askedOf_P45 p l e s m args below meth c Z r (mo_askedOf_b45 I k5) := by
  intro x1 x2 x4 t0 t1 ls hl h
  obtain ⟨⟨hx, hb, hr, hlocks, hml, hown, hts⟩, hK⟩ := id C
  unfold mo_askedOf_b45 at h
  refine lv_iadd hx hb dX6_askedOf_45 ?_
  refine lv_topi (fun v1 e_v1 => ?_)
  have h := lt_i h e_v1
  refine lv_istore_n (lv' := [(3, .int v1), (0, .ref (mH Z)), (1, .int x1), (2, .int x2), (4, .int x4)]) hx hb dX6_askedOf_46 rfl hl (by decide) rfl (fun ls hl => ?_)
  refine lv_iinc (v := (x4 + 1)) (lv' := [(4, .int (x4 + 1)), (3, .int v1), (0, .ref (mH Z)), (1, .int x1), (2, .int x2)]) hx hb dX6_askedOf_47 hl (k := 4) rfl rfl (by decide) rfl (fun ls hl => ?_)
  refine lv_goto (tgt := 5) hx hb dX6_askedOf_50 (by decide) ?_
  exact hk5 x1 x2 v1 (x4 + 1) ls (lv_sub hl [2, 3, 4, 1, 0] rfl) h
def mo_askedOf_b5 (I : St) (k5 : Int32 → Int32 → Int32 → Int32 → Option Int32) (x1 : Int32) (x2 : Int32) (x3 : Int32) (x4 : Int32) : Option Int32 :=
  if (I 2 0) ≤ x4 then (some x3)
  else (bd_ (mo_comesOf I x4 x2) fun v2 =>
    if v2 = (-3 : Int32) then (mo_askedOf_b45 I k5 x1 x2 x4 (0 : Int32) x3)
    else (bd_ (mo_isIn v2 x1) fun v4 =>
      if v4 = 0 then (mo_askedOf_b45 I k5 x1 x2 x4 (0 : Int32) x3)
      else (mo_askedOf_b45 I k5 x1 x2 x4 (1 : Int32) x3)))
theorem mo_askedOf_w5 {p : Program} {l : Launch} {e : Env} {s : State} {m : MethodId} {args : Array Value} {below : List Frame} {meth : Method} {c : Code} {Z : MZ} {I : St} (C : MCx p s m args meth c cX6_askedOf 6 (some .int) Z) (hM : mPD Z I s.heap) {r : Int32} {k5 : Int32 → Int32 → Int32 → Int32 → Option Int32} (hk5 : mo_askedOf_P5 p l e s m args below meth c Z r k5) : mo_askedOf_P5 p l e s m args below meth c Z r (mo_askedOf_b5 I k5) := by
  intro x1 x2 x3 x4 ls hl h
  obtain ⟨⟨hx, hb, hr, hlocks, hml, hown, hts⟩, hK⟩ := id C
  unfold mo_askedOf_b5 at h
  refine lv_iload hx hb dX6_askedOf_5 (lv_at hl 4 rfl) ?_
  refine lv_aload_n hx hb dX6_askedOf_7 rfl (lv_at hl 0 rfl) ?_
  refine gm2 C hM dX6_askedOf_8 ?_
  refine lv_icmp_ge (tgt := 53) hx hb dX6_askedOf_11 (by decide) (fun c1 => ?_) (fun c1 => ?_)
  · have h := ip_ c1 h
    refine lv_iload_n hx hb dX6_askedOf_53 rfl (lv_at hl 3 rfl) ?_
    have h := so_ h
    subst h
    exact W.iret hx hb hr (fun t ht hW => ⟨rfl, ht⟩) (fun q hq => by cases hq) dX6_askedOf_54
  · have h := in_ c1 h
    refine lv_aload_n hx hb dX6_askedOf_14 rfl (lv_at hl 0 rfl) ?_
    refine lv_iload hx hb dX6_askedOf_15 (lv_at hl 4 rfl) ?_
    refine lv_iload_n hx hb dX6_askedOf_17 rfl (lv_at hl 2 rfl) ?_
    obtain ⟨v2, q_v2, h⟩ := bd_e h
    refine m_roI (As := [.int x4, .int x2]) (rest := []) C hM (mo_comesOf_met _ Z I x4 x2 v2 q_v2) (lw_V q1266 q1268 qs52 q88 q1269) mo_comesOf_hd ⟨rfl, rfl⟩ ⟨Nat.le_of_ble_eq_true rfl, Nat.le_of_ble_eq_true rfl⟩ ⟨Nat.le_refl _, Nat.le_refl _⟩ rfl hl.1 rfl (Nat.le_of_ble_eq_true rfl) dX6_askedOf_18 ?_
    refine lv_istore (lv' := [(5, .int v2), (0, .ref (mH Z)), (1, .int x1), (2, .int x2), (3, .int x3), (4, .int x4)]) hx hb dX6_askedOf_21 hl (by decide) rfl (fun ls hl => ?_)
    refine lv_iload_n hx hb dX6_askedOf_23 rfl (lv_at hl 4 rfl) ?_
    refine lv_iload hx hb dX6_askedOf_24 (lv_at hl 0 rfl) ?_
    refine lv_bipush (v := -3) hx hb dX6_askedOf_26 (by decide) ?_
    refine lv_icmp_eq (tgt := 44) hx hb dX6_askedOf_28 (by decide) (fun c3 => ?_) (fun c3 => ?_)
    · have h := ip_ c3 h
      refine lv_iconst (v := 0) hx hb dX6_askedOf_44 (by decide) ?_
      exact mo_askedOf_w45 C hM hk5 x1 x2 x4 (0 : Int32) x3 ls (lv_sub hl [1, 2, 3, 5] rfl) h
    · have h := in_ c3 h
      refine lv_iload hx hb dX6_askedOf_31 (lv_at hl 0 rfl) ?_
      refine lv_iload_n hx hb dX6_askedOf_33 rfl (lv_at hl 2 rfl) ?_
      obtain ⟨v4, q_v4, h⟩ := bd_e h
      refine s_roI (As := [.int v2, .int x1]) (rest := [.int x3]) C.1 (mo_isIn_met _ v2 x1 v4 q_v4) (lw_S q1194 q1195 q88 q1196) mo_isIn_hd ⟨rfl, rfl⟩ ⟨Nat.le_of_ble_eq_true rfl, Nat.le_of_ble_eq_true rfl⟩ ⟨Nat.le_refl _, Nat.le_refl _⟩ rfl hl.1 rfl (Nat.le_of_ble_eq_true rfl) dX6_askedOf_34 ?_
      refine lv_if_eq (tgt := 44) hx hb dX6_askedOf_37 (by decide) (fun c5 => ?_) (fun c5 => ?_)
      · have h := ip_ c5 h
        refine lv_iconst (v := 0) hx hb dX6_askedOf_44 (by decide) ?_
        exact mo_askedOf_w45 C hM hk5 x1 x2 x4 (0 : Int32) x3 ls (lv_sub hl [1, 2, 3, 5] rfl) h
      · have h := in_ c5 h
        refine lv_iconst (v := 1) hx hb dX6_askedOf_40 (by decide) ?_
        refine lv_goto (tgt := 45) hx hb dX6_askedOf_41 (by decide) ?_
        exact mo_askedOf_w45 C hM hk5 x1 x2 x4 (1 : Int32) x3 ls (lv_sub hl [1, 2, 3, 5] rfl) h
def mo_askedOf_l5 (I : St) (n : Nat) : Int32 → Int32 → Int32 → Int32 → Option Int32 := lp (fun _ _ _ _ => none) (mo_askedOf_b5 I) n
theorem mo_askedOf_lw5 {p : Program} {l : Launch} {e : Env} {s : State} {m : MethodId} {args : Array Value} {below : List Frame} {meth : Method} {c : Code} {Z : MZ} {I : St} (C : MCx p s m args meth c cX6_askedOf 6 (some .int) Z) (hM : mPD Z I s.heap) {r : Int32} : ∀ n : Nat, mo_askedOf_P5 p l e s m args below meth c Z r (mo_askedOf_l5 I n) := by
  intro n
  induction n with
  | zero => intro x1 x2 x3 x4 ls hl h; exact no_ h
  | succ n ih => exact mo_askedOf_w5 C hM ih
def mo_askedOf (I : St) (x1 : Int32) (x2 : Int32) : Option Int32 :=
  mo_askedOf_l5 I FU x1 x2 (0 : Int32) (0 : Int32)
theorem mo_askedOf_w0 {p : Program} {l : Launch} {e : Env} {s : State} {m : MethodId} {args : Array Value} {below : List Frame} {meth : Method} {c : Code} {Z : MZ} {I : St} (C : MCx p s m args meth c cX6_askedOf 6 (some .int) Z) (hM : mPD Z I s.heap) {r : Int32} : mo_askedOf_P0 p l e s m args below meth c Z r (mo_askedOf I) := by
  intro x1 x2 ls hl h
  obtain ⟨⟨hx, hb, hr, hlocks, hml, hown, hts⟩, hK⟩ := id C
  unfold mo_askedOf at h
  refine lv_iconst (v := 0) hx hb dX6_askedOf_0 (by decide) ?_
  refine lv_istore_n (lv' := [(3, .int (0 : Int32)), (0, .ref (mH Z)), (1, .int x1), (2, .int x2)]) hx hb dX6_askedOf_1 rfl hl (by decide) rfl (fun ls hl => ?_)
  refine lv_iconst (v := 0) hx hb dX6_askedOf_2 (by decide) ?_
  refine lv_istore (lv' := [(4, .int (0 : Int32)), (3, .int (0 : Int32)), (0, .ref (mH Z)), (1, .int x1), (2, .int x2)]) hx hb dX6_askedOf_3 hl (by decide) rfl (fun ls hl => ?_)
  exact mo_askedOf_lw5 C hM FU x1 x2 (0 : Int32) (0 : Int32) ls (lv_sub hl [2, 3, 4, 1, 0] rfl) h
theorem mo_askedOf_hd : yX6_askedOf.cls = RX6 ∧ yX6_askedOf.cls ≠ "java/lang/invoke/MethodHandle" ∧ yX6_askedOf.cls ≠ "java/lang/invoke/VarHandle" ∧ (parseMethodDescriptor yX6_askedOf.desc).map (fun d => d.parameters.length) = some 2 := by decide +kernel
theorem mo_askedOf_met (l : Launch) (Z : MZ) (I : St) (x1 : Int32) (x2 : Int32) (r : Int32) (h : mo_askedOf I x1 x2 = some r) : Met l yX6_askedOf (ws_ yX6_askedOf cX6_askedOf 6 (some .int)) mo_askedOf_rm (va_Pc [.ref (mH Z), .int x1, .int x2] (mS Z I)) (Qro (some (.int r))) 0 0 (fun _ => False) := by
  refine Met.ofW (cc := cX6_askedOf) (maxL := 6) (ret := some .int) (by decide) rfl ?_
  intro p e s m args below meth c s₁ B hml hv
  obtain ⟨rfl, hv⟩ := hv
  have hts := atoms_spec (ws := ws_ yX6_askedOf cX6_askedOf 6 (some .int)) B.pre
  have hts : ∀ w ∈ lw_all, w.before _ s = true := fun w h => hts w (List.mem_cons_of_mem _ h)
  have C : SCx p s m _ meth c cX6_askedOf 6 (some .int) RX6 := ⟨B.exec, B.bytes, B.returns, B.notSynchronized, hml, findClass_of_methodNamed B.named, hts⟩
  have hl := lv_entry [.ref (mH Z), .int x1, .int x2] (n := 6) (Nat.le_of_ble_eq_true rfl)
  rw [lg_entry_eq]
  generalize (lg_sl [.ref (mH Z), .int x1, .int x2] ++ List.replicate (6 - (lg_sl [.ref (mH Z), .int x1, .int x2]).length) Slot.unset).toArray = ls at hl ⊢
  have C : MCx p s m _ meth c _ _ _ Z := ⟨C, hv.2⟩
  have hM := hv.1
  exact mo_askedOf_w0 C hM x1 x2 ls hl h

/-! SecondChancesModel.asked(II)I -/
def mo_asked_rm : Room := { frames := 4, cells := 0, slots := 0, locals := 96 }
def mo_asked_P0 (p : Program) (l : Launch) (e : Env) (s : State) (m : MethodId) (args : Array Value) (below : List Frame) (meth : Method) (c : Code) (Z : MZ) (r : (Int32 × St)) (f : Int32 → Int32 → St → Option (Int32 × St)) : Prop := ∀ (x1 : Int32) (x2 : Int32) (I : St) (H : Heap) (locs : List Loc) (ls : Array Slot), mIn Z s I H locs → lv_has ls 3 [(0, .ref (mH Z)), (1, .int x1), (2, .int x2)] → f x1 x2 I = some r → W p l e mo_asked_rm s m args below meth c H locs 0 0 (MQ below (Qwr (some (.int r.1)) (mS Z r.2) (mA Z)) args s 0 0 (mA Z)) (F0 m 0 ls [])
def mo_asked (x1 : Int32) (x2 : Int32) (I : St) : Option (Int32 × St) :=
  bd_ (mo_isPerson x1) fun v1 =>
  if v1 = 0 then (some ((-2 : Int32), I))
  else (bd_ (mo_isHour x2) fun v3 =>
    if v3 = 0 then (some ((-2 : Int32), I))
    else (bd_ (mo_reads  I) fun I5 =>
      bd_ (mo_askedOf I5 x1 x2) fun v6 =>
      some (v6, I5)))
theorem mo_asked_w0 {p : Program} {l : Launch} {e : Env} {s : State} {m : MethodId} {args : Array Value} {below : List Frame} {meth : Method} {c : Code} {Z : MZ} (C : MCx p s m args meth c cX6_asked 3 (some .int) Z) {r : (Int32 × St)} : mo_asked_P0 p l e s m args below meth c Z r (mo_asked) := by
  intro x1 x2 I H locs ls hM hl h
  obtain ⟨⟨hx, hb, hr, hlocks, hml, hown, hts⟩, hK⟩ := id C
  unfold mo_asked at h
  refine lv_iload_n hx hb dX6_asked_0 rfl (lv_at hl 1 rfl) ?_
  obtain ⟨v1, q_v1, h⟩ := bd_e h
  refine s_roI (As := [.int x1]) (rest := []) C.1 (mo_isPerson_met _ x1 v1 q_v1) (lw_S q1233 q1234 q88 q1235) mo_isPerson_hd ⟨rfl, rfl⟩ ⟨Nat.le_of_ble_eq_true rfl, Nat.le_of_ble_eq_true rfl⟩ ⟨Nat.le_refl _, Nat.le_refl _⟩ rfl hl.1 rfl (Nat.le_of_ble_eq_true rfl) dX6_asked_1 ?_
  refine lv_if_eq (tgt := 14) hx hb dX6_asked_4 (by decide) (fun c2 => ?_) (fun c2 => ?_)
  · have h := ip_ c2 h
    refine lv_bipush (v := -2) hx hb dX6_asked_14 (by decide) ?_
    have h := so_ h
    subst h
    exact W.iret hx hb hr (fun t ht hW => ⟨rfl, ⟨by rw [ht]; exact hM.1, va_K.moved hW.alike hK⟩, hM.2.F ht⟩) hM.2.2.2 dX6_asked_16
  · have h := in_ c2 h
    refine lv_iload_n hx hb dX6_asked_7 rfl (lv_at hl 2 rfl) ?_
    obtain ⟨v3, q_v3, h⟩ := bd_e h
    refine s_roI (As := [.int x2]) (rest := []) C.1 (mo_isHour_met _ x2 v3 q_v3) (lw_S q1240 q1241 q88 q1242) mo_isHour_hd ⟨rfl, rfl⟩ ⟨Nat.le_of_ble_eq_true rfl, Nat.le_of_ble_eq_true rfl⟩ ⟨Nat.le_refl _, Nat.le_refl _⟩ rfl hl.1 rfl (Nat.le_of_ble_eq_true rfl) dX6_asked_8 ?_
    refine lv_if_ne (tgt := 17) hx hb dX6_asked_11 (by decide) (fun c4 => ?_) (fun c4 => ?_)
    · have h := in_ c4 h
      refine lv_aload_n hx hb dX6_asked_17 rfl (lv_at hl 0 rfl) ?_
      obtain ⟨I5, q_I5, h⟩ := bd_e h
      refine m_wrV (As := []) (rest := []) C hM (mo_reads_met _ Z I  I5 q_I5) (lw_V q1213 q1215 qs47 q88 q1216) mo_reads_hd ⟨rfl, rfl⟩ ⟨Nat.le_of_ble_eq_true rfl, Nat.le_of_ble_eq_true rfl⟩ ⟨Nat.le_refl _, Nat.le_refl _⟩ rfl hl.1 rfl (Nat.le_of_ble_eq_true rfl) dX6_asked_18 (fun H locs hM => ?_)
      refine lv_aload_n hx hb dX6_asked_21 rfl (lv_at hl 0 rfl) ?_
      refine lv_iload_n hx hb dX6_asked_22 rfl (lv_at hl 1 rfl) ?_
      refine lv_iload_n hx hb dX6_asked_23 rfl (lv_at hl 2 rfl) ?_
      obtain ⟨v6, q_v6, h⟩ := bd_e h
      refine m_roI (As := [.int x1, .int x2]) (rest := []) C hM.1 (mo_askedOf_met _ Z I5 x1 x2 v6 q_v6) (lw_V q1346 q1348 qs64 q88 q1349) mo_askedOf_hd ⟨rfl, rfl⟩ ⟨Nat.le_of_ble_eq_true rfl, Nat.le_of_ble_eq_true rfl⟩ ⟨Nat.le_refl _, Nat.le_refl _⟩ rfl hl.1 rfl (Nat.le_of_ble_eq_true rfl) dX6_asked_24 ?_
      have h := so_ h
      subst h
      exact W.iret hx hb hr (fun t ht hW => ⟨rfl, ⟨by rw [ht]; exact hM.1, va_K.moved hW.alike hK⟩, hM.2.F ht⟩) hM.2.2.2 dX6_asked_27
    · have h := ip_ c4 h
      refine lv_bipush (v := -2) hx hb dX6_asked_14 (by decide) ?_
      have h := so_ h
      subst h
      exact W.iret hx hb hr (fun t ht hW => ⟨rfl, ⟨by rw [ht]; exact hM.1, va_K.moved hW.alike hK⟩, hM.2.F ht⟩) hM.2.2.2 dX6_asked_16
theorem mo_asked_hd : yX6_asked.cls = RX6 ∧ yX6_asked.cls ≠ "java/lang/invoke/MethodHandle" ∧ yX6_asked.cls ≠ "java/lang/invoke/VarHandle" ∧ (parseMethodDescriptor yX6_asked.desc).map (fun d => d.parameters.length) = some 2 := by decide +kernel
theorem mo_asked_met (l : Launch) (Z : MZ) (I : St) (x1 : Int32) (x2 : Int32) (r : (Int32 × St)) (h : mo_asked x1 x2 I = some r) : Met l yX6_asked (ws_ yX6_asked cX6_asked 3 (some .int)) mo_asked_rm (va_Pc [.ref (mH Z), .int x1, .int x2] (mS Z I)) (Qwr (some (.int r.1)) (mS Z r.2) (mA Z)) 0 0 (mA Z) := by
  refine Met.ofW (cc := cX6_asked) (maxL := 3) (ret := some .int) (by decide) rfl ?_
  intro p e s m args below meth c s₁ B hml hv
  obtain ⟨rfl, hv⟩ := hv
  have hts := atoms_spec (ws := ws_ yX6_asked cX6_asked 3 (some .int)) B.pre
  have hts : ∀ w ∈ lw_all, w.before _ s = true := fun w h => hts w (List.mem_cons_of_mem _ h)
  have C : SCx p s m _ meth c cX6_asked 3 (some .int) RX6 := ⟨B.exec, B.bytes, B.returns, B.notSynchronized, hml, findClass_of_methodNamed B.named, hts⟩
  have hl := lv_entry [.ref (mH Z), .int x1, .int x2] (n := 3) (Nat.le_of_ble_eq_true rfl)
  rw [lg_entry_eq]
  generalize (lg_sl [.ref (mH Z), .int x1, .int x2] ++ List.replicate (3 - (lg_sl [.ref (mH Z), .int x1, .int x2]).length) Slot.unset).toArray = ls at hl ⊢
  have C : MCx p s m _ meth c _ _ _ Z := ⟨C, hv.2⟩
  have hM : mIn Z s I s.heap [] := ⟨hv.1, va_S.rf⟩
  exact mo_asked_w0 C x1 x2 I _ _ ls hM hl h

/-! SecondChancesModel.crowdOf(I)I -/
def mo_crowdOf_rm : Room := { frames := 4, cells := 0, slots := 0, locals := 96 }
def mo_crowdOf_P0 (p : Program) (l : Launch) (e : Env) (s : State) (m : MethodId) (args : Array Value) (below : List Frame) (meth : Method) (c : Code) (Z : MZ) (r : (Int32 × St)) (f : Int32 → St → Option (Int32 × St)) : Prop := ∀ (x1 : Int32) (I : St) (H : Heap) (locs : List Loc) (ls : Array Slot), mIn Z s I H locs → lv_has ls 6 [(0, .ref (mH Z)), (1, .int x1)] → f x1 I = some r → W p l e mo_crowdOf_rm s m args below meth c H locs 0 0 (MQ below (Qwr (some (.int r.1)) (mS Z r.2) (mA Z)) args s 0 0 (mA Z)) (F0 m 0 ls [])
def mo_crowdOf_P11 (p : Program) (l : Launch) (e : Env) (s : State) (m : MethodId) (args : Array Value) (below : List Frame) (meth : Method) (c : Code) (Z : MZ) (r : (Int32 × St)) (f : Int32 → Int32 → Int32 → Int32 → St → Option (Int32 × St)) : Prop := ∀ (x1 : Int32) (x2 : Int32) (x3 : Int32) (x4 : Int32) (I : St) (H : Heap) (locs : List Loc) (ls : Array Slot), mIn Z s I H locs → lv_has ls 6 [(0, .ref (mH Z)), (1, .int x1), (2, .int x2), (3, .int x3), (4, .int x4)] → f x1 x2 x3 x4 I = some r → W p l e mo_crowdOf_rm s m args below meth c H locs 0 0 (MQ below (Qwr (some (.int r.1)) (mS Z r.2) (mA Z)) args s 0 0 (mA Z)) (F0 m 11 ls [])
def mo_crowdOf_P46 (p : Program) (l : Launch) (e : Env) (s : State) (m : MethodId) (args : Array Value) (below : List Frame) (meth : Method) (c : Code) (Z : MZ) (r : (Int32 × St)) (f : Int32 → Int32 → Int32 → Int32 → Int32 → St → Option (Int32 × St)) : Prop := ∀ (x1 : Int32) (x3 : Int32) (x4 : Int32) (x5 : Int32) (t0 : Int32) (I : St) (H : Heap) (locs : List Loc) (ls : Array Slot), mIn Z s I H locs → lv_has ls 6 [(0, .ref (mH Z)), (1, .int x1), (3, .int x3), (4, .int x4), (5, .int x5)] → f x1 x3 x4 x5 t0 I = some r → W p l e mo_crowdOf_rm s m args below meth c H locs 0 0 (MQ below (Qwr (some (.int r.1)) (mS Z r.2) (mA Z)) args s 0 0 (mA Z)) (F0 m 46 ls [.int t0])
def mo_crowdOf_P59 (p : Program) (l : Launch) (e : Env) (s : State) (m : MethodId) (args : Array Value) (below : List Frame) (meth : Method) (c : Code) (Z : MZ) (r : (Int32 × St)) (f : Int32 → Int32 → Int32 → Int32 → St → Option (Int32 × St)) : Prop := ∀ (x1 : Int32) (x2 : Int32) (x4 : Int32) (t0 : Int32) (I : St) (H : Heap) (locs : List Loc) (ls : Array Slot), mIn Z s I H locs → lv_has ls 6 [(0, .ref (mH Z)), (1, .int x1), (2, .int x2), (4, .int x4)] → f x1 x2 x4 t0 I = some r → W p l e mo_crowdOf_rm s m args below meth c H locs 0 0 (MQ below (Qwr (some (.int r.1)) (mS Z r.2) (mA Z)) args s 0 0 (mA Z)) (F0 m 59 ls [.int t0])
def mo_crowdOf_b59 (k11 : Int32 → Int32 → Int32 → Int32 → St → Option (Int32 × St)) (x1 : Int32) (x2 : Int32) (x4 : Int32) (t0 : Int32) (I : St) : Option (Int32 × St) :=
  k11 x1 x2 t0 (x4 + 1) I
theorem mo_crowdOf_w59 {p : Program} {l : Launch} {e : Env} {s : State} {m : MethodId} {args : Array Value} {below : List Frame} {meth : Method} {c : Code} {Z : MZ} (C : MCx p s m args meth c cX6_crowdOf 6 (some .int) Z) {r : (Int32 × St)} {k11 : Int32 → Int32 → Int32 → Int32 → St → Option (Int32 × St)} (hk11 : mo_crowdOf_P11 p l e s m args below meth c Z r k11) : mo_crowdOf_P59 p l e s m args below meth c Z r (mo_crowdOf_b59 k11) := by
  intro x1 x2 x4 t0 I H locs ls hM hl h
  obtain ⟨⟨hx, hb, hr, hlocks, hml, hown, hts⟩, hK⟩ := id C
  unfold mo_crowdOf_b59 at h
  refine lv_istore_n (lv' := [(3, .int t0), (0, .ref (mH Z)), (1, .int x1), (2, .int x2), (4, .int x4)]) hx hb dX6_crowdOf_59 rfl hl (by decide) rfl (fun ls hl => ?_)
  refine lv_iinc (v := (x4 + 1)) (lv' := [(4, .int (x4 + 1)), (3, .int t0), (0, .ref (mH Z)), (1, .int x1), (2, .int x2)]) hx hb dX6_crowdOf_60 hl (k := 4) rfl rfl (by decide) rfl (fun ls hl => ?_)
  refine lv_goto (tgt := 11) hx hb dX6_crowdOf_63 (by decide) ?_
  exact hk11 x1 x2 t0 (x4 + 1) I _ _ ls hM (lv_sub hl [2, 3, 4, 1, 0] rfl) h
def mo_crowdOf_b46 (k11 : Int32 → Int32 → Int32 → Int32 → St → Option (Int32 × St)) (x1 : Int32) (x3 : Int32) (x4 : Int32) (x5 : Int32) (t0 : Int32) (I : St) : Option (Int32 × St) :=
  if x5 ≤ x3 then (mo_crowdOf_b59 k11 x1 t0 x4 x3 I)
  else (mo_crowdOf_b59 k11 x1 t0 x4 x5 I)
theorem mo_crowdOf_w46 {p : Program} {l : Launch} {e : Env} {s : State} {m : MethodId} {args : Array Value} {below : List Frame} {meth : Method} {c : Code} {Z : MZ} (C : MCx p s m args meth c cX6_crowdOf 6 (some .int) Z) {r : (Int32 × St)} {k11 : Int32 → Int32 → Int32 → Int32 → St → Option (Int32 × St)} (hk11 : mo_crowdOf_P11 p l e s m args below meth c Z r k11) : mo_crowdOf_P46 p l e s m args below meth c Z r (mo_crowdOf_b46 k11) := by
  intro x1 x3 x4 x5 t0 I H locs ls hM hl h
  obtain ⟨⟨hx, hb, hr, hlocks, hml, hown, hts⟩, hK⟩ := id C
  unfold mo_crowdOf_b46 at h
  refine lv_istore_n (lv' := [(2, .int t0), (0, .ref (mH Z)), (1, .int x1), (3, .int x3), (4, .int x4), (5, .int x5)]) hx hb dX6_crowdOf_46 rfl hl (by decide) rfl (fun ls hl => ?_)
  refine lv_iload hx hb dX6_crowdOf_47 (lv_at hl 5 rfl) ?_
  refine lv_iload_n hx hb dX6_crowdOf_49 rfl (lv_at hl 3 rfl) ?_
  refine lv_icmp_le (tgt := 58) hx hb dX6_crowdOf_50 (by decide) (fun c1 => ?_) (fun c1 => ?_)
  · have h := ip_ c1 h
    refine lv_iload_n hx hb dX6_crowdOf_58 rfl (lv_at hl 3 rfl) ?_
    exact mo_crowdOf_w59 C hk11 x1 t0 x4 x3 I _ _ ls hM (lv_sub hl [1, 2, 0, 4] rfl) h
  · have h := in_ c1 h
    refine lv_iload hx hb dX6_crowdOf_53 (lv_at hl 5 rfl) ?_
    refine lv_goto (tgt := 59) hx hb dX6_crowdOf_55 (by decide) ?_
    exact mo_crowdOf_w59 C hk11 x1 t0 x4 x5 I _ _ ls hM (lv_sub hl [1, 2, 0, 4] rfl) h
def mo_crowdOf_b11 (k11 : Int32 → Int32 → Int32 → Int32 → St → Option (Int32 × St)) (x1 : Int32) (x2 : Int32) (x3 : Int32) (x4 : Int32) (I : St) : Option (Int32 × St) :=
  if (64 : Int32) ≤ x4 then (if x1 = (2 : Int32) then (some (x3, I))
    else (if x2 = (-1 : Int32) then (some ((-1 : Int32), I))
      else (if x1 = 0 then (some ((x2 / (8 : Int32)), I))
        else (some ((x2 - x2 / (8 : Int32) * (8 : Int32)), I)))))
  else (bd_ (mo_askedOf I (x4 / (8 : Int32)) (x4 - x4 / (8 : Int32) * (8 : Int32))) fun v5 =>
    if v5 ≤ x3 then (mo_crowdOf_b46 k11 x1 x3 x4 v5 x2 I)
    else (mo_crowdOf_b46 k11 x1 x3 x4 v5 x4 I))
theorem mo_crowdOf_w11 {p : Program} {l : Launch} {e : Env} {s : State} {m : MethodId} {args : Array Value} {below : List Frame} {meth : Method} {c : Code} {Z : MZ} (C : MCx p s m args meth c cX6_crowdOf 6 (some .int) Z) {r : (Int32 × St)} {k11 : Int32 → Int32 → Int32 → Int32 → St → Option (Int32 × St)} (hk11 : mo_crowdOf_P11 p l e s m args below meth c Z r k11) : mo_crowdOf_P11 p l e s m args below meth c Z r (mo_crowdOf_b11 k11) := by
  intro x1 x2 x3 x4 I H locs ls hM hl h
  obtain ⟨⟨hx, hb, hr, hlocks, hml, hown, hts⟩, hK⟩ := id C
  unfold mo_crowdOf_b11 at h
  refine lv_iload hx hb dX6_crowdOf_11 (lv_at hl 4 rfl) ?_
  refine lv_bipush (v := 64) hx hb dX6_crowdOf_13 (by decide) ?_
  refine lv_icmp_ge (tgt := 66) hx hb dX6_crowdOf_15 (by decide) (fun c1 => ?_) (fun c1 => ?_)
  · have h := ip_ c1 h
    refine lv_iload_n hx hb dX6_crowdOf_66 rfl (lv_at hl 1 rfl) ?_
    refine lv_iconst (v := 2) hx hb dX6_crowdOf_67 (by decide) ?_
    refine lv_icmp_ne (tgt := 75) hx hb dX6_crowdOf_68 (by decide) (fun c2 => ?_) (fun c2 => ?_)
    · have h := in_ c2 h
      refine lv_iload_n hx hb dX6_crowdOf_75 rfl (lv_at hl 2 rfl) ?_
      refine lv_iconst (v := -1) hx hb dX6_crowdOf_76 (by decide) ?_
      refine lv_icmp_ne (tgt := 84) hx hb dX6_crowdOf_77 (by decide) (fun c3 => ?_) (fun c3 => ?_)
      · have h := in_ c3 h
        refine lv_iload_n hx hb dX6_crowdOf_84 rfl (lv_at hl 1 rfl) ?_
        refine lv_if_ne (tgt := 95) hx hb dX6_crowdOf_85 (by decide) (fun c4 => ?_) (fun c4 => ?_)
        · have h := in_ c4 h
          refine lv_iload_n hx hb dX6_crowdOf_95 rfl (lv_at hl 2 rfl) ?_
          refine lv_bipush (v := 8) hx hb dX6_crowdOf_96 (by decide) ?_
          refine lv_irem hx hb dX6_crowdOf_98 (by decide) ?_
          have h := so_ h
          subst h
          exact W.iret hx hb hr (fun t ht hW => ⟨rfl, ⟨by rw [ht]; exact hM.1, va_K.moved hW.alike hK⟩, hM.2.F ht⟩) hM.2.2.2 dX6_crowdOf_99
        · have h := ip_ c4 h
          refine lv_iload_n hx hb dX6_crowdOf_88 rfl (lv_at hl 2 rfl) ?_
          refine lv_bipush (v := 8) hx hb dX6_crowdOf_89 (by decide) ?_
          refine lv_idiv hx hb dX6_crowdOf_91 (by decide) ?_
          refine lv_goto (tgt := 99) hx hb dX6_crowdOf_92 (by decide) ?_
          have h := so_ h
          subst h
          exact W.iret hx hb hr (fun t ht hW => ⟨rfl, ⟨by rw [ht]; exact hM.1, va_K.moved hW.alike hK⟩, hM.2.F ht⟩) hM.2.2.2 dX6_crowdOf_99
      · have h := ip_ c3 h
        refine lv_iconst (v := -1) hx hb dX6_crowdOf_80 (by decide) ?_
        refine lv_goto (tgt := 99) hx hb dX6_crowdOf_81 (by decide) ?_
        have h := so_ h
        subst h
        exact W.iret hx hb hr (fun t ht hW => ⟨rfl, ⟨by rw [ht]; exact hM.1, va_K.moved hW.alike hK⟩, hM.2.F ht⟩) hM.2.2.2 dX6_crowdOf_99
    · have h := ip_ c2 h
      refine lv_iload_n hx hb dX6_crowdOf_71 rfl (lv_at hl 3 rfl) ?_
      refine lv_goto (tgt := 99) hx hb dX6_crowdOf_72 (by decide) ?_
      have h := so_ h
      subst h
      exact W.iret hx hb hr (fun t ht hW => ⟨rfl, ⟨by rw [ht]; exact hM.1, va_K.moved hW.alike hK⟩, hM.2.F ht⟩) hM.2.2.2 dX6_crowdOf_99
  · have h := in_ c1 h
    refine lv_aload_n hx hb dX6_crowdOf_18 rfl (lv_at hl 0 rfl) ?_
    refine lv_iload hx hb dX6_crowdOf_19 (lv_at hl 4 rfl) ?_
    refine lv_bipush (v := 8) hx hb dX6_crowdOf_21 (by decide) ?_
    refine lv_idiv hx hb dX6_crowdOf_23 (by decide) ?_
    refine lv_iload hx hb dX6_crowdOf_24 (lv_at hl 4 rfl) ?_
    refine lv_bipush (v := 8) hx hb dX6_crowdOf_26 (by decide) ?_
    refine lv_irem hx hb dX6_crowdOf_28 (by decide) ?_
    obtain ⟨v5, q_v5, h⟩ := bd_e h
    refine m_roI (As := [.int (x4 / (8 : Int32)), .int (x4 - x4 / (8 : Int32) * (8 : Int32))]) (rest := []) C hM.1 (mo_askedOf_met _ Z I (x4 / (8 : Int32)) (x4 - x4 / (8 : Int32) * (8 : Int32)) v5 q_v5) (lw_V q1346 q1348 qs64 q88 q1349) mo_askedOf_hd ⟨rfl, rfl⟩ ⟨Nat.le_of_ble_eq_true rfl, Nat.le_of_ble_eq_true rfl⟩ ⟨Nat.le_refl _, Nat.le_refl _⟩ rfl hl.1 rfl (Nat.le_of_ble_eq_true rfl) dX6_crowdOf_29 ?_
    refine lv_istore (lv' := [(5, .int v5), (0, .ref (mH Z)), (1, .int x1), (2, .int x2), (3, .int x3), (4, .int x4)]) hx hb dX6_crowdOf_32 hl (by decide) rfl (fun ls hl => ?_)
    refine lv_iload hx hb dX6_crowdOf_34 (lv_at hl 0 rfl) ?_
    refine lv_iload_n hx hb dX6_crowdOf_36 rfl (lv_at hl 4 rfl) ?_
    refine lv_icmp_le (tgt := 45) hx hb dX6_crowdOf_37 (by decide) (fun c6 => ?_) (fun c6 => ?_)
    · have h := ip_ c6 h
      refine lv_iload_n hx hb dX6_crowdOf_45 rfl (lv_at hl 3 rfl) ?_
      exact mo_crowdOf_w46 C hk11 x1 x3 x4 v5 x2 I _ _ ls hM (lv_sub hl [1, 2, 4, 5, 0] rfl) h
    · have h := in_ c6 h
      refine lv_iload hx hb dX6_crowdOf_40 (lv_at hl 5 rfl) ?_
      refine lv_goto (tgt := 46) hx hb dX6_crowdOf_42 (by decide) ?_
      exact mo_crowdOf_w46 C hk11 x1 x3 x4 v5 x4 I _ _ ls hM (lv_sub hl [1, 2, 4, 5, 0] rfl) h
def mo_crowdOf_l11 (n : Nat) : Int32 → Int32 → Int32 → Int32 → St → Option (Int32 × St) := lp (fun _ _ _ _ _ => none) (mo_crowdOf_b11) n
theorem mo_crowdOf_lw11 {p : Program} {l : Launch} {e : Env} {s : State} {m : MethodId} {args : Array Value} {below : List Frame} {meth : Method} {c : Code} {Z : MZ} (C : MCx p s m args meth c cX6_crowdOf 6 (some .int) Z) {r : (Int32 × St)} : ∀ n : Nat, mo_crowdOf_P11 p l e s m args below meth c Z r (mo_crowdOf_l11 n) := by
  intro n
  induction n with
  | zero => intro x1 x2 x3 x4 I H locs ls hM hl h; exact no_ h
  | succ n ih => exact mo_crowdOf_w11 C ih
def mo_crowdOf (x1 : Int32) (I : St) : Option (Int32 × St) :=
  bd_ (mo_reads  I) fun I1 =>
  mo_crowdOf_l11 FU x1 (-1 : Int32) (0 : Int32) (0 : Int32) I1
theorem mo_crowdOf_w0 {p : Program} {l : Launch} {e : Env} {s : State} {m : MethodId} {args : Array Value} {below : List Frame} {meth : Method} {c : Code} {Z : MZ} (C : MCx p s m args meth c cX6_crowdOf 6 (some .int) Z) {r : (Int32 × St)} : mo_crowdOf_P0 p l e s m args below meth c Z r (mo_crowdOf) := by
  intro x1 I H locs ls hM hl h
  obtain ⟨⟨hx, hb, hr, hlocks, hml, hown, hts⟩, hK⟩ := id C
  unfold mo_crowdOf at h
  refine lv_aload_n hx hb dX6_crowdOf_0 rfl (lv_at hl 0 rfl) ?_
  obtain ⟨I1, q_I1, h⟩ := bd_e h
  refine m_wrV (As := []) (rest := []) C hM (mo_reads_met _ Z I  I1 q_I1) (lw_V q1213 q1215 qs47 q88 q1216) mo_reads_hd ⟨rfl, rfl⟩ ⟨Nat.le_of_ble_eq_true rfl, Nat.le_of_ble_eq_true rfl⟩ ⟨Nat.le_refl _, Nat.le_refl _⟩ rfl hl.1 rfl (Nat.le_of_ble_eq_true rfl) dX6_crowdOf_1 (fun H locs hM => ?_)
  refine lv_iconst (v := -1) hx hb dX6_crowdOf_4 (by decide) ?_
  refine lv_istore_n (lv' := [(2, .int (-1 : Int32)), (0, .ref (mH Z)), (1, .int x1)]) hx hb dX6_crowdOf_5 rfl hl (by decide) rfl (fun ls hl => ?_)
  refine lv_iconst (v := 0) hx hb dX6_crowdOf_6 (by decide) ?_
  refine lv_istore_n (lv' := [(3, .int (0 : Int32)), (2, .int (-1 : Int32)), (0, .ref (mH Z)), (1, .int x1)]) hx hb dX6_crowdOf_7 rfl hl (by decide) rfl (fun ls hl => ?_)
  refine lv_iconst (v := 0) hx hb dX6_crowdOf_8 (by decide) ?_
  refine lv_istore (lv' := [(4, .int (0 : Int32)), (3, .int (0 : Int32)), (2, .int (-1 : Int32)), (0, .ref (mH Z)), (1, .int x1)]) hx hb dX6_crowdOf_9 hl (by decide) rfl (fun ls hl => ?_)
  exact mo_crowdOf_lw11 C FU x1 (-1 : Int32) (0 : Int32) (0 : Int32) I1 _ _ ls hM (lv_sub hl [3, 4, 2, 1, 0] rfl) h
theorem mo_crowdOf_hd : yX6_crowdOf.cls = RX6 ∧ yX6_crowdOf.cls ≠ "java/lang/invoke/MethodHandle" ∧ yX6_crowdOf.cls ≠ "java/lang/invoke/VarHandle" ∧ (parseMethodDescriptor yX6_crowdOf.desc).map (fun d => d.parameters.length) = some 1 := by decide +kernel
theorem mo_crowdOf_met (l : Launch) (Z : MZ) (I : St) (x1 : Int32) (r : (Int32 × St)) (h : mo_crowdOf x1 I = some r) : Met l yX6_crowdOf (ws_ yX6_crowdOf cX6_crowdOf 6 (some .int)) mo_crowdOf_rm (va_Pc [.ref (mH Z), .int x1] (mS Z I)) (Qwr (some (.int r.1)) (mS Z r.2) (mA Z)) 0 0 (mA Z) := by
  refine Met.ofW (cc := cX6_crowdOf) (maxL := 6) (ret := some .int) (by decide) rfl ?_
  intro p e s m args below meth c s₁ B hml hv
  obtain ⟨rfl, hv⟩ := hv
  have hts := atoms_spec (ws := ws_ yX6_crowdOf cX6_crowdOf 6 (some .int)) B.pre
  have hts : ∀ w ∈ lw_all, w.before _ s = true := fun w h => hts w (List.mem_cons_of_mem _ h)
  have C : SCx p s m _ meth c cX6_crowdOf 6 (some .int) RX6 := ⟨B.exec, B.bytes, B.returns, B.notSynchronized, hml, findClass_of_methodNamed B.named, hts⟩
  have hl := lv_entry [.ref (mH Z), .int x1] (n := 6) (Nat.le_of_ble_eq_true rfl)
  rw [lg_entry_eq]
  generalize (lg_sl [.ref (mH Z), .int x1] ++ List.replicate (6 - (lg_sl [.ref (mH Z), .int x1]).length) Slot.unset).toArray = ls at hl ⊢
  have C : MCx p s m _ meth c _ _ _ Z := ⟨C, hv.2⟩
  have hM : mIn Z s I s.heap [] := ⟨hv.1, va_S.rf⟩
  exact mo_crowdOf_w0 C x1 I _ _ ls hM hl h

/-! SecondChancesModel.crowd(I)I -/
def mo_crowd_rm : Room := { frames := 5, cells := 0, slots := 0, locals := 121 }
def mo_crowd_P0 (p : Program) (l : Launch) (e : Env) (s : State) (m : MethodId) (args : Array Value) (below : List Frame) (meth : Method) (c : Code) (Z : MZ) (r : (Int32 × St)) (f : Int32 → St → Option (Int32 × St)) : Prop := ∀ (x1 : Int32) (I : St) (H : Heap) (locs : List Loc) (ls : Array Slot), mIn Z s I H locs → lv_has ls 2 [(0, .ref (mH Z)), (1, .int x1)] → f x1 I = some r → W p l e mo_crowd_rm s m args below meth c H locs 0 0 (MQ below (Qwr (some (.int r.1)) (mS Z r.2) (mA Z)) args s 0 0 (mA Z)) (F0 m 0 ls [])
def mo_crowd (x1 : Int32) (I : St) : Option (Int32 × St) :=
  bd_ (mo_in x1 (0 : Int32) (2 : Int32)) fun v1 =>
  if v1 = 0 then (some ((-2 : Int32), I))
  else (bd2_ (mo_crowdOf x1 I) fun v4 I3 =>
    some (v4, I3))
theorem mo_crowd_w0 {p : Program} {l : Launch} {e : Env} {s : State} {m : MethodId} {args : Array Value} {below : List Frame} {meth : Method} {c : Code} {Z : MZ} (C : MCx p s m args meth c cX6_crowd 2 (some .int) Z) {r : (Int32 × St)} : mo_crowd_P0 p l e s m args below meth c Z r (mo_crowd) := by
  intro x1 I H locs ls hM hl h
  obtain ⟨⟨hx, hb, hr, hlocks, hml, hown, hts⟩, hK⟩ := id C
  unfold mo_crowd at h
  refine lv_iload_n hx hb dX6_crowd_0 rfl (lv_at hl 1 rfl) ?_
  refine lv_iconst (v := 0) hx hb dX6_crowd_1 (by decide) ?_
  refine lv_iconst (v := 2) hx hb dX6_crowd_2 (by decide) ?_
  obtain ⟨v1, q_v1, h⟩ := bd_e h
  refine s_roI (As := [.int x1, .int (0 : Int32), .int (2 : Int32)]) (rest := []) C.1 (mo_in_met _ x1 (0 : Int32) (2 : Int32) v1 q_v1) (lw_S q1168 q1169 q88 q1170) mo_in_hd ⟨rfl, rfl⟩ ⟨Nat.le_of_ble_eq_true rfl, Nat.le_of_ble_eq_true rfl⟩ ⟨Nat.le_refl _, Nat.le_refl _⟩ rfl hl.1 rfl (Nat.le_of_ble_eq_true rfl) dX6_crowd_3 ?_
  refine lv_if_eq (tgt := 17) hx hb dX6_crowd_6 (by decide) (fun c2 => ?_) (fun c2 => ?_)
  · have h := ip_ c2 h
    refine lv_bipush (v := -2) hx hb dX6_crowd_17 (by decide) ?_
    have h := so_ h
    subst h
    exact W.iret hx hb hr (fun t ht hW => ⟨rfl, ⟨by rw [ht]; exact hM.1, va_K.moved hW.alike hK⟩, hM.2.F ht⟩) hM.2.2.2 dX6_crowd_19
  · have h := in_ c2 h
    refine lv_aload_n hx hb dX6_crowd_9 rfl (lv_at hl 0 rfl) ?_
    refine lv_iload_n hx hb dX6_crowd_10 rfl (lv_at hl 1 rfl) ?_
    obtain ⟨v4, I3, q_I3, h⟩ := bd2_e h
    refine m_wrI (As := [.int x1]) (rest := []) C hM (mo_crowdOf_met _ Z I x1 (v4, I3) q_I3) (lw_V q1354 q1356 qs65 q88 q1357) mo_crowdOf_hd ⟨rfl, rfl⟩ ⟨Nat.le_of_ble_eq_true rfl, Nat.le_of_ble_eq_true rfl⟩ ⟨Nat.le_refl _, Nat.le_refl _⟩ rfl hl.1 rfl (Nat.le_of_ble_eq_true rfl) dX6_crowd_11 (fun H locs hM => ?_)
    refine lv_goto (tgt := 19) hx hb dX6_crowd_14 (by decide) ?_
    have h := so_ h
    subst h
    exact W.iret hx hb hr (fun t ht hW => ⟨rfl, ⟨by rw [ht]; exact hM.1, va_K.moved hW.alike hK⟩, hM.2.F ht⟩) hM.2.2.2 dX6_crowd_19
theorem mo_crowd_hd : yX6_crowd.cls = RX6 ∧ yX6_crowd.cls ≠ "java/lang/invoke/MethodHandle" ∧ yX6_crowd.cls ≠ "java/lang/invoke/VarHandle" ∧ (parseMethodDescriptor yX6_crowd.desc).map (fun d => d.parameters.length) = some 1 := by decide +kernel
theorem mo_crowd_met (l : Launch) (Z : MZ) (I : St) (x1 : Int32) (r : (Int32 × St)) (h : mo_crowd x1 I = some r) : Met l yX6_crowd (ws_ yX6_crowd cX6_crowd 2 (some .int)) mo_crowd_rm (va_Pc [.ref (mH Z), .int x1] (mS Z I)) (Qwr (some (.int r.1)) (mS Z r.2) (mA Z)) 0 0 (mA Z) := by
  refine Met.ofW (cc := cX6_crowd) (maxL := 2) (ret := some .int) (by decide) rfl ?_
  intro p e s m args below meth c s₁ B hml hv
  obtain ⟨rfl, hv⟩ := hv
  have hts := atoms_spec (ws := ws_ yX6_crowd cX6_crowd 2 (some .int)) B.pre
  have hts : ∀ w ∈ lw_all, w.before _ s = true := fun w h => hts w (List.mem_cons_of_mem _ h)
  have C : SCx p s m _ meth c cX6_crowd 2 (some .int) RX6 := ⟨B.exec, B.bytes, B.returns, B.notSynchronized, hml, findClass_of_methodNamed B.named, hts⟩
  have hl := lv_entry [.ref (mH Z), .int x1] (n := 2) (Nat.le_of_ble_eq_true rfl)
  rw [lg_entry_eq]
  generalize (lg_sl [.ref (mH Z), .int x1] ++ List.replicate (2 - (lg_sl [.ref (mH Z), .int x1]).length) Slot.unset).toArray = ls at hl ⊢
  have C : MCx p s m _ meth c _ _ _ Z := ⟨C, hv.2⟩
  have hM : mIn Z s I s.heap [] := ⟨hv.1, va_S.rf⟩
  exact mo_crowd_w0 C x1 I _ _ ls hM hl h

