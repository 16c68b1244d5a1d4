set_option maxRecDepth 100000
/-! SecondChances$Deeds.clears()V -/
def cfD_clears_rm : Room := { frames := 1, cells := 0, slots := 0, locals := 23 }
def cfD_clears_P0 (p : Program) (l : Launch) (e : Env) (R : Room) (s : State) (m : MethodId) (args : Array Value) (below : List Frame) (meth : Method) (c : Code) (Z : CZ) (A : Nat → Prop) (cells slots : Nat) (Qc : Array Value → State → Outcome → State → Prop) (r : St) (f : St → Option St) : Prop := ∀ (Y : CY) (C : St) (H : Heap) (locs : List Loc) (ls : Array Slot), cPD Z Y A C H → va_S A s.heap H locs → lv_has ls 1 [(0, .ref (cSa Z 40))] → f  C = some r → W p l e R s m args below meth c H locs cells slots (MQ below Qc args s cells slots A) (F0 m 0 ls [])
def cfD_clears (C : St) : Option St :=
  bd_ (cfL_clear 0  C) fun C1 =>
  some C1
theorem cfD_clears_w0 {p : Program} {l : Launch} {e : Env} {R : Room} {s : State} {m : MethodId} {args : Array Value} {below : List Frame} {meth : Method} {c : Code} {Z : CZ} {A : Nat → Prop} {cells slots : Nat} {Qc : Array Value → State → Outcome → State → Prop} (X : CCx p s m args meth c cX3_clears 1 (none) RX3 Z) (hR : cfD_clears_rm.frames ≤ R.frames ∧ cfD_clears_rm.locals ≤ R.locals ∧ cells ≤ R.cells ∧ slots ≤ R.slots) (hA : ∀ q, s.heap.size ≤ q → A q) {r : St} (hQ : ∀ (Y : CY) (H : Heap) (locs : List Loc) (t : State), cPD Z Y A r H → va_S A s.heap H locs → t.heap = H → s.WarmedH t.vm → Qc args s (.returned (none)) t) : cfD_clears_P0 p l e R s m args below meth c Z A cells slots Qc r (cfD_clears) := by
  intro Y C H locs ls hM hS hl h
  obtain ⟨⟨hx, hb, hr, hlocks, hml, hown, hts⟩, hK⟩ := id X
  unfold cfD_clears at h
  refine lv_aload_n hx hb dX3_clears_0 rfl (lv_at hl 0 rfl) ?_
  refine gdd5 X hM dX3_clears_1 ?_
  obtain ⟨C1, q_C1, h⟩ := bd_e h
  refine w_wrV (As := []) (rest := []) X hM hS hA (c_recvL (j := 0) X hM (by decide)) (cfL_clear_met _ Z _ C _ 0  C1 q_C1) (lw_V q394 q395 q396 q85 q397) cfL_clear_hd ⟨rfl, rfl⟩ ⟨Nat.le_trans (m := cfD_clears_rm.frames) (Nat.le_of_ble_eq_true rfl) hR.1, Nat.le_trans (m := cfD_clears_rm.locals) (Nat.le_of_ble_eq_true rfl) hR.2.1⟩ ⟨hR.2.2.1, hR.2.2.2⟩ rfl hl.1 rfl (Nat.le_of_ble_eq_true rfl) dX3_clears_4 (fun Y H locs hM hS => ?_)
  have h := so_ h
  subst h
  exact W.vret hx hb hr (fun t ht hW => hQ _ _ _ t hM hS ht hW) hS.2.2 dX3_clears_7
theorem cfD_clears_hd : yX3_clears.cls = RX3 ∧ yX3_clears.cls ≠ "java/lang/invoke/MethodHandle" ∧ yX3_clears.cls ≠ "java/lang/invoke/VarHandle" ∧ (parseMethodDescriptor yX3_clears.desc).map (fun d => d.parameters.length) = some 0 := by decide +kernel
theorem cfD_clears_met (l : Launch) (Z : CZ) (Y : CY) (C : St) (sz : Nat) (r : St) (h : cfD_clears C = some r) : Met l yX3_clears (ws_ yX3_clears cX3_clears 1 (none)) cfD_clears_rm (va_Pc [.ref (cSa Z 40)] (cSw Z Y C sz)) (Qcw (none) Z (va_A (cWs Z Y C) sz) r) 0 0 (va_A (cWs Z Y C) sz) := by
  refine Met.ofW (cc := cX3_clears) (maxL := 1) (ret := none) (by decide) rfl ?_
  intro p e s m args below meth c s₁ B hml hv
  obtain ⟨rfl, hsz, hv⟩ := hv
  subst hsz
  have hts := atoms_spec (ws := ws_ yX3_clears cX3_clears 1 (none)) B.pre
  have hts : ∀ w ∈ lw_all, w.before _ s = true := fun w h => hts w (List.mem_cons_of_mem _ h)
  have X : CCx p s m _ meth c cX3_clears 1 (none) RX3 Z := ⟨⟨B.exec, B.bytes, B.returns, B.notSynchronized, hml, findClass_of_methodNamed B.named, hts⟩, hv.2⟩
  have hl := lv_entry [.ref (cSa Z 40)] (n := 1) (Nat.le_of_ble_eq_true rfl)
  rw [lg_entry_eq]
  generalize (lg_sl [.ref (cSa Z 40)] ++ List.replicate (1 - (lg_sl [.ref (cSa Z 40)]).length) Slot.unset).toArray = ls at hl ⊢
  exact cfD_clears_w0 X ⟨Nat.le_refl _, Nat.le_refl _, Nat.le_refl _, Nat.le_refl _⟩ (fun q h => Or.inr h) (fun Y H locs t hM hS ht hW => ⟨rfl, ⟨Y, by rw [ht]; exact hM, cKs.warm hW X.2⟩, hS.F ht⟩)  Y C _ _ ls (cPD.self hv.1) va_S.rf hl h
