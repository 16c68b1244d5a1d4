/-! Text.torn: a Torn is made -/
theorem cPD.kept {Z : CZ} {Y : CY} {A : Nat → Prop} {C : St} {H H1 : Heap} (hM : cPD Z Y A C H) (h : ∀ q : Nat, q < H.size → H1[q]? = H[q]?) : cPD Z Y A C H1 := ⟨hM.1.kept (fun k x hx => h _ ((hM.1 k x hx).lt)), hM.2⟩
def upA (sz : Nat) : Nat → Prop := fun q => sz ≤ q
def tnX (Z : CZ) (x : Nat) (pl : Int32) (H : Heap) : Prop := va_P Z.1 clA [(x, .inr (6, [.null, .null, .null, .null, .null, .int 0, .int pl]))] H
def tqS (Z : CZ) (Y : CY) (C : St) (sz : Nat) (U : State) : Prop := cSw Z Y C sz U ∧ tnUS (upA sz) U U.heap
theorem tqS.blind {Z : CZ} {Y : CY} {C : St} {sz : Nat} {av : List Value} : FrameBlind (va_Pc av (tqS Z Y C sz)) := fun a U g mk q => ⟨q.1, (cSw.blind a U g mk ⟨q.1, q.2.1⟩).2, va_Zq.same (u := U) (U := U.calling g mk a) rfl q.2.2.1, va_Zq.same (u := U) (U := U.calling g mk a) rfl q.2.2.2⟩
abbrev tqQ (Z : CZ) (sz : Nat) (pl : Int32) : Array Value → State → Outcome → State → Prop := va_Qr (fun _ : Unit => True) (fun _ x t => sz ≤ x ∧ tnX Z x pl t.heap) (upA sz)
def cfT_torn_rm : Room := { frames := 4, cells := 1, slots := 7, locals := 110 }
set_option maxHeartbeats 4000000 in
theorem cfT_torn_met (l : Launch) (Z : CZ) (Y : CY) (C : St) (sz x0 : Nat) (h0 : x0 < 2) : Met l yX2_torn (ws_ yX2_torn cX2_torn 1 (some (.object "SecondChances$Torn"))) cfT_torn_rm (va_Pc [.ref (cSa Z (40 + x0))] (tqS Z Y C sz)) (tqQ Z sz (C (40 + x0) 2)) 1 7 (upA sz) := by
  refine Met.ofW (cc := cX2_torn) (maxL := 1) (ret := some (.object "SecondChances$Torn")) (by decide) rfl ?_
  intro p e s m args below meth c s₁ B hml hv
  obtain ⟨rfl, ⟨hsz, hM, hKs⟩, hZ⟩ := hv
  subst hsz
  have hts := atoms_spec (ws := ws_ yX2_torn cX2_torn 1 (some (.object "SecondChances$Torn"))) B.pre
  have hts : ∀ w ∈ lw_all, w.before _ s = true := fun w h => hts w (List.mem_cons_of_mem _ h)
  have X : CCx p s m _ meth c cX2_torn 1 (some (.object "SecondChances$Torn")) RX2 Z := ⟨⟨B.exec, B.bytes, B.returns, B.notSynchronized, hml, findClass_of_methodNamed B.named, hts⟩, hKs⟩
  obtain ⟨⟨hx, hb, hr, hlocks, hml, hown, -⟩, hK⟩ := id X
  have hl := lv_entry [.ref (cSa Z (40 + x0))] (n := 1) (Nat.le_of_ble_eq_true rfl)
  rw [lg_entry_eq]
  generalize (lg_sl [.ref (cSa Z (40 + x0))] ++ List.replicate (1 - (lg_sl [.ref (cSa Z (40 + x0))]).length) Slot.unset).toArray = ls at hl ⊢
  have hl : lv_has ls 1 [(0, .ref (cSa Z (40 + x0)))] := hl
  have hS : va_S (upA s.heap.size) s.heap s.heap [] := va_S.rf
  refine va_new (ci := 6) (ws := []) (A := upA s.heap.size) (fs := [.null, .null, .null, .null, .null, .int 0, .int 0]) hx hb hts in_X7 tyX7 tyX7_ok hown (hts _ q387) (hts _ q429) (hts _ q91) hKs.1 (fun k q hk => by simp at hk) ⟨fun i j p q hp => by simp at hp, fun k q hk => by simp at hk⟩ hS (fun _ h => h) rfl (by decide) (Nat.le_of_ble_eq_true rfl) (Nat.le_of_ble_eq_true rfl) dX2_torn_0 (fun x H hP hD hS => ?_)
  have hxs : s.heap.size ≤ x := hD.2 0 _ rfl
  have hM1 : cPD Z Y (fun _ => True) C H := hM.kept (fun q hq => hS.2.1 q hq (fun z => absurd z (Nat.not_le.mpr hq)))
  refine lv_dup hx hb dX2_torn_3 rfl ?_
  refine lv_aload_n hx hb dX2_torn_4 rfl (lv_at hl 0 rfl) ?_
  refine gt2 X hM1 h0 dX2_torn_5 ?_
  refine c_wr (va_runI (As := [.int (C (40 + x0) 2)]) (rest := [.ref x]) X.1.fix (tn_init l Z x .null .null .null .null .null (.int 0) (.int 0) (C (40 + x0) 2)) (cwI 1 hts (lw_meth q470) rfl rfl rfl (hts _ q91) (hts _ q468) (hts _ q469) rfl (by decide +kernel) ⟨Nat.le_of_ble_eq_true rfl, Nat.le_of_ble_eq_true rfl⟩) ⟨tnS.blind, fun U hU hW => ⟨rfl, by rw [hU]; exact hP, va_K.moved hW.alike hKs.1, ?_, ?_⟩⟩ rfl rfl hl.1 rfl (lv_room (Nat.le_of_ble_eq_true rfl)) dX2_torn_8 ⟨Nat.le_of_ble_eq_true rfl, Nat.le_of_ble_eq_true rfl⟩) hS (fun q _ z => by rw [show q = x from z]; exact hxs) (fun q z => by rw [show q = x from z]; exact hxs) (fun t H1 locs1 ht _ hB _ _ hS1 => ?_)
  · rw [hU]
    exact va_Zq.moved hW.alike ((va_Zq.kept hZ.1 hS.2.1).narrow (fun q z => by rw [show q = x from z]; exact hxs))
  · rw [hU]
    exact va_Zq.moved hW.alike ((va_Zq.kept hZ.2 hS.2.1).narrow (fun q z => by rw [show q = x from z]; exact hxs))
  · rw [ht] at hB
    exact W.aret hx hb hr (Or.inl ⟨_, rfl⟩) (Or.inr ⟨_, rfl⟩) (fun t ht hW => ⟨⟨(), x, rfl, trivial, hxs, by rw [ht]; exact hB⟩, hS1.F ht⟩) hS1.2.2 dX2_torn_11
