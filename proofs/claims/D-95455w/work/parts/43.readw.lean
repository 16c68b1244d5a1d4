/-! Text.read, on any state -/
set_option maxRecDepth 100000
section XR
variable {p : Program} {l : Launch} {e : Env} {R : Room} {s : State} {m : MethodId} {args : Array Value} {below : List Frame} {meth : Method} {c : Code} {H : Heap} {locs : List Loc} {cells slots : Nat} {Q : State → Prop}
variable {pc : Nat} {ls : Array Slot} {rest st0 As : List Value} {cc : ByteArray} {nL index n mc ms : Nat} {own Cn owner : String} {x y : MethodName} {Qc : Array Value → State → Outcome → State → Prop} {Pc : Array Value → State → Prop} {free : Addr → Prop} {Ts : List Cond}
/-- a call by way of a 'Back' -/
theorem x_run {b : Addr} (S : CallFix p m c cc nL s args Ts own) (hK : Back l R p e below s args y 3 8 (PreOf R mc ms Pc) (PostOf Qc mc ms free)) (hlink : (Cond.methodLink own index x).before args s = true) (hsame : (Cond.sameMethod x.cls owner x.name x.desc).before args s = true) (hd0 : va_Decl s ⟨owner, x.name, x.desc⟩) (howner : owner ≠ "java/lang/invoke/MethodHandle" ∧ owner ≠ "java/lang/invoke/VarHandle") (hsel : (Cond.selects Cn x y).before args s = true) (hinst : (Cond.instanceMethod y).before args s = true) (hlen : (parseMethodDescriptor x.desc).map (fun d => d.parameters.length) = some n) (hp : PreV s H Cn b Pc As)
    (hn : As.length = n) (hsize : ls.size = nL) (hstack : st0 = As.reverse ++ .ref b :: rest) (hw : (rest.map fun v => v.category).sum ≤ 8) (hdg : decode cc pc = .ok (.invokevirtual index, 3)) (hf : cells + mc ≤ R.cells ∧ slots + ms ≤ R.slots) :
    va_Run p l e R s m args below meth c H locs cells slots mc ms (F0 m pc ls st0) rest (Qc (Value.ref b :: As).toArray) free := by
  subst hstack
  obtain ⟨hx, hb, hml, ho, -⟩ := S
  obtain ⟨-, ⟨cellB, hcB, hoB, hclB⟩, hPc⟩ := hp
  intro T hT X
  obtain ⟨r0, r, hnn, hrm, hstR, hsigR⟩ := hd0
  obtain ⟨cn, ck, r1, hcn, hck, hni, hfn, hn1⟩ := Cond.sameMethod_found hsame
  cases hnn.symm.trans hn1
  obtain ⟨mk, methM, hnamed, hmethM, -, habM⟩ := Cond.instanceMethod_spec hinst
  obtain ⟨c2, r2, m2, q1, q2, q3, q4, kP, hkP, hkPi⟩ := Cond.selects_spec hsel
  cases hclB.symm.trans q1
  cases hfn.symm.trans q2
  cases hnamed.symm.trans q3
  have hselP : selectMethod e.platform s.vm cellB.cls r0 = .method mk := by rw [Launch.admits_selectMethod X.admits]; exact q4
  have hl2 : As.length = r.sig.parameters.length := by
    rw [show parseMethodDescriptor x.desc = some r.sig from hsigR] at hlen
    exact hn.trans (Option.some.inj hlen).symm
  obtain ⟨vm₁, X₁, hstep₁⟩ := X.invokevirtualUp hx ho hlink hsame howner hnn hrm hstR (a := b) (cell := cellB) (by rw [hT]; exact hcB)
    (fun z h => by rw [h] at hoB; cases hoB) hselP hmethM habM hkP hkPi (g := F0 m pc ls (As.reverse ++ .ref b :: rest)) rfl (argsL := As) (rest := rest) hl2 rfl (by rw [hb]; exact hdg)
  obtain ⟨v, ⟨U', l2, c2', s2⟩, X', ⟨g', mk', t, L, e1, e2, hq, h1, hL, h2, h3⟩, hsteps⟩ := hK m meth c ⟨T.setVm vm₁, locs, cells, slots⟩ (F0 m pc ls rest) (.invokevirtual index) mk (Value.ref b :: As).toArray X₁ rfl (hsize.trans hml.symm) (by rw [hb]; exact hdg) (lv_room hw) (X₁.named hnamed) ⟨hf.1, hf.2, hPc (T.setVm vm₁) hT X₁.warmed⟩
  dsimp only [Pt.U, Pt.locs, Pt.cells, Pt.slots] at X' e1 e2 h1 h2 h3 hsteps
  subst h1; subst h2; subst h3
  exact ⟨v, (T.setVm vm₁).calling g' mk' (Value.ref b :: As).toArray, t, U', L, hT, X', hL, e1, e2, hq, fun target h => hstep₁ _ fun acts => by rw [doInvoke_state]; exact hsteps.trans h⟩
end XR
theorem decl_W {args : Array Value} {s : State} {x : MethodName} {b : ByteArray} {m : Nat} {ret : Option FieldType} {hh : List (Nat × Nat × Nat × Nat)} (hi : (Cond.instanceMethod x).before args s = true) (hc : (Cond.codeWith x b m ret hh).before args s = true) : va_Decl s x := by
  obtain ⟨mk, methM, hnamed, hmethM, hst, -⟩ := Cond.instanceMethod_spec hi
  obtain ⟨m9, meth, c, hn9, h1, -, -, -, -, -, -, h2⟩ := Cond.codeWith_spec hc
  cases hnamed.symm.trans hn9
  cases hmethM.symm.trans h1
  exact ⟨mk, methM, hnamed, hmethM, hst, h2⟩
section RW
variable {p : Program} {l : Launch} {e : Env} {R : Room} {s : State} {m : MethodId} {args : Array Value} {below : List Frame} {meth : Method} {c : Code} {H : Heap} {locs : List Loc} {cells slots : Nat} {Q : State → Prop}
variable {pc : Nat} {ls : Array Slot} {rest : List Value} {cc : ByteArray} {nL : Nat} {ret : Option FieldType} {Z : CZ} {Y : CY} {A : Nat → Prop} {C : St}
theorem sel_reads {q : Nat} (hts : ∀ w ∈ lw_all, w.before args s = true) (hE : cE Z A s s.heap) (h8 : q < 2) : (Cond.selects (if q = 0 then RX3 else RX4) yX2_reads yX2_reads).before args s = true := by
  match q, h8 with
  | 0, _ => exact sel_priv (Cn := RX3) ⟨by decide, by decide⟩ (hts _ q129) (sel_ni (y := yX2_here) (hts _ q408) (hts _ q406)) (va_Nw.use rfl (hE.nw 11 rfl)) (hts _ q385)
  | 1, _ => exact sel_priv (Cn := RX4) ⟨by decide, by decide⟩ (hts _ q185) (sel_ni (y := yX2_here) (hts _ q409) (hts _ q406)) (va_Nw.use rfl (hE.nw 11 rfl)) (hts _ q385)
theorem w_reads {q : Nat} {r : Int32 × St} (X : CCx p s m args meth c cc nL ret RX2 Z) (hM : cPD Z Y A C H) (hS : va_S A s.heap H locs) (hA : ∀ q, s.heap.size ≤ q → A q) (hE : cE Z A s s.heap) (h8 : q < 2) (h : cfT_reads q C = some r) (hR : 10 ≤ R.frames ∧ 251 ≤ R.locals) (hc : cells + 95 ≤ R.cells ∧ slots + 712 ≤ R.slots) (hs : ls.size = nL) (hw : (rest.map fun v => v.category).sum ≤ 8) (hdg : decode cc pc = .ok (.invokevirtual 63, 3))
    (kk : ∀ (Y : CY) (H1 : Heap) (locs1 : List Loc), cPD Z Y A r.2 H1 → va_S A s.heap H1 locs1 → W p l e R s m args below meth c H1 locs1 (cells + 95) (slots + 712) Q (F0 m (pc + 3) ls (.int r.1 :: rest))) : W p l e R s m args below meth c H locs cells slots Q (F0 m pc ls (.ref (cSa Z (40 + q)) :: rest)) := by
  have hts := X.1.2.2.2.2.2.2
  have hini := hts _ q81
  exact w_run hM hS hA (x_run (As := []) (rest := rest) (owner := RX2) (x := yX2_reads) (n := 0) X.1.fix
    (va_backW (hh := [(9, 53, 54, 26)]) (bytes := cX2_reads) (maxL := 2) (ret := some .int) (cfT_reads_met l Z Y C H.size q r h) cSx.blind rfl rfl hR.1 hR.2 (pay_in hts (lw_methW q386)) List.mem_cons_self (fun a' U hW => word_at hW (Or.inl (by first | rfl | simp [Cond.onTables, Cond.keeps, Cond.steady])) hini))
    (hts _ q383) (hts _ q1493) (decl_W (hts _ q385) (hts _ q386)) ⟨by decide, by decide⟩ (sel_reads hts hE h8) (hts _ q385) (by decide +kernel) ⟨cSx.blind, recvX X hM h8, fun U hU hW => ⟨rfl, st_sx X hM hS hA hE hU hW⟩⟩ rfl hs rfl hw hdg hc) kk
end RW
def cfT_rdf (q : Nat) (C : St) : Option (Int32 × St) := lt_ (upd2 C (40 + q) 3 1) fun C3 => some (C3 (40 + q) 4, C3)
def cp_read (q : Nat) (C : St) : Option (Int32 × St) := gd_ (q < 2) <| if C (40 + q) 3 = 0 then (bd2_ (cfT_reads q C) fun v C1 => lt_ (upd2 C1 (40 + q) 4 v) fun C2 => cfT_rdf q C2) else cfT_rdf q C
def cp_read_rm : Room := { frames := 10, cells := 95, slots := 712, locals := 251 }
set_option maxHeartbeats 4000000 in
theorem cp_read_met (l : Launch) (Z : CZ) (Y : CY) (C : St) (sz q : Nat) (r : Int32 × St) (h : cp_read q C = some r) : Met l yX2_read (ws_ yX2_read cX2_read 1 (some .int)) cp_read_rm (va_Pc [.ref (cSa Z (40 + q))] (cSx Z Y C sz)) (Qcw (some (.int r.1)) Z (va_A (cWs Z Y C) sz) r.2) 95 712 (va_A (cWs Z Y C) sz) := by
  refine Met.ofW (cc := cX2_read) (maxL := 1) (ret := some .int) (by decide) rfl ?_
  intro p e s m args below meth c s₁ B hml hv
  obtain ⟨rfl, ⟨hsz, hv⟩, hE⟩ := hv
  subst hsz
  have hts := atoms_spec (ws := ws_ yX2_read cX2_read 1 (some .int)) B.pre
  have hts : ∀ w ∈ lw_all, w.before _ s = true := fun w h => hts w (List.mem_cons_of_mem _ h)
  have X : CCx p s m _ meth c cX2_read 1 (some .int) RX2 Z := ⟨⟨B.exec, B.bytes, B.returns, B.notSynchronized, hml, findClass_of_methodNamed B.named, hts⟩, hv.2⟩
  have hl := lv_entry [.ref (cSa Z (40 + q))] (n := 1) (Nat.le_of_ble_eq_true rfl)
  rw [lg_entry_eq]
  generalize (lg_sl [.ref (cSa Z (40 + q))] ++ List.replicate (1 - (lg_sl [.ref (cSa Z (40 + q))]).length) Slot.unset).toArray = ls at hl ⊢
  have hl : lv_has ls 1 [(0, .ref (cSa Z (40 + q)))] := hl
  obtain ⟨⟨hx, hb, hr, hlocks, hml, hown, -⟩, hK⟩ := id X
  have hM : cPD Z Y (va_A (cWs Z Y C) s.heap.size) C s.heap := cPD.self hv.1
  have hS : va_S (va_A (cWs Z Y C) s.heap.size) s.heap s.heap [] := va_S.rf
  have hA : ∀ q, s.heap.size ≤ q → va_A (cWs Z Y C) s.heap.size q := fun q h => Or.inr h
  unfold cp_read at h
  obtain ⟨h8, h⟩ := gd_e h
  have fin : ∀ (Y1 : CY) (C2 : St) (H : Heap) (locs : List Loc), cPD Z Y1 (va_A (cWs Z Y C) s.heap.size) C2 H → va_S (va_A (cWs Z Y C) s.heap.size) s.heap H locs → cfT_rdf q C2 = some r → W p l e (headSpec (ws_ yX2_read cX2_read 1 (some .int)) cp_read_rm).room s m ([.ref (cSa Z (40 + q))] : List Value).toArray below meth c H locs 95 712 (MQ below (Qcw (some (.int r.1)) Z (va_A (cWs Z Y C) s.heap.size) r.2) ([.ref (cSa Z (40 + q))] : List Value).toArray s 95 712 (va_A (cWs Z Y C) s.heap.size)) (F0 m 15 ls []) := by
    intro Y1 C2 H locs hM hS h
    unfold cfT_rdf at h
    refine lv_aload_n hx hb dX2_read_15 rfl (lv_at hl 0 rfl) ?_
    refine lv_iconst (v := 1) hx hb dX2_read_16 (by decide) ?_
    refine pt3 X hM hS h8 dX2_read_17 rfl (fun H locs C3 e_C3 hM hS => ?_)
    have h := lt_i h e_C3
    have h := so_ h
    subst h
    refine lv_aload_n hx hb dX2_read_20 rfl (lv_at hl 0 rfl) ?_
    refine gt4 X hM h8 dX2_read_21 ?_
    exact W.iret hx hb hr (fun t ht hW => ⟨rfl, ⟨Y1, by rw [ht]; exact hM, cKs.warm hW X.2⟩, hS.F ht⟩) hS.2.2 dX2_read_24
  refine lv_aload_n hx hb dX2_read_0 rfl (lv_at hl 0 rfl) ?_
  refine gt3 X hM h8 dX2_read_1 ?_
  refine lv_if_ne (tgt := 15) hx hb dX2_read_4 (by decide) (fun c1 => ?_) (fun c1 => ?_)
  · have h := in_ c1 h
    exact W.widen (k := 95) (n := 712) (Nat.zero_le _) (Nat.zero_le _) (fin Y C _ _ hM hS h)
  · have h := ip_ c1 h
    obtain ⟨v, C1, q_C1, h⟩ := bd2_e h
    refine lv_aload_n hx hb dX2_read_7 rfl (lv_at hl 0 rfl) ?_
    refine lv_aload_n hx hb dX2_read_8 rfl (lv_at hl 0 rfl) ?_
    refine w_reads X hM hS hA hE h8 q_C1 ⟨Nat.le_of_ble_eq_true rfl, Nat.le_of_ble_eq_true rfl⟩ ⟨Nat.le_of_ble_eq_true rfl, Nat.le_of_ble_eq_true rfl⟩ hl.1 (Nat.le_of_ble_eq_true rfl) dX2_read_9 (fun Y1 H locs hM hS => ?_)
    refine pt4 X hM hS h8 dX2_read_12 (fun H locs C2 e_C2 hM hS => ?_)
    have h := lt_i h e_C2
    exact fin Y1 C2 H locs hM hS h
