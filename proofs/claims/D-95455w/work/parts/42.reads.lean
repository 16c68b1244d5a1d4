/-! Text.reads: its handler -/
set_option maxRecDepth 100000
def RFU : Nat := 45
def cfT_fin (q : Nat) (pl : Int32) (C : St) : Option (Int32 × St) := bd_ (cfT_cl q C) fun C2 => some (pl, C2)
def cfT_nxo (q : Nat) (C : St) (k : St → Option (Int32 × St)) : Option (Int32 × St) := orE_ (bd2_ (cfT_nxx q C) fun pl C1 => cfT_fin q pl C1) (bd_ (cfT_nx q C) k)
def cfT_rl (q : Nat) : Nat → St → Option (Int32 × St)
  | 0, _ => none
  | n + 1, C => if C (40 + q) 1 ≤ C (40 + q) 2 then some (-1, C) else bd2_ (cfT_passes q 59 C) fun v C1 => if v = 0 then cfT_fin q (C1 (40 + q) 2) C1 else cfT_nxo q C1 (cfT_rl q n)
def cfT_reads (q : Nat) (C : St) : Option (Int32 × St) := gd_ (q < 2) <| lt_ (upd2 C (40 + q) 2 0) fun C0 => bd_ (cfT_cl q C0) fun C1 => if C1 (40 + q) 1 ≤ 0 then cfT_rl q RFU C1 else cfT_nxo q C1 (cfT_rl q RFU)
def cfT_reads_rm : Room := { frames := 9, cells := 95, slots := 712, locals := 230 }
theorem cw_priv {R : Room} {s : State} {args : Array Value} {own Cn : String} {index maxL mc ms : Nat} {y : MethodName} {bytes : ByteArray} {ret : Option FieldType} {rm : Room} (n : Nat) (ht : ∀ w ∈ lw_all, w.before args s = true) (hc : Cond.code y bytes maxL ret ∈ lw_all) (hml : Cond.methodLink own index y ∈ lw_all) (hsm : Cond.sameMethod y.cls y.cls y.name y.desc ∈ lw_all) (him : Cond.instanceMethod y ∈ lw_all) (hini : Cond.initialized y.cls ∈ lw_all) (hsel : (Cond.selects Cn y y).before args s = true) (hrc : rm.cells = mc) (hrs : rm.slots = ms)
    (hd : y.cls ≠ "java/lang/invoke/MethodHandle" ∧ y.cls ≠ "java/lang/invoke/VarHandle" ∧ (parseMethodDescriptor y.desc).map (fun d => d.parameters.length) = some n) (hR : rm.frames + 1 ≤ R.frames ∧ 8 + (maxL + 11) + rm.locals ≤ R.locals) : va_CU R s args own Cn y.cls index y y bytes maxL ret (ws_ y bytes maxL ret) rm mc ms n := by
  refine ⟨⟨hrc, hrs, hR.1, hR.2, pay_in ht (lw_meth hc), List.mem_cons_self⟩, ht _ hc, ht _ hini, ⟨hd.1, hd.2.1⟩, fun sig h => ?_, ht _ hml, ht _ hsm, va_Decl.of (ht _ him) (ht _ hc), hsel, ht _ him⟩
  have h2 := hd.2.2
  rw [h] at h2
  exact (Option.some.inj h2).symm
section RD
variable {p : Program} {l : Launch} {e : Env} {R : Room} {s : State} {m : MethodId} {args : Array Value} {below : List Frame} {meth : Method} {c : Code} {H : Heap} {locs : List Loc} {cells slots : Nat} {Q : State → Prop}
variable {pc : Nat} {ls : Array Slot} {rest st0 As : List Value} {cc bytes : ByteArray} {nL maxL index n : Nat} {ret ret' : Option FieldType} {own : String} {y : MethodName} {rm : Room} {Z : CZ} {Y : CY} {A : Nat → Prop} {C : St}
theorem sel_next {q : Nat} (hts : ∀ w ∈ lw_all, w.before args s = true) (hE : cE Z A s s.heap) (h8 : q < 2) : (Cond.selects (if q = 0 then RX3 else RX4) yX2_next yX2_next).before args s = true := by
  match q, h8 with
  | 0, _ => exact sel_priv (Cn := RX3) ⟨by decide, by decide⟩ (hts _ q129) (sel_ni (y := yX2_here) (hts _ q408) (hts _ q406)) (va_Nw.use rfl (hE.nw 10 rfl)) (hts _ q403)
  | 1, _ => exact sel_priv (Cn := RX4) ⟨by decide, by decide⟩ (hts _ q185) (sel_ni (y := yX2_here) (hts _ q409) (hts _ q406)) (va_Nw.use rfl (hE.nw 10 rfl)) (hts _ q403)
theorem recvX {q : Nat} (X : CCx p s m args meth c cc nL ret own Z) (hM : cPD Z Y A C H) (h8 : q < 2) : ∃ cell : Cell, H[cSa Z (40 + q)]? = some cell ∧ cell.vm.isStatics = false ∧ s.vm.findClass (if q = 0 then RX3 else RX4) = some cell.cls := by
  match q, h8 with
  | 0, _ => exact c_recvX0 X hM
  | 1, _ => exact c_recvX1 X hM
theorem w_nx {q : Nat} {C' : St} (X : CCx p s m args meth c cc nL ret RX2 Z) (hM : cPD Z Y A C H) (hS : va_S A s.heap H locs) (hA : ∀ q, s.heap.size ≤ q → A q) (hE : cE Z A s s.heap) (h8 : q < 2) (h : cfT_nx q C = some C') (hR : 8 ≤ R.frames ∧ 227 ≤ R.locals) (hc : cells + 2 ≤ R.cells ∧ slots + 15 ≤ R.slots) (hs : ls.size = nL) (hw : (rest.map fun v => v.category).sum ≤ 8) (hdg : decode cc pc = .ok (.invokevirtual 53, 3))
    (kk : ∀ (Y : CY) (H1 : Heap) (locs1 : List Loc), cPD Z Y A C' H1 → va_S A s.heap H1 locs1 → W p l e R s m args below meth c H1 locs1 (cells + 2) (slots + 15) Q (F0 m (pc + 3) ls rest)) : W p l e R s m args below meth c H locs cells slots Q (F0 m pc ls (.ref (cSa Z (40 + q)) :: rest)) :=
  w_run hM hS hA (va_runU (As := []) (rest := rest) X.1.fix (cfT_nx_met l Z Y C H.size q C' h) (cw_priv (own := RX2) 0 X.1.2.2.2.2.2.2 q404 q401 q1494 q403 q81 (sel_next X.1.2.2.2.2.2.2 hE h8) rfl rfl (by decide +kernel) hR) ⟨cSx.blind, recvX X hM h8, fun U hU hW => ⟨rfl, st_sx X hM hS hA hE hU hW⟩⟩ rfl rfl hs rfl (lv_room hw) hdg hc) kk
theorem w_nxx {q : Nat} {r : Int32 × St} (X : CCx p s m args meth c cc nL ret RX2 Z) (hM : cPD Z Y A C H) (hS : va_S A s.heap H locs) (hA : ∀ q, s.heap.size ≤ q → A q) (hE : cE Z A s s.heap) (h8 : q < 2) (h : cfT_nxx q C = some r) (hR : 9 ≤ R.frames ∧ 227 ≤ R.locals) (hc : cells + 2 ≤ R.cells ∧ slots + 12 ≤ R.slots) (hs : ls.size = nL) (hw : (rest.map fun v => v.category).sum ≤ 8) (hdg : decode cc pc = .ok (.invokevirtual 53, 3))
    (kk : ∀ (z : Nat) (Y : CY) (H1 : Heap) (locs1 : List Loc), cPD Z Y A r.2 H1 → va_S A s.heap H1 locs1 → tnO Z Y r.2 z r.1 H1 → WT p l e R s m args below meth c H1 locs1 (cells + 2) (slots + 12) Q z (F0 m pc ls rest)) : W p l e R s m args below meth c H locs cells slots Q (F0 m pc ls (.ref (cSa Z (40 + q)) :: rest)) :=
  x_txC (As := []) (rest := rest) X hM hS hA (recvX X hM h8) (cfT_nx_metx l Z Y C H.size q r h) cSx.blind (fun U hU hW => st_sx X hM hS hA hE hU hW) (cw_priv (own := RX2) 0 X.1.2.2.2.2.2.2 q404 q401 q1494 q403 q81 (sel_next X.1.2.2.2.2.2.2 hE h8) rfl rfl (by decide +kernel) hR) hc rfl hs rfl hw hdg kk
theorem tnO.out {z : Nat} {pl : Int32} (hT : tnO Z Y C z pl H) : z < H.size ∧ ¬ va_A (cWs Z Y C) H.size z := by
  have hlt : z < H.size := (hT.1 0 _ rfl).lt
  refine ⟨hlt, ?_⟩
  rintro (⟨k, e, hk⟩ | hk)
  · obtain ⟨j, hj, e⟩ := cWs_mem hk
    exact hT.2 j hj e
  · exact absurd hlt (Nat.not_lt.mpr hk)
end RD
section RL
variable {p : Program} {l : Launch} {e : Env} {R : Room} {s : State} {m : MethodId} {args : Array Value} {below : List Frame} {meth : Method} {c : Code} {FC FS : Nat} {Qc : Array Value → State → Outcome → State → Prop} {Z : CZ} {A : Nat → Prop} {q : Nat} {r : Int32 × St}
/-- what the walk of reads stands on -/
def rdX (p : Program) (s : State) (m : MethodId) (args : Array Value) (meth : Method) (c : Code) (R : Room) (FC FS : Nat) (Z : CZ) (A : Nat → Prop) (q : Nat) : Prop := CCx p s m args meth c cX2_reads 2 (some .int) RX2 Z ∧ (∀ q, s.heap.size ≤ q → A q) ∧ cE Z A s s.heap ∧ q < 2 ∧ (9 ≤ R.frames ∧ 230 ≤ R.locals ∧ FC ≤ R.cells ∧ FS ≤ R.slots) ∧ ∃ x, c.exceptionTable.toList = [x] ∧ x.startPc = 9 ∧ x.endPc = 53 ∧ x.handlerPc = 54 ∧ x.catchType = 26
theorem rd_hand (hG : rdX p s m args meth c R FC FS Z A q) (hQ : ∀ (Y : CY) (H : Heap) (locs : List Loc) (t : State), cPD Z Y A r.2 H → va_S A s.heap H locs → t.heap = H → s.WarmedH t.vm → Qc args s (.returned (some (.int r.1))) t)
    {Y : CY} {C : St} {H : Heap} {locs : List Loc} {ls : Array Slot} {rest : List Value} {pc z cells slots : Nat} {pl : Int32} (h9 : 9 ≤ pc) (h53 : pc < 53) (hc1 : cells ≤ FC) (hc2 : slots ≤ FS) (hM : cPD Z Y A C H) (hS : va_S A s.heap H locs) (hT : tnO Z Y C z pl H) (hl : lv_has ls 2 [(0, .ref (cSa Z (40 + q)))]) (h : cfT_fin q pl C = some r) :
    WT p l e R s m args below meth c H locs cells slots (MQ below Qc args s FC FS A) z (F0 m pc ls rest) := by
  obtain ⟨X, hA, hE, h8, hR, x, hx1, hx2, hx3, hx4, hx5⟩ := hG
  obtain ⟨⟨hx, hb, hr, hlocks, hml, hown, hts⟩, hK⟩ := id X
  obtain ⟨cell, g1, g2, g3⟩ := va_recv (ci := 6) (q0 := 0) X.2.1 hT.1 rfl rfl
  obtain ⟨c0, t0, f1, f2, f3⟩ := Cond.castable_spec (va_Nw.use (A := args) rfl (hE.nw 3 rfl))
  cases f1.symm.trans g3
  refine WT.hand1 (x := x) (name := "SecondChances$Torn") (cT := t0) rfl hown hx1 (cov_of hx2 hx3 h9 h53) (by rw [hx5]; decide) (by rw [hx5]; exact hts _ q387) f2 g1 g2 f3 ?_
  refine W.eq (g2 := F0 m 54 ls [.ref z]) (by rw [hx4]) ?_
  refine W.widen (k := FC) (n := FS) hc1 hc2 ?_
  unfold cfT_fin at h
  obtain ⟨C2, q_C2, h⟩ := bd_e h
  have h := so_ h
  subst h
  refine lv_astore_n (lv' := [(1, .ref z), (0, .ref (cSa Z (40 + q)))]) hx hb dX2_reads_54 rfl hl (by decide) rfl (fun ls hl => ?_)
  refine lv_aload_n hx hb dX2_reads_55 rfl (lv_at hl 1 rfl) ?_
  refine w_cl X hM hS hA hE h8 q_C2 ⟨Nat.le_trans (Nat.le_of_ble_eq_true rfl) hR.1, Nat.le_trans (Nat.le_of_ble_eq_true rfl) hR.2.1⟩ ⟨hR.2.2.1, hR.2.2.2⟩ hl.1 (Nat.le_of_ble_eq_true rfl) dX2_reads_56 (fun Y' H1 locs1 hM1 hS1 hk => ?_)
  refine lv_aload_n hx hb dX2_reads_59 rfl (lv_at hl 0 rfl) ?_
  have hP1 : tnX Z z pl H1 := va_P.kept hT.1 (fun k y hy => by
    match k, hy with
    | 0, hy => cases hy; exact hk z hT.out.1 hT.out.2
    | k + 1, hy => simp at hy)
  refine va_getN (host := "SecondChances") hx hb hts in_X7 hown hK.1 hP1 0 rfl rfl 6 (by decide) (va_Nw.use rfl (hK.2 _ (List.mem_of_getElem? (i := 15) rfl))) (fun _ h => h) rfl dX2_reads_60 ?_
  exact W.iret hx hb hr (fun t ht hW => hQ Y' H1 locs1 t hM1 hS1 ht hW) hS1.2.2 dX2_reads_63
/-- next is called: it returns, or it throws -/
theorem rd_nxo (hG : rdX p s m args meth c R FC FS Z A q) (hQ : ∀ (Y : CY) (H : Heap) (locs : List Loc) (t : State), cPD Z Y A r.2 H → va_S A s.heap H locs → t.heap = H → s.WarmedH t.vm → Qc args s (.returned (some (.int r.1))) t)
    {Y : CY} {C : St} {H : Heap} {locs : List Loc} {ls : Array Slot} {pc cells slots : Nat} {k : St → Option (Int32 × St)} (h9 : 9 ≤ pc) (h53 : pc < 53) (hc1 : cells + 2 ≤ FC) (hc2 : slots + 15 ≤ FS) (hM : cPD Z Y A C H) (hS : va_S A s.heap H locs) (hl : lv_has ls 2 [(0, .ref (cSa Z (40 + q)))]) (hdg : decode cX2_reads pc = .ok (.invokevirtual 53, 3)) (h : cfT_nxo q C k = some r)
    (kk : ∀ (Y : CY) (C : St) (H : Heap) (locs : List Loc), cPD Z Y A C H → va_S A s.heap H locs → k C = some r → W p l e R s m args below meth c H locs (cells + 2) (slots + 15) (MQ below Qc args s FC FS A) (F0 m (pc + 3) ls [])) : W p l e R s m args below meth c H locs cells slots (MQ below Qc args s FC FS A) (F0 m pc ls [.ref (cSa Z (40 + q))]) := by
  obtain ⟨X, hA, hE, h8, hR, htab⟩ := id hG
  unfold cfT_nxo at h
  rcases orE_e h with h | ⟨-, h⟩
  · obtain ⟨pl, C1, q_C1, h⟩ := bd2_e h
    exact w_nxx X hM hS hA hE h8 q_C1 ⟨hR.1, Nat.le_trans (Nat.le_of_ble_eq_true rfl) hR.2.1⟩ ⟨Nat.le_trans hc1 hR.2.2.1, by omega⟩ hl.1 (Nat.le_of_ble_eq_true rfl) hdg (fun z Y1 H1 locs1 hM hS hT => rd_hand hG hQ h9 h53 hc1 (by omega) hM hS hT hl h)
  · obtain ⟨C1, q_C1, h⟩ := bd_e h
    exact w_nx X hM hS hA hE h8 q_C1 ⟨Nat.le_trans (Nat.le_of_ble_eq_true rfl) hR.1, Nat.le_trans (Nat.le_of_ble_eq_true rfl) hR.2.1⟩ ⟨Nat.le_trans hc1 hR.2.2.1, Nat.le_trans hc2 hR.2.2.2⟩ hl.1 (Nat.le_of_ble_eq_true rfl) hdg (fun Y H1 locs1 hM hS => kk Y C1 H1 locs1 hM hS h)
theorem rd_loop (hG : rdX p s m args meth c R FC FS Z A q) (hQ : ∀ (Y : CY) (H : Heap) (locs : List Loc) (t : State), cPD Z Y A r.2 H → va_S A s.heap H locs → t.heap = H → s.WarmedH t.vm → Qc args s (.returned (some (.int r.1))) t) :
    ∀ (n : Nat) (Y : CY) (C : St) (H : Heap) (locs : List Loc) (ls : Array Slot) (cells slots : Nat), cells + 2 * n + 2 ≤ FC → slots + 15 * n + 15 ≤ FS → cPD Z Y A C H → va_S A s.heap H locs → lv_has ls 2 [(0, .ref (cSa Z (40 + q)))] → cfT_rl q n C = some r → W p l e R s m args below meth c H locs cells slots (MQ below Qc args s FC FS A) (F0 m 20 ls []) := by
  intro n
  induction n with
  | zero => intro Y C H locs ls cells slots _ _ hM hS hl h; exact no_ h
  | succ n ih =>
    intro Y C H locs ls cells slots hc1 hc2 hM hS hl h
    obtain ⟨X, hA, hE, h8, hR, htab⟩ := id hG
    obtain ⟨⟨hx, hb, hr, hlocks, hml, hown, hts⟩, hK⟩ := id X
    unfold cfT_rl at h
    refine lv_aload_n hx hb dX2_reads_20 rfl (lv_at hl 0 rfl) ?_
    refine gt2 X hM h8 dX2_reads_21 ?_
    refine lv_aload_n hx hb dX2_reads_24 rfl (lv_at hl 0 rfl) ?_
    refine gt1 X hM h8 dX2_reads_25 ?_
    refine lv_icmp_ge (tgt := 52) hx hb dX2_reads_28 (by decide) (fun c1 => ?_) (fun c1 => ?_)
    · have h := so_ (ip_ c1 h)
      subst h
      refine W.widen (k := FC) (n := FS) (by omega) (by omega) ?_
      refine lv_iconst (v := -1) hx hb dX2_reads_52 (by decide) ?_
      exact W.iret hx hb hr (fun t ht hW => hQ Y H locs t hM hS ht hW) hS.2.2 dX2_reads_53
    · have h := in_ c1 h
      obtain ⟨v, C1, q_C1, h⟩ := bd2_e h
      refine lv_aload_n hx hb dX2_reads_31 rfl (lv_at hl 0 rfl) ?_
      refine lv_bipush (v := 59) hx hb dX2_reads_32 (by decide) ?_
      refine w_wrXI (n := 1) (As := [.int 59]) (rest := []) (owner := RX2) (x := ⟨RX2, "passes", "(I)Z"⟩) X hM hS hA h8 (cfT_passes_met _ Z _ C _ q 59 (v, C1) q_C1) (lw_U q621 q1496 q1497 q511 q81 q512) (lw_U q621 q1496 q1498 q511 q81 q512) rfl (by decide +kernel) ⟨rfl, rfl⟩ ⟨Nat.le_trans (Nat.le_of_ble_eq_true rfl) hR.1, Nat.le_trans (Nat.le_of_ble_eq_true rfl) hR.2.1⟩ ⟨by omega, by omega⟩ rfl hl.1 rfl (Nat.le_of_ble_eq_true rfl) dX2_reads_34 (fun Y H locs hM hS => ?_)
      refine lv_if_ne (tgt := 45) hx hb dX2_reads_37 (by decide) (fun c2 => ?_) (fun c2 => ?_)
      · have h := in_ c2 h
        refine lv_aload_n hx hb dX2_reads_45 rfl (lv_at hl 0 rfl) ?_
        refine rd_nxo hG hQ (by decide) (by decide) (by omega) (by omega) hM hS hl dX2_reads_46 h (fun Y C H locs hM hS h => ?_)
        refine lv_goto (tgt := 20) hx hb dX2_reads_49 (by decide) ?_
        exact ih Y C H locs ls _ _ (by omega) (by omega) hM hS hl h
      · have h := ip_ c2 h
        refine lv_aload_n hx hb dX2_reads_40 rfl (lv_at hl 0 rfl) ?_
        refine x_tornQ X hM hS hA hE h8 ⟨Nat.le_trans (Nat.le_of_ble_eq_true rfl) hR.1, Nat.le_trans (Nat.le_of_ble_eq_true rfl) hR.2.1⟩ ⟨by omega, by omega⟩ hl.1 (Nat.le_of_ble_eq_true rfl) dX2_reads_41 (fun z H1 locs1 hM hS hT => ?_)
        exact W.thr hx hb dX2_reads_44 (rd_hand hG hQ (by decide) (by decide) (by omega) (by omega) hM hS hT hl h)
end RL
set_option maxHeartbeats 4000000 in
theorem cfT_reads_met (l : Launch) (Z : CZ) (Y : CY) (C : St) (sz q : Nat) (r : Int32 × St) (h : cfT_reads q C = some r) : Met l yX2_reads (wsW_ yX2_reads cX2_reads 2 (some .int) [(9, 53, 54, 26)]) cfT_reads_rm (va_Pc [.ref (cSa Z (40 + q))] (cSx Z Y C sz)) (Qcw (some (.int r.1)) Z (va_A (cWs Z Y C) sz) r.2) 95 712 (va_A (cWs Z Y C) sz) := by
  refine va_MetW (cc := cX2_reads) (maxL := 2) (ret := some .int) (by decide) rfl ?_
  intro p e s m args below meth c s₁ B hml hv
  obtain ⟨rfl, ⟨hsz, hv⟩, hE⟩ := hv
  subst hsz
  have hts0 := atoms_spec (ws := wsW_ yX2_reads cX2_reads 2 (some .int) [(9, 53, 54, 26)]) B.pre
  have htab := tab_1 (tab_of B (hts0 _ List.mem_cons_self))
  have hts : ∀ w ∈ lw_all, w.before _ s = true := fun w h => hts0 w (List.mem_cons_of_mem _ h)
  have X : CCx p s m _ meth c cX2_reads 2 (some .int) RX2 Z := ⟨⟨B.exec, B.bytes, B.returns, B.notSynchronized, hml, findClass_of_methodNamed B.named, hts⟩, hv.2⟩
  have hl := lv_entry [.ref (cSa Z (40 + q))] (n := 2) (Nat.le_of_ble_eq_true rfl)
  rw [lg_entry_eq]
  generalize (lg_sl [.ref (cSa Z (40 + q))] ++ List.replicate (2 - (lg_sl [.ref (cSa Z (40 + q))]).length) Slot.unset).toArray = ls at hl ⊢
  have hl : lv_has ls 2 [(0, .ref (cSa Z (40 + q)))] := hl
  obtain ⟨⟨hx, hb, hr, hlocks, hml, hown, -⟩, hK⟩ := id X
  have hM : cPD Z Y (va_A (cWs Z Y C) s.heap.size) C s.heap := cPD.self hv.1
  have hS : va_S (va_A (cWs Z Y C) s.heap.size) s.heap s.heap [] := va_S.rf
  have hA : ∀ q, s.heap.size ≤ q → va_A (cWs Z Y C) s.heap.size q := fun q h => Or.inr h
  unfold cfT_reads at h
  obtain ⟨h8, h⟩ := gd_e h
  have hG : rdX p s m ([.ref (cSa Z (40 + q))] : List Value).toArray meth c (headSpec (wsW_ yX2_reads cX2_reads 2 (some .int) [(9, 53, 54, 26)]) cfT_reads_rm).room 95 712 Z (va_A (cWs Z Y C) s.heap.size) q := ⟨X, hA, hE, h8, ⟨Nat.le_of_ble_eq_true rfl, Nat.le_of_ble_eq_true rfl, Nat.le_of_ble_eq_true rfl, Nat.le_of_ble_eq_true rfl⟩, htab⟩
  have hQ : ∀ (Y1 : CY) (H1 : Heap) (locs1 : List Loc) (t : State), cPD Z Y1 (va_A (cWs Z Y C) s.heap.size) r.2 H1 → va_S (va_A (cWs Z Y C) s.heap.size) s.heap H1 locs1 → t.heap = H1 → s.WarmedH t.vm → Qcw (some (.int r.1)) Z (va_A (cWs Z Y C) s.heap.size) r.2 ([.ref (cSa Z (40 + q))] : List Value).toArray s (.returned (some (.int r.1))) t := fun Y1 H1 locs1 t hM hS ht hW => ⟨rfl, ⟨Y1, by rw [ht]; exact hM, cKs.warm hW X.2⟩, hS.F ht⟩
  refine lv_aload_n hx hb dX2_reads_0 rfl (lv_at hl 0 rfl) ?_
  refine lv_iconst (v := 0) hx hb dX2_reads_1 (by decide) ?_
  refine pt2 X hM hS h8 dX2_reads_2 (fun H locs C0 e_C0 hM hS => ?_)
  have h := lt_i h e_C0
  obtain ⟨C1, q_C1, h⟩ := bd_e h
  refine lv_aload_n hx hb dX2_reads_5 rfl (lv_at hl 0 rfl) ?_
  refine w_cl X hM hS hA hE h8 q_C1 ⟨Nat.le_of_ble_eq_true rfl, Nat.le_of_ble_eq_true rfl⟩ ⟨Nat.zero_le _, Nat.zero_le _⟩ hl.1 (Nat.le_of_ble_eq_true rfl) dX2_reads_6 (fun Y1 H locs hM hS _ => ?_)
  refine lv_aload_n hx hb dX2_reads_9 rfl (lv_at hl 0 rfl) ?_
  refine gt1 X hM h8 dX2_reads_10 ?_
  refine lv_if_le (tgt := 20) hx hb dX2_reads_13 (by decide) (fun c1 => ?_) (fun c1 => ?_)
  · have h := ip_ c1 h
    exact rd_loop hG hQ RFU Y1 C1 H locs ls _ _ (Nat.le_of_ble_eq_true rfl) (Nat.le_of_ble_eq_true rfl) hM hS hl h
  · have h := in_ c1 h
    refine lv_aload_n hx hb dX2_reads_16 rfl (lv_at hl 0 rfl) ?_
    refine rd_nxo hG hQ (by decide) (by decide) (Nat.le_of_ble_eq_true rfl) (Nat.le_of_ble_eq_true rfl) hM hS hl dX2_reads_17 h (fun Y C H locs hM hS h => ?_)
    exact rd_loop hG hQ RFU Y C H locs ls _ _ (Nat.le_of_ble_eq_true rfl) (Nat.le_of_ble_eq_true rfl) hM hS hl h
