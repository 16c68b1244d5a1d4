/-! calls that come back throwing an exception of the machine's, and their handlers -/
set_option maxRecDepth 100000
section HC
variable {p : Program} {l : Launch} {e : Env} {R : Room} {s : State} {m : MethodId} {args : Array Value} {below : List Frame} {meth : Method} {c : Code} {H : Heap} {locs : List Loc} {cells slots : Nat} {Q : State → Prop}
variable {pc : Nat} {ls : Array Slot} {rest st0 As : List Value} {cc bytes : ByteArray} {nL maxL index n mc ms : Nat} {ret ret' : Option FieldType} {own Cn Xn : String} {y : MethodName} {rm : Room} {Qc : Array Value → State → Outcome → State → Prop} {Pc : Array Value → State → Prop} {free : Addr → Prop} {Z : CZ} {Y : CY} {A : Nat → Prop} {C : St}
theorem x_callTV {ws : List Cond} {Ts : List Cond} {b : Addr} (S : CallFix p m c cc nL s args Ts own) (hM : MetX l y ws rm Pc Qc mc ms free) (hthr : ∀ a st o t, Qc a st o t → ∃ x, o = .threw x) (cw : CallW R s args own Cn index y bytes maxL ret ws rm mc ms n) (hp : PreV s H Cn b Pc As)
    (hn : As.length = n) (hsize : ls.size = nL) (hstack : st0 = As.reverse ++ .ref b :: rest) (hw : (rest.map fun v => v.category).sum ≤ 8) (hdg : decode cc pc = .ok (.invokevirtual index, 3)) (hf : cells + mc ≤ R.cells ∧ slots + ms ≤ R.slots)
    (kk : ∀ (z : Addr) (st₀ t : State) (H1 : Heap) (L : List Loc), st₀.heap = H → t.heap = H1 → st₀.vm.Alike s.vm → s.vm.Alike t.vm → (∀ q ∈ L, free q.base) → Qc (Value.ref b :: As).toArray st₀ (.threw z) t → WT p l e R s m args below meth c H1 (locs ++ L) (cells + mc) (slots + ms) Q z (F0 m pc ls rest)) :
    W p l e R s m args below meth c H locs cells slots Q (F0 m pc ls st0) := by
  subst hstack
  obtain ⟨⟨hrc, hrs, hfr, hlo, hws, hcw, hcode, hini, hy, hlen, hlink⟩, hinst, hsel⟩ := cw
  have hK : BkT l R p e below s args y 3 8 (PreOf R mc ms Pc) (PostT Qc mc ms free) := bkT_of (bytes := bytes) (maxL := maxL) (ret := ret) hM hthr hp.1 hrc hrs hfr hlo hws hcw (fun a' U hW => word_at hW (Or.inl (by first | rfl | simp [Cond.onTables, Cond.keeps, Cond.steady])) hini)
  obtain ⟨hx, hb, hml, ho, -⟩ := S
  obtain ⟨-, ⟨cellB, hcB, hoB, hclB⟩, hPc⟩ := hp
  intro T hT X
  obtain ⟨mk, methM, hnamed, hmethM, hstM, habM⟩ := Cond.instanceMethod_spec hinst
  obtain ⟨methM', cM, hmethM', -, -, -, -, -, -, hsigM⟩ := Cond.code_spec hnamed hcode
  cases hmethM.symm.trans hmethM'
  obtain ⟨c2, r2, m2, q1, q2, q3, q4, kP, hkP, hkPi⟩ := Cond.selects_spec hsel
  cases hclB.symm.trans q1
  cases (State.methodFound?_of_named hnamed hy).symm.trans q2
  cases hnamed.symm.trans q3
  have hselP : selectMethod e.platform s.vm cellB.cls mk = .method mk := by rw [Launch.admits_selectMethod X.admits]; exact q4
  obtain ⟨vm₁, X₁, hstep₁⟩ := X.invokevirtual hx ho hlink hnamed hmethM hstM hkP hkPi hy (a := b) (cell := cellB) (by rw [hT]; exact hcB)
    (fun z h => by rw [h] at hoB; cases hoB) hselP hmethM habM hkP hkPi (g := F0 m pc ls (As.reverse ++ .ref b :: rest)) rfl (argsL := As) (rest := rest) (hn.trans (hlen _ hsigM)) rfl (by rw [hb]; exact hdg)
  obtain ⟨z, ⟨U', l2, c2', s2⟩, X', ⟨g', mk', t, L, e1, e2, hq, h1, hL, h2, h3⟩, hsteps⟩ := hK m meth c ⟨T.setVm vm₁, locs, cells, slots⟩ (F0 m pc ls rest) (.invokevirtual index) mk (Value.ref b :: As).toArray X₁ rfl (hsize.trans hml.symm) (by rw [hb]; exact hdg) (lv_room hw) (X₁.named hnamed) ⟨hf.1, hf.2, hPc (T.setVm vm₁) hT X₁.warmed⟩
  dsimp only [Pt.U, Pt.locs, Pt.cells, Pt.slots] at X' e1 e2 h1 h2 h3 hsteps
  subst h1; subst h2; subst h3
  obtain ⟨t2, a1, b1⟩ := kk z ((T.setVm vm₁).calling g' mk' (Value.ref b :: As).toArray) t U'.heap L hT e1.symm X₁.warmed.alike.symm (by rw [← e2]; exact X'.warmed.alike) hL hq U' rfl X'
  exact ⟨t2, hstep₁ _ fun acts => by rw [doInvoke_state]; exact hsteps.trans a1, b1⟩
theorem x_callTS {ws : List Cond} {Ts : List Cond} (S : CallFix p m c cc nL s args Ts own) (hM : MetX l y ws rm Pc Qc mc ms free) (hthr : ∀ a st o t, Qc a st o t → ∃ x, o = .threw x) (cw : CallB R s args own index y bytes maxL ret ws rm mc ms n ∧ (Cond.static y).before args s = true) (hp : PreS s H Pc As)
    (hn : As.length = n) (hsize : ls.size = nL) (hstack : st0 = As.reverse ++ rest) (hw : (rest.map fun v => v.category).sum ≤ 8) (hdg : decode cc pc = .ok (.invokestatic index, 3)) (hf : cells + mc ≤ R.cells ∧ slots + ms ≤ R.slots)
    (kk : ∀ (z : Addr) (st₀ t : State) (H1 : Heap) (L : List Loc), st₀.heap = H → t.heap = H1 → st₀.vm.Alike s.vm → s.vm.Alike t.vm → (∀ q ∈ L, free q.base) → Qc As.toArray st₀ (.threw z) t → WT p l e R s m args below meth c H1 (locs ++ L) (cells + mc) (slots + ms) Q z (F0 m pc ls rest)) :
    W p l e R s m args below meth c H locs cells slots Q (F0 m pc ls st0) := by
  subst hstack
  obtain ⟨⟨hrc, hrs, hfr, hlo, hws, hcw, hcode, hini, hy, hlen, hlink⟩, hstat⟩ := cw
  have hK : BkT l R p e below s args y 3 8 (PreOf R mc ms Pc) (PostT Qc mc ms free) := bkT_of (bytes := bytes) (maxL := maxL) (ret := ret) hM hthr hp.1 hrc hrs hfr hlo hws hcw (fun a' U hW => word_at hW (Or.inl (by first | rfl | simp [Cond.onTables, Cond.keeps, Cond.steady])) hini)
  obtain ⟨hx, hb, hml, ho, -⟩ := S
  have hPc := hp.2
  intro T hT X
  obtain ⟨mk, hnamed⟩ := Cond.code_named hcode
  obtain ⟨methM, cM, hmethM, -, -, -, -, -, -, hsigM⟩ := Cond.code_spec hnamed hcode
  have hstatic : methM.isStatic = true := Cond.static_spec hnamed hmethM hstat
  obtain ⟨kP, hkP, -⟩ := className_of_methodNamed hnamed
  have hinitP : kP.init = .initialized := Cond.initialized_spec (findClass_of_methodNamed hnamed) hkP hini
  obtain ⟨vm₁, X₁, hstep₁⟩ := X.invokestatic hx ho hlink hnamed hmethM hstatic hkP hinitP hy (g := F0 m pc ls (As.reverse ++ rest)) rfl (argsL := As) (rest := rest) (hn.trans (hlen _ hsigM)) rfl (by rw [hb]; exact hdg)
  obtain ⟨z, ⟨U', l2, c2', s2⟩, X', ⟨g', mk', t, L, e1, e2, hq, h1, hL, h2, h3⟩, hsteps⟩ := hK m meth c ⟨T.setVm vm₁, locs, cells, slots⟩ (F0 m pc ls rest) (.invokestatic index) mk As.toArray X₁ rfl (hsize.trans hml.symm) (by rw [hb]; exact hdg) (lv_room hw) (X₁.named hnamed) ⟨hf.1, hf.2, hPc (T.setVm vm₁) hT X₁.warmed⟩
  dsimp only [Pt.U, Pt.locs, Pt.cells, Pt.slots] at X' e1 e2 h1 h2 h3 hsteps
  subst h1; subst h2; subst h3
  obtain ⟨t2, a1, b1⟩ := kk z ((T.setVm vm₁).calling g' mk' As.toArray) t U'.heap L hT e1.symm X₁.warmed.alike.symm (by rw [← e2]; exact X'.warmed.alike) hL hq U' rfl X'
  exact ⟨t2, hstep₁ _ fun acts => by rw [doInvoke_state]; exact hsteps.trans a1, b1⟩
/-- old cells stand: the world stands -/
theorem mx_world (hM : cPD Z Y A C H) (hS : va_S A s.heap H locs) {H1 : Heap} {L : List Loc} (hk : ∀ (q : Nat) (c : Cell), H[q]? = some c → H1[q]? = some c) (hL : ∀ q ∈ L, False) : cPD Z Y A C H1 ∧ va_S A s.heap H1 (locs ++ L) := by
  have hk' : ∀ q : Nat, q < H.size → H1[q]? = H[q]? := fun q hq => by
    have e : H[q]? = some H[q] := Array.getElem?_eq_getElem hq
    rw [hk q _ e, e]
  have hsz : H.size ≤ H1.size := by
    by_cases z : H.size = 0
    · omega
    · have hq : H.size - 1 < H.size := by omega
      have e := hk _ _ (Array.getElem?_eq_getElem hq)
      have := (Array.getElem?_eq_some_iff.mp e).1
      omega
  refine ⟨⟨hM.1.kept (fun k x hx => hk' _ ((hM.1 k x hx).lt)), hM.2⟩, Nat.le_trans hS.1 hsz, fun q hq hn => by rw [hk' q (Nat.lt_of_lt_of_le hq hS.1)]; exact hS.2.1 q hq hn, fun q hq => ?_⟩
  rcases List.mem_append.mp hq with h | h
  · exact hS.2.2 q h
  · exact absurd h (fun h => hL q h)
theorem hx_call {q : Nat} (X : CCx p s m args meth c cc nL ret own Z) (hM : cPD Z Y A C H) (hS : va_S A s.heap H locs) (hA : ∀ q, s.heap.size ≤ q → A q) (hE : cE Z A s s.heap) (h8 : q < 4) (hT : MetX l y (ws_ y bytes maxL ret') shxR (va_Pc (.ref (cSa Z (90 + q)) :: As) (cSx Z Y C H.size)) (Qmx Xn) 3 222 (fun _ => False)) (hq : GoodIn lw_all (wsV own index RX5 y (ws_ y bytes maxL ret')))
    (hd : y.cls = RX5 ∧ y.cls ≠ "java/lang/invoke/MethodHandle" ∧ y.cls ≠ "java/lang/invoke/VarHandle" ∧ (parseMethodDescriptor y.desc).map (fun d => d.parameters.length) = some n)
    (hR : 9 ≤ R.frames ∧ 8 + (maxL + 11) + 10300 ≤ R.locals) (hc : cells + 3 ≤ R.cells ∧ slots + 222 ≤ R.slots) (hn : As.length = n) (hs : ls.size = nL) (hst : st0 = As.reverse ++ .ref (cSa Z (90 + q)) :: rest) (hw : (rest.map fun v => v.category).sum ≤ 8) (hdg : decode cc pc = .ok (.invokevirtual index, 3))
    (kk : ∀ (z : Addr) (cell : Cell) (H1 : Heap) (locs1 : List Loc), cPD Z Y A C H1 → va_S A s.heap H1 locs1 → H1[z]? = some cell → cell.vm.isStatics = false → s.vm.findClass Xn = some cell.cls → WT p l e R s m args below meth c H1 locs1 (cells + 3) (slots + 222) Q z (F0 m pc ls rest)) : W p l e R s m args below meth c H locs cells slots Q (F0 m pc ls st0) := by
  refine x_callTV (As := As) (rest := rest) X.1.fix hT Qmx.thr (cwV n X.1.2.2.2.2.2.2 hq rfl rfl rfl hd hR) ⟨cSx.blind, c_recvH (q := q) X hM h8, fun U hU hW => ⟨rfl, st_sx X hM hS hA hE hU hW⟩⟩ hn hs hst hw hdg hc (fun z st₀ t H1 L e1 e2 v1 v2 hL hQ => ?_)
  obtain ⟨x, cell, g0, g1, g2, g3, g4⟩ := hQ
  cases g0
  rw [e1, e2] at g4
  obtain ⟨w1, w2⟩ := mx_world hM hS g4 (L := L) hL
  exact kk z cell H1 _ w1 w2 (by rw [← e2]; exact g1) g3 (by rw [← v1.findClass] at g2; exact g2)
theorem hx_callS (X : CCx p s m args meth c cc nL ret own Z) (hM : cPD Z Y A C H) (hS : va_S A s.heap H locs) (hA : ∀ q, s.heap.size ≤ q → A q) (hE : cE Z A s s.heap) (hT : MetX l y (ws_ y bytes maxL ret') shxR (va_Pc As (cSx Z Y C H.size)) (Qmx Xn) 3 222 (fun _ => False)) (cw : CallB R s args own index y bytes maxL ret' (ws_ y bytes maxL ret') shxR 3 222 n ∧ (Cond.static y).before args s = true)
    (hc : cells + 3 ≤ R.cells ∧ slots + 222 ≤ R.slots) (hn : As.length = n) (hs : ls.size = nL) (hst : st0 = As.reverse ++ rest) (hw : (rest.map fun v => v.category).sum ≤ 8) (hdg : decode cc pc = .ok (.invokestatic index, 3))
    (kk : ∀ (z : Addr) (cell : Cell) (H1 : Heap) (locs1 : List Loc), cPD Z Y A C H1 → va_S A s.heap H1 locs1 → H1[z]? = some cell → cell.vm.isStatics = false → s.vm.findClass Xn = some cell.cls → WT p l e R s m args below meth c H1 locs1 (cells + 3) (slots + 222) Q z (F0 m pc ls rest)) : W p l e R s m args below meth c H locs cells slots Q (F0 m pc ls st0) := by
  refine x_callTS (As := As) (rest := rest) X.1.fix hT Qmx.thr cw ⟨cSx.blind, fun U hU hW => ⟨rfl, st_sx X hM hS hA hE hU hW⟩⟩ hn hs hst hw hdg hc (fun z st₀ t H1 L e1 e2 v1 v2 hL hQ => ?_)
  obtain ⟨x, cell, g0, g1, g2, g3, g4⟩ := hQ
  cases g0
  rw [e1, e2] at g4
  obtain ⟨w1, w2⟩ := mx_world hM hS g4 (L := L) hL
  exact kk z cell H1 _ w1 w2 (by rw [← e2]; exact g1) g3 (by rw [← v1.findClass] at g2; exact g2)
/-- the first row takes it -/
theorem hx_first {z : Addr} {cell : Cell} {Yn : String} {a b d t : Nat} {H1 : Heap} (hown : s.vm.findClass own = some m.cls) (htab : ∃ x r, c.exceptionTable.toList = x :: r ∧ x.startPc = a ∧ x.endPc = b ∧ x.handlerPc = d ∧ x.catchType = t) (h1 : a ≤ pc) (h2 : pc < b) (h3 : t ≠ 0) (hlk : (Cond.classLink own t Yn).before args s = true) (hca : va_Nw (.castable Xn Yn) s) (hcell : H1[z]? = some cell) (hobj : cell.vm.isStatics = false) (hf : s.vm.findClass Xn = some cell.cls)
    (kk : W p l e R s m args below meth c H1 locs cells slots Q (F0 m d ls [.ref z])) : WT p l e R s m args below meth c H1 locs cells slots Q z (F0 m pc ls rest) := by
  obtain ⟨x, r, hx1, hx2, hx3, hx4, hx5⟩ := htab
  obtain ⟨c0, t0, f1, f2, f3⟩ := Cond.castable_spec (va_Nw.use (A := args) rfl hca)
  cases f1.symm.trans hf
  exact WT.hand1 (x := x) (name := Yn) (cT := t0) rfl hown hx1 (cov_of hx2 hx3 h1 h2) (by rw [hx5]; exact h3) (by rw [hx5]; exact hlk) f2 hcell hobj f3 (W.eq (g2 := F0 m d ls [.ref z]) (by rw [hx4]) kk)
/-- the second row takes it -/
theorem hx_second {z : Addr} {cell : Cell} {Yn Y1 : String} {a b d t a1 b1 d1 t1 : Nat} {H1 : Heap} (hown : s.vm.findClass own = some m.cls) (htab : ∃ x y, c.exceptionTable.toList = [x, y] ∧ (x.startPc = a1 ∧ x.endPc = b1 ∧ x.handlerPc = d1 ∧ x.catchType = t1) ∧ (y.startPc = a ∧ y.endPc = b ∧ y.handlerPc = d ∧ y.catchType = t)) (h1 : a ≤ pc) (h2 : pc < b) (h3 : t ≠ 0) (g1 : a1 ≤ pc) (g2 : pc < b1) (g3 : t1 ≠ 0) (hlk1 : (Cond.classLink own t1 Y1).before args s = true) (hno : va_Nc Xn Y1 s) (hlk : (Cond.classLink own t Yn).before args s = true) (hca : va_Nw (.castable Xn Yn) s) (hcell : H1[z]? = some cell) (hobj : cell.vm.isStatics = false) (hf : s.vm.findClass Xn = some cell.cls)
    (kk : W p l e R s m args below meth c H1 locs cells slots Q (F0 m d ls [.ref z])) : WT p l e R s m args below meth c H1 locs cells slots Q z (F0 m pc ls rest) := by
  obtain ⟨x, y, hx1, ⟨hx2, hx3, hx4, hx5⟩, hy2, hy3, hy4, hy5⟩ := htab
  obtain ⟨c0, t0, f1, f2, f3⟩ := Cond.castable_spec (va_Nw.use (A := args) rfl hca)
  obtain ⟨c1, t1', k1, k2, k3⟩ := hno
  cases f1.symm.trans hf
  cases k1.symm.trans hf
  exact WT.hand2 (x := y) (y := x) (name := Yn) (name1 := Y1) (cT := t0) (cU := t1') rfl hown hx1 (cov_of hx2 hx3 g1 g2) (cov_of hy2 hy3 h1 h2) (by rw [hx5]; exact g3) (by rw [hy5]; exact h3) (by rw [hx5]; exact hlk1) k2 k3 (by rw [hy5]; exact hlk) f2 hcell hobj f3 (W.eq (g2 := F0 m d ls [.ref z]) (by rw [hy4]) kk)
end HC
