/-! ArrayIndexOutOfBoundsException.<init>(String), whatever lies below -/
set_option maxRecDepth 100000
theorem ax_row {p : Program} {l : Launch} {e : Env} {R : Room} {s : State} {m : MethodId} {args : Array Value} {below : List Frame} {meth : Method} {c : Code} {Q : State → Prop} {ls : Array Slot} {Z : CZ} {a str : Nat} {kX : Class}
    (hx : p.tables.exec = Jvm.exec) (hb : c.code = cJ16_init) (hml : c.maxLocals = 2) (hown : s.vm.findClass "java/lang/ArrayIndexOutOfBoundsException" = some m.cls) (hts : ∀ w ∈ lw_all, w.before args s = true) (hE : cE Z (tnA a) s s.heap) (htr : l.stackTraces = false)
    (hk : s.vm.classes[m.cls]? = some kX) (hcell : s.heap[a]? = some (freshCell m.cls kX)) (hsz : ls.size = 2) (hR : 6 ≤ R.frames ∧ 200 ≤ R.locals)
    (kk : ∀ (H1 : Heap) (locs1 : List Loc), (∃ ce, H1[a]? = some ce ∧ ce.cls = m.cls ∧ ce.vm = .none) → (∀ q : Nat, q ≠ a → H1[q]? = s.heap[q]?) → H1.size = s.heap.size → (∀ q ∈ locs1, q.base = a) → W p l e R s m args below meth c H1 locs1 0 0 Q (F0 m 5 ls [])) :
    W p l e R s m args below meth c s.heap [] 0 0 Q (F0 m 2 ls [.ref str, .ref a]) := by
  intro T' hT X
  have htr' : e.platform.stackTraces = false := by rw [X.admits.platform]; exact htr
  have howns : e.platform.frameOwnsMonitors = true := by rw [X.admits.platform]
  have hfin : e.platform.finalization = false := by rw [X.admits.platform]
  have hpl : e.platform.magicAccessors = ({} : Platform).magicAccessors := by rw [X.admits.platform]
  have h := am_A hts hE
  have a' : ∀ x, x ∈ Bundle.messageArmAtoms "java/lang/ArrayIndexOutOfBoundsException" ["java/lang/IndexOutOfBoundsException", "java/lang/RuntimeException", "java/lang/Exception"] → x.holds args s none s [] = true := fun x hx => h x hx
  obtain ⟨T, Z0, L, -, Y⟩ := ThrowableC.of_atoms (args := args) howns hfin hpl (fun x hx => h x (by simp [Bundle.messageArmAtoms, hx]))
  obtain ⟨Zi, M, LZ, LM, hnZ⟩ := Init0T.ofS_atoms (args := args) hpl L Y (fun x hx => h x (by simp [Bundle.messageArmAtoms, hx]))
  obtain ⟨P1, Ps, hlen, L1, hL, hP1m, hlink1, hlink⟩ := Bundle.chainS (args := args) hpl hnZ ["java/lang/RuntimeException", "java/lang/Exception"] "java/lang/IndexOutOfBoundsException" (by decide +kernel) (by decide +kernel) (fun x hx => am_Ac hts hE x (by show x ∈ Bundle.passSAtoms _ _ _ _ ++ Bundle.chainSAtoms _ _; exact List.mem_append_right _ hx))
  obtain ⟨c1, kX', hc1, hk', hord, -, -, hn6⟩ := Cond.instantiable_spec (a' (.instantiable "java/lang/ArrayIndexOutOfBoundsException" 6) (by simp [Bundle.messageArmAtoms]))
  cases Option.some.inj (hc1.symm.trans hown)
  cases Option.some.inj (hk'.symm.trans hk)
  have hsel0 : selectMethod e.platform s.vm m.cls T.fill0 = .method T.fill0 := by
    obtain ⟨c2, r2, m2, q1, q2, q3, q4, -⟩ := Cond.selects_spec (a' (.selects "java/lang/ArrayIndexOutOfBoundsException" Bundle.tFill0 Bundle.tFill0) (by simp [Bundle.messageArmAtoms]))
    cases Option.some.inj (q1.symm.trans hown)
    cases Option.some.inj (q2.symm.trans (State.methodFound?_of_named Y.fill0 (by decide)))
    cases Option.some.inj (q3.symm.trans Y.fill0)
    rw [Launch.admits_selectMethod X.admits]; exact q4
  have hselF : selectMethod e.platform s.vm m.cls T.fill = .method T.fill := by
    obtain ⟨c2, r2, m2, q1, q2, q3, q4, -⟩ := Cond.selects_spec (a' (.selects "java/lang/ArrayIndexOutOfBoundsException" Bundle.tFill Bundle.tFill) (by simp [Bundle.messageArmAtoms]))
    cases Option.some.inj (q1.symm.trans hown)
    cases Option.some.inj (q2.symm.trans (State.methodFound?_of_named Y.fill (by decide)))
    cases Option.some.inj (q3.symm.trans Y.fill)
    rw [Launch.admits_selectMethod X.admits]; exact q4
  obtain ⟨cellS0, hcS0, hiss⟩ := Y.statics
  obtain ⟨u0, hu0⟩ := Cond.staticRefV Y.unassigned L.unassignedStatic L.statics hcS0 hiss (a' (.isRef (.static Bundle.tN "UNASSIGNED_STACK" Bundle.steD)) (by simp [Bundle.messageArmAtoms]))
  obtain ⟨sen, hsen⟩ := Cond.staticRefV Y.sentinel L.sentinelStatic L.statics hcS0 hiss (a' (.isRef (.static Bundle.tN "SUPPRESSED_SENTINEL" Bundle.listD)) (by simp [Bundle.messageArmAtoms]))
  obtain ⟨ci198, i198, fB, hk198, hg198, ha198, hsB, -, hnB, htB, hffB⟩ := Cond.ownField (t := .object "java/lang/Object") Y.found L.cls (by decide +kernel) (a' (.fieldLink Bundle.tN 198 Bundle.tN "backtrace" "Ljava/lang/Object;") (by simp [Bundle.messageArmAtoms])) (a' (.lays Bundle.tN Bundle.tN "backtrace" "Ljava/lang/Object;") (by simp [Bundle.messageArmAtoms])) e.platform hpl
  have hcellS : T'.heap[T.aS]? = some cellS0 := by rw [hT]; exact hcS0
  have hknownS : cellS0.vm ≠ .unknown := by
    intro hu
    rw [hu] at hiss
    cases hiss
  have hneS : T.aS ≠ a := fun ee => by
    rw [ee, hcell] at hcS0
    cases hcS0
    cases hiss
  obtain ⟨iM, hffM⟩ := Y.msg
  obtain ⟨tyC, dC, hdC, hdnC⟩ := Cond.laysAt hown hk Y.cause (a' (.lays "java/lang/ArrayIndexOutOfBoundsException" Bundle.tN "cause" "Ljava/lang/Throwable;") (by simp [Bundle.messageArmAtoms]))
  obtain ⟨tyS, dS, hdS, hdnS⟩ := Cond.laysAt hown hk Y.stack (a' (.lays "java/lang/ArrayIndexOutOfBoundsException" Bundle.tN "stackTrace" Bundle.steD) (by simp [Bundle.messageArmAtoms]))
  obtain ⟨tyP, dP, hdP, hdnP⟩ := Cond.laysAt hown hk Y.supp (a' (.lays "java/lang/ArrayIndexOutOfBoundsException" Bundle.tN "suppressedExceptions" Bundle.listD) (by simp [Bundle.messageArmAtoms]))
  obtain ⟨tyM, dM, hdM, hdnM⟩ := Cond.laysAt hown hk hffM (a' (.lays "java/lang/ArrayIndexOutOfBoundsException" Bundle.tN "detailMessage" "Ljava/lang/String;") (by simp [Bundle.messageArmAtoms]))
  obtain ⟨tyB, dB, hdB, hdnB⟩ := Cond.laysAt hown hk hffB (a' (.lays "java/lang/ArrayIndexOutOfBoundsException" Bundle.tN "backtrace" "Ljava/lang/Object;") (by simp [Bundle.messageArmAtoms]))
  have bC := Cond.laysApart hdB hdC hdnB hdnC (by rw [hnB, Y.causeName]; decide)
  have bS := Cond.laysApart hdB hdS hdnB hdnS (by rw [hnB, Y.stackName]; decide)
  have bP := Cond.laysApart hdB hdP hdnB hdnP (by rw [hnB, Y.suppName]; decide)
  have hskip : SkipFacts T e.platform s (fun u => u) u0 ((preparedCellV T.toThrowableT (freshCell m.cls kX) a u0 sen).withEntry T'.cur) :=
    ⟨{ ci198 := ci198, i198 := i198, fBack := fB }, ⟨hk198, hg198, ha198, hsB⟩, by
      have := fresh_default (c := m.cls) tyB
      rw [htB] at this
      simpa [preparedCellV, Cell.setSlot, Cell.withEntry, Array.getElem?_setIfInBounds, bC, bS, bP, bC.symm, bS.symm, bP.symm, defaultValue] using this, fun _ _ => rfl⟩
  obtain ⟨tm, methC, cdC, kC, vm₁, hnC, -, -, -, -, -, -, -, hW₁, st1⟩ := Steps.initColdS (tb := p.tables) (e := e) (below := below) (s := s) (U := T') X.here hx X.warmed hpl hown (t := Bundle.initS "java/lang/IndexOutOfBoundsException") rfl rfl (by decide)
    (hts _ q992) (h (.instanceMethod (Bundle.initS "java/lang/IndexOutOfBoundsException")) (by simp [Bundle.messageArmAtoms, Bundle.chainSAtoms, Bundle.passSAtoms])) (bytes := Bundle.six) (maxL := 2) (h (.code (Bundle.initS "java/lang/IndexOutOfBoundsException") Bundle.six 2 none) (by simp [Bundle.messageArmAtoms, Bundle.chainSAtoms, Bundle.passSAtoms]))
    (f := F0 m 2 ls [.ref str, .ref a]) rfl (a := a) (msg := .ref str) (rest := []) rfl (by rw [hb]; exact dJ16_init_2)
  cases Option.some.inj (hnC.symm.trans hP1m)
  have X₁ := X.noted hW₁
  obtain ⟨vm₂, X₂, st2⟩ := X₁.ctorMessageOffV hx (g := F0 m 2 ls []) rfl (hsz.trans hml.symm) T L Zi LZ M LM (P1 :: Ps)
    (fun P hP => by rcases List.mem_cons.mp hP with rfl | hP; exact L1; exact hL P hP) ⟨hlink1, hlink⟩ (u0 := u0) (sen := sen) (self := a) (msg := .ref str) rfl (cell := freshCell m.cls kX) (cellS := cellS0)
    (by show T'.heap[a]? = _; rw [hT]; exact hcell) (fun _ => by simp) (by simp) rfl rfl hsel0 hselF hcellS hneS hknownS hu0 hsen
    (Takes.of_laid hk hord tyC (by rw [Y.causeType]; rfl)) (Takes.of_laid hk hord tyS (by rw [Y.stackType]; exact fits_refV_array _ u0)) (Takes.of_laid hk hord tyP (by rw [Y.suppType]; exact fits_refV_object _ sen))
    (Takes.of_laid hk hord tyM (by rw [Y.msgType]; rfl)) Y.objLocals hskip htr' [] (by rw [hb]; exact dJ16_init_2)
    (by simp only [List.length_cons, List.length_nil, hlen]; omega) (by simp only [List.length_cons, List.length_nil, hlen]; show 2 * 0 + 0 + _ ≤ _; omega)
  have hlt : a < s.heap.size := (Array.getElem?_eq_some_iff.mp hcell).1
  have hH : (((T'.setVm vm₁).setVm vm₂).setCell a (plainBareV T.toThrowableT (freshCell m.cls kX) a u0 sen (.ref str))).heap = s.heap.setIfInBounds a (plainBareV T.toThrowableT (freshCell m.cls kX) a u0 sen (.ref str)) := by rw [← hT]; rfl
  obtain ⟨t, a1, b1⟩ := kk _ _ ⟨plainBareV T.toThrowableT (freshCell m.cls kX) a u0 sen (.ref str), by simp [Array.getElem?_setIfInBounds, hlt], rfl, rfl⟩ (fun q hq => by simp [Array.getElem?_setIfInBounds, Ne.symm hq]) (by simp) (fun q hq => by
      simp only [List.nil_append, List.mem_cons, List.not_mem_nil, or_false] at hq
      rcases hq with rfl | rfl | rfl | rfl | rfl <;> rfl) _ hH X₂
  exact ⟨t, st1 t fun acts => by rw [doInvoke_state]; exact st2 t a1, b1⟩
def axS (Z : CZ) (a : Nat) (U : State) : Prop := cE Z (tnA a) U U.heap ∧ ∃ (cX : ClassId) (kX : Class), U.vm.findClass "java/lang/ArrayIndexOutOfBoundsException" = some cX ∧ U.vm.classes[cX]? = some kX ∧ U.heap[a]? = some (freshCell cX kX)
def Qax (a : Nat) (_ : Array Value) (st : State) (o : Outcome) (t : State) : Prop := o = .returned none ∧ (∃ ce cX, st.vm.findClass "java/lang/ArrayIndexOutOfBoundsException" = some cX ∧ t.heap[a]? = some ce ∧ ce.cls = cX ∧ ce.vm = .none) ∧ t.heap.size = st.heap.size ∧ ∀ q : Nat, q ≠ a → t.heap[q]? = st.heap[q]?
def axR : Room := { frames := 6, cells := 0, slots := 0, locals := 200 }
theorem ax_met (l : Launch) (htr : l.stackTraces = false) (Z : CZ) (a str : Nat) : Met l yJ16_init (ws_ yJ16_init cJ16_init 2 none) axR (va_Pc [.ref a, .ref str] (axS Z a)) (Qax a) 0 0 (tnA a) := by
  refine Met.ofW (cc := cJ16_init) (maxL := 2) (ret := none) (by decide) rfl ?_
  intro p e s m args below meth c s₁ B hml hv
  obtain ⟨rfl, hE, cX, kX, hcX, hkX, hcell⟩ := hv
  have hts := atoms_spec (ws := ws_ yJ16_init cJ16_init 2 none) B.pre
  have hts : ∀ w ∈ lw_all, w.before _ s = true := fun w h => hts w (List.mem_cons_of_mem _ h)
  have hown : s.vm.findClass "java/lang/ArrayIndexOutOfBoundsException" = some m.cls := findClass_of_methodNamed B.named
  cases Option.some.inj (hcX.symm.trans hown)
  have hl := lv_entry [.ref a, .ref str] (n := 2) (Nat.le_of_ble_eq_true rfl)
  rw [lg_entry_eq]
  generalize (lg_sl [.ref a, .ref str] ++ List.replicate (2 - (lg_sl [.ref a, .ref str]).length) Slot.unset).toArray = ls at hl ⊢
  have hl : lv_has ls 2 [(0, .ref a), (1, .ref str)] := hl
  refine lv_aload_n B.exec B.bytes dJ16_init_0 rfl (lv_at hl 0 rfl) ?_
  refine lv_aload_n B.exec B.bytes dJ16_init_1 rfl (lv_at hl 1 rfl) ?_
  refine ax_row B.exec B.bytes hml hown hts hE htr hkX hcell hl.1 ⟨Nat.le_refl _, Nat.le_refl _⟩ (fun H1 locs1 h1 h2 h3 h4 => ?_)
  obtain ⟨ce, g1, g2, g3⟩ := h1
  exact W.vret B.exec B.bytes B.returns (fun t ht hW => ⟨rfl, ⟨ce, m.cls, hown, by rw [ht]; exact g1, g2, g3⟩, by rw [ht]; exact h3, fun q hq => by rw [ht]; exact h2 q hq⟩) (fun q hq => h4 q hq) dJ16_init_5
