/-! sheets: casts that fail, indexes out of bounds -/
set_option maxRecDepth 100000
theorem cRt_c (f : Int32) : cRt f = 2 ∨ cRt f = 3 ∨ cRt f = 0 := by
  unfold cRt
  by_cases h0 : f = 0
  · rw [if_pos h0]; exact Or.inl rfl
  · rw [if_neg h0]
    by_cases h1 : f = 1
    · rw [if_pos h1]; exact Or.inr (Or.inl rfl)
    · rw [if_neg h1]; exact Or.inr (Or.inr rfl)
theorem cc_fit : ∀ a ∈ ["[B", "[S", "[I"], ∀ b ∈ ["[B", "[S", "[I"], ∀ z : Bool, (ccT (dotted a) (dotted b) z == notModelled) = false ∧ (stringBytes (stringToUtf16 (ccT (dotted a) (dotted b) z))).size ≤ 212 := by decide +kernel
theorem sh_in (t : Int32) : shN (cRt t) ∈ ["[B", "[S", "[I"] := by
  rcases cRt_c t with h | h | h <;> rw [h] <;> decide
theorem sh_pr : ∀ a ∈ ["[B", "[S", "[I"], ((withoutBrackets a).length == 1) = true := by decide +kernel
theorem i32_lt (x : Int32) : x.toNatClampNeg < 2 ^ 31 := by
  have h := x.toInt_lt
  have e : x.toNatClampNeg = x.toInt.toNat := rfl
  omega
section SX
variable {p : Program} {l : Launch} {e : Env} {R : Room} {s : State} {m : MethodId} {args : Array Value} {below : List Frame} {meth : Method} {c : Code} {H : Heap} {locs : List Loc} {cells slots : Nat} {Q : State → Prop}
variable {pc : Nat} {ls : Array Slot} {rest st0 As : List Value} {cc bytes : ByteArray} {nL maxL index n : Nat} {ret ret' : Option FieldType} {own : String} {y : MethodName} {rm : Room} {Z : CZ} {Y : CY} {A : Nat → Prop} {C : St} {H0 : Heap} {free : Addr → Prop}
theorem sh_nc (X : CCx p s m args meth c cc nL ret own Z) {f t : Int32} (hne : cRt f ≠ cRt t) : va_Nc (shN (cRt f)) (shN (cRt t)) s := by
  rcases cRt_c f with h | h | h <;> rcases cRt_c t with g | g | g <;> rw [h, g] at hne ⊢
  · exact absurd rfl hne
  · exact sh_no X 23 rfl
  · exact sh_no X 24 rfl
  · exact sh_no X 20 rfl
  · exact absurd rfl hne
  · exact sh_no X 25 rfl
  · exact sh_no X 21 rfl
  · exact sh_no X 22 rfl
  · exact absurd rfl hne
theorem sh_kd (X : CCx p s m args meth c cc nL ret own Z) (f : Int32) : ∃ (k : Class) (i : ClassId) (ty : FieldType), s.vm.classes[cAc Z (cRt f)]? = some k ∧ k.kind = .array i ty := by
  rcases cRt_c f with h | h | h <;> rw [h]
  · obtain ⟨-, k, hk, i, hi⟩ := (X.2.1.2 2 _ rfl).1 0 (fun _ => .int 0)
    exact ⟨k, i, _, hk, hi⟩
  · obtain ⟨-, k, hk, i, hi⟩ := (X.2.1.2 3 _ rfl).1 0 (fun _ => .int 0)
    exact ⟨k, i, _, hk, hi⟩
  · obtain ⟨-, k, hk, i, hi⟩ := (X.2.1.2 0 _ rfl).1 0 (fun _ => .int 0)
    exact ⟨k, i, _, hk, hi⟩
theorem cc_no {T : State} (X : Stand p l e R s m args below meth c T locs cells slots) (hexec : p.tables.exec = Jvm.exec)
    {own name nA : String} {index : Nat} (hown : s.vm.findClass own = some m.cls) (hlink : (Cond.classLink own index name).before args s = true)
    {a : Addr} {cell : Cell} {cT : ClassId} {ks kt : Class} {i i' : ClassId} {ty ty' : FieldType} (hcell : T.heap[a]? = some cell) (hobj : cell.vm.isStatics = false) (hcA : s.vm.findClass nA = some cell.cls) (hks : s.vm.classes[cell.cls]? = some ks) (hkd : ks.kind = .array i ty) (hcT : s.vm.findClass name = some cT) (hkt : s.vm.classes[cT]? = some kt) (hkd' : kt.kind = .array i' ty') (hasg : s.vm.assignable cell.cls cT = false)
    (hA : ((withoutBrackets nA).length == 1) = true) (hB : ((withoutBrackets name).length == 1) = true)
    {g : JFrame} (hg : g.method = m) {rest : List Value} (hstack : g.stack = .ref a :: rest) (hdg : decode c.code g.pc = .ok (.checkcast index, 3)) :
    ∃ (vm' : Vm) (z : Bool), Stand p l e R s m args below meth c (T.setVm vm') locs cells slots ∧
      ∀ target, Steps p.tables e below (((T.setVm vm').setTop g).pushFrame (.throwNew "java/lang/ClassCastException" (some (ccT (dotted nA) (dotted name) z)) none)) target → Steps p.tables e below (T.setTop g) target := by
  have hpl : e.platform.magicAccessors = ({} : Platform).magicAccessors := by rw [X.admits.platform]
  obtain ⟨c', hc', hcl⟩ := Cond.classLink_spec hown hlink e.platform hpl
  cases hcT.symm.trans hc'
  obtain ⟨dk, _, _, kt0, hd, _, _, _, _, hkt0, _, hopen⟩ := hcl.here
  have hcl₀ := X.warmed.classLinks hcl
  have hW' : s.WarmedH (T.vm.noted m.cls index (.cls cT)) := X.warmed.noted hd hopen (State.rightAt_cls hcl)
  obtain ⟨ks', hks', eks⟩ := hW'.alike.2.2 _ _ hks
  obtain ⟨kt', hkt', ekt⟩ := hW'.alike.2.2 _ _ hkt
  obtain ⟨u1, u2, u3⟩ := cc_k (vm := T.vm.noted m.cls index (.cls cT)) (by rw [hW'.alike.findClass]; exact hcA) hks' (by rw [eks]; exact hkd) hA
  obtain ⟨w1, w2, w3⟩ := cc_k (vm := T.vm.noted m.cls index (.cls cT)) (by rw [hW'.alike.findClass]; exact hcT) hkt' (by rw [ekt]; exact hkd') hB
  obtain ⟨z, hz⟩ := cc_text (vm := T.vm.noted m.cls index (.cls cT)) u1 u2 u3 w1 w2 w3
  refine ⟨_, z, X.noted hW', fun target hrest => ?_⟩
  subst hg
  jvm_step X.here [hexec, hdg, checkcast.wp_cold (e := e) (s := T) (f := g) X.here.top hstack (resolveClass_links e.toSetting hcl₀) hcl₀.ready,
    checkcast.wp_ready (e := e) (s := T.setVm (T.vm.noted g.method.cls index (.cls cT))) (f := g) X.here.top hcl₀.ready hstack]
  refine ⟨cell, hcell, VmData.noStatics_of hobj, ks', hks', kt', hkt', ?_⟩
  have h1 : (T.vm.noted g.method.cls index (Resolved.cls cT)).assignable cell.cls cT = false := by rw [hW'.alike.assignable]; exact hasg
  rw [if_neg (by rw [h1]; decide)]
  rw [← hz] at hrest
  exact hrest
/-- the cast fails -/
theorem sh_cx (X : CCx p s m args meth c cc nL ret RX5 Z) (hM : cPD Z Y A C s.heap) (hE : cE Z A s s.heap) (htr : l.stackTraces = false) (hnt : ∀ pc, ∀ x ∈ c.exceptionTable.toList, covers x pc = false) {q : Nat} (h8 : q < 4) (h1 : C (60 + q) 0 = 1) {t : Int32} (hne : cRt (C (60 + q) 1) ≠ cRt t) {nm : String} (hn : shN (cRt t) = nm) (hlk : (Cond.classLink RX5 index nm).before args s = true) (hsz : ls.size = nL) (hR : 8 ≤ R.frames ∧ 10300 ≤ R.locals ∧ 3 ≤ R.cells ∧ 222 ≤ R.slots) (hw : (List.map (fun v => v.category) (Value.ref (cDa Y (500 + q)) :: rest)).sum ≤ 8) (hdg : decode cc pc = .ok (.checkcast index, 3)) :
    W p l e R s m args below meth c s.heap [] 0 0 (MQX below (Qmx "java/lang/ClassCastException") args s 3 222 free) (F0 m pc ls (.ref (cDa Y (500 + q)) :: rest)) := by
  subst hn
  refine W.arm (rest := .ref (cDa Y (500 + q)) :: rest) X.1.1 htr (by decide +kernel) (by decide +kernel) rfl rfl (am_C X.1.2.2.2.2.2.2 hE) (hsz.trans X.1.2.2.2.2.1.symm) (hnt pc) (by decide) hR hw X.1.2.2.2.1 (fun T hT XT => ?_)
  obtain ⟨pos, hp, hq⟩ := sh_at (Z := Z) (Y := Y) h8 h1
  obtain ⟨k, i, ty, hk, hki⟩ := sh_kd X (C (60 + q) 1)
  obtain ⟨k', i', ty', hk', hki'⟩ := sh_kd X t
  obtain ⟨c0, t0, f1, f2, f3⟩ := sh_nc X hne
  have e1 := f1.symm.trans (sh_nm X _)
  have e2 := f2.symm.trans (sh_nm X _)
  cases e1
  cases e2
  obtain ⟨vm', z, X', st⟩ := cc_no XT X.1.1 X.1.2.2.2.2.2.1 hlk (cell := vp_cell (cAc Z (cRt (C (60 + q) 1))) ((C (60 + q) 2).toNatClampNeg, .inl (C (70 + q)))) (by rw [hT]; exact hM.1 pos _ hq) rfl (sh_nm X _) hk hki (sh_nm X _) hk' hki' f3 (sh_pr _ (sh_in _)) (sh_pr _ (sh_in _)) (g := F0 m pc ls (.ref (cDa Y (500 + q)) :: rest)) rfl rfl (by rw [X.1.2.1]; exact hdg)
  obtain ⟨g1, g2⟩ := cc_fit _ (sh_in (C (60 + q) 1)) _ (sh_in t) z
  exact ⟨T.setVm vm', _, X', g1, g2, st⟩
theorem sh_x_baload (X : CCx p s m args meth c cc nL ret RX5 Z) (hM : cPD Z Y A C s.heap) (hE : cE Z A s s.heap) (htr : l.stackTraces = false) (hnt : ∀ pc, ∀ x ∈ c.exceptionTable.toList, covers x pc = false) {q : Nat} (h8 : q < 4) (h1 : C (60 + q) 0 = 1) (hf : cRt (C (60 + q) 1) = 2) {i : Int32} (hi : ¬ vp_in i (C (60 + q) 2).toNatClampNeg) (hsz : ls.size = nL) (hR : 8 ≤ R.frames ∧ 10300 ≤ R.locals ∧ 3 ≤ R.cells ∧ 222 ≤ R.slots) (hw : (List.map (fun v => v.category) rest).sum ≤ 8) (hdg : decode cc pc = .ok (.baload, 1)) :
    W p l e R s m args below meth c s.heap [] 0 0 (MQX below (Qmx "java/lang/ArrayIndexOutOfBoundsException") args s 3 222 free) (F0 m pc ls (.int i :: .ref (cDa Y (500 + q)) :: rest)) := by
  refine W.arm (rest := rest) X.1.1 htr (by decide +kernel) (by decide +kernel) rfl rfl (am_A X.1.2.2.2.2.2.2 hE) (hsz.trans X.1.2.2.2.2.1.symm) (hnt pc) (by decide) hR hw X.1.2.2.2.1 (fun T hT XT => ?_)
  obtain ⟨pos, hp, hq⟩ := sh_at (Z := Z) (Y := Y) h8 h1
  rw [hf] at hq
  have hout : i < 0 ∨ (arrV (cAc Z 2) (C (60 + q) 2).toNatClampNeg (fun j => Value.int (C (70 + q) j))).slots.size ≤ i.toNatClampNeg := by
    rw [arrV_size]
    exact Classical.not_not.mp hi
  have hlt : (arrV (cAc Z 2) (C (60 + q) 2).toNatClampNeg (fun j => Value.int (C (70 + q) j))).slots.size < 2 ^ 31 := by
    rw [arrV_size]
    exact i32_lt _
  refine ⟨T, _, XT, index_text_modelled i _, index_text_bytes i hlt, XT.baloadOut X.1.1 (cell := arrV (cAc Z 2) (C (60 + q) 2).toNatClampNeg (fun j => Value.int (C (70 + q) j))) (by rw [hT]; exact hM.1 pos _ hq) ((X.2.1.2 2 _ rfl).1 _ _) hout (g := F0 m pc ls (.int i :: .ref (cDa Y (500 + q)) :: rest)) rfl rfl (by rw [X.1.2.1]; exact hdg)⟩
theorem sh_x_saload (X : CCx p s m args meth c cc nL ret RX5 Z) (hM : cPD Z Y A C s.heap) (hE : cE Z A s s.heap) (htr : l.stackTraces = false) (hnt : ∀ pc, ∀ x ∈ c.exceptionTable.toList, covers x pc = false) {q : Nat} (h8 : q < 4) (h1 : C (60 + q) 0 = 1) (hf : cRt (C (60 + q) 1) = 3) {i : Int32} (hi : ¬ vp_in i (C (60 + q) 2).toNatClampNeg) (hsz : ls.size = nL) (hR : 8 ≤ R.frames ∧ 10300 ≤ R.locals ∧ 3 ≤ R.cells ∧ 222 ≤ R.slots) (hw : (List.map (fun v => v.category) rest).sum ≤ 8) (hdg : decode cc pc = .ok (.saload, 1)) :
    W p l e R s m args below meth c s.heap [] 0 0 (MQX below (Qmx "java/lang/ArrayIndexOutOfBoundsException") args s 3 222 free) (F0 m pc ls (.int i :: .ref (cDa Y (500 + q)) :: rest)) := by
  refine W.arm (rest := rest) X.1.1 htr (by decide +kernel) (by decide +kernel) rfl rfl (am_A X.1.2.2.2.2.2.2 hE) (hsz.trans X.1.2.2.2.2.1.symm) (hnt pc) (by decide) hR hw X.1.2.2.2.1 (fun T hT XT => ?_)
  obtain ⟨pos, hp, hq⟩ := sh_at (Z := Z) (Y := Y) h8 h1
  rw [hf] at hq
  have hout : i < 0 ∨ (arrV (cAc Z 3) (C (60 + q) 2).toNatClampNeg (fun j => Value.int (C (70 + q) j))).slots.size ≤ i.toNatClampNeg := by
    rw [arrV_size]
    exact Classical.not_not.mp hi
  have hlt : (arrV (cAc Z 3) (C (60 + q) 2).toNatClampNeg (fun j => Value.int (C (70 + q) j))).slots.size < 2 ^ 31 := by
    rw [arrV_size]
    exact i32_lt _
  refine ⟨T, _, XT, index_text_modelled i _, index_text_bytes i hlt, XT.saloadOut X.1.1 (cell := arrV (cAc Z 3) (C (60 + q) 2).toNatClampNeg (fun j => Value.int (C (70 + q) j))) (by rw [hT]; exact hM.1 pos _ hq) ((X.2.1.2 3 _ rfl).1 _ _) hout (g := F0 m pc ls (.int i :: .ref (cDa Y (500 + q)) :: rest)) rfl rfl (by rw [X.1.2.1]; exact hdg)⟩
theorem sh_x_iaload (X : CCx p s m args meth c cc nL ret RX5 Z) (hM : cPD Z Y A C s.heap) (hE : cE Z A s s.heap) (htr : l.stackTraces = false) (hnt : ∀ pc, ∀ x ∈ c.exceptionTable.toList, covers x pc = false) {q : Nat} (h8 : q < 4) (h1 : C (60 + q) 0 = 1) (hf : cRt (C (60 + q) 1) = 0) {i : Int32} (hi : ¬ vp_in i (C (60 + q) 2).toNatClampNeg) (hsz : ls.size = nL) (hR : 8 ≤ R.frames ∧ 10300 ≤ R.locals ∧ 3 ≤ R.cells ∧ 222 ≤ R.slots) (hw : (List.map (fun v => v.category) rest).sum ≤ 8) (hdg : decode cc pc = .ok (.iaload, 1)) :
    W p l e R s m args below meth c s.heap [] 0 0 (MQX below (Qmx "java/lang/ArrayIndexOutOfBoundsException") args s 3 222 free) (F0 m pc ls (.int i :: .ref (cDa Y (500 + q)) :: rest)) := by
  refine W.arm (rest := rest) X.1.1 htr (by decide +kernel) (by decide +kernel) rfl rfl (am_A X.1.2.2.2.2.2.2 hE) (hsz.trans X.1.2.2.2.2.1.symm) (hnt pc) (by decide) hR hw X.1.2.2.2.1 (fun T hT XT => ?_)
  obtain ⟨pos, hp, hq⟩ := sh_at (Z := Z) (Y := Y) h8 h1
  rw [hf] at hq
  have hout : i < 0 ∨ (arrV (cAc Z 0) (C (60 + q) 2).toNatClampNeg (fun j => Value.int (C (70 + q) j))).slots.size ≤ i.toNatClampNeg := by
    rw [arrV_size]
    exact Classical.not_not.mp hi
  have hlt : (arrV (cAc Z 0) (C (60 + q) 2).toNatClampNeg (fun j => Value.int (C (70 + q) j))).slots.size < 2 ^ 31 := by
    rw [arrV_size]
    exact i32_lt _
  refine ⟨T, _, XT, index_text_modelled i _, index_text_bytes i hlt, XT.ialoadOut X.1.1 (cell := arrV (cAc Z 0) (C (60 + q) 2).toNatClampNeg (fun j => Value.int (C (70 + q) j))) (by rw [hT]; exact hM.1 pos _ hq) ((X.2.1.2 0 _ rfl).1 _ _) hout (g := F0 m pc ls (.int i :: .ref (cDa Y (500 + q)) :: rest)) rfl rfl (by rw [X.1.2.1]; exact hdg)⟩
theorem sh_x_bastore (X : CCx p s m args meth c cc nL ret RX5 Z) (hM : cPD Z Y A C s.heap) (hE : cE Z A s s.heap) (htr : l.stackTraces = false) (hnt : ∀ pc, ∀ x ∈ c.exceptionTable.toList, covers x pc = false) {q : Nat} (h8 : q < 4) (h1 : C (60 + q) 0 = 1) (hf : cRt (C (60 + q) 1) = 2) {i x : Int32} (hi : ¬ vp_in i (C (60 + q) 2).toNatClampNeg) (hsz : ls.size = nL) (hR : 8 ≤ R.frames ∧ 10300 ≤ R.locals ∧ 3 ≤ R.cells ∧ 222 ≤ R.slots) (hw : (List.map (fun v => v.category) rest).sum ≤ 8) (hdg : decode cc pc = .ok (.bastore, 1)) :
    W p l e R s m args below meth c s.heap [] 0 0 (MQX below (Qmx "java/lang/ArrayIndexOutOfBoundsException") args s 3 222 free) (F0 m pc ls (.int x :: .int i :: .ref (cDa Y (500 + q)) :: rest)) := by
  refine W.arm (rest := rest) X.1.1 htr (by decide +kernel) (by decide +kernel) rfl rfl (am_A X.1.2.2.2.2.2.2 hE) (hsz.trans X.1.2.2.2.2.1.symm) (hnt pc) (by decide) hR hw X.1.2.2.2.1 (fun T hT XT => ?_)
  obtain ⟨pos, hp, hq⟩ := sh_at (Z := Z) (Y := Y) h8 h1
  rw [hf] at hq
  have hout : i < 0 ∨ (arrV (cAc Z 2) (C (60 + q) 2).toNatClampNeg (fun j => Value.int (C (70 + q) j))).slots.size ≤ i.toNatClampNeg := by
    rw [arrV_size]
    exact Classical.not_not.mp hi
  have hlt : (arrV (cAc Z 2) (C (60 + q) 2).toNatClampNeg (fun j => Value.int (C (70 + q) j))).slots.size < 2 ^ 31 := by
    rw [arrV_size]
    exact i32_lt _
  refine ⟨T, _, XT, index_text_modelled i _, index_text_bytes i hlt, XT.bastoreOut X.1.1 (cell := arrV (cAc Z 2) (C (60 + q) 2).toNatClampNeg (fun j => Value.int (C (70 + q) j))) (by rw [hT]; exact hM.1 pos _ hq) ((X.2.1.2 2 _ rfl).1 _ _) hout (g := F0 m pc ls (.int x :: .int i :: .ref (cDa Y (500 + q)) :: rest)) rfl rfl (by rw [X.1.2.1]; exact hdg)⟩
theorem sh_x_sastore (X : CCx p s m args meth c cc nL ret RX5 Z) (hM : cPD Z Y A C s.heap) (hE : cE Z A s s.heap) (htr : l.stackTraces = false) (hnt : ∀ pc, ∀ x ∈ c.exceptionTable.toList, covers x pc = false) {q : Nat} (h8 : q < 4) (h1 : C (60 + q) 0 = 1) (hf : cRt (C (60 + q) 1) = 3) {i x : Int32} (hi : ¬ vp_in i (C (60 + q) 2).toNatClampNeg) (hsz : ls.size = nL) (hR : 8 ≤ R.frames ∧ 10300 ≤ R.locals ∧ 3 ≤ R.cells ∧ 222 ≤ R.slots) (hw : (List.map (fun v => v.category) rest).sum ≤ 8) (hdg : decode cc pc = .ok (.sastore, 1)) :
    W p l e R s m args below meth c s.heap [] 0 0 (MQX below (Qmx "java/lang/ArrayIndexOutOfBoundsException") args s 3 222 free) (F0 m pc ls (.int x :: .int i :: .ref (cDa Y (500 + q)) :: rest)) := by
  refine W.arm (rest := rest) X.1.1 htr (by decide +kernel) (by decide +kernel) rfl rfl (am_A X.1.2.2.2.2.2.2 hE) (hsz.trans X.1.2.2.2.2.1.symm) (hnt pc) (by decide) hR hw X.1.2.2.2.1 (fun T hT XT => ?_)
  obtain ⟨pos, hp, hq⟩ := sh_at (Z := Z) (Y := Y) h8 h1
  rw [hf] at hq
  have hout : i < 0 ∨ (arrV (cAc Z 3) (C (60 + q) 2).toNatClampNeg (fun j => Value.int (C (70 + q) j))).slots.size ≤ i.toNatClampNeg := by
    rw [arrV_size]
    exact Classical.not_not.mp hi
  have hlt : (arrV (cAc Z 3) (C (60 + q) 2).toNatClampNeg (fun j => Value.int (C (70 + q) j))).slots.size < 2 ^ 31 := by
    rw [arrV_size]
    exact i32_lt _
  refine ⟨T, _, XT, index_text_modelled i _, index_text_bytes i hlt, XT.sastoreOut X.1.1 (cell := arrV (cAc Z 3) (C (60 + q) 2).toNatClampNeg (fun j => Value.int (C (70 + q) j))) (by rw [hT]; exact hM.1 pos _ hq) ((X.2.1.2 3 _ rfl).1 _ _) hout (g := F0 m pc ls (.int x :: .int i :: .ref (cDa Y (500 + q)) :: rest)) rfl rfl (by rw [X.1.2.1]; exact hdg)⟩
theorem sh_x_iastore (X : CCx p s m args meth c cc nL ret RX5 Z) (hM : cPD Z Y A C s.heap) (hE : cE Z A s s.heap) (htr : l.stackTraces = false) (hnt : ∀ pc, ∀ x ∈ c.exceptionTable.toList, covers x pc = false) {q : Nat} (h8 : q < 4) (h1 : C (60 + q) 0 = 1) (hf : cRt (C (60 + q) 1) = 0) {i x : Int32} (hi : ¬ vp_in i (C (60 + q) 2).toNatClampNeg) (hsz : ls.size = nL) (hR : 8 ≤ R.frames ∧ 10300 ≤ R.locals ∧ 3 ≤ R.cells ∧ 222 ≤ R.slots) (hw : (List.map (fun v => v.category) rest).sum ≤ 8) (hdg : decode cc pc = .ok (.iastore, 1)) :
    W p l e R s m args below meth c s.heap [] 0 0 (MQX below (Qmx "java/lang/ArrayIndexOutOfBoundsException") args s 3 222 free) (F0 m pc ls (.int x :: .int i :: .ref (cDa Y (500 + q)) :: rest)) := by
  refine W.arm (rest := rest) X.1.1 htr (by decide +kernel) (by decide +kernel) rfl rfl (am_A X.1.2.2.2.2.2.2 hE) (hsz.trans X.1.2.2.2.2.1.symm) (hnt pc) (by decide) hR hw X.1.2.2.2.1 (fun T hT XT => ?_)
  obtain ⟨pos, hp, hq⟩ := sh_at (Z := Z) (Y := Y) h8 h1
  rw [hf] at hq
  have hout : i < 0 ∨ (arrV (cAc Z 0) (C (60 + q) 2).toNatClampNeg (fun j => Value.int (C (70 + q) j))).slots.size ≤ i.toNatClampNeg := by
    rw [arrV_size]
    exact Classical.not_not.mp hi
  have hlt : (arrV (cAc Z 0) (C (60 + q) 2).toNatClampNeg (fun j => Value.int (C (70 + q) j))).slots.size < 2 ^ 31 := by
    rw [arrV_size]
    exact i32_lt _
  refine ⟨T, _, XT, index_text_modelled i _, index_text_bytes i hlt, XT.iastoreOut X.1.1 (cell := arrV (cAc Z 0) (C (60 + q) 2).toNatClampNeg (fun j => Value.int (C (70 + q) j))) (by rw [hT]; exact hM.1 pos _ hq) ((X.2.1.2 0 _ rfl).1 _ _) hout (g := F0 m pc ls (.int x :: .int i :: .ref (cDa Y (500 + q)) :: rest)) rfl rfl (by rw [X.1.2.1]; exact hdg)⟩
end SX
