/-! System.arraycopy between two rows -/
set_option maxRecDepth 100000
def shTy (t : Nat) : FieldType := if t = 2 then .byte else if t = 3 then .short else .int
theorem shTy_p (f : Int32) : refKind (shTy (cRt f)) = false ∧ (Native.java_lang_System.arraycopy.kindName (shTy (cRt f))).toList.length ≤ 5 := by
  rcases cRt_c f with h | h | h <;> rw [h] <;> decide
def shFit (C : St) (q : Nat) (sp n : Int32) : Bool := (List.range n.toNatClampNeg).all (fun i => fits (shTy (cRt (C (60 + q) 1))) (.int (C (70 + q) (sp.toNatClampNeg + i))))
abbrev cpOut (C : St) (q0 q1 : Nat) (sp dp n : Int32) : Prop := sp < 0 ∨ dp < 0 ∨ n < 0 ∨ sp.toInt + n.toInt > (C (60 + q0) 2).toNatClampNeg ∨ dp.toInt + n.toInt > (C (60 + q1) 2).toNatClampNeg
section NR
variable {p : Program} {l : Launch} {e : Env} {R : Room} {s : State} {m : MethodId} {args : Array Value} {below : List Frame} {meth : Method} {c : Code} {H : Heap} {locs : List Loc} {cells slots : Nat} {Q : State → Prop}
variable {pc : Nat} {ls : Array Slot} {rest st0 As : List Value} {cc bytes : ByteArray} {nL maxL index n : Nat} {ret ret' : Option FieldType} {own : String} {y : MethodName} {rm : Room} {Z : CZ} {Y : CY} {A : Nat → Prop} {C : St} {H0 : Heap}
/-- a row's world with other numbers -/
theorem cPD_shg {q pos : Nat} {f : Nat → Int32} {H1 : Heap} (h8 : q < 4) (hw : cWf Y C) (hp : (cHs Y C)[pos]? = some (500 + q))
    (h1 : va_P Z.1 clA ((cWs Z Y C).set pos (cDa Y (500 + q), .inl (cAc Z (cRt (C (60 + q) 1)), (C (60 + q) 2).toNatClampNeg, .inl f))) H1) (h2 : va_D A ((cWs Z Y C).set pos (cDa Y (500 + q), .inl (cAc Z (cRt (C (60 + q) 1)), (C (60 + q) 2).toNatClampNeg, .inl f)))) : cPD Z Y A (up1 C (70 + q) f) H1 := by
  have e5 : ∀ b, b ≠ 70 + q → up1 C (70 + q) f b = C b := fun b h => up1_other C f h
  have eh : cHs Y (up1 C (70 + q) f) = cHs Y C := by
    have q0 : (List.range 4).filter (fun s => decide (up1 C (70 + q) f (60 + s) 0 = 1)) = (List.range 4).filter (fun s => decide (C (60 + s) 0 = 1)) := by
      apply List.filter_congr
      intro x hx
      have := List.mem_range.mp hx
      rw [e5 (60 + x) (by omega)]
    unfold cHs cNn
    rw [e5 (50 + 0) (by omega), e5 (50 + 1) (by omega), e5 (50 + 2) (by omega), q0]
  have ew : (cDa Y (500 + q), Sum.inl (cAc Z (cRt (C (60 + q) 1)), (C (60 + q) 2).toNatClampNeg, Sum.inl f)) = (cAr Z Y (500 + q), cCo Z Y (up1 C (70 + q) f) (500 + q)) := by
    rw [cCo_r, cAr_d (by omega), e5 (60 + q) (by omega), up1_same]
  have ec : ∀ k', k' ∈ cHs Y C → k' ≠ 500 + q → cCo Z Y (up1 C (70 + q) f) k' = cCo Z Y C k' := by
    intro k' hk' hne
    have b0 := (hw 0 (by decide)).1
    have b1 := (hw 1 (by decide)).1
    have b2 := (hw 2 (by decide)).1
    rcases cHs_ge hw hk' with ⟨hs, z⟩ | ⟨d, hd, rfl⟩ | ⟨d, hd, rfl⟩ | ⟨d, hd, rfl⟩ | ⟨j, hj, -, rfl⟩ | ⟨t, ht, -, rfl⟩
    · unfold cCo
      rw [if_pos z, if_pos z]
      have hne2 : k' ≠ 70 + q := by
        rintro rfl
        match q, h8, hs with
        | 0, _, hs => exact absurd hs (by decide)
        | 1, _, hs => exact absurd hs (by decide)
        | 2, _, hs => exact absurd hs (by decide)
        | 3, _, hs => exact absurd hs (by decide)
      exact cSt_congr6 (e5 k' hne2) (fun b g1 g2 => e5 b (by omega))
    · rw [cCo_d (by omega), cCo_d (by omega), e5 _ (by omega)]
    · rw [cCo_g (by omega), cCo_g (by omega), e5 _ (by omega)]
    · rw [cCo_a (by omega), cCo_a (by omega), e5 _ (by omega)]
    · rw [cCo_e (by omega), cCo_e (by omega), show cNn (up1 C (70 + q) f) j = cNn C j by unfold cNn; rw [e5 _ (by omega)]]
    · rw [cCo_r, cCo_r, e5 (60 + t) (by omega), e5 (70 + t) (by omega)]
  rw [ew, cWs_set hw hp eh ec] at h1 h2
  refine ⟨h1, h2, fun j hj => ?_⟩
  have := hw j hj
  unfold cNn at this ⊢
  rw [e5 (50 + j) (by omega)]
  exact this
theorem sh_kt (X : CCx p s m args meth c cc nL ret own Z) (f : Int32) : ∃ t0 : Nat, (tysA (cAc Z))[t0]? = some (cAc Z (cRt f), shTy (cRt f)) := by
  rcases cRt_c f with h | h | h <;> rw [h]
  · exact ⟨2, rfl⟩
  · exact ⟨3, rfl⟩
  · exact ⟨0, rfl⟩
theorem sh_cpy (X : CCx p s m args meth c cc nL ret RX0 Z) (hM : cPD Z Y A C H) (hS : va_S A H0 H locs) {q0 q1 : Nat} (h8 : q0 < 4) (h9 : q1 < 4) (t0 : C (60 + q0) 0 = 1) (t1 : C (60 + q1) 0 = 1) (hf : cRt (C (60 + q0) 1) = cRt (C (60 + q1) 1)) {sp dp n : Int32} (hin : ¬ cpOut C q0 q1 sp dp n) (hfit : shFit C q0 sp n = true) (hml : c.maxLocals = ls.size) (hfr : 1 ≤ R.frames) (hlo : (rest.map fun v => v.category).sum + (nativeFrameWords "java/lang/System" "arraycopy" 5 + 11) ≤ R.locals) (hdg : decode cc pc = .ok (.invokestatic 258, 3))
    (kk : ∀ (H1 : Heap) (locs1 : List Loc) (J : St), J = up1 C (70 + q1) (va_cpy (C (70 + q0)) (C (70 + q1)) sp.toNatClampNeg dp.toNatClampNeg n.toNatClampNeg) → cPD Z Y A J H1 → va_S A H0 H1 locs1 → W p l e R s m args below meth c H1 locs1 cells slots Q (F0 m (pc + 3) ls rest)) : W p l e R s m args below meth c H locs cells slots Q (F0 m pc ls (.int n :: .int dp :: .ref (cDa Y (500 + q1)) :: .int sp :: .ref (cDa Y (500 + q0)) :: rest)) := by
  obtain ⟨p0, hp0, hq0⟩ := sh_at (Z := Z) (Y := Y) h8 t0
  obtain ⟨p1, hp1, hq1⟩ := sh_at (Z := Z) (Y := Y) h9 t1
  obtain ⟨k0, hk0⟩ := sh_kt X (C (60 + q0) 1)
  obtain ⟨k1, hk1⟩ := sh_kt X (C (60 + q1) 1)
  have a1 : ¬ sp < 0 := fun z => hin (Or.inl z)
  have a2 : ¬ dp < 0 := fun z => hin (Or.inr (Or.inl z))
  have a3 : ¬ n < 0 := fun z => hin (Or.inr (Or.inr (Or.inl z)))
  have e1 := toNatClampNeg_of_not_neg32 sp a1
  have e2 := toNatClampNeg_of_not_neg32 dp a2
  have e3 := toNatClampNeg_of_not_neg32 n a3
  have a4 : sp.toNatClampNeg + n.toNatClampNeg ≤ (C (60 + q0) 2).toNatClampNeg := by
    by_cases z : sp.toInt + n.toInt > (C (60 + q0) 2).toNatClampNeg
    · exact absurd (Or.inr (Or.inr (Or.inr (Or.inl z)))) hin
    · omega
  have a5 : dp.toNatClampNeg + n.toNatClampNeg ≤ (C (60 + q1) 2).toNatClampNeg := by
    by_cases z : dp.toInt + n.toInt > (C (60 + q1) 2).toNatClampNeg
    · exact absurd (Or.inr (Or.inr (Or.inr (Or.inr z)))) hin
    · omega
  have hfit' : ∀ i, i < n.toNatClampNeg → fits (shTy (cRt (C (60 + q0) 1))) (.int (C (70 + q0) (sp.toNatClampNeg + i))) = true := fun i hi => List.all_eq_true.mp hfit i (List.mem_range.mpr hi)
  refine va_copyi X.1.1 X.1.2.1 hml X.1.2.2.2.2.2.1 (X.1.2.2.2.2.2.2 _ q768) (X.1.2.2.2.2.2.2 _ q609) (X.1.2.2.2.2.2.2 _ q608) (X.1.2.2.2.2.2.2 _ q96) X.2.1 hM.1 hM.2.1 hS p0 p1 k0 k1 (ty := shTy (cRt (C (60 + q0) 1))) hq0 hq1 hk0 (by rw [hf]; exact hk1) (shTy_p _).1 a1 a2 a3 a4 a5 hfit' hfr hlo hdg (fun H1 locs1 g1 g2 g3 => ?_)
  exact kk H1 locs1 _ rfl (cPD_shg h9 hM.2.2 hp1 g1 g2) g3
theorem nc_row (X : CCx p s m args meth c cc nL ret RX0 Z) (hM : cPD Z Y A C H) (hS : va_S A s.heap H locs) (hA : ∀ q, s.heap.size ≤ q → A q) (hE : cE Z A s s.heap) (htr : l.stackTraces = false) {q0 q1 : Nat} (h8 : q0 < 4) (h9 : q1 < 4) (t0 : C (60 + q0) 0 = 1) (t1 : C (60 + q1) 0 = 1) (hf : cRt (C (60 + q0) 1) = cRt (C (60 + q1) 1)) {sp dp n : Int32} (hout : cpOut C q0 q1 sp dp n) (hR : 9 ≤ R.frames ∧ 10320 ≤ R.locals) (hc : cells + 3 ≤ R.cells ∧ slots + 410 ≤ R.slots) (hs : ls.size = nL) (hw : (rest.map fun v => v.category).sum ≤ 8) (hdg : decode cc pc = .ok (.invokestatic 258, 3))
    (kk : ∀ (z : Addr) (cell : Cell) (H1 : Heap) (locs1 : List Loc), cPD Z Y A C H1 → va_S A s.heap H1 locs1 → H1[z]? = some cell → cell.vm.isStatics = false → s.vm.findClass "java/lang/ArrayIndexOutOfBoundsException" = some cell.cls → WT p l e R s m args below meth c H1 locs1 (cells + 3) (slots + 410) Q z (F0 m pc ls rest)) : W p l e R s m args below meth c H locs cells slots Q (F0 m pc ls (.int n :: .int dp :: .ref (cDa Y (500 + q1)) :: .int sp :: .ref (cDa Y (500 + q0)) :: rest)) := by
  obtain ⟨p0, hp0, hq0⟩ := sh_at (Z := Z) (Y := Y) h8 t0
  obtain ⟨p1, hp1, hq1⟩ := sh_at (Z := Z) (Y := Y) h9 t1
  obtain ⟨k0, hk0⟩ := sh_kt X (C (60 + q0) 1)
  obtain ⟨k1, hk1⟩ := sh_kt X (C (60 + q1) 1)
  obtain ⟨-, c0, hc0, i0, hi0⟩ := (X.2.1.2 k0 _ hk0).1 (C (60 + q0) 2).toNatClampNeg (fun j => .int (C (70 + q0) j))
  obtain ⟨-, c1, hc1, i1, hi1⟩ := (X.2.1.2 k1 _ hk1).1 (C (60 + q1) 2).toNatClampNeg (fun j => .int (C (70 + q1) j))
  have hts := X.1.2.2.2.2.2.2
  intro T hT X0
  obtain ⟨r, kS, methS, hnS, hmS, hkS, N⟩ := NativeOf.of_static (hts _ q609) (hts _ q608) (ps := [.object "java/lang/Object", .int, .object "java/lang/Object", .int, .int]) (ret := none) (by decide +kernel)
  have hinitS : kS.init = .initialized := Cond.initialized_spec (findClass_of_methodNamed hnS) hkS (hts _ q96)
  obtain ⟨vm', X', step⟩ := X0.invokestatic X.1.1 X.1.2.2.2.2.2.1 (hts _ q768) hnS hmS N.static hkS hinitS (by decide) (g := F0 m pc ls (.int n :: .int dp :: .ref (cDa Y (500 + q1)) :: .int sp :: .ref (cDa Y (500 + q0)) :: rest)) rfl (argsL := [.ref (cDa Y (500 + q0)), .int sp, .ref (cDa Y (500 + q1)), .int dp, .int n]) (rest := rest) (by rw [N.sig]; rfl) rfl (by rw [X.1.2.1]; exact hdg)
  have hA' : s.vm.Alike vm' := X'.warmed.alike
  obtain ⟨kS', N'⟩ := N.alike hA'
  obtain ⟨c0', hc0', he0⟩ := hA'.2.2 _ _ hc0
  obtain ⟨c1', hc1', he1⟩ := hA'.2.2 _ _ hc1
  have hsz : (F0 m pc ls rest).locals.size = c.maxLocals := hs.trans X.1.2.2.2.2.1.symm
  have hst : 2 * (F0 m pc ls rest).monitorRoom + ((F0 m pc ls rest).stack.map fun v => v.category).sum ≤ 8 := lv_room hw
  have hseen : seenByNative methS #[.ref (cDa Y (500 + q0)), .int sp, .ref (cDa Y (500 + q1)), .int dp, .int n] = #[.ref (cDa Y (500 + q0)), .int sp, .ref (cDa Y (500 + q1)), .int dp, .int n] := by
    simp [seenByNative, N.static, N.sig, narrow]
  obtain ⟨g₀, hfr⟩ := X'.frames_eq
  have hcur : (T.setVm vm').cur < (T.setVm vm').threads.size := State.cur_lt_of_frames hfr
  have hp1' : ∀ x : Frame, ((T.setVm vm').setTop (F0 m pc ls rest)).pushFrame x = (T.setVm vm').setFrames (x :: .java (F0 m pc ls rest) :: below) := fun x => by
    rw [State.pushFrame, State.frames_setTop _ hfr, State.setTop_of_frames _ hfr, State.setFrames_setFrames]
  have g0 : T.heap[cDa Y (500 + q0)]? = some (arrV (cAc Z (cRt (C (60 + q0) 1))) (C (60 + q0) 2).toNatClampNeg (fun j => .int (C (70 + q0) j))) := by rw [hT]; exact hM.1 p0 _ hq0
  have g1 : T.heap[cDa Y (500 + q1)]? = some (arrV (cAc Z (cRt (C (60 + q1) 1))) (C (60 + q1) 2).toNatClampNeg (fun j => .int (C (70 + q1) j))) := by rw [hT]; exact hM.1 p1 _ hq1
  obtain ⟨w, hwl, hwp⟩ := nc_wp (e := e) (s := ((T.setVm vm').setTop (F0 m pc ls rest)).pushFrame (.native { method := r, args := seenByNative methS #[.ref (cDa Y (500 + q0)), .int sp, .ref (cDa Y (500 + q1)), .int dp, .int n], locked := none })) (sp := sp) (dp := dp) (n := n) (ty := shTy (cRt (C (60 + q0) 1))) g0 g1 (fun k h => by cases h) (fun k h => by cases h) hc0' hc1' (by rw [he0]; exact hi0) (by rw [he1, hf]; exact hi1) (shTy_p _).1 (shTy_p _).2 (by rw [arrV_size]; exact i32_lt _) (by rw [arrV_size]; exact i32_lt _) (by rw [arrV_size, arrV_size]; exact hout)
  have hE' : cE Z (fun q => (T.setVm vm').heap.size ≤ q) (T.setVm vm') (T.setVm vm').heap := by
    have : cE Z (fun q => H.size ≤ q) (T.setVm vm') H := ((hE.kept hS.2.1).narrow (fun q hq => hA q (Nat.le_trans hS.1 hq))).moved hA'
    rw [show (T.setVm vm').heap = H from hT]
    exact this
  obtain ⟨T', L, ce, n', hn', XT, hL, hk, hsz', hce, hcv, hfc, hsteps⟩ := over_throws X' (fun w hw a' => pay_in hts lw_self w hw a' _ X'.warmed) hE' htr (g := F0 m pc ls rest) rfl hsz (nf := { method := r, args := seenByNative methS #[.ref (cDa Y (500 + q0)), .int sp, .ref (cDa Y (500 + q1)), .int dp, .int n], locked := none }) rfl rfl rfl (nc_text w hwl).1 (nc_text w hwl).2 hst ⟨hR.1, by omega, hc.1, hc.2⟩
  have hT1 : (T.setVm vm').heap = H := hT
  rw [hT1] at hk hsz' hL
  have XT' : Stand p l e R s m args below meth c T' (locs ++ L) (cells + 3) (slots + 410) := { XT with same := sbn_wide XT.same hn' }
  have w1 : cPD Z Y A C T'.heap := ⟨hM.1.kept (fun k x hx => hk _ ((hM.1 k x hx).lt)), hM.2⟩
  have w2 : va_S A s.heap T'.heap (locs ++ L) := ⟨Nat.le_trans hS.1 hsz', fun q hq hn => by rw [hk q (Nat.lt_of_lt_of_le hq hS.1)]; exact hS.2.1 q hq hn, fun q hq => by
    rcases List.mem_append.mp hq with h | h
    · exact hS.2.2 q h
    · rw [hL q h]; exact hA _ (by have := hS.1; omega)⟩
  obtain ⟨t, a1, b1⟩ := kk _ ce T'.heap (locs ++ L) w1 w2 hce (by rw [hcv]; rfl) (by rw [← hA'.findClass]; exact hfc) T' rfl XT'
  refine ⟨t, step t fun acts => ?_, b1⟩
  refine nt_call (g := F0 m pc ls rest) X'.here acts N'.cls N'.meth N'.boot N'.native N'.noCode N'.noLock (by rw [N'.className, N'.name, N'.desc]; exact arraycopy_row p) ?_ (cls := "java/lang/ArrayIndexOutOfBoundsException") (msg := some ("arraycopy: " ++ w)) (fun E hE => ?_) ?_
  · rw [N'.className, N'.name]
    have e9 : nativeFrameWords "java/lang/System" "arraycopy" 5 ≤ 300 := by decide
    exact X'.notFull (g := F0 m pc ls rest) hsz (vars := nativeFrameWords "java/lang/System" "arraycopy" 5) (by omega) (by omega)
  · rw [arraycopyRow_sem]
    have := hwp E hE (fun _ _ _ _ => False) false []
    rw [hseen] at this ⊢
    exact this
  · rw [hp1', State.pushFrame, State.frames_setFrames _ hcur, State.setFrames_setFrames]
    exact hsteps.trans a1
end NR
