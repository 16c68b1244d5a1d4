/-! rows of the two texts; calls of inherited methods -/
theorem lw_U {own C owner : String} {idx : Nat} {x y : MethodName} {b : ByteArray} {L : Nat} {r : Option FieldType} (h1 : Cond.methodLink own idx x ∈ lw_all) (h2 : Cond.sameMethod x.cls owner x.name x.desc ∈ lw_all) (h3 : Cond.selects C x y ∈ lw_all) (h4 : Cond.instanceMethod y ∈ lw_all) (h5 : Cond.initialized y.cls ∈ lw_all) (h6 : Cond.code y b L r ∈ lw_all) : GoodIn lw_all (va_wsU own idx C owner x y (ws_ y b L r)) := by
  refine lw_app ?_ (lw_meth h6)
  intro w hw
  simp only [List.mem_cons, List.not_mem_nil, or_false] at hw
  rcases hw with e | e | e | e | e
  · rw [e]; exact h1
  · rw [e]; exact h2
  · rw [e]; exact h3
  · rw [e]; exact h4
  · rw [e]; exact h5
theorem setSlot_same {cell : Cell} {i : Nat} {v : Value} (h : cell.slots[i]? = some v) : cell.setSlot i v = cell := by
  unfold Cell.setSlot
  have e : cell.slots.setIfInBounds i v = cell.slots := by
    apply Array.ext_getElem?
    intro j
    rw [Array.getElem?_setIfInBounds]
    by_cases hj : i = j
    · subst hj
      rw [if_pos rfl, h]
      obtain ⟨q, -⟩ := Array.getElem?_eq_some_iff.mp h
      rw [if_pos q]
    · rw [if_neg hj]
  rw [e]
def cBl (q : Nat) : Nat := if q = 0 then 80 else 40
theorem cS_x {q : Nat} (h : q < 2) : 40 + q ∈ cS0 := by
  match q, h with
  | 0, _ | 1, _ => decide
theorem cS_b {q : Nat} (h : q < 2) : 42 + q ∈ cS0 := by
  match q, h with
  | 0, _ | 1, _ => decide
theorem cArr_b {q : Nat} (h : q < 2) : cArr (42 + q) 0 (cBl q) := by
  intro Z Y C
  match q, h with
  | 0, _ | 1, _ => rfl
section CWX
variable {p : Program} {l : Launch} {e : Env} {R : Room} {s : State} {m : MethodId} {args : Array Value} {below : List Frame} {meth : Method} {c : Code} {H : Heap} {locs : List Loc} {cells slots : Nat} {Q : State → Prop}
variable {pc : Nat} {ls : Array Slot} {rest st0 As : List Value} {cc bytes : ByteArray} {nL maxL index n : Nat} {ret ret' : Option FieldType} {own : String} {y : MethodName} {rm : Room} {Z : CZ} {Y : CY} {A : Nat → Prop} {C : St} {H0 : Heap}
theorem va_putSame {own ref Cn : String} {T : u_T} {N ci index : Nat} {D : va_G} {cl : List vw_C} {tys : List (ClassId × FieldType)} {ws : va_W} {a : Nat} {Ts : List Cond} (hexec : p.tables.exec = Jvm.exec) (hb : c.code = cc) (hts : ∀ w ∈ Ts, w.before args s = true) (hin : ∀ w ∈ u_ws Cn T N, w ∈ Ts) (hown : s.vm.findClass own = some m.cls) (hK : va_K D cl tys s) (hP : va_P D cl ws H) (q0 : Nat) {fs : List Value} (he : ws[q0]? = some (a, .inr (ci, fs))) (hc : cl[ci]? = some (Cn, T, N)) (k : Nat) (hk : k < N) (hlink : (Cond.fieldLink own index ref (T k).2.1 (T k).2.2.1).before args s = true) (hsame : ∀ x, s.fieldFound? (T k).1 (T k).2.1 (T k).2.2.1 = some x → s.fieldFound? ref (T k).2.1 (T k).2.2.1 = some x) (hfin : (T k).2.2.2 = false) {ty : FieldType} {v : Value} (hd : parseFieldDescriptor (T k).2.2.1 = some ty) (hn : narrow ty v = v) (hfit : fits ty v = true) (hv : fs[k]? = some v)
    (hdg : decode cc pc = .ok (.putfield index, 3)) (kk : ∀ lc : Loc, lc.base = a → W p l e R s m args below meth c H (locs ++ [lc]) cells slots Q (F0 m (pc + 3) ls rest)) : W p l e R s m args below meth c H locs cells slots Q (F0 m pc ls (v :: .ref a :: rest)) := by
  obtain ⟨r, h1, cell, q1, q2, q3, q4⟩ := hP q0 _ he
  have hr : r = (Cn, T, N) := Option.some.inj (h1.symm.trans hc)
  subst hr
  obtain ⟨hS, hfc, kC, hkC, hkind⟩ := hK.1 ci _ hc
  obtain ⟨cf, kf, fi, f, hi, hsl⟩ := hS k hk
  have hlay := hts _ (hin _ (u_in_lay hk))
  unfold u_lay at hlay
  rw [if_neg (by rw [hfin]; decide)] at hlay
  have hst := (u_facts hfc hkC (u_lays hts hin hk) hi).1
  have h6 := u_store hfc hkC hkind hlay hi hd hn hfit
  refine W.putK hexec hb (f := f) ⟨hown, hlink, ⟨_, _, _, hsame _ hi⟩, hst⟩ (by rw [q2]; exact h6) q1 q3 (by rw [hsl]; exact k2_hasslot (q4 k hk)) rfl rfl hdg fun H' e1 e2 e3 => ?_
  have hslot : cell.slots[f.slot]? = some v := by
    rw [hsl, q4 k hk]
    simp [vp_V, hv]
  have e : H' = H := by
    apply Array.ext_getElem?
    intro q
    by_cases hq : q = a
    · subst hq
      rw [e1, q1, setSlot_same hslot]
    · exact e3 q hq
  subst e
  exact kk _ rfl
theorem gt0 (X : CCx p s m args meth c cc nL ret RX2 Z) (hM : cPD Z Y A C H) {q : Nat} (hb8 : q < 2) (hdg : decode cc pc = .ok (.getfield 9, 3)) (kk : W p l e R s m args below meth c H locs cells slots Q (F0 m (pc + 3) ls (.ref (cSa Z (42 + q)) :: rest))) : W p l e R s m args below meth c H locs cells slots Q (F0 m pc ls (.ref (cSa Z (40 + q)) :: rest)) := by
  match q, hb8 with
  | 0, _ =>
    obtain ⟨pos, hp, hq⟩ := cWs_at (Z := Z) (cHs_S (Y := Y) (C := C) (show 40 ∈ cS0 by decide))
    exact va_get X.1.1 X.1.2.1 X.1.2.2.2.2.2.2 in_X3 X.1.2.2.2.2.2.1 X.2.1 hM.1 pos hq rfl 0 (by decide) (X.1.2.2.2.2.2.2 _ q165) (fun _ h => h) rfl hdg kk
  | 1, _ =>
    obtain ⟨pos, hp, hq⟩ := cWs_at (Z := Z) (cHs_S (Y := Y) (C := C) (show 41 ∈ cS0 by decide))
    exact va_get X.1.1 X.1.2.1 X.1.2.2.2.2.2.2 in_X4 X.1.2.2.2.2.2.1 X.2.1 hM.1 pos hq rfl 0 (by decide) (X.1.2.2.2.2.2.2 _ q165) (fun _ h => h) rfl hdg kk
theorem gt1 (X : CCx p s m args meth c cc nL ret RX2 Z) (hM : cPD Z Y A C H) {q : Nat} (hb8 : q < 2) (hdg : decode cc pc = .ok (.getfield 15, 3)) (kk : W p l e R s m args below meth c H locs cells slots Q (F0 m (pc + 3) ls (.int (C (40 + q) 1) :: rest))) : W p l e R s m args below meth c H locs cells slots Q (F0 m pc ls (.ref (cSa Z (40 + q)) :: rest)) := by
  match q, hb8 with
  | 0, _ =>
    obtain ⟨pos, hp, hq⟩ := cWs_at (Z := Z) (cHs_S (Y := Y) (C := C) (show 40 ∈ cS0 by decide))
    exact va_get X.1.1 X.1.2.1 X.1.2.2.2.2.2.2 in_X3 X.1.2.2.2.2.2.1 X.2.1 hM.1 pos hq rfl 1 (by decide) (X.1.2.2.2.2.2.2 _ q166) (fun _ h => h) rfl hdg kk
  | 1, _ =>
    obtain ⟨pos, hp, hq⟩ := cWs_at (Z := Z) (cHs_S (Y := Y) (C := C) (show 41 ∈ cS0 by decide))
    exact va_get X.1.1 X.1.2.1 X.1.2.2.2.2.2.2 in_X4 X.1.2.2.2.2.2.1 X.2.1 hM.1 pos hq rfl 1 (by decide) (X.1.2.2.2.2.2.2 _ q166) (fun _ h => h) rfl hdg kk
theorem gtn1 (X : CCx p s m args meth c cc nL ret RX0 Z) (hM : cPD Z Y A C H) {q : Nat} (hb8 : q < 2) (hdg : decode cc pc = .ok (.getfield 399, 3)) (kk : W p l e R s m args below meth c H locs cells slots Q (F0 m (pc + 3) ls (.int (C (40 + q) 1) :: rest))) : W p l e R s m args below meth c H locs cells slots Q (F0 m pc ls (.ref (cSa Z (40 + q)) :: rest)) := by
  match q, hb8 with
  | 0, _ =>
    obtain ⟨pos, hp, hq⟩ := cWs_at (Z := Z) (cHs_S (Y := Y) (C := C) (show 40 ∈ cS0 by decide))
    exact va_getN (host := "SecondChances") X.1.1 X.1.2.1 X.1.2.2.2.2.2.2 in_X3 X.1.2.2.2.2.2.1 X.2.1 hM.1 pos hq rfl 1 (by decide) (va_Nw.use rfl (X.2.2 _ (List.mem_of_getElem? (i := 3) rfl))) (fun _ h => h) rfl hdg kk
  | 1, _ =>
    obtain ⟨pos, hp, hq⟩ := cWs_at (Z := Z) (cHs_S (Y := Y) (C := C) (show 41 ∈ cS0 by decide))
    exact va_getN (host := "SecondChances") X.1.1 X.1.2.1 X.1.2.2.2.2.2.2 in_X4 X.1.2.2.2.2.2.1 X.2.1 hM.1 pos hq rfl 1 (by decide) (va_Nw.use rfl (X.2.2 _ (List.mem_of_getElem? (i := 3) rfl))) (fun _ h => h) rfl hdg kk
theorem gt2 (X : CCx p s m args meth c cc nL ret RX2 Z) (hM : cPD Z Y A C H) {q : Nat} (hb8 : q < 2) (hdg : decode cc pc = .ok (.getfield 23, 3)) (kk : W p l e R s m args below meth c H locs cells slots Q (F0 m (pc + 3) ls (.int (C (40 + q) 2) :: rest))) : W p l e R s m args below meth c H locs cells slots Q (F0 m pc ls (.ref (cSa Z (40 + q)) :: rest)) := by
  match q, hb8 with
  | 0, _ =>
    obtain ⟨pos, hp, hq⟩ := cWs_at (Z := Z) (cHs_S (Y := Y) (C := C) (show 40 ∈ cS0 by decide))
    exact va_get X.1.1 X.1.2.1 X.1.2.2.2.2.2.2 in_X3 X.1.2.2.2.2.2.1 X.2.1 hM.1 pos hq rfl 2 (by decide) (X.1.2.2.2.2.2.2 _ q168) (fun _ h => h) rfl hdg kk
  | 1, _ =>
    obtain ⟨pos, hp, hq⟩ := cWs_at (Z := Z) (cHs_S (Y := Y) (C := C) (show 41 ∈ cS0 by decide))
    exact va_get X.1.1 X.1.2.1 X.1.2.2.2.2.2.2 in_X4 X.1.2.2.2.2.2.1 X.2.1 hM.1 pos hq rfl 2 (by decide) (X.1.2.2.2.2.2.2 _ q168) (fun _ h => h) rfl hdg kk
theorem gt3 (X : CCx p s m args meth c cc nL ret RX2 Z) (hM : cPD Z Y A C H) {q : Nat} (hb8 : q < 2) (hdg : decode cc pc = .ok (.getfield 19, 3)) (kk : W p l e R s m args below meth c H locs cells slots Q (F0 m (pc + 3) ls (.int (C (40 + q) 3) :: rest))) : W p l e R s m args below meth c H locs cells slots Q (F0 m pc ls (.ref (cSa Z (40 + q)) :: rest)) := by
  match q, hb8 with
  | 0, _ =>
    obtain ⟨pos, hp, hq⟩ := cWs_at (Z := Z) (cHs_S (Y := Y) (C := C) (show 40 ∈ cS0 by decide))
    exact va_get X.1.1 X.1.2.1 X.1.2.2.2.2.2.2 in_X3 X.1.2.2.2.2.2.1 X.2.1 hM.1 pos hq rfl 3 (by decide) (X.1.2.2.2.2.2.2 _ q169) (fun _ h => h) rfl hdg kk
  | 1, _ =>
    obtain ⟨pos, hp, hq⟩ := cWs_at (Z := Z) (cHs_S (Y := Y) (C := C) (show 41 ∈ cS0 by decide))
    exact va_get X.1.1 X.1.2.1 X.1.2.2.2.2.2.2 in_X4 X.1.2.2.2.2.2.1 X.2.1 hM.1 pos hq rfl 3 (by decide) (X.1.2.2.2.2.2.2 _ q169) (fun _ h => h) rfl hdg kk
theorem gt4 (X : CCx p s m args meth c cc nL ret RX2 Z) (hM : cPD Z Y A C H) {q : Nat} (hb8 : q < 2) (hdg : decode cc pc = .ok (.getfield 66, 3)) (kk : W p l e R s m args below meth c H locs cells slots Q (F0 m (pc + 3) ls (.int (C (40 + q) 4) :: rest))) : W p l e R s m args below meth c H locs cells slots Q (F0 m pc ls (.ref (cSa Z (40 + q)) :: rest)) := by
  match q, hb8 with
  | 0, _ =>
    obtain ⟨pos, hp, hq⟩ := cWs_at (Z := Z) (cHs_S (Y := Y) (C := C) (show 40 ∈ cS0 by decide))
    exact va_get X.1.1 X.1.2.1 X.1.2.2.2.2.2.2 in_X3 X.1.2.2.2.2.2.1 X.2.1 hM.1 pos hq rfl 4 (by decide) (X.1.2.2.2.2.2.2 _ q170) (fun _ h => h) rfl hdg kk
  | 1, _ =>
    obtain ⟨pos, hp, hq⟩ := cWs_at (Z := Z) (cHs_S (Y := Y) (C := C) (show 41 ∈ cS0 by decide))
    exact va_get X.1.1 X.1.2.1 X.1.2.2.2.2.2.2 in_X4 X.1.2.2.2.2.2.1 X.2.1 hM.1 pos hq rfl 4 (by decide) (X.1.2.2.2.2.2.2 _ q170) (fun _ h => h) rfl hdg kk
theorem pt1 (X : CCx p s m args meth c cc nL ret RX2 Z) (hM : cPD Z Y A C H) (hS : va_S A H0 H locs) {q : Nat} (hb8 : q < 2) (hdg : decode cc pc = .ok (.putfield 15, 3)) {v : Int32} (kk : ∀ (H1 : Heap) (locs1 : List Loc) (J : St), J = upd2 C (40 + q) 1 v → cPD Z Y A J H1 → va_S A H0 H1 locs1 → W p l e R s m args below meth c H1 locs1 cells slots Q (F0 m (pc + 3) ls rest)) : W p l e R s m args below meth c H locs cells slots Q (F0 m pc ls (.int v :: .ref (cSa Z (40 + q)) :: rest)) := by
  match q, hb8 with
  | 0, _ =>
    obtain ⟨pos, hp, hq⟩ := cWs_at (Z := Z) (cHs_S (Y := Y) (C := C) (show 40 ∈ cS0 by decide))
    exact va_put X.1.1 X.1.2.1 X.1.2.2.2.2.2.2 in_X3 tyX3 tyX3_ok nmX3 X.1.2.2.2.2.2.1 X.2.1 hM.1 hM.2.1 hS pos hq rfl 1 (by decide) (X.1.2.2.2.2.2.2 _ q166) (fun _ h => h) rfl (ty := .int) rfl rfl rfl (Nat.le_of_ble_eq_true rfl) hdg (fun H1 locs1 h1 h2 h3 => kk H1 locs1 _ rfl (cPD_upd hM.2.2 (by decide) hp h1 h2) h3)
  | 1, _ =>
    obtain ⟨pos, hp, hq⟩ := cWs_at (Z := Z) (cHs_S (Y := Y) (C := C) (show 41 ∈ cS0 by decide))
    exact va_put X.1.1 X.1.2.1 X.1.2.2.2.2.2.2 in_X4 tyX4 tyX4_ok nmX4 X.1.2.2.2.2.2.1 X.2.1 hM.1 hM.2.1 hS pos hq rfl 1 (by decide) (X.1.2.2.2.2.2.2 _ q166) (fun _ h => h) rfl (ty := .int) rfl rfl rfl (Nat.le_of_ble_eq_true rfl) hdg (fun H1 locs1 h1 h2 h3 => kk H1 locs1 _ rfl (cPD_upd hM.2.2 (by decide) hp h1 h2) h3)
theorem pt2 (X : CCx p s m args meth c cc nL ret RX2 Z) (hM : cPD Z Y A C H) (hS : va_S A H0 H locs) {q : Nat} (hb8 : q < 2) (hdg : decode cc pc = .ok (.putfield 23, 3)) {v : Int32} (kk : ∀ (H1 : Heap) (locs1 : List Loc) (J : St), J = upd2 C (40 + q) 2 v → cPD Z Y A J H1 → va_S A H0 H1 locs1 → W p l e R s m args below meth c H1 locs1 cells slots Q (F0 m (pc + 3) ls rest)) : W p l e R s m args below meth c H locs cells slots Q (F0 m pc ls (.int v :: .ref (cSa Z (40 + q)) :: rest)) := by
  match q, hb8 with
  | 0, _ =>
    obtain ⟨pos, hp, hq⟩ := cWs_at (Z := Z) (cHs_S (Y := Y) (C := C) (show 40 ∈ cS0 by decide))
    exact va_put X.1.1 X.1.2.1 X.1.2.2.2.2.2.2 in_X3 tyX3 tyX3_ok nmX3 X.1.2.2.2.2.2.1 X.2.1 hM.1 hM.2.1 hS pos hq rfl 2 (by decide) (X.1.2.2.2.2.2.2 _ q168) (fun _ h => h) rfl (ty := .int) rfl rfl rfl (Nat.le_of_ble_eq_true rfl) hdg (fun H1 locs1 h1 h2 h3 => kk H1 locs1 _ rfl (cPD_upd hM.2.2 (by decide) hp h1 h2) h3)
  | 1, _ =>
    obtain ⟨pos, hp, hq⟩ := cWs_at (Z := Z) (cHs_S (Y := Y) (C := C) (show 41 ∈ cS0 by decide))
    exact va_put X.1.1 X.1.2.1 X.1.2.2.2.2.2.2 in_X4 tyX4 tyX4_ok nmX4 X.1.2.2.2.2.2.1 X.2.1 hM.1 hM.2.1 hS pos hq rfl 2 (by decide) (X.1.2.2.2.2.2.2 _ q168) (fun _ h => h) rfl (ty := .int) rfl rfl rfl (Nat.le_of_ble_eq_true rfl) hdg (fun H1 locs1 h1 h2 h3 => kk H1 locs1 _ rfl (cPD_upd hM.2.2 (by decide) hp h1 h2) h3)
theorem pt3 (X : CCx p s m args meth c cc nL ret RX2 Z) (hM : cPD Z Y A C H) (hS : va_S A H0 H locs) {q : Nat} (hb8 : q < 2) (hdg : decode cc pc = .ok (.putfield 19, 3)) {v : Int32} (hz : zb v = true) (kk : ∀ (H1 : Heap) (locs1 : List Loc) (J : St), J = upd2 C (40 + q) 3 v → cPD Z Y A J H1 → va_S A H0 H1 locs1 → W p l e R s m args below meth c H1 locs1 cells slots Q (F0 m (pc + 3) ls rest)) : W p l e R s m args below meth c H locs cells slots Q (F0 m pc ls (.int v :: .ref (cSa Z (40 + q)) :: rest)) := by
  match q, hb8 with
  | 0, _ =>
    obtain ⟨pos, hp, hq⟩ := cWs_at (Z := Z) (cHs_S (Y := Y) (C := C) (show 40 ∈ cS0 by decide))
    exact va_put X.1.1 X.1.2.1 X.1.2.2.2.2.2.2 in_X3 tyX3 tyX3_ok nmX3 X.1.2.2.2.2.2.1 X.2.1 hM.1 hM.2.1 hS pos hq rfl 3 (by decide) (X.1.2.2.2.2.2.2 _ q169) (fun _ h => h) rfl (ty := .boolean) rfl (zb_n hz) (zb_f hz) (Nat.le_of_ble_eq_true rfl) hdg (fun H1 locs1 h1 h2 h3 => kk H1 locs1 _ rfl (cPD_upd hM.2.2 (by decide) hp h1 h2) h3)
  | 1, _ =>
    obtain ⟨pos, hp, hq⟩ := cWs_at (Z := Z) (cHs_S (Y := Y) (C := C) (show 41 ∈ cS0 by decide))
    exact va_put X.1.1 X.1.2.1 X.1.2.2.2.2.2.2 in_X4 tyX4 tyX4_ok nmX4 X.1.2.2.2.2.2.1 X.2.1 hM.1 hM.2.1 hS pos hq rfl 3 (by decide) (X.1.2.2.2.2.2.2 _ q169) (fun _ h => h) rfl (ty := .boolean) rfl (zb_n hz) (zb_f hz) (Nat.le_of_ble_eq_true rfl) hdg (fun H1 locs1 h1 h2 h3 => kk H1 locs1 _ rfl (cPD_upd hM.2.2 (by decide) hp h1 h2) h3)
theorem pt4 (X : CCx p s m args meth c cc nL ret RX2 Z) (hM : cPD Z Y A C H) (hS : va_S A H0 H locs) {q : Nat} (hb8 : q < 2) (hdg : decode cc pc = .ok (.putfield 66, 3)) {v : Int32} (kk : ∀ (H1 : Heap) (locs1 : List Loc) (J : St), J = upd2 C (40 + q) 4 v → cPD Z Y A J H1 → va_S A H0 H1 locs1 → W p l e R s m args below meth c H1 locs1 cells slots Q (F0 m (pc + 3) ls rest)) : W p l e R s m args below meth c H locs cells slots Q (F0 m pc ls (.int v :: .ref (cSa Z (40 + q)) :: rest)) := by
  match q, hb8 with
  | 0, _ =>
    obtain ⟨pos, hp, hq⟩ := cWs_at (Z := Z) (cHs_S (Y := Y) (C := C) (show 40 ∈ cS0 by decide))
    exact va_put X.1.1 X.1.2.1 X.1.2.2.2.2.2.2 in_X3 tyX3 tyX3_ok nmX3 X.1.2.2.2.2.2.1 X.2.1 hM.1 hM.2.1 hS pos hq rfl 4 (by decide) (X.1.2.2.2.2.2.2 _ q170) (fun _ h => h) rfl (ty := .int) rfl rfl rfl (Nat.le_of_ble_eq_true rfl) hdg (fun H1 locs1 h1 h2 h3 => kk H1 locs1 _ rfl (cPD_upd hM.2.2 (by decide) hp h1 h2) h3)
  | 1, _ =>
    obtain ⟨pos, hp, hq⟩ := cWs_at (Z := Z) (cHs_S (Y := Y) (C := C) (show 41 ∈ cS0 by decide))
    exact va_put X.1.1 X.1.2.1 X.1.2.2.2.2.2.2 in_X4 tyX4 tyX4_ok nmX4 X.1.2.2.2.2.2.1 X.2.1 hM.1 hM.2.1 hS pos hq rfl 4 (by decide) (X.1.2.2.2.2.2.2 _ q170) (fun _ h => h) rfl (ty := .int) rfl rfl rfl (Nat.le_of_ble_eq_true rfl) hdg (fun H1 locs1 h1 h2 h3 => kk H1 locs1 _ rfl (cPD_upd hM.2.2 (by decide) hp h1 h2) h3)
theorem pt3F {free : Addr → Prop} (X : CCx p s m args meth c cc nL ret RX2 Z) (hM : cPD Z Y A C H) {q : Nat} (hb8 : q < 2) (hv : C (40 + q) 3 = 1) (hL : ∀ l ∈ locs, free l.base) (hF : ∀ a, cFr Z a → free a) (hdg : decode cc pc = .ok (.putfield 19, 3)) (kk : ∀ locs1 : List Loc, (∀ l ∈ locs1, free l.base) → W p l e R s m args below meth c H locs1 cells slots Q (F0 m (pc + 3) ls rest)) : W p l e R s m args below meth c H locs cells slots Q (F0 m pc ls (.int 1 :: .ref (cSa Z (40 + q)) :: rest)) := by
  match q, hb8 with
  | 0, _ =>
    obtain ⟨pos, hp, hq⟩ := cWs_at (Z := Z) (cHs_S (Y := Y) (C := C) (show 40 ∈ cS0 by decide))
    exact va_putSame X.1.1 X.1.2.1 X.1.2.2.2.2.2.2 in_X3 X.1.2.2.2.2.2.1 X.2.1 hM.1 pos hq rfl 3 (by decide) (X.1.2.2.2.2.2.2 _ q169) (fun _ h => h) rfl (ty := .boolean) rfl rfl rfl (show some (Value.int (C 40 3)) = some (.int 1) by rw [show C 40 3 = 1 from hv]) hdg (fun lc hb => kk _ (fun l hl => by
      rcases List.mem_append.mp hl with h | h
      · exact hL l h
      · rw [List.mem_singleton.mp h, hb]; exact hF _ (Or.inl rfl)))
  | 1, _ =>
    obtain ⟨pos, hp, hq⟩ := cWs_at (Z := Z) (cHs_S (Y := Y) (C := C) (show 41 ∈ cS0 by decide))
    exact va_putSame X.1.1 X.1.2.1 X.1.2.2.2.2.2.2 in_X4 X.1.2.2.2.2.2.1 X.2.1 hM.1 pos hq rfl 3 (by decide) (X.1.2.2.2.2.2.2 _ q169) (fun _ h => h) rfl (ty := .boolean) rfl rfl rfl (show some (Value.int (C 41 3)) = some (.int 1) by rw [show C 41 3 = 1 from hv]) hdg (fun lc hb => kk _ (fun l hl => by
      rcases List.mem_append.mp hl with h | h
      · exact hL l h
      · rw [List.mem_singleton.mp h, hb]; exact hF _ (Or.inr rfl)))
theorem c_recvX0 (X : CCx p s m args meth c cc nL ret own Z) (hM : cPD Z Y A C H) : ∃ cell : Cell, H[cSa Z (40 + 0)]? = some cell ∧ cell.vm.isStatics = false ∧ s.vm.findClass RX3 = some cell.cls := by
  obtain ⟨pos, hp, hq⟩ := cWs_at (Z := Z) (cHs_S (Y := Y) (C := C) (show 40 ∈ cS0 by decide))
  exact va_recv (ci := 3) (q0 := pos) X.2.1 hM.1 rfl hq
theorem c_recvX1 (X : CCx p s m args meth c cc nL ret own Z) (hM : cPD Z Y A C H) : ∃ cell : Cell, H[cSa Z (40 + 1)]? = some cell ∧ cell.vm.isStatics = false ∧ s.vm.findClass RX4 = some cell.cls := by
  obtain ⟨pos, hp, hq⟩ := cWs_at (Z := Z) (cHs_S (Y := Y) (C := C) (show 41 ∈ cS0 by decide))
  exact va_recv (ci := 4) (q0 := pos) X.2.1 hM.1 rfl hq
theorem f_roU {v : Option Value} {free : Addr → Prop} {b : Addr} {Cn owner : String} {x : MethodName} (X : CCx p s m args meth c cc nL ret own Z) (hM : cPD Z Y A C H) (hrc : ∃ cell : Cell, H[b]? = some cell ∧ cell.vm.isStatics = false ∧ s.vm.findClass Cn = some cell.cls) (hL : ∀ q ∈ locs, free q.base) (hF : ∀ q, cFr Z q → free q) (hT : Met l y (ws_ y bytes maxL ret') rm (va_Pc (.ref b :: As) (cS Z Y A C)) (Qro v) 0 0 (cFr Z)) (hq : GoodIn lw_all (va_wsU own index Cn owner x y (ws_ y bytes maxL ret'))) (hyx : y = ⟨owner, x.name, x.desc⟩)
    (hd : owner ≠ "java/lang/invoke/MethodHandle" ∧ owner ≠ "java/lang/invoke/VarHandle" ∧ (parseMethodDescriptor x.desc).map (fun d => d.parameters.length) = some n)
    (hrm : rm.cells = 0 ∧ rm.slots = 0) (hR : rm.frames + 1 ≤ R.frames ∧ 8 + (maxL + 11) + rm.locals ≤ R.locals) (hc : cells ≤ R.cells ∧ slots ≤ R.slots) (hn : As.length = n) (hs : ls.size = nL) (hst : st0 = As.reverse ++ .ref b :: rest) (hw : (rest.map fun v => v.category).sum ≤ 8) (hdg : decode cc pc = .ok (.invokevirtual index, 3))
    (kk : ∀ locs1 : List Loc, (∀ q ∈ locs1, free q.base) → W p l e R s m args below meth c H locs1 cells slots Q (F0 m (pc + 3) ls (v.toList ++ rest))) : W p l e R s m args below meth c H locs cells slots Q (F0 m pc ls st0) :=
  c_rof (va_runU (As := As) (rest := rest) X.1.fix hT (va_cwU n X.1.2.2.2.2.2.2 hq rfl hrm.1 hrm.2 hyx hd hR) ⟨cS.blind, hrc, fun U hU hW => ⟨rfl, by rw [hU]; exact hM, cKs.warm hW X.2⟩⟩ rfl hn hs hst (lv_room hw) hdg hc) hL hF kk
theorem f_roUI {v : Int32} {free : Addr → Prop} {b : Addr} {Cn owner : String} {x : MethodName} (X : CCx p s m args meth c cc nL ret own Z) (hM : cPD Z Y A C H) (hrc : ∃ cell : Cell, H[b]? = some cell ∧ cell.vm.isStatics = false ∧ s.vm.findClass Cn = some cell.cls) (hL : ∀ q ∈ locs, free q.base) (hF : ∀ q, cFr Z q → free q) (hT : Met l y (ws_ y bytes maxL ret') rm (va_Pc (.ref b :: As) (cS Z Y A C)) (Qro (some (.int v))) 0 0 (cFr Z)) (hq : GoodIn lw_all (va_wsU own index Cn owner x y (ws_ y bytes maxL ret'))) (hyx : y = ⟨owner, x.name, x.desc⟩)
    (hd : owner ≠ "java/lang/invoke/MethodHandle" ∧ owner ≠ "java/lang/invoke/VarHandle" ∧ (parseMethodDescriptor x.desc).map (fun d => d.parameters.length) = some n)
    (hrm : rm.cells = 0 ∧ rm.slots = 0) (hR : rm.frames + 1 ≤ R.frames ∧ 8 + (maxL + 11) + rm.locals ≤ R.locals) (hc : cells ≤ R.cells ∧ slots ≤ R.slots) (hn : As.length = n) (hs : ls.size = nL) (hst : st0 = As.reverse ++ .ref b :: rest) (hw : (rest.map fun v => v.category).sum ≤ 8) (hdg : decode cc pc = .ok (.invokevirtual index, 3))
    (kk : ∀ locs1 : List Loc, (∀ q ∈ locs1, free q.base) → W p l e R s m args below meth c H locs1 cells slots Q (F0 m (pc + 3) ls (.int v :: rest))) : W p l e R s m args below meth c H locs cells slots Q (F0 m pc ls st0) :=
  f_roU X hM hrc hL hF hT hq hyx hd hrm hR hc hn hs hst hw hdg kk
end CWX
