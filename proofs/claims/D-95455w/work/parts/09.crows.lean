/-! rows over the component's world -/
def ix_ {β : Type} (n : Nat) (i : Int32) (k : Nat → Option β) : Option β := if inb i n = true then k i.toNatClampNeg else none
theorem ix_e {β : Type} {n : Nat} {i : Int32} {k : Nat → Option β} {r : β} (h : ix_ n i k = some r) : vp_in i n ∧ i.toNatClampNeg < n ∧ ∀ q, q = i.toNatClampNeg → k q = some r := by
  unfold ix_ at h
  by_cases q : inb i n = true
  · rw [if_pos q] at h
    have hv := inb_in q
    exact ⟨hv, Nat.not_le.mp fun z => hv (Or.inr z), fun v e => by rw [e]; exact h⟩
  · rw [if_neg q] at h
    cases h
/-- a field of one of the n objects of a kind -/
def fx_ {β : Type} (n d : Nat) (v : Int32) (k : Int32 → Option β) : Option β := if d < n then k v else none
theorem fx_e {β : Type} {n d : Nat} {v : Int32} {k : Int32 → Option β} {r : β} (h : fx_ n d v k = some r) : d < n ∧ ∀ z, z = v → k z = some r := by
  unfold fx_ at h
  by_cases q : d < n
  · rw [if_pos q] at h
    exact ⟨q, fun z e => by rw [e]; exact h⟩
  · rw [if_neg q] at h
    cases h
def gd_ {β : Type} (c : Prop) [Decidable c] (k : Option β) : Option β := if c then k else none
theorem gd_e {β : Type} {c : Prop} {i : Decidable c} {k : Option β} {r : β} (h : @gd_ β c i k = some r) : c ∧ k = some r := by
  unfold gd_ at h
  by_cases q : c
  · rw [if_pos q] at h
    exact ⟨q, h⟩
  · rw [if_neg q] at h
    cases h
theorem cAr_s {Z : CZ} {Y : CY} {k : Nat} (h : k < 100) : cAr Z Y k = cSa Z k := if_pos h
theorem cAr_d {Z : CZ} {Y : CY} {k : Nat} (h : 100 ≤ k) : cAr Z Y k = cDa Y k := if_neg (by omega)
def cFr (Z : CZ) : Nat → Prop := fun q => q = cSa Z 40 ∨ q = cSa Z 41
/-- what doesn't speak of the banks k0 doesn't change -/
theorem cSt_congr {Z : CZ} {Y : CY} {C C' : St} {k : Nat} (h : C' k = C k) (h5 : ∀ b, 50 ≤ b → b < 80 → C' b = C b) : cSt Z Y C' k = cSt Z Y C k := by
  have e60 := h5 60 (by decide) (by decide)
  have e61 := h5 61 (by decide) (by decide)
  have e62 := h5 62 (by decide) (by decide)
  have e63 := h5 63 (by decide) (by decide)
  unfold cSt
  split <;> first | rfl | (rw [h]; done) | (rw [e60]; done) | (rw [e61]; done) | (rw [e62]; done) | (rw [e63]; done) | (simp only [h])
theorem cNn_congr {C C' : St} {j : Nat} (hj : j < 3) (h5 : ∀ b, 50 ≤ b → b < 80 → C' b = C b) : cNn C' j = cNn C j := by
  unfold cNn
  rw [h5 (50 + j) (by omega) (by omega)]
theorem cHs_congr {Y : CY} {C C' : St} (h5 : ∀ b, 50 ≤ b → b < 80 → C' b = C b) : cHs Y C' = cHs Y C := by
  have e60 := h5 60 (by decide) (by decide)
  have e61 := h5 61 (by decide) (by decide)
  have e62 := h5 62 (by decide) (by decide)
  have e63 := h5 63 (by decide) (by decide)
  have q : (List.range 4).filter (fun s => decide (C' (60 + s) 0 = 1)) = (List.range 4).filter (fun s => decide (C (60 + s) 0 = 1)) := by
    apply List.filter_congr
    intro x hx
    rw [h5 (60 + x) (by omega) (by have := List.mem_range.mp hx; omega)]
  unfold cHs
  rw [cNn_congr (j := 0) (by decide) h5, cNn_congr (j := 1) (by decide) h5, cNn_congr (j := 2) (by decide) h5, q]
theorem cWf_congr {Y : CY} {C C' : St} (h5 : ∀ b, 50 ≤ b → b < 80 → C' b = C b) (h : cWf Y C) : cWf Y C' := fun j hj => by
  rw [cNn_congr hj h5, h5 (50 + j) (by omega) (by omega)]
  exact h j hj
theorem cCo_d {Z : CZ} {Y : CY} {C : St} {q : Nat} (h : q < 100) : cCo Z Y C (100 + q) = .inr (7, [.int (C (100 + q) 0), .int (C (100 + q) 1), .int (C (100 + q) 2), .int (C (100 + q) 3), .int (C (100 + q) 4)]) := by
  unfold cCo
  rw [if_neg (by omega), if_pos (by omega)]
theorem cCo_g {Z : CZ} {Y : CY} {C : St} {q : Nat} (h : q < 100) : cCo Z Y C (200 + q) = .inr (8, [.int (C (200 + q) 0), .int (C (200 + q) 1), .int (C (200 + q) 2)]) := by
  unfold cCo
  rw [if_neg (by omega), if_neg (by omega), if_pos (by omega)]
theorem cCo_a {Z : CZ} {Y : CY} {C : St} {q : Nat} (h : q < 100) : cCo Z Y C (300 + q) = .inl (cAc Z 0, 2, .inl (C (300 + q))) := by
  unfold cCo
  rw [if_neg (by omega), if_neg (by omega), if_neg (by omega), if_pos (by omega)]
theorem cCo_e {Z : CZ} {Y : CY} {C : St} {j : Nat} (h : j < 100) : cCo Z Y C (400 + j) = .inl (cAc Z 6, 10, .inr (.inr (.inr (.inr (fun i => if i < cNn C j then some (cDa Y (100 * (j + 1) + i)) else none))))) := by
  unfold cCo
  rw [if_neg (by omega), if_neg (by omega), if_neg (by omega), if_neg (by omega), if_pos (by omega), show 400 + j - 400 = j by omega, show 400 + j - 399 = j + 1 by omega]
theorem cCo_r {Z : CZ} {Y : CY} {C : St} {s : Nat} : cCo Z Y C (500 + s) = .inl (cAc Z (cRt (C (60 + s) 1)), (C (60 + s) 2).toNatClampNeg, .inl (C (70 + s))) := by
  unfold cCo
  rw [if_neg (by omega), if_neg (by omega), if_neg (by omega), if_neg (by omega), if_neg (by omega), show 500 + s - 500 = s by omega]
theorem cCo_congr {Z : CZ} {Y : CY} {C C' : St} {k : Nat} (hw : cWf Y C) (hk : k ∈ cHs Y C) (h : C' k = C k) (h5 : ∀ b, 50 ≤ b → b < 80 → C' b = C b) : cCo Z Y C' k = cCo Z Y C k := by
  rcases cHs_ge hw hk with ⟨-, q⟩ | ⟨d, hd, rfl⟩ | ⟨d, hd, rfl⟩ | ⟨d, hd, rfl⟩ | ⟨j, hj, -, rfl⟩ | ⟨s, hs, -, rfl⟩
  · unfold cCo
    rw [if_pos q, if_pos q]
    exact cSt_congr h h5
  · have := (hw 0 (by decide)).1
    rw [cCo_d (by omega), cCo_d (by omega), h]
  · have := (hw 1 (by decide)).1
    rw [cCo_g (by omega), cCo_g (by omega), h]
  · have := (hw 2 (by decide)).1
    rw [cCo_a (by omega), cCo_a (by omega), h]
  · rw [cCo_e (by omega), cCo_e (by omega), cNn_congr hj h5]
  · rw [cCo_r, cCo_r, h5 (60 + s) (by omega) (by omega), h5 (70 + s) (by omega) (by omega)]
theorem upd2_5 {C : St} {k i : Nat} {v : Int32} (hk : k < 50 ∨ 80 ≤ k) : ∀ b, 50 ≤ b → b < 80 → upd2 C k i v b = C b := fun b h1 h2 => upd2_other C i v (by omega)
/-- a number is written: its cell's new picture, the rest as it was -/
theorem cPD_upd {Z : CZ} {Y : CY} {A : Nat → Prop} {C : St} {k i pos : Nat} {v : Int32} {H1 : Heap} (hw : cWf Y C) (hk : k < 50 ∨ 80 ≤ k) (hp : (cHs Y C)[pos]? = some k)
    (h1 : va_P Z.1 clA ((cWs Z Y C).set pos (cAr Z Y k, cCo Z Y (upd2 C k i v) k)) H1) (h2 : va_D A ((cWs Z Y C).set pos (cAr Z Y k, cCo Z Y (upd2 C k i v) k))) : cPD Z Y A (upd2 C k i v) H1 := by
  have h5 := upd2_5 (C := C) (i := i) (v := v) hk
  rw [cWs_set hw hp (cHs_congr h5) (fun k' hk' hne => cCo_congr hw hk' (upd2_other C i v hne) h5)] at h1 h2
  exact ⟨h1, h2, cWf_congr h5 hw⟩
/-- a handle of an array of numbers -/
def cArr (k t n : Nat) : Prop := ∀ (Z : CZ) (Y : CY) (C : St), cCo Z Y C k = .inl (cAc Z t, n, .inl (C k))
theorem cArr_f {q : Nat} (h : q < 8) : cArr (20 + q) 0 4 := by
  intro Z Y C
  match q, h with
  | 0, _ => rfl
  | 1, _ => rfl
  | 2, _ => rfl
  | 3, _ => rfl
  | 4, _ => rfl
  | 5, _ => rfl
  | 6, _ => rfl
  | 7, _ => rfl
theorem cArr_t {q : Nat} (h : q < 8) : cArr (30 + q) 0 256 := by
  intro Z Y C
  match q, h with
  | 0, _ => rfl
  | 1, _ => rfl
  | 2, _ => rfl
  | 3, _ => rfl
  | 4, _ => rfl
  | 5, _ => rfl
  | 6, _ => rfl
  | 7, _ => rfl
theorem cArr_p {q : Nat} (h : q < 100) : cArr (300 + q) 0 2 := by
  intro Z Y C
  unfold cCo
  rw [if_neg (by omega), if_neg (by omega), if_neg (by omega), if_pos (by omega)]
theorem cS_f {q : Nat} (h : q < 8) : 20 + q ∈ cS0 := by
  match q, h with
  | 0, _ | 1, _ | 2, _ | 3, _ | 4, _ | 5, _ | 6, _ | 7, _ => decide
theorem cS_t {q : Nat} (h : q < 8) : 30 + q ∈ cS0 := by
  match q, h with
  | 0, _ | 1, _ | 2, _ | 3, _ | 4, _ | 5, _ | 6, _ | 7, _ => decide
theorem cS_p {q : Nat} (h : q < 8) : 80 + q ∈ cS0 := by
  match q, h with
  | 0, _ | 1, _ | 2, _ | 3, _ | 4, _ | 5, _ | 6, _ | 7, _ => decide
theorem cS_h {q : Nat} (h : q < 4) : 90 + q ∈ cS0 := by
  match q, h with
  | 0, _ | 1, _ | 2, _ | 3, _ => decide
theorem cCo_p {Z : CZ} {Y : CY} {C : St} {q : Nat} (h : q < 8) : cCo Z Y C (80 + q) = .inr (2, [.ref (cSa Z (20 + q))]) := by
  match q, h with
  | 0, _ | 1, _ | 2, _ | 3, _ | 4, _ | 5, _ | 6, _ | 7, _ => rfl
theorem cCo_h {Z : CZ} {Y : CY} {C : St} {q : Nat} (h : q < 4) : cCo Z Y C (90 + q) = .inr (5, [va_rf (if C (60 + q) 0 = 1 then some (cDa Y (500 + q)) else none)]) := by
  match q, h with
  | 0, _ | 1, _ | 2, _ | 3, _ => rfl
section CWR
variable {p : Program} {l : Launch} {e : Env} {R : Room} {s : State} {m : MethodId} {args : Array Value} {below : List Frame} {meth : Method} {c : Code} {H : Heap} {locs : List Loc} {cells slots : Nat} {Q : State → Prop}
variable {pc : Nat} {ls : Array Slot} {rest st0 As : List Value} {cc bytes : ByteArray} {nL maxL index n : Nat} {ret ret' : Option FieldType} {own : String} {y : MethodName} {rm : Room} {Z : CZ} {Y : CY} {A : Nat → Prop} {C : St} {H0 : Heap}
theorem c_ald (X : CCx p s m args meth c cc nL ret own Z) (hM : cPD Z Y A C H) {k n : Nat} {ad : Nat} (hk : k ∈ cHs Y C) (ha : cArr k 0 n) (hr : cAr Z Y k = ad) {i : Int32} (hi : vp_in i n) (hdg : decode cc pc = .ok (.iaload, 1))
    (kk : ∀ v : Int32, v = C k i.toNatClampNeg → W p l e R s m args below meth c H locs cells slots Q (F0 m (pc + 1) ls (.int v :: rest))) : W p l e R s m args below meth c H locs cells slots Q (F0 m pc ls (.int i :: .ref ad :: rest)) := by
  obtain ⟨pos, hp, hq⟩ := cWs_at (Z := Z) hk
  rw [ha, hr] at hq
  exact va_iald X.1.1 X.1.2.1 X.2.1 hM.1 pos 0 hq rfl hi hdg (kk _ rfl)
theorem c_zald (X : CCx p s m args meth c cc nL ret own Z) (hM : cPD Z Y A C H) {k n : Nat} {ad : Nat} (hk : k ∈ cHs Y C) (ha : cArr k 1 n) (hr : cAr Z Y k = ad) {i : Int32} (hi : vp_in i n) (hdg : decode cc pc = .ok (.baload, 1))
    (kk : ∀ v : Int32, v = C k i.toNatClampNeg → W p l e R s m args below meth c H locs cells slots Q (F0 m (pc + 1) ls (.int v :: rest))) : W p l e R s m args below meth c H locs cells slots Q (F0 m pc ls (.int i :: .ref ad :: rest)) := by
  obtain ⟨pos, hp, hq⟩ := cWs_at (Z := Z) hk
  rw [ha, hr] at hq
  exact va_zald X.1.1 X.1.2.1 X.2.1 hM.1 pos 1 hq rfl hi hdg (kk _ rfl)
theorem c_ast (X : CCx p s m args meth c cc nL ret own Z) (hM : cPD Z Y A C H) (hS : va_S A H0 H locs) {k n : Nat} {ad : Nat} (h5 : k < 50 ∨ 80 ≤ k) (hk : k ∈ cHs Y C) (ha : cArr k 0 n) (hr : cAr Z Y k = ad) {i x : Int32} (hi : vp_in i n) (hdg : decode cc pc = .ok (.iastore, 1))
    (kk : ∀ (H1 : Heap) (locs1 : List Loc) (J : St), J = upd2 C k i.toNatClampNeg x → cPD Z Y A J H1 → va_S A H0 H1 locs1 → W p l e R s m args below meth c H1 locs1 cells slots Q (F0 m (pc + 1) ls rest)) : W p l e R s m args below meth c H locs cells slots Q (F0 m pc ls (.int x :: .int i :: .ref ad :: rest)) := by
  obtain ⟨pos, hp, hq⟩ := cWs_at (Z := Z) hk
  have hq2 := hq
  rw [ha, hr] at hq2
  refine va_iast X.1.1 X.1.2.1 X.2.1 hM.1 hM.2.1 hS pos 0 hq2 rfl hi hdg (fun H1 locs1 h1 h2 h3 => ?_)
  have e : (ad, Sum.inl (cAc Z 0, n, Sum.inl (upd (C k) i.toNatClampNeg x))) = (cAr Z Y k, cCo Z Y (upd2 C k i.toNatClampNeg x) k) := by
    rw [ha, hr, upd2_same]
  refine kk H1 locs1 _ rfl (cPD_upd hM.2.2 h5 hp ?_ ?_) h3
  · rw [← e]; exact h1
  · rw [← e]; exact h2
theorem c_zast (X : CCx p s m args meth c cc nL ret own Z) (hM : cPD Z Y A C H) (hS : va_S A H0 H locs) {k n : Nat} {ad : Nat} (h5 : k < 50 ∨ 80 ≤ k) (hk : k ∈ cHs Y C) (ha : cArr k 1 n) (hr : cAr Z Y k = ad) {i x : Int32} (hi : vp_in i n) (hdg : decode cc pc = .ok (.bastore, 1))
    (kk : ∀ (H1 : Heap) (locs1 : List Loc) (J : St), J = upd2 C k i.toNatClampNeg (x &&& 1) → cPD Z Y A J H1 → va_S A H0 H1 locs1 → W p l e R s m args below meth c H1 locs1 cells slots Q (F0 m (pc + 1) ls rest)) : W p l e R s m args below meth c H locs cells slots Q (F0 m pc ls (.int x :: .int i :: .ref ad :: rest)) := by
  obtain ⟨pos, hp, hq⟩ := cWs_at (Z := Z) hk
  have hq2 := hq
  rw [ha, hr] at hq2
  refine va_zast X.1.1 X.1.2.1 X.2.1 hM.1 hM.2.1 hS pos 1 hq2 rfl hi hdg (fun H1 locs1 h1 h2 h3 => ?_)
  have e : (ad, Sum.inl (cAc Z 1, n, Sum.inl (upd (C k) i.toNatClampNeg (x &&& 1)))) = (cAr Z Y k, cCo Z Y (upd2 C k i.toNatClampNeg (x &&& 1)) k) := by
    rw [ha, hr, upd2_same]
  refine kk H1 locs1 _ rfl (cPD_upd hM.2.2 h5 hp ?_ ?_) h3
  · rw [← e]; exact h1
  · rw [← e]; exact h2
theorem va_aldT {cc : ByteArray} {D : va_G} {cl : List vw_C} {tys : List (ClassId × FieldType)} {ws : va_W} {a : Nat} (hexec : p.tables.exec = Jvm.exec) (hb : c.code = cc) (hK : va_K D cl tys s) (hP : va_P D cl ws H) (q0 t0 : Nat) {cA : ClassId} {n : Nat} {f : Nat → Option Nat} (ha : ws[q0]? = some (a, .inl (cA, n, .inr (.inr (.inr (.inr f)))))) (ht : tys[t0]? = some (cA, .array .int)) {i : Int32} (hin : vp_in i n) (hdg : decode cc pc = .ok (.aaload, 1))
    (kk : W p l e R s m args below meth c H locs cells slots Q (F0 m (pc + 1) ls (va_rf (f i.toNatClampNeg) :: rest))) : W p l e R s m args below meth c H locs cells slots Q (F0 m pc ls (.int i :: .ref a :: rest)) := by
  have hlt : i.toNatClampNeg < n := Nat.not_le.mp fun q => hin (Or.inr q)
  exact W.aald (v := va_rf (f i.toNatClampNeg)) (ty := .array .int) hexec hb (hP q0 _ ha) ((hK.2 t0 _ ht).1 n (fun j => va_rf (f j))) rfl (fun q => by cases q) (by show ¬ (i < 0 ∨ (arrV _ _ _).slots.size ≤ _); rw [arrV_size]; exact hin) (by show (arrV _ _ _).slots[_]? = _; rw [arrV_read _ _ hlt]) rfl rfl hdg kk
theorem c_aldP (X : CCx p s m args meth c cc nL ret own Z) (hM : cPD Z Y A C H) {i : Int32} (hi : vp_in i 8) (hdg : decode cc pc = .ok (.aaload, 1))
    (kk : ∀ q : Nat, q = i.toNatClampNeg → W p l e R s m args below meth c H locs cells slots Q (F0 m (pc + 1) ls (.ref (cSa Z (80 + q)) :: rest))) : W p l e R s m args below meth c H locs cells slots Q (F0 m pc ls (.int i :: .ref (cSa Z 1) :: rest)) := by
  obtain ⟨pos, hp, hq⟩ := cWs_at (Z := Z) (cHs_S (Y := Y) (C := C) (show 1 ∈ cS0 by decide))
  exact va_aldq X.1.1 X.1.2.1 X.2.1 hM.1 pos 4 hq rfl hi hdg (kk _ rfl)
theorem c_aldT (X : CCx p s m args meth c cc nL ret own Z) (hM : cPD Z Y A C H) {i : Int32} (hi : vp_in i 8) (hdg : decode cc pc = .ok (.aaload, 1))
    (kk : ∀ q : Nat, q = i.toNatClampNeg → W p l e R s m args below meth c H locs cells slots Q (F0 m (pc + 1) ls (.ref (cSa Z (30 + q)) :: rest))) : W p l e R s m args below meth c H locs cells slots Q (F0 m pc ls (.int i :: .ref (cSa Z 7) :: rest)) := by
  obtain ⟨pos, hp, hq⟩ := cWs_at (Z := Z) (cHs_S (Y := Y) (C := C) (show 7 ∈ cS0 by decide))
  exact va_aldT X.1.1 X.1.2.1 X.2.1 hM.1 pos 7 hq rfl hi hdg (kk _ rfl)
theorem c_aldH (X : CCx p s m args meth c cc nL ret own Z) (hM : cPD Z Y A C H) {i : Int32} (hi : vp_in i 4) (hdg : decode cc pc = .ok (.aaload, 1))
    (kk : ∀ q : Nat, q = i.toNatClampNeg → W p l e R s m args below meth c H locs cells slots Q (F0 m (pc + 1) ls (.ref (cSa Z (90 + q)) :: rest))) : W p l e R s m args below meth c H locs cells slots Q (F0 m pc ls (.int i :: .ref (cSa Z 19) :: rest)) := by
  obtain ⟨pos, hp, hq⟩ := cWs_at (Z := Z) (cHs_S (Y := Y) (C := C) (show 19 ∈ cS0 by decide))
  exact va_aldq X.1.1 X.1.2.1 X.2.1 hM.1 pos 5 hq rfl hi hdg (kk _ rfl)
theorem gc0 (X : CCx p s m args meth c cc nL ret RX0 Z) (hM : cPD Z Y A C H) (hdg : decode cc pc = .ok (.getfield 84, 3)) (kk : W p l e R s m args below meth c H locs cells slots Q (F0 m (pc + 3) ls (.int (C 0 0) :: rest))) : W p l e R s m args below meth c H locs cells slots Q (F0 m pc ls (.ref (cSa Z 0) :: rest)) := by
  obtain ⟨pos, hp, hq⟩ := cWs_at (Z := Z) (cHs_S (Y := Y) (C := C) (show 0 ∈ cS0 by decide))
  skip
  exact va_get X.1.1 X.1.2.1 X.1.2.2.2.2.2.2 in_X0 X.1.2.2.2.2.2.1 X.2.1 hM.1 pos hq rfl 0 (by decide) (X.1.2.2.2.2.2.2 _ q229) (fun _ h => h) rfl hdg kk
theorem gc1 (X : CCx p s m args meth c cc nL ret RX0 Z) (hM : cPD Z Y A C H) (hdg : decode cc pc = .ok (.getfield 14, 3)) (kk : W p l e R s m args below meth c H locs cells slots Q (F0 m (pc + 3) ls (.ref (cSa Z 1) :: rest))) : W p l e R s m args below meth c H locs cells slots Q (F0 m pc ls (.ref (cSa Z 0) :: rest)) := by
  obtain ⟨pos, hp, hq⟩ := cWs_at (Z := Z) (cHs_S (Y := Y) (C := C) (show 0 ∈ cS0 by decide))
  skip
  exact va_get X.1.1 X.1.2.1 X.1.2.2.2.2.2.2 in_X0 X.1.2.2.2.2.2.1 X.2.1 hM.1 pos hq rfl 1 (by decide) (X.1.2.2.2.2.2.2 _ q230) (fun _ h => h) rfl hdg kk
theorem gc2 (X : CCx p s m args meth c cc nL ret RX0 Z) (hM : cPD Z Y A C H) (hdg : decode cc pc = .ok (.getfield 20, 3)) (kk : W p l e R s m args below meth c H locs cells slots Q (F0 m (pc + 3) ls (.ref (cSa Z 2) :: rest))) : W p l e R s m args below meth c H locs cells slots Q (F0 m pc ls (.ref (cSa Z 0) :: rest)) := by
  obtain ⟨pos, hp, hq⟩ := cWs_at (Z := Z) (cHs_S (Y := Y) (C := C) (show 0 ∈ cS0 by decide))
  skip
  exact va_get X.1.1 X.1.2.1 X.1.2.2.2.2.2.2 in_X0 X.1.2.2.2.2.2.1 X.2.1 hM.1 pos hq rfl 2 (by decide) (X.1.2.2.2.2.2.2 _ q231) (fun _ h => h) rfl hdg kk
theorem gc3 (X : CCx p s m args meth c cc nL ret RX0 Z) (hM : cPD Z Y A C H) (hdg : decode cc pc = .ok (.getfield 24, 3)) (kk : W p l e R s m args below meth c H locs cells slots Q (F0 m (pc + 3) ls (.ref (cSa Z 3) :: rest))) : W p l e R s m args below meth c H locs cells slots Q (F0 m pc ls (.ref (cSa Z 0) :: rest)) := by
  obtain ⟨pos, hp, hq⟩ := cWs_at (Z := Z) (cHs_S (Y := Y) (C := C) (show 0 ∈ cS0 by decide))
  skip
  exact va_get X.1.1 X.1.2.1 X.1.2.2.2.2.2.2 in_X0 X.1.2.2.2.2.2.1 X.2.1 hM.1 pos hq rfl 3 (by decide) (X.1.2.2.2.2.2.2 _ q232) (fun _ h => h) rfl hdg kk
theorem gc4 (X : CCx p s m args meth c cc nL ret RX0 Z) (hM : cPD Z Y A C H) (hdg : decode cc pc = .ok (.getfield 27, 3)) (kk : W p l e R s m args below meth c H locs cells slots Q (F0 m (pc + 3) ls (.int (C 0 4) :: rest))) : W p l e R s m args below meth c H locs cells slots Q (F0 m pc ls (.ref (cSa Z 0) :: rest)) := by
  obtain ⟨pos, hp, hq⟩ := cWs_at (Z := Z) (cHs_S (Y := Y) (C := C) (show 0 ∈ cS0 by decide))
  skip
  exact va_get X.1.1 X.1.2.1 X.1.2.2.2.2.2.2 in_X0 X.1.2.2.2.2.2.1 X.2.1 hM.1 pos hq rfl 4 (by decide) (X.1.2.2.2.2.2.2 _ q233) (fun _ h => h) rfl hdg kk
theorem gc5 (X : CCx p s m args meth c cc nL ret RX0 Z) (hM : cPD Z Y A C H) (hdg : decode cc pc = .ok (.getfield 34, 3)) (kk : W p l e R s m args below meth c H locs cells slots Q (F0 m (pc + 3) ls (.ref (cSa Z 40) :: rest))) : W p l e R s m args below meth c H locs cells slots Q (F0 m pc ls (.ref (cSa Z 0) :: rest)) := by
  obtain ⟨pos, hp, hq⟩ := cWs_at (Z := Z) (cHs_S (Y := Y) (C := C) (show 0 ∈ cS0 by decide))
  skip
  exact va_get X.1.1 X.1.2.1 X.1.2.2.2.2.2.2 in_X0 X.1.2.2.2.2.2.1 X.2.1 hM.1 pos hq rfl 5 (by decide) (X.1.2.2.2.2.2.2 _ q234) (fun _ h => h) rfl hdg kk
theorem gc6 (X : CCx p s m args meth c cc nL ret RX0 Z) (hM : cPD Z Y A C H) (hdg : decode cc pc = .ok (.getfield 41, 3)) (kk : W p l e R s m args below meth c H locs cells slots Q (F0 m (pc + 3) ls (.ref (cSa Z 41) :: rest))) : W p l e R s m args below meth c H locs cells slots Q (F0 m pc ls (.ref (cSa Z 0) :: rest)) := by
  obtain ⟨pos, hp, hq⟩ := cWs_at (Z := Z) (cHs_S (Y := Y) (C := C) (show 0 ∈ cS0 by decide))
  skip
  exact va_get X.1.1 X.1.2.1 X.1.2.2.2.2.2.2 in_X0 X.1.2.2.2.2.2.1 X.2.1 hM.1 pos hq rfl 6 (by decide) (X.1.2.2.2.2.2.2 _ q235) (fun _ h => h) rfl hdg kk
theorem gc7 (X : CCx p s m args meth c cc nL ret RX0 Z) (hM : cPD Z Y A C H) (hdg : decode cc pc = .ok (.getfield 47, 3)) (kk : W p l e R s m args below meth c H locs cells slots Q (F0 m (pc + 3) ls (.ref (cSa Z 7) :: rest))) : W p l e R s m args below meth c H locs cells slots Q (F0 m pc ls (.ref (cSa Z 0) :: rest)) := by
  obtain ⟨pos, hp, hq⟩ := cWs_at (Z := Z) (cHs_S (Y := Y) (C := C) (show 0 ∈ cS0 by decide))
  skip
  exact va_get X.1.1 X.1.2.1 X.1.2.2.2.2.2.2 in_X0 X.1.2.2.2.2.2.1 X.2.1 hM.1 pos hq rfl 7 (by decide) (X.1.2.2.2.2.2.2 _ q236) (fun _ h => h) rfl hdg kk
theorem gc8 (X : CCx p s m args meth c cc nL ret RX0 Z) (hM : cPD Z Y A C H) (hdg : decode cc pc = .ok (.getfield 50, 3)) (kk : W p l e R s m args below meth c H locs cells slots Q (F0 m (pc + 3) ls (.ref (cSa Z 8) :: rest))) : W p l e R s m args below meth c H locs cells slots Q (F0 m pc ls (.ref (cSa Z 0) :: rest)) := by
  obtain ⟨pos, hp, hq⟩ := cWs_at (Z := Z) (cHs_S (Y := Y) (C := C) (show 0 ∈ cS0 by decide))
  skip
  exact va_get X.1.1 X.1.2.1 X.1.2.2.2.2.2.2 in_X0 X.1.2.2.2.2.2.1 X.2.1 hM.1 pos hq rfl 8 (by decide) (X.1.2.2.2.2.2.2 _ q237) (fun _ h => h) rfl hdg kk
theorem gc9 (X : CCx p s m args meth c cc nL ret RX0 Z) (hM : cPD Z Y A C H) (hdg : decode cc pc = .ok (.getfield 53, 3)) (kk : W p l e R s m args below meth c H locs cells slots Q (F0 m (pc + 3) ls (.ref (cSa Z 9) :: rest))) : W p l e R s m args below meth c H locs cells slots Q (F0 m pc ls (.ref (cSa Z 0) :: rest)) := by
  obtain ⟨pos, hp, hq⟩ := cWs_at (Z := Z) (cHs_S (Y := Y) (C := C) (show 0 ∈ cS0 by decide))
  skip
  exact va_get X.1.1 X.1.2.1 X.1.2.2.2.2.2.2 in_X0 X.1.2.2.2.2.2.1 X.2.1 hM.1 pos hq rfl 9 (by decide) (X.1.2.2.2.2.2.2 _ q238) (fun _ h => h) rfl hdg kk
theorem gc10 (X : CCx p s m args meth c cc nL ret RX0 Z) (hM : cPD Z Y A C H) (hdg : decode cc pc = .ok (.getfield 56, 3)) (kk : W p l e R s m args below meth c H locs cells slots Q (F0 m (pc + 3) ls (.ref (cSa Z 10) :: rest))) : W p l e R s m args below meth c H locs cells slots Q (F0 m pc ls (.ref (cSa Z 0) :: rest)) := by
  obtain ⟨pos, hp, hq⟩ := cWs_at (Z := Z) (cHs_S (Y := Y) (C := C) (show 0 ∈ cS0 by decide))
  skip
  exact va_get X.1.1 X.1.2.1 X.1.2.2.2.2.2.2 in_X0 X.1.2.2.2.2.2.1 X.2.1 hM.1 pos hq rfl 10 (by decide) (X.1.2.2.2.2.2.2 _ q239) (fun _ h => h) rfl hdg kk
theorem gc11 (X : CCx p s m args meth c cc nL ret RX0 Z) (hM : cPD Z Y A C H) (hdg : decode cc pc = .ok (.getfield 59, 3)) (kk : W p l e R s m args below meth c H locs cells slots Q (F0 m (pc + 3) ls (.ref (cSa Z 11) :: rest))) : W p l e R s m args below meth c H locs cells slots Q (F0 m pc ls (.ref (cSa Z 0) :: rest)) := by
  obtain ⟨pos, hp, hq⟩ := cWs_at (Z := Z) (cHs_S (Y := Y) (C := C) (show 0 ∈ cS0 by decide))
  skip
  exact va_get X.1.1 X.1.2.1 X.1.2.2.2.2.2.2 in_X0 X.1.2.2.2.2.2.1 X.2.1 hM.1 pos hq rfl 11 (by decide) (X.1.2.2.2.2.2.2 _ q240) (fun _ h => h) rfl hdg kk
theorem gc12 (X : CCx p s m args meth c cc nL ret RX0 Z) (hM : cPD Z Y A C H) (hdg : decode cc pc = .ok (.getfield 267, 3)) (kk : W p l e R s m args below meth c H locs cells slots Q (F0 m (pc + 3) ls (.int (C 0 12) :: rest))) : W p l e R s m args below meth c H locs cells slots Q (F0 m pc ls (.ref (cSa Z 0) :: rest)) := by
  obtain ⟨pos, hp, hq⟩ := cWs_at (Z := Z) (cHs_S (Y := Y) (C := C) (show 0 ∈ cS0 by decide))
  skip
  exact va_get X.1.1 X.1.2.1 X.1.2.2.2.2.2.2 in_X0 X.1.2.2.2.2.2.1 X.2.1 hM.1 pos hq rfl 12 (by decide) (X.1.2.2.2.2.2.2 _ q241) (fun _ h => h) rfl hdg kk
theorem gc13 (X : CCx p s m args meth c cc nL ret RX0 Z) (hM : cPD Z Y A C H) (hdg : decode cc pc = .ok (.getfield 270, 3)) (kk : W p l e R s m args below meth c H locs cells slots Q (F0 m (pc + 3) ls (.int (C 0 13) :: rest))) : W p l e R s m args below meth c H locs cells slots Q (F0 m pc ls (.ref (cSa Z 0) :: rest)) := by
  obtain ⟨pos, hp, hq⟩ := cWs_at (Z := Z) (cHs_S (Y := Y) (C := C) (show 0 ∈ cS0 by decide))
  skip
  exact va_get X.1.1 X.1.2.1 X.1.2.2.2.2.2.2 in_X0 X.1.2.2.2.2.2.1 X.2.1 hM.1 pos hq rfl 13 (by decide) (X.1.2.2.2.2.2.2 _ q242) (fun _ h => h) rfl hdg kk
theorem gc14 (X : CCx p s m args meth c cc nL ret RX0 Z) (hM : cPD Z Y A C H) (hdg : decode cc pc = .ok (.getfield 282, 3)) (kk : W p l e R s m args below meth c H locs cells slots Q (F0 m (pc + 3) ls (.int (C 0 14) :: rest))) : W p l e R s m args below meth c H locs cells slots Q (F0 m pc ls (.ref (cSa Z 0) :: rest)) := by
  obtain ⟨pos, hp, hq⟩ := cWs_at (Z := Z) (cHs_S (Y := Y) (C := C) (show 0 ∈ cS0 by decide))
  skip
  exact va_get X.1.1 X.1.2.1 X.1.2.2.2.2.2.2 in_X0 X.1.2.2.2.2.2.1 X.2.1 hM.1 pos hq rfl 14 (by decide) (X.1.2.2.2.2.2.2 _ q243) (fun _ h => h) rfl hdg kk
theorem gc15 (X : CCx p s m args meth c cc nL ret RX0 Z) (hM : cPD Z Y A C H) (hdg : decode cc pc = .ok (.getfield 283, 3)) (kk : W p l e R s m args below meth c H locs cells slots Q (F0 m (pc + 3) ls (.int (C 0 15) :: rest))) : W p l e R s m args below meth c H locs cells slots Q (F0 m pc ls (.ref (cSa Z 0) :: rest)) := by
  obtain ⟨pos, hp, hq⟩ := cWs_at (Z := Z) (cHs_S (Y := Y) (C := C) (show 0 ∈ cS0 by decide))
  skip
  exact va_get X.1.1 X.1.2.1 X.1.2.2.2.2.2.2 in_X0 X.1.2.2.2.2.2.1 X.2.1 hM.1 pos hq rfl 15 (by decide) (X.1.2.2.2.2.2.2 _ q244) (fun _ h => h) rfl hdg kk
theorem gc16 (X : CCx p s m args meth c cc nL ret RX0 Z) (hM : cPD Z Y A C H) (hdg : decode cc pc = .ok (.getfield 62, 3)) (kk : W p l e R s m args below meth c H locs cells slots Q (F0 m (pc + 3) ls (.ref (cSa Z 16) :: rest))) : W p l e R s m args below meth c H locs cells slots Q (F0 m pc ls (.ref (cSa Z 0) :: rest)) := by
  obtain ⟨pos, hp, hq⟩ := cWs_at (Z := Z) (cHs_S (Y := Y) (C := C) (show 0 ∈ cS0 by decide))
  skip
  exact va_get X.1.1 X.1.2.1 X.1.2.2.2.2.2.2 in_X0 X.1.2.2.2.2.2.1 X.2.1 hM.1 pos hq rfl 16 (by decide) (X.1.2.2.2.2.2.2 _ q245) (fun _ h => h) rfl hdg kk
theorem gc17 (X : CCx p s m args meth c cc nL ret RX0 Z) (hM : cPD Z Y A C H) (hdg : decode cc pc = .ok (.getfield 68, 3)) (kk : W p l e R s m args below meth c H locs cells slots Q (F0 m (pc + 3) ls (.ref (cSa Z 51) :: rest))) : W p l e R s m args below meth c H locs cells slots Q (F0 m pc ls (.ref (cSa Z 0) :: rest)) := by
  obtain ⟨pos, hp, hq⟩ := cWs_at (Z := Z) (cHs_S (Y := Y) (C := C) (show 0 ∈ cS0 by decide))
  skip
  exact va_get X.1.1 X.1.2.1 X.1.2.2.2.2.2.2 in_X0 X.1.2.2.2.2.2.1 X.2.1 hM.1 pos hq rfl 17 (by decide) (X.1.2.2.2.2.2.2 _ q246) (fun _ h => h) rfl hdg kk
theorem gc18 (X : CCx p s m args meth c cc nL ret RX0 Z) (hM : cPD Z Y A C H) (hdg : decode cc pc = .ok (.getfield 72, 3)) (kk : W p l e R s m args below meth c H locs cells slots Q (F0 m (pc + 3) ls (.ref (cSa Z 52) :: rest))) : W p l e R s m args below meth c H locs cells slots Q (F0 m pc ls (.ref (cSa Z 0) :: rest)) := by
  obtain ⟨pos, hp, hq⟩ := cWs_at (Z := Z) (cHs_S (Y := Y) (C := C) (show 0 ∈ cS0 by decide))
  skip
  exact va_get X.1.1 X.1.2.1 X.1.2.2.2.2.2.2 in_X0 X.1.2.2.2.2.2.1 X.2.1 hM.1 pos hq rfl 18 (by decide) (X.1.2.2.2.2.2.2 _ q247) (fun _ h => h) rfl hdg kk
theorem gc19 (X : CCx p s m args meth c cc nL ret RX0 Z) (hM : cPD Z Y A C H) (hdg : decode cc pc = .ok (.getfield 78, 3)) (kk : W p l e R s m args below meth c H locs cells slots Q (F0 m (pc + 3) ls (.ref (cSa Z 19) :: rest))) : W p l e R s m args below meth c H locs cells slots Q (F0 m pc ls (.ref (cSa Z 0) :: rest)) := by
  obtain ⟨pos, hp, hq⟩ := cWs_at (Z := Z) (cHs_S (Y := Y) (C := C) (show 0 ∈ cS0 by decide))
  skip
  exact va_get X.1.1 X.1.2.1 X.1.2.2.2.2.2.2 in_X0 X.1.2.2.2.2.2.1 X.2.1 hM.1 pos hq rfl 19 (by decide) (X.1.2.2.2.2.2.2 _ q248) (fun _ h => h) rfl hdg kk
theorem gr5 (X : CCx p s m args meth c cc nL ret RX0 Z) (hM : cPD Z Y A C H) (hdg : decode cc pc = .ok (.getfield 194, 3)) (kk : W p l e R s m args below meth c H locs cells slots Q (F0 m (pc + 3) ls (.ref (cSa Z 44) :: rest))) : W p l e R s m args below meth c H locs cells slots Q (F0 m pc ls (.ref (cSa Z 41) :: rest)) := by
  obtain ⟨pos, hp, hq⟩ := cWs_at (Z := Z) (cHs_S (Y := Y) (C := C) (show 41 ∈ cS0 by decide))
  skip
  exact va_getN (host := "SecondChances") X.1.1 X.1.2.1 X.1.2.2.2.2.2.2 in_X4 X.1.2.2.2.2.2.1 X.2.1 hM.1 pos hq rfl 5 (by decide) (va_Nw.use rfl (X.2.2 _ (List.mem_of_getElem? (i := 4) rfl))) (fun _ h => h) rfl hdg kk
theorem gr6 (X : CCx p s m args meth c cc nL ret RX0 Z) (hM : cPD Z Y A C H) (hdg : decode cc pc = .ok (.getfield 197, 3)) (kk : W p l e R s m args below meth c H locs cells slots Q (F0 m (pc + 3) ls (.ref (cSa Z 45) :: rest))) : W p l e R s m args below meth c H locs cells slots Q (F0 m pc ls (.ref (cSa Z 41) :: rest)) := by
  obtain ⟨pos, hp, hq⟩ := cWs_at (Z := Z) (cHs_S (Y := Y) (C := C) (show 41 ∈ cS0 by decide))
  skip
  exact va_getN (host := "SecondChances") X.1.1 X.1.2.1 X.1.2.2.2.2.2.2 in_X4 X.1.2.2.2.2.2.1 X.2.1 hM.1 pos hq rfl 6 (by decide) (va_Nw.use rfl (X.2.2 _ (List.mem_of_getElem? (i := 5) rfl))) (fun _ h => h) rfl hdg kk
theorem gr7 (X : CCx p s m args meth c cc nL ret RX0 Z) (hM : cPD Z Y A C H) (hdg : decode cc pc = .ok (.getfield 200, 3)) (kk : W p l e R s m args below meth c H locs cells slots Q (F0 m (pc + 3) ls (.ref (cSa Z 46) :: rest))) : W p l e R s m args below meth c H locs cells slots Q (F0 m pc ls (.ref (cSa Z 41) :: rest)) := by
  obtain ⟨pos, hp, hq⟩ := cWs_at (Z := Z) (cHs_S (Y := Y) (C := C) (show 41 ∈ cS0 by decide))
  skip
  exact va_getN (host := "SecondChances") X.1.1 X.1.2.1 X.1.2.2.2.2.2.2 in_X4 X.1.2.2.2.2.2.1 X.2.1 hM.1 pos hq rfl 7 (by decide) (va_Nw.use rfl (X.2.2 _ (List.mem_of_getElem? (i := 6) rfl))) (fun _ h => h) rfl hdg kk
theorem gr8 (X : CCx p s m args meth c cc nL ret RX0 Z) (hM : cPD Z Y A C H) (hdg : decode cc pc = .ok (.getfield 402, 3)) (kk : W p l e R s m args below meth c H locs cells slots Q (F0 m (pc + 3) ls (.int (C 41 8) :: rest))) : W p l e R s m args below meth c H locs cells slots Q (F0 m pc ls (.ref (cSa Z 41) :: rest)) := by
  obtain ⟨pos, hp, hq⟩ := cWs_at (Z := Z) (cHs_S (Y := Y) (C := C) (show 41 ∈ cS0 by decide))
  skip
  exact va_getN (host := "SecondChances") X.1.1 X.1.2.1 X.1.2.2.2.2.2.2 in_X4 X.1.2.2.2.2.2.1 X.2.1 hM.1 pos hq rfl 8 (by decide) (va_Nw.use rfl (X.2.2 _ (List.mem_of_getElem? (i := 7) rfl))) (fun _ h => h) rfl hdg kk
theorem gd5 (X : CCx p s m args meth c cc nL ret RX0 Z) (hM : cPD Z Y A C H) (hdg : decode cc pc = .ok (.getfield 157, 3)) (kk : W p l e R s m args below meth c H locs cells slots Q (F0 m (pc + 3) ls (.ref (cSa Z 50) :: rest))) : W p l e R s m args below meth c H locs cells slots Q (F0 m pc ls (.ref (cSa Z 40) :: rest)) := by
  obtain ⟨pos, hp, hq⟩ := cWs_at (Z := Z) (cHs_S (Y := Y) (C := C) (show 40 ∈ cS0 by decide))
  skip
  exact va_getN (host := "SecondChances") X.1.1 X.1.2.1 X.1.2.2.2.2.2.2 in_X3 X.1.2.2.2.2.2.1 X.2.1 hM.1 pos hq rfl 5 (by decide) (va_Nw.use rfl (X.2.2 _ (List.mem_of_getElem? (i := 2) rfl))) (fun _ h => h) rfl hdg kk
theorem gpf (X : CCx p s m args meth c cc nL ret RX0 Z) (hM : cPD Z Y A C H) {q : Nat} (hb8 : q < 8) (hdg : decode cc pc = .ok (.getfield 104, 3)) (kk : W p l e R s m args below meth c H locs cells slots Q (F0 m (pc + 3) ls (.ref (cSa Z (20 + q)) :: rest))) : W p l e R s m args below meth c H locs cells slots Q (F0 m pc ls (.ref (cSa Z (80 + q)) :: rest)) := by
  obtain ⟨pos, hp, hq⟩ := cWs_at (Z := Z) (cHs_S (Y := Y) (C := C) (cS_p hb8))
  rw [cCo_p hb8, cAr_s (by omega)] at hq
  exact va_getN (host := "SecondChances") X.1.1 X.1.2.1 X.1.2.2.2.2.2.2 in_X1 X.1.2.2.2.2.2.1 X.2.1 hM.1 pos hq rfl 0 (by decide) (va_Nw.use rfl (X.2.2 _ (List.mem_of_getElem? (i := 1) rfl))) (fun _ h => h) rfl hdg kk
theorem gpp (X : CCx p s m args meth c cc nL ret RX1 Z) (hM : cPD Z Y A C H) {q : Nat} (hb8 : q < 8) (hdg : decode cc pc = .ok (.getfield 9, 3)) (kk : W p l e R s m args below meth c H locs cells slots Q (F0 m (pc + 3) ls (.ref (cSa Z (20 + q)) :: rest))) : W p l e R s m args below meth c H locs cells slots Q (F0 m pc ls (.ref (cSa Z (80 + q)) :: rest)) := by
  obtain ⟨pos, hp, hq⟩ := cWs_at (Z := Z) (cHs_S (Y := Y) (C := C) (cS_p hb8))
  rw [cCo_p hb8, cAr_s (by omega)] at hq
  exact va_get X.1.1 X.1.2.1 X.1.2.2.2.2.2.2 in_X1 X.1.2.2.2.2.2.1 X.2.1 hM.1 pos hq rfl 0 (by decide) (X.1.2.2.2.2.2.2 _ q122) (fun _ h => h) rfl hdg kk
theorem gq0 (X : CCx p s m args meth c cc nL ret RX0 Z) (hM : cPD Z Y A C H) {q : Nat} (hq8 : q < cNn C 0) (hdg : decode cc pc = .ok (.getfield 172, 3)) (kk : W p l e R s m args below meth c H locs cells slots Q (F0 m (pc + 3) ls (.int (C (100 + q) 0) :: rest))) : W p l e R s m args below meth c H locs cells slots Q (F0 m pc ls (.ref (cDa Y (100 + q)) :: rest)) := by
  obtain ⟨pos, hp, hq⟩ := cWs_at (Z := Z) (cHs_D (Y := Y) (C := C) hq8)
  have hb8 := (hM.2.2 0 (by decide)).1
  rw [cCo_d (by omega), cAr_d (by omega)] at hq
  exact va_getN (host := "SecondChances") X.1.1 X.1.2.1 X.1.2.2.2.2.2.2 in_X8 X.1.2.2.2.2.2.1 X.2.1 hM.1 pos hq rfl 0 (by decide) (va_Nw.use rfl (X.2.2 _ (List.mem_of_getElem? (i := 10) rfl))) (fun _ h => h) rfl hdg kk
theorem gq1 (X : CCx p s m args meth c cc nL ret RX0 Z) (hM : cPD Z Y A C H) {q : Nat} (hq8 : q < cNn C 0) (hdg : decode cc pc = .ok (.getfield 175, 3)) (kk : W p l e R s m args below meth c H locs cells slots Q (F0 m (pc + 3) ls (.int (C (100 + q) 1) :: rest))) : W p l e R s m args below meth c H locs cells slots Q (F0 m pc ls (.ref (cDa Y (100 + q)) :: rest)) := by
  obtain ⟨pos, hp, hq⟩ := cWs_at (Z := Z) (cHs_D (Y := Y) (C := C) hq8)
  have hb8 := (hM.2.2 0 (by decide)).1
  rw [cCo_d (by omega), cAr_d (by omega)] at hq
  exact va_getN (host := "SecondChances") X.1.1 X.1.2.1 X.1.2.2.2.2.2.2 in_X8 X.1.2.2.2.2.2.1 X.2.1 hM.1 pos hq rfl 1 (by decide) (va_Nw.use rfl (X.2.2 _ (List.mem_of_getElem? (i := 11) rfl))) (fun _ h => h) rfl hdg kk
theorem gq2 (X : CCx p s m args meth c cc nL ret RX0 Z) (hM : cPD Z Y A C H) {q : Nat} (hq8 : q < cNn C 0) (hdg : decode cc pc = .ok (.getfield 178, 3)) (kk : W p l e R s m args below meth c H locs cells slots Q (F0 m (pc + 3) ls (.int (C (100 + q) 2) :: rest))) : W p l e R s m args below meth c H locs cells slots Q (F0 m pc ls (.ref (cDa Y (100 + q)) :: rest)) := by
  obtain ⟨pos, hp, hq⟩ := cWs_at (Z := Z) (cHs_D (Y := Y) (C := C) hq8)
  have hb8 := (hM.2.2 0 (by decide)).1
  rw [cCo_d (by omega), cAr_d (by omega)] at hq
  exact va_getN (host := "SecondChances") X.1.1 X.1.2.1 X.1.2.2.2.2.2.2 in_X8 X.1.2.2.2.2.2.1 X.2.1 hM.1 pos hq rfl 2 (by decide) (va_Nw.use rfl (X.2.2 _ (List.mem_of_getElem? (i := 12) rfl))) (fun _ h => h) rfl hdg kk
theorem gq3 (X : CCx p s m args meth c cc nL ret RX0 Z) (hM : cPD Z Y A C H) {q : Nat} (hq8 : q < cNn C 0) (hdg : decode cc pc = .ok (.getfield 180, 3)) (kk : W p l e R s m args below meth c H locs cells slots Q (F0 m (pc + 3) ls (.int (C (100 + q) 3) :: rest))) : W p l e R s m args below meth c H locs cells slots Q (F0 m pc ls (.ref (cDa Y (100 + q)) :: rest)) := by
  obtain ⟨pos, hp, hq⟩ := cWs_at (Z := Z) (cHs_D (Y := Y) (C := C) hq8)
  have hb8 := (hM.2.2 0 (by decide)).1
  rw [cCo_d (by omega), cAr_d (by omega)] at hq
  exact va_getN (host := "SecondChances") X.1.1 X.1.2.1 X.1.2.2.2.2.2.2 in_X8 X.1.2.2.2.2.2.1 X.2.1 hM.1 pos hq rfl 3 (by decide) (va_Nw.use rfl (X.2.2 _ (List.mem_of_getElem? (i := 13) rfl))) (fun _ h => h) rfl hdg kk
theorem gq4 (X : CCx p s m args meth c cc nL ret RX0 Z) (hM : cPD Z Y A C H) {q : Nat} (hq8 : q < cNn C 0) (hdg : decode cc pc = .ok (.getfield 183, 3)) (kk : W p l e R s m args below meth c H locs cells slots Q (F0 m (pc + 3) ls (.int (C (100 + q) 4) :: rest))) : W p l e R s m args below meth c H locs cells slots Q (F0 m pc ls (.ref (cDa Y (100 + q)) :: rest)) := by
  obtain ⟨pos, hp, hq⟩ := cWs_at (Z := Z) (cHs_D (Y := Y) (C := C) hq8)
  have hb8 := (hM.2.2 0 (by decide)).1
  rw [cCo_d (by omega), cAr_d (by omega)] at hq
  exact va_getN (host := "SecondChances") X.1.1 X.1.2.1 X.1.2.2.2.2.2.2 in_X8 X.1.2.2.2.2.2.1 X.2.1 hM.1 pos hq rfl 4 (by decide) (va_Nw.use rfl (X.2.2 _ (List.mem_of_getElem? (i := 14) rfl))) (fun _ h => h) rfl hdg kk
theorem gg0 (X : CCx p s m args meth c cc nL ret RX9 Z) (hM : cPD Z Y A C H) {q : Nat} (hq8 : q < cNn C 1) (hdg : decode cc pc = .ok (.getfield 7, 3)) (kk : W p l e R s m args below meth c H locs cells slots Q (F0 m (pc + 3) ls (.int (C (200 + q) 0) :: rest))) : W p l e R s m args below meth c H locs cells slots Q (F0 m pc ls (.ref (cDa Y (200 + q)) :: rest)) := by
  obtain ⟨pos, hp, hq⟩ := cWs_at (Z := Z) (cHs_G (Y := Y) (C := C) hq8)
  have hb8 := (hM.2.2 1 (by decide)).1
  rw [cCo_g (by omega), cAr_d (by omega)] at hq
  exact va_get X.1.1 X.1.2.1 X.1.2.2.2.2.2.2 in_X9 X.1.2.2.2.2.2.1 X.2.1 hM.1 pos hq rfl 0 (by decide) (X.1.2.2.2.2.2.2 _ q844) (fun _ h => h) rfl hdg kk
theorem gg1 (X : CCx p s m args meth c cc nL ret RX9 Z) (hM : cPD Z Y A C H) {q : Nat} (hq8 : q < cNn C 1) (hdg : decode cc pc = .ok (.getfield 13, 3)) (kk : W p l e R s m args below meth c H locs cells slots Q (F0 m (pc + 3) ls (.int (C (200 + q) 1) :: rest))) : W p l e R s m args below meth c H locs cells slots Q (F0 m pc ls (.ref (cDa Y (200 + q)) :: rest)) := by
  obtain ⟨pos, hp, hq⟩ := cWs_at (Z := Z) (cHs_G (Y := Y) (C := C) hq8)
  have hb8 := (hM.2.2 1 (by decide)).1
  rw [cCo_g (by omega), cAr_d (by omega)] at hq
  exact va_get X.1.1 X.1.2.1 X.1.2.2.2.2.2.2 in_X9 X.1.2.2.2.2.2.1 X.2.1 hM.1 pos hq rfl 1 (by decide) (X.1.2.2.2.2.2.2 _ q845) (fun _ h => h) rfl hdg kk
theorem gg2 (X : CCx p s m args meth c cc nL ret RX9 Z) (hM : cPD Z Y A C H) {q : Nat} (hq8 : q < cNn C 1) (hdg : decode cc pc = .ok (.getfield 16, 3)) (kk : W p l e R s m args below meth c H locs cells slots Q (F0 m (pc + 3) ls (.int (C (200 + q) 2) :: rest))) : W p l e R s m args below meth c H locs cells slots Q (F0 m pc ls (.ref (cDa Y (200 + q)) :: rest)) := by
  obtain ⟨pos, hp, hq⟩ := cWs_at (Z := Z) (cHs_G (Y := Y) (C := C) hq8)
  have hb8 := (hM.2.2 1 (by decide)).1
  rw [cCo_g (by omega), cAr_d (by omega)] at hq
  exact va_get X.1.1 X.1.2.1 X.1.2.2.2.2.2.2 in_X9 X.1.2.2.2.2.2.1 X.2.1 hM.1 pos hq rfl 2 (by decide) (X.1.2.2.2.2.2.2 _ q846) (fun _ h => h) rfl hdg kk
theorem pc0 (X : CCx p s m args meth c cc nL ret RX0 Z) (hM : cPD Z Y A C H) (hS : va_S A H0 H locs) (hdg : decode cc pc = .ok (.putfield 84, 3)) {v : Int32} (kk : ∀ (H1 : Heap) (locs1 : List Loc) (J : St), J = upd2 C 0 0 v → cPD Z Y A J H1 → va_S A H0 H1 locs1 → W p l e R s m args below meth c H1 locs1 cells slots Q (F0 m (pc + 3) ls rest)) : W p l e R s m args below meth c H locs cells slots Q (F0 m pc ls (.int v :: .ref (cSa Z 0) :: rest)) := by
  obtain ⟨pos, hp, hq⟩ := cWs_at (Z := Z) (cHs_S (Y := Y) (C := C) (show 0 ∈ cS0 by decide))
  exact va_put X.1.1 X.1.2.1 X.1.2.2.2.2.2.2 in_X0 tyX0 tyX0_ok nmX0 X.1.2.2.2.2.2.1 X.2.1 hM.1 hM.2.1 hS pos hq rfl 0 (by decide) (X.1.2.2.2.2.2.2 _ q229) (fun _ h => h) rfl (ty := .int) rfl rfl rfl (Nat.le_of_ble_eq_true rfl) hdg (fun H1 locs1 h1 h2 h3 => kk H1 locs1 _ rfl (cPD_upd hM.2.2 (by decide) hp h1 h2) h3)
theorem pc4 (X : CCx p s m args meth c cc nL ret RX0 Z) (hM : cPD Z Y A C H) (hS : va_S A H0 H locs) (hdg : decode cc pc = .ok (.putfield 27, 3)) {v : Int32} (hz : zb v = true) (kk : ∀ (H1 : Heap) (locs1 : List Loc) (J : St), J = upd2 C 0 4 v → cPD Z Y A J H1 → va_S A H0 H1 locs1 → W p l e R s m args below meth c H1 locs1 cells slots Q (F0 m (pc + 3) ls rest)) : W p l e R s m args below meth c H locs cells slots Q (F0 m pc ls (.int v :: .ref (cSa Z 0) :: rest)) := by
  obtain ⟨pos, hp, hq⟩ := cWs_at (Z := Z) (cHs_S (Y := Y) (C := C) (show 0 ∈ cS0 by decide))
  exact va_put X.1.1 X.1.2.1 X.1.2.2.2.2.2.2 in_X0 tyX0 tyX0_ok nmX0 X.1.2.2.2.2.2.1 X.2.1 hM.1 hM.2.1 hS pos hq rfl 4 (by decide) (X.1.2.2.2.2.2.2 _ q233) (fun _ h => h) rfl (ty := .boolean) rfl (zb_n hz) (zb_f hz) (Nat.le_of_ble_eq_true rfl) hdg (fun H1 locs1 h1 h2 h3 => kk H1 locs1 _ rfl (cPD_upd hM.2.2 (by decide) hp h1 h2) h3)
theorem pc12 (X : CCx p s m args meth c cc nL ret RX0 Z) (hM : cPD Z Y A C H) (hS : va_S A H0 H locs) (hdg : decode cc pc = .ok (.putfield 267, 3)) {v : Int32} (kk : ∀ (H1 : Heap) (locs1 : List Loc) (J : St), J = upd2 C 0 12 v → cPD Z Y A J H1 → va_S A H0 H1 locs1 → W p l e R s m args below meth c H1 locs1 cells slots Q (F0 m (pc + 3) ls rest)) : W p l e R s m args below meth c H locs cells slots Q (F0 m pc ls (.int v :: .ref (cSa Z 0) :: rest)) := by
  obtain ⟨pos, hp, hq⟩ := cWs_at (Z := Z) (cHs_S (Y := Y) (C := C) (show 0 ∈ cS0 by decide))
  exact va_put X.1.1 X.1.2.1 X.1.2.2.2.2.2.2 in_X0 tyX0 tyX0_ok nmX0 X.1.2.2.2.2.2.1 X.2.1 hM.1 hM.2.1 hS pos hq rfl 12 (by decide) (X.1.2.2.2.2.2.2 _ q241) (fun _ h => h) rfl (ty := .int) rfl rfl rfl (Nat.le_of_ble_eq_true rfl) hdg (fun H1 locs1 h1 h2 h3 => kk H1 locs1 _ rfl (cPD_upd hM.2.2 (by decide) hp h1 h2) h3)
theorem pc13 (X : CCx p s m args meth c cc nL ret RX0 Z) (hM : cPD Z Y A C H) (hS : va_S A H0 H locs) (hdg : decode cc pc = .ok (.putfield 270, 3)) {v : Int32} (kk : ∀ (H1 : Heap) (locs1 : List Loc) (J : St), J = upd2 C 0 13 v → cPD Z Y A J H1 → va_S A H0 H1 locs1 → W p l e R s m args below meth c H1 locs1 cells slots Q (F0 m (pc + 3) ls rest)) : W p l e R s m args below meth c H locs cells slots Q (F0 m pc ls (.int v :: .ref (cSa Z 0) :: rest)) := by
  obtain ⟨pos, hp, hq⟩ := cWs_at (Z := Z) (cHs_S (Y := Y) (C := C) (show 0 ∈ cS0 by decide))
  exact va_put X.1.1 X.1.2.1 X.1.2.2.2.2.2.2 in_X0 tyX0 tyX0_ok nmX0 X.1.2.2.2.2.2.1 X.2.1 hM.1 hM.2.1 hS pos hq rfl 13 (by decide) (X.1.2.2.2.2.2.2 _ q242) (fun _ h => h) rfl (ty := .int) rfl rfl rfl (Nat.le_of_ble_eq_true rfl) hdg (fun H1 locs1 h1 h2 h3 => kk H1 locs1 _ rfl (cPD_upd hM.2.2 (by decide) hp h1 h2) h3)
theorem pc14 (X : CCx p s m args meth c cc nL ret RX0 Z) (hM : cPD Z Y A C H) (hS : va_S A H0 H locs) (hdg : decode cc pc = .ok (.putfield 282, 3)) {v : Int32} (kk : ∀ (H1 : Heap) (locs1 : List Loc) (J : St), J = upd2 C 0 14 v → cPD Z Y A J H1 → va_S A H0 H1 locs1 → W p l e R s m args below meth c H1 locs1 cells slots Q (F0 m (pc + 3) ls rest)) : W p l e R s m args below meth c H locs cells slots Q (F0 m pc ls (.int v :: .ref (cSa Z 0) :: rest)) := by
  obtain ⟨pos, hp, hq⟩ := cWs_at (Z := Z) (cHs_S (Y := Y) (C := C) (show 0 ∈ cS0 by decide))
  exact va_put X.1.1 X.1.2.1 X.1.2.2.2.2.2.2 in_X0 tyX0 tyX0_ok nmX0 X.1.2.2.2.2.2.1 X.2.1 hM.1 hM.2.1 hS pos hq rfl 14 (by decide) (X.1.2.2.2.2.2.2 _ q243) (fun _ h => h) rfl (ty := .int) rfl rfl rfl (Nat.le_of_ble_eq_true rfl) hdg (fun H1 locs1 h1 h2 h3 => kk H1 locs1 _ rfl (cPD_upd hM.2.2 (by decide) hp h1 h2) h3)
theorem pc15 (X : CCx p s m args meth c cc nL ret RX0 Z) (hM : cPD Z Y A C H) (hS : va_S A H0 H locs) (hdg : decode cc pc = .ok (.putfield 283, 3)) {v : Int32} (kk : ∀ (H1 : Heap) (locs1 : List Loc) (J : St), J = upd2 C 0 15 v → cPD Z Y A J H1 → va_S A H0 H1 locs1 → W p l e R s m args below meth c H1 locs1 cells slots Q (F0 m (pc + 3) ls rest)) : W p l e R s m args below meth c H locs cells slots Q (F0 m pc ls (.int v :: .ref (cSa Z 0) :: rest)) := by
  obtain ⟨pos, hp, hq⟩ := cWs_at (Z := Z) (cHs_S (Y := Y) (C := C) (show 0 ∈ cS0 by decide))
  exact va_put X.1.1 X.1.2.1 X.1.2.2.2.2.2.2 in_X0 tyX0 tyX0_ok nmX0 X.1.2.2.2.2.2.1 X.2.1 hM.1 hM.2.1 hS pos hq rfl 15 (by decide) (X.1.2.2.2.2.2.2 _ q244) (fun _ h => h) rfl (ty := .int) rfl rfl rfl (Nat.le_of_ble_eq_true rfl) hdg (fun H1 locs1 h1 h2 h3 => kk H1 locs1 _ rfl (cPD_upd hM.2.2 (by decide) hp h1 h2) h3)
/-- a call that only reads (the two texts' marks are written anew) -/
theorem c_rof {v : Option Value} {a : Array Value} {free fr : Addr → Prop} (hr : va_Run p l e R s m args below meth c H locs cells slots 0 0 (F0 m pc ls st0) rest (Qro v a) fr) (hL : ∀ q ∈ locs, free q.base) (hF : ∀ q, fr q → free q)
    (kk : ∀ locs1 : List Loc, (∀ q ∈ locs1, free q.base) → W p l e R s m args below meth c H locs1 cells slots Q (F0 m (pc + 3) ls (v.toList ++ rest))) : W p l e R s m args below meth c H locs cells slots Q (F0 m pc ls st0) := by
  intro T hT X
  obtain ⟨v', st₀, t, T', L, h0, X', hL', e1, e2, ⟨hv, hh⟩, st⟩ := hr T hT X
  cases hv
  obtain ⟨t2, a1, b1⟩ := kk (locs ++ L) (fun q hq => by
    rcases List.mem_append.mp hq with h | h
    · exact hL q h
    · exact hF _ (hL' q h)) T' (by rw [e1, hh, h0]) X'
  exact ⟨t2, st t2 a1, b1⟩
/-- a receiver -/
theorem c_recv0 (X : CCx p s m args meth c cc nL ret own Z) (hM : cPD Z Y A C H) : ∃ cell : Cell, H[cSa Z 0]? = some cell ∧ cell.vm.isStatics = false ∧ s.vm.findClass RX0 = some cell.cls := by
  obtain ⟨pos, hp, hq⟩ := cWs_at (Z := Z) (cHs_S (Y := Y) (C := C) (show 0 ∈ cS0 by decide))
  exact va_recv (ci := 1) (q0 := pos) X.2.1 hM.1 rfl hq
theorem c_recvP (X : CCx p s m args meth c cc nL ret own Z) (hM : cPD Z Y A C H) {q : Nat} (h8 : q < 8) : ∃ cell : Cell, H[cSa Z (80 + q)]? = some cell ∧ cell.vm.isStatics = false ∧ s.vm.findClass RX1 = some cell.cls := by
  obtain ⟨pos, hp, hq⟩ := cWs_at (Z := Z) (cHs_S (Y := Y) (C := C) (cS_p h8))
  rw [cCo_p h8, cAr_s (by omega)] at hq
  exact va_recv (ci := 2) (q0 := pos) X.2.1 hM.1 rfl hq
theorem c_recvG (X : CCx p s m args meth c cc nL ret own Z) (hM : cPD Z Y A C H) {q : Nat} (h8 : q < cNn C 1) : ∃ cell : Cell, H[cDa Y (200 + q)]? = some cell ∧ cell.vm.isStatics = false ∧ s.vm.findClass RX9 = some cell.cls := by
  obtain ⟨pos, hp, hq⟩ := cWs_at (Z := Z) (cHs_G (Y := Y) (C := C) h8)
  have hb8 := (hM.2.2 1 (by decide)).1
  rw [cCo_g (by omega), cAr_d (by omega)] at hq
  exact va_recv (ci := 8) (q0 := pos) X.2.1 hM.1 rfl hq
theorem c_recvH (X : CCx p s m args meth c cc nL ret own Z) (hM : cPD Z Y A C H) {q : Nat} (h8 : q < 4) : ∃ cell : Cell, H[cSa Z (90 + q)]? = some cell ∧ cell.vm.isStatics = false ∧ s.vm.findClass RX5 = some cell.cls := by
  obtain ⟨pos, hp, hq⟩ := cWs_at (Z := Z) (cHs_S (Y := Y) (C := C) (cS_h h8))
  rw [cCo_h h8, cAr_s (by omega)] at hq
  exact va_recv (ci := 5) (q0 := pos) X.2.1 hM.1 rfl hq
theorem c_recvL (X : CCx p s m args meth c cc nL ret own Z) (hM : cPD Z Y A C H) {j : Nat} (h8 : j < 3) : ∃ cell : Cell, H[cSa Z (50 + j)]? = some cell ∧ cell.vm.isStatics = false ∧ s.vm.findClass RJ2 = some cell.cls := by
  match j, h8 with
  | 0, _ =>
    obtain ⟨pos, hp, hq⟩ := cWs_at (Z := Z) (cHs_S (Y := Y) (C := C) (show 50 ∈ cS0 by decide))
    exact va_recv (ci := 9) (q0 := pos) X.2.1 hM.1 rfl hq
  | 1, _ =>
    obtain ⟨pos, hp, hq⟩ := cWs_at (Z := Z) (cHs_S (Y := Y) (C := C) (show 51 ∈ cS0 by decide))
    exact va_recv (ci := 9) (q0 := pos) X.2.1 hM.1 rfl hq
  | 2, _ =>
    obtain ⟨pos, hp, hq⟩ := cWs_at (Z := Z) (cHs_S (Y := Y) (C := C) (show 52 ∈ cS0 by decide))
    exact va_recv (ci := 9) (q0 := pos) X.2.1 hM.1 rfl hq
theorem f_ro {v : Option Value} {free : Addr → Prop} {b : Addr} {Cn : String} (X : CCx p s m args meth c cc nL ret own Z) (hM : cPD Z Y A C H) (hrc : ∃ cell : Cell, H[b]? = some cell ∧ cell.vm.isStatics = false ∧ s.vm.findClass Cn = some cell.cls) (hL : ∀ q ∈ locs, free q.base) (hF : ∀ q, cFr Z q → free q) (hT : Met l y (ws_ y bytes maxL ret') rm (va_Pc (.ref b :: As) (cS Z Y A C)) (Qro v) 0 0 (cFr Z)) (hq : GoodIn lw_all (wsV own index Cn y (ws_ y bytes maxL ret')))
    (hd : y.cls = Cn ∧ y.cls ≠ "java/lang/invoke/MethodHandle" ∧ y.cls ≠ "java/lang/invoke/VarHandle" ∧ (parseMethodDescriptor y.desc).map (fun d => d.parameters.length) = some n)
    (hrm : rm.cells = 0 ∧ rm.slots = 0) (hR : rm.frames + 1 ≤ R.frames ∧ 8 + (maxL + 11) + rm.locals ≤ R.locals) (hc : cells ≤ R.cells ∧ slots ≤ R.slots) (hn : As.length = n) (hs : ls.size = nL) (hst : st0 = As.reverse ++ .ref b :: rest) (hw : (rest.map fun v => v.category).sum ≤ 8) (hdg : decode cc pc = .ok (.invokevirtual index, 3))
    (kk : ∀ locs1 : List Loc, (∀ q ∈ locs1, free q.base) → W p l e R s m args below meth c H locs1 cells slots Q (F0 m (pc + 3) ls (v.toList ++ rest))) : W p l e R s m args below meth c H locs cells slots Q (F0 m pc ls st0) :=
  c_rof (va_runV (As := As) (rest := rest) X.1.fix hT (cwV n X.1.2.2.2.2.2.2 hq rfl hrm.1 hrm.2 hd hR) ⟨cS.blind, hrc, fun U hU hW => ⟨rfl, by rw [hU]; exact hM, cKs.warm hW X.2⟩⟩ rfl hn hs hst (lv_room hw) hdg hc) hL hF kk
theorem f_roI {v : Int32} {free : Addr → Prop} {b : Addr} {Cn : String} (X : CCx p s m args meth c cc nL ret own Z) (hM : cPD Z Y A C H) (hrc : ∃ cell : Cell, H[b]? = some cell ∧ cell.vm.isStatics = false ∧ s.vm.findClass Cn = some cell.cls) (hL : ∀ q ∈ locs, free q.base) (hF : ∀ q, cFr Z q → free q) (hT : Met l y (ws_ y bytes maxL ret') rm (va_Pc (.ref b :: As) (cS Z Y A C)) (Qro (some (.int v))) 0 0 (cFr Z)) (hq : GoodIn lw_all (wsV own index Cn y (ws_ y bytes maxL ret')))
    (hd : y.cls = Cn ∧ y.cls ≠ "java/lang/invoke/MethodHandle" ∧ y.cls ≠ "java/lang/invoke/VarHandle" ∧ (parseMethodDescriptor y.desc).map (fun d => d.parameters.length) = some n)
    (hrm : rm.cells = 0 ∧ rm.slots = 0) (hR : rm.frames + 1 ≤ R.frames ∧ 8 + (maxL + 11) + rm.locals ≤ R.locals) (hc : cells ≤ R.cells ∧ slots ≤ R.slots) (hn : As.length = n) (hs : ls.size = nL) (hst : st0 = As.reverse ++ .ref b :: rest) (hw : (rest.map fun v => v.category).sum ≤ 8) (hdg : decode cc pc = .ok (.invokevirtual index, 3))
    (kk : ∀ locs1 : List Loc, (∀ q ∈ locs1, free q.base) → W p l e R s m args below meth c H locs1 cells slots Q (F0 m (pc + 3) ls (.int v :: rest))) : W p l e R s m args below meth c H locs cells slots Q (F0 m pc ls st0) :=
  f_ro X hM hrc hL hF hT hq hd hrm hR hc hn hs hst hw hdg kk
theorem f_roJ {v : Int64} {free : Addr → Prop} {b : Addr} {Cn : String} (X : CCx p s m args meth c cc nL ret own Z) (hM : cPD Z Y A C H) (hrc : ∃ cell : Cell, H[b]? = some cell ∧ cell.vm.isStatics = false ∧ s.vm.findClass Cn = some cell.cls) (hL : ∀ q ∈ locs, free q.base) (hF : ∀ q, cFr Z q → free q) (hT : Met l y (ws_ y bytes maxL ret') rm (va_Pc (.ref b :: As) (cS Z Y A C)) (Qro (some (.long v))) 0 0 (cFr Z)) (hq : GoodIn lw_all (wsV own index Cn y (ws_ y bytes maxL ret')))
    (hd : y.cls = Cn ∧ y.cls ≠ "java/lang/invoke/MethodHandle" ∧ y.cls ≠ "java/lang/invoke/VarHandle" ∧ (parseMethodDescriptor y.desc).map (fun d => d.parameters.length) = some n)
    (hrm : rm.cells = 0 ∧ rm.slots = 0) (hR : rm.frames + 1 ≤ R.frames ∧ 8 + (maxL + 11) + rm.locals ≤ R.locals) (hc : cells ≤ R.cells ∧ slots ≤ R.slots) (hn : As.length = n) (hs : ls.size = nL) (hst : st0 = As.reverse ++ .ref b :: rest) (hw : (rest.map fun v => v.category).sum ≤ 8) (hdg : decode cc pc = .ok (.invokevirtual index, 3))
    (kk : ∀ locs1 : List Loc, (∀ q ∈ locs1, free q.base) → W p l e R s m args below meth c H locs1 cells slots Q (F0 m (pc + 3) ls (.long v :: rest))) : W p l e R s m args below meth c H locs cells slots Q (F0 m pc ls st0) :=
  f_ro X hM hrc hL hF hT hq hd hrm hR hc hn hs hst hw hdg kk
theorem f_roR {v : Nat} {free : Addr → Prop} {b : Addr} {Cn : String} (X : CCx p s m args meth c cc nL ret own Z) (hM : cPD Z Y A C H) (hrc : ∃ cell : Cell, H[b]? = some cell ∧ cell.vm.isStatics = false ∧ s.vm.findClass Cn = some cell.cls) (hL : ∀ q ∈ locs, free q.base) (hF : ∀ q, cFr Z q → free q) (hT : Met l y (ws_ y bytes maxL ret') rm (va_Pc (.ref b :: As) (cS Z Y A C)) (Qro (some (.ref v))) 0 0 (cFr Z)) (hq : GoodIn lw_all (wsV own index Cn y (ws_ y bytes maxL ret')))
    (hd : y.cls = Cn ∧ y.cls ≠ "java/lang/invoke/MethodHandle" ∧ y.cls ≠ "java/lang/invoke/VarHandle" ∧ (parseMethodDescriptor y.desc).map (fun d => d.parameters.length) = some n)
    (hrm : rm.cells = 0 ∧ rm.slots = 0) (hR : rm.frames + 1 ≤ R.frames ∧ 8 + (maxL + 11) + rm.locals ≤ R.locals) (hc : cells ≤ R.cells ∧ slots ≤ R.slots) (hn : As.length = n) (hs : ls.size = nL) (hst : st0 = As.reverse ++ .ref b :: rest) (hw : (rest.map fun v => v.category).sum ≤ 8) (hdg : decode cc pc = .ok (.invokevirtual index, 3))
    (kk : ∀ locs1 : List Loc, (∀ q ∈ locs1, free q.base) → W p l e R s m args below meth c H locs1 cells slots Q (F0 m (pc + 3) ls (.ref v :: rest))) : W p l e R s m args below meth c H locs cells slots Q (F0 m pc ls st0) :=
  f_ro X hM hrc hL hF hT hq hd hrm hR hc hn hs hst hw hdg kk
theorem gl1 (X : CCx p s m args meth c cc nL ret RJ2 Z) (hM : cPD Z Y A C H) {q : Nat} (hb8 : q < 3) (hdg : decode cc pc = .ok (.getfield 9, 3)) (kk : W p l e R s m args below meth c H locs cells slots Q (F0 m (pc + 3) ls (.ref (cEl Z Y q) :: rest))) : W p l e R s m args below meth c H locs cells slots Q (F0 m pc ls (.ref (cSa Z (50 + q)) :: rest)) := by
  match q, hb8 with
  | 0, _ =>
    obtain ⟨pos, hp, hq⟩ := cWs_at (Z := Z) (cHs_S (Y := Y) (C := C) (show 50 ∈ cS0 by decide))
    exact va_get X.1.1 X.1.2.1 X.1.2.2.2.2.2.2 in_J2 X.1.2.2.2.2.2.1 X.2.1 hM.1 pos hq rfl 1 (by decide) (X.1.2.2.2.2.2.2 _ q151) (fun _ h => h) rfl hdg kk
  | 1, _ =>
    obtain ⟨pos, hp, hq⟩ := cWs_at (Z := Z) (cHs_S (Y := Y) (C := C) (show 51 ∈ cS0 by decide))
    exact va_get X.1.1 X.1.2.1 X.1.2.2.2.2.2.2 in_J2 X.1.2.2.2.2.2.1 X.2.1 hM.1 pos hq rfl 1 (by decide) (X.1.2.2.2.2.2.2 _ q151) (fun _ h => h) rfl hdg kk
  | 2, _ =>
    obtain ⟨pos, hp, hq⟩ := cWs_at (Z := Z) (cHs_S (Y := Y) (C := C) (show 52 ∈ cS0 by decide))
    exact va_get X.1.1 X.1.2.1 X.1.2.2.2.2.2.2 in_J2 X.1.2.2.2.2.2.1 X.2.1 hM.1 pos hq rfl 1 (by decide) (X.1.2.2.2.2.2.2 _ q151) (fun _ h => h) rfl hdg kk
theorem gl2 (X : CCx p s m args meth c cc nL ret RJ2 Z) (hM : cPD Z Y A C H) {q : Nat} (hb8 : q < 3) (hdg : decode cc pc = .ok (.getfield 48, 3)) (kk : W p l e R s m args below meth c H locs cells slots Q (F0 m (pc + 3) ls (.int (C (50 + q) 2) :: rest))) : W p l e R s m args below meth c H locs cells slots Q (F0 m pc ls (.ref (cSa Z (50 + q)) :: rest)) := by
  match q, hb8 with
  | 0, _ =>
    obtain ⟨pos, hp, hq⟩ := cWs_at (Z := Z) (cHs_S (Y := Y) (C := C) (show 50 ∈ cS0 by decide))
    exact va_get X.1.1 X.1.2.1 X.1.2.2.2.2.2.2 in_J2 X.1.2.2.2.2.2.1 X.2.1 hM.1 pos hq rfl 2 (by decide) (X.1.2.2.2.2.2.2 _ q152) (fun _ h => h) rfl hdg kk
  | 1, _ =>
    obtain ⟨pos, hp, hq⟩ := cWs_at (Z := Z) (cHs_S (Y := Y) (C := C) (show 51 ∈ cS0 by decide))
    exact va_get X.1.1 X.1.2.1 X.1.2.2.2.2.2.2 in_J2 X.1.2.2.2.2.2.1 X.2.1 hM.1 pos hq rfl 2 (by decide) (X.1.2.2.2.2.2.2 _ q152) (fun _ h => h) rfl hdg kk
  | 2, _ =>
    obtain ⟨pos, hp, hq⟩ := cWs_at (Z := Z) (cHs_S (Y := Y) (C := C) (show 52 ∈ cS0 by decide))
    exact va_get X.1.1 X.1.2.1 X.1.2.2.2.2.2.2 in_J2 X.1.2.2.2.2.2.1 X.2.1 hM.1 pos hq rfl 2 (by decide) (X.1.2.2.2.2.2.2 _ q152) (fun _ h => h) rfl hdg kk
/-- an element of a list -/
theorem c_elem (X : CCx p s m args meth c cc nL ret own Z) (hM : cPD Z Y A C H) {j : Nat} (hj : j < 3) {i : Int32} (hi : vp_in i (cNn C j)) (hdg : decode cc pc = .ok (.aaload, 1))
    (kk : ∀ q : Nat, q = i.toNatClampNeg → W p l e R s m args below meth c H locs cells slots Q (F0 m (pc + 1) ls (.ref (cDa Y (100 * (j + 1) + q)) :: rest))) : W p l e R s m args below meth c H locs cells slots Q (F0 m pc ls (.int i :: .ref (cEl Z Y j) :: rest)) := by
  have hlt : i.toNatClampNeg < cNn C j := Nat.not_le.mp fun z => hi (Or.inr z)
  have hw := hM.2.2 j hj
  have ho := hw.2.2 (by omega)
  obtain ⟨pos, hp, hq⟩ := cWs_at (Z := Z) (cHs_E (Y := Y) (C := C) hj ho)
  rw [cCo_e (by omega), cAr_d (by omega)] at hq
  rw [show cEl Z Y j = cDa Y (400 + j) from if_pos ho]
  refine va_aldq X.1.1 X.1.2.1 X.2.1 hM.1 pos 6 hq rfl (fun z => hi (z.imp_right fun z => by omega)) hdg ?_
  show W p l e R s m args below meth c H locs cells slots Q (F0 m (pc + 1) ls (va_rf (if i.toNatClampNeg < cNn C j then some (cDa Y (100 * (j + 1) + i.toNatClampNeg)) else none) :: rest))
  rw [if_pos hlt]
  exact kk _ rfl
theorem c_castD (X : CCx p s m args meth c cc nL ret own Z) (hM : cPD Z Y A C H) {q : Nat} (h8 : q < cNn C 0) (hlk : (Cond.classLink own index RX8).before args s = true) (hdg : decode cc pc = .ok (.checkcast index, 3)) (kk : W p l e R s m args below meth c H locs cells slots Q (F0 m (pc + 3) ls (.ref (cDa Y (100 + q)) :: rest))) : W p l e R s m args below meth c H locs cells slots Q (F0 m pc ls (.ref (cDa Y (100 + q)) :: rest)) := by
  obtain ⟨pos, hp, hq⟩ := cWs_at (Z := Z) (cHs_D (Y := Y) (C := C) h8)
  have hb8 := (hM.2.2 0 (by decide)).1
  rw [cCo_d (by omega), cAr_d (by omega)] at hq
  exact va_castS X.1.1 X.1.2.1 X.1.2.2.2.2.2.1 hlk (X.2.1.1 7 _ rfl).2 (va_recv (ci := 7) (q0 := pos) X.2.1 hM.1 rfl hq) hdg kk
theorem c_castG (X : CCx p s m args meth c cc nL ret own Z) (hM : cPD Z Y A C H) {q : Nat} (h8 : q < cNn C 1) (hlk : (Cond.classLink own index RX9).before args s = true) (hdg : decode cc pc = .ok (.checkcast index, 3)) (kk : W p l e R s m args below meth c H locs cells slots Q (F0 m (pc + 3) ls (.ref (cDa Y (200 + q)) :: rest))) : W p l e R s m args below meth c H locs cells slots Q (F0 m pc ls (.ref (cDa Y (200 + q)) :: rest)) := by
  obtain ⟨pos, hp, hq⟩ := cWs_at (Z := Z) (cHs_G (Y := Y) (C := C) h8)
  have hb8 := (hM.2.2 1 (by decide)).1
  rw [cCo_g (by omega), cAr_d (by omega)] at hq
  exact va_castS X.1.1 X.1.2.1 X.1.2.2.2.2.2.1 hlk (X.2.1.1 8 _ rfl).2 (va_recv (ci := 8) (q0 := pos) X.2.1 hM.1 rfl hq) hdg kk
theorem c_castA (X : CCx p s m args meth c cc nL ret own Z) (hM : cPD Z Y A C H) {q : Nat} (h8 : q < cNn C 2) (hlk : (Cond.classLink own index "[I").before args s = true) (hdg : decode cc pc = .ok (.checkcast index, 3)) (kk : W p l e R s m args below meth c H locs cells slots Q (F0 m (pc + 3) ls (.ref (cDa Y (300 + q)) :: rest))) : W p l e R s m args below meth c H locs cells slots Q (F0 m pc ls (.ref (cDa Y (300 + q)) :: rest)) := by
  obtain ⟨pos, hp, hq⟩ := cWs_at (Z := Z) (cHs_A (Y := Y) (C := C) h8)
  have hb8 := (hM.2.2 2 (by decide)).1
  rw [cCo_a (by omega), cAr_d (by omega)] at hq
  exact va_castA X.1.1 X.1.2.1 X.1.2.2.2.2.2.1 hlk hM.1 pos hq (X.2.1.2 0 _ rfl).2 hdg kk
end CWR
