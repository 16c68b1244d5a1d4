/-! THE COMPONENT'S WORLD: handles (numbers of cells), banks C k of numbers by handle -/
abbrev CZ : Type := va_G × (Nat → ClassId) × (Nat → Nat) × Nat
abbrev CY : Type := (Nat → Nat) × (Nat → Bool)
abbrev cAc (Z : CZ) : Nat → ClassId := Z.2.1
def cSa (Z : CZ) (k : Nat) : Nat := Z.2.2.1 k
def cDa (Y : CY) (k : Nat) : Nat := Y.1 k
def cAr (Z : CZ) (Y : CY) (k : Nat) : Nat := if k < 100 then cSa Z k else cDa Y k
def cNn (C : St) (j : Nat) : Nat := (C (50 + j) 2).toNatClampNeg
/-- where a list keeps its elements -/
def cEl (Z : CZ) (Y : CY) (j : Nat) : Nat := if Y.2 j = true then cDa Y (400 + j) else Z.2.2.2
def cRt (f : Int32) : Nat := if f = 0 then 2 else if f = 1 then 3 else 0
def cS0 : List Nat := [0, 1, 2, 3, 7, 8, 9, 10, 11, 16, 19, 20, 21, 22, 23, 24, 25, 26, 27, 30, 31, 32, 33, 34, 35, 36, 37, 40, 41, 42, 43, 44, 45, 46, 50, 51, 52, 80, 81, 82, 83, 84, 85, 86, 87, 90, 91, 92, 93]
def cHs (Y : CY) (C : St) : List Nat := cS0 ++ ((List.range (cNn C 0)).map (100 + ·) ++ ((List.range (cNn C 1)).map (200 + ·) ++ ((List.range (cNn C 2)).map (300 + ·) ++ (((List.range 3).filter Y.2).map (400 + ·) ++ ((List.range 4).filter (fun s => decide (C (60 + s) 0 = 1))).map (500 + ·)))))
/-- the static cells -/
def cSt (Z : CZ) (Y : CY) (C : St) : Nat → va_E := fun k => match k with
  | 0 => .inr (1, [.int (C 0 0), .ref (cSa Z 1), .ref (cSa Z 2), .ref (cSa Z 3), .int (C 0 4), .ref (cSa Z 40), .ref (cSa Z 41), .ref (cSa Z 7), .ref (cSa Z 8), .ref (cSa Z 9), .ref (cSa Z 10), .ref (cSa Z 11), .int (C 0 12), .int (C 0 13), .int (C 0 14), .int (C 0 15), .ref (cSa Z 16), .ref (cSa Z 51), .ref (cSa Z 52), .ref (cSa Z 19)])
  | 1 => .inl (cAc Z 4, 8, .inr (.inr (.inr (.inr (fun p => some (cSa Z (80 + p)))))))
  | 2 => .inl (cAc Z 0, 8, .inl (C 2))
  | 3 => .inl (cAc Z 0, 4, .inl (C 3))
  | 8 => .inl (cAc Z 0, 256, .inl (C 8))
  | 9 => .inl (cAc Z 0, 256, .inl (C 9))
  | 10 => .inl (cAc Z 0, 256, .inl (C 10))
  | 11 => .inl (cAc Z 0, 8, .inl (C 11))
  | 16 => .inl (cAc Z 0, 8, .inl (C 16))
  | 7 => .inl (cAc Z 7, 8, .inr (.inr (.inr (.inr (fun h => some (cSa Z (30 + h)))))))
  | 19 => .inl (cAc Z 5, 4, .inr (.inr (.inr (.inr (fun s => some (cSa Z (90 + s)))))))
  | 20 => .inl (cAc Z 0, 4, .inl (C 20))
  | 21 => .inl (cAc Z 0, 4, .inl (C 21))
  | 22 => .inl (cAc Z 0, 4, .inl (C 22))
  | 23 => .inl (cAc Z 0, 4, .inl (C 23))
  | 24 => .inl (cAc Z 0, 4, .inl (C 24))
  | 25 => .inl (cAc Z 0, 4, .inl (C 25))
  | 26 => .inl (cAc Z 0, 4, .inl (C 26))
  | 27 => .inl (cAc Z 0, 4, .inl (C 27))
  | 30 => .inl (cAc Z 0, 256, .inl (C 30))
  | 31 => .inl (cAc Z 0, 256, .inl (C 31))
  | 32 => .inl (cAc Z 0, 256, .inl (C 32))
  | 33 => .inl (cAc Z 0, 256, .inl (C 33))
  | 34 => .inl (cAc Z 0, 256, .inl (C 34))
  | 35 => .inl (cAc Z 0, 256, .inl (C 35))
  | 36 => .inl (cAc Z 0, 256, .inl (C 36))
  | 37 => .inl (cAc Z 0, 256, .inl (C 37))
  | 40 => .inr (3, [.ref (cSa Z 42), .int (C 40 1), .int (C 40 2), .int (C 40 3), .int (C 40 4), .ref (cSa Z 50)])
  | 41 => .inr (4, [.ref (cSa Z 43), .int (C 41 1), .int (C 41 2), .int (C 41 3), .int (C 41 4), .ref (cSa Z 44), .ref (cSa Z 45), .ref (cSa Z 46), .int (C 41 8)])
  | 42 => .inl (cAc Z 0, 80, .inl (C 42))
  | 43 => .inl (cAc Z 0, 40, .inl (C 43))
  | 44 => .inl (cAc Z 0, 4, .inl (C 44))
  | 45 => .inl (cAc Z 1, 4, .inl (C 45))
  | 46 => .inl (cAc Z 1, 4, .inl (C 46))
  | 50 => .inr (9, [.int (C 50 0), .ref (cEl Z Y 0), .int (C 50 2)])
  | 51 => .inr (9, [.int (C 51 0), .ref (cEl Z Y 1), .int (C 51 2)])
  | 52 => .inr (9, [.int (C 52 0), .ref (cEl Z Y 2), .int (C 52 2)])
  | 80 => .inr (2, [.ref (cSa Z 20)])
  | 81 => .inr (2, [.ref (cSa Z 21)])
  | 82 => .inr (2, [.ref (cSa Z 22)])
  | 83 => .inr (2, [.ref (cSa Z 23)])
  | 84 => .inr (2, [.ref (cSa Z 24)])
  | 85 => .inr (2, [.ref (cSa Z 25)])
  | 86 => .inr (2, [.ref (cSa Z 26)])
  | 87 => .inr (2, [.ref (cSa Z 27)])
  | 90 => .inr (5, [va_rf (if C 60 0 = 1 then some (cDa Y 500) else none)])
  | 91 => .inr (5, [va_rf (if C 61 0 = 1 then some (cDa Y 501) else none)])
  | 92 => .inr (5, [va_rf (if C 62 0 = 1 then some (cDa Y 502) else none)])
  | 93 => .inr (5, [va_rf (if C 63 0 = 1 then some (cDa Y 503) else none)])
  | _ => .inr (2, [])
/-- a cell by its handle -/
def cCo (Z : CZ) (Y : CY) (C : St) (k : Nat) : va_E :=
  if k < 100 then cSt Z Y C k
  else if k < 200 then .inr (7, [.int (C k 0), .int (C k 1), .int (C k 2), .int (C k 3), .int (C k 4)])
  else if k < 300 then .inr (8, [.int (C k 0), .int (C k 1), .int (C k 2)])
  else if k < 400 then .inl (cAc Z 0, 2, .inl (C k))
  else if k < 500 then .inl (cAc Z 6, 10, .inr (.inr (.inr (.inr (fun i => if i < cNn C (k - 400) then some (cDa Y (100 * (k - 399) + i)) else none)))))
  else .inl (cAc Z (cRt (C (60 + (k - 500)) 1)), (C (60 + (k - 500)) 2).toNatClampNeg, .inl (C (70 + (k - 500))))
def cCell (Z : CZ) (Y : CY) (C : St) (k : Nat) : Nat × va_E := (cAr Z Y k, cCo Z Y C k)
def cWs (Z : CZ) (Y : CY) (C : St) : va_W := (cHs Y C).map (cCell Z Y C)
def cWf (Y : CY) (C : St) : Prop := ∀ j, j < 3 → cNn C j ≤ 10 ∧ ¬ C (50 + j) 2 < 0 ∧ (0 < cNn C j → Y.2 j = true)
def cPD (Z : CZ) (Y : CY) (A : Nat → Prop) (C : St) (H : Heap) : Prop := va_P Z.1 clA (cWs Z Y C) H ∧ va_D A (cWs Z Y C) ∧ cWf Y C
abbrev cNest : List Cond := [.methodLinkNest "SecondChances" 13 ⟨"SecondChances$Person", "<init>", "()V"⟩ "SecondChances", .fieldLinkNest "SecondChances" 104 "SecondChances$Person" "facts" "[I" "SecondChances", .fieldLinkNest "SecondChances" 157 "SecondChances$Deeds" "row" "Ljava/util/ArrayList;" "SecondChances", .fieldLinkNest "SecondChances" 399 "SecondChances$Text" "typed" "I" "SecondChances", .fieldLinkNest "SecondChances" 194 "SecondChances$Rules" "needs" "[I" "SecondChances", .fieldLinkNest "SecondChances" 197 "SecondChances$Rules" "weather" "[Z" "SecondChances", .fieldLinkNest "SecondChances" 200 "SecondChances$Rules" "place" "[Z" "SecondChances", .fieldLinkNest "SecondChances" 402 "SecondChances$Rules" "parts" "I" "SecondChances", .methodLinkNest "SecondChances" 77 ⟨"SecondChances$Sheet", "<init>", "()V"⟩ "SecondChances", .fieldLinkNest "SecondChances" 119 "SecondChances$Sheet" "row" "Ljava/lang/Object;" "SecondChances", .fieldLinkNest "SecondChances" 172 "SecondChances$Deed" "kind" "I" "SecondChances", .fieldLinkNest "SecondChances" 175 "SecondChances$Deed" "place" "I" "SecondChances", .fieldLinkNest "SecondChances" 178 "SecondChances$Deed" "weather" "I" "SecondChances", .fieldLinkNest "SecondChances" 180 "SecondChances$Deed" "worth" "I" "SecondChances", .fieldLinkNest "SecondChances" 183 "SecondChances$Deed" "there" "I" "SecondChances", .fieldLinkNest "SecondChances$Text" 60 "SecondChances$Torn" "place" "I" "SecondChances", .methodLinkNest "SecondChances$Text" 35 ⟨"SecondChances", "in", "(JJJ)Z"⟩ "SecondChances", .fieldLinkNest "SecondChances$Deeds" 50 "SecondChances$Deed" "there" "I" "SecondChances", .methodLinkNest "SecondChances$Deeds" 47 ⟨"SecondChances", "isPerson", "(I)Z"⟩ "SecondChances", .methodLinkNest "SecondChances$Deeds" 54 ⟨"SecondChances", "isIn", "(II)Z"⟩ "SecondChances", .not (.castable "[S" "[B"), .not (.castable "[I" "[B"), .not (.castable "[I" "[S"), .not (.castable "[B" "[S"), .not (.castable "[B" "[I"), .not (.castable "[S" "[I")]
theorem nw_not {a b : String} {s U : State} (hvm : s.vm.Alike U.vm) (h : va_Nw (.not (.castable a b)) s) : va_Nw (.not (.castable a b)) U := by
  have e : (Cond.not (.castable a b)).before #[] U = (Cond.not (.castable a b)).before #[] s := by
    simp only [Cond.before, Cond.holds, Cond.value, hvm.findClass, hvm.assignable]
  exact e.trans h
def cKs (Z : CZ) (U : State) : Prop := va_K Z.1 clA (tysA (cAc Z)) U ∧ ∀ w ∈ cNest, va_Nw w U
def cS (Z : CZ) (Y : CY) (A : Nat → Prop) (C : St) (U : State) : Prop := cPD Z Y A C U.heap ∧ cKs Z U
def CCx (p : Program) (s : State) (m : MethodId) (args : Array Value) (meth : Method) (c : Code) (cc : ByteArray) (nL : Nat) (ret : Option FieldType) (own : String) (Z : CZ) : Prop := SCx p s m args meth c cc nL ret own ∧ cKs Z s
theorem cKs.warm {Z : CZ} {s U : State} (hW : s.WarmedH U.vm) (h : cKs Z s) : cKs Z U := by
  refine ⟨va_K.moved hW.alike h.1, fun w hw => ?_⟩
  have h := h.2
  simp only [List.mem_cons, List.not_mem_nil, or_false] at hw
  rcases hw with rfl | rfl | rfl | rfl | rfl | rfl | rfl | rfl | rfl | rfl | rfl | rfl | rfl | rfl | rfl | rfl | rfl | rfl | rfl | rfl | rfl | rfl | rfl | rfl | rfl | rfl
  · exact va_Nw.warmM hW (h _ (by simp))
  · exact va_Nw.warmF hW (h _ (by simp))
  · exact va_Nw.warmF hW (h _ (by simp))
  · exact va_Nw.warmF hW (h _ (by simp))
  · exact va_Nw.warmF hW (h _ (by simp))
  · exact va_Nw.warmF hW (h _ (by simp))
  · exact va_Nw.warmF hW (h _ (by simp))
  · exact va_Nw.warmF hW (h _ (by simp))
  · exact va_Nw.warmM hW (h _ (by simp))
  · exact va_Nw.warmF hW (h _ (by simp))
  · exact va_Nw.warmF hW (h _ (by simp))
  · exact va_Nw.warmF hW (h _ (by simp))
  · exact va_Nw.warmF hW (h _ (by simp))
  · exact va_Nw.warmF hW (h _ (by simp))
  · exact va_Nw.warmF hW (h _ (by simp))
  · exact va_Nw.warmF hW (h _ (by simp))
  · exact va_Nw.warmM hW (h _ (by simp))
  · exact va_Nw.warmF hW (h _ (by simp))
  · exact va_Nw.warmM hW (h _ (by simp))
  · exact va_Nw.warmM hW (h _ (by simp))
  · exact nw_not hW.alike (h _ (by simp))
  · exact nw_not hW.alike (h _ (by simp))
  · exact nw_not hW.alike (h _ (by simp))
  · exact nw_not hW.alike (h _ (by simp))
  · exact nw_not hW.alike (h _ (by simp))
  · exact nw_not hW.alike (h _ (by simp))
theorem cKs.same {Z : CZ} {u U : State} (hv : u.vm = U.vm) (h : cKs Z u) : cKs Z U := by
  refine ⟨va_K.moved (by rw [hv]; exact Vm.Alike.refl _) h.1, fun w hw => ?_⟩
  have h := h.2 w hw
  simp only [List.mem_cons, List.not_mem_nil, or_false] at hw
  rcases hw with rfl | rfl | rfl | rfl | rfl | rfl | rfl | rfl | rfl | rfl | rfl | rfl | rfl | rfl | rfl | rfl | rfl | rfl | rfl | rfl | rfl | rfl | rfl | rfl | rfl | rfl <;> first | exact va_Nw.same rfl hv h | exact nw_not (by rw [hv]; exact Vm.Alike.refl _) h
theorem cS.blind {Z : CZ} {Y : CY} {A : Nat → Prop} {C : St} {av : List Value} : FrameBlind (va_Pc av (cS Z Y A C)) := fun a U g mk q => ⟨q.1, q.2.1, cKs.same (u := U) (U := U.calling g mk a) rfl q.2.2⟩
theorem nd_inj {l : List Nat} (h : l.Nodup) {i j k : Nat} (hi : l[i]? = some k) (hj : l[j]? = some k) : i = j := by
  obtain ⟨a1, a2⟩ := List.getElem?_eq_some_iff.mp hi
  obtain ⟨b1, b2⟩ := List.getElem?_eq_some_iff.mp hj
  have q := List.pairwise_iff_getElem.mp h
  rcases Nat.lt_trichotomy i j with c | c | c
  · exact absurd (a2.trans b2.symm) (q i j a1 b1 c)
  · exact c
  · exact absurd (b2.trans a2.symm) (q j i b1 a1 c)
theorem cS0_lt : ∀ k ∈ cS0, k < 100 := by decide +kernel
theorem cS0_nd : cS0.Nodup := by decide +kernel
theorem cHs_ge {Y : CY} {C : St} {k : Nat} (hw : cWf Y C) (h : k ∈ cHs Y C) : (k ∈ cS0 ∧ k < 100) ∨ (∃ d, d < cNn C 0 ∧ k = 100 + d) ∨ (∃ d, d < cNn C 1 ∧ k = 200 + d) ∨ (∃ d, d < cNn C 2 ∧ k = 300 + d) ∨ (∃ j, j < 3 ∧ Y.2 j = true ∧ k = 400 + j) ∨ (∃ s, s < 4 ∧ C (60 + s) 0 = 1 ∧ k = 500 + s) := by
  unfold cHs at h
  simp only [List.mem_append, List.mem_map, List.mem_range, List.mem_filter, decide_eq_true_eq] at h
  rcases h with h | ⟨d, h, rfl⟩ | ⟨d, h, rfl⟩ | ⟨d, h, rfl⟩ | ⟨d, h, rfl⟩ | ⟨d, h, rfl⟩
  · exact Or.inl ⟨h, cS0_lt k h⟩
  · exact Or.inr (Or.inl ⟨d, h, rfl⟩)
  · exact Or.inr (Or.inr (Or.inl ⟨d, h, rfl⟩))
  · exact Or.inr (Or.inr (Or.inr (Or.inl ⟨d, h, rfl⟩)))
  · exact Or.inr (Or.inr (Or.inr (Or.inr (Or.inl ⟨d, h.1, h.2, rfl⟩))))
  · exact Or.inr (Or.inr (Or.inr (Or.inr (Or.inr ⟨d, h.1, h.2, rfl⟩))))
theorem cHs_S {Y : CY} {C : St} {k : Nat} (h : k ∈ cS0) : k ∈ cHs Y C := List.mem_append_left _ h
theorem cHs_D {Y : CY} {C : St} {d : Nat} (h : d < cNn C 0) : 100 + d ∈ cHs Y C := by
  unfold cHs
  simp only [List.mem_append, List.mem_map, List.mem_range]
  exact Or.inr (Or.inl ⟨d, h, rfl⟩)
theorem cHs_G {Y : CY} {C : St} {d : Nat} (h : d < cNn C 1) : 200 + d ∈ cHs Y C := by
  unfold cHs
  simp only [List.mem_append, List.mem_map, List.mem_range]
  exact Or.inr (Or.inr (Or.inl ⟨d, h, rfl⟩))
theorem cHs_A {Y : CY} {C : St} {d : Nat} (h : d < cNn C 2) : 300 + d ∈ cHs Y C := by
  unfold cHs
  simp only [List.mem_append, List.mem_map, List.mem_range]
  exact Or.inr (Or.inr (Or.inr (Or.inl ⟨d, h, rfl⟩)))
theorem cHs_E {Y : CY} {C : St} {j : Nat} (h : j < 3) (h2 : Y.2 j = true) : 400 + j ∈ cHs Y C := by
  unfold cHs
  simp only [List.mem_append, List.mem_map, List.mem_range, List.mem_filter]
  exact Or.inr (Or.inr (Or.inr (Or.inr (Or.inl ⟨j, ⟨h, h2⟩, rfl⟩))))
theorem cHs_R {Y : CY} {C : St} {s : Nat} (h : s < 4) (h2 : C (60 + s) 0 = 1) : 500 + s ∈ cHs Y C := by
  unfold cHs
  simp only [List.mem_append, List.mem_map, List.mem_range, List.mem_filter, decide_eq_true_eq]
  exact Or.inr (Or.inr (Or.inr (Or.inr (Or.inr ⟨s, ⟨h, h2⟩, rfl⟩))))
theorem cHs_nd {Y : CY} {C : St} (hw : cWf Y C) : (cHs Y C).Nodup := by
  have h0 := (hw 0 (by decide)).1
  have h1 := (hw 1 (by decide)).1
  have h2 := (hw 2 (by decide)).1
  have inj : ∀ b : Nat, Function.Injective (fun x : Nat => b + x) := fun b x y h => by simp only at h; omega
  have nm : ∀ (b : Nat) (l : List Nat), l.Nodup → (l.map (b + ·)).Nodup := fun b l h => List.Pairwise.map _ (fun x y hxy e => hxy (inj b e)) h
  have nr : ∀ n, (List.range n).Nodup := fun n => List.nodup_range
  unfold cHs
  refine List.nodup_append.mpr ⟨cS0_nd, ?_, ?_⟩
  · refine List.nodup_append.mpr ⟨nm _ _ (nr _), ?_, ?_⟩
    · refine List.nodup_append.mpr ⟨nm _ _ (nr _), ?_, ?_⟩
      · refine List.nodup_append.mpr ⟨nm _ _ (nr _), ?_, ?_⟩
        · refine List.nodup_append.mpr ⟨nm _ _ ((nr 3).filter _), nm _ _ ((nr 4).filter _), ?_⟩
          intro x hx y hy e
          simp only [List.mem_map, List.mem_range, List.mem_filter] at hx hy
          obtain ⟨a, ha, rfl⟩ := hx
          obtain ⟨b, hb, rfl⟩ := hy
          omega
        · intro x hx y hy e
          simp only [List.mem_append, List.mem_map, List.mem_range, List.mem_filter] at hx hy
          obtain ⟨a, ha, rfl⟩ := hx
          rcases hy with ⟨b, hb, rfl⟩ | ⟨b, hb, rfl⟩ <;> omega
      · intro x hx y hy e
        simp only [List.mem_append, List.mem_map, List.mem_range, List.mem_filter] at hx hy
        obtain ⟨a, ha, rfl⟩ := hx
        rcases hy with ⟨b, hb, rfl⟩ | ⟨b, hb, rfl⟩ | ⟨b, hb, rfl⟩ <;> omega
    · intro x hx y hy e
      simp only [List.mem_append, List.mem_map, List.mem_range, List.mem_filter] at hx hy
      obtain ⟨a, ha, rfl⟩ := hx
      rcases hy with ⟨b, hb, rfl⟩ | ⟨b, hb, rfl⟩ | ⟨b, hb, rfl⟩ | ⟨b, hb, rfl⟩ <;> omega
  · intro x hx y hy e
    have hx := cS0_lt x hx
    simp only [List.mem_append, List.mem_map, List.mem_range, List.mem_filter] at hy
    rcases hy with ⟨b, hb, rfl⟩ | ⟨b, hb, rfl⟩ | ⟨b, hb, rfl⟩ | ⟨b, hb, rfl⟩ | ⟨b, hb, rfl⟩ <;> omega
/-- a cell's place in the world -/
theorem cWs_at {Z : CZ} {Y : CY} {C : St} {k : Nat} (h : k ∈ cHs Y C) : ∃ pos : Nat, (cHs Y C)[pos]? = some k ∧ (cWs Z Y C)[pos]? = some (cAr Z Y k, cCo Z Y C k) := by
  obtain ⟨pos, hp⟩ := List.getElem?_of_mem h
  refine ⟨pos, hp, ?_⟩
  unfold cWs
  rw [List.getElem?_map, hp]
  rfl
theorem cWs_set {Z : CZ} {Y : CY} {C C' : St} {pos k : Nat} (hw : cWf Y C) (hp : (cHs Y C)[pos]? = some k) (hh : cHs Y C' = cHs Y C) (ho : ∀ k', k' ∈ cHs Y C → k' ≠ k → cCo Z Y C' k' = cCo Z Y C k') :
    (cWs Z Y C).set pos (cAr Z Y k, cCo Z Y C' k) = cWs Z Y C' := by
  unfold cWs
  rw [hh]
  apply List.ext_getElem?
  intro j
  rw [List.getElem?_set, List.getElem?_map, List.getElem?_map]
  have hl : pos < (cHs Y C).length := (List.getElem?_eq_some_iff.mp hp).1
  by_cases hj : pos = j
  · subst hj
    rw [if_pos rfl, hp, List.length_map, if_pos hl]
    rfl
  · rw [if_neg hj]
    cases hm : (cHs Y C)[j]? with
    | none => rfl
    | some k2 =>
      have hne : k2 ≠ k := by
        intro e
        subst e
        exact hj (nd_inj (cHs_nd (Y := Y) hw) hp hm)
      show some (cAr Z Y k2, cCo Z Y C k2) = some (cAr Z Y k2, cCo Z Y C' k2)
      rw [ho k2 (List.mem_of_getElem? hm) hne]
