/-! the words of arraycopy's exception -/
set_option maxRecDepth 100000
def ncA (kn : String) (n : Nat) : String := toString kn ++ toString "[" ++ toString n ++ toString "]"
theorem ncA_len {kn : String} {n : Nat} (hk : kn.toList.length ≤ 5) (hn : n < 2 ^ 31) : (ncA kn n).toList.length ≤ 17 := by
  unfold ncA
  show (kn ++ "[" ++ toString n ++ "]").toList.length ≤ 17
  simp only [String.toList_append, List.length_append]
  have a1 : "[".toList.length = 1 := by decide
  have a2 : "]".toList.length = 1 := by decide
  have a4 := nat_print (n := n) (by omega)
  omega
theorem i32_b (x : Int32) : -2147483648 ≤ x.toInt ∧ x.toInt < 2147483648 := ⟨by have := Int32.le_toInt x; omega, by have := Int32.toInt_lt x; omega⟩
theorem nc_wp {src dst : Addr} {sp dp n : Int32} {cs cd : Cell} {ks kd : Class} {sComp dComp : ClassId} {ty : FieldType} {e : Env} {s : State}
    (hs : s.heap[src]? = some cs) (hd : s.heap[dst]? = some cd) (hsobj : ∀ k, cs.vm ≠ .statics k) (hdobj : ∀ k, cd.vm ≠ .statics k) (hks : s.vm.classes[cs.cls]? = some ks) (hkd : s.vm.classes[cd.cls]? = some kd) (hsk : ks.kind = .array sComp ty) (hdk : kd.kind = .array dComp ty) (hprim : refKind ty = false) (hkn : (Native.java_lang_System.arraycopy.kindName ty).toList.length ≤ 5) (z0 : cs.slots.size < 2 ^ 31) (z1 : cd.slots.size < 2 ^ 31)
    (hout : sp < 0 ∨ dp < 0 ∨ n < 0 ∨ sp.toInt + n.toInt > cs.slots.size ∨ dp.toInt + n.toInt > cd.slots.size) :
    ∃ w : String, w.toList.length ≤ 85 ∧ ∀ E : CtlPost, (∀ acts', E (.throwNew "java/lang/ArrayIndexOutOfBoundsException" (some ("arraycopy: " ++ w))) acts' s) → ∀ (Q : Option Value → Pre) (d : Bool) (acts : List Action), wp (Native.java_lang_System.arraycopy.sem #[.ref src, .int sp, .ref dst, .int dp, .int n]) Q E e d acts s := by
  have hty : ((refKind ty != refKind ty) || (!refKind ty && ty != ty)) = false := by simp
  unfold refKind at hty
  have la := ncA_len hkn z0
  have lb := ncA_len hkn z1
  have bs := i32_b sp
  have bd := i32_b dp
  have bn := i32_b n
  have ps := int32_print sp
  have pd := int32_print dp
  have pn := int32_print n
  have p1 := int_print (x := sp.toInt + n.toInt) (by omega) (by omega)
  have p2 := int_print (x := dp.toInt + n.toInt) (by omega) (by omega)
  by_cases h1 : sp < 0
  · refine ⟨toString "source index " ++ toString sp ++ toString " out of bounds for " ++ toString (ncA (Native.java_lang_System.arraycopy.kindName ty) cs.slots.size), ?_, fun E hE Q d acts => ?_⟩
    · have a1 : (toString "source index ").toList.length = 13 := by decide
      have a2 : (toString " out of bounds for ").toList.length = 19 := by decide
      simp only [String.toList_append, List.length_append]
      try (have e9 : (toString (ncA (Native.java_lang_System.arraycopy.kindName ty) cs.slots.size)).toList.length ≤ 17 := la)
      try (have e8 : (toString (ncA (Native.java_lang_System.arraycopy.kindName ty) cd.slots.size)).toList.length ≤ 17 := lb)
      omega
    · rw [Native.java_lang_System.arraycopy.sem_refs]
      unfold Native.java_lang_System.arraycopy.behind
      simp only [wp_bind', W.classOf, W.theClass, hs, hd, hks, hkd, Option.some.injEq, exists_eq_left', hsk, hdk]
      refine ⟨hsobj, hdobj, ?_⟩
      simp only [hty, Bool.false_eq_true, if_false]
      simp only [wp_bind', W.sizeOf, hs, hd, Option.some.injEq, exists_eq_left', h1, if_false, if_true, W.mark, W.throwNew]
      exact hE _
  by_cases h2 : dp < 0
  · refine ⟨toString "destination index " ++ toString dp ++ toString " out of bounds for " ++ toString (ncA (Native.java_lang_System.arraycopy.kindName ty) cd.slots.size), ?_, fun E hE Q d acts => ?_⟩
    · have a1 : (toString "destination index ").toList.length = 18 := by decide
      have a2 : (toString " out of bounds for ").toList.length = 19 := by decide
      simp only [String.toList_append, List.length_append]
      try (have e9 : (toString (ncA (Native.java_lang_System.arraycopy.kindName ty) cs.slots.size)).toList.length ≤ 17 := la)
      try (have e8 : (toString (ncA (Native.java_lang_System.arraycopy.kindName ty) cd.slots.size)).toList.length ≤ 17 := lb)
      omega
    · rw [Native.java_lang_System.arraycopy.sem_refs]
      unfold Native.java_lang_System.arraycopy.behind
      simp only [wp_bind', W.classOf, W.theClass, hs, hd, hks, hkd, Option.some.injEq, exists_eq_left', hsk, hdk]
      refine ⟨hsobj, hdobj, ?_⟩
      simp only [hty, Bool.false_eq_true, if_false]
      simp only [wp_bind', W.sizeOf, hs, hd, Option.some.injEq, exists_eq_left', h1, h2, if_false, if_true, W.mark, W.throwNew]
      exact hE _
  by_cases h3 : n < 0
  · refine ⟨toString "length " ++ toString n ++ toString " is negative", ?_, fun E hE Q d acts => ?_⟩
    · have a1 : (toString "length ").toList.length = 7 := by decide
      have a2 : (toString " is negative").toList.length = 12 := by decide
      simp only [String.toList_append, List.length_append]
      try (have e9 : (toString (ncA (Native.java_lang_System.arraycopy.kindName ty) cs.slots.size)).toList.length ≤ 17 := la)
      try (have e8 : (toString (ncA (Native.java_lang_System.arraycopy.kindName ty) cd.slots.size)).toList.length ≤ 17 := lb)
      omega
    · rw [Native.java_lang_System.arraycopy.sem_refs]
      unfold Native.java_lang_System.arraycopy.behind
      simp only [wp_bind', W.classOf, W.theClass, hs, hd, hks, hkd, Option.some.injEq, exists_eq_left', hsk, hdk]
      refine ⟨hsobj, hdobj, ?_⟩
      simp only [hty, Bool.false_eq_true, if_false]
      simp only [wp_bind', W.sizeOf, hs, hd, Option.some.injEq, exists_eq_left', h1, h2, h3, if_false, if_true, W.mark, W.throwNew]
      exact hE _
  by_cases h4 : sp.toInt + n.toInt > cs.slots.size
  · refine ⟨toString "last source index " ++ toString (sp.toInt + n.toInt) ++ toString " out of bounds for " ++ toString (ncA (Native.java_lang_System.arraycopy.kindName ty) cs.slots.size), ?_, fun E hE Q d acts => ?_⟩
    · have a1 : (toString "last source index ").toList.length = 18 := by decide
      have a2 : (toString " out of bounds for ").toList.length = 19 := by decide
      simp only [String.toList_append, List.length_append]
      try (have e9 : (toString (ncA (Native.java_lang_System.arraycopy.kindName ty) cs.slots.size)).toList.length ≤ 17 := la)
      try (have e8 : (toString (ncA (Native.java_lang_System.arraycopy.kindName ty) cd.slots.size)).toList.length ≤ 17 := lb)
      omega
    · rw [Native.java_lang_System.arraycopy.sem_refs]
      unfold Native.java_lang_System.arraycopy.behind
      simp only [wp_bind', W.classOf, W.theClass, hs, hd, hks, hkd, Option.some.injEq, exists_eq_left', hsk, hdk]
      refine ⟨hsobj, hdobj, ?_⟩
      simp only [hty, Bool.false_eq_true, if_false]
      simp only [wp_bind', W.sizeOf, hs, hd, Option.some.injEq, exists_eq_left', h1, h2, h3, h4, if_false, if_true, W.mark, W.throwNew]
      exact hE _
  by_cases h5 : dp.toInt + n.toInt > cd.slots.size
  · refine ⟨toString "last destination index " ++ toString (dp.toInt + n.toInt) ++ toString " out of bounds for " ++ toString (ncA (Native.java_lang_System.arraycopy.kindName ty) cd.slots.size), ?_, fun E hE Q d acts => ?_⟩
    · have a1 : (toString "last destination index ").toList.length = 23 := by decide
      have a2 : (toString " out of bounds for ").toList.length = 19 := by decide
      simp only [String.toList_append, List.length_append]
      try (have e9 : (toString (ncA (Native.java_lang_System.arraycopy.kindName ty) cs.slots.size)).toList.length ≤ 17 := la)
      try (have e8 : (toString (ncA (Native.java_lang_System.arraycopy.kindName ty) cd.slots.size)).toList.length ≤ 17 := lb)
      omega
    · rw [Native.java_lang_System.arraycopy.sem_refs]
      unfold Native.java_lang_System.arraycopy.behind
      simp only [wp_bind', W.classOf, W.theClass, hs, hd, hks, hkd, Option.some.injEq, exists_eq_left', hsk, hdk]
      refine ⟨hsobj, hdobj, ?_⟩
      simp only [hty, Bool.false_eq_true, if_false]
      simp only [wp_bind', W.sizeOf, hs, hd, Option.some.injEq, exists_eq_left', h1, h2, h3, h4, h5, if_false, if_true, W.mark, W.throwNew]
      exact hE _
  exact absurd hout (by
    rintro (h | h | h | h | h)
    · exact h1 h
    · exact h2 h
    · exact h3 h
    · exact h4 h
    · exact h5 h)
