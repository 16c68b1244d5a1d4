/-! ArrayList.clear, in cells of its own -/
def lcA (a e : Nat) : Nat → Prop := fun q => q = a ∨ q = e
abbrev lcW (Z : CZ) (a e : Nat) (mo sz : Int32) (f : Nat → Option Nat) : va_W := [(a, .inr (9, [.int mo, .ref e, .int sz])), (e, .inl (cAc Z 6, 10, .inr (.inr (.inr (.inr f)))))]
theorem lcD {Z : CZ} {a e : Nat} {mo sz : Int32} {f : Nat → Option Nat} (h : a ≠ e) : va_D (lcA a e) (lcW Z a e mo sz f) := by
  refine ⟨fun i j p q hp hq hpq => ?_, fun k q hk => ?_⟩
  · match i, j, hp, hq with
    | 0, 0, _, _ => rfl
    | 0, 1, hp, hq => cases hp; cases hq; exact absurd hpq h
    | 1, 0, hp, hq => cases hp; cases hq; exact absurd hpq.symm h
    | 1, 1, _, _ => rfl
    | 0, j + 2, _, hq => simp at hq
    | 1, j + 2, _, hq => simp at hq
    | i + 2, _, hp, _ => simp at hp
  · match k, hk with
    | 0, hk => cases hk; exact Or.inl rfl
    | 1, hk => cases hk; exact Or.inr rfl
    | k + 2, hk => simp at hk
def lcS (Z : CZ) (a e : Nat) (mo sz : Int32) (f : Nat → Option Nat) (U : State) : Prop := va_P Z.1 clA (lcW Z a e mo sz f) U.heap ∧ va_K Z.1 clA (tysA (cAc Z)) U
def lcut (f : Nat → Option Nat) (i : Nat) : Nat → Option Nat := fun k => if k < i then none else f k
theorem lcut_up (f : Nat → Option Nat) (i : Nat) : va_up (lcut f i) i none = lcut f (i + 1) := by
  funext k
  unfold va_up lcut
  by_cases h : k = i
  · subst h
    rw [if_pos rfl, if_pos (by omega)]
  · rw [if_neg h]
    by_cases h2 : k < i
    · rw [if_pos h2, if_pos (by omega)]
    · rw [if_neg h2, if_neg (by omega)]
theorem lcut_0 (f : Nat → Option Nat) : lcut f 0 = f := by
  funext k
  unfold lcut
  rw [if_neg (by omega)]
set_option maxHeartbeats 4000000 in
theorem al_clear_loop {p : Program} {l : Launch} {e0 : Env} {s : State} {m : MethodId} {args : Array Value} {below : List Frame} {meth : Method} {c : Code} {Z : CZ} {a e : Nat} {mo : Int32} {f : Nat → Option Nat} {R : Room} (C : SCx p s m args meth c cJ2_clear 4 none RJ2) (hK : va_K Z.1 clA (tysA (cAc Z)) s) (hae : a ≠ e) (N : Nat) (hN : N ≤ 10) :
    ∀ (n i : Nat), i ≤ N → N - i = n → ∀ (H : Heap) (locs : List Loc) (ls : Array Slot), va_P Z.1 clA (lcW Z a e mo 0 (lcut f i)) H → va_S (lcA a e) s.heap H locs → lv_has ls 4 [(0, .ref a), (1, .ref e), (2, .int (nI N)), (3, .int (nI i))] →
      W p l e0 R s m args below meth c H locs 0 0 (MQ below (Qwr none (fun t => va_P Z.1 clA (lcW Z a e mo 0 (lcut f N)) t.heap) (lcA a e)) args s 0 0 (lcA a e)) (F0 m 27 ls []) := by
  obtain ⟨hx, hb, hr, hlocks, hml, hown, hts⟩ := id C
  intro n
  induction n with
  | zero =>
    intro i hi hn H locs ls hP hS hl
    have e1 : i = N := by omega
    subst e1
    refine lv_iload_n hx hb dJ2_clear_27 rfl (lv_at hl 3 rfl) ?_
    refine lv_iload_n hx hb dJ2_clear_28 rfl (lv_at hl 2 rfl) ?_
    refine lv_icmp_ge (tgt := 42) hx hb dJ2_clear_29 (by decide) (fun _ => ?_) (fun c1 => absurd (nI_le (Nat.le_refl _) (by omega)) c1)
    exact W.vret hx hb hr (fun t ht hW => ⟨rfl, by show va_P _ _ _ t.heap; rw [ht]; exact hP, hS.F ht⟩) hS.2.2 dJ2_clear_42
  | succ n ih =>
    intro i hi hn H locs ls hP hS hl
    refine lv_iload_n hx hb dJ2_clear_27 rfl (lv_at hl 3 rfl) ?_
    refine lv_iload_n hx hb dJ2_clear_28 rfl (lv_at hl 2 rfl) ?_
    refine lv_icmp_ge (tgt := 42) hx hb dJ2_clear_29 (by decide) (fun c1 => absurd c1 (nI_ge (by omega) (by omega))) (fun _ => ?_)
    refine lv_aload_n hx hb dJ2_clear_32 rfl (lv_at hl 1 rfl) ?_
    refine lv_iload_n hx hb dJ2_clear_33 rfl (lv_at hl 3 rfl) ?_
    refine lv_null hx hb dJ2_clear_34 ?_
    refine va_astqN hx hb hK hP (lcD hae) hS 1 6 rfl rfl (vp_in_nI (by omega) (by omega)) dJ2_clear_35 (fun H locs hP hD hS => ?_)
    have hP : va_P Z.1 clA (lcW Z a e mo 0 (va_up (lcut f i) (nI i).toNatClampNeg none)) H := hP
    rw [nI_clamp (by omega), lcut_up] at hP
    refine lv_iinc (v := nI (i + 1)) (lv' := [(3, .int (nI (i + 1))), (0, .ref a), (1, .ref e), (2, .int (nI N))]) hx hb dJ2_clear_36 hl (k := 3) rfl (nI_1 i) (by decide) rfl (fun ls hl => ?_)
    refine lv_goto (tgt := 27) hx hb dJ2_clear_39 (by decide) ?_
    exact ih (i + 1) (by omega) (by omega) H locs ls hP hS (lv_sub hl [1, 2, 3, 0] rfl)
set_option maxHeartbeats 4000000 in
/-- a list that has its own array -/
theorem al_clear (l : Launch) (Z : CZ) (a e : Nat) (mo : Int32) (N : Nat) (hN : N ≤ 10) (f : Nat → Option Nat) (hae : a ≠ e) : Met l yJ2_clear (ws_ yJ2_clear cJ2_clear 4 none) ({ frames := 0, cells := 0, slots := 0, locals := 0 }) (va_Pc [.ref a] (lcS Z a e mo (nI N) f)) (Qwr none (fun t => va_P Z.1 clA (lcW Z a e (mo + 1) 0 (lcut f N)) t.heap) (lcA a e)) 0 0 (lcA a e) := by
  refine Met.ofW (cc := cJ2_clear) (maxL := 4) (ret := none) (by decide) rfl ?_
  intro p e0 s m args below meth c s₁ B hml hv
  obtain ⟨rfl, hP, hK⟩ := hv
  have hts := atoms_spec (ws := ws_ yJ2_clear cJ2_clear 4 none) B.pre
  have hts : ∀ w ∈ lw_all, w.before _ s = true := fun w h => hts w (List.mem_cons_of_mem _ h)
  have C : SCx p s m _ meth c cJ2_clear 4 none RJ2 := ⟨B.exec, B.bytes, B.returns, B.notSynchronized, hml, findClass_of_methodNamed B.named, hts⟩
  obtain ⟨hx, hb, hr, hlocks, hml, hown, -⟩ := id C
  have hS : va_S (lcA a e) s.heap s.heap [] := va_S.rf
  have hl := lv_entry ([.ref a]) (n := 4) (Nat.le_of_ble_eq_true rfl)
  rw [lg_entry_eq]
  generalize (lg_sl ([.ref a]) ++ List.replicate (4 - (lg_sl ([.ref a])).length) Slot.unset).toArray = ls at hl ⊢
  have hl : lv_has ls 4 [(0, .ref a)] := hl
  refine lv_aload_n hx hb dJ2_clear_0 rfl (lv_at hl 0 rfl) ?_
  refine lv_dup hx hb dJ2_clear_1 rfl ?_
  refine va_get hx hb hts in_J2 hown hK hP 0 rfl rfl 0 (by decide) (hts _ q154) (u_same (hts _ q155)) rfl dJ2_clear_2 ?_
  refine lv_iconst (v := 1) hx hb dJ2_clear_5 (by decide) ?_
  refine lv_iadd hx hb dJ2_clear_6 ?_
  refine va_put hx hb hts in_J2 tyJ2 tyJ2_ok nmJ2 hown hK hP (lcD hae) hS 0 rfl rfl 0 (by decide) (hts _ q154) (u_same (hts _ q155)) rfl (ty := .int) rfl rfl rfl (Nat.le_of_ble_eq_true rfl) dJ2_clear_7 (fun H locs hP hD hS => ?_)
  have hP : va_P Z.1 clA (lcW Z a e (mo + 1) (nI N) f) H := hP
  refine lv_aload_n hx hb dJ2_clear_10 rfl (lv_at hl 0 rfl) ?_
  refine va_get hx hb hts in_J2 hown hK hP 0 rfl rfl 1 (by decide) (hts _ q151) (fun _ h => h) rfl dJ2_clear_11 ?_
  refine lv_astore_n (lv' := [(1, .ref e), (0, .ref a)]) hx hb dJ2_clear_14 rfl hl (by decide) rfl (fun ls hl => ?_)
  refine lv_aload_n hx hb dJ2_clear_15 rfl (lv_at hl 1 rfl) ?_
  refine va_get hx hb hts in_J2 hown hK hP 0 rfl rfl 2 (by decide) (hts _ q152) (fun _ h => h) rfl dJ2_clear_16 ?_
  refine lv_istore_n (lv' := [(2, .int (nI N)), (1, .ref e), (0, .ref a)]) hx hb dJ2_clear_19 rfl hl (by decide) rfl (fun ls hl => ?_)
  refine lv_aload_n hx hb dJ2_clear_20 rfl (lv_at hl 2 rfl) ?_
  refine lv_iconst (v := 0) hx hb dJ2_clear_21 (by decide) ?_
  refine lv_dup_x1 hx hb dJ2_clear_22 rfl rfl ?_
  refine va_put hx hb hts in_J2 tyJ2 tyJ2_ok nmJ2 hown hK hP (lcD hae) hS 0 rfl rfl 2 (by decide) (hts _ q152) (fun _ h => h) rfl (ty := .int) rfl rfl rfl (Nat.le_of_ble_eq_true rfl) dJ2_clear_23 (fun H locs hP hD hS => ?_)
  have hP : va_P Z.1 clA (lcW Z a e (mo + 1) 0 f) H := hP
  refine lv_istore_n (lv' := [(3, .int 0), (2, .int (nI N)), (1, .ref e), (0, .ref a)]) hx hb dJ2_clear_26 rfl hl (by decide) rfl (fun ls hl => ?_)
  have h0 : (0 : Int32) = nI 0 := nI_0.symm
  exact al_clear_loop C hK hae N hN N 0 (Nat.zero_le _) rfl H locs ls (by rw [lcut_0]; exact hP) hS (lv_sub hl [3, 2, 1, 0] rfl)
