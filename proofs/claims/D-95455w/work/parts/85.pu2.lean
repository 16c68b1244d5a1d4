/-! the plain side, part 2 -/
set_option maxRecDepth 100000
/-! PURE: the cheapest way to each set; plans -/
abbrev pu_FAR : Nat := 1000000
def pu_IsMn (F : Nat) (S : Nat → Prop) (val : Nat → Nat) (x : Nat) : Prop := x ≤ F ∧ (∀ i, S i → x ≤ val i) ∧ (x = F ∨ ∃ i, S i ∧ x = val i)
theorem pu_IsMn.uniq {F : Nat} {S : Nat → Prop} {val : Nat → Nat} {x y : Nat} (h : pu_IsMn F S val x) (g : pu_IsMn F S val y) : x = y := by
  rcases h with ⟨h1, h2, h3⟩
  rcases g with ⟨g1, g2, g3⟩
  have a : x ≤ y := by
    rcases g3 with z | ⟨i, z1, z2⟩
    · omega
    · rw [z2]; exact h2 i z1
  have b : y ≤ x := by
    rcases h3 with z | ⟨i, z1, z2⟩
    · omega
    · rw [z2]; exact g2 i z1
  omega
theorem pu_IsMn.congr {F : Nat} {S S' : Nat → Prop} {val val' : Nat → Nat} {x : Nat} (h : pu_IsMn F S val x) (hS : ∀ i, S i ↔ S' i) (hv : ∀ i, S i → val i = val' i) : pu_IsMn F S' val' x := by
  refine ⟨h.1, fun i hi => ?_, ?_⟩
  · rw [← hv i ((hS i).mpr hi)]; exact h.2.1 i ((hS i).mpr hi)
  · rcases h.2.2 with z | ⟨i, z1, z2⟩
    · exact Or.inl z
    · exact Or.inr ⟨i, (hS i).mp z1, by rw [← hv i z1]; exact z2⟩
theorem pu_IsMn.add {F : Nat} {S : Nat → Prop} {val : Nat → Nat} {x : Nat} (h : pu_IsMn F S val x) (c : Nat) : pu_IsMn F (fun i => S i ∨ i = c) val (min x (val c)) := by
  refine ⟨Nat.le_trans (Nat.min_le_left _ _) h.1, fun i hi => ?_, ?_⟩
  · rcases hi with z | z
    · exact Nat.le_trans (Nat.min_le_left _ _) (h.2.1 i z)
    · rw [z]; exact Nat.min_le_right _ _
  · by_cases q : x ≤ val c
    · rw [Nat.min_eq_left q]
      rcases h.2.2 with z | ⟨i, z1, z2⟩
      · exact Or.inl z
      · exact Or.inr ⟨i, Or.inl z1, z2⟩
    · rw [Nat.min_eq_right (by omega)]
      exact Or.inr ⟨c, Or.inr rfl, rfl⟩
theorem pu_IsMn.zero (F : Nat) (val : Nat → Nat) : pu_IsMn F (fun _ => False) val F := ⟨Nat.le_refl _, fun _ h => h.elim, Or.inl rfl⟩
def pu_mnS (F : Nat) (cond : Nat → Bool) (val : Nat → Nat) (N : Nat) : Nat := pu_fo N (fun c a => if cond c = true then min a (val c) else a) F
theorem pu_mnS_is (F : Nat) (cond : Nat → Bool) (val : Nat → Nat) : ∀ N, pu_IsMn F (fun c => c < N ∧ cond c = true) val (pu_mnS F cond val N)
  | 0 => (pu_IsMn.zero F val).congr (fun i => by simp) (fun _ h => h.elim)
  | N + 1 => by
    have ih := pu_mnS_is F cond val N
    have e : pu_mnS F cond val (N + 1) = if cond N = true then min (pu_mnS F cond val N) (val N) else pu_mnS F cond val N := rfl
    rw [e]
    by_cases q : cond N = true
    · rw [if_pos q]
      refine (ih.add N).congr (fun i => ?_) (fun _ _ => rfl)
      constructor
      · rintro (z | z)
        · exact ⟨by omega, z.2⟩
        · rw [z]; exact ⟨by omega, q⟩
      · intro z
        by_cases w : i = N
        · exact Or.inr w
        · exact Or.inl ⟨by omega, z.2⟩
    · rw [if_neg q]
      refine ih.congr (fun i => ?_) (fun _ _ => rfl)
      constructor
      · intro z; exact ⟨by omega, z.2⟩
      · intro z
        refine ⟨?_, z.2⟩
        rcases (show i < N ∨ i = N by omega) with w | w
        · exact w
        · rw [w] at z; exact absurd z.2 q
/-- hours that are fixed for the first m deeds: 0 none, k + 1 hour k -/
def pu_okS (fx : Nat → Nat) (m h s : Nat) : Bool := pu_allS m (fun d => s.testBit d == decide (fx d = h + 1))
def pu_DS (T : Nat → Nat → Nat) (fx : Nat → Nat) (m : Nat) : Nat → Nat → Nat
  | 0, s => if s = 0 then 0 else pu_FAR
  | h + 1, s => pu_mnS pu_FAR (fun c => decide (c &&& s = c) && pu_okS fx m h c && decide (T h c < pu_FAR)) (fun c => pu_DS T fx m h (s ^^^ c) + T h c) 256
def pu_allow (T : Nat → Nat → Nat) (fx : Nat → Nat) (m h s c : Nat) : Prop := c &&& s = c ∧ pu_okS fx m h c = true ∧ T h c < pu_FAR
theorem pu_sub_le {c s : Nat} (h : c &&& s = c) : c ≤ s := by rw [← h]; exact Nat.and_le_right
theorem pu_DS_mn {T : Nat → Nat → Nat} {fx : Nat → Nat} {m h s : Nat} (pu_hs : s < 256) : pu_IsMn pu_FAR (pu_allow T fx m h s) (fun c => pu_DS T fx m h (s ^^^ c) + T h c) (pu_DS T fx m (h + 1) s) := by
  refine (pu_mnS_is pu_FAR _ _ 256).congr (fun i => ?_) (fun _ _ => rfl)
  unfold pu_allow
  simp only [Bool.and_eq_true, decide_eq_true_eq]
  constructor
  · intro z; exact ⟨z.2.1.1, z.2.1.2, z.2.2⟩
  · intro z
    have := pu_sub_le z.1
    exact ⟨by omega, ⟨z.1, z.2.1⟩, z.2.2⟩
theorem pu_DS_le {T : Nat → Nat → Nat} {fx : Nat → Nat} {m : Nat} : ∀ h s, s < 256 → pu_DS T fx m h s ≤ pu_FAR
  | 0, s, _ => by unfold pu_DS; split <;> decide
  | h + 1, s, pu_hs => (pu_DS_mn pu_hs).1
def pu_setN (f : Nat → Nat) (i v : Nat) : Nat → Nat := fun j => if j = i then v else f j
theorem pu_okS_succ {fx : Nat → Nat} {m h c k : Nat} : pu_okS (pu_setN fx m k) (m + 1) h c = (pu_okS fx m h c && (c.testBit m == decide (k = h + 1))) := by
  show (pu_allS m _ && _) = _
  unfold pu_okS
  rw [pu_allS_congr m (q := fun d => c.testBit d == decide (fx d = h + 1)) (fun i hi => by unfold pu_setN; rw [if_neg (show i ≠ m by omega)])]
  unfold pu_setN
  dsimp only
  rw [if_pos rfl]
theorem pu_sub_tb {c s m : Nat} (h : c &&& s = c) (hc : c.testBit m = true) : s.testBit m = true := by
  rw [← h, Nat.testBit_and] at hc
  simp only [Bool.and_eq_true] at hc
  exact hc.2
theorem pu_xor_lt {a b : Nat} (ha : a < 256) (hb : b < 256) : a ^^^ b < 256 := Nat.xor_lt_two_pow (n := 8) ha hb
/-- more that is fixed costs no less -/
theorem pu_DS_mono {T : Nat → Nat → Nat} {fx : Nat → Nat} {m k : Nat} : ∀ h s, s < 256 → pu_DS T fx m h s ≤ pu_DS T (pu_setN fx m k) (m + 1) h s
  | 0, s, _ => Nat.le_refl _
  | h + 1, s, pu_hs => by
    have a := pu_DS_mn (T := T) (fx := fx) (m := m) (h := h) pu_hs
    have b := pu_DS_mn (T := T) (fx := pu_setN fx m k) (m := m + 1) (h := h) pu_hs
    rcases b.2.2 with z | ⟨c, z1, z2⟩
    · rw [z]; exact a.1
    · rw [z2]
      have hc : c < 256 := Nat.lt_of_le_of_lt (pu_sub_le z1.1) pu_hs
      have z3 : pu_okS fx m h c = true := by
        have := z1.2.1
        rw [pu_okS_succ, Bool.and_eq_true] at this
        exact this.1
      exact Nat.le_trans (a.2.1 c ⟨z1.1, z3, z1.2.2⟩) (Nat.add_le_add_right (pu_DS_mono h _ (pu_xor_lt pu_hs hc)) _)
theorem pu_DS_out {T : Nat → Nat → Nat} {fx : Nat → Nat} {m k : Nat} : ∀ h s, s < 256 → s.testBit m = false → (k = 0 ∨ h < k) → pu_DS T (pu_setN fx m k) (m + 1) h s = pu_DS T fx m h s
  | 0, s, _, _, _ => rfl
  | h + 1, s, pu_hs, hb, hk => by
    have a := pu_DS_mn (T := T) (fx := fx) (m := m) (h := h) pu_hs
    have b := pu_DS_mn (T := T) (fx := pu_setN fx m k) (m := m + 1) (h := h) pu_hs
    have hn : ∀ c, c &&& s = c → c.testBit m = false := by
      intro c hc
      cases q : c.testBit m with
      | false => rfl
      | true => rw [pu_sub_tb hc q] at hb; cases hb
    refine b.uniq (a.congr (fun c => ?_) (fun c hc => ?_))
    · unfold pu_allow
      rw [pu_okS_succ]
      constructor
      · intro z
        refine ⟨z.1, ?_, z.2.2⟩
        rw [z.2.1, hn c z.1, decide_eq_false (show ¬ k = h + 1 by omega)]
        rfl
      · intro z
        refine ⟨z.1, ?_, z.2.2⟩
        have := z.2.1
        rw [Bool.and_eq_true] at this
        exact this.1
    · have h256 : c < 256 := Nat.lt_of_le_of_lt (pu_sub_le hc.1) pu_hs
      rw [pu_DS_out h _ (pu_xor_lt pu_hs h256) (by rw [Nat.testBit_xor, hb, hn c hc.1]; rfl) (by omega)]
theorem pu_DS_in {T : Nat → Nat → Nat} {fx : Nat → Nat} {m : Nat} : ∀ h s, s < 256 → s.testBit m = true → pu_DS T fx m h s < pu_FAR → ∃ k, k ≤ h ∧ pu_DS T (pu_setN fx m k) (m + 1) h s = pu_DS T fx m h s
  | 0, s, pu_hs, hb, hf => by
    exfalso
    have : s ≠ 0 := by
      intro z
      rw [z, Nat.zero_testBit] at hb
      cases hb
    unfold pu_DS at hf
    rw [if_neg this] at hf
    omega
  | h + 1, s, pu_hs, hb, hf => by
    have a := pu_DS_mn (T := T) (fx := fx) (m := m) (h := h) pu_hs
    rcases a.2.2 with z | ⟨c, z1, z2⟩
    · omega
    · have z2 : pu_DS T fx m (h + 1) s = pu_DS T fx m h (s ^^^ c) + T h c := z2
      have hc : c < 256 := Nat.lt_of_le_of_lt (pu_sub_le z1.1) pu_hs
      have hx := pu_xor_lt pu_hs hc
      have fin : ∀ k, k ≤ h + 1 → (c.testBit m == decide (k = h + 1)) = true → pu_DS T (pu_setN fx m k) (m + 1) h (s ^^^ c) = pu_DS T fx m h (s ^^^ c) → ∃ k, k ≤ h + 1 ∧ pu_DS T (pu_setN fx m k) (m + 1) (h + 1) s = pu_DS T fx m (h + 1) s := by
        intro k hk hq he
        refine ⟨k, hk, Nat.le_antisymm ?_ (pu_DS_mono _ _ pu_hs)⟩
        rw [z2, ← he]
        exact (pu_DS_mn (T := T) (fx := pu_setN fx m k) (m := m + 1) (h := h) pu_hs).2.1 c ⟨z1.1, by rw [pu_okS_succ, z1.2.1, hq]; rfl, z1.2.2⟩
      cases q : c.testBit m with
      | true => exact fin (h + 1) (by omega) (by rw [q]; simp) (pu_DS_out h _ hx (by rw [Nat.testBit_xor, hb, q]; rfl) (Or.inr (by omega)))
      | false =>
        obtain ⟨k, hk, e⟩ := pu_DS_in (T := T) (fx := fx) (m := m) h (s ^^^ c) hx (by rw [Nat.testBit_xor, hb, q]; rfl) (by omega)
        exact fin k (by omega) (by rw [q, decide_eq_false (by omega)]; rfl) e
/-- the best of all sets: most worth, then least cost -/
def pu_bst1 (W E : Nat → Nat) (purse s : Nat) (a : Option (Nat × Nat)) : Option (Nat × Nat) :=
  if E s ≤ purse then (match a with
    | none => some (W s, E s)
    | some (w, c) => if w < W s ∨ W s = w ∧ E s < c then some (W s, E s) else some (w, c)) else a
def pu_bestS (W E : Nat → Nat) (purse N : Nat) : Option (Nat × Nat) := pu_fo N (pu_bst1 W E purse) none
def pu_IsBest (W E : Nat → Nat) (purse N : Nat) : Option (Nat × Nat) → Prop
  | none => ∀ s, s < N → purse < E s
  | some (w, c) => (∃ s, s < N ∧ E s ≤ purse ∧ W s = w ∧ E s = c) ∧ ∀ s, s < N → E s ≤ purse → W s < w ∨ W s = w ∧ c ≤ E s
theorem pu_bestS_is (W E : Nat → Nat) (purse : Nat) : ∀ N, pu_IsBest W E purse N (pu_bestS W E purse N)
  | 0 => fun s pu_hs => by omega
  | N + 1 => by
    have ih := pu_bestS_is W E purse N
    have e : pu_bestS W E purse (N + 1) = pu_bst1 W E purse N (pu_bestS W E purse N) := rfl
    rw [e]
    revert ih
    generalize pu_bestS W E purse N = a
    intro ih
    unfold pu_bst1
    by_cases q : E N ≤ purse
    · rw [if_pos q]
      cases a with
      | none =>
        refine ⟨⟨N, by omega, q, rfl, rfl⟩, fun s pu_hs h => ?_⟩
        rcases (show s < N ∨ s = N by omega) with w | w
        · have := ih s w; omega
        · rw [w]; exact Or.inr ⟨rfl, Nat.le_refl _⟩
      | some wc =>
        obtain ⟨w, c⟩ := wc
        dsimp only
        by_cases z : w < W N ∨ W N = w ∧ E N < c
        · rw [if_pos z]
          refine ⟨⟨N, by omega, q, rfl, rfl⟩, fun s pu_hs h => ?_⟩
          rcases (show s < N ∨ s = N by omega) with y | y
          · have := ih.2 s y h; omega
          · rw [y]; exact Or.inr ⟨rfl, Nat.le_refl _⟩
        · rw [if_neg z]
          obtain ⟨⟨s0, a1, a2, a3, a4⟩, a5⟩ := ih
          refine ⟨⟨s0, by omega, a2, a3, a4⟩, fun s pu_hs h => ?_⟩
          rcases (show s < N ∨ s = N by omega) with y | y
          · exact a5 s y h
          · rw [y]; omega
    · rw [if_neg q]
      cases a with
      | none =>
        intro s pu_hs
        rcases (show s < N ∨ s = N by omega) with y | y
        · exact ih s y
        · rw [y]; omega
      | some wc =>
        obtain ⟨w, c⟩ := wc
        obtain ⟨⟨s0, a1, a2, a3, a4⟩, a5⟩ := ih
        refine ⟨⟨s0, by omega, a2, a3, a4⟩, fun s pu_hs h => ?_⟩
        rcases (show s < N ∨ s = N by omega) with y | y
        · exact a5 s y h
        · rw [y] at h; omega
theorem pu_IsBest.uniq {W E : Nat → Nat} {purse N w c : Nat} {b : Option (Nat × Nat)} (h : pu_IsBest W E purse N (some (w, c))) (g : pu_IsBest W E purse N b) : b = some (w, c) := by
  obtain ⟨⟨s, a1, a2, a3, a4⟩, a5⟩ := h
  cases b with
  | none => have := g s a1; omega
  | some wc =>
    obtain ⟨w', c'⟩ := wc
    obtain ⟨⟨s', b1, b2, b3, b4⟩, b5⟩ := g
    have x1 := a5 s' b1 b2
    have x2 := b5 s a1 a2
    have : w' = w ∧ c' = c := by omega
    rw [this.1, this.2]
/-- a deed that is free can be fixed -/
theorem pu_fix_one {T : Nat → Nat → Nat} {W : Nat → Nat} {fx : Nat → Nat} {m N purse : Nat} {t : Nat × Nat} (hp : purse < pu_FAR) (hN : N ≤ 256) (h : pu_bestS W (pu_DS T fx m 8) purse N = some t) : ∃ k, k ≤ 8 ∧ pu_bestS W (pu_DS T (pu_setN fx m k) (m + 1) 8) purse N = some t := by
  obtain ⟨w, c⟩ := t
  have b := pu_bestS_is W (pu_DS T fx m 8) purse N
  rw [h] at b
  obtain ⟨⟨s, a1, a2, a3, a4⟩, a5⟩ := b
  have fin : ∀ k, k ≤ 8 → pu_DS T (pu_setN fx m k) (m + 1) 8 s = pu_DS T fx m 8 s → ∃ k, k ≤ 8 ∧ pu_bestS W (pu_DS T (pu_setN fx m k) (m + 1) 8) purse N = some (w, c) := by
    intro k hk he
    refine ⟨k, hk, pu_IsBest.uniq (W := W) (E := pu_DS T (pu_setN fx m k) (m + 1) 8) (purse := purse) (N := N) ⟨⟨s, a1, by omega, a3, by omega⟩, fun s' h1 h2 => ?_⟩ (pu_bestS_is _ _ _ _)⟩
    have := pu_DS_mono (T := T) (fx := fx) (m := m) (k := k) 8 s' (by omega)
    have := a5 s' h1 (by omega)
    omega
  cases q : s.testBit m with
  | false => exact fin 0 (by omega) (pu_DS_out 8 s (by omega) q (Or.inl rfl))
  | true =>
    obtain ⟨k, hk, e⟩ := pu_DS_in (T := T) (fx := fx) (m := m) 8 s (by omega) q (by omega)
    exact fin k hk e
/-! PURE: the model's search for the best -/
theorem pu_lp_dn {T : Type} {dead : T} {b : T → T} (Q : Nat → T → Prop) (h : ∀ m t, (∀ c, c < m → Q c t) → Q m (b t)) : ∀ n m, m < n → Q m (lp dead b n)
  | 0, m, hm => by omega
  | n + 1, m, hm => h m _ (fun c hc => pu_lp_dn Q h n c (by omega))
theorem pu_lp_forE {T α R : Type} {dead : T} {b : T → T} (call : T → Nat → α → R) (P : Nat → α → Prop) (K : α → R) (N : Nat)
    (h0 : ∀ t a, P N a → call (b t) N a = K a) (pu_hs : ∀ t i a, i < N → P i a → ∃ a', P (i + 1) a' ∧ call (b t) i a = call t (i + 1) a') {a : α} (ha : P 0 a) (n : Nat) (hn : N < n) :
    ∃ a', P N a' ∧ call (lp dead b n) 0 a = K a' := by
  have key : ∀ m n, m < n → ∀ i a, i + m = N → P i a → ∃ a', P N a' ∧ call (lp dead b n) i a = K a' := by
    intro m n hmn
    refine pu_lp_up (fun m t => ∀ i a, i + m = N → P i a → ∃ a', P N a' ∧ call t i a = K a') ?_ ?_ m n hmn
    · intro t i a hi hp
      have : i = N := by omega
      subst this
      exact ⟨a, hp, h0 t _ hp⟩
    · intro m t ih i a hi hp
      obtain ⟨a', h1, h2⟩ := pu_hs t i a (by omega) hp
      rw [h2]
      exact ih (i + 1) a' (by omega) h1
  exact key N n hn 0 a (by omega) ha
/-- but for some banks all is as it was -/
def pu_Fr (bs : List Nat) (I J : St) : Prop := ∀ b, b ∉ bs → J b = I b
theorem pu_Fr.refl (bs : List Nat) (I : St) : pu_Fr bs I I := fun _ _ => rfl
theorem pu_Fr.trans {bs : List Nat} {I J K : St} (h : pu_Fr bs I J) (g : pu_Fr bs J K) : pu_Fr bs I K := fun b hb => (g b hb).trans (h b hb)
theorem pu_Fr.upd {bs : List Nat} {I J : St} {k i : Nat} {v : Int32} (h : pu_Fr bs I J) (hk : k ∈ bs) : pu_Fr bs I (upd2 J k i v) := fun b hb => by
  rw [upd2_other J i v (fun e => hb (by rw [e]; exact hk))]
  exact h b hb
theorem pu_Fr.up1 {bs : List Nat} {I J : St} {k : Nat} {f : Nat → Int32} (h : pu_Fr bs I J) (hk : k ∈ bs) : pu_Fr bs I (up1 J k f) := fun b hb => by
  rw [up1_other J f (fun e => hb (by rw [e]; exact hk))]
  exact h b hb
theorem pu_Fr.mono {bs cs : List Nat} {I J : St} (h : pu_Fr bs I J) (pu_hs : ∀ b, b ∈ bs → b ∈ cs) : pu_Fr cs I J := fun b hb => h b (fun q => hb (pu_hs b q))
theorem pu_upd2_at (I : St) (k i : Nat) (v : Int32) : upd2 I k i v k i = v := by rw [upd2_same]; exact if_pos rfl
theorem pu_upd2_ne (I : St) (k : Nat) {i j : Nat} (v : Int32) (h : j ≠ i) : upd2 I k i v k j = I k j := by rw [upd2_same]; exact if_neg h
theorem pu_MV.fr {I J : St} {V : pu_Vw} (h : pu_MV I V) (e : ∀ b, 2 ≤ b → b ≤ 17 → J b = I b) : pu_MV J V := by
  refine ⟨?_, ?_, ?_, ?_, ?_, ?_, ?_, ?_, ?_, ?_, ?_, ?_, ?_, ?_, ?_, ?_⟩
  · rw [e 2 (by omega) (by omega)]; exact h.n
  · rw [e 3 (by omega) (by omega)]; exact h.kind
  · rw [e 4 (by omega) (by omega)]; exact h.place
  · rw [e 5 (by omega) (by omega)]; exact h.wet
  · rw [e 6 (by omega) (by omega)]; exact h.worth
  · rw [e 7 (by omega) (by omega)]; exact h.who
  · rw [e 8 (by omega) (by omega)]; exact h.parts
  · rw [e 9 (by omega) (by omega)]; exact h.many
  · rw [e 10 (by omega) (by omega)]; exact h.askR
  · rw [e 11 (by omega) (by omega)]; exact h.askP
  · rw [e 12 (by omega) (by omega)]; exact h.come
  · rw [e 13 (by omega) (by omega)]; exact h.til
  · rw [e 14 (by omega) (by omega)]; exact h.price
  · rw [e 15 (by omega) (by omega)]; exact h.mem
  · rw [e 16 (by omega) (by omega)]; exact h.rain
  · rw [e 17 (by omega) (by omega)]; exact h.set
theorem pu_MV.fr1 {I J : St} {V : pu_Vw} {bs : List Nat} (h : pu_MV I V) (e : pu_Fr bs I J) (hb : ∀ b, b ∈ bs → 17 < b) : pu_MV J V := h.fr (fun b h1 h2 => e b (fun q => by have := hb b q; omega))
/-- a without b -/
def pu_andn (a b : Nat) : Nat := a ^^^ (a &&& b)
theorem pu_andn_tb (a b i : Nat) : (pu_andn a b).testBit i = (a.testBit i && !b.testBit i) := by
  unfold pu_andn
  rw [Nat.testBit_xor, Nat.testBit_and]
  cases a.testBit i <;> cases b.testBit i <;> rfl
theorem pu_andn_le (a b : Nat) : pu_andn a b ≤ a := by
  have : pu_andn a b &&& a = pu_andn a b := by
    apply Nat.eq_of_testBit_eq
    intro i
    rw [Nat.testBit_and, pu_andn_tb]
    cases a.testBit i <;> cases b.testBit i <;> rfl
  exact pu_sub_le this
theorem pu_nI_not (a b : Nat) : nI a &&& (nI b ^^^ (-nI 1)) = nI (pu_andn a b) := by
  apply Int32.toBitVec_inj.mp
  show BitVec.ofNat 32 a &&& (BitVec.ofNat 32 b ^^^ (-nI 1).toBitVec) = BitVec.ofNat 32 (a ^^^ (a &&& b))
  rw [show (-nI 1).toBitVec = BitVec.allOnes 32 from by decide, BitVec.ofNat_xor, BitVec.ofNat_and]
  ext i hi
  simp only [BitVec.getElem_and, BitVec.getElem_xor, BitVec.getElem_allOnes]
  cases (BitVec.ofNat 32 a)[i] <;> cases (BitVec.ofNat 32 b)[i] <;> rfl
theorem pu_andn_sub {a b : Nat} (h : b &&& a = b) : pu_andn a b = a ^^^ b := by unfold pu_andn; rw [Nat.and_comm, h]
/-- the next smaller of a set's parts -/
theorem pu_nx_le : ∀ (n s t m : Nat), s ≤ n → s &&& m = s → t &&& m = t → t < s → t ≤ (s - 1) &&& m
  | 0, s, t, m, hn, _, _, ht => by omega
  | n + 1, s, t, m, hn, pu_hs, hq, ht => by
    have bit : ∀ a b : Nat, (a &&& b) / 2 = (a / 2) &&& (b / 2) := fun a b => Nat.and_div_two
    have bit2 : ∀ a b : Nat, (a &&& b) % 2 = (a % 2) &&& (b % 2) := fun a b => Nat.and_mod_two_pow (n := 1)
    have hs1 : (s / 2) &&& (m / 2) = s / 2 := by rw [← bit, pu_hs]
    have ht1 : (t / 2) &&& (m / 2) = t / 2 := by rw [← bit, hq]
    have ht2 : (t % 2) &&& (m % 2) = t % 2 := by rw [← bit2, hq]
    have a1 := bit (s - 1) m
    have a2 := bit2 (s - 1) m
    rcases (show s % 2 = 1 ∨ s % 2 = 0 by omega) with q | q
    · have e1 : (s - 1) / 2 = s / 2 := by omega
      have e2 : (s - 1) % 2 = 0 := by omega
      rw [e1, hs1] at a1
      omega
    · have e1 : (s - 1) / 2 = s / 2 - 1 := by omega
      have e2 : (s - 1) % 2 = 1 := by omega
      have ih := pu_nx_le n (s / 2) (t / 2) (m / 2) (by omega) hs1 ht1 (by omega)
      rw [e1] at a1
      rw [e2] at a2
      have l1 : t % 2 ≤ m % 2 := by rw [← ht2]; exact Nat.and_le_right
      have l2 : 1 &&& (m % 2) = m % 2 := by
        rcases (show m % 2 = 0 ∨ m % 2 = 1 by omega) with w | w <;> rw [w] <;> rfl
      rw [l2] at a2
      omega
theorem pu_IsMn.skip {F : Nat} {S : Nat → Prop} {val : Nat → Nat} {x : Nat} (h : pu_IsMn F S val x) {c : Nat} (hc : F ≤ val c) : pu_IsMn F (fun i => S i ∨ i = c) val x := by
  have := h.add c
  rw [Nat.min_eq_left (Nat.le_trans h.1 hc)] at this
  exact this
/-- a fixed hour as a number -/
def pu_fI (k : Nat) : Int32 := nI k - nI 1
theorem pu_fI_0 : pu_fI 0 = -nI 1 := rfl
theorem pu_fI_s (k : Nat) : pu_fI (k + 1) = nI k := by unfold pu_fI; rw [pu_nI_sub (by omega)]; rfl
theorem pu_fI_add (k : Nat) : pu_fI k + nI 1 = pu_fI (k + 1) := by
  rw [pu_fI_s]
  unfold pu_fI
  rw [Int32.sub_add_cancel]
theorem pu_fI_eq {k h : Nat} (hk : k < 1000) (hh : h < 1000) : pu_fI k = nI h ↔ k = h + 1 := by
  cases k with
  | zero =>
    rw [pu_fI_0]
    exact ⟨fun e => absurd e.symm (pu_nI_m1 (by omega)), fun e => by omega⟩
  | succ k =>
    rw [pu_fI_s, pu_nI_inj (by omega) (by omega)]
    omega
/-! PURE: the model's search for the best, hour by hour -/
def pu_TS (V : pu_Vw) (h s : Nat) : Nat := pu_costN V s h
theorem pu_pow_le {V : pu_Vw} (o : pu_VOk V) : 2 ^ V.n ≤ 256 := Nat.pow_le_pow_right (n := 2) (by omega) o.n8
theorem pu_TS_le {V : pu_Vw} (o : pu_VOk V) (h s : Nat) : pu_TS V h s ≤ 1000000 := by
  have := pu_costN_lt o s h
  unfold pu_TS
  omega
/-- what a round over the hours stands on -/
abbrev pu_BA (V : pu_Vw) (fx : Nat → Nat) (m h : Nat) (I : St) : Prop := (∀ s, s < 2 ^ V.n → I 18 (256 * h + s) = nI (pu_TS V h s)) ∧ (∀ s, s < 2 ^ V.n → I 19 s = nI (pu_DS (pu_TS V) fx m h s))
theorem pu_BA.T {V : pu_Vw} {fx : Nat → Nat} {m h : Nat} {I : St} (h_ : pu_BA V fx m h I) : ∀ s, s < 2 ^ V.n → I 18 (256 * h + s) = nI (pu_TS V h s) := h_.1
theorem pu_BA.D {V : pu_Vw} {fx : Nat → Nat} {m h : Nat} {I : St} (h_ : pu_BA V fx m h I) : ∀ s, s < 2 ^ V.n → I 19 s = nI (pu_DS (pu_TS V) fx m h s) := h_.2
theorem pu_best142 {V : pu_Vw} {fx : Nat → Nat} {m h set mu ma all : Nat} {I0 : St} (o : pu_VOk V) (B : pu_BA V fx m h I0) (hh : h < 8) (hset : set < 2 ^ V.n) (hmu : mu < 2147483648) (hc : ∀ c, c < 2 ^ V.n → ((c &&& mu = mu ∧ pu_andn c ma = 0) ↔ pu_okS fx m h c = true))
    (k40 : Int32 → Int32 → Int32 → St → Option St) (k120 : Int32 → Int32 → Int32 → Int32 → Int32 → Int32 → St → Option St) :
    ∃ J, pu_Fr [20] I0 J ∧ (∀ j, j ≠ set → J 20 j = I0 20 j) ∧ J 20 set = nI (pu_DS (pu_TS V) fx m (h + 1) set) ∧
      mo_bestOf_l142 k40 k120 FU (nI m) (nI all) (nI h) (nI mu) (nI ma) (nI set) (nI set) (nI 1) (upd2 I0 20 set (nI 1000000)) = k120 (nI m) (nI all) (nI h) (nI mu) (nI ma) (nI (set + 1)) J := by
  have hN := pu_pow_le o
  have hFAR : pu_FAR = 1000000 := rfl
  have h256 : set < 256 := by omega
  let Inv : Nat → St → Prop := fun c I => pu_Fr [20] I0 I ∧ (∀ j, j ≠ set → I 20 j = I0 20 j) ∧ ∃ x, I 20 set = nI x ∧ pu_IsMn pu_FAR (fun i => pu_allow (pu_TS V) fx m h set i ∧ c ≤ i) (fun i => pu_DS (pu_TS V) fx m h (set ^^^ i) + pu_TS V h i) x
  have key := pu_lp_dn (T := Int32 → Int32 → Int32 → Int32 → Int32 → Int32 → Int32 → Int32 → St → Option St) (dead := fun _ _ _ _ _ _ _ _ _ => none) (b := mo_bestOf_b142 k40 k120) (fun c t => ∀ I x7 x8, ((c = 0 ∧ x8 = nI 0) ∨ (0 < c ∧ x7 = nI (c - 1) ∧ x8 = nI 1 ∧ (c - 1) &&& set = c - 1)) → Inv c I → ∃ J, Inv 0 J ∧ t (nI m) (nI all) (nI h) (nI mu) (nI ma) (nI set) x7 x8 I = k120 (nI m) (nI all) (nI h) (nI mu) (nI ma) (nI (set + 1)) J) (by
    intro c t ih I x7 x8 hx hI
    rcases hx with ⟨rfl, rfl⟩ | ⟨h0, rfl, rfl, hsub⟩
    · refine ⟨I, hI, ?_⟩
      unfold mo_bestOf_b142
      simp only [pu_lit]
      rw [if_pos trivial, pu_nI_add]
    · obtain ⟨c, rfl⟩ : ∃ d, c = d + 1 := ⟨c - 1, by omega⟩
      simp only [Nat.add_sub_cancel] at hsub ⊢
      have hcs := pu_sub_le hsub
      obtain ⟨hf, hj, x, hx, hmn⟩ := hI
      have hx1 := hmn.1
      have eT : I 18 (256 * h + c) = nI (pu_TS V h c) := by rw [hf 18 (by simp)]; exact B.T c (by omega)
      have hxr := pu_xor_lt h256 (show c < 256 by omega)
      have hle : set ^^^ c < 2 ^ V.n := Nat.xor_lt_two_pow hset (by omega)
      have eD : I 19 (set ^^^ c) = nI (pu_DS (pu_TS V) fx m h (set ^^^ c)) := by rw [hf 19 (by simp)]; exact B.D _ hle
      have lT := pu_TS_le o h c
      have lD := pu_DS_le (T := pu_TS V) (fx := fx) (m := m) h _ hxr
      -- what comes after this one
      have fin : ∀ I', (∃ y, pu_Fr [20] I0 I' ∧ (∀ j, j ≠ set → I' 20 j = I0 20 j) ∧ I' 20 set = nI y ∧ pu_IsMn pu_FAR (fun i => pu_allow (pu_TS V) fx m h set i ∧ c ≤ i) (fun i => pu_DS (pu_TS V) fx m h (set ^^^ i) + pu_TS V h i) y) →
          ∃ J, Inv 0 J ∧ mo_bestOf_b261 k40 k120 t (nI m) (nI all) (nI h) (nI mu) (nI ma) (nI set) (nI c) I' = k120 (nI m) (nI all) (nI h) (nI mu) (nI ma) (nI (set + 1)) J := by
        rintro I' ⟨y, g1, g2, g3, g4⟩
        unfold mo_bestOf_b261 mo_bestOf_b271
        simp only [pu_lit]
        by_cases q : c = 0
        · rw [pu_ieq_t q, pu_lt_s]
          subst q
          exact ih 0 (by omega) I' _ _ (Or.inl ⟨rfl, rfl⟩) ⟨g1, g2, y, g3, g4⟩
        · rw [pu_ieq_f q (by omega) (by omega), pu_lt_s, pu_nI_sub (by omega), pu_nI_and]
          have l1 := Nat.and_le_left (n := c - 1) (m := set)
          refine ih (((c - 1) &&& set) + 1) (by omega) I' _ _ (Or.inr ⟨by omega, rfl, rfl, ?_⟩) ⟨g1, g2, y, g3, g4.congr (fun i => ?_) (fun _ _ => rfl)⟩
          · simp only [Nat.add_sub_cancel]
            rw [Nat.and_assoc, Nat.and_self]
          · constructor
            · rintro ⟨z1, z2⟩
              exact ⟨z1, by omega⟩
            · rintro ⟨z1, z2⟩
              refine ⟨z1, ?_⟩
              rcases (show c ≤ i ∨ i < c by omega) with w | w
              · exact w
              · have := pu_nx_le c c i set (Nat.le_refl _) hsub z1.1 w
                omega
      have keep : (¬ pu_allow (pu_TS V) fx m h set c ∨ pu_FAR ≤ pu_DS (pu_TS V) fx m h (set ^^^ c) + pu_TS V h c) → ∃ J, Inv 0 J ∧ mo_bestOf_b261 k40 k120 t (nI m) (nI all) (nI h) (nI mu) (nI ma) (nI set) (nI c) I = k120 (nI m) (nI all) (nI h) (nI mu) (nI ma) (nI (set + 1)) J := by
        intro hk
        refine fin I ⟨x, hf, hj, hx, ?_⟩
        rcases hk with hk | hk
        · refine hmn.congr (fun i => ?_) (fun _ _ => rfl)
          constructor
          · rintro ⟨z1, z2⟩; exact ⟨z1, by omega⟩
          · rintro ⟨z1, z2⟩
            refine ⟨z1, ?_⟩
            rcases (show c + 1 ≤ i ∨ i = c by omega) with w | w
            · exact w
            · rw [w] at z1; exact absurd z1 hk
        · by_cases hal : pu_allow (pu_TS V) fx m h set c
          · refine (hmn.skip (c := c) hk).congr (fun i => ?_) (fun _ _ => rfl)
            constructor
            · rintro (⟨z1, z2⟩ | z)
              · exact ⟨z1, by omega⟩
              · rw [z]; exact ⟨hal, Nat.le_refl _⟩
            · rintro ⟨z1, z2⟩
              rcases (show c + 1 ≤ i ∨ i = c by omega) with w | w
              · exact Or.inl ⟨z1, w⟩
              · exact Or.inr w
          · refine hmn.congr (fun i => ?_) (fun _ _ => rfl)
            constructor
            · rintro ⟨z1, z2⟩; exact ⟨z1, by omega⟩
            · rintro ⟨z1, z2⟩
              refine ⟨z1, ?_⟩
              rcases (show c + 1 ≤ i ∨ i = c by omega) with w | w
              · exact w
              · rw [w] at z1; exact absurd z1 hal
      unfold mo_bestOf_b142
      simp only [pu_lit]
      have e1 := hc c (by omega)
      have a1 := Nat.and_le_right (n := c) (m := mu)
      have a2 := pu_andn_le c ma
      rw [pu_ieq_f (by omega) (by omega) (by omega), pu_nI_and, pu_nI_not]
      by_cases q1 : c &&& mu = mu
      · rw [pu_ieq_t q1]
        by_cases q2 : pu_andn c ma = 0
        · rw [pu_ieq_t q2, pu_nI_mul, pu_nI_add, pu_al_n (by omega) (by omega), eT]
          by_cases q3 : pu_TS V h c < 1000000
          · rw [pu_ile_f q3 (by omega), pu_nI_not, pu_andn_sub hsub, pu_al_n (by omega) (by omega), eD]
            by_cases q4 : pu_DS (pu_TS V) fx m h (set ^^^ c) < 1000000
            · have hal : pu_allow (pu_TS V) fx m h set c := ⟨hsub, e1.mp ⟨q1, q2⟩, q3⟩
              have upd : ∀ y, y = min x (pu_DS (pu_TS V) fx m h (set ^^^ c) + pu_TS V h c) → ∃ J, Inv 0 J ∧ mo_bestOf_b260 k40 k120 t (nI m) (nI all) (nI h) (nI mu) (nI ma) (nI set) (nI c) (nI y) (nI set) I = k120 (nI m) (nI all) (nI h) (nI mu) (nI ma) (nI (set + 1)) J := by
                intro y hy
                unfold mo_bestOf_b260
                rw [pu_as_n (by omega) (by omega)]
                refine fin _ ⟨y, hf.upd (by simp), fun j hjn => by rw [pu_upd2_ne _ _ _ hjn]; exact hj j hjn, pu_upd2_at _ _ _ _, ?_⟩
                rw [hy]
                refine (hmn.add c).congr (fun i => ?_) (fun _ _ => rfl)
                constructor
                · rintro (⟨z1, z2⟩ | z)
                  · exact ⟨z1, by omega⟩
                  · rw [z]; exact ⟨hal, Nat.le_refl _⟩
                · rintro ⟨z1, z2⟩
                  rcases (show c + 1 ≤ i ∨ i = c by omega) with w | w
                  · exact Or.inl ⟨z1, w⟩
                  · exact Or.inr w
              rw [pu_ile_f q4 (by omega), pu_al_n (by omega) (by omega), eD, pu_al_n (by omega) (by omega), eT, pu_lt_s, pu_nI_add, pu_al_n (by omega) (by omega), hx]
              by_cases q5 : x ≤ pu_DS (pu_TS V) fx m h (set ^^^ c) + pu_TS V h c
              · rw [pu_ile_t q5 (by omega), pu_al_n (by omega) (by omega), hx]
                exact upd x (Nat.min_eq_left q5).symm
              · rw [pu_ile_f (by omega) (by omega)]
                exact upd _ (Nat.min_eq_right (by omega)).symm
            · rw [pu_ile_t (by omega) (by omega)]
              exact keep (Or.inr (by show 1000000 ≤ _; omega))
          · rw [pu_ile_t (by omega) (by omega)]
            exact keep (Or.inl (fun z => q3 z.2.2))
        · rw [pu_ieq_f q2 (by omega) (by omega)]
          exact keep (Or.inl (fun z => q2 (e1.mpr z.2.1).2))
      · rw [pu_ieq_f q1 (by omega) (by omega)]
        exact keep (Or.inl (fun z => q1 (e1.mpr z.2.1).1)))
  have start : Inv (set + 1) (upd2 I0 20 set (nI 1000000)) := by
    refine ⟨(pu_Fr.refl _ _).upd (by simp), fun j hj => pu_upd2_ne _ _ _ hj, 1000000, pu_upd2_at _ _ _ _, (pu_IsMn.zero pu_FAR _).congr (fun i => ?_) (fun _ _ => rfl)⟩
    constructor
    · intro z; exact z.elim
    · rintro ⟨z1, z2⟩
      have := pu_sub_le z1.1
      omega
  obtain ⟨J, ⟨j1, j2, x, j3, j4⟩, j5⟩ := key FU (set + 1) (by rw [pu_FU_e]; omega) _ (nI set) (nI 1) (Or.inr ⟨by omega, rfl, rfl, by simp [Nat.and_self]⟩) start
  refine ⟨J, j1, j2, ?_, j5⟩
  rw [j3]
  congr 1
  exact (j4.congr (fun i => ⟨fun z => z.1, fun z => ⟨z, Nat.zero_le _⟩⟩) (fun _ _ => rfl)).uniq (pu_DS_mn h256)
theorem pu_best120 {V : pu_Vw} {fx : Nat → Nat} {m h mu ma : Nat} {I0 : St} (o : pu_VOk V) (B : pu_BA V fx m h I0) (hh : h < 8) (hmu : mu < 2147483648) (hc : ∀ c, c < 2 ^ V.n → ((c &&& mu = mu ∧ pu_andn c ma = 0) ↔ pu_okS fx m h c = true))
    (k40 : Int32 → Int32 → Int32 → St → Option St) :
    ∃ J, pu_Fr [19, 20] I0 J ∧ (∀ s, s < 2 ^ V.n → J 19 s = nI (pu_DS (pu_TS V) fx m (h + 1) s)) ∧
      mo_bestOf_l120 k40 FU (nI m) (nI (2 ^ V.n - 1)) (nI h) (nI mu) (nI ma) (nI 0) I0 = k40 (nI m) (nI (2 ^ V.n - 1)) (nI (h + 1)) J := by
  have hN := pu_pow_le o
  have hN0 : 0 < 2 ^ V.n := Nat.two_pow_pos _
  obtain ⟨J, ⟨j1, j2⟩, j3⟩ := pu_lp_forE (T := Int32 → Int32 → Int32 → Int32 → Int32 → Int32 → St → Option St) (dead := fun _ _ _ _ _ _ _ => none) (b := mo_bestOf_b120 k40) (call := fun t i I => t (nI m) (nI (2 ^ V.n - 1)) (nI h) (nI mu) (nI ma) (nI i) I) (P := fun i I => pu_Fr [20] I0 I ∧ ∀ s, s < i → I 20 s = nI (pu_DS (pu_TS V) fx m (h + 1) s)) (K := fun I => mo_bestOf_l294 k40 FU (nI m) (nI (2 ^ V.n - 1)) (nI h) (nI 0) I) (2 ^ V.n) (by
    intro t I _
    unfold mo_bestOf_b120
    simp only [pu_lit]
    rw [pu_ilt_t (by omega) (by omega)]) (by
    rintro t i I hi ⟨f1, f2⟩
    have B' : pu_BA V fx m h I := ⟨fun s pu_hs => by rw [f1 18 (by simp)]; exact B.T s pu_hs, fun s pu_hs => by rw [f1 19 (by simp)]; exact B.D s pu_hs⟩
    obtain ⟨J, g1, g2, g3, g4⟩ := pu_best142 (all := 2 ^ V.n - 1) o B' hh hi hmu hc k40 t
    refine ⟨J, ⟨f1.trans g1, fun s pu_hs => ?_⟩, ?_⟩
    · by_cases q : s = i
      · rw [q]; exact g3
      · rw [g2 s q]; exact f2 s (by omega)
    · unfold mo_bestOf_b120
      simp only [pu_lit]
      rw [pu_ilt_f (by omega) (by omega), pu_as_n (by omega) (by omega)]
      exact g4) (a := I0) ⟨pu_Fr.refl _ _, fun s pu_hs => by omega⟩ FU (by rw [pu_FU_e]; omega)
  have j3 : mo_bestOf_l120 k40 FU (nI m) (nI (2 ^ V.n - 1)) (nI h) (nI mu) (nI ma) (nI 0) I0 = mo_bestOf_l294 k40 FU (nI m) (nI (2 ^ V.n - 1)) (nI h) (nI 0) J := j3
  obtain ⟨J2, ⟨l1, l2⟩, l3⟩ := pu_lp_forE (T := Int32 → Int32 → Int32 → Int32 → St → Option St) (dead := fun _ _ _ _ _ => none) (b := mo_bestOf_b294 k40) (call := fun t i I => t (nI m) (nI (2 ^ V.n - 1)) (nI h) (nI i) I) (P := fun i I => pu_Fr [19, 20] I0 I ∧ I 20 = J 20 ∧ ∀ s, s < i → I 19 s = J 20 s) (K := fun I => k40 (nI m) (nI (2 ^ V.n - 1)) (nI (h + 1)) I) (2 ^ V.n) (by
    intro t I _
    unfold mo_bestOf_b294
    simp only [pu_lit]
    rw [pu_ilt_t (by omega) (by omega), pu_nI_add]) (by
    rintro t i I hi ⟨f1, f2, f3⟩
    refine ⟨upd2 I 19 i (I 20 i), ⟨f1.upd (by simp), by rw [upd2_other _ _ _ (by decide)]; exact f2, fun s pu_hs => ?_⟩, ?_⟩
    · by_cases q : s = i
      · rw [q, pu_upd2_at, f2]
      · rw [pu_upd2_ne _ _ _ q]; exact f3 s (by omega)
    · unfold mo_bestOf_b294
      simp only [pu_lit]
      rw [pu_ilt_f (by omega) (by omega), pu_al_n (by omega) (by omega), pu_as_n (by omega) (by omega), pu_nI_add]) (a := J) ⟨j1.mono (by simp), rfl, fun s pu_hs => by omega⟩ FU (by rw [pu_FU_e]; omega)
  exact ⟨J2, l1, fun s pu_hs => by rw [l2.2 s pu_hs]; exact j2 s pu_hs, j3.trans l3⟩
/-- who must be in an hour, who may -/
def pu_muS (fx : Nat → Nat) (h i : Nat) : Nat := pu_fo i (fun d a => a ||| if fx d = h + 1 then 2 ^ d else 0) 0
def pu_maS (fx : Nat → Nat) (h all i : Nat) : Nat := pu_fo i (fun d a => if fx d = h + 1 then a &&& all else pu_andn a (2 ^ d)) all
theorem pu_pow_tb (d j : Nat) : (2 ^ d).testBit j = decide (d = j) := by rw [Nat.testBit_two_pow]
theorem pu_muS_tb (fx : Nat → Nat) (h : Nat) : ∀ i j, (pu_muS fx h i).testBit j = (decide (j < i) && decide (fx j = h + 1))
  | 0, j => by unfold pu_muS pu_fo; rw [Nat.zero_testBit]; simp
  | i + 1, j => by
    have e : pu_muS fx h (i + 1) = pu_muS fx h i ||| if fx i = h + 1 then 2 ^ i else 0 := rfl
    rw [e, Nat.testBit_or, pu_muS_tb fx h i j]
    by_cases q : j = i
    · subst q
      by_cases z : fx j = h + 1
      · rw [if_pos z, pu_pow_tb]; simp [z]
      · rw [if_neg z, Nat.zero_testBit]; simp [z]
    · have : (if fx i = h + 1 then 2 ^ i else 0 : Nat).testBit j = false := by
        split
        · rw [pu_pow_tb]; simp; omega
        · exact Nat.zero_testBit _
      rw [this, Bool.or_false]
      congr 1
      rw [decide_eq_decide]
      omega
theorem pu_maS_tb (fx : Nat → Nat) (h n : Nat) : ∀ i j, (pu_maS fx h (2 ^ n - 1) i).testBit j = (decide (j < n) && !(decide (j < i) && !decide (fx j = h + 1)))
  | 0, j => by unfold pu_maS pu_fo; rw [Nat.testBit_two_pow_sub_one]; simp
  | i + 1, j => by
    have e : pu_maS fx h (2 ^ n - 1) (i + 1) = if fx i = h + 1 then pu_maS fx h (2 ^ n - 1) i &&& (2 ^ n - 1) else pu_andn (pu_maS fx h (2 ^ n - 1) i) (2 ^ i) := rfl
    rw [e]
    by_cases z : fx i = h + 1
    · rw [if_pos z, Nat.testBit_and, pu_maS_tb fx h n i j, Nat.testBit_two_pow_sub_one]
      by_cases q : j = i
      · subst q; simp [z]
      · have : decide (j < i + 1) = decide (j < i) := by rw [decide_eq_decide]; omega
        rw [this]
        cases decide (j < n) <;> simp
    · rw [if_neg z, pu_andn_tb, pu_maS_tb fx h n i j, pu_pow_tb]
      by_cases q : j = i
      · subst q; simp [z]
      · have : decide (j < i + 1) = decide (j < i) := by rw [decide_eq_decide]; omega
        rw [this, decide_eq_false (show ¬ i = j by omega)]
        simp
theorem pu_may_ok {fx : Nat → Nat} {m n h c : Nat} (hm : m ≤ n) (hc : c < 2 ^ n) : (c &&& pu_muS fx h m = pu_muS fx h m ∧ pu_andn c (pu_maS fx h (2 ^ n - 1) m) = 0) ↔ pu_okS fx m h c = true := by
  have hcn : ∀ j, c.testBit j = true → j < n := by
    intro j hj
    by_cases q : j < n
    · exact q
    · have := Nat.testBit_lt_two_pow (x := c) (i := j) (Nat.lt_of_lt_of_le hc (Nat.pow_le_pow_right (by omega) (by omega)))
      rw [this] at hj; cases hj
  unfold pu_okS
  rw [pu_allS_iff]
  constructor
  · rintro ⟨h1, h2⟩ d hd
    have a1 := congrArg (fun x => x.testBit d) h1
    have a2 := congrArg (fun x => x.testBit d) h2
    rw [Nat.testBit_and, pu_muS_tb] at a1
    rw [pu_andn_tb, pu_maS_tb, Nat.zero_testBit] at a2
    revert a1 a2
    rw [decide_eq_true hd, decide_eq_true (show d < n by omega)]
    cases c.testBit d <;> by_cases z : fx d = h + 1 <;> simp [z]
  · intro z
    constructor
    · apply Nat.eq_of_testBit_eq
      intro j
      rw [Nat.testBit_and, pu_muS_tb]
      by_cases q : j < m
      · have := z j q
        revert this
        cases c.testBit j <;> by_cases y : fx j = h + 1 <;> simp [q, y]
      · simp [q]
    · apply Nat.eq_of_testBit_eq
      intro j
      rw [pu_andn_tb, pu_maS_tb, Nat.zero_testBit]
      cases e : c.testBit j with
      | false => rfl
      | true =>
        rw [decide_eq_true (hcn j e)]
        by_cases q : j < m
        · have := z j q
          revert this
          rw [e]
          by_cases y : fx j = h + 1 <;> simp [q, y]
        · simp [q]
theorem pu_muS_lt {fx : Nat → Nat} {h : Nat} {i : Nat} (hi : i ≤ 8) : pu_muS fx h i < 256 := by
  apply Nat.lt_pow_two_of_testBit (n := 8)
  intro j hj
  rw [pu_muS_tb, decide_eq_false (by omega)]
  rfl
/-- the hours fixed, as the model holds them -/
def pu_MF (I : St) (fx : Nat → Nat) (m : Nat) : Prop := ∀ d, d < m → I 21 d = pu_fI (fx d) ∧ fx d ≤ 8
theorem pu_best55 {V : pu_Vw} {fx : Nat → Nat} {m h : Nat} {I0 : St} (o : pu_VOk V) (hm : m ≤ V.n) (hF : pu_MF I0 fx m) (hh : h < 8) (k40 : Int32 → Int32 → Int32 → St → Option St) :
    mo_bestOf_l55 k40 FU (nI m) (nI (2 ^ V.n - 1)) (nI h) (nI 0) (nI (2 ^ V.n - 1)) (nI 0) I0 = mo_bestOf_l120 k40 FU (nI m) (nI (2 ^ V.n - 1)) (nI h) (nI (pu_muS fx h m)) (nI (pu_maS fx h (2 ^ V.n - 1) m)) (nI 0) I0 := by
  have h8 := o.n8
  refine (pu_lp_for (T := Int32 → Int32 → Int32 → Int32 → Int32 → Int32 → St → Option St) (dead := fun _ _ _ _ _ _ _ => none) (b := mo_bestOf_b55 k40) (call := fun t i (_ : Unit) => t (nI m) (nI (2 ^ V.n - 1)) (nI h) (nI (pu_muS fx h i)) (nI (pu_maS fx h (2 ^ V.n - 1) i)) (nI i) I0) (P := fun _ _ => True) (f := fun _ a => a) (K := fun _ => mo_bestOf_l120 k40 FU (nI m) (nI (2 ^ V.n - 1)) (nI h) (nI (pu_muS fx h m)) (nI (pu_maS fx h (2 ^ V.n - 1) m)) (nI 0) I0) m ?_ ?_ (fun _ _ _ _ => trivial) (a := ()) trivial FU (by rw [pu_FU_e]; omega))
  · intro t _ _
    unfold mo_bestOf_b55
    simp only [pu_lit]
    rw [pu_ile_t (by omega) (by omega)]
  · intro t i _ hi _
    have hf := hF i hi
    have e1 : pu_muS fx h (i + 1) = pu_muS fx h i ||| if fx i = h + 1 then 2 ^ i else 0 := rfl
    have e2 : pu_maS fx h (2 ^ V.n - 1) (i + 1) = if fx i = h + 1 then pu_maS fx h (2 ^ V.n - 1) i &&& (2 ^ V.n - 1) else pu_andn (pu_maS fx h (2 ^ V.n - 1) i) (2 ^ i) := rfl
    unfold mo_bestOf_b55 mo_bestOf_b82 mo_bestOf_b108
    simp only [pu_lit]
    rw [pu_ile_f (by omega) (by omega), pu_al_n (by omega) (by omega), hf.1, pu_nI_31 (by omega), pu_nI_one (by omega), e1, e2]
    simp only [pu_lt_s]
    by_cases z : fx i = h + 1
    · have z' := (pu_fI_eq (by omega) (by omega)).mpr z
      rw [if_pos z', pu_al_n (by omega) (by omega), hf.1, if_pos z', if_pos z, if_pos z, pu_nI_or, pu_nI_and, pu_nI_add]
    · have z' := fun e => z ((pu_fI_eq (k := fx i) (h := h) (by omega) (by omega)).mp e)
      rw [if_neg z', pu_al_n (by omega) (by omega), hf.1, if_neg z', if_neg z, if_neg z, pu_nI_or, pu_nI_not, pu_nI_add]
/-! PURE: the model's search for the best, its end -/
def pu_worthS (V : pu_Vw) (s : Nat) : Nat := pu_fo V.n (fun d a => a + if s.testBit d = true then V.worth d else 0) 0
theorem pu_worthS_le {V : pu_Vw} (o : pu_VOk V) (s : Nat) : pu_worthS V s ≤ 72 := by
  have h8 := o.n8
  have : pu_worthS V s ≤ 9 * V.n := by
    unfold pu_worthS
    refine pu_fo_P (N := V.n) (fun i a => a ≤ 9 * i) (by omega) (fun i a hi h => ?_) V.n (Nat.le_refl _)
    have := o.worth i hi
    split <;> omega
  omega
theorem pu_worthBy_n {I : St} {V : pu_Vw} {s : Nat} (h : pu_MV I V) (o : pu_VOk V) (pu_hs : s < 2147483648) : mo_worthBy I (nI s) = some (nI (pu_worthS V s)) := by
  have h8 := o.n8
  unfold mo_worthBy mo_worthBy_l4
  refine pu_lp_for (call := fun (t : Int32 → Int32 → Int32 → Option Int32) i a => t (nI s) (nI a) (nI i)) (P := fun _ _ => True) (f := fun d a => a + if s.testBit d = true then V.worth d else 0) (K := fun a => some (nI a)) V.n ?_ ?_ (fun _ _ _ _ => trivial) (a := 0) trivial FU (by rw [pu_FU_e]; omega)
  · intro t a _
    unfold mo_worthBy_b4
    simp only [pu_lit]
    rw [h.n, pu_ile_t (by omega) (by omega)]
  · intro t i a hi _
    unfold mo_worthBy_b4 mo_worthBy_b31
    simp only [pu_lit, pu_lt_s]
    rw [h.n, pu_ile_f (by omega) (by omega), pu_isIn_n pu_hs (by omega), pu_bd_s, pu_bI0, pu_al_n (by omega) (by omega), h.worth i hi, pu_nI_add, pu_nI_add, pu_nI_add]
    cases s.testBit i <;> rfl
/-- the best so far, as the model holds it -/
def pu_bW : Option (Nat × Nat) → Int32
  | none => -nI 1
  | some a => nI a.1
def pu_bC : Option (Nat × Nat) → Int32
  | none => nI 0
  | some a => nI a.2
def pu_bestV (V : pu_Vw) (fx : Nat → Nat) (m : Nat) : Option (Nat × Nat) := pu_bestS (pu_worthS V) (pu_DS (pu_TS V) fx m 8) (V.set 2) (2 ^ V.n)
theorem pu_best338 {V : pu_Vw} {E : Nat → Nat} {I0 : St} (o : pu_VOk V) (h : pu_MV I0 V) (hE : ∀ s, s < 2 ^ V.n → I0 19 s = nI (E s) ∧ E s ≤ 1000000) (h22 : I0 22 0 = -nI 1) (h23 : I0 23 0 = nI 0) :
    ∃ J, pu_Fr [22, 23] I0 J ∧ J 22 0 = pu_bW (pu_bestS (pu_worthS V) E (V.set 2) (2 ^ V.n)) ∧ J 23 0 = pu_bC (pu_bestS (pu_worthS V) E (V.set 2) (2 ^ V.n)) ∧ mo_bestOf_l338 FU (nI (2 ^ V.n - 1)) (nI 0) I0 = some J := by
  have hN := pu_pow_le o
  have hN0 : 0 < 2 ^ V.n := Nat.two_pow_pos _
  have hp := o.set2
  obtain ⟨J, ⟨j1, j2, j3, j4⟩, j5⟩ := pu_lp_forE (T := Int32 → Int32 → St → Option St) (dead := fun _ _ _ => none) (b := mo_bestOf_b338) (call := fun t i I => t (nI (2 ^ V.n - 1)) (nI i) I) (P := fun i I => pu_Fr [22, 23] I0 I ∧ I 22 0 = pu_bW (pu_bestS (pu_worthS V) E (V.set 2) i) ∧ I 23 0 = pu_bC (pu_bestS (pu_worthS V) E (V.set 2) i) ∧ ∀ w c, pu_bestS (pu_worthS V) E (V.set 2) i = some (w, c) → w ≤ 72 ∧ c ≤ 999) (K := fun I => some I) (2 ^ V.n) (by
    intro t I _
    unfold mo_bestOf_b338
    rw [pu_ilt_t (by omega) (by omega)]) (by
    rintro t i I hi ⟨f1, f2, f3, f4⟩
    have hM : pu_MV I V := h.fr1 f1 (by simp)
    have hw := pu_worthS_le o i
    have hEi := hE i hi
    have e19 : I 19 i = nI (E i) := by rw [f1 19 (by simp)]; exact hEi.1
    have eb : pu_bestS (pu_worthS V) E (V.set 2) (i + 1) = pu_bst1 (pu_worthS V) E (V.set 2) i (pu_bestS (pu_worthS V) E (V.set 2) i) := rfl
    rw [eb]
    revert f2 f3 f4
    generalize pu_bestS (pu_worthS V) E (V.set 2) i = a
    intro f2 f3 f4
    -- the state after
    have no : mo_bestOf_b401 t (nI (2 ^ V.n - 1)) (nI i) (nI (pu_worthS V i)) (nI 0) I = t (nI (2 ^ V.n - 1)) (nI (i + 1)) (upd2 (upd2 I 22 0 (I 22 0)) 23 0 (I 23 0)) := by
      unfold mo_bestOf_b401 mo_bestOf_b418 mo_bestOf_b440
      simp only [pu_lit, pu_lt_s]
      rw [if_pos trivial, if_pos trivial, upd2_other I _ _ (show (23 : Nat) ≠ 22 by decide), pu_nI_add]
    have yes : mo_bestOf_b401 t (nI (2 ^ V.n - 1)) (nI i) (nI (pu_worthS V i)) (nI 1) I = t (nI (2 ^ V.n - 1)) (nI (i + 1)) (upd2 (upd2 I 22 0 (nI (pu_worthS V i))) 23 0 (nI (E i))) := by
      unfold mo_bestOf_b401 mo_bestOf_b418 mo_bestOf_b440
      simp only [pu_lit, pu_lt_s]
      rw [if_neg pu_n10, if_neg pu_n10, pu_al_n (by omega) (by omega), upd2_other I _ _ (show (19 : Nat) ≠ 22 by decide), e19, pu_nI_add]
    have keep : pu_bst1 (pu_worthS V) E (V.set 2) i a = a → mo_bestOf_b338 t (nI (2 ^ V.n - 1)) (nI i) I = mo_bestOf_b401 t (nI (2 ^ V.n - 1)) (nI i) (nI (pu_worthS V i)) (nI 0) I → ∃ a', (pu_Fr [22, 23] I0 a' ∧ a' 22 0 = pu_bW (pu_bst1 (pu_worthS V) E (V.set 2) i a) ∧ a' 23 0 = pu_bC (pu_bst1 (pu_worthS V) E (V.set 2) i a) ∧ ∀ w c, pu_bst1 (pu_worthS V) E (V.set 2) i a = some (w, c) → w ≤ 72 ∧ c ≤ 999) ∧ mo_bestOf_b338 t (nI (2 ^ V.n - 1)) (nI i) I = t (nI (2 ^ V.n - 1)) (nI (i + 1)) a' := by
      intro ea ec
      refine ⟨_, ⟨(f1.upd (k := 22) (i := 0) (v := I 22 0) (by simp)).upd (k := 23) (i := 0) (v := I 23 0) (by simp), ?_, ?_, ?_⟩, ec.trans no⟩
      · rw [upd2_other _ _ _ (by decide), pu_upd2_at, ea]; exact f2
      · rw [pu_upd2_at, ea]; exact f3
      · rw [ea]; exact f4
    have take : pu_bst1 (pu_worthS V) E (V.set 2) i a = some (pu_worthS V i, E i) → E i ≤ 999 → mo_bestOf_b338 t (nI (2 ^ V.n - 1)) (nI i) I = mo_bestOf_b401 t (nI (2 ^ V.n - 1)) (nI i) (nI (pu_worthS V i)) (nI 1) I → ∃ a', (pu_Fr [22, 23] I0 a' ∧ a' 22 0 = pu_bW (pu_bst1 (pu_worthS V) E (V.set 2) i a) ∧ a' 23 0 = pu_bC (pu_bst1 (pu_worthS V) E (V.set 2) i a) ∧ ∀ w c, pu_bst1 (pu_worthS V) E (V.set 2) i a = some (w, c) → w ≤ 72 ∧ c ≤ 999) ∧ mo_bestOf_b338 t (nI (2 ^ V.n - 1)) (nI i) I = t (nI (2 ^ V.n - 1)) (nI (i + 1)) a' := by
      intro ea h9 ec
      refine ⟨_, ⟨(f1.upd (k := 22) (i := 0) (v := nI (pu_worthS V i)) (by simp)).upd (k := 23) (i := 0) (v := nI (E i)) (by simp), ?_, ?_, ?_⟩, ec.trans yes⟩
      · rw [upd2_other _ _ _ (by decide), pu_upd2_at, ea]; rfl
      · rw [pu_upd2_at, ea]; rfl
      · rw [ea]
        intro w c hwc
        cases hwc
        exact ⟨hw, h9⟩
    have hb : mo_bestOf_b338 t (nI (2 ^ V.n - 1)) (nI i) I = if nI (V.set 2) < nI (E i) then mo_bestOf_b401 t (nI (2 ^ V.n - 1)) (nI i) (nI (pu_worthS V i)) (nI 0) I else (if pu_bW a < nI (pu_worthS V i) then mo_bestOf_b401 t (nI (2 ^ V.n - 1)) (nI i) (nI (pu_worthS V i)) (nI 1) I else (if nI (pu_worthS V i) = pu_bW a then (if pu_bC a ≤ nI (E i) then mo_bestOf_b401 t (nI (2 ^ V.n - 1)) (nI i) (nI (pu_worthS V i)) (nI 0) I else mo_bestOf_b401 t (nI (2 ^ V.n - 1)) (nI i) (nI (pu_worthS V i)) (nI 1) I) else mo_bestOf_b401 t (nI (2 ^ V.n - 1)) (nI i) (nI (pu_worthS V i)) (nI 0) I)) := by
      conv => lhs; unfold mo_bestOf_b338
      simp only [pu_lit]
      rw [pu_ilt_f (by omega) (by omega), pu_worthBy_n hM o (by omega), pu_bd_s, pu_al_n (by omega) (by omega), e19, pu_al_n (by omega) (by omega), hM.set 2 (by omega), f2, f3, pu_al_n (by omega) (by omega), e19]
    by_cases q : E i ≤ V.set 2
    · rw [pu_ilt_f q (by omega)] at hb
      cases a with
      | none =>
        rw [if_pos (show pu_bW none < nI (pu_worthS V i) from by
          rw [Int32.lt_iff_toInt_lt, pu_nI_toInt (by omega), show (pu_bW none).toInt = -1 from rfl]
          omega)] at hb
        exact take (by unfold pu_bst1; rw [if_pos q]) (by omega) hb
      | some wc =>
        obtain ⟨w, c⟩ := wc
        have hl := f4 w c rfl
        by_cases z1 : w < pu_worthS V i
        · rw [show pu_bW (some (w, c)) = nI w from rfl, pu_ilt_t z1 (by omega)] at hb
          exact take (by unfold pu_bst1; rw [if_pos q]; exact if_pos (Or.inl z1)) (by omega) hb
        · rw [show pu_bW (some (w, c)) = nI w from rfl, show pu_bC (some (w, c)) = nI c from rfl, pu_ilt_f (by omega) (by omega)] at hb
          by_cases z2 : pu_worthS V i = w
          · rw [pu_ieq_t z2] at hb
            by_cases z3 : c ≤ E i
            · rw [pu_ile_t z3 (by omega)] at hb
              exact keep (by unfold pu_bst1; rw [if_pos q]; exact if_neg (by omega)) hb
            · rw [pu_ile_f (by omega) (by omega)] at hb
              exact take (by unfold pu_bst1; rw [if_pos q]; exact if_pos (Or.inr ⟨z2, by omega⟩)) (by omega) hb
          · rw [pu_ieq_f z2 (by omega) (by omega)] at hb
            exact keep (by unfold pu_bst1; rw [if_pos q]; exact if_neg (by omega)) hb
    · rw [pu_ilt_t (by omega) (by omega)] at hb
      exact keep (by unfold pu_bst1; rw [if_neg q]) hb) (a := I0) ⟨pu_Fr.refl _ _, h22, h23, fun w c e => by cases e⟩ FU (by rw [pu_FU_e]; omega)
  exact ⟨J, j1, j2, j3, j5⟩
theorem pu_bestOf_n {V : pu_Vw} {fx : Nat → Nat} {m : Nat} {I0 : St} (o : pu_VOk V) (h : pu_MV I0 V) (hm : m ≤ V.n) (hF : pu_MF I0 fx m) (hT : ∀ h, h < 8 → ∀ s, s < 2 ^ V.n → I0 18 (256 * h + s) = nI (pu_TS V h s)) :
    ∃ J, pu_Fr [19, 20, 22, 23] I0 J ∧ J 22 0 = pu_bW (pu_bestV V fx m) ∧ J 23 0 = pu_bC (pu_bestV V fx m) ∧ mo_bestOf (nI m) I0 = some J := by
  have hN := pu_pow_le o
  have h8 := o.n8
  have hN0 : 0 < 2 ^ V.n := Nat.two_pow_pos _
  -- the start of all
  obtain ⟨I1, ⟨a1, a2⟩, a3⟩ := pu_lp_forE (T := Int32 → Int32 → Int32 → St → Option St) (dead := fun _ _ _ _ => none) (b := mo_bestOf_b11) (call := fun t i I => t (nI m) (nI (2 ^ V.n - 1)) (nI i) I) (P := fun i I => pu_Fr [19] I0 I ∧ ∀ s, s < i → I 19 s = nI (pu_DS (pu_TS V) fx m 0 s)) (K := fun I => mo_bestOf_l40 FU (nI m) (nI (2 ^ V.n - 1)) (nI 0) I) (2 ^ V.n) (by
    intro t I _
    unfold mo_bestOf_b11
    simp only [pu_lit]
    rw [pu_ilt_t (by omega) (by omega)]) (by
    rintro t i I hi ⟨f1, f2⟩
    refine ⟨upd2 I 19 i (nI (pu_DS (pu_TS V) fx m 0 i)), ⟨f1.upd (by simp), fun s pu_hs => ?_⟩, ?_⟩
    · by_cases q : s = i
      · rw [q, pu_upd2_at]
      · rw [pu_upd2_ne _ _ _ q]; exact f2 s (by omega)
    · unfold mo_bestOf_b11 mo_bestOf_b31 pu_DS
      simp only [pu_lit]
      rw [pu_ilt_f (by omega) (by omega), pu_as_n (by omega) (by omega), pu_as_n (by omega) (by omega), pu_nI_add]
      by_cases q : i = 0
      · rw [pu_ieq_t q, if_pos q]
      · rw [pu_ieq_f q (by omega) (by omega), if_neg q]) (a := I0) ⟨pu_Fr.refl _ _, fun s pu_hs => by omega⟩ FU (by rw [pu_FU_e]; omega)
  -- hour by hour
  obtain ⟨I2, ⟨b1, b2⟩, b3⟩ := pu_lp_forE (T := Int32 → Int32 → Int32 → St → Option St) (dead := fun _ _ _ _ => none) (b := mo_bestOf_b40) (call := fun t i I => t (nI m) (nI (2 ^ V.n - 1)) (nI i) I) (P := fun i I => pu_Fr [19, 20] I0 I ∧ ∀ s, s < 2 ^ V.n → I 19 s = nI (pu_DS (pu_TS V) fx m i s)) (K := fun I => mo_bestOf_l338 FU (nI (2 ^ V.n - 1)) (nI 0) (upd2 (upd2 I 22 0 (-nI 1)) 23 0 (nI 0))) 8 (by
    intro t I _
    unfold mo_bestOf_b40
    simp only [pu_lit, pu_lt_s]
    rw [pu_ile_t (by omega) (by omega)]) (by
    rintro t i I hi ⟨f1, f2⟩
    have hF' : pu_MF I fx m := fun d hd => by rw [f1 21 (by simp)]; exact hF d hd
    have B : pu_BA V fx m i I := ⟨fun s pu_hs => by rw [f1 18 (by simp)]; exact hT i hi s pu_hs, f2⟩
    obtain ⟨J, g1, g2, g3⟩ := pu_best120 o B hi (Nat.lt_trans (pu_muS_lt (by omega)) (by omega)) (fun c hc => pu_may_ok hm hc) t
    refine ⟨J, ⟨f1.trans g1, g2⟩, ?_⟩
    unfold mo_bestOf_b40
    simp only [pu_lit]
    rw [pu_ile_f (by omega) (by omega), pu_best55 o hm hF' hi]
    exact g3) (a := I1) ⟨a1.mono (by simp), a2⟩ FU (by decide)
  obtain ⟨J, c1, c2, c3, c4⟩ := pu_best338 (I0 := upd2 (upd2 I2 22 0 (-nI 1)) 23 0 (nI 0)) (E := pu_DS (pu_TS V) fx m 8) o ((h.fr1 b1 (by simp)).fr1 (((pu_Fr.refl [22, 23] I2).upd (by simp)).upd (by simp)) (by simp)) (fun s pu_hs => by
    rw [upd2_other _ _ _ (by decide), upd2_other _ _ _ (by decide)]
    exact ⟨b2 s pu_hs, pu_DS_le 8 s (by omega)⟩) (by rw [upd2_other _ _ _ (by decide), pu_upd2_at]) (by rw [pu_upd2_at])
  refine ⟨J, fun b hb => ?_, c2, c3, ?_⟩
  · rw [c1 b (fun q => hb (by revert q; simp; omega)), upd2_other _ _ _ (fun q => hb (by rw [q]; simp)), upd2_other _ _ _ (fun q => hb (by rw [q]; simp))]
    exact b1 b (fun q => hb (by revert q; simp; omega))
  · unfold mo_bestOf
    simp only [pu_lit, pu_lt_s]
    rw [h.n, pu_nI_31 (by omega), pu_nI_one (by omega), pu_nI_sub (by omega)]
    exact a3.trans (b3.trans c4)
/-! PURE: the component's search for the best -/
theorem pu_CV.fr {C J : St} {V : pu_Vw} (h : pu_CV C V) (o : pu_VOk V) (e : ∀ b, b = 2 ∨ b = 3 ∨ (20 ≤ b ∧ b < 28) ∨ (40 ≤ b ∧ b ≤ 50) ∨ (100 ≤ b ∧ b < 200) → J b = C b) : pu_CV J V := by
  have h8 := o.n8
  refine ⟨?_, ?_, ?_, ?_, ?_, ?_, ?_, ?_, ?_, ?_, ?_, ?_, ?_, ?_, ?_, ?_, ?_, ?_⟩
  · rw [e 50 (by omega)]; exact h.n
  · intro d hd; rw [e (100 + d) (by omega)]; exact h.kind d hd
  · intro d hd; rw [e (100 + d) (by omega)]; exact h.place d hd
  · intro d hd; rw [e (100 + d) (by omega)]; exact h.wet d hd
  · intro d hd; rw [e (100 + d) (by omega)]; exact h.worth d hd
  · intro d hd; rw [e (100 + d) (by omega)]; exact h.who d hd
  · rw [e 41 (by omega)]; exact h.parts
  · rw [e 44 (by omega)]; exact h.many
  · rw [e 45 (by omega)]; exact h.askR
  · rw [e 46 (by omega)]; exact h.askP
  · intro p hp; rw [e (20 + p) (by omega)]; exact h.come p hp
  · intro p hp; rw [e (20 + p) (by omega)]; exact h.til p hp
  · intro p hp; rw [e (20 + p) (by omega)]; exact h.price p hp
  · intro p hp; rw [e (20 + p) (by omega)]; exact h.mem p hp
  · rw [e 2 (by omega)]; exact h.rain
  · rw [e 3 (by omega)]; exact h.set
  · rw [e 40 (by omega)]; exact h.f0
  · rw [e 41 (by omega)]; exact h.f1
def pu_cBk (b : Nat) : Bool := decide (b = 2 ∨ b = 3 ∨ (20 ≤ b ∧ b < 28) ∨ (40 ≤ b ∧ b ≤ 50) ∨ (100 ≤ b ∧ b < 200))
theorem pu_CV.fr1 {C J : St} {V : pu_Vw} {bs : List Nat} (h : pu_CV C V) (o : pu_VOk V) (e : pu_Fr bs C J) (hb : bs.all (fun b => !pu_cBk b) = true) : pu_CV J V := h.fr o (fun b hh => e b (fun q => by
  have := List.all_eq_true.mp hb b q
  unfold pu_cBk at this
  rw [decide_eq_true hh] at this
  cases this))
theorem pu_bIbI {α : Sort _} {a b : Bool} {i : Decidable (pu_bI a = pu_bI b)} {x y : α} : @ite α (pu_bI a = pu_bI b) i x y = if (a == b) = true then x else y := by
  cases a <;> cases b
  · rw [if_pos rfl]; rfl
  · rw [if_neg (show ¬ pu_bI false = pu_bI true from pu_n01)]; rfl
  · rw [if_neg (show ¬ pu_bI true = pu_bI false from pu_n10)]; rfl
  · rw [if_pos rfl]; rfl
theorem pu_fI_2 {k : Nat} (hk : k < 1000) : pu_fI k ≠ -nI 2 := by
  cases k with
  | zero => decide
  | succ k =>
    rw [pu_fI_s]
    intro q
    have := congrArg Int32.toInt q
    rw [pu_nI_toInt (by omega), show (-nI 2).toInt = -2 from rfl] at this
    omega
/-- the hours fixed, as the component holds them -/
def pu_CF (C : St) (fx : Nat → Nat) (m n : Nat) : Prop := ∀ d, d < n → C 11 d = (if d < m then pu_fI (fx d) else -nI 2) ∧ (d < m → fx d ≤ 8)
theorem pu_okS_ext {fx : Nat → Nat} {m n h s : Nat} (hm : m ≤ n) : pu_allS n (fun d => !decide (d < m) || (s.testBit d == decide (fx d = h + 1))) = pu_okS fx m h s := by
  unfold pu_okS
  rw [Bool.eq_iff_iff, pu_allS_iff, pu_allS_iff]
  constructor
  · intro z i hi
    have := z i (by omega)
    simpa [hi] using this
  · intro z i hi
    by_cases q : i < m
    · have := z i q
      simpa [q] using this
    · simp [q]
theorem pu_fo_and (p : Nat → Bool) : ∀ n, pu_fo n (fun d a => a && p d) true = pu_allS n p
  | 0 => rfl
  | n + 1 => by
    show (pu_fo n (fun d a => a && p d) true && p n) = (pu_allS n p && p n)
    rw [pu_fo_and p n]
theorem pu_isFixed_n {C : St} {V : pu_Vw} {fx : Nat → Nat} {m s x : Nat} (h : pu_CV C V) (o : pu_VOk V) (hm : m ≤ V.n) (hF : pu_CF C fx m V.n) (pu_hs : s < 2147483648) (hx : x < 8) : cf_isFixed C (nI s) (nI x) = some (pu_bI (pu_okS fx m x s)) := by
  have h8 := o.n8
  rw [← pu_okS_ext hm, ← pu_fo_and]
  unfold cf_isFixed cf_isFixed_l5
  refine pu_lp_for (call := fun (t : Int32 → Int32 → Int32 → Int32 → Option Int32) i a => t (nI s) (nI x) (pu_bI a) (nI i)) (P := fun _ _ => True) (f := fun d a => a && (!decide (d < m) || (s.testBit d == decide (fx d = x + 1)))) (K := fun a => some (pu_bI a)) V.n ?_ ?_ (fun _ _ _ _ => trivial) (a := true) trivial FU (by rw [pu_FU_e]; omega)
  · intro t a _
    unfold cf_isFixed_b5
    rw [pu_deeds_n h, pu_bd_s, pu_ile_t (by omega) (by omega), if_pos (pu_zb_b a)]
  · intro t i a hi _
    have hf := hF i hi
    have e57 : ∀ b : Bool, cf_isFixed_b57 C t (nI s) (nI x) (nI i) (pu_bI b) (pu_bI a) = t (nI s) (nI x) (pu_bI (a && b)) (nI (i + 1)) := by
      intro b
      unfold cf_isFixed_b57
      simp only [pu_lit, pu_lt_s]
      rw [pu_nI_add]
      cases a <;> cases b <;> rfl
    unfold cf_isFixed_b5 cf_isFixed_b49
    simp only [pu_lit]
    rw [pu_deeds_n h, pu_bd_s, pu_ile_f (by omega) (by omega), pu_al_n (by omega) (by omega), pu_isInC_n pu_hs (by omega), pu_bd_s, pu_al_n (by omega) (by omega), hf.1]
    by_cases q : i < m
    · have := hf.2 q
      rw [if_pos q, if_neg (pu_fI_2 (by omega)), show nI 1 = pu_bI true from rfl, show nI 0 = pu_bI false from rfl, pu_bIbI, pu_bIbI, e57, e57]
      by_cases z : fx i = x + 1
      · rw [if_pos ((pu_fI_eq (by omega) (by omega)).mpr z)]
        cases s.testBit i <;> simp [q, z]
      · rw [if_neg (fun e => z ((pu_fI_eq (by omega) (by omega)).mp e))]
        cases s.testBit i <;> simp [q, z]
    · rw [if_neg q, if_pos rfl, show nI 1 = pu_bI true from rfl, e57]
      simp [q]
abbrev pu_CA (V : pu_Vw) (fx : Nat → Nat) (m h : Nat) (C : St) : Prop := (∀ s, s < 2 ^ V.n → C (30 + h) s = nI (pu_TS V h s)) ∧ (∀ s, s < 2 ^ V.n → C 10 s = nI (pu_DS (pu_TS V) fx m h s))
theorem pu_CA.T {V : pu_Vw} {fx : Nat → Nat} {m h : Nat} {C : St} (h_ : pu_CA V fx m h C) : ∀ s, s < 2 ^ V.n → C (30 + h) s = nI (pu_TS V h s) := h_.1
theorem pu_CA.D {V : pu_Vw} {fx : Nat → Nat} {m h : Nat} {C : St} (h_ : pu_CA V fx m h C) : ∀ s, s < 2 ^ V.n → C 10 s = nI (pu_DS (pu_TS V) fx m h s) := h_.2
theorem pu_find121 {V : pu_Vw} {fx : Nat → Nat} {m h now : Nat} {C0 : St} (o : pu_VOk V) (B : pu_CA V fx m h C0) (hh : h < 8) (hnow : now < 2 ^ V.n) (hok : pu_okS fx m h now = true) (hT : pu_TS V h now < 1000000)
    (h9 : ∀ u, u < 2 ^ V.n → ∃ x, C0 9 u = nI x ∧ pu_IsMn pu_FAR (fun i => pu_allow (pu_TS V) fx m h u i ∧ i < now) (fun i => pu_DS (pu_TS V) fx m h (u ^^^ i) + pu_TS V h i) x)
    (k38 : Int32 → Int32 → St → Option St) (k81 : Int32 → Int32 → Int32 → St → Option St) :
    ∃ J, pu_Fr [9] C0 J ∧ (∀ u, u < 2 ^ V.n → ∃ x, J 9 u = nI x ∧ pu_IsMn pu_FAR (fun i => pu_allow (pu_TS V) fx m h u i ∧ i < now + 1) (fun i => pu_DS (pu_TS V) fx m h (u ^^^ i) + pu_TS V h i) x) ∧
      cf_findBest_l121 k38 k81 FU (nI (2 ^ V.n)) (nI h) (nI now) (nI (pu_andn (2 ^ V.n - 1) now)) (nI (pu_andn (2 ^ V.n - 1) now)) C0 = k81 (nI (2 ^ V.n)) (nI h) (nI (now + 1)) J := by
  have hN := pu_pow_le o
  have hN0 : 0 < 2 ^ V.n := Nat.two_pow_pos _
  have hFAR : pu_FAR = 1000000 := rfl
  generalize hrest : pu_andn (2 ^ V.n - 1) now = rest
  have hr : rest ≤ 2 ^ V.n - 1 := by rw [← hrest]; exact pu_andn_le _ _
  have htb : ∀ j, rest.testBit j = (decide (j < V.n) && !now.testBit j) := by intro j; rw [← hrest, pu_andn_tb, Nat.testBit_two_pow_sub_one]
  have hup : ∀ u, u < 2 ^ V.n → now &&& u = now → (u ^^^ now) &&& rest = u ^^^ now := by
    intro u hu hn
    apply Nat.eq_of_testBit_eq
    intro j
    have a1 : now.testBit j = true → u.testBit j = true := pu_sub_tb hn
    have a2 : u.testBit j = true → j < V.n := by
      intro hj
      by_cases q : j < V.n
      · exact q
      · have := Nat.testBit_lt_two_pow (x := u) (i := j) (Nat.lt_of_lt_of_le hu (Nat.pow_le_pow_right (by omega) (by omega)))
        rw [this] at hj; cases hj
    rw [Nat.testBit_and, Nat.testBit_xor, htb]
    revert a1 a2
    cases u.testBit j <;> cases now.testBit j <;> simp
  have hdis : ∀ s, s &&& rest = s → (s ||| now) ^^^ now = s := by
    intro s pu_hs
    apply Nat.eq_of_testBit_eq
    intro j
    have a1 : s.testBit j = true → rest.testBit j = true := pu_sub_tb pu_hs
    rw [htb] at a1
    rw [Nat.testBit_xor, Nat.testBit_or]
    revert a1
    cases s.testBit j <;> cases now.testBit j <;> simp
  let Inv : Nat → St → Prop := fun c I => pu_Fr [9] C0 I ∧ ∀ u, u < 2 ^ V.n → ∃ x, I 9 u = nI x ∧ pu_IsMn pu_FAR (fun i => pu_allow (pu_TS V) fx m h u i ∧ (i < now ∨ (i = now ∧ c ≤ u ^^^ now))) (fun i => pu_DS (pu_TS V) fx m h (u ^^^ i) + pu_TS V h i) x
  have key := pu_lp_dn (T := Int32 → Int32 → Int32 → Int32 → Int32 → St → Option St) (dead := fun _ _ _ _ _ _ => none) (b := cf_findBest_b121 k38 k81) (fun c t => ∀ I, ((c = 0) ∨ (0 < c ∧ (c - 1) &&& rest = c - 1)) → Inv c I → ∃ J, Inv 0 J ∧ t (nI (2 ^ V.n)) (nI h) (nI now) (nI rest) (pu_fI c) I = k81 (nI (2 ^ V.n)) (nI h) (nI (now + 1)) J) (by
    intro c t ih I hx hI
    rcases hx with rfl | ⟨h0, hsub⟩
    · refine ⟨I, hI, ?_⟩
      unfold cf_findBest_b121 cf_findBest_b184
      simp only [pu_lit]
      rw [if_pos (show pu_fI 0 < nI 0 from by decide), pu_nI_add]
    · obtain ⟨s, rfl⟩ : ∃ d, c = d + 1 := ⟨c - 1, by omega⟩
      simp only [Nat.add_sub_cancel] at hsub
      have hsr := pu_sub_le hsub
      obtain ⟨hf, hu⟩ := hI
      have hlt : s ||| now < 2 ^ V.n := Nat.or_lt_two_pow (by omega) hnow
      obtain ⟨x, hx, hmn⟩ := hu (s ||| now) hlt
      have hx1 := hmn.1
      have eT : I (30 + h) now = nI (pu_TS V h now) := by rw [hf (30 + h) (by simp; omega)]; exact B.T now hnow
      have eD : I 10 s = nI (pu_DS (pu_TS V) fx m h s) := by rw [hf 10 (by simp)]; exact B.D s (by omega)
      have lD := pu_DS_le (T := pu_TS V) (fx := fx) (m := m) h s (by omega)
      have hal : pu_allow (pu_TS V) fx m h (s ||| now) now := ⟨by
        apply Nat.eq_of_testBit_eq
        intro j
        rw [Nat.testBit_and, Nat.testBit_or]
        cases s.testBit j <;> cases now.testBit j <;> rfl, hok, hT⟩
      have fin : ∀ c', (c' = 0 ∧ s = 0) ∨ (0 < s ∧ c' = ((s - 1) &&& rest) + 1) → Inv c' (upd2 I 9 (s ||| now) (nI (min x (pu_DS (pu_TS V) fx m h s + pu_TS V h now)))) := by
        intro c' hc'
        have hc1 : c' ≤ s := by
          have := Nat.and_le_left (n := s - 1) (m := rest)
          omega
        refine ⟨hf.upd (by simp), fun u hlu => ?_⟩
        by_cases q : u = s ||| now
        · refine ⟨min x (pu_DS (pu_TS V) fx m h s + pu_TS V h now), by rw [q, pu_upd2_at], ?_⟩
          rw [q]
          have e : pu_DS (pu_TS V) fx m h s + pu_TS V h now = (fun i => pu_DS (pu_TS V) fx m h ((s ||| now) ^^^ i) + pu_TS V h i) now := by
            dsimp only
            rw [hdis s hsub]
          rw [e]
          refine (hmn.add now).congr (fun i => ?_) (fun _ _ => rfl)
          rw [hdis s hsub]
          constructor
          · rintro (⟨z1, z2⟩ | z)
            · exact ⟨z1, by omega⟩
            · rw [z]; exact ⟨hal, Or.inr ⟨rfl, hc1⟩⟩
          · rintro ⟨z1, z2⟩
            rcases z2 with z2 | z2
            · exact Or.inl ⟨z1, Or.inl z2⟩
            · exact Or.inr z2.1
        · obtain ⟨y, hy, hym⟩ := hu u hlu
          refine ⟨y, by rw [pu_upd2_ne _ _ _ q]; exact hy, hym.congr (fun i => ?_) (fun _ _ => rfl)⟩
          constructor
          · rintro ⟨z1, z2⟩
            exact ⟨z1, by omega⟩
          · rintro ⟨z1, z2⟩
            refine ⟨z1, ?_⟩
            rcases z2 with z2 | ⟨z2, z3⟩
            · exact Or.inl z2
            · subst z2
              have hs2 := hup u hlu z1.1
              refine Or.inr ⟨rfl, ?_⟩
              rcases (show s + 1 ≤ u ^^^ i ∨ u ^^^ i = s ∨ u ^^^ i < s by omega) with w | w | w
              · exact w
              · exfalso
                apply q
                apply Nat.eq_of_testBit_eq
                intro j
                have a1 : i.testBit j = true → u.testBit j = true := pu_sub_tb z1.1
                rw [Nat.testBit_or, ← w, Nat.testBit_xor]
                revert a1
                cases u.testBit j <;> cases i.testBit j <;> simp
              · have := pu_nx_le s s (u ^^^ i) rest (Nat.le_refl _) hsub hs2 w
                omega
      unfold cf_findBest_b121 cf_findBest_b179
      simp only [pu_lit, pu_lt_s]
      rw [pu_fI_s, pu_ilt_f (by omega) (by omega), pu_nI_or, pu_al_n (by omega) (by omega), pu_al_n (by omega) (by omega), pu_ix_n hh (by omega), pu_al_n (by omega) (by omega), pu_as_n (by omega) (by omega), hx, eD, eT, pu_nI_add]
      have emin : (if nI (pu_DS (pu_TS V) fx m h s + pu_TS V h now) < nI x then nI (pu_DS (pu_TS V) fx m h s + pu_TS V h now) else nI x) = nI (min x (pu_DS (pu_TS V) fx m h s + pu_TS V h now)) := by
        by_cases q : pu_DS (pu_TS V) fx m h s + pu_TS V h now < x
        · rw [pu_ilt_t q (by omega), Nat.min_eq_right (by omega)]
        · rw [pu_ilt_f (by omega) (by omega), Nat.min_eq_left (by omega)]
      rw [emin]
      by_cases q : s = 0
      · rw [pu_ieq_t q]
        exact ih 0 (by omega) _ (Or.inl rfl) (fin 0 (Or.inl ⟨rfl, q⟩))
      · rw [pu_ieq_f q (by omega) (by omega), pu_nI_sub (by omega), pu_nI_and, ← pu_fI_s ((s - 1) &&& rest)]
        have := Nat.and_le_left (n := s - 1) (m := rest)
        exact ih (((s - 1) &&& rest) + 1) (by omega) _ (Or.inr ⟨by omega, by simp only [Nat.add_sub_cancel]; rw [Nat.and_assoc, Nat.and_self]⟩) (fin _ (Or.inr ⟨by omega, rfl⟩)))
  have start : Inv (rest + 1) C0 := by
    refine ⟨pu_Fr.refl _ _, fun u hu => ?_⟩
    obtain ⟨x, hx, hm⟩ := h9 u hu
    refine ⟨x, hx, hm.congr (fun i => ?_) (fun _ _ => rfl)⟩
    constructor
    · rintro ⟨z1, z2⟩; exact ⟨z1, Or.inl z2⟩
    · rintro ⟨z1, z2⟩
      refine ⟨z1, ?_⟩
      rcases z2 with z2 | ⟨z2, z3⟩
      · exact z2
      · subst z2
        have := pu_sub_le (hup u hu z1.1)
        omega
  obtain ⟨J, ⟨j1, j2⟩, j3⟩ := key FU (rest + 1) (by rw [pu_FU_e]; omega) C0 (Or.inr ⟨by omega, by simp [Nat.and_self]⟩) start
  refine ⟨J, j1, fun u hu => ?_, ?_⟩
  · obtain ⟨x, hx, hm⟩ := j2 u hu
    refine ⟨x, hx, hm.congr (fun i => ?_) (fun _ _ => rfl)⟩
    constructor
    · rintro ⟨z1, z2⟩; exact ⟨z1, by omega⟩
    · rintro ⟨z1, z2⟩; exact ⟨z1, by omega⟩
  · rw [pu_fI_s] at j3
    exact j3
/-! PURE: the component's search for the best, its end -/
theorem pu_find81 {V : pu_Vw} {fx : Nat → Nat} {m h : Nat} {C0 : St} (o : pu_VOk V) (hV : pu_CV C0 V) (hm : m ≤ V.n) (hF : pu_CF C0 fx m V.n) (B : pu_CA V fx m h C0) (hh : h < 8) (h9 : ∀ u, u < 2 ^ V.n → C0 9 u = nI 1000000) (k38 : Int32 → Int32 → St → Option St) :
    ∃ J, pu_Fr [9] C0 J ∧ (∀ u, u < 2 ^ V.n → J 9 u = nI (pu_DS (pu_TS V) fx m (h + 1) u)) ∧ cf_findBest_l81 k38 FU (nI (2 ^ V.n)) (nI h) (nI 0) C0 = k38 (nI (2 ^ V.n)) (nI (h + 1)) J := by
  have hN := pu_pow_le o
  have hN0 : 0 < 2 ^ V.n := Nat.two_pow_pos _
  obtain ⟨J, ⟨j1, j2⟩, j3⟩ := pu_lp_forE (T := Int32 → Int32 → Int32 → St → Option St) (dead := fun _ _ _ _ => none) (b := cf_findBest_b81 k38) (call := fun t i C => t (nI (2 ^ V.n)) (nI h) (nI i) C) (P := fun i C => pu_Fr [9] C0 C ∧ ∀ u, u < 2 ^ V.n → ∃ x, C 9 u = nI x ∧ pu_IsMn pu_FAR (fun c => pu_allow (pu_TS V) fx m h u c ∧ c < i) (fun c => pu_DS (pu_TS V) fx m h (u ^^^ c) + pu_TS V h c) x) (K := fun C => k38 (nI (2 ^ V.n)) (nI (h + 1)) C) (2 ^ V.n) (by
    intro t C _
    unfold cf_findBest_b81
    simp only [pu_lit]
    rw [pu_ile_t (by omega) (by omega), pu_nI_add]) (by
    rintro t now C hi ⟨f1, f2⟩
    have lT := pu_TS_le o h now
    have hV' : pu_CV C V := hV.fr1 o f1 (by decide)
    have hF' : pu_CF C fx m V.n := fun d hd => by rw [f1 11 (by simp)]; exact hF d hd
    have B' : pu_CA V fx m h C := ⟨fun s pu_hs => by rw [f1 (30 + h) (by simp; omega)]; exact B.T s pu_hs, fun s pu_hs => by rw [f1 10 (by simp)]; exact B.D s pu_hs⟩
    have keep : (∀ u, ¬ pu_allow (pu_TS V) fx m h u now) → cf_findBest_b81 k38 t (nI (2 ^ V.n)) (nI h) (nI now) C = t (nI (2 ^ V.n)) (nI h) (nI (now + 1)) C → ∃ a', (pu_Fr [9] C0 a' ∧ ∀ u, u < 2 ^ V.n → ∃ x, a' 9 u = nI x ∧ pu_IsMn pu_FAR (fun c => pu_allow (pu_TS V) fx m h u c ∧ c < now + 1) (fun c => pu_DS (pu_TS V) fx m h (u ^^^ c) + pu_TS V h c) x) ∧ cf_findBest_b81 k38 t (nI (2 ^ V.n)) (nI h) (nI now) C = t (nI (2 ^ V.n)) (nI h) (nI (now + 1)) a' := by
      intro hn he
      refine ⟨C, ⟨f1, fun u hu => ?_⟩, he⟩
      obtain ⟨x, hx, hmn⟩ := f2 u hu
      refine ⟨x, hx, hmn.congr (fun c => ?_) (fun _ _ => rfl)⟩
      constructor
      · rintro ⟨z1, z2⟩; exact ⟨z1, by omega⟩
      · rintro ⟨z1, z2⟩
        refine ⟨z1, ?_⟩
        rcases (show c < now ∨ c = now by omega) with w | w
        · exact w
        · rw [w] at z1; exact absurd z1 (hn u)
    have hb : cf_findBest_b81 k38 t (nI (2 ^ V.n)) (nI h) (nI now) C = if nI 1000000 ≤ nI (pu_TS V h now) then t (nI (2 ^ V.n)) (nI h) (nI (now + 1)) C else (if pu_okS fx m h now = true then cf_findBest_l121 k38 t FU (nI (2 ^ V.n)) (nI h) (nI now) (nI (pu_andn (2 ^ V.n - 1) now)) (nI (pu_andn (2 ^ V.n - 1) now)) C else t (nI (2 ^ V.n)) (nI h) (nI (now + 1)) C) := by
      conv => lhs; unfold cf_findBest_b81
      unfold cf_findBest_b184
      simp only [pu_lit, pu_lt_s]
      rw [pu_ile_f (by omega) (by omega), pu_ix_n hh (by omega), pu_al_n (by omega) (by omega), B'.T now hi, pu_isFixed_n hV' o hm hF' (by omega) hh, pu_bd_s, pu_bI0, pu_nI_sub (by omega), pu_nI_not, pu_nI_add]
    by_cases q1 : pu_TS V h now < 1000000
    · rw [pu_ile_f q1 (by omega)] at hb
      by_cases q2 : pu_okS fx m h now = true
      · rw [if_pos q2] at hb
        obtain ⟨J, g1, g2, g3⟩ := pu_find121 o B' hh hi q2 q1 f2 k38 t
        exact ⟨J, ⟨f1.trans g1, g2⟩, hb.trans g3⟩
      · rw [if_neg q2] at hb
        exact keep (fun u z => q2 z.2.1) hb
    · rw [pu_ile_t (by omega) (by omega)] at hb
      exact keep (fun u z => q1 z.2.2) hb) (a := C0) ⟨pu_Fr.refl _ _, fun u hu => ⟨1000000, h9 u hu, (pu_IsMn.zero pu_FAR _).congr (fun i => ⟨fun z => z.elim, fun z => by omega⟩) (fun _ _ => rfl)⟩⟩ FU (by rw [pu_FU_e]; omega)
  refine ⟨J, j1, fun u hu => ?_, j3⟩
  obtain ⟨x, hx, hmn⟩ := j2 u hu
  rw [hx]
  congr 1
  refine (hmn.congr (fun i => ?_) (fun _ _ => rfl)).uniq (pu_DS_mn (by omega))
  constructor
  · intro z; exact z.1
  · intro z
    have := pu_sub_le z.1
    exact ⟨z, by omega⟩
theorem pu_find38 {V : pu_Vw} {fx : Nat → Nat} {m h : Nat} {C0 : St} (o : pu_VOk V) (hV : pu_CV C0 V) (hm : m ≤ V.n) (hF : pu_CF C0 fx m V.n) (hT : ∀ s, s < 2 ^ V.n → C0 (30 + h) s = nI (pu_TS V h s)) (hD : ∀ s, s < 2 ^ V.n → C0 9 s = nI (pu_DS (pu_TS V) fx m h s)) (hh : h < 8) (k38 : Int32 → Int32 → St → Option St) :
    ∃ J, pu_Fr [9, 10] C0 J ∧ (∀ u, u < 2 ^ V.n → J 9 u = nI (pu_DS (pu_TS V) fx m (h + 1) u)) ∧ cf_findBest_b38 k38 (nI (2 ^ V.n)) (nI h) C0 = k38 (nI (2 ^ V.n)) (nI (h + 1)) J := by
  have hN := pu_pow_le o
  have hN0 : 0 < 2 ^ V.n := Nat.two_pow_pos _
  generalize hC1 : up1 C0 10 (va_cpy (C0 9) (C0 10) 0 0 (2 ^ V.n)) = C1
  have f1 : pu_Fr [9, 10] C0 C1 := by rw [← hC1]; exact (pu_Fr.refl _ _).up1 (by simp)
  have e10 : ∀ s, s < 2 ^ V.n → C1 10 s = nI (pu_DS (pu_TS V) fx m h s) := by
    intro s pu_hs
    rw [← hC1, up1_same]
    unfold va_cpy
    rw [if_pos ⟨by omega, by omega⟩, Nat.zero_add, Nat.sub_zero]
    exact hD s pu_hs
  obtain ⟨C2, ⟨g1, g2⟩, g3⟩ := pu_lp_forE (T := Int32 → Int32 → Int32 → St → Option St) (dead := fun _ _ _ _ => none) (b := cf_findBest_b60 k38) (call := fun t i C => t (nI (2 ^ V.n)) (nI h) (nI i) C) (P := fun i C => pu_Fr [9] C1 C ∧ ∀ u, u < i → C 9 u = nI 1000000) (K := fun C => cf_findBest_l81 k38 FU (nI (2 ^ V.n)) (nI h) (nI 0) C) (2 ^ V.n) (by
    intro t C _
    unfold cf_findBest_b60
    simp only [pu_lit]
    rw [pu_ile_t (by omega) (by omega)]) (by
    rintro t i C hi ⟨f1, f2⟩
    refine ⟨upd2 C 9 i (nI 1000000), ⟨f1.upd (by simp), fun u hu => ?_⟩, ?_⟩
    · by_cases q : u = i
      · rw [q, pu_upd2_at]
      · rw [pu_upd2_ne _ _ _ q]; exact f2 u (by omega)
    · unfold cf_findBest_b60
      simp only [pu_lit]
      rw [pu_ile_f (by omega) (by omega), pu_as_n (by omega) (by omega), pu_nI_add]) (a := C1) ⟨pu_Fr.refl _ _, fun u hu => by omega⟩ FU (by rw [pu_FU_e]; omega)
  have f2 : pu_Fr [9, 10] C0 C2 := f1.trans (g1.mono (by simp))
  obtain ⟨J, a1, a2, a3⟩ := pu_find81 (fx := fx) (m := m) (h := h) o (hV.fr1 o f2 (by decide)) hm (fun d hd => by rw [f2 11 (by simp)]; exact hF d hd) ⟨fun s pu_hs => by rw [f2 (30 + h) (by simp; omega)]; exact hT s pu_hs, fun s pu_hs => by rw [g1 10 (by simp)]; exact e10 s pu_hs⟩ hh g2 k38
  refine ⟨J, f2.trans (a1.mono (by simp)), a2, ?_⟩
  unfold cf_findBest_b38 cpy_
  simp only [pu_lit]
  rw [pu_ile_f (by omega) (by omega), if_pos (show cpOk (nI 0) (nI 0) (nI (2 ^ V.n)) = true from by
    unfold cpOk
    rw [pu_nI_clamp (by omega), pu_nI_clamp (by omega)]
    have e0 : (nI (2 ^ V.n) < 0) = False := by
      rw [show (0 : Int32) = nI 0 from rfl, eq_iff_iff, pu_nI_lt (by omega) (by omega)]
      simp
    have e1 : (nI 0 < 0) = False := by
      rw [eq_iff_iff]
      decide
    simp only [e0, e1]
    simp
    omega), pu_nI_clamp (by omega), pu_nI_clamp (by omega), hC1]
  exact g3.trans a3
theorem pu_find203 {V : pu_Vw} {E : Nat → Nat} {C0 : St} (o : pu_VOk V) (h : pu_CV C0 V) (hE : ∀ s, s < 2 ^ V.n → C0 9 s = nI (E s) ∧ E s ≤ 1000000) (hW : ∀ s, s < 2 ^ V.n → C0 8 s = nI (pu_worthS V s)) (h12 : C0 0 12 = -nI 1) :
    ∃ J, pu_Fr [0] C0 J ∧ (∀ k, k ≠ 12 → k ≠ 13 → J 0 k = C0 0 k) ∧ J 0 12 = pu_bW (pu_bestS (pu_worthS V) E (V.set 2) (2 ^ V.n)) ∧ (∀ w c, pu_bestS (pu_worthS V) E (V.set 2) (2 ^ V.n) = some (w, c) → J 0 13 = nI c) ∧ cf_findBest_l203 FU (nI (2 ^ V.n)) (nI 0) C0 = some J := by
  have hN := pu_pow_le o
  have hN0 : 0 < 2 ^ V.n := Nat.two_pow_pos _
  have hp := o.set2
  obtain ⟨J, ⟨j1, j0, j2, j3, j4⟩, j5⟩ := pu_lp_forE (T := Int32 → Int32 → St → Option St) (dead := fun _ _ _ => none) (b := cf_findBest_b203) (call := fun t i C => t (nI (2 ^ V.n)) (nI i) C) (P := fun i C => pu_Fr [0] C0 C ∧ (∀ k, k ≠ 12 → k ≠ 13 → C 0 k = C0 0 k) ∧ C 0 12 = pu_bW (pu_bestS (pu_worthS V) E (V.set 2) i) ∧ (∀ w c, pu_bestS (pu_worthS V) E (V.set 2) i = some (w, c) → C 0 13 = nI c) ∧ ∀ w c, pu_bestS (pu_worthS V) E (V.set 2) i = some (w, c) → w ≤ 72 ∧ c ≤ 999) (K := fun C => some C) (2 ^ V.n) (by
    intro t I _
    unfold cf_findBest_b203
    rw [pu_ile_t (by omega) (by omega)]) (by
    rintro t i I hi ⟨f1, f0, f2, f3, f4⟩
    have hM : pu_CV I V := h.fr1 o f1 (by decide)
    have hw := pu_worthS_le o i
    have hEi := hE i hi
    have e9 : I 9 i = nI (E i) := by rw [f1 9 (by simp)]; exact hEi.1
    have e8 : I 8 i = nI (pu_worthS V i) := by rw [f1 8 (by simp)]; exact hW i hi
    have eb : pu_bestS (pu_worthS V) E (V.set 2) (i + 1) = pu_bst1 (pu_worthS V) E (V.set 2) i (pu_bestS (pu_worthS V) E (V.set 2) i) := rfl
    rw [eb]
    revert f2 f3 f4
    generalize pu_bestS (pu_worthS V) E (V.set 2) i = a
    intro f2 f3 f4
    have yes : cf_findBest_b283 t (nI (2 ^ V.n)) (nI i) I = t (nI (2 ^ V.n)) (nI (i + 1)) (upd2 (upd2 I 0 12 (nI (pu_worthS V i))) 0 13 (nI (E i))) := by
      unfold cf_findBest_b283 cf_findBest_b303
      simp only [pu_lit, pu_lt_s]
      rw [pu_al_n (by omega) (by omega), e8, pu_al_n (by omega) (by omega), upd2_other I _ _ (show (9 : Nat) ≠ 0 by decide), e9, pu_nI_add]
    have keep : pu_bst1 (pu_worthS V) E (V.set 2) i a = a → cf_findBest_b203 t (nI (2 ^ V.n)) (nI i) I = t (nI (2 ^ V.n)) (nI (i + 1)) I → ∃ a', (pu_Fr [0] C0 a' ∧ (∀ k, k ≠ 12 → k ≠ 13 → a' 0 k = C0 0 k) ∧ a' 0 12 = pu_bW (pu_bst1 (pu_worthS V) E (V.set 2) i a) ∧ (∀ w c, pu_bst1 (pu_worthS V) E (V.set 2) i a = some (w, c) → a' 0 13 = nI c) ∧ ∀ w c, pu_bst1 (pu_worthS V) E (V.set 2) i a = some (w, c) → w ≤ 72 ∧ c ≤ 999) ∧ cf_findBest_b203 t (nI (2 ^ V.n)) (nI i) I = t (nI (2 ^ V.n)) (nI (i + 1)) a' := by
      intro ea ec
      rw [ea]
      exact ⟨I, ⟨f1, f0, f2, f3, f4⟩, ec⟩
    have take : pu_bst1 (pu_worthS V) E (V.set 2) i a = some (pu_worthS V i, E i) → E i ≤ 999 → cf_findBest_b203 t (nI (2 ^ V.n)) (nI i) I = cf_findBest_b283 t (nI (2 ^ V.n)) (nI i) I → ∃ a', (pu_Fr [0] C0 a' ∧ (∀ k, k ≠ 12 → k ≠ 13 → a' 0 k = C0 0 k) ∧ a' 0 12 = pu_bW (pu_bst1 (pu_worthS V) E (V.set 2) i a) ∧ (∀ w c, pu_bst1 (pu_worthS V) E (V.set 2) i a = some (w, c) → a' 0 13 = nI c) ∧ ∀ w c, pu_bst1 (pu_worthS V) E (V.set 2) i a = some (w, c) → w ≤ 72 ∧ c ≤ 999) ∧ cf_findBest_b203 t (nI (2 ^ V.n)) (nI i) I = t (nI (2 ^ V.n)) (nI (i + 1)) a' := by
      intro ea h9 ec
      rw [ea]
      refine ⟨_, ⟨(f1.upd (k := 0) (i := 12) (v := nI (pu_worthS V i)) (by simp)).upd (k := 0) (i := 13) (v := nI (E i)) (by simp), ?_, ?_, ?_, ?_⟩, ec.trans yes⟩
      · intro k h1 h2
        rw [pu_upd2_ne _ _ _ h2, pu_upd2_ne _ _ _ h1]; exact f0 k h1 h2
      · rw [pu_upd2_ne _ _ _ (by decide), pu_upd2_at]; rfl
      · intro w c hwc
        cases hwc
        rw [pu_upd2_at]
      · intro w c hwc
        cases hwc
        exact ⟨hw, h9⟩
    have hb : cf_findBest_b203 t (nI (2 ^ V.n)) (nI i) I = if nI (V.set 2) < nI (E i) then t (nI (2 ^ V.n)) (nI (i + 1)) I else (if pu_bW a < nI (pu_worthS V i) then cf_findBest_b283 t (nI (2 ^ V.n)) (nI i) I else (if nI (pu_worthS V i) = pu_bW a then (if I 0 13 ≤ nI (E i) then t (nI (2 ^ V.n)) (nI (i + 1)) I else cf_findBest_b283 t (nI (2 ^ V.n)) (nI i) I) else t (nI (2 ^ V.n)) (nI (i + 1)) I)) := by
      conv => lhs; unfold cf_findBest_b203 cf_findBest_b239 cf_findBest_b303
      simp only [pu_lit]
      rw [pu_ile_f (by omega) (by omega)]
      simp (disch := omega) only [pu_al_n, e9, e8, f2, hM.set 2 (by omega), if_true, pu_n10, if_false, pu_nI_add]
      by_cases q : E i ≤ V.set 2
      · rw [pu_ilt_f q (by omega), pu_ile_f (by omega) (by omega)]
      · rw [pu_ilt_t (by omega) (by omega)]
        simp
    by_cases q : E i ≤ V.set 2
    · rw [pu_ilt_f q (by omega)] at hb
      cases a with
      | none =>
        rw [if_pos (show pu_bW none < nI (pu_worthS V i) from by
          rw [Int32.lt_iff_toInt_lt, pu_nI_toInt (by omega), show (pu_bW none).toInt = -1 from rfl]
          omega)] at hb
        exact take (by unfold pu_bst1; rw [if_pos q]) (by omega) hb
      | some wc =>
        obtain ⟨w, c⟩ := wc
        have hl := f4 w c rfl
        rw [f3 w c rfl] at hb
        by_cases z1 : w < pu_worthS V i
        · rw [show pu_bW (some (w, c)) = nI w from rfl, pu_ilt_t z1 (by omega)] at hb
          exact take (by unfold pu_bst1; rw [if_pos q]; exact if_pos (Or.inl z1)) (by omega) hb
        · rw [show pu_bW (some (w, c)) = nI w from rfl, pu_ilt_f (by omega) (by omega)] at hb
          by_cases z2 : pu_worthS V i = w
          · rw [pu_ieq_t z2] at hb
            by_cases z3 : c ≤ E i
            · rw [pu_ile_t z3 (by omega)] at hb
              exact keep (by unfold pu_bst1; rw [if_pos q]; exact if_neg (by omega)) hb
            · rw [pu_ile_f (by omega) (by omega)] at hb
              exact take (by unfold pu_bst1; rw [if_pos q]; exact if_pos (Or.inr ⟨z2, by omega⟩)) (by omega) hb
          · rw [pu_ieq_f z2 (by omega) (by omega)] at hb
            exact keep (by unfold pu_bst1; rw [if_pos q]; exact if_neg (by omega)) hb
    · rw [pu_ilt_t (by omega) (by omega)] at hb
      exact keep (by unfold pu_bst1; rw [if_neg q]) hb) (a := C0) ⟨pu_Fr.refl _ _, fun _ _ _ => rfl, h12, (fun w c e => by cases e), (fun w c e => by cases e)⟩ FU (by rw [pu_FU_e]; omega)
  exact ⟨J, j1, j0, j2, j3, j5⟩
theorem pu_findBest_n {V : pu_Vw} {fx : Nat → Nat} {m : Nat} {C0 : St} (o : pu_VOk V) (h : pu_CV C0 V) (hm : m ≤ V.n) (hF : pu_CF C0 fx m V.n) (hT : ∀ h, h < 8 → ∀ s, s < 2 ^ V.n → C0 (30 + h) s = nI (pu_TS V h s)) (hW : ∀ s, s < 2 ^ V.n → C0 8 s = nI (pu_worthS V s)) :
    ∃ J, pu_Fr [0, 9, 10] C0 J ∧ (∀ k, k ≠ 12 → k ≠ 13 → J 0 k = C0 0 k) ∧ J 0 12 = pu_bW (pu_bestV V fx m) ∧ (∀ w c, pu_bestV V fx m = some (w, c) → J 0 13 = nI c) ∧ cf_findBest C0 = some J := by
  have hN := pu_pow_le o
  have h8 := o.n8
  have hN0 : 0 < 2 ^ V.n := Nat.two_pow_pos _
  obtain ⟨I1, ⟨a1, a2⟩, a3⟩ := pu_lp_forE (T := Int32 → Int32 → St → Option St) (dead := fun _ _ _ => none) (b := cf_findBest_b9) (call := fun t i I => t (nI (2 ^ V.n)) (nI i) I) (P := fun i I => pu_Fr [9] C0 I ∧ ∀ s, s < i → I 9 s = nI (pu_DS (pu_TS V) fx m 0 s)) (K := fun I => cf_findBest_l38 FU (nI (2 ^ V.n)) (nI 0) I) (2 ^ V.n) (by
    intro t I _
    unfold cf_findBest_b9
    simp only [pu_lit]
    rw [pu_ile_t (by omega) (by omega)]) (by
    rintro t i I hi ⟨f1, f2⟩
    refine ⟨upd2 I 9 i (nI (pu_DS (pu_TS V) fx m 0 i)), ⟨f1.upd (by simp), fun s pu_hs => ?_⟩, ?_⟩
    · by_cases q : s = i
      · rw [q, pu_upd2_at]
      · rw [pu_upd2_ne _ _ _ q]; exact f2 s (by omega)
    · unfold cf_findBest_b9 cf_findBest_b29 pu_DS
      simp only [pu_lit]
      rw [pu_ile_f (by omega) (by omega), pu_as_n (by omega) (by omega), pu_as_n (by omega) (by omega), pu_nI_add]
      by_cases q : i = 0
      · rw [pu_ieq_t q, if_pos q]
      · rw [pu_ieq_f q (by omega) (by omega), if_neg q]) (a := C0) ⟨pu_Fr.refl _ _, fun s pu_hs => by omega⟩ FU (by rw [pu_FU_e]; omega)
  obtain ⟨I2, ⟨b1, b2⟩, b3⟩ := pu_lp_forE (T := Int32 → Int32 → St → Option St) (dead := fun _ _ _ => none) (b := cf_findBest_b38) (call := fun t i I => t (nI (2 ^ V.n)) (nI i) I) (P := fun i I => pu_Fr [9, 10] C0 I ∧ ∀ s, s < 2 ^ V.n → I 9 s = nI (pu_DS (pu_TS V) fx m i s)) (K := fun I => cf_findBest_l203 FU (nI (2 ^ V.n)) (nI 0) (upd2 I 0 12 (-nI 1))) 8 (by
    intro t I _
    unfold cf_findBest_b38
    simp only [pu_lit, pu_lt_s]
    rw [pu_ile_t (by omega) (by omega)]) (by
    rintro t i I hi ⟨f1, f2⟩
    obtain ⟨J, g1, g2, g3⟩ := pu_find38 (fx := fx) (m := m) (h := i) o (h.fr1 o f1 (by decide)) hm (fun d hd => by rw [f1 11 (by simp)]; exact hF d hd) (fun s pu_hs => by rw [f1 (30 + i) (by simp; omega)]; exact hT i hi s pu_hs) f2 hi t
    exact ⟨J, ⟨f1.trans g1, g2⟩, g3⟩) (a := I1) ⟨a1.mono (by simp), a2⟩ FU (by decide)
  obtain ⟨J, c1, c0, c2, c3, c4⟩ := pu_find203 (C0 := upd2 I2 0 12 (-nI 1)) (E := pu_DS (pu_TS V) fx m 8) o ((h.fr1 o b1 (by decide)).fr1 o ((pu_Fr.refl [0] I2).upd (by simp)) (by decide)) (fun s pu_hs => by
    rw [upd2_other _ _ _ (by decide)]
    exact ⟨b2 s pu_hs, pu_DS_le 8 s (by omega)⟩) (fun s pu_hs => by rw [upd2_other _ _ _ (by decide), b1 8 (by simp)]; exact hW s pu_hs) (by rw [pu_upd2_at])
  refine ⟨J, fun b hb => ?_, fun k h1 h2 => ?_, c2, c3, ?_⟩
  · rw [c1 b (fun q => hb (by revert q; simp; omega)), upd2_other _ _ _ (fun q => hb (by rw [q]; simp))]
    exact b1 b (fun q => hb (by revert q; simp; omega))
  · rw [c0 k h1 h2, pu_upd2_ne _ _ _ h1, b1 0 (by simp)]
  · unfold cf_findBest
    simp only [pu_lit, pu_lt_s]
    rw [pu_deeds_n h, pu_bd_s, pu_nI_31 (by omega), pu_nI_one (by omega)]
    exact a3.trans (b3.trans c4)
