/-! the plain side, part 3 -/
set_option maxRecDepth 100000
/-! PURE: plans -/
def pu_srch (p : Nat → Bool) : Nat → Nat → Nat
  | 0, k => k
  | f + 1, k => if p k = true then k else pu_srch p f (k + 1)
theorem pu_srch_ok {p : Nat → Bool} : ∀ f k, (∃ j, k ≤ j ∧ j ≤ k + f ∧ p j = true) → p (pu_srch p f k) = true ∧ k ≤ pu_srch p f k ∧ pu_srch p f k ≤ k + f ∧ ∀ j, k ≤ j → j < pu_srch p f k → p j = false
  | 0, k, ⟨j, h1, h2, h3⟩ => by
    have : j = k := by omega
    subst this
    exact ⟨h3, Nat.le_refl _, Nat.le_refl _, fun i a b => by unfold pu_srch at b; omega⟩
  | f + 1, k, ⟨j, h1, h2, h3⟩ => by
    unfold pu_srch
    by_cases q : p k = true
    · rw [if_pos q]
      exact ⟨q, Nat.le_refl _, by omega, fun i a b => by omega⟩
    · rw [if_neg q]
      have hj : k ≠ j := by intro e; rw [e] at q; exact q h3
      have := pu_srch_ok f (k + 1) ⟨j, by omega, by omega, h3⟩
      refine ⟨this.1, by omega, by omega, fun i a b => ?_⟩
      rcases (show i = k ∨ k + 1 ≤ i by omega) with w | w
      · rw [w]; exact Bool.eq_false_iff.mpr q
      · exact this.2.2.2 i w b
def pu_tgtS (V : pu_Vw) : Option (Nat × Nat) := pu_bestV V (fun _ => 0) 0
theorem pu_costN_0 {V : pu_Vw} (h : Nat) : pu_costN V 0 h = 0 := by
  have : ∀ n, pu_foX n (pu_cost1 V 0 h) (0, false) = some (0, false) := by
    intro n
    induction n with
    | zero => rfl
    | succ n ih =>
      unfold pu_foX
      rw [ih]
      unfold pu_cost1
      rw [Nat.zero_testBit]
      rfl
  unfold pu_costN pu_costX
  rw [this]
  rfl
theorem pu_DS_0 {V : pu_Vw} {fx : Nat → Nat} : ∀ h, pu_DS (pu_TS V) fx 0 h 0 = 0
  | 0 => rfl
  | h + 1 => by
    have := (pu_DS_mn (T := pu_TS V) (fx := fx) (m := 0) (h := h) (s := 0) (by omega)).2.1 0 ⟨rfl, rfl, by unfold pu_TS; rw [pu_costN_0]; decide⟩
    dsimp only at this
    rw [Nat.xor_self, pu_DS_0 h, show pu_TS V h 0 = 0 from pu_costN_0 h] at this
    omega
theorem pu_tgtS_some (V : pu_Vw) : ∃ w c, pu_tgtS V = some (w, c) := by
  have b := pu_bestS_is (pu_worthS V) (pu_DS (pu_TS V) (fun _ => 0) 0 8) (V.set 2) (2 ^ V.n)
  unfold pu_tgtS pu_bestV
  cases e : pu_bestS (pu_worthS V) (pu_DS (pu_TS V) (fun _ => 0) 0 8) (V.set 2) (2 ^ V.n) with
  | none =>
    rw [e] at b
    have := b 0 (Nat.two_pow_pos _)
    rw [pu_DS_0] at this
    omega
  | some t => exact ⟨t.1, t.2, rfl⟩
theorem pu_bestV_le {V : pu_Vw} {fx : Nat → Nat} {m w c : Nat} (o : pu_VOk V) (h : pu_bestV V fx m = some (w, c)) : w ≤ 72 ∧ c ≤ 999 := by
  have b := pu_bestS_is (pu_worthS V) (pu_DS (pu_TS V) fx m 8) (V.set 2) (2 ^ V.n)
  unfold pu_bestV at h
  rw [h] at b
  obtain ⟨⟨s, a1, a2, a3, a4⟩, _⟩ := b
  have h2 := o.set2
  have h3 := pu_worthS_le o s
  omega
def pu_okK (V : pu_Vw) (fx : Nat → Nat) (d k : Nat) : Bool := decide (pu_bestV V (pu_setN fx d k) (d + 1) = pu_tgtS V)
def pu_rowF (V : pu_Vw) : Nat → Nat → Nat
  | 0 => fun _ => 0
  | d + 1 => pu_setN (pu_rowF V d) d (pu_srch (pu_okK V (pu_rowF V d) d) 8 0)
theorem pu_rowF_ok {V : pu_Vw} (o : pu_VOk V) : ∀ d, pu_bestV V (pu_rowF V d) d = pu_tgtS V
  | 0 => rfl
  | d + 1 => by
    obtain ⟨w, c, ht⟩ := pu_tgtS_some V
    have h2 := o.set2
    obtain ⟨k, hk, e⟩ := pu_fix_one (T := pu_TS V) (W := pu_worthS V) (fx := pu_rowF V d) (m := d) (N := 2 ^ V.n) (purse := V.set 2) (t := (w, c)) (by show _ < 1000000; omega) (pu_pow_le o) ((pu_rowF_ok o d).trans ht)
    have := (pu_srch_ok (p := pu_okK V (pu_rowF V d) d) 8 0 ⟨k, by omega, by omega, decide_eq_true (e.trans ht.symm)⟩).1
    exact of_decide_eq_true this
theorem pu_rowK {V : pu_Vw} (o : pu_VOk V) (d : Nat) : pu_okK V (pu_rowF V d) d (pu_srch (pu_okK V (pu_rowF V d) d) 8 0) = true ∧ pu_srch (pu_okK V (pu_rowF V d) d) 8 0 ≤ 8 ∧ ∀ j, j < pu_srch (pu_okK V (pu_rowF V d) d) 8 0 → pu_okK V (pu_rowF V d) d j = false := by
  obtain ⟨w, c, ht⟩ := pu_tgtS_some V
  have h2 := o.set2
  obtain ⟨k, hk, e⟩ := pu_fix_one (T := pu_TS V) (W := pu_worthS V) (fx := pu_rowF V d) (m := d) (N := 2 ^ V.n) (purse := V.set 2) (t := (w, c)) (by show _ < 1000000; omega) (pu_pow_le o) ((pu_rowF_ok o d).trans ht)
  have := pu_srch_ok (p := pu_okK V (pu_rowF V d) d) 8 0 ⟨k, by omega, by omega, decide_eq_true (e.trans ht.symm)⟩
  exact ⟨this.1, by omega, fun j hj => this.2.2.2 j (by omega) hj⟩
theorem pu_rowF_le {V : pu_Vw} (o : pu_VOk V) : ∀ m d, pu_rowF V m d ≤ 8
  | 0, d => by unfold pu_rowF; omega
  | m + 1, d => by
    unfold pu_rowF pu_setN
    split
    · exact (pu_rowK o m).2.1
    · exact pu_rowF_le o m d
theorem pu_rowF_eq {V : pu_Vw} {d : Nat} : ∀ m, d < m → pu_rowF V m d = pu_rowF V (d + 1) d
  | 0, h => by omega
  | m + 1, h => by
    by_cases q : d = m
    · rw [q]
    · have e : pu_rowF V (m + 1) d = pu_rowF V m d := by
        conv => lhs; unfold pu_rowF pu_setN
        rw [if_neg q]
      rw [e]
      exact pu_rowF_eq m (by omega)
def pu_rowS (V : pu_Vw) (d : Nat) : Nat := pu_rowF V (d + 1) d
theorem pu_rowS_eq (V : pu_Vw) (d : Nat) : pu_rowS V d = pu_srch (pu_okK V (pu_rowF V d) d) 8 0 := by
  show pu_setN (pu_rowF V d) d (pu_srch (pu_okK V (pu_rowF V d) d) 8 0) d = _
  exact if_pos rfl
theorem pu_okK_iff {V : pu_Vw} {fx : Nat → Nat} {d k w c : Nat} (o : pu_VOk V) (ht : pu_tgtS V = some (w, c)) {x y : Int32} (hx : x = pu_bW (pu_bestV V (pu_setN fx d k) (d + 1))) (hy : ∀ w c, pu_bestV V (pu_setN fx d k) (d + 1) = some (w, c) → y = nI c) : pu_okK V fx d k = true ↔ (x = nI w ∧ y = nI c) := by
  have hl := pu_bestV_le o ht
  unfold pu_okK
  rw [decide_eq_true_iff, ht]
  cases e : pu_bestV V (pu_setN fx d k) (d + 1) with
  | none =>
    rw [e] at hx
    constructor
    · intro z; cases z
    · rintro ⟨z, _⟩
      rw [hx] at z
      exact absurd z.symm (pu_nI_m1 (by omega))
  | some t =>
    obtain ⟨w', c'⟩ := t
    have hl' := pu_bestV_le o e
    rw [e] at hx
    rw [hx, hy w' c' e]
    constructor
    · intro z; cases z; exact ⟨rfl, rfl⟩
    · rintro ⟨z1, z2⟩
      have a1 := (pu_nI_inj (a := w') (b := w) (by omega) (by omega)).mp z1
      have a2 := (pu_nI_inj (a := c') (b := c) (by omega) (by omega)).mp z2
      rw [a1, a2]
theorem pu_laysMost_n {V : pu_Vw} {I0 : St} {w c : Nat} (o : pu_VOk V) (h : pu_MV I0 V) (ht : pu_tgtS V = some (w, c)) :
    ∃ J, pu_Fr [18, 19, 20, 21, 22, 23, 24, 25] I0 J ∧ J 24 0 = nI w ∧ J 25 0 = nI c ∧ (∀ d, d < V.n → J 21 d = pu_fI (pu_rowS V d)) ∧ mo_laysMost_l6 FU (nI 0) I0 = some J := by
  have hN := pu_pow_le o
  have h8 := o.n8
  have hN0 : 0 < 2 ^ V.n := Nat.two_pow_pos _
  have hl := pu_bestV_le o ht
  -- what they cost together
  obtain ⟨I1, ⟨a1, a2⟩, a3⟩ := pu_lp_forE (T := Int32 → St → Option St) (dead := fun _ _ => none) (b := mo_laysMost_b6) (call := fun t i I => t (nI i) I) (P := fun i I => pu_Fr [18] I0 I ∧ ∀ x, x < i → ∀ s, s < 2 ^ V.n → I 18 (256 * x + s) = nI (pu_TS V x s)) (K := fun I => bd_ (mo_bestOf (nI 0) I) fun I2 => mo_laysMost_l77 FU (nI 0) (upd2 (upd2 I2 24 0 (I2 22 0)) 25 0 (upd2 I2 24 0 (I2 22 0) 23 0))) 8 (by
    intro t I _
    unfold mo_laysMost_b6
    simp only [pu_lit, pu_lt_s]
    rw [pu_ile_t (by omega) (by omega)]) (by
    rintro t i I hi ⟨f1, f2⟩
    obtain ⟨J, ⟨g1, g2, g3⟩, g4⟩ := pu_lp_forE (T := Int32 → Int32 → St → Option St) (dead := fun _ _ _ => none) (b := mo_laysMost_b14 t) (call := fun u k I => u (nI i) (nI k) I) (P := fun k J => pu_Fr [18] I0 J ∧ (∀ x, x < i → ∀ s, s < 2 ^ V.n → J 18 (256 * x + s) = nI (pu_TS V x s)) ∧ ∀ s, s < k → J 18 (256 * i + s) = nI (pu_TS V i s)) (K := fun J => t (nI (i + 1)) J) (2 ^ V.n) (by
      rintro u J ⟨e1, _⟩
      have hM := h.fr1 e1 (by simp)
      unfold mo_laysMost_b14
      simp only [pu_lit]
      rw [hM.n, pu_nI_31 (by omega), pu_nI_one (by omega), pu_ile_t (by omega) (by omega), pu_nI_add]) (by
      rintro u k J hk ⟨e1, e2, e3⟩
      have hM := h.fr1 e1 (by simp)
      refine ⟨upd2 J 18 (256 * i + k) (nI (pu_TS V i k)), ⟨e1.upd (by simp), fun x hx s pu_hs => ?_, fun s pu_hs => ?_⟩, ?_⟩
      · rw [pu_upd2_ne _ _ _ (by omega)]; exact e2 x hx s pu_hs
      · by_cases q : s = k
        · rw [q, pu_upd2_at]
        · rw [pu_upd2_ne _ _ _ (by omega)]; exact e3 s (by omega)
      · unfold mo_laysMost_b14
        simp only [pu_lit]
        rw [hM.n, pu_nI_31 (by omega), pu_nI_one (by omega), pu_ile_f (by omega) (by omega), pu_costT_n hM o (by omega) hi, pu_bd_s, pu_nI_mul, pu_nI_add, pu_as_n (by omega) (by omega), pu_nI_add]
        rfl) (a := I) ⟨f1, f2, fun s pu_hs => by omega⟩ FU (by rw [pu_FU_e]; omega)
    refine ⟨J, ⟨g1, fun x hx s pu_hs => ?_⟩, ?_⟩
    · rcases (show x < i ∨ x = i by omega) with q | q
      · exact g2 x q s pu_hs
      · rw [q]; exact g3 s pu_hs
    · unfold mo_laysMost_b6
      simp only [pu_lit]
      rw [pu_ile_f (by omega) (by omega)]
      exact g4) (a := I0) ⟨pu_Fr.refl _ _, fun x hx => by omega⟩ FU (by decide)
  have hM1 := h.fr1 a1 (by simp)
  obtain ⟨I2, b1, b2, b3, b4⟩ := pu_bestOf_n (fx := fun _ => 0) (m := 0) o hM1 (by omega) (fun d hd => by omega) a2
  have b2 : I2 22 0 = pu_bW (pu_tgtS V) := b2
  have b3 : I2 23 0 = pu_bC (pu_tgtS V) := b3
  rw [ht] at b2 b3
  -- deed by deed
  have hF3 : pu_Fr [18, 19, 20, 21, 22, 23, 24, 25] I0 (upd2 (upd2 I2 24 0 (I2 22 0)) 25 0 (upd2 I2 24 0 (I2 22 0) 23 0)) := (((a1.mono (by simp)).trans (b1.mono (by simp))).upd (by simp)).upd (by simp)
  obtain ⟨J, ⟨c1, c2, c3, c4, c5⟩, c6⟩ := pu_lp_forE (T := Int32 → St → Option St) (dead := fun _ _ => none) (b := mo_laysMost_b77) (call := fun t i I => t (nI i) I) (P := fun d I => pu_Fr [18, 19, 20, 21, 22, 23, 24, 25] I0 I ∧ (∀ x, x < 8 → ∀ s, s < 2 ^ V.n → I 18 (256 * x + s) = nI (pu_TS V x s)) ∧ I 24 0 = nI w ∧ I 25 0 = nI c ∧ pu_MF I (pu_rowF V d) d) (K := fun I => some I) V.n (by
    rintro t I ⟨e1, _⟩
    have hM := h.fr1 e1 (by simp)
    unfold mo_laysMost_b77
    rw [hM.n, pu_ile_t (by omega) (by omega)]) (by
    rintro t d I hd ⟨e1, e2, e3, e4, e5⟩
    have hM := h.fr1 e1 (by simp)
    have hk := pu_rowK o d
    -- the state with deed d at k, the best found by it
    let St1 : Nat → St → Prop := fun k I => pu_Fr [18, 19, 20, 21, 22, 23, 24, 25] I0 I ∧ (∀ x, x < 8 → ∀ s, s < 2 ^ V.n → I 18 (256 * x + s) = nI (pu_TS V x s)) ∧ I 24 0 = nI w ∧ I 25 0 = nI c ∧ pu_MF I (pu_setN (pu_rowF V d) d k) (d + 1)
    have run : ∀ k I, St1 k I → ∃ J, St1 k J ∧ J 22 0 = pu_bW (pu_bestV V (pu_setN (pu_rowF V d) d k) (d + 1)) ∧ J 23 0 = pu_bC (pu_bestV V (pu_setN (pu_rowF V d) d k) (d + 1)) ∧ mo_bestOf (nI (d + 1)) I = some J := by
      rintro k I ⟨g1, g2, g3, g4, g5⟩
      obtain ⟨J, j1, j2, j3, j4⟩ := pu_bestOf_n (fx := pu_setN (pu_rowF V d) d k) (m := d + 1) o (h.fr1 g1 (by simp)) (by omega) g5 g2
      exact ⟨J, ⟨g1.trans (j1.mono (by simp)), fun x hx s pu_hs => by rw [j1 18 (by simp)]; exact g2 x hx s pu_hs, by rw [j1 24 (by simp)]; exact g3, by rw [j1 25 (by simp)]; exact g4, fun i hi => by rw [j1 21 (by simp)]; exact g5 i hi⟩, j2, j3, j4⟩
    have put : ∀ k I, k ≤ 8 → (pu_Fr [18, 19, 20, 21, 22, 23, 24, 25] I0 I ∧ (∀ x, x < 8 → ∀ s, s < 2 ^ V.n → I 18 (256 * x + s) = nI (pu_TS V x s)) ∧ I 24 0 = nI w ∧ I 25 0 = nI c ∧ pu_MF I (pu_rowF V d) d) → St1 k (upd2 I 21 d (pu_fI k)) := by
      rintro k I hk8 ⟨g1, g2, g3, g4, g5⟩
      refine ⟨g1.upd (by simp), fun x hx s pu_hs => by rw [upd2_other _ _ _ (by decide)]; exact g2 x hx s pu_hs, by rw [upd2_other _ _ _ (by decide)]; exact g3, by rw [upd2_other _ _ _ (by decide)]; exact g4, fun i hi => ?_⟩
      unfold pu_setN
      by_cases q : i = d
      · rw [q, if_pos rfl, pu_upd2_at]; exact ⟨rfl, hk8⟩
      · rw [if_neg q, pu_upd2_ne _ _ _ q]; exact g5 i (by omega)
    have back : ∀ k I, St1 k I → pu_MF I (pu_rowF V d) d := by
      rintro k I ⟨_, _, _, _, g5⟩ i hi
      have := g5 i (by omega)
      unfold pu_setN at this
      rw [if_neg (by omega)] at this
      exact this
    -- the loop
    have loop : ∀ m n, m < n → ∀ k I, k + m = pu_srch (pu_okK V (pu_rowF V d) d) 8 0 → St1 k I → I 22 0 = pu_bW (pu_bestV V (pu_setN (pu_rowF V d) d k) (d + 1)) → I 23 0 = pu_bC (pu_bestV V (pu_setN (pu_rowF V d) d k) (d + 1)) → ∃ J, St1 (pu_srch (pu_okK V (pu_rowF V d) d) 8 0) J ∧ lp (fun _ _ => none) (mo_laysMost_b99 t) n (nI d) I = t (nI (d + 1)) J := by
      intro m n hmn
      refine pu_lp_up (fun m (u : Int32 → St → Option St) => ∀ k I, k + m = pu_srch (pu_okK V (pu_rowF V d) d) 8 0 → St1 k I → I 22 0 = pu_bW (pu_bestV V (pu_setN (pu_rowF V d) d k) (d + 1)) → I 23 0 = pu_bC (pu_bestV V (pu_setN (pu_rowF V d) d k) (d + 1)) → ∃ J, St1 (pu_srch (pu_okK V (pu_rowF V d) d) 8 0) J ∧ u (nI d) I = t (nI (d + 1)) J) ?_ ?_ m n hmn
      · intro u k I hkm hS h22 h23
        have e : k = pu_srch (pu_okK V (pu_rowF V d) d) 8 0 := by omega
        have hok := hk.1
        rw [← e] at hok
        have := (pu_okK_iff (y := I 23 0) o ht h22 (fun w c e => by rw [h23, e]; rfl)).mp hok
        refine ⟨I, by rw [← e]; exact hS, ?_⟩
        unfold mo_laysMost_b99
        simp only [pu_lit]
        rw [hS.2.2.1, hS.2.2.2.1, if_pos this.1, if_pos this.2, pu_nI_add]
      · intro m u ih k I hkm hS h22 h23
        have hno := hk.2.2 k (by omega)
        have hk8 := hk.2.1
        have hn : ¬ (I 22 0 = nI w ∧ I 23 0 = nI c) := fun z => by
          have := (pu_okK_iff (y := I 23 0) o ht h22 (fun w c e => by rw [h23, e]; rfl)).mpr z
          rw [hno] at this
          cases this
        have e21 : I 21 d = pu_fI k := by
          have := (hS.2.2.2.2 d (by omega)).1
          unfold pu_setN at this
          rw [if_pos rfl] at this
          exact this
        obtain ⟨J, q1, q2, q3, q4⟩ := run (k + 1) _ (put (k + 1) I (by omega) ⟨hS.1, hS.2.1, hS.2.2.1, hS.2.2.2.1, back k I hS⟩)
        obtain ⟨J2, r1, r2⟩ := ih (k + 1) J (by omega) q1 q2 q3
        refine ⟨J2, r1, ?_⟩
        rw [← r2]
        have e121 : mo_laysMost_b121 t u (nI d) I = u (nI d) J := by
          unfold mo_laysMost_b121
          simp only [pu_lit]
          rw [pu_al_n (by omega) (by omega), pu_as_n (by omega) (by omega), e21, pu_fI_add, pu_nI_add, q4, pu_bd_s]
        unfold mo_laysMost_b99
        rw [e121, hS.2.2.1, hS.2.2.2.1]
        by_cases z1 : I 22 0 = nI w
        · rw [if_pos z1, if_neg (fun z2 => hn ⟨z1, z2⟩)]
        · rw [if_neg z1]
    obtain ⟨J1, q1, q2, q3, q4⟩ := run 0 _ (put 0 I (by omega) ⟨e1, e2, e3, e4, e5⟩)
    obtain ⟨J2, r1, r2⟩ := loop (pu_srch (pu_okK V (pu_rowF V d) d) 8 0) FU (by rw [pu_FU_e]; have := hk.2.1; omega) 0 J1 (by omega) q1 q2 q3
    refine ⟨J2, r1, ?_⟩
    unfold mo_laysMost_b77
    simp only [pu_lit]
    rw [hM.n, pu_ile_f (by omega) (by omega), pu_as_n (by omega) (by omega), pu_nI_add, show upd2 I 21 d (-nI 1) = upd2 I 21 d (pu_fI 0) from rfl, q4, pu_bd_s]
    exact r2) (a := upd2 (upd2 I2 24 0 (I2 22 0)) 25 0 (upd2 I2 24 0 (I2 22 0) 23 0)) ⟨hF3, fun x hx s pu_hs => by
      rw [upd2_other _ _ _ (by decide), upd2_other _ _ _ (by decide), b1 18 (by simp)]; exact a2 x hx s pu_hs, by rw [upd2_other _ _ _ (by decide), pu_upd2_at, b2]; rfl, by rw [pu_upd2_at, upd2_other _ _ _ (by decide), b3]; rfl, fun d hd => by omega⟩ FU (by rw [pu_FU_e]; omega)
  refine ⟨J, c1, c3, c4, fun d hd => ?_, ?_⟩
  · rw [(c5 d hd).1, pu_rowF_eq V.n hd]; rfl
  · refine Eq.trans a3 ?_
    rw [b4, pu_bd_s]
    exact c6
/-! PURE: plans of the component -/
theorem pu_worthC_n {C : St} {V : pu_Vw} {s : Nat} (h : pu_CV C V) (o : pu_VOk V) (pu_hs : s < 2147483648) : cf_worthOf C (nI s) = some (nI (pu_worthS V s)) := by
  have h8 := o.n8
  unfold cf_worthOf cf_worthOf_l4
  refine pu_lp_for (call := fun (t : Int32 → Int32 → Int32 → Option Int32) i a => t (nI s) (nI a) (nI i)) (P := fun _ _ => True) (f := fun d a => a + if s.testBit d = true then V.worth d else 0) (K := fun a => some (nI a)) V.n ?_ ?_ (fun _ _ _ _ => trivial) (a := 0) trivial FU (by rw [pu_FU_e]; omega)
  · intro t a _
    unfold cf_worthOf_b4
    simp only [pu_lit]
    rw [pu_deeds_n h, pu_bd_s, pu_ile_t (by omega) (by omega)]
  · intro t i a hi _
    unfold cf_worthOf_b4 cf_worthOf_b33
    simp only [pu_lit, pu_lt_s]
    rw [pu_deeds_n h, pu_bd_s, pu_ile_f (by omega) (by omega), pu_isInC_n pu_hs (by omega), pu_bd_s, pu_bI0, pu_deed2_n h o hi, pu_bd_s, h.nn o, pu_fx_n hi, h.worth i hi, pu_nI_add, pu_nI_add, pu_nI_add]
    cases s.testBit i <;> rfl
abbrev pu_pBk : List Nat := [0, 8, 9, 10, 11, 16, 30, 31, 32, 33, 34, 35, 36, 37]
theorem pu_findPlan_n {V : pu_Vw} {C0 : St} {w c : Nat} (o : pu_VOk V) (h : pu_CV C0 V) (ht : pu_tgtS V = some (w, c)) :
    ∃ J, pu_Fr pu_pBk C0 J ∧ (∀ k, k ≠ 12 → k ≠ 13 → k ≠ 14 → k ≠ 15 → J 0 k = C0 0 k) ∧ J 0 14 = nI w ∧ J 0 15 = nI c ∧ (∀ d, d < V.n → J 16 d = pu_fI (pu_rowS V d)) ∧ cf_findPlan_l7 FU (nI V.n) (nI 0) C0 = some J := by
  have hN := pu_pow_le o
  have h8 := o.n8
  have hN0 : 0 < 2 ^ V.n := Nat.two_pow_pos _
  have hl := pu_bestV_le o ht
  have mem30 : ∀ h, h < 8 → 30 + h ∈ pu_pBk := by decide
  -- worths, costs
  obtain ⟨C1, ⟨a1, a0, a2, a2'⟩, a3⟩ := pu_lp_forE (T := Int32 → Int32 → St → Option St) (dead := fun _ _ _ => none) (b := cf_findPlan_b7) (call := fun t i I => t (nI V.n) (nI i) I) (P := fun i I => pu_Fr pu_pBk C0 I ∧ I 0 = C0 0 ∧ (∀ s, s < i → I 8 s = nI (pu_worthS V s)) ∧ ∀ x, x < 8 → ∀ s, s < i → I (30 + x) s = nI (pu_TS V x s)) (K := fun I => cf_findPlan_l61 FU (nI V.n) (nI 0) I) (2 ^ V.n) (by
    intro t I _
    unfold cf_findPlan_b7
    simp only [pu_lit]
    rw [pu_nI_31 (by omega), pu_nI_one (by omega), pu_ile_t (by omega) (by omega)]) (by
    rintro t s I pu_hs ⟨f1, f0, f2, f3⟩
    have hM := h.fr1 o f1 (by decide)
    obtain ⟨J, ⟨g1, g0, g2, g3, g4⟩, g5⟩ := pu_lp_forE (T := Int32 → Int32 → Int32 → St → Option St) (dead := fun _ _ _ _ => none) (b := cf_findPlan_b27 t) (call := fun u k I => u (nI V.n) (nI s) (nI k) I) (P := fun k J => pu_Fr pu_pBk C0 J ∧ J 0 = C0 0 ∧ (∀ s', s' < s + 1 → J 8 s' = nI (pu_worthS V s')) ∧ (∀ x, x < 8 → ∀ s', s' < s → J (30 + x) s' = nI (pu_TS V x s')) ∧ ∀ x, x < k → J (30 + x) s = nI (pu_TS V x s)) (K := fun J => t (nI V.n) (nI (s + 1)) J) 8 (by
      rintro u J _
      unfold cf_findPlan_b27
      simp only [pu_lit]
      rw [pu_ile_t (by omega) (by omega), pu_nI_add]) (by
      rintro u k J hk ⟨e1, e0, e2, e3, e4⟩
      have hM := h.fr1 o e1 (by decide)
      refine ⟨upd2 J (30 + k) s (nI (pu_TS V k s)), ⟨e1.upd (mem30 k hk), by rw [upd2_other _ _ _ (by omega)]; exact e0, fun s' hs' => by rw [upd2_other _ _ _ (by omega)]; exact e2 s' hs', fun x hx s' hs' => ?_, fun x hx => ?_⟩, ?_⟩
      · by_cases q : x = k
        · rw [q, pu_upd2_ne _ _ _ (by omega)]; exact e3 k hk s' hs'
        · rw [upd2_other _ _ _ (by omega)]; exact e3 x hx s' hs'
      · by_cases q : x = k
        · rw [q, pu_upd2_at]
        · rw [upd2_other _ _ _ (by omega)]; exact e4 x (by omega)
      · unfold cf_findPlan_b27
        simp only [pu_lit]
        rw [pu_ile_f (by omega) (by omega), pu_ix_n hk (by omega), pu_costOf_n hM o (by omega) hk, pu_bd_s, pu_as_n (by omega) (by omega), pu_nI_add]
        rfl) (a := upd2 I 8 s (nI (pu_worthS V s))) ⟨f1.upd (by decide), by rw [upd2_other _ _ _ (by omega)]; exact f0, fun s' hs' => by
          by_cases q : s' = s
          · rw [q, pu_upd2_at]
          · rw [pu_upd2_ne _ _ _ q]; exact f2 s' (by omega), fun x hx s' hs' => by rw [upd2_other _ _ _ (by omega)]; exact f3 x hx s' hs', fun x hx => by omega⟩ FU (by decide)
    refine ⟨J, ⟨g1, g0, g2, fun x hx s' hs' => ?_⟩, ?_⟩
    · rcases (show s' < s ∨ s' = s by omega) with q | q
      · exact g3 x hx s' q
      · rw [q]; exact g4 x hx
    · unfold cf_findPlan_b7
      simp only [pu_lit]
      rw [pu_nI_31 (by omega), pu_nI_one (by omega), pu_ile_f (by omega) (by omega), pu_worthC_n hM o (by omega), pu_bd_s, pu_as_n (by omega) (by omega)]
      exact g5) (a := C0) ⟨pu_Fr.refl _ _, rfl, fun s pu_hs => by omega, fun x hx s pu_hs => by omega⟩ FU (by rw [pu_FU_e]; omega)
  -- all are free
  obtain ⟨C2, ⟨b1, b2⟩, b3⟩ := pu_lp_forE (T := Int32 → Int32 → St → Option St) (dead := fun _ _ _ => none) (b := cf_findPlan_b61) (call := fun t i I => t (nI V.n) (nI i) I) (P := fun i I => pu_Fr [11] C1 I ∧ ∀ d, d < i → I 11 d = -nI 2) (K := fun I => bd_ (cf_findBest I) fun I2 => cf_findPlan_l102 FU (nI V.n) (nI 0) (upd2 (upd2 I2 0 14 (I2 0 12)) 0 15 (upd2 I2 0 14 (I2 0 12) 0 13))) V.n (by
    intro t I _
    unfold cf_findPlan_b61
    simp only [pu_lit, pu_lt_s]
    rw [pu_ile_t (by omega) (by omega)]) (by
    rintro t i I hi ⟨f1, f2⟩
    refine ⟨upd2 I 11 i (-nI 2), ⟨f1.upd (by simp), fun d hd => ?_⟩, ?_⟩
    · by_cases q : d = i
      · rw [q, pu_upd2_at]
      · rw [pu_upd2_ne _ _ _ q]; exact f2 d (by omega)
    · unfold cf_findPlan_b61
      simp only [pu_lit]
      rw [pu_ile_f (by omega) (by omega), pu_as_n (by omega) (by omega), pu_nI_add]) (a := C1) ⟨pu_Fr.refl _ _, fun d hd => by omega⟩ FU (by rw [pu_FU_e]; omega)
  have F2 : pu_Fr pu_pBk C0 C2 := a1.trans (b1.mono (by decide))
  obtain ⟨C3, d1, d0, d2, d3, d4⟩ := pu_findBest_n (fx := fun _ => 0) (m := 0) o (h.fr1 o F2 (by decide)) (by omega) (fun d hd => ⟨by rw [if_neg (by omega)]; exact b2 d hd, fun q => by omega⟩) (fun x hx s pu_hs => by rw [b1 (30 + x) (by simp; omega)]; exact a2' x hx s pu_hs) (fun s pu_hs => by rw [b1 8 (by simp)]; exact a2 s pu_hs)
  have d2 : C3 0 12 = pu_bW (pu_tgtS V) := d2
  have d3 : C3 0 13 = nI c := d3 w c ht
  rw [ht] at d2
  have F3 : pu_Fr pu_pBk C0 C3 := F2.trans (d1.mono (by decide))
  -- deed by deed
  let St0 : St → Prop := fun I => pu_Fr pu_pBk C0 I ∧ (∀ k, k ≠ 12 → k ≠ 13 → k ≠ 14 → k ≠ 15 → I 0 k = C0 0 k) ∧ (∀ x, x < 8 → ∀ s, s < 2 ^ V.n → I (30 + x) s = nI (pu_TS V x s)) ∧ (∀ s, s < 2 ^ V.n → I 8 s = nI (pu_worthS V s)) ∧ I 0 14 = nI w ∧ I 0 15 = nI c
  obtain ⟨J, ⟨c1, c2, c3⟩, c6⟩ := pu_lp_forE (T := Int32 → Int32 → St → Option St) (dead := fun _ _ _ => none) (b := cf_findPlan_b102) (call := fun t i I => t (nI V.n) (nI i) I) (P := fun d I => St0 I ∧ pu_CF I (pu_rowF V d) d V.n ∧ ∀ i, i < d → I 16 i = pu_fI (pu_rowS V i)) (K := fun I => some I) V.n (by
    rintro t I _
    unfold cf_findPlan_b102
    rw [pu_ile_t (by omega) (by omega)]) (by
    rintro t d I hd ⟨e0, e5, e6⟩
    have hk := pu_rowK o d
    let St1 : Nat → St → Prop := fun k I => St0 I ∧ pu_CF I (pu_setN (pu_rowF V d) d k) (d + 1) V.n ∧ ∀ i, i < d → I 16 i = pu_fI (pu_rowS V i)
    have run : ∀ k I, St1 k I → ∃ J, St1 k J ∧ J 0 12 = pu_bW (pu_bestV V (pu_setN (pu_rowF V d) d k) (d + 1)) ∧ (∀ w c, pu_bestV V (pu_setN (pu_rowF V d) d k) (d + 1) = some (w, c) → J 0 13 = nI c) ∧ cf_findBest I = some J := by
      rintro k I ⟨⟨g1, g0, g2, g3, g4, g5⟩, pu_g6, g7⟩
      obtain ⟨J, j1, j0, j2, j3, j4⟩ := pu_findBest_n (fx := pu_setN (pu_rowF V d) d k) (m := d + 1) o (h.fr1 o g1 (by decide)) (by omega) pu_g6 g2 g3
      refine ⟨J, ⟨⟨g1.trans (j1.mono (by decide)), fun i h1 h2 h3 h4 => by rw [j0 i h1 h2]; exact g0 i h1 h2 h3 h4, fun x hx s pu_hs => by rw [j1 (30 + x) (by simp; omega)]; exact g2 x hx s pu_hs, fun s pu_hs => by rw [j1 8 (by simp)]; exact g3 s pu_hs, by rw [j0 14 (by decide) (by decide)]; exact g4, by rw [j0 15 (by decide) (by decide)]; exact g5⟩, fun i hi => by rw [j1 11 (by simp)]; exact pu_g6 i hi, fun i hi => by rw [j1 16 (by simp)]; exact g7 i hi⟩, j2, j3, j4⟩
    have put : ∀ k I, k ≤ 8 → (St0 I ∧ (∀ i, i < V.n → i ≠ d → I 11 i = (if i < d then pu_fI (pu_rowF V d i) else -nI 2)) ∧ ∀ i, i < d → I 16 i = pu_fI (pu_rowS V i)) → St1 k (upd2 I 11 d (pu_fI k)) := by
      rintro k I hk8 ⟨⟨g1, g0, g2, g3, g4, g5⟩, pu_g6, g7⟩
      refine ⟨⟨g1.upd (by decide), fun i h1 h2 h3 h4 => by rw [upd2_other _ _ _ (by decide)]; exact g0 i h1 h2 h3 h4, fun x hx s pu_hs => by rw [upd2_other _ _ _ (by omega)]; exact g2 x hx s pu_hs, fun s pu_hs => by rw [upd2_other _ _ _ (by decide)]; exact g3 s pu_hs, by rw [upd2_other _ _ _ (by decide)]; exact g4, by rw [upd2_other _ _ _ (by decide)]; exact g5⟩, fun i hi => ?_, fun i hi => by rw [upd2_other _ _ _ (by decide)]; exact g7 i hi⟩
      unfold pu_setN
      by_cases q : i = d
      · rw [q, if_pos rfl, if_pos (by omega), pu_upd2_at]; exact ⟨rfl, fun _ => hk8⟩
      · rw [if_neg q, pu_upd2_ne _ _ _ q, pu_g6 i hi q]
        refine ⟨?_, fun _ => pu_rowF_le o d i⟩
        by_cases z : i < d
        · rw [if_pos z, if_pos (by omega)]
        · rw [if_neg z, if_neg (by omega)]
    have back : ∀ k I, St1 k I → ∀ i, i < V.n → i ≠ d → I 11 i = (if i < d then pu_fI (pu_rowF V d i) else -nI 2) := by
      rintro k I ⟨_, g5, _⟩ i hi q
      have := (g5 i hi).1
      unfold pu_setN at this
      rw [if_neg q] at this
      rw [this]
      by_cases z : i < d
      · rw [if_pos z, if_pos (by omega)]
      · rw [if_neg z, if_neg (by omega)]
    have at11 : ∀ k I, St1 k I → I 11 d = pu_fI k := by
      rintro k I ⟨_, g5, _⟩
      have := (g5 d hd).1
      unfold pu_setN at this
      rw [if_pos rfl, if_pos (by omega)] at this
      exact this
    have loop : ∀ m n, m < n → ∀ k I, k + m = pu_srch (pu_okK V (pu_rowF V d) d) 8 0 → St1 k I → I 0 12 = pu_bW (pu_bestV V (pu_setN (pu_rowF V d) d k) (d + 1)) → (∀ w c, pu_bestV V (pu_setN (pu_rowF V d) d k) (d + 1) = some (w, c) → I 0 13 = nI c) → ∃ J, St1 (pu_srch (pu_okK V (pu_rowF V d) d) 8 0) J ∧ lp (fun _ _ _ => none) (cf_findPlan_b118 t) n (nI V.n) (nI d) I = t (nI V.n) (nI (d + 1)) (upd2 J 16 d (pu_fI (pu_srch (pu_okK V (pu_rowF V d) d) 8 0))) := by
      intro m n hmn
      refine pu_lp_up (fun m (u : Int32 → Int32 → St → Option St) => ∀ k I, k + m = pu_srch (pu_okK V (pu_rowF V d) d) 8 0 → St1 k I → I 0 12 = pu_bW (pu_bestV V (pu_setN (pu_rowF V d) d k) (d + 1)) → (∀ w c, pu_bestV V (pu_setN (pu_rowF V d) d k) (d + 1) = some (w, c) → I 0 13 = nI c) → ∃ J, St1 (pu_srch (pu_okK V (pu_rowF V d) d) 8 0) J ∧ u (nI V.n) (nI d) I = t (nI V.n) (nI (d + 1)) (upd2 J 16 d (pu_fI (pu_srch (pu_okK V (pu_rowF V d) d) 8 0)))) ?_ ?_ m n hmn
      · intro u k I hkm hS h22 h23
        have e : k = pu_srch (pu_okK V (pu_rowF V d) d) 8 0 := by omega
        have hok := hk.1
        rw [← e] at hok
        have := (pu_okK_iff (y := I 0 13) o ht h22 h23).mp hok
        refine ⟨I, by rw [← e]; exact hS, ?_⟩
        unfold cf_findPlan_b118
        simp only [pu_lit]
        rw [hS.1.2.2.2.2.1, hS.1.2.2.2.2.2, if_pos this.1, if_pos this.2, pu_al_n (by omega) (by omega), pu_as_n (by omega) (by omega), at11 k I hS, pu_nI_add, ← e]
      · intro m u ih k I hkm hS h22 h23
        have hno := hk.2.2 k (by omega)
        have hk8 := hk.2.1
        have hn : ¬ (I 0 12 = nI w ∧ I 0 13 = nI c) := fun z => by
          have := (pu_okK_iff (y := I 0 13) o ht h22 h23).mpr z
          rw [hno] at this
          cases this
        obtain ⟨J, q1, q2, q3, q4⟩ := run (k + 1) _ (put (k + 1) I (by omega) ⟨hS.1, back k I hS, hS.2.2⟩)
        obtain ⟨J2, r1, r2⟩ := ih (k + 1) J (by omega) q1 q2 q3
        refine ⟨J2, r1, ?_⟩
        rw [← r2]
        have e140 : cf_findPlan_b140 t u (nI V.n) (nI d) I = u (nI V.n) (nI d) J := by
          unfold cf_findPlan_b140
          simp only [pu_lit]
          rw [pu_al_n (by omega) (by omega), pu_as_n (by omega) (by omega), at11 k I hS, pu_fI_add, q4, pu_bd_s]
        unfold cf_findPlan_b118
        rw [e140, hS.1.2.2.2.2.1, hS.1.2.2.2.2.2]
        by_cases z1 : I 0 12 = nI w
        · rw [if_pos z1, if_neg (fun z2 => hn ⟨z1, z2⟩)]
        · rw [if_neg z1]
    obtain ⟨J1, q1, q2, q3, q4⟩ := run 0 _ (put 0 I (by omega) ⟨e0, fun i hi q => (e5 i hi).1, e6⟩)
    obtain ⟨J2, r1, r2⟩ := loop (pu_srch (pu_okK V (pu_rowF V d) d) 8 0) FU (by rw [pu_FU_e]; have := hk.2.1; omega) 0 J1 (by omega) q1 q2 q3
    obtain ⟨⟨s1, s0, s2, s3, s4, s5⟩, s6, s7⟩ := r1
    refine ⟨_, ⟨⟨s1.upd (k := 16) (i := d) (v := pu_fI (pu_srch (pu_okK V (pu_rowF V d) d) 8 0)) (by decide), fun i h1 h2 h3 h4 => by rw [upd2_other _ _ _ (by decide)]; exact s0 i h1 h2 h3 h4, fun x hx s pu_hs => by rw [upd2_other _ _ _ (by omega)]; exact s2 x hx s pu_hs, fun s pu_hs => by rw [upd2_other _ _ _ (by decide)]; exact s3 s pu_hs, by rw [upd2_other _ _ _ (by decide)]; exact s4, by rw [upd2_other _ _ _ (by decide)]; exact s5⟩, fun i hi => by rw [upd2_other _ _ _ (by decide)]; exact s6 i hi, fun i hi => ?_⟩, ?_⟩
    · by_cases q : i = d
      · rw [q, pu_upd2_at, pu_rowS_eq]
      · rw [pu_upd2_ne _ _ _ q]; exact s7 i (by omega)
    · unfold cf_findPlan_b102
      simp only [pu_lit]
      rw [pu_ile_f (by omega) (by omega), pu_as_n (by omega) (by omega), show upd2 I 11 d (-nI 1) = upd2 I 11 d (pu_fI 0) from rfl, q4, pu_bd_s]
      exact r2) (a := upd2 (upd2 C3 0 14 (C3 0 12)) 0 15 (upd2 C3 0 14 (C3 0 12) 0 13)) ⟨⟨(F3.upd (by decide)).upd (by decide), fun k h1 h2 h3 h4 => by
        rw [pu_upd2_ne _ _ _ h4, pu_upd2_ne _ _ _ h3, d0 k h1 h2, b1 0 (by decide), a0], fun x hx s pu_hs => by rw [upd2_other _ _ _ (by omega), upd2_other _ _ _ (by omega), d1 (30 + x) (by simp; omega), b1 (30 + x) (by simp; omega)]; exact a2' x hx s pu_hs, fun s pu_hs => by rw [upd2_other _ _ _ (by decide), upd2_other _ _ _ (by decide), d1 8 (by decide), b1 8 (by decide)]; exact a2 s pu_hs, by rw [pu_upd2_ne _ _ _ (by decide), pu_upd2_at, d2]; rfl, by rw [pu_upd2_at, pu_upd2_ne _ _ _ (by decide), d3]⟩, fun d hd => ⟨by rw [if_neg (by omega), upd2_other _ _ _ (by decide), upd2_other _ _ _ (by decide), d1 11 (by decide)]; exact b2 d hd, fun q => by omega⟩, fun i hi => by omega⟩ FU (by rw [pu_FU_e]; omega)
  refine ⟨J, c1.1, c1.2.1, c1.2.2.2.2.1, c1.2.2.2.2.2, c3, ?_⟩
  refine Eq.trans a3 (Eq.trans b3 ?_)
  rw [d4, pu_bd_s]
  exact c6
/-! PURE: ranges; bytes of texts -/
def pu_inS (x lo hi : Int32) : Bool := decide (lo ≤ x) && decide (x ≤ hi)
theorem pu_moin (x lo hi : Int32) : mo_in x lo hi = some (pu_bI (pu_inS x lo hi)) := by
  unfold mo_in pu_inS
  have e1 : (x < lo) ↔ ¬ lo ≤ x := by rw [Int32.lt_iff_toInt_lt, Int32.le_iff_toInt_le]; omega
  have e2 : (hi < x) ↔ ¬ x ≤ hi := by rw [Int32.lt_iff_toInt_lt, Int32.le_iff_toInt_le]; omega
  by_cases q1 : lo ≤ x
  · rw [if_neg (by rw [e1]; simpa using q1)]
    by_cases q2 : x ≤ hi
    · rw [if_neg (by rw [e2]; simpa using q2)]; simp [q1, q2, pu_bI, pu_lit]
    · rw [if_pos (e2.mpr q2)]; simp [q1, q2, pu_bI, pu_lit]
  · rw [if_pos (e1.mpr q1)]; simp [q1, pu_bI, pu_lit]
theorem pu_cfin (x lo hi : Int32) : cf_in x.toInt64 lo.toInt64 hi.toInt64 = some (pu_bI (pu_inS x lo hi)) := by
  unfold cf_in pu_inS
  have e1 : (lg_cmp x.toInt64 lo.toInt64 < 0) ↔ ¬ lo ≤ x := by
    rw [lg_cmp_lt, Int64.lt_iff_toInt_lt, Int32.toInt_toInt64, Int32.toInt_toInt64, Int32.le_iff_toInt_le]; omega
  have e2 : (0 < lg_cmp x.toInt64 hi.toInt64) ↔ ¬ x ≤ hi := by
    rw [lg_cmp_gt, Int64.lt_iff_toInt_lt, Int32.toInt_toInt64, Int32.toInt_toInt64, Int32.le_iff_toInt_le]; omega
  by_cases q1 : lo ≤ x
  · rw [if_neg (by rw [e1]; simpa using q1)]
    by_cases q2 : x ≤ hi
    · rw [if_neg (by rw [e2]; simpa using q2)]; simp [q1, q2, pu_bI, pu_lit]
    · rw [if_pos (e2.mpr q2)]; simp [q1, q2, pu_bI, pu_lit]
  · rw [if_pos (e1.mpr q1)]; simp [q1, pu_bI, pu_lit]
theorem pu_inS_n {a lo hi : Nat} (ha : a < 2147483648) (hl : lo < 2147483648) (hh : hi < 2147483648) : pu_inS (nI a) (nI lo) (nI hi) = decide (lo ≤ a ∧ a ≤ hi) := by
  unfold pu_inS
  rw [Bool.eq_iff_iff, Bool.and_eq_true, decide_eq_true_iff, decide_eq_true_iff, decide_eq_true_iff, pu_nI_le hl ha, pu_nI_le ha hh]
theorem pu_inS_ex {x : Int32} {m : Nat} (hm : m < 2147483648) (h : pu_inS x (nI 0) (nI m) = true) : ∃ k, k ≤ m ∧ x = nI k := by
  unfold pu_inS at h
  rw [Bool.and_eq_true, decide_eq_true_iff, decide_eq_true_iff, Int32.le_iff_toInt_le, Int32.le_iff_toInt_le, pu_nI_toInt (by omega), pu_nI_toInt hm] at h
  refine ⟨x.toInt.toNat, by omega, ?_⟩
  apply Int32.toInt_inj.mp
  rw [pu_nI_toInt (by omega)]
  omega
theorem pu_isTwo_n (x : Int32) : cf_isTwo x = some (pu_bI (pu_inS x (nI 0) (nI 1))) := by
  unfold cf_isTwo
  rw [show cf_in x.toInt64 0 1 = _ from pu_cfin x (nI 0) (nI 1), pu_bd_s, if_pos (pu_zb_b _)]
theorem pu_isHour_n (x : Int32) : cf_isHour x = some (pu_bI (pu_inS x (nI 0) (nI 7))) := by
  unfold cf_isHour
  rw [show cf_in x.toInt64 0 7 = _ from pu_cfin x (nI 0) (nI 7), pu_bd_s, if_pos (pu_zb_b _)]
theorem pu_isPerson_n (x : Int32) : cf_isPerson x = some (pu_bI (pu_inS x (nI 0) (nI 7))) := by
  unfold cf_isPerson
  rw [show cf_in x.toInt64 0 7 = _ from pu_cfin x (nI 0) (nI 7), pu_bd_s, if_pos (pu_zb_b _)]
/-- bytes; none beyond the end -/
def pu_bt (ty : Nat) (b : Nat → Nat) (k : Nat) : Nat := if k < ty then b k else 256
def pu_cI (v : Nat) : Int32 := if v < 256 then nI v else -nI 1
theorem pu_cI_eq {v c : Nat} (hc : c < 256) : pu_cI v = nI c ↔ v = c := by
  unfold pu_cI
  by_cases q : v < 256
  · rw [if_pos q, pu_nI_inj (by omega) (by omega)]
  · rw [if_neg q]
    exact ⟨fun e => absurd e.symm (pu_nI_m1 (by omega)), fun e => by omega⟩
theorem pu_cI_ite {α : Sort _} {v c : Nat} {i : Decidable (pu_cI v = nI c)} {x y : α} (hc : c < 256) : @ite α (pu_cI v = nI c) i x y = if v = c then x else y := by
  by_cases q : v = c
  · rw [if_pos ((pu_cI_eq hc).mpr q), if_pos q]
  · rw [if_neg (fun e => q ((pu_cI_eq hc).mp e)), if_neg q]
theorem pu_m1_toInt : (-nI 1).toInt = -1 := rfl
theorem pu_cI_toInt (v : Nat) : (pu_cI v).toInt = if v < 256 then (v : Int) else -1 := by
  unfold pu_cI
  by_cases q : v < 256
  · rw [if_pos q, if_pos q, pu_nI_toInt (by omega)]
  · rw [if_neg q, if_neg q, pu_m1_toInt]
theorem pu_cI_in {v lo hi : Nat} (hh : hi < 256) (hl : lo ≤ hi) : pu_inS (pu_cI v) (nI lo) (nI hi) = decide (lo ≤ v ∧ v ≤ hi) := by
  unfold pu_inS
  rw [Bool.eq_iff_iff, Bool.and_eq_true, decide_eq_true_iff, decide_eq_true_iff, decide_eq_true_iff, Int32.le_iff_toInt_le, Int32.le_iff_toInt_le, pu_nI_toInt (by omega), pu_nI_toInt (by omega), pu_cI_toInt]
  split <;> omega
theorem pu_cI_sub {v c : Nat} (hc : c < 256) : (pu_cI v - nI c).toInt = (if v < 256 then (v : Int) else -1) - c := by
  have e : ∀ w : Int32, -1 ≤ w.toInt → w.toInt < 256 → (w - nI c).toInt = w.toInt - c := by
    intro w h1 h2
    rw [Int32.toInt_sub, pu_nI_toInt (by omega)]
    exact Int.bmod_eq_of_le_mul_two (by omega) (by omega)
  rw [e, pu_cI_toInt] <;> rw [pu_cI_toInt] <;> split <;> omega
theorem pu_cI_sub_in {v c lo hi : Nat} (hc : c < 256) (hh : hi + c < 256) (hl : lo ≤ hi) : pu_inS (pu_cI v - nI c) (nI lo) (nI hi) = decide (lo + c ≤ v ∧ v ≤ hi + c) := by
  unfold pu_inS
  rw [Bool.eq_iff_iff, Bool.and_eq_true, decide_eq_true_iff, decide_eq_true_iff, decide_eq_true_iff, Int32.le_iff_toInt_le, Int32.le_iff_toInt_le, pu_nI_toInt (by omega), pu_nI_toInt (by omega), pu_cI_sub hc]
  split <;> omega
theorem pu_cI_n {v : Nat} (h : v < 256) : pu_cI v = nI v := if_pos h
theorem pu_bt_n {ty k : Nat} {b : Nat → Nat} (h : k < ty) : pu_bt ty b k = b k := if_pos h
theorem pu_bt_x {ty k : Nat} {b : Nat → Nat} (h : ty ≤ k) : pu_bt ty b k = 256 := if_neg (by omega)
/-- a kind by its letter: 0 none, k + 1 kind k -/
def pu_kdS (v : Nat) : Nat := if v = 112 then 1 else if v = 114 then 2 else if v = 116 then 3 else if v = 115 then 4 else 0
theorem pu_kd_le (v : Nat) : pu_kdS v ≤ 4 := by unfold pu_kdS; split <;> first | omega | (split <;> first | omega | (split <;> first | omega | (split <;> omega)))
theorem pu_kindBy_n (v : Nat) : mo_kindBy (pu_cI v) = some (pu_fI (pu_kdS v)) := by
  unfold mo_kindBy pu_kdS
  simp only [pu_lit]
  rw [pu_cI_ite (by omega), pu_cI_ite (by omega), pu_cI_ite (by omega), pu_cI_ite (by omega)]
  by_cases q1 : v = 112
  · rw [if_pos q1, if_pos q1]; rfl
  · rw [if_neg q1, if_neg q1]
    by_cases q2 : v = 114
    · rw [if_pos q2, if_pos q2]; rfl
    · rw [if_neg q2, if_neg q2]
      by_cases q3 : v = 116
      · rw [if_pos q3, if_pos q3]; rfl
      · rw [if_neg q3, if_neg q3]
        by_cases q4 : v = 115
        · rw [if_pos q4, if_pos q4]; rfl
        · rw [if_neg q4, if_neg q4]; rfl
theorem pu_kdOf_n (v : Nat) : kdOf (pu_cI v) = pu_fI (pu_kdS v) := by
  have h := pu_kindBy_n v
  have e : mo_kindBy (pu_cI v) = some (kdOf (pu_cI v)) := by
    unfold mo_kindBy kdOf
    repeat (split; · rfl)
    rfl
  exact Option.some.inj (e.symm.trans h)
theorem pu_fI_m1 {α : Sort _} {k : Nat} {i : Decidable (pu_fI k = -nI 1)} {x y : α} (hk : k < 1000) : @ite α (pu_fI k = -nI 1) i x y = if k = 0 then x else y := by
  cases k with
  | zero => rw [if_pos pu_fI_0, if_pos rfl]
  | succ k => rw [if_neg (by rw [pu_fI_s]; exact pu_nI_m1 (by omega)), if_neg (by omega)]
theorem pu_fI_0' {α : Sort _} {k : Nat} {i : Decidable (pu_fI k = nI 0)} {x y : α} (hk : k < 1000) : @ite α (pu_fI k = nI 0) i x y = if k = 1 then x else y := by
  by_cases q : k = 1
  · rw [if_pos (by rw [q]; rfl), if_pos q]
  · rw [if_neg (fun e => q ((pu_fI_eq hk (by omega)).mp e)), if_neg q]
/-- people, one after the other, none twice: c bytes are left -/
def pu_pplS (ty : Nat) (b : Nat → Nat) : Nat → Nat → Nat → Nat × Nat
  | 0, pos, who => (who, pos)
  | c + 1, pos, who => if 65 ≤ pu_bt ty b pos ∧ pu_bt ty b pos ≤ 72 ∧ who.testBit (pu_bt ty b pos - 65) = false then pu_pplS ty b c (pos + 1) (who ||| 2 ^ (pu_bt ty b pos - 65)) else (who, pos)
abbrev pu_D5 : Type := Nat × Nat × Nat × Nat × Nat
abbrev pu_D5.kind (x_ : pu_D5) : Nat := x_.1
abbrev pu_D5.place (x_ : pu_D5) : Nat := x_.2.1
abbrev pu_D5.wet (x_ : pu_D5) : Nat := x_.2.2.1
abbrev pu_D5.worth (x_ : pu_D5) : Nat := x_.2.2.2.1
abbrev pu_D5.who (x_ : pu_D5) : Nat := x_.2.2.2.2
/-- one deed of a text: the place of its fault, or the deed and the place behind it -/
def pu_dPart (ty : Nat) (b : Nat → Nat) (at_ : Nat) : Nat ⊕ (pu_D5 × Nat) :=
  if pu_kdS (pu_bt ty b at_) = 0 then .inl at_
  else if ¬ (48 ≤ pu_bt ty b (at_ + 1) ∧ pu_bt ty b (at_ + 1) ≤ 53) then .inl (at_ + 1)
  else if ¬ (pu_bt ty b (at_ + 2) = 114 ∨ pu_bt ty b (at_ + 2) = 100) then .inl (at_ + 2)
  else if ¬ (49 ≤ pu_bt ty b (at_ + 3) ∧ pu_bt ty b (at_ + 3) ≤ 57) then .inl (at_ + 3)
  else if (pu_pplS ty b (ty - (at_ + 4)) (at_ + 4) 0).1 = 0 then .inl (pu_pplS ty b (ty - (at_ + 4)) (at_ + 4) 0).2
  else .inr (⟨pu_kdS (pu_bt ty b at_) - 1, pu_bt ty b (at_ + 1) - 48, if pu_bt ty b (at_ + 2) = 114 then 1 else 0, pu_bt ty b (at_ + 3) - 48, (pu_pplS ty b (ty - (at_ + 4)) (at_ + 4) 0).1⟩, (pu_pplS ty b (ty - (at_ + 4)) (at_ + 4) 0).2)
abbrev pu_DR : Type := Nat × Nat × (Nat → pu_D5)
abbrev pu_DR.fault (x_ : pu_DR) : Nat := x_.1
abbrev pu_DR.n (x_ : pu_DR) : Nat := x_.2.1
abbrev pu_DR.g (x_ : pu_DR) : Nat → pu_D5 := x_.2.2
def pu_setG (g : Nat → pu_D5) (i : Nat) (d : pu_D5) : Nat → pu_D5 := fun j => if j = i then d else g j
/-- a text of deeds: m more may come -/
def pu_dRun (ty : Nat) (b : Nat → Nat) : Nat → Nat → (Nat → pu_D5) → pu_DR
  | 0, at_, g => ⟨at_ + 1, 0, g⟩
  | m + 1, at_, g => match pu_dPart ty b at_ with
    | .inl f => ⟨f + 1, 0, g⟩
    | .inr (d, pos) => if pos = ty then ⟨0, 8 - m, pu_setG g (7 - m) d⟩ else if pu_bt ty b pos ≠ 59 then ⟨pos + 1, 0, g⟩ else pu_dRun ty b m (pos + 1) (pu_setG g (7 - m) d)
def pu_dTop (ty : Nat) (b : Nat → Nat) : pu_DR := if ty = 0 then ⟨0, 0, fun _ => ⟨0, 0, 0, 0, 0⟩⟩ else pu_dRun ty b 8 0 (fun _ => ⟨0, 0, 0, 0, 0⟩)
theorem pu_pplS_P {ty : Nat} {b : Nat → Nat} : ∀ c pos who, c = ty - pos → pos ≤ ty → who < 256 → (pu_pplS ty b c pos who).1 < 256 ∧ pos ≤ (pu_pplS ty b c pos who).2 ∧ (pu_pplS ty b c pos who).2 ≤ ty ∧ ((pu_pplS ty b c pos who).2 = pos → (pu_pplS ty b c pos who).1 = who)
  | 0, pos, who, hc, hp, hw => ⟨hw, Nat.le_refl _, hp, fun _ => rfl⟩
  | c + 1, pos, who, hc, hp, hw => by
    unfold pu_pplS
    split
    · rename_i h
      have := pu_pplS_P (ty := ty) (b := b) c (pos + 1) (who ||| 2 ^ (pu_bt ty b pos - 65)) (by omega) (by omega) (pu_or_lt hw (by omega))
      exact ⟨this.1, by omega, this.2.2.1, fun e => by omega⟩
    · exact ⟨hw, Nat.le_refl _, hp, fun _ => rfl⟩
/-! PURE: the model reads its deeds -/
/-- the model's text -/
abbrev pu_MT (I : St) (q ty : Nat) (b : Nat → Nat) : Prop := I 0 q = nI ty ∧ ty ≤ 80 - 40 * q ∧ q < 2 ∧ (∀ k, k < ty → I 1 (80 * q + k) = nI (b k)) ∧ (∀ k, k < ty → b k < 256)
theorem pu_MT.t {I : St} {q ty : Nat} {b : Nat → Nat} (h_ : pu_MT I q ty b) : I 0 q = nI ty := h_.1
theorem pu_MT.le {I : St} {q ty : Nat} {b : Nat → Nat} (h_ : pu_MT I q ty b) : ty ≤ 80 - 40 * q := h_.2.1
theorem pu_MT.q2 {I : St} {q ty : Nat} {b : Nat → Nat} (h_ : pu_MT I q ty b) : q < 2 := h_.2.2.1
theorem pu_MT.by_ {I : St} {q ty : Nat} {b : Nat → Nat} (h_ : pu_MT I q ty b) : ∀ k, k < ty → I 1 (80 * q + k) = nI (b k) := h_.2.2.2.1
theorem pu_MT.lt {I : St} {q ty : Nat} {b : Nat → Nat} (h_ : pu_MT I q ty b) : ∀ k, k < ty → b k < 256 := h_.2.2.2.2
theorem pu_MT.fr {I J : St} {q ty : Nat} {b : Nat → Nat} (h : pu_MT I q ty b) (e0 : J 0 = I 0) (e1 : J 1 = I 1) : pu_MT J q ty b := ⟨by rw [e0]; exact h.t, h.le, h.q2, fun k hk => by rw [e1]; exact h.by_ k hk, h.lt⟩
theorem pu_MT.fr1 {I J : St} {q ty : Nat} {b : Nat → Nat} {bs : List Nat} (h : pu_MT I q ty b) (e : pu_Fr bs I J) (h0 : 0 ∉ bs) (h1 : 1 ∉ bs) : pu_MT J q ty b := h.fr (e 0 h0) (e 1 h1)
theorem pu_byteAt_n {I : St} {q ty k : Nat} {b : Nat → Nat} (h : pu_MT I q ty b) (hk : k < 1000) : mo_byteAt I (nI q) (nI k) = some (pu_cI (pu_bt ty b k)) := by
  have h1 := h.le
  have h2 := h.q2
  unfold mo_byteAt
  simp only [pu_lit]
  rw [pu_al_n h2 (by omega), h.t]
  by_cases z : k < ty
  · rw [pu_ile_f z (by omega), pu_nI_mul, pu_nI_add, pu_al_n (by omega) (by omega), h.by_ k z, pu_bt_n z, pu_cI_n (h.lt k z)]
  · rw [pu_ile_t (by omega) (by omega), pu_bt_x (by omega)]; rfl
theorem pu_nI_cI_sub {v c : Nat} (h1 : c ≤ v) (h2 : v < 256) : pu_cI v - nI c = nI (v - c) := by rw [pu_cI_n h2, pu_nI_sub h1]
theorem pu_ppl189 {I0 : St} {ty n : Nat} {b : Nat → Nat} (h : pu_MT I0 0 ty b) (hn : n < 9) (k9 : Int32 → Int32 → St → Option (Int32 × St)) : ∀ c f, c < f → ∀ pos who I, c = ty - pos → pos ≤ ty → who < 256 → pu_Fr [7] I0 I → (∀ i, i ≠ n → I 7 i = I0 7 i) → I 7 n = nI who →
    ∃ J, pu_Fr [7] I0 J ∧ (∀ i, i ≠ n → J 7 i = I0 7 i) ∧ J 7 n = nI (pu_pplS ty b c pos who).1 ∧ mo_readsDeeds_l189 k9 f (nI n) (nI pos) I =
      (if (pu_pplS ty b c pos who).1 = 0 then some (nI (pu_pplS ty b c pos who).2, J) else if (pu_pplS ty b c pos who).2 = ty then some (-nI 1, upd2 J 2 0 (nI (n + 1))) else if pu_bt ty b (pu_pplS ty b c pos who).2 = 59 then k9 (nI (n + 1)) (nI ((pu_pplS ty b c pos who).2 + 1)) J else some (nI (pu_pplS ty b c pos who).2, J)) := by
  intro c f hcf
  unfold mo_readsDeeds_l189
  have h80 := h.le
  refine pu_lp_dn (T := Int32 → Int32 → St → Option (Int32 × St)) (fun c t => ∀ pos who I, c = ty - pos → pos ≤ ty → who < 256 → pu_Fr [7] I0 I → (∀ i, i ≠ n → I 7 i = I0 7 i) → I 7 n = nI who →
    ∃ J, pu_Fr [7] I0 J ∧ (∀ i, i ≠ n → J 7 i = I0 7 i) ∧ J 7 n = nI (pu_pplS ty b c pos who).1 ∧ t (nI n) (nI pos) I =
      (if (pu_pplS ty b c pos who).1 = 0 then some (nI (pu_pplS ty b c pos who).2, J) else if (pu_pplS ty b c pos who).2 = ty then some (-nI 1, upd2 J 2 0 (nI (n + 1))) else if pu_bt ty b (pu_pplS ty b c pos who).2 = 59 then k9 (nI (n + 1)) (nI ((pu_pplS ty b c pos who).2 + 1)) J else some (nI (pu_pplS ty b c pos who).2, J))) ?_ f c hcf
  intro c t ih pos who I hc hp hw f1 f2 f3
  have hM := h.fr1 f1 (by simp) (by simp)
  have hb := pu_byteAt_n (k := pos) hM (by omega)
  have hlt : pu_bt ty b pos ≤ 256 := by
    unfold pu_bt
    split
    · have := h.lt pos (by assumption); omega
    · omega
  unfold mo_readsDeeds_b189
  simp only [pu_lit, pu_lt_s]
  rw [hb, pu_bd_s, pu_moin, pu_cI_in (by omega) (by omega), pu_bd_s, pu_bI0]
  simp (disch := omega) only [pu_al_n, pu_bd_s, f3, hM.t]
  by_cases q : 65 ≤ pu_bt ty b pos ∧ pu_bt ty b pos ≤ 72
  · have hpt : pos < ty := by
      by_cases z : pos < ty
      · exact z
      · rw [pu_bt_x (by omega)] at q; omega
    obtain ⟨c, rfl⟩ : ∃ d, c = d + 1 := ⟨c - 1, by omega⟩
    rw [if_pos (decide_eq_true q), pu_nI_cI_sub q.1 (by omega), pu_isIn_n (by omega) (by omega), pu_bd_s, pu_bI0]
    unfold pu_pplS
    by_cases z : who.testBit (pu_bt ty b pos - 65) = true
    · have hw0 : who ≠ 0 := by
        intro e
        rw [e, Nat.zero_testBit] at z
        cases z
      rw [if_pos z, if_neg (by rw [z]; simp)]
      refine ⟨I, f1, f2, f3, ?_⟩
      dsimp only
      rw [if_neg hw0, if_neg (by omega), if_neg (by omega)]
    · rw [if_neg z, if_pos ⟨q.1, q.2, Bool.eq_false_iff.mpr z⟩, pu_as_n hn (by omega), pu_nI_31 (by omega), pu_nI_one (by omega), pu_nI_or, pu_nI_add]
      exact ih c (by omega) (pos + 1) (who ||| 2 ^ (pu_bt ty b pos - 65)) _ (by omega) (by omega) (pu_or_lt hw (by omega)) (f1.upd (by simp)) (fun i hi => by rw [pu_upd2_ne _ _ _ hi]; exact f2 i hi) (pu_upd2_at _ _ _ _)
  · have e : pu_pplS ty b c pos who = (who, pos) := by
      cases c with
      | zero => rfl
      | succ c => unfold pu_pplS; rw [if_neg (fun z => q ⟨z.1, z.2.1⟩)]
    rw [e]
    refine ⟨I, f1, f2, f3, ?_⟩
    rw [if_neg (by rw [decide_eq_false q]; simp)]
    dsimp only
    by_cases z1 : who = 0
    · rw [pu_ieq_t z1, if_pos z1]
    · rw [pu_ieq_f z1 (by omega) (by omega), if_neg z1]
      by_cases z2 : pos = ty
      · rw [pu_ieq_t z2, if_pos z2, pu_nI_add]
      · rw [pu_ieq_f z2 (by omega) (by omega), if_neg z2, pu_cI_ite (by omega), pu_nI_add, pu_nI_add]
/-- deeds as the model holds them -/
def pu_MG (I : St) (g : Nat → pu_D5) (n : Nat) : Prop := ∀ i, i < n → I 3 i = nI (g i).kind ∧ I 4 i = nI (g i).place ∧ I 5 i = nI (g i).wet ∧ I 6 i = nI (g i).worth ∧ I 7 i = nI (g i).who
abbrev pu_dBk : List Nat := [2, 3, 4, 5, 6, 7]
theorem pu_pplS_ex {ty : Nat} {b : Nat → Nat} (at_ : Nat) (h : at_ + 4 ≤ ty) : (pu_pplS ty b (ty - (at_ + 4)) (at_ + 4) 0).2 ≤ ty ∧ at_ + 4 ≤ (pu_pplS ty b (ty - (at_ + 4)) (at_ + 4) 0).2 ∧ (pu_pplS ty b (ty - (at_ + 4)) (at_ + 4) 0).1 < 256 := by
  have := pu_pplS_P (ty := ty) (b := b) (ty - (at_ + 4)) (at_ + 4) 0 rfl h (by omega)
  exact ⟨this.2.2.1, this.2.1, this.1⟩
theorem pu_bt_lt {ty k v : Nat} {b : Nat → Nat} (h : pu_bt ty b k = v) (hv : v < 256) : k < ty := by
  by_cases z : k < ty
  · exact z
  · rw [pu_bt_x (by omega)] at h; omega
theorem pu_reads9 {ty : Nat} {b : Nat → Nat} : ∀ m f, m + 1 < f → ∀ at_ g I, pu_MT I 0 ty b → m ≤ 8 → at_ ≤ ty → 0 < ty → I 2 0 = nI 0 → pu_MG I g (8 - m) →
    ∃ J, pu_Fr pu_dBk I J ∧ J 2 0 = nI (pu_dRun ty b m at_ g).n ∧ pu_MG J (pu_dRun ty b m at_ g).g (pu_dRun ty b m at_ g).n ∧ mo_readsDeeds_l9 f (nI (8 - m)) (nI at_) I = some (pu_fI (pu_dRun ty b m at_ g).fault, J) := by
  intro m
  induction m with
  | zero =>
    intro f hf at_ g I hM _ hat hty h2 hG
    obtain ⟨f, rfl⟩ : ∃ k, f = k + 1 := ⟨f - 1, by omega⟩
    have h80 := hM.le
    refine ⟨I, pu_Fr.refl _ _, h2, (fun i hi => absurd hi (Nat.not_lt_zero _)), ?_⟩
    unfold mo_readsDeeds_l9 lp mo_readsDeeds_b9 mo_readsDeeds_b23
    simp only [pu_lit]
    rw [pu_al_n (by omega) (by omega), hM.t, if_pos trivial]
    show _ = some (pu_fI (at_ + 1), I)
    rw [pu_fI_s]
    by_cases z : at_ < ty
    · rw [pu_ilt_t z (by omega)]
    · rw [pu_ilt_f (by omega) (by omega), pu_ile_f (by omega) (by omega)]
  | succ m ih =>
    intro f hf at_ g I hM hm8 hat hty h2 hG
    obtain ⟨f, rfl⟩ : ∃ k, f = k + 1 := ⟨f - 1, by omega⟩
    have h80 := hM.le
    have e8 : 8 - (m + 1) = 7 - m := by omega
    rw [e8] at hG ⊢
    -- the loop's head
    have head : mo_readsDeeds_l9 (f + 1) (nI (7 - m)) (nI at_) I = mo_readsDeeds_b23 (mo_readsDeeds_l9 f) (nI (7 - m)) (nI at_) I := by
      show mo_readsDeeds_b9 _ _ _ _ = _
      unfold mo_readsDeeds_b9
      simp only [pu_lit]
      rw [pu_al_n (by omega) (by omega), hM.t]
      by_cases z : at_ < ty
      · rw [pu_ilt_t z (by omega)]
        rfl
      · rw [pu_ilt_f (by omega) (by omega), pu_ile_f (by omega) (by omega)]
        rfl
    rw [head]
    have hkd := pu_kd_le (pu_bt ty b at_)
    have b0 := pu_byteAt_n (k := at_) hM (by omega)
    have b1 := pu_byteAt_n (k := at_ + 1) hM (by omega)
    have b2 := pu_byteAt_n (k := at_ + 2) hM (by omega)
    have b3 := pu_byteAt_n (k := at_ + 3) hM (by omega)
    have flt : ∀ k, pu_dPart ty b at_ = .inl k → mo_readsDeeds_b23 (mo_readsDeeds_l9 f) (nI (7 - m)) (nI at_) I = some (nI k, I) → ∃ J, pu_Fr pu_dBk I J ∧ J 2 0 = nI (pu_dRun ty b (m + 1) at_ g).n ∧ pu_MG J (pu_dRun ty b (m + 1) at_ g).g (pu_dRun ty b (m + 1) at_ g).n ∧ mo_readsDeeds_b23 (mo_readsDeeds_l9 f) (nI (7 - m)) (nI at_) I = some (pu_fI (pu_dRun ty b (m + 1) at_ g).fault, J) := by
      intro k hk he
      have e : pu_dRun ty b (m + 1) at_ g = ⟨k + 1, 0, g⟩ := by unfold pu_dRun; rw [hk]
      rw [e]
      exact ⟨I, pu_Fr.refl _ _, h2, (fun i hi => absurd hi (Nat.not_lt_zero _)), by rw [pu_fI_s]; exact he⟩
    have hbody : mo_readsDeeds_b23 (mo_readsDeeds_l9 f) (nI (7 - m)) (nI at_) I = if pu_kdS (pu_bt ty b at_) = 0 then some (nI at_, I) else if ¬ (48 ≤ pu_bt ty b (at_ + 1) ∧ pu_bt ty b (at_ + 1) ≤ 53) then some (nI (at_ + 1), I) else if ¬ (pu_bt ty b (at_ + 2) = 114 ∨ pu_bt ty b (at_ + 2) = 100) then some (nI (at_ + 2), I) else mo_readsDeeds_b91 (mo_readsDeeds_l9 f) (nI (7 - m)) (nI at_) (pu_cI (pu_bt ty b (at_ + 2))) I := by
      conv => lhs; unfold mo_readsDeeds_b23
      simp only [pu_lit]
      rw [pu_ieq_f (by omega) (by omega) (by omega), b0, pu_bd_s, pu_kindBy_n, pu_bd_s, pu_fI_m1 (by omega), pu_nI_add, pu_nI_add, b1, pu_bd_s, pu_moin, pu_bd_s, pu_cI_in (by omega) (by omega), pu_bI0, b2, pu_bd_s, pu_cI_ite (by omega), pu_cI_ite (by omega)]
      by_cases q1 : pu_kdS (pu_bt ty b at_) = 0
      · rw [if_pos q1, if_pos q1]
      · rw [if_neg q1, if_neg q1]
        by_cases q2 : 48 ≤ pu_bt ty b (at_ + 1) ∧ pu_bt ty b (at_ + 1) ≤ 53
        · rw [if_pos (decide_eq_true q2), if_neg (not_not_intro q2)]
          by_cases q3 : pu_bt ty b (at_ + 2) = 114
          · rw [if_pos q3, if_neg (not_not_intro (Or.inl q3))]
          · rw [if_neg q3]
            by_cases q4 : pu_bt ty b (at_ + 2) = 100
            · rw [if_pos q4, if_neg (not_not_intro (Or.inr q4))]
            · rw [if_neg q4, if_pos (by omega)]
        · rw [if_neg (by rw [decide_eq_false q2]; simp), if_pos q2]
    by_cases q1 : pu_kdS (pu_bt ty b at_) = 0
    · rw [if_pos q1] at hbody
      exact flt at_ (by unfold pu_dPart; rw [if_pos q1]) hbody
    · rw [if_neg q1] at hbody
      have p0 : at_ < ty := by
        by_cases z : at_ < ty
        · exact z
        · exfalso; apply q1; rw [pu_bt_x (by omega)]; rfl
      by_cases q2 : 48 ≤ pu_bt ty b (at_ + 1) ∧ pu_bt ty b (at_ + 1) ≤ 53
      · rw [if_neg (not_not_intro q2)] at hbody
        have p1 : at_ + 1 < ty := pu_bt_lt (b := b) rfl (by omega)
        by_cases q3 : pu_bt ty b (at_ + 2) = 114 ∨ pu_bt ty b (at_ + 2) = 100
        · rw [if_neg (not_not_intro q3)] at hbody
          have p2 : at_ + 2 < ty := pu_bt_lt (b := b) rfl (by omega)
          by_cases q4 : 49 ≤ pu_bt ty b (at_ + 3) ∧ pu_bt ty b (at_ + 3) ≤ 57
          · have p3 : at_ + 3 < ty := pu_bt_lt (b := b) rfl (by omega)
            have hpp := pu_pplS_ex (ty := ty) (b := b) at_ (by omega)
            -- the state when its people are read
            let d0 : Nat := 7 - m
            have hd9 : 7 - m < 9 := by omega
            generalize hI4 : upd2 (upd2 (upd2 (upd2 (upd2 I 3 (7 - m) (pu_fI (pu_kdS (pu_bt ty b at_)))) 4 (7 - m) (nI (pu_bt ty b (at_ + 1) - 48))) 5 (7 - m) (nI (if pu_bt ty b (at_ + 2) = 114 then 1 else 0))) 6 (7 - m) (nI (pu_bt ty b (at_ + 3) - 48))) 7 (7 - m) (nI 0) = I4
            have F4 : pu_Fr pu_dBk I I4 := by rw [← hI4]; exact ((((pu_Fr.refl _ _).upd (by simp)).upd (by simp)).upd (by simp)).upd (by simp) |>.upd (by simp)
            have F4' : ∀ k x, 3 ≤ k → k ≤ 7 → x ≠ 7 - m → I4 k x = I k x := by
              intro k x h1 h2 hx
              rw [← hI4]
              rcases (show k = 3 ∨ k = 4 ∨ k = 5 ∨ k = 6 ∨ k = 7 by omega) with rfl | rfl | rfl | rfl | rfl <;> simp [upd2, upd, hx]
            have e91 : mo_readsDeeds_b91 (mo_readsDeeds_l9 f) (nI (7 - m)) (nI at_) (pu_cI (pu_bt ty b (at_ + 2))) I = mo_readsDeeds_l189 (mo_readsDeeds_l9 f) FU (nI (7 - m)) (nI (at_ + 4)) I4 := by
              unfold mo_readsDeeds_b91 mo_readsDeeds_b161
              simp only [pu_lit]
              have m1 : pu_MT (upd2 I 3 (7 - m) (pu_fI (pu_kdS (pu_bt ty b at_)))) 0 ty b := hM.fr1 ((pu_Fr.refl [3] I).upd (by simp)) (by simp) (by simp)
              rw [pu_nI_add, b3, pu_bd_s, pu_moin, pu_bd_s, pu_cI_in (by omega) (by omega), pu_bI0, if_pos (decide_eq_true q4), b0, pu_bd_s, pu_kindBy_n, pu_bd_s, pu_as_n hd9 (by omega), pu_nI_add, pu_byteAt_n m1 (by omega), pu_bd_s, pu_as_n hd9 (by omega), pu_nI_cI_sub q2.1 (by omega), pu_cI_ite (by omega)]
              have m2 : ∀ v, pu_MT (upd2 (upd2 (upd2 I 3 (7 - m) (pu_fI (pu_kdS (pu_bt ty b at_)))) 4 (7 - m) (nI (pu_bt ty b (at_ + 1) - 48))) 5 (7 - m) v) 0 ty b := fun v => hM.fr1 ((((pu_Fr.refl [3, 4, 5] I).upd (by simp)).upd (by simp)).upd (by simp)) (by simp) (by simp)
              rw [← hI4]
              by_cases z : pu_bt ty b (at_ + 2) = 114
              · rw [if_pos z, if_pos z, pu_as_n hd9 (by omega), pu_byteAt_n (m2 _) (by omega), pu_bd_s, pu_as_n hd9 (by omega), pu_nI_cI_sub (by omega) (by omega), pu_as_n hd9 (by omega), pu_nI_add]
              · rw [if_neg z, if_neg z, pu_as_n hd9 (by omega), pu_byteAt_n (m2 _) (by omega), pu_bd_s, pu_as_n hd9 (by omega), pu_nI_cI_sub (by omega) (by omega), pu_as_n hd9 (by omega), pu_nI_add]
            have M4 := hM.fr1 F4 (by simp) (by simp)
            have i7 : I4 7 (7 - m) = nI 0 := by rw [← hI4, pu_upd2_at]
            obtain ⟨J, j1, j2, j3, j4⟩ := pu_ppl189 M4 hd9 (mo_readsDeeds_l9 f) (ty - (at_ + 4)) FU (by rw [pu_FU_e]; omega) (at_ + 4) 0 I4 rfl (by omega) (by omega) (pu_Fr.refl _ _) (fun _ _ => rfl) i7
            have hb2 := hbody.trans (e91.trans j4)
            have FJ : pu_Fr pu_dBk I J := F4.trans (j1.mono (by simp))
            have J2 : J 2 0 = nI 0 := by rw [j1 2 (by simp), ← hI4, upd2_other _ _ _ (by decide), upd2_other _ _ _ (by decide), upd2_other _ _ _ (by decide), upd2_other _ _ _ (by decide), upd2_other _ _ _ (by decide)]; exact h2
            generalize hd : (⟨pu_kdS (pu_bt ty b at_) - 1, pu_bt ty b (at_ + 1) - 48, if pu_bt ty b (at_ + 2) = 114 then 1 else 0, pu_bt ty b (at_ + 3) - 48, (pu_pplS ty b (ty - (at_ + 4)) (at_ + 4) 0).1⟩ : pu_D5) = d
            have GJ : pu_MG J (pu_setG g (7 - m) d) (8 - m) := by
              intro i hi
              unfold pu_setG
              by_cases z : i = 7 - m
              · rw [z, if_pos rfl, ← hd]
                refine ⟨?_, ?_, ?_, ?_, j3⟩
                · rw [j1 3 (by simp), ← hI4, upd2_other _ _ _ (by decide), upd2_other _ _ _ (by decide), upd2_other _ _ _ (by decide), upd2_other _ _ _ (by decide), pu_upd2_at, ← pu_fI_s]
                  congr 1
                  show pu_kdS (pu_bt ty b at_) = pu_kdS (pu_bt ty b at_) - 1 + 1
                  omega
                · rw [j1 4 (by simp), ← hI4, upd2_other _ _ _ (by decide), upd2_other _ _ _ (by decide), upd2_other _ _ _ (by decide), pu_upd2_at]
                · rw [j1 5 (by simp), ← hI4, upd2_other _ _ _ (by decide), upd2_other _ _ _ (by decide), pu_upd2_at]
                · rw [j1 6 (by simp), ← hI4, upd2_other _ _ _ (by decide), pu_upd2_at]
              · rw [if_neg z]
                have := hG i (by omega)
                rw [j1 3 (by simp), j1 4 (by simp), j1 5 (by simp), j1 6 (by simp), j2 i z, F4' 3 i (by omega) (by omega) z, F4' 4 i (by omega) (by omega) z, F4' 5 i (by omega) (by omega) z, F4' 6 i (by omega) (by omega) z, F4' 7 i (by omega) (by omega) z]
                exact this
            by_cases q5 : (pu_pplS ty b (ty - (at_ + 4)) (at_ + 4) 0).1 = 0
            · rw [if_pos q5] at hb2
              have hp : pu_dPart ty b at_ = .inl (pu_pplS ty b (ty - (at_ + 4)) (at_ + 4) 0).2 := by
                unfold pu_dPart
                rw [if_neg q1, if_neg (not_not_intro q2), if_neg (not_not_intro q3), if_neg (not_not_intro q4), if_pos q5]
              have e : pu_dRun ty b (m + 1) at_ g = ⟨(pu_pplS ty b (ty - (at_ + 4)) (at_ + 4) 0).2 + 1, 0, g⟩ := by unfold pu_dRun; rw [hp]
              rw [e]
              exact ⟨J, FJ, J2, (fun i hi => absurd hi (Nat.not_lt_zero _)), by rw [pu_fI_s]; exact hb2⟩
            · rw [if_neg q5] at hb2
              have hp : pu_dPart ty b at_ = .inr (d, (pu_pplS ty b (ty - (at_ + 4)) (at_ + 4) 0).2) := by
                unfold pu_dPart
                rw [if_neg q1, if_neg (not_not_intro q2), if_neg (not_not_intro q3), if_neg (not_not_intro q4), if_neg q5, hd]
              have e : pu_dRun ty b (m + 1) at_ g = (if (pu_pplS ty b (ty - (at_ + 4)) (at_ + 4) 0).2 = ty then ⟨0, 8 - m, pu_setG g (7 - m) d⟩ else if pu_bt ty b (pu_pplS ty b (ty - (at_ + 4)) (at_ + 4) 0).2 ≠ 59 then ⟨(pu_pplS ty b (ty - (at_ + 4)) (at_ + 4) 0).2 + 1, 0, g⟩ else pu_dRun ty b m ((pu_pplS ty b (ty - (at_ + 4)) (at_ + 4) 0).2 + 1) (pu_setG g (7 - m) d)) := by
                conv => lhs; unfold pu_dRun
                rw [hp]
              rw [e]
              have e7 : 7 - m + 1 = 8 - m := by omega
              rw [e7] at hb2
              by_cases q6 : (pu_pplS ty b (ty - (at_ + 4)) (at_ + 4) 0).2 = ty
              · rw [if_pos q6] at hb2 ⊢
                exact ⟨_, FJ.upd (by simp), pu_upd2_at _ _ _ _, fun i hi => by
                  rw [upd2_other _ _ _ (by decide), upd2_other _ _ _ (by decide), upd2_other _ _ _ (by decide), upd2_other _ _ _ (by decide), upd2_other _ _ _ (by decide)]
                  exact GJ i hi, hb2⟩
              · rw [if_neg q6] at hb2 ⊢
                by_cases q7 : pu_bt ty b (pu_pplS ty b (ty - (at_ + 4)) (at_ + 4) 0).2 = 59
                · rw [if_pos q7] at hb2
                  rw [if_neg (not_not_intro q7)]
                  obtain ⟨J', a1, a2, a3, a4⟩ := ih f (by omega) ((pu_pplS ty b (ty - (at_ + 4)) (at_ + 4) 0).2 + 1) (pu_setG g (7 - m) d) J (hM.fr1 FJ (by simp) (by simp)) (by omega) (by omega) hty J2 GJ
                  exact ⟨J', FJ.trans a1, a2, a3, hb2.trans a4⟩
                · rw [if_neg q7] at hb2
                  rw [if_pos q7]
                  exact ⟨J, FJ, J2, (fun i hi => absurd hi (Nat.not_lt_zero _)), by rw [pu_fI_s]; exact hb2⟩
          · refine flt (at_ + 3) (by unfold pu_dPart; rw [if_neg q1, if_neg (not_not_intro q2), if_neg (not_not_intro q3), if_pos q4]) (hbody.trans ?_)
            unfold mo_readsDeeds_b91
            simp only [pu_lit]
            rw [pu_nI_add, b3, pu_bd_s, pu_moin, pu_bd_s, pu_cI_in (by omega) (by omega), pu_bI0, if_neg (by rw [decide_eq_false q4]; simp)]
        · rw [if_pos q3] at hbody
          exact flt (at_ + 2) (by unfold pu_dPart; rw [if_neg q1, if_neg (not_not_intro q2), if_pos q3]) hbody
      · rw [if_pos q2] at hbody
        exact flt (at_ + 1) (by unfold pu_dPart; rw [if_neg q1, if_pos q2]) hbody
theorem pu_readsDeeds_n {I : St} {ty : Nat} {b : Nat → Nat} (h : pu_MT I 0 ty b) : ∃ J, pu_Fr pu_dBk I J ∧ J 2 0 = nI (pu_dTop ty b).n ∧ pu_MG J (pu_dTop ty b).g (pu_dTop ty b).n ∧ mo_readsDeeds I = some (pu_fI (pu_dTop ty b).fault, J) := by
  have h80 := h.le
  have F : pu_Fr pu_dBk I (upd2 I 2 0 (nI 0)) := (pu_Fr.refl _ _).upd (by simp)
  have hM := h.fr1 F (by simp) (by simp)
  unfold mo_readsDeeds
  simp only [pu_lit, pu_lt_s]
  unfold pu_dTop
  by_cases z : ty = 0
  · rw [if_pos z]
    refine ⟨_, F, pu_upd2_at _ _ _ _, (fun i hi => absurd hi (Nat.not_lt_zero _)), ?_⟩
    rw [pu_FU_e]
    show mo_readsDeeds_b9 _ _ _ _ = _
    unfold mo_readsDeeds_b9
    simp only [pu_lit]
    rw [pu_al_n (by omega) (by omega), hM.t, pu_ilt_f (by omega) (by omega), if_pos (by rw [pu_nI_le (by omega) (by omega)]; omega)]
    rfl
  · rw [if_neg z]
    obtain ⟨J, a1, a2, a3, a4⟩ := pu_reads9 (ty := ty) (b := b) 8 FU (by decide) 0 (fun _ => ⟨0, 0, 0, 0, 0⟩) _ hM (by omega) (by omega) (by omega) (pu_upd2_at _ _ _ _) (fun i hi => by omega)
    exact ⟨J, F.trans a1, a2, a3, a4⟩
/-! PURE: the component reads its deeds -/
theorem pu_upd2_self (C : St) (k i : Nat) : upd2 C k i (C k i) = C := by
  funext a
  unfold upd2
  split
  · rename_i h
    subst h
    funext j
    unfold upd
    split
    · rename_i h2; rw [h2]
    · rfl
  · rfl
theorem pu_upd2_twice (C : St) (k i : Nat) (u v : Int32) : upd2 (upd2 C k i u) k i v = upd2 C k i v := by
  funext a
  unfold upd2
  split
  · rename_i h
    rw [if_pos rfl]
    funext j
    unfold upd
    split <;> rfl
  · rfl
/-- the component's text, and where it is read -/
abbrev pu_CT (C : St) (q ty : Nat) (b : Nat → Nat) (p : Nat) : Prop := C (40 + q) 1 = nI ty ∧ C (40 + q) 2 = nI p ∧ ty ≤ 80 - 40 * q ∧ q < 2 ∧ (∀ k, k < ty → C (42 + q) k = nI (b k)) ∧ (∀ k, k < ty → b k < 256)
theorem pu_CT.t {C : St} {q ty : Nat} {b : Nat → Nat} {p : Nat} (h_ : pu_CT C q ty b p) : C (40 + q) 1 = nI ty := h_.1
theorem pu_CT.p {C : St} {q ty : Nat} {b : Nat → Nat} {p : Nat} (h_ : pu_CT C q ty b p) : C (40 + q) 2 = nI p := h_.2.1
theorem pu_CT.le {C : St} {q ty : Nat} {b : Nat → Nat} {p : Nat} (h_ : pu_CT C q ty b p) : ty ≤ 80 - 40 * q := h_.2.2.1
theorem pu_CT.q2 {C : St} {q ty : Nat} {b : Nat → Nat} {p : Nat} (h_ : pu_CT C q ty b p) : q < 2 := h_.2.2.2.1
theorem pu_CT.by_ {C : St} {q ty : Nat} {b : Nat → Nat} {p : Nat} (h_ : pu_CT C q ty b p) : ∀ k, k < ty → C (42 + q) k = nI (b k) := h_.2.2.2.2.1
theorem pu_CT.lt {C : St} {q ty : Nat} {b : Nat → Nat} {p : Nat} (h_ : pu_CT C q ty b p) : ∀ k, k < ty → b k < 256 := h_.2.2.2.2.2
theorem pu_cBl_n {q : Nat} (h : q < 2) : cBl q = 80 - 40 * q := by
  unfold cBl
  rcases (show q = 0 ∨ q = 1 by omega) with rfl | rfl <;> rfl
theorem pu_CT.mv {C : St} {q ty p p' : Nat} {b : Nat → Nat} (h : pu_CT C q ty b p) : pu_CT (upd2 C (40 + q) 2 (nI p')) q ty b p' := ⟨by rw [pu_upd2_ne _ _ _ (by decide)]; exact h.t, pu_upd2_at _ _ _ _, h.le, h.q2, fun k hk => by rw [upd2_other _ _ _ (by omega)]; exact h.by_ k hk, h.lt⟩
theorem pu_CT.fr {C J : St} {q ty p : Nat} {b : Nat → Nat} (h : pu_CT C q ty b p) (e1 : J (40 + q) = C (40 + q)) (e2 : J (42 + q) = C (42 + q)) : pu_CT J q ty b p := ⟨by rw [e1]; exact h.t, by rw [e1]; exact h.p, h.le, h.q2, fun k hk => by rw [e2]; exact h.by_ k hk, h.lt⟩
theorem pu_here_n {C : St} {q ty p : Nat} {b : Nat → Nat} (h : pu_CT C q ty b p) (hp : p ≤ ty) : cfT_here C q = some (pu_cI (pu_bt ty b p)) := by
  have h1 := h.le
  have h2 := h.q2
  unfold cfT_here
  simp only [pu_lit]
  rw [pu_gd_t h2, h.t, h.p]
  by_cases z : p < ty
  · rw [pu_ile_f z (by omega), pu_cBl_n h2, pu_al_n (by omega) (by omega), h.by_ p z, pu_bt_n z, pu_cI_n (h.lt p z)]
  · rw [pu_ile_t (by omega) (by omega), pu_bt_x (by omega)]; rfl
theorem pu_passes_n {C : St} {q ty p x : Nat} {b : Nat → Nat} (h : pu_CT C q ty b p) (hp : p ≤ ty) (hx : x < 256) : cfT_passes q (nI x) C = some (pu_bI (decide (pu_bt ty b p = x)), upd2 C (40 + q) 2 (nI (p + if pu_bt ty b p = x then 1 else 0))) := by
  unfold cfT_passes cfT_passes_b13 cfT_passes_b28
  simp only [pu_lit, pu_lt_s]
  rw [pu_gd_t h.q2, pu_here_n h hp, pu_bd_s, pu_cI_ite hx]
  by_cases z : pu_bt ty b p = x
  · rw [if_pos z, if_pos z, decide_eq_true z, pu_gd_t h.q2, if_neg pu_n10, pu_gd_t h.q2, if_pos (show zb (nI 1) = true from pu_zb_b true), h.p, pu_nI_add]; rfl
  · rw [if_neg z, if_neg z, decide_eq_false z, pu_gd_t h.q2, if_pos trivial, pu_gd_t h.q2, if_pos (show zb (nI 0) = true from pu_zb_b false), h.p, pu_nI_add]; rfl
theorem pu_figure_n {C : St} {q ty p lo hi : Nat} {b : Nat → Nat} (h : pu_CT C q ty b p) (hp : p ≤ ty) (hh : hi ≤ 9) (hl : lo ≤ hi) :
    (cfT_figure q (nI lo) (nI hi) C = if lo + 48 ≤ pu_bt ty b p ∧ pu_bt ty b p ≤ hi + 48 then some (nI (pu_bt ty b p - 48), upd2 C (40 + q) 2 (nI (p + 1))) else none) ∧
    (cfT_figure_x q (nI lo) (nI hi) C = if lo + 48 ≤ pu_bt ty b p ∧ pu_bt ty b p ≤ hi + 48 then none else some (nI p, C)) := by
  unfold cfT_figure cfT_figure_x
  simp only [pu_lit, pu_lt_s]
  rw [pu_gd_t h.q2, pu_gd_t h.q2, pu_here_n h hp, pu_bd_s, pu_bd_s, pu_cfin, pu_bd_s, pu_bd_s, pu_cI_sub_in (by omega) (by omega) hl, pu_bI0, pu_bI0, h.p, pu_nI_add]
  by_cases z : lo + 48 ≤ pu_bt ty b p ∧ pu_bt ty b p ≤ hi + 48
  · rw [if_pos (decide_eq_true z), if_pos (decide_eq_true z), if_pos z, if_pos z, pu_nI_cI_sub (by omega) (by omega)]
    exact ⟨rfl, rfl⟩
  · rw [decide_eq_false z, if_neg z, if_neg z]
    exact ⟨rfl, rfl⟩
theorem pu_pplC {ty : Nat} {b : Nat → Nat} : ∀ c f, c < f → ∀ pos who C, pu_CT C 0 ty b pos → c = ty - pos → pos ≤ ty → who < 256 → cfD_lp f (nI who) C = some (nI (pu_pplS ty b c pos who).1, upd2 C 40 2 (nI (pu_pplS ty b c pos who).2)) := by
  intro c
  induction c with
  | zero =>
    intro f hf pos who C h hc hp hw
    obtain ⟨f, rfl⟩ : ∃ k, f = k + 1 := ⟨f - 1, by omega⟩
    unfold cfD_lp pu_pplS
    have h65 : (65 : Int32) = nI 65 := pu_lit 65
    rw [pu_here_n h hp, pu_bd_s, h65, pu_isPerson_n, pu_bd_s, pu_cI_sub_in (by omega) (by omega) (by omega), pu_bt_x (by omega), show (0 : Int32) = nI 0 from rfl, pu_bI0, if_neg (by decide), ← h.p, pu_upd2_self]
  | succ c ih =>
    intro f hf pos who C h hc hp hw
    obtain ⟨f, rfl⟩ : ∃ k, f = k + 1 := ⟨f - 1, by omega⟩
    unfold cfD_lp pu_pplS
    have h65 : (65 : Int32) = nI 65 := pu_lit 65
    have hlt : pu_bt ty b pos ≤ 255 := by rw [pu_bt_n (by omega)]; have := h.lt pos (by omega); omega
    rw [pu_here_n h hp, pu_bd_s, h65, pu_isPerson_n, pu_bd_s, pu_cI_sub_in (by omega) (by omega) (by omega), show (0 : Int32) = nI 0 from rfl, pu_bI0]
    by_cases q : 65 ≤ pu_bt ty b pos ∧ pu_bt ty b pos ≤ 72
    · rw [if_pos (decide_eq_true (by omega)), pu_nI_cI_sub q.1 (by omega), pu_isInC_n (by omega) (by omega), pu_bd_s, pu_bI0]
      by_cases z : who.testBit (pu_bt ty b pos - 65) = true
      · rw [if_pos z, if_neg (by rw [z]; simp), ← h.p]
        show _ = some (nI who, upd2 C 40 2 (C 40 2))
        rw [pu_upd2_self]
      · rw [if_neg z, if_pos ⟨q.1, q.2, Bool.eq_false_iff.mpr z⟩, pu_cI_n (by omega), pu_passes_n h hp (by omega), pu_bd2_s, if_pos rfl, show (31 : Int32) = nI 31 from rfl, pu_nI_31 (by omega), show (1 : Int32) = nI 1 from rfl, pu_nI_one (by omega), pu_nI_or]
        have := ih f (by omega) (pos + 1) (who ||| 2 ^ (pu_bt ty b pos - 65)) _ h.mv (by omega) (by omega) (pu_or_lt hw (by omega))
        rw [this]
        show some (_, upd2 (upd2 C 40 2 _) 40 2 _) = _
        rw [pu_upd2_twice]
    · rw [if_neg (by rw [decide_eq_false (by omega)]; simp), if_neg (fun z => q ⟨z.1, z.2.1⟩), ← h.p]
      show _ = some (nI who, upd2 C 40 2 (C 40 2))
      rw [pu_upd2_self]
/-- deeds as the component holds them -/
def pu_CG (C : St) (g : Nat → pu_D5) (n : Nat) : Prop := C 50 2 = nI n ∧ ∀ i, i < n → C (100 + i) 0 = nI (g i).kind ∧ C (100 + i) 1 = nI (g i).place ∧ C (100 + i) 2 = nI (g i).wet ∧ C (100 + i) 3 = nI (g i).worth ∧ C (100 + i) 4 = nI (g i).who
def pu_F0 (C J : St) : Prop := (∀ a, a ≠ 40 → a ≠ 50 → (a < 100 ∨ 110 ≤ a) → J a = C a) ∧ ∀ k, k ≠ 2 → J 40 k = C 40 k
theorem pu_F0.refl (C : St) : pu_F0 C C := ⟨fun _ _ _ _ => rfl, fun _ _ => rfl⟩
theorem pu_F0.trans {C J K : St} (h : pu_F0 C J) (g : pu_F0 J K) : pu_F0 C K := ⟨fun a h1 h2 h3 => (g.1 a h1 h2 h3).trans (h.1 a h1 h2 h3), fun k hk => (g.2 k hk).trans (h.2 k hk)⟩
theorem pu_F0.at_ {C J : St} {v : Int32} (h : pu_F0 C J) : pu_F0 C (upd2 J 40 2 v) := ⟨fun a h1 h2 h3 => by rw [upd2_other _ _ _ h1]; exact h.1 a h1 h2 h3, fun k hk => by rw [pu_upd2_ne _ _ _ hk]; exact h.2 k hk⟩
theorem pu_F0.l {C J : St} {i : Nat} {v : Int32} (h : pu_F0 C J) : pu_F0 C (upd2 J 50 i v) := ⟨fun a h1 h2 h3 => by rw [upd2_other _ _ _ h2]; exact h.1 a h1 h2 h3, fun k hk => by rw [upd2_other _ _ _ (by decide)]; exact h.2 k hk⟩
theorem pu_F0.d {C J : St} {i : Nat} {f : Nat → Int32} (h : pu_F0 C J) (hi : i < 10) : pu_F0 C (up1 J (100 + i) f) := ⟨fun a h1 h2 h3 => by rw [up1_other _ _ (by omega)]; exact h.1 a h1 h2 h3, fun k hk => by rw [up1_other _ _ (by omega)]; exact h.2 k hk⟩
theorem pu_CG.mv {C : St} {g : Nat → pu_D5} {n : Nat} {v : Int32} (h : pu_CG C g n) : pu_CG (upd2 C 40 2 v) g n := ⟨by rw [upd2_other _ _ _ (by decide)]; exact h.1, fun i hi => by rw [upd2_other _ _ _ (by omega)]; exact h.2 i hi⟩
theorem pu_CG.nn {C : St} {g : Nat → pu_D5} {n : Nat} (h : pu_CG C g n) (hn : n < 1000) : cNn C 0 = n := by
  unfold cNn
  rw [show 50 + 0 = 50 from rfl, h.1, pu_nI_clamp (by omega)]
theorem pu_add_n {C : St} {g : Nat → pu_D5} {n ty p : Nat} {b : Nat → Nat} (h : pu_CG C g n) (hT : pu_CT C 0 ty b p) (hn : n < 10) (d : pu_D5) {f : Nat → Int32} (hf : f 0 = nI d.kind ∧ f 1 = nI d.place ∧ f 2 = nI d.wet ∧ f 3 = nI d.worth ∧ f 4 = nI d.who) : pu_CG (addC C 0 f) (pu_setG g n d) (n + 1) ∧ pu_F0 C (addC C 0 f) ∧ pu_CT (addC C 0 f) 0 ty b p := by
  unfold addC
  rw [h.nn (by omega)]
  refine ⟨⟨pu_upd2_at _ _ _ _, fun i hi => ?_⟩, ((((pu_F0.refl C).d hn).l).l), ?_⟩
  · rw [upd2_other _ _ _ (by omega), upd2_other _ _ _ (by omega)]
    unfold pu_setG
    by_cases z : i = n
    · subst z
      rw [if_pos rfl, up1_same]
      exact hf
    · rw [if_neg z, up1_other _ _ (by omega)]
      exact h.2 i (by omega)
  · refine hT.fr ?_ ?_
    · rw [upd2_other _ _ _ (by omega), upd2_other _ _ _ (by omega), up1_other _ _ (by omega)]
    · rw [upd2_other _ _ _ (by omega), upd2_other _ _ _ (by omega), up1_other _ _ (by omega)]
theorem pu_clear_n {C : St} {pl : Int32} {g : Nat → pu_D5} : ∃ J, pu_F0 C J ∧ pu_CG J g 0 ∧ cfT_fin 0 pl C = some (pl, J) := by
  refine ⟨clr C 0, ((pu_F0.refl C).l).l, ⟨by unfold clr; exact pu_upd2_at _ _ _ _, fun i hi => absurd hi (Nat.not_lt_zero _)⟩, ?_⟩
  unfold cfT_fin cfT_cl cfD_clears cfL_clear
  rw [if_pos rfl, if_pos (by omega), pu_bd_s, pu_bd_s]
theorem pu_dfinC {ty at_ n k pl : Nat} {b : Nat → Nat} {C : St} {g : Nat → pu_D5} {r : Bool} (hT : pu_CT C 0 ty b (at_ + 3)) (hG : pu_CG C g n) (hn : n < 8) (ha : at_ + 3 ≤ ty) :
    (cfD_finx C = if ¬ (49 ≤ pu_bt ty b (at_ + 3) ∧ pu_bt ty b (at_ + 3) ≤ 57) then some (nI (at_ + 3), C) else if (pu_pplS ty b (ty - (at_ + 4)) (at_ + 4) 0).1 = 0 then some (nI (pu_pplS ty b (ty - (at_ + 4)) (at_ + 4) 0).2, upd2 C 40 2 (nI (pu_pplS ty b (ty - (at_ + 4)) (at_ + 4) 0).2)) else none) ∧
    ((49 ≤ pu_bt ty b (at_ + 3) ∧ pu_bt ty b (at_ + 3) ≤ 57) → (pu_pplS ty b (ty - (at_ + 4)) (at_ + 4) 0).1 ≠ 0 → ∃ J, pu_F0 C J ∧ pu_CT J 0 ty b (pu_pplS ty b (ty - (at_ + 4)) (at_ + 4) 0).2 ∧ pu_CG J (pu_setG g n ⟨k, pl, if r = true then 1 else 0, pu_bt ty b (at_ + 3) - 48, (pu_pplS ty b (ty - (at_ + 4)) (at_ + 4) 0).1⟩) (n + 1) ∧ cfD_fin (nI k) (nI pl) (pu_bI r) C = some J) := by
  have h80 := hT.le
  have f1 := pu_figure_n (lo := 1) (hi := 9) hT (by omega) (by omega) (by omega)
  have e1 : (1 : Int32) = nI 1 := rfl
  have e9 : (9 : Int32) = nI 9 := rfl
  have e0 : (0 : Int32) = nI 0 := rfl
  unfold cfD_finx cfD_fin
  rw [e1, e9, f1.1, f1.2, e0]
  by_cases q : 49 ≤ pu_bt ty b (at_ + 3) ∧ pu_bt ty b (at_ + 3) ≤ 57
  · have p3 : at_ + 3 < ty := pu_bt_lt (b := b) rfl (by omega)
    have T4 : pu_CT (upd2 C 40 2 (nI (at_ + 4))) 0 ty b (at_ + 4) := hT.mv
    have pp := pu_pplC (ty - (at_ + 4)) FU (by rw [pu_FU_e]; omega) (at_ + 4) 0 _ T4 rfl (by omega) (by omega)
    have hb := pu_pplS_ex (ty := ty) (b := b) at_ (by omega)
    rw [pu_upd2_twice] at pp
    rw [if_pos (by omega), if_pos (by omega), if_neg (not_not_intro q), pu_bd2_s, pu_bd2_s]
    have pp' : cfD_lp FU (nI 0) (upd2 C (40 + 0) 2 (nI (at_ + 3 + 1))) = some (nI (pu_pplS ty b (ty - (at_ + 4)) (at_ + 4) 0).1, upd2 C 40 2 (nI (pu_pplS ty b (ty - (at_ + 4)) (at_ + 4) 0).2)) := pp
    rw [pp', pu_bd2_s, pu_bd2_s]
    generalize pu_pplS ty b (ty - (at_ + 4)) (at_ + 4) 0 = P at hb
    refine ⟨?_, fun _ hne => ?_⟩
    · show (if nI P.1 = nI 0 then some (upd2 C 40 2 (nI P.2) 40 2, upd2 C 40 2 (nI P.2)) else none) = _
      rw [pu_upd2_at]
      by_cases z : P.1 = 0
      · rw [pu_ieq_t z, if_pos z]
      · rw [pu_ieq_f z (by omega) (by omega), if_neg z]
    · have T5 : pu_CT (upd2 C 40 2 (nI P.2)) 0 ty b P.2 := hT.mv
      have G5 : pu_CG (upd2 C 40 2 (nI P.2)) g n := hG.mv
      have A := pu_add_n (f := ldG (nI k) (nI pl) (if pu_bI r = nI 0 then nI 0 else nI 1) (nI (pu_bt ty b (at_ + 3) - 48)) (nI P.1)) G5 T5 (by omega) ⟨k, pl, if r = true then 1 else 0, pu_bt ty b (at_ + 3) - 48, P.1⟩ ⟨rfl, rfl, by cases r <;> rfl, rfl, rfl⟩
      refine ⟨_, ((pu_F0.refl C).at_).trans A.2.1, A.2.2, A.1, ?_⟩
      rw [pu_ieq_f hne (by omega) (by omega), pu_gd_t (by rw [G5.nn (by omega)]; omega)]
  · rw [if_neg (by omega), if_pos q]
    exact ⟨rfl, fun z => absurd z q⟩
theorem pu_dpartC {ty at_ n : Nat} {b : Nat → Nat} {C : St} {g : Nat → pu_D5} (hT : pu_CT C 0 ty b (at_ + 1)) (hG : pu_CG C g n) (hn : n < 8) (ha : at_ < ty) (hk : pu_kdS (pu_bt ty b at_) ≠ 0) :
    match pu_dPart ty b at_ with
    | .inl f => ∃ J, pu_F0 C J ∧ cfD_part_x C = some (nI f, J)
    | .inr (d, pos) => cfD_part_x C = none ∧ ∃ J, pu_F0 C J ∧ pu_CT J 0 ty b pos ∧ pu_CG J (pu_setG g n d) (n + 1) ∧ cfD_part (pu_fI (pu_kdS (pu_bt ty b at_))) C = some J := by
  have h80 := hT.le
  have f1 := pu_figure_n (lo := 0) (hi := 5) hT (by omega) (by omega) (by omega)
  have e5 : (5 : Int32) = nI 5 := rfl
  have e0 : (0 : Int32) = nI 0 := rfl
  have ek : pu_fI (pu_kdS (pu_bt ty b at_)) = nI (pu_kdS (pu_bt ty b at_) - 1) := by
    rw [← pu_fI_s]
    congr 1
    omega
  unfold pu_dPart
  rw [if_neg hk]
  unfold cfD_part_x cfD_part
  rw [e0, e5, f1.1, f1.2]
  by_cases q2 : 48 ≤ pu_bt ty b (at_ + 1) ∧ pu_bt ty b (at_ + 1) ≤ 53
  · have p1 : at_ + 1 < ty := pu_bt_lt (b := b) rfl (by omega)
    have c1 : 0 + 48 ≤ pu_bt ty b (at_ + 1) ∧ pu_bt ty b (at_ + 1) ≤ 5 + 48 := by omega
    rw [if_neg (not_not_intro q2), if_pos c1, if_pos c1, pu_bd2_s, pu_bd2_s]
    have T2 : pu_CT (upd2 C 40 2 (nI (at_ + 2))) 0 ty b (at_ + 2) := hT.mv
    have e114 : cfT_passes 0 114 (upd2 C (40 + 0) 2 (nI (at_ + 1 + 1))) = _ := pu_passes_n (x := 114) T2 (by omega) (by omega)
    rw [show upd2 (upd2 C 40 2 (nI (at_ + 2))) (40 + 0) 2 (nI (at_ + 2 + if pu_bt ty b (at_ + 2) = 114 then 1 else 0)) = upd2 C 40 2 (nI (at_ + 2 + if pu_bt ty b (at_ + 2) = 114 then 1 else 0)) from pu_upd2_twice _ _ _ _ _] at e114
    rw [e114, pu_bd2_s, pu_bd2_s, pu_bI0, pu_bI0]
    -- what comes after the weather
    have fin : ∀ (r : Bool), (if r = true then 1 else 0) = (if pu_bt ty b (at_ + 2) = 114 then 1 else 0) → (pu_bt ty b (at_ + 2) = 114 ∨ pu_bt ty b (at_ + 2) = 100) → 
        match (if ¬ (49 ≤ pu_bt ty b (at_ + 3) ∧ pu_bt ty b (at_ + 3) ≤ 57) then .inl (at_ + 3) else if (pu_pplS ty b (ty - (at_ + 4)) (at_ + 4) 0).1 = 0 then .inl (pu_pplS ty b (ty - (at_ + 4)) (at_ + 4) 0).2 else .inr (⟨pu_kdS (pu_bt ty b at_) - 1, pu_bt ty b (at_ + 1) - 48, if pu_bt ty b (at_ + 2) = 114 then 1 else 0, pu_bt ty b (at_ + 3) - 48, (pu_pplS ty b (ty - (at_ + 4)) (at_ + 4) 0).1⟩, (pu_pplS ty b (ty - (at_ + 4)) (at_ + 4) 0).2) : Nat ⊕ (pu_D5 × Nat)) with
        | .inl f => ∃ J, pu_F0 C J ∧ cfD_finx (upd2 C 40 2 (nI (at_ + 3))) = some (nI f, J)
        | .inr (d, pos) => cfD_finx (upd2 C 40 2 (nI (at_ + 3))) = none ∧ ∃ J, pu_F0 C J ∧ pu_CT J 0 ty b pos ∧ pu_CG J (pu_setG g n d) (n + 1) ∧ cfD_fin (nI (pu_kdS (pu_bt ty b at_) - 1)) (nI (pu_bt ty b (at_ + 1) - 48)) (pu_bI r) (upd2 C 40 2 (nI (at_ + 3))) = some J := by
      intro r hr h2
      have p2 : at_ + 2 < ty := pu_bt_lt (b := b) rfl (by omega)
      have T3 : pu_CT (upd2 C 40 2 (nI (at_ + 3))) 0 ty b (at_ + 3) := hT.mv
      have D := pu_dfinC (k := pu_kdS (pu_bt ty b at_) - 1) (pl := pu_bt ty b (at_ + 1) - 48) (r := r) T3 (hG.mv (v := nI (at_ + 3))) hn (by omega)
      rw [hr] at D
      by_cases q4 : 49 ≤ pu_bt ty b (at_ + 3) ∧ pu_bt ty b (at_ + 3) ≤ 57
      · rw [if_neg (not_not_intro q4)]
        rw [if_neg (not_not_intro q4)] at D
        by_cases q5 : (pu_pplS ty b (ty - (at_ + 4)) (at_ + 4) 0).1 = 0
        · rw [if_pos q5]
          rw [if_pos q5] at D
          exact ⟨_, ((pu_F0.refl C).at_).at_, D.1⟩
        · rw [if_neg q5]
          rw [if_neg q5] at D
          obtain ⟨J, a1, a2, a3, a4⟩ := D.2 q4 q5
          exact ⟨D.1, J, ((pu_F0.refl C).at_).trans a1, a2, a3, a4⟩
      · rw [if_pos q4]
        rw [if_pos q4] at D
        exact ⟨_, (pu_F0.refl C).at_, D.1⟩
    by_cases q3 : pu_bt ty b (at_ + 2) = 114
    · rw [if_neg (not_not_intro (Or.inl q3)), decide_eq_true q3]
      simp only [if_pos q3, if_true, ek]
      have := fin true (by rw [if_pos q3]; rfl) (Or.inl q3)
      rw [if_pos q3] at this
      exact this
    · rw [decide_eq_false q3]
      simp only [if_neg q3, Nat.add_zero]
      have e100 : cfT_passes 0 100 (upd2 C 40 2 (nI (at_ + 2))) = _ := pu_passes_n (x := 100) T2 (by omega) (by omega)
      rw [show upd2 (upd2 C 40 2 (nI (at_ + 2))) (40 + 0) 2 (nI (at_ + 2 + if pu_bt ty b (at_ + 2) = 100 then 1 else 0)) = upd2 C 40 2 (nI (at_ + 2 + if pu_bt ty b (at_ + 2) = 100 then 1 else 0)) from pu_upd2_twice _ _ _ _ _] at e100
      rw [e100, pu_bd2_s, pu_bd2_s, pu_bI0, pu_bI0]
      by_cases q4 : pu_bt ty b (at_ + 2) = 100
      · rw [if_neg (not_not_intro (Or.inr q4)), decide_eq_true q4]
        simp only [if_pos q4, if_true, ek]
        have := fin false (by rw [if_neg q3]; rfl) (Or.inr q4)
        rw [if_neg q3] at this
        exact this
      · rw [if_pos (by omega), decide_eq_false q4]
        simp only [if_neg q4, Nat.add_zero]
        refine ⟨upd2 C 40 2 (nI (at_ + 2)), (pu_F0.refl C).at_, ?_⟩
        show some (upd2 C 40 2 (nI (at_ + 2)) 40 2, _) = _
        rw [pu_upd2_at]
  · have c1 : ¬ (0 + 48 ≤ pu_bt ty b (at_ + 1) ∧ pu_bt ty b (at_ + 1) ≤ 5 + 48) := by omega
    rw [if_pos q2, if_neg c1]
    exact ⟨C, pu_F0.refl C, rfl⟩
/-! PURE: the component reads its deeds, the loop -/
theorem pu_dRun_le {ty : Nat} {b : Nat → Nat} : ∀ m at_ g, m ≤ 8 → (pu_dRun ty b m at_ g).n ≤ 8
  | 0, at_, g, _ => by unfold pu_dRun; exact Nat.zero_le _
  | m + 1, at_, g, hm => by
    unfold pu_dRun
    split
    · exact Nat.zero_le _
    · split
      · show 8 - m ≤ 8; omega
      · split
        · exact Nat.zero_le _
        · exact pu_dRun_le m _ _ (by omega)
theorem pu_nx_n {ty : Nat} {b : Nat → Nat} : ∀ m f, m ≤ f → ∀ at_ g C, pu_CT C 0 ty b at_ → m ≤ 8 → at_ ≤ ty → pu_CG C g (8 - m) →
    ∃ J, pu_F0 C J ∧ pu_CG J (pu_dRun ty b m at_ g).g (pu_dRun ty b m at_ g).n ∧ cfT_nxo 0 C (cfT_rl 0 f) = some (pu_fI (pu_dRun ty b m at_ g).fault, J) := by
  intro m
  induction m with
  | zero =>
    intro f hf at_ g C hT _ hat hG
    have h80 := hT.le
    obtain ⟨J, j1, j2, j3⟩ := pu_clear_n (C := C) (pl := nI at_) (g := g)
    refine ⟨J, j1, j2, ?_⟩
    have e : cfT_nxx 0 C = some (nI at_, C) := by
      unfold cfT_nxx cfT_hr cfD_hasRoom cfL_size
      simp only [pu_lit]
      rw [pu_gd_t (by omega), pu_here_n hT hat, pu_bd_s, pu_kdOf_n, pu_fI_m1 (by have := pu_kd_le (pu_bt ty b at_); omega), if_pos trivial, pu_gd_t (by omega), pu_bd_s, show C (50 + 0) 2 = nI 8 from hG.1, pu_ile_t (by omega) (by omega), pu_bd_s, if_pos rfl, show C (40 + 0) 2 = nI at_ from hT.p]
      split <;> rfl
    unfold cfT_nxo
    rw [e, pu_bd2_s, j3]
    show _ = some (pu_fI (at_ + 1), J)
    rw [pu_fI_s]
    rfl
  | succ m ih =>
    intro f hf at_ g C hT hm8 hat hG
    have h80 := hT.le
    have e8 : 8 - (m + 1) = 7 - m := by omega
    rw [e8] at hG
    have hkd := pu_kd_le (pu_bt ty b at_)
    have flt : ∀ k J', pu_F0 C J' → (pu_dRun ty b (m + 1) at_ g) = ⟨k + 1, 0, g⟩ → cfT_nxx 0 C = some (nI k, J') → ∃ J, pu_F0 C J ∧ pu_CG J (pu_dRun ty b (m + 1) at_ g).g (pu_dRun ty b (m + 1) at_ g).n ∧ cfT_nxo 0 C (cfT_rl 0 f) = some (pu_fI (pu_dRun ty b (m + 1) at_ g).fault, J) := by
      intro k J' hF hd hx
      obtain ⟨J, j1, j2, j3⟩ := pu_clear_n (C := J') (pl := nI k) (g := g)
      rw [hd]
      refine ⟨J, hF.trans j1, j2, ?_⟩
      unfold cfT_nxo
      rw [hx, pu_bd2_s, j3, pu_fI_s]
      rfl
    -- the loop, when a deed has been read
    have rl : ∀ pos g' C', pu_CT C' 0 ty b pos → pos ≤ ty → pu_CG C' g' (8 - m) → ∃ J, pu_F0 C' J ∧ pu_CG J (pu_DR.g (if pos = ty then (⟨0, 8 - m, g'⟩ : pu_DR) else if pu_bt ty b pos ≠ 59 then ⟨pos + 1, 0, g'⟩ else pu_dRun ty b m (pos + 1) g')) (pu_DR.n (if pos = ty then (⟨0, 8 - m, g'⟩ : pu_DR) else if pu_bt ty b pos ≠ 59 then ⟨pos + 1, 0, g'⟩ else pu_dRun ty b m (pos + 1) g')) ∧ cfT_rl 0 f C' = some (pu_fI (pu_DR.fault (if pos = ty then (⟨0, 8 - m, g'⟩ : pu_DR) else if pu_bt ty b pos ≠ 59 then ⟨pos + 1, 0, g'⟩ else pu_dRun ty b m (pos + 1) g')), J) := by
      intro pos g' C' hT' hp hG'
      obtain ⟨f, rfl⟩ : ∃ k, f = k + 1 := ⟨f - 1, by omega⟩
      unfold cfT_rl
      simp only [pu_lit]
      rw [show C' (40 + 0) 1 = nI ty from hT'.t, show C' (40 + 0) 2 = nI pos from hT'.p]
      by_cases q1 : pos = ty
      · rw [pu_ile_t (by omega) (by omega), if_pos q1]
        exact ⟨C', pu_F0.refl _, hG', rfl⟩
      · have hps := pu_passes_n (x := 59) hT' hp (by omega)
        rw [pu_ile_f (by omega) (by omega), if_neg q1, hps, pu_bd2_s, pu_bI0]
        by_cases q2 : pu_bt ty b pos = 59
        · rw [if_neg (not_not_intro q2), if_pos (decide_eq_true q2), if_pos q2]
          obtain ⟨J, a1, a2, a3⟩ := ih f (by omega) (pos + 1) g' (upd2 C' (40 + 0) 2 (nI (pos + 1))) hT'.mv (by omega) (by omega) hG'.mv
          exact ⟨J, ((pu_F0.refl C').at_).trans a1, a2, a3⟩
        · rw [if_pos q2, if_neg (by rw [decide_eq_false q2]; simp), if_neg q2]
          obtain ⟨J, j1, j2, j3⟩ := pu_clear_n (C := upd2 C' 40 2 (nI (pos + 0))) (pl := nI pos) (g := g')
          refine ⟨J, ((pu_F0.refl C').at_).trans j1, j2, ?_⟩
          show cfT_fin 0 (upd2 C' 40 2 (nI (pos + 0)) 40 2) _ = _
          rw [pu_upd2_at, Nat.add_zero, pu_fI_s]
          exact j3
    have hx0 : cfT_nxx 0 C = if pu_kdS (pu_bt ty b at_) = 0 then some (nI at_, C) else cfD_part_x (upd2 C 40 2 (nI (at_ + 1))) := by
      unfold cfT_nxx cfT_hr cfD_hasRoom cfL_size cfT_ptx
      simp only [pu_lit, pu_lt_s]
      rw [pu_gd_t (by omega), pu_here_n hT hat, pu_bd_s, pu_kdOf_n, pu_fI_m1 (by omega), if_pos trivial, pu_gd_t (by omega), pu_bd_s, show C (50 + 0) 2 = nI (7 - m) from hG.1, pu_ile_f (by omega) (by omega), pu_bd_s, if_neg pu_n10, show C (40 + 0) 2 = nI at_ from hT.p, pu_nI_add, if_pos trivial]
    have hn0 : pu_kdS (pu_bt ty b at_) ≠ 0 → cfT_nx 0 C = cfD_part (pu_fI (pu_kdS (pu_bt ty b at_))) (upd2 C 40 2 (nI (at_ + 1))) := by
      intro hk
      unfold cfT_nx cfT_hr cfD_hasRoom cfL_size cfT_pt
      simp only [pu_lit, pu_lt_s]
      rw [pu_gd_t (by omega), pu_here_n hT hat, pu_bd_s, pu_kdOf_n, pu_fI_m1 (by omega), if_neg hk, if_pos trivial, pu_gd_t (by omega), pu_bd_s, show C (50 + 0) 2 = nI (7 - m) from hG.1, pu_ile_f (by omega) (by omega), pu_bd_s, if_neg pu_n10, show C (40 + 0) 2 = nI at_ from hT.p, pu_nI_add, if_pos trivial]
    by_cases q1 : pu_kdS (pu_bt ty b at_) = 0
    · rw [if_pos q1] at hx0
      exact flt at_ C (pu_F0.refl C) (by unfold pu_dRun pu_dPart; rw [if_pos q1]) hx0
    · rw [if_neg q1] at hx0
      have p0 : at_ < ty := by
        by_cases z : at_ < ty
        · exact z
        · exfalso; apply q1; rw [pu_bt_x (by omega)]; rfl
      have T1 : pu_CT (upd2 C 40 2 (nI (at_ + 1))) 0 ty b (at_ + 1) := hT.mv
      have D := pu_dpartC T1 (hG.mv (v := nI (at_ + 1))) (by omega) p0 q1
      cases hp : pu_dPart ty b at_ with
      | inl k =>
        rw [hp] at D
        obtain ⟨J, a1, a2⟩ := D
        exact flt k J (((pu_F0.refl C).at_).trans a1) (by unfold pu_dRun; rw [hp]) (hx0.trans a2)
      | inr dp =>
        obtain ⟨d, pos⟩ := dp
        rw [hp] at D
        obtain ⟨a0, J, a1, a2, a3, a4⟩ := D
        have hpos : pos ≤ ty := by
          unfold pu_dPart at hp
          rw [if_neg q1] at hp
          split at hp
          · cases hp
          · split at hp
            · cases hp
            · split at hp
              · cases hp
              · split at hp
                · cases hp
                · rename_i b1 b2 b3 b4
                  cases hp
                  have p3 : at_ + 3 < ty := pu_bt_lt (b := b) rfl (by omega)
                  exact (pu_pplS_ex (ty := ty) (b := b) at_ (by omega)).1
        rw [show 7 - m + 1 = 8 - m by omega] at a3
        obtain ⟨J2, c1, c2, c3⟩ := rl pos (pu_setG g (7 - m) d) J a2 hpos a3
        have e : pu_dRun ty b (m + 1) at_ g = (if pos = ty then (⟨0, 8 - m, pu_setG g (7 - m) d⟩ : pu_DR) else if pu_bt ty b pos ≠ 59 then ⟨pos + 1, 0, g⟩ else pu_dRun ty b m (pos + 1) (pu_setG g (7 - m) d)) := by
          conv => lhs; unfold pu_dRun
          rw [hp]
        have hnxo : cfT_nxo 0 C (cfT_rl 0 f) = cfT_rl 0 f J := by
          unfold cfT_nxo
          rw [hx0, a0, hn0 q1, a4, pu_bd_s]
          rfl
        rw [hnxo, e]
        refine ⟨J2, (((pu_F0.refl C).at_).trans a1).trans c1, ?_, ?_⟩
        · by_cases z1 : pos = ty
          · rw [if_pos z1] at c2 ⊢; exact c2
          · rw [if_neg z1] at c2 ⊢
            by_cases z2 : pu_bt ty b pos ≠ 59
            · rw [if_pos z2] at c2 ⊢; exact ⟨c2.1, fun i hi => absurd hi (Nat.not_lt_zero _)⟩
            · rw [if_neg z2] at c2 ⊢; exact c2
        · rw [c3]
          by_cases z1 : pos = ty
          · rw [if_pos z1, if_pos z1]
          · rw [if_neg z1, if_neg z1]
            by_cases z2 : pu_bt ty b pos ≠ 59
            · rw [if_pos z2, if_pos z2]
            · rw [if_neg z2, if_neg z2]
theorem pu_readsC_n {C : St} {ty p : Nat} {b : Nat → Nat} (hT : pu_CT C 0 ty b p) : ∃ J, pu_F0 C J ∧ pu_CG J (pu_dTop ty b).g (pu_dTop ty b).n ∧ cfT_reads 0 C = some (pu_fI (pu_dTop ty b).fault, J) := by
  have h80 := hT.le
  have T0 : pu_CT (clr (upd2 C 40 2 (nI 0)) 0) 0 ty b 0 := by
    refine pu_CT.fr (hT.mv (p' := 0)) ?_ ?_
    · unfold clr; rw [upd2_other _ _ _ (by omega), upd2_other _ _ _ (by omega)]
    · unfold clr; rw [upd2_other _ _ _ (by omega), upd2_other _ _ _ (by omega)]
  have F00 : pu_F0 C (clr (upd2 C 40 2 (nI 0)) 0) := (((pu_F0.refl C).at_).l).l
  have G0 : ∀ g, pu_CG (clr (upd2 C 40 2 (nI 0)) 0) g 0 := fun g => ⟨by unfold clr; exact pu_upd2_at _ _ _ _, fun i hi => absurd hi (Nat.not_lt_zero _)⟩
  unfold cfT_reads cfT_cl cfD_clears cfL_clear pu_dTop
  simp only [pu_lit, pu_lt_s]
  rw [pu_gd_t (by omega), if_pos trivial, if_pos (show (0 : Nat) < 3 by omega), pu_bd_s, pu_bd_s, show clr (upd2 C (40 + 0) 2 (nI 0)) 0 (40 + 0) 1 = nI ty from T0.t]
  by_cases z : ty = 0
  · rw [if_pos z, pu_ile_t (by omega) (by omega)]
    refine ⟨_, F00, G0 _, ?_⟩
    show cfT_rl 0 45 _ = _
    unfold cfT_rl
    rw [show clr (upd2 C (40 + 0) 2 (nI 0)) 0 (40 + 0) 1 = nI ty from T0.t, show clr (upd2 C (40 + 0) 2 (nI 0)) 0 (40 + 0) 2 = nI 0 from T0.p, pu_ile_t (by omega) (by omega)]
    rfl
  · rw [if_neg z, pu_ile_f (by omega) (by omega)]
    obtain ⟨J, a1, a2, a3⟩ := pu_nx_n (ty := ty) (b := b) 8 RFU (by decide) 0 (fun _ => ⟨0, 0, 0, 0, 0⟩) _ T0 (by omega) (by omega) (G0 _)
    exact ⟨J, F00.trans a1, a2, a3⟩
