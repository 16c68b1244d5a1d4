/-! the plain side, part 4 -/
set_option maxRecDepth 100000
/-! PURE: rules are read -/
abbrev pu_R4 : Type := Nat × (Nat → Nat) × (Nat → Nat) × (Nat → Nat)
abbrev pu_R4.parts (x_ : pu_R4) : Nat := x_.1
abbrev pu_R4.many (x_ : pu_R4) : Nat → Nat := x_.2.1
abbrev pu_R4.askR (x_ : pu_R4) : Nat → Nat := x_.2.2.1
abbrev pu_R4.askP (x_ : pu_R4) : Nat → Nat := x_.2.2.2
def pu_r0 : pu_R4 := ⟨0, fun _ => 0, fun _ => 0, fun _ => 0⟩
abbrev pu_RR : Type := Nat × pu_R4
abbrev pu_RR.fault (x_ : pu_RR) : Nat := x_.1
abbrev pu_RR.r (x_ : pu_RR) : pu_R4 := x_.2
def pu_setR (r : pu_R4) (k m w h : Nat) : pu_R4 := ⟨r.parts + 1, pu_setN r.many k m, pu_setN r.askR k w, pu_setN r.askP k h⟩
def pu_rW (ty : Nat) (b : Nat → Nat) (at_ : Nat) : Nat := if pu_bt ty b (at_ + 2) = 119 then 1 else 0
def pu_rH (ty : Nat) (b : Nat → Nat) (at_ : Nat) : Nat := if pu_bt ty b (at_ + 2 + pu_rW ty b at_) = 104 then 1 else 0
def pu_rE (ty : Nat) (b : Nat → Nat) (at_ : Nat) : Nat := at_ + 2 + pu_rW ty b at_ + pu_rH ty b at_
def pu_rRun (ty : Nat) (b : Nat → Nat) : Nat → Nat → pu_R4 → pu_RR
  | 0, at_, r => ⟨1, pu_r0⟩
  | c + 1, at_, r =>
    if pu_kdS (pu_bt ty b at_) = 0 then ⟨at_ + 1, pu_r0⟩
    else if ¬ (48 ≤ pu_bt ty b (at_ + 1) ∧ pu_bt ty b (at_ + 1) ≤ 52) then ⟨at_ + 2, pu_r0⟩
    else if pu_rE ty b at_ = ty then ⟨0, pu_setR r (pu_kdS (pu_bt ty b at_) - 1) (pu_bt ty b (at_ + 1) - 48) (pu_rW ty b at_) (pu_rH ty b at_)⟩
    else if pu_bt ty b (pu_rE ty b at_) ≠ 59 then ⟨pu_rE ty b at_ + 1, pu_r0⟩
    else pu_rRun ty b c (pu_rE ty b at_ + 1) (pu_setR r (pu_kdS (pu_bt ty b at_) - 1) (pu_bt ty b (at_ + 1) - 48) (pu_rW ty b at_) (pu_rH ty b at_))
def pu_rTop (ty : Nat) (b : Nat → Nat) : pu_RR := if ty = 0 then ⟨0, pu_r0⟩ else pu_rRun ty b 40 0 pu_r0
theorem pu_rW_le (ty : Nat) (b : Nat → Nat) (at_ : Nat) : pu_rW ty b at_ ≤ 1 := by unfold pu_rW; split <;> omega
theorem pu_rH_le (ty : Nat) (b : Nat → Nat) (at_ : Nat) : pu_rH ty b at_ ≤ 1 := by unfold pu_rH; split <;> omega
theorem pu_rE_le {ty : Nat} {b : Nat → Nat} {at_ : Nat} (h : at_ + 2 ≤ ty) : at_ + 2 + pu_rW ty b at_ ≤ ty ∧ pu_rE ty b at_ ≤ ty := by
  have h1 : at_ + 2 + pu_rW ty b at_ ≤ ty := by
    unfold pu_rW
    split
    · rename_i q
      have := pu_bt_lt q (by omega)
      omega
    · omega
  refine ⟨h1, ?_⟩
  unfold pu_rE
  have : pu_rH ty b at_ = 0 ∨ (pu_rH ty b at_ = 1 ∧ at_ + 2 + pu_rW ty b at_ < ty) := by
    unfold pu_rH
    split
    · rename_i q
      exact Or.inr ⟨rfl, pu_bt_lt q (by omega)⟩
    · exact Or.inl rfl
  omega
/-- the model's rules -/
abbrev pu_MR (I : St) (r : pu_R4) : Prop := I 8 0 = nI r.parts ∧ (∀ k, k < 4 → I 9 k = nI (r.many k)) ∧ (∀ k, k < 4 → I 10 k = nI (r.askR k)) ∧ (∀ k, k < 4 → I 11 k = nI (r.askP k))
theorem pu_MR.parts {I : St} {r : pu_R4} (h_ : pu_MR I r) : I 8 0 = nI r.parts := h_.1
theorem pu_MR.many {I : St} {r : pu_R4} (h_ : pu_MR I r) : ∀ k, k < 4 → I 9 k = nI (r.many k) := h_.2.1
theorem pu_MR.askR {I : St} {r : pu_R4} (h_ : pu_MR I r) : ∀ k, k < 4 → I 10 k = nI (r.askR k) := h_.2.2.1
theorem pu_MR.askP {I : St} {r : pu_R4} (h_ : pu_MR I r) : ∀ k, k < 4 → I 11 k = nI (r.askP k) := h_.2.2.2
abbrev pu_rBk : List Nat := [8, 9, 10, 11]
theorem pu_noRules_n (I : St) : ∃ J, pu_Fr pu_rBk I J ∧ pu_MR J pu_r0 ∧ mo_noRules I = some J := by
  obtain ⟨J, ⟨a1, a2, a3⟩, a4⟩ := pu_lp_forE (T := Int32 → St → Option St) (dead := fun _ _ => none) (b := mo_noRules_b7) (call := fun t i I => t (nI i) I) (P := fun i J => pu_Fr pu_rBk I J ∧ J 8 0 = nI 0 ∧ ∀ k, k < i → J 9 k = nI 0 ∧ J 10 k = nI 0 ∧ J 11 k = nI 0) (K := fun J => some J) 4 (by
    intro t J _
    unfold mo_noRules_b7
    simp only [pu_lit]
    rw [pu_ile_t (by omega) (by omega)]) (by
    rintro t i J hi ⟨f1, f2, f3⟩
    refine ⟨upd2 (upd2 (upd2 J 9 i (nI 0)) 10 i (nI 0)) 11 i (nI 0), ⟨((f1.upd (by simp)).upd (by simp)).upd (by simp), ?_, fun k hk => ?_⟩, ?_⟩
    · rw [upd2_other _ _ _ (by decide), upd2_other _ _ _ (by decide), upd2_other _ _ _ (by decide)]; exact f2
    · by_cases q : k = i
      · subst q
        refine ⟨?_, ?_, pu_upd2_at _ _ _ _⟩
        · rw [upd2_other _ _ _ (by decide), upd2_other _ _ _ (by decide), pu_upd2_at]
        · rw [upd2_other _ _ _ (by decide), pu_upd2_at]
      · have := f3 k (by omega)
        refine ⟨?_, ?_, ?_⟩
        · rw [upd2_other _ _ _ (by decide), upd2_other _ _ _ (by decide), pu_upd2_ne _ _ _ q]; exact this.1
        · rw [upd2_other _ _ _ (by decide), pu_upd2_ne _ _ _ q, upd2_other _ _ _ (by decide)]; exact this.2.1
        · rw [pu_upd2_ne _ _ _ q, upd2_other _ _ _ (by decide), upd2_other _ _ _ (by decide)]; exact this.2.2
    · unfold mo_noRules_b7
      simp only [pu_lit]
      rw [pu_ile_f (by omega) (by omega), pu_as_n hi (by omega), pu_as_n hi (by omega), pu_as_n hi (by omega), pu_nI_add]) (a := upd2 I 8 0 (nI 0)) ⟨(pu_Fr.refl _ _).upd (by simp), pu_upd2_at _ _ _ _, fun k hk => absurd hk (Nat.not_lt_zero _)⟩ FU (by decide)
  exact ⟨J, a1, ⟨a2, fun k hk => (a3 k hk).1, fun k hk => (a3 k hk).2.1, fun k hk => (a3 k hk).2.2⟩, a4⟩
theorem pu_rules6 {ty : Nat} {b : Nat → Nat} : ∀ c f, c < f → ∀ at_ r I, pu_MT I 1 ty b → at_ ≤ ty → ty < at_ + 3 * c → 0 < ty → pu_MR I r →
    ∃ J, pu_Fr pu_rBk I J ∧ ((pu_rRun ty b c at_ r).fault = 0 → pu_MR J (pu_rRun ty b c at_ r).r) ∧ mo_readsRules_l6 f (nI at_) I = some (pu_fI (pu_rRun ty b c at_ r).fault, J) := by
  intro c
  induction c with
  | zero => intro f _ at_ r I _ h1 h2; omega
  | succ c ih =>
    intro f hf at_ r I hM hat hfu hty hR
    obtain ⟨f, rfl⟩ : ∃ k, f = k + 1 := ⟨f - 1, by omega⟩
    have h80 := hM.le
    have hkd := pu_kd_le (pu_bt ty b at_)
    have b0 := pu_byteAt_n (k := at_) hM (by omega)
    have b1 := pu_byteAt_n (k := at_ + 1) hM (by omega)
    have head : mo_readsRules_l6 (f + 1) (nI at_) I = mo_readsRules_b20 (mo_readsRules_l6 f) (nI at_) I := by
      show mo_readsRules_b6 _ _ _ = _
      unfold mo_readsRules_b6
      simp only [pu_lit]
      rw [pu_al_n (by omega) (by omega), hM.t]
      by_cases z : at_ < ty
      · rw [pu_ilt_t z (by omega)]
        rfl
      · rw [pu_ilt_f (by omega) (by omega), pu_ile_f (by omega) (by omega)]
        rfl
    rw [head]
    unfold pu_rRun
    by_cases q1 : pu_kdS (pu_bt ty b at_) = 0
    · rw [if_pos q1]
      refine ⟨I, pu_Fr.refl _ _, (fun z => by cases z), ?_⟩
      unfold mo_readsRules_b20
      simp only [pu_lit]
      rw [b0, pu_bd_s, pu_kindBy_n, pu_bd_s, pu_fI_m1 (by omega), if_pos q1, pu_fI_s]
    · rw [if_neg q1]
      have p0 : at_ < ty := by
        by_cases z : at_ < ty
        · exact z
        · exfalso; apply q1; rw [pu_bt_x (by omega)]; rfl
      by_cases q2 : 48 ≤ pu_bt ty b (at_ + 1) ∧ pu_bt ty b (at_ + 1) ≤ 52
      · rw [if_neg (not_not_intro q2)]
        have p1 : at_ + 1 < ty := pu_bt_lt (b := b) rfl (by omega)
        have hE := pu_rE_le (b := b) (at_ := at_) (ty := ty) (by omega)
        have lW := pu_rW_le ty b at_
        have lH := pu_rH_le ty b at_
        generalize hk : pu_kdS (pu_bt ty b at_) - 1 = k
        have ek : pu_fI (pu_kdS (pu_bt ty b at_)) = nI k := by
          rw [← pu_fI_s]
          congr 1
          omega
        have hk4 : k < 4 := by omega
        generalize hJ : upd2 (upd2 (upd2 (upd2 I 9 k (nI (pu_bt ty b (at_ + 1) - 48))) 10 k (nI (pu_rW ty b at_))) 11 k (nI (pu_rH ty b at_))) 8 0 (nI (r.parts + 1)) = J
        have FJ : pu_Fr pu_rBk I J := by rw [← hJ]; exact ((((pu_Fr.refl _ _).upd (by simp)).upd (by simp)).upd (by simp)).upd (by simp)
        have RJ : pu_MR J (pu_setR r k (pu_bt ty b (at_ + 1) - 48) (pu_rW ty b at_) (pu_rH ty b at_)) := by
          rw [← hJ]
          unfold pu_setR pu_setN
          refine ⟨pu_upd2_at _ _ _ _, fun i hi => ?_, fun i hi => ?_, fun i hi => ?_⟩
          · dsimp only [pu_R4.parts, pu_R4.many, pu_R4.askR, pu_R4.askP, pu_RR.fault, pu_RR.r]
            rw [upd2_other _ _ _ (by decide), upd2_other _ _ _ (by decide), upd2_other _ _ _ (by decide)]
            by_cases z : i = k
            · rw [z, pu_upd2_at, if_pos rfl]
            · rw [pu_upd2_ne _ _ _ z, if_neg z]; exact hR.many i hi
          · dsimp only [pu_R4.parts, pu_R4.many, pu_R4.askR, pu_R4.askP, pu_RR.fault, pu_RR.r]
            rw [upd2_other _ _ _ (by decide), upd2_other _ _ _ (by decide)]
            by_cases z : i = k
            · rw [z, pu_upd2_at, if_pos rfl]
            · rw [pu_upd2_ne _ _ _ z, if_neg z, upd2_other _ _ _ (by decide)]; exact hR.askR i hi
          · dsimp only [pu_R4.parts, pu_R4.many, pu_R4.askR, pu_R4.askP, pu_RR.fault, pu_RR.r]
            rw [upd2_other _ _ _ (by decide)]
            by_cases z : i = k
            · rw [z, pu_upd2_at, if_pos rfl]
            · rw [pu_upd2_ne _ _ _ z, if_neg z, upd2_other _ _ _ (by decide), upd2_other _ _ _ (by decide)]; exact hR.askP i hi
        have MJ := hM.fr1 FJ (by simp) (by simp)
        have body : mo_readsRules_b20 (mo_readsRules_l6 f) (nI at_) I = if pu_rE ty b at_ = ty then some (-nI 1, J) else if pu_bt ty b (pu_rE ty b at_) = 59 then mo_readsRules_l6 f (nI (pu_rE ty b at_ + 1)) J else some (nI (pu_rE ty b at_), J) := by
          have M1 : pu_MT (upd2 I 9 k (nI (pu_bt ty b (at_ + 1) - 48))) 1 ty b := hM.fr1 ((pu_Fr.refl [9] I).upd (by simp)) (by simp) (by simp)
          have M2 : pu_MT (upd2 (upd2 I 9 k (nI (pu_bt ty b (at_ + 1) - 48))) 10 k (nI (pu_rW ty b at_))) 1 ty b := M1.fr1 ((pu_Fr.refl [10] _).upd (by simp)) (by simp) (by simp)
          have e131 : mo_readsRules_b131 (mo_readsRules_l6 f) (nI (at_ + 2 + pu_rW ty b at_)) (nI k) (nI (pu_rH ty b at_)) (nI k) (upd2 (upd2 I 9 k (nI (pu_bt ty b (at_ + 1) - 48))) 10 k (nI (pu_rW ty b at_))) = if pu_rE ty b at_ = ty then some (-nI 1, J) else if pu_bt ty b (pu_rE ty b at_) = 59 then mo_readsRules_l6 f (nI (pu_rE ty b at_ + 1)) J else some (nI (pu_rE ty b at_), J) := by
            unfold mo_readsRules_b131
            simp only [pu_lit, pu_lt_s]
            rw [pu_as_n hk4 (by omega), pu_al_n hk4 (by omega), pu_upd2_at, pu_nI_add, show upd2 (upd2 (upd2 I 9 k (nI (pu_bt ty b (at_ + 1) - 48))) 10 k (nI (pu_rW ty b at_))) 11 k (nI (pu_rH ty b at_)) 8 0 = nI r.parts from by
              rw [upd2_other _ _ _ (by decide), upd2_other _ _ _ (by decide), upd2_other _ _ _ (by decide)]; exact hR.parts, pu_nI_add, hJ, pu_al_n (by omega) (by omega), MJ.t]
            show (if nI (pu_rE ty b at_) = nI ty then _ else _) = _
            by_cases z : pu_rE ty b at_ = ty
            · rw [pu_ieq_t z, if_pos z]
            · rw [pu_ieq_f z (by omega) (by omega), if_neg z]
              show bd_ (mo_byteAt J (nI 1) (nI (pu_rE ty b at_))) _ = _
              rw [pu_byteAt_n MJ (by omega), pu_bd_s, pu_cI_ite (by omega), show at_ + 2 + pu_rW ty b at_ + pu_rH ty b at_ = pu_rE ty b at_ from rfl, pu_nI_add]
          have e100 : mo_readsRules_b100 (mo_readsRules_l6 f) (nI (at_ + 2)) (nI k) (nI (pu_rW ty b at_)) (nI k) (upd2 I 9 k (nI (pu_bt ty b (at_ + 1) - 48))) = if pu_rE ty b at_ = ty then some (-nI 1, J) else if pu_bt ty b (pu_rE ty b at_) = 59 then mo_readsRules_l6 f (nI (pu_rE ty b at_ + 1)) J else some (nI (pu_rE ty b at_), J) := by
            rw [← e131]
            conv => lhs; unfold mo_readsRules_b100
            simp only [pu_lit, pu_lt_s]
            rw [pu_as_n hk4 (by omega), pu_al_n hk4 (by omega), pu_upd2_at, pu_nI_add, pu_byteAt_n M2 (by omega), pu_bd_s, pu_cI_ite (by omega)]
            unfold pu_rH
            split <;> rfl
          rw [← e100]
          conv => lhs; unfold mo_readsRules_b20
          simp only [pu_lit]
          rw [b0, pu_bd_s, pu_kindBy_n, pu_bd_s, pu_fI_m1 (by omega), if_neg q1, pu_nI_add, pu_nI_add, b1, pu_bd_s, pu_moin, pu_bd_s, pu_cI_in (by omega) (by omega), pu_bI0, if_pos (decide_eq_true q2), pu_bd_s, ek, pu_as_n hk4 (by omega), pu_nI_cI_sub q2.1 (by omega), pu_byteAt_n M1 (by omega), pu_bd_s, pu_cI_ite (by omega)]
          unfold pu_rW
          split <;> rfl
        rw [body]
        by_cases z1 : pu_rE ty b at_ = ty
        · rw [if_pos z1, if_pos z1]
          exact ⟨J, FJ, fun _ => RJ, rfl⟩
        · rw [if_neg z1, if_neg z1]
          by_cases z2 : pu_bt ty b (pu_rE ty b at_) = 59
          · rw [if_pos z2, if_neg (not_not_intro z2)]
            obtain ⟨J2, a1, a2, a3⟩ := ih f (by omega) (pu_rE ty b at_ + 1) _ J MJ (by omega) (by have : at_ + 2 ≤ pu_rE ty b at_ := by { unfold pu_rE; omega }; omega) hty RJ
            exact ⟨J2, FJ.trans a1, a2, a3⟩
          · rw [if_neg z2, if_pos z2]
            exact ⟨J, FJ, (fun z => by cases z), by rw [pu_fI_s]⟩
      · rw [if_pos q2]
        refine ⟨I, pu_Fr.refl _ _, (fun z => by cases z), ?_⟩
        unfold mo_readsRules_b20
        simp only [pu_lit]
        rw [b0, pu_bd_s, pu_kindBy_n, pu_bd_s, pu_fI_m1 (by omega), if_neg q1, pu_nI_add, b1, pu_bd_s, pu_moin, pu_bd_s, pu_cI_in (by omega) (by omega), pu_bI0, if_neg (by rw [decide_eq_false q2]; simp)]
        show _ = some (pu_fI (at_ + 1 + 1), I)
        rw [pu_fI_s]
theorem pu_rRun_0 {ty : Nat} {b : Nat → Nat} : ∀ c at_ r, (pu_rRun ty b c at_ r).fault ≠ 0 → (pu_rRun ty b c at_ r).r = pu_r0
  | 0, at_, r, _ => rfl
  | c + 1, at_, r, h => by
    unfold pu_rRun at h ⊢
    split
    · rfl
    · rename_i h1
      rw [if_neg h1] at h
      split
      · rfl
      · rename_i h2
        rw [if_neg h2] at h
        split
        · rename_i h3
          rw [if_pos h3] at h
          exact absurd rfl h
        · rename_i h3
          rw [if_neg h3] at h
          split
          · rfl
          · rename_i h4
            rw [if_neg h4] at h
            exact pu_rRun_0 c _ _ h
theorem pu_fI_lt {ty : Nat} {b : Nat → Nat} : ∀ c at_ r, at_ ≤ ty → (pu_rRun ty b c at_ r).fault ≤ ty + 2
  | 0, at_, r, _ => by unfold pu_rRun; dsimp only [pu_R4.parts, pu_R4.many, pu_R4.askR, pu_R4.askP, pu_RR.fault, pu_RR.r]; omega
  | c + 1, at_, r, h => by
    unfold pu_rRun
    split
    · dsimp only [pu_R4.parts, pu_R4.many, pu_R4.askR, pu_R4.askP, pu_RR.fault, pu_RR.r]; omega
    · split
      · dsimp only [pu_R4.parts, pu_R4.many, pu_R4.askR, pu_R4.askP, pu_RR.fault, pu_RR.r]; omega
      · split
        · dsimp only [pu_R4.parts, pu_R4.many, pu_R4.askR, pu_R4.askP, pu_RR.fault, pu_RR.r]; omega
        · split
          · rename_i h1 h2 h3 h4
            have p1 : at_ + 1 < ty := pu_bt_lt (b := b) rfl (by omega)
            have := (pu_rE_le (b := b) (at_ := at_) (ty := ty) (by omega)).2
            dsimp only [pu_R4.parts, pu_R4.many, pu_R4.askR, pu_R4.askP, pu_RR.fault, pu_RR.r]; omega
          · rename_i h1 h2 h3 h4
            have p1 : at_ + 1 < ty := pu_bt_lt (b := b) rfl (by omega)
            have := (pu_rE_le (b := b) (at_ := at_) (ty := ty) (by omega)).2
            exact pu_fI_lt c _ _ (by omega)
theorem pu_faultOf1_n {I : St} {ty : Nat} {b : Nat → Nat} (h : pu_MT I 1 ty b) : ∃ J, pu_Fr pu_rBk I J ∧ pu_MR J (pu_rTop ty b).r ∧ mo_faultOf (nI 1) I = some (pu_fI (pu_rTop ty b).fault, J) := by
  have h80 := h.le
  obtain ⟨I1, a1, a2, a3⟩ := pu_noRules_n I
  have M1 := h.fr1 a1 (by simp) (by simp)
  have key : ∃ J, pu_Fr pu_rBk I J ∧ ((pu_rTop ty b).fault = 0 → pu_MR J (pu_rTop ty b).r) ∧ mo_readsRules I = some (pu_fI (pu_rTop ty b).fault, J) := by
    unfold pu_rTop mo_readsRules
    simp only [pu_lit]
    rw [a3, pu_bd_s]
    by_cases z : ty = 0
    · rw [if_pos z]
      refine ⟨I1, a1, fun _ => a2, ?_⟩
      rw [pu_FU_e]
      show mo_readsRules_b6 _ _ _ = _
      unfold mo_readsRules_b6
      simp only [pu_lit]
      rw [pu_al_n (by omega) (by omega), M1.t, pu_ilt_f (by omega) (by omega), if_pos (by rw [pu_nI_le (by omega) (by omega)]; omega)]
      rfl
    · rw [if_neg z]
      obtain ⟨J, b1, b2, b3⟩ := pu_rules6 (ty := ty) (b := b) 40 FU (by decide) 0 pu_r0 I1 M1 (by omega) (by omega) (by omega) a2
      exact ⟨J, a1.trans b1, b2, b3⟩
  obtain ⟨J, b1, b2, b3⟩ := key
  have hlt : (pu_rTop ty b).fault < 1000 := by
    unfold pu_rTop
    split
    · dsimp only [pu_R4.parts, pu_R4.many, pu_R4.askR, pu_R4.askP, pu_RR.fault, pu_RR.r]; omega
    · have := pu_fI_lt (ty := ty) (b := b) 40 0 pu_r0 (by omega); omega
  unfold mo_faultOf
  simp only [pu_lit]
  rw [if_neg pu_n10, b3, pu_bd2_s, pu_fI_m1 hlt]
  by_cases z : (pu_rTop ty b).fault = 0
  · rw [if_pos z]
    exact ⟨J, b1, b2 z, rfl⟩
  · rw [if_neg z]
    obtain ⟨J2, c1, c2, c3⟩ := pu_noRules_n J
    refine ⟨J2, b1.trans c1, ?_, by rw [c3, pu_bd_s]⟩
    have : (pu_rTop ty b).r = pu_r0 := by
      unfold pu_rTop at z ⊢
      split
      · rfl
      · rename_i h0
        rw [if_neg h0] at z
        exact pu_rRun_0 _ _ _ z
    rw [this]
    exact c2
/-! PURE: the component reads its rules -/
abbrev pu_CR (C : St) (r : pu_R4) : Prop := C 41 8 = nI r.parts ∧ (∀ k, k < 4 → C 44 k = nI (r.many k)) ∧ (∀ k, k < 4 → C 45 k = nI (r.askR k)) ∧ (∀ k, k < 4 → C 46 k = nI (r.askP k))
theorem pu_CR.parts {C : St} {r : pu_R4} (h_ : pu_CR C r) : C 41 8 = nI r.parts := h_.1
theorem pu_CR.many {C : St} {r : pu_R4} (h_ : pu_CR C r) : ∀ k, k < 4 → C 44 k = nI (r.many k) := h_.2.1
theorem pu_CR.askR {C : St} {r : pu_R4} (h_ : pu_CR C r) : ∀ k, k < 4 → C 45 k = nI (r.askR k) := h_.2.2.1
theorem pu_CR.askP {C : St} {r : pu_R4} (h_ : pu_CR C r) : ∀ k, k < 4 → C 46 k = nI (r.askP k) := h_.2.2.2
def pu_F1 (C J : St) : Prop := (∀ a, a ≠ 41 → a ≠ 44 → a ≠ 45 → a ≠ 46 → J a = C a) ∧ ∀ k, k ≠ 2 → k ≠ 8 → J 41 k = C 41 k
theorem pu_F1.refl (C : St) : pu_F1 C C := ⟨fun _ _ _ _ _ => rfl, fun _ _ _ => rfl⟩
theorem pu_F1.trans {C J K : St} (h : pu_F1 C J) (g : pu_F1 J K) : pu_F1 C K := ⟨fun a h1 h2 h3 h4 => (g.1 a h1 h2 h3 h4).trans (h.1 a h1 h2 h3 h4), fun k hk h8 => (g.2 k hk h8).trans (h.2 k hk h8)⟩
theorem pu_F1.at_ {C J : St} {v : Int32} {i : Nat} (h : pu_F1 C J) (hi : i = 2 ∨ i = 8) : pu_F1 C (upd2 J 41 i v) := ⟨fun a h1 h2 h3 h4 => by rw [upd2_other _ _ _ h1]; exact h.1 a h1 h2 h3 h4, fun k hk h8 => by rw [pu_upd2_ne _ _ _ (by omega)]; exact h.2 k hk h8⟩
theorem pu_F1.l {C J : St} {a i : Nat} {v : Int32} (h : pu_F1 C J) (ha : a = 44 ∨ a = 45 ∨ a = 46) : pu_F1 C (upd2 J a i v) := ⟨fun x h1 h2 h3 h4 => by rw [upd2_other _ _ _ (by omega)]; exact h.1 x h1 h2 h3 h4, fun k hk h8 => by rw [upd2_other _ _ _ (by omega)]; exact h.2 k hk h8⟩
theorem pu_F1.t {C J : St} {ty p : Nat} {b : Nat → Nat} (h : pu_F1 C J) (hT : pu_CT C 1 ty b p) {p' : Nat} (hp : J 41 2 = nI p') : pu_CT J 1 ty b p' := ⟨by show J 41 1 = _; rw [h.2 1 (by decide) (by decide)]; exact hT.t, hp, hT.le, hT.q2, fun k hk => by show J 43 k = _; rw [h.1 43 (by decide) (by decide) (by decide) (by decide)]; exact hT.by_ k hk, hT.lt⟩
theorem pu_clearsC_n (C : St) : ∃ J, pu_F1 C J ∧ pu_CR J pu_r0 ∧ J 41 2 = C 41 2 ∧ cfR_clears C = some J := by
  obtain ⟨J, ⟨a1, a2, a3, a5⟩, a4⟩ := pu_lp_forE (T := Int32 → St → Option St) (dead := fun _ _ => none) (b := cfR_clears_b7) (call := fun t i I => t (nI i) I) (P := fun i J => pu_F1 C J ∧ J 41 8 = nI 0 ∧ (∀ k, k < i → J 44 k = nI 0 ∧ J 45 k = nI 0 ∧ J 46 k = nI 0) ∧ J 41 2 = C 41 2) (K := fun J => some J) 4 (by
    intro t J _
    unfold cfR_clears_b7
    simp only [pu_lit]
    rw [pu_ile_t (by omega) (by omega)]) (by
    rintro t i J hi ⟨f1, f2, f3, f4⟩
    refine ⟨upd2 (upd2 (upd2 J 44 i (nI 0)) 45 i (nI 0)) 46 i (nI 0), ⟨((f1.l (by omega)).l (by omega)).l (by omega), ?_, fun k hk => ?_, ?_⟩, ?_⟩
    · rw [upd2_other _ _ _ (by decide), upd2_other _ _ _ (by decide), upd2_other _ _ _ (by decide)]; exact f2
    · by_cases q : k = i
      · subst q
        refine ⟨?_, ?_, pu_upd2_at _ _ _ _⟩
        · rw [upd2_other _ _ _ (by decide), upd2_other _ _ _ (by decide), pu_upd2_at]
        · rw [upd2_other _ _ _ (by decide), pu_upd2_at]
      · have := f3 k (by omega)
        refine ⟨?_, ?_, ?_⟩
        · rw [upd2_other _ _ _ (by decide), upd2_other _ _ _ (by decide), pu_upd2_ne _ _ _ q]; exact this.1
        · rw [upd2_other _ _ _ (by decide), pu_upd2_ne _ _ _ q, upd2_other _ _ _ (by decide)]; exact this.2.1
        · rw [pu_upd2_ne _ _ _ q, upd2_other _ _ _ (by decide), upd2_other _ _ _ (by decide)]; exact this.2.2
    · rw [upd2_other _ _ _ (by decide), upd2_other _ _ _ (by decide), upd2_other _ _ _ (by decide)]; exact f4
    · unfold cfR_clears_b7
      simp only [pu_lit]
      rw [pu_ile_f (by omega) (by omega), pu_as_n hi (by omega), show nI 0 &&& nI 1 = nI 0 from rfl, pu_as_n hi (by omega), pu_as_n hi (by omega), pu_nI_add]) (a := upd2 C 41 8 (nI 0)) ⟨(pu_F1.refl C).at_ (by omega), pu_upd2_at _ _ _ _, fun k hk => absurd hk (Nat.not_lt_zero _), by rw [pu_upd2_ne _ _ _ (by decide)]⟩ FU (by decide)
  exact ⟨J, a1, ⟨a2, fun k hk => (a3 k hk).1, fun k hk => (a3 k hk).2.1, fun k hk => (a3 k hk).2.2⟩, a5, a4⟩
theorem pu_bI_and1 (a : Bool) : pu_bI a &&& nI 1 = pu_bI a := by cases a <;> rfl
theorem pu_bI_dec {c : Prop} [Decidable c] : pu_bI (decide c) = nI (if c then 1 else 0) := by
  by_cases q : c
  · rw [decide_eq_true q, if_pos q]; rfl
  · rw [decide_eq_false q, if_neg q]; rfl
theorem pu_rpartC {ty at_ k : Nat} {b : Nat → Nat} {C : St} {r : pu_R4} (hT : pu_CT C 1 ty b (at_ + 1)) (hR : pu_CR C r) (hk : k < 4) (ha : at_ < ty) (q2 : 48 ≤ pu_bt ty b (at_ + 1) ∧ pu_bt ty b (at_ + 1) ≤ 52) :
    ∃ J, pu_F1 C J ∧ pu_CT J 1 ty b (pu_rE ty b at_) ∧ pu_CR J (pu_setR r k (pu_bt ty b (at_ + 1) - 48) (pu_rW ty b at_) (pu_rH ty b at_)) ∧ cfR_part (nI k) C = some J := by
  have h80 := hT.le
  have p1 : at_ + 1 < ty := pu_bt_lt (b := b) rfl (by omega)
  have hE := pu_rE_le (b := b) (at_ := at_) (ty := ty) (by omega)
  have f1 := (pu_figure_n (lo := 0) (hi := 4) hT (by omega) (by omega) (by omega)).1
  have c1 : 0 + 48 ≤ pu_bt ty b (at_ + 1) ∧ pu_bt ty b (at_ + 1) ≤ 4 + 48 := by omega
  rw [if_pos c1] at f1
  have f1 : cfT_figure 1 (nI 0) (nI 4) C = some (nI (pu_bt ty b (at_ + 1) - 48), upd2 C 41 2 (nI (at_ + 2))) := f1
  generalize hC1 : upd2 (upd2 C 41 2 (nI (at_ + 2))) 44 k (nI (pu_bt ty b (at_ + 1) - 48)) = C1
  have FC1 : pu_F1 C C1 := by rw [← hC1]; exact ((pu_F1.refl C).at_ (by omega)).l (by omega)
  have T1 : pu_CT C1 1 ty b (at_ + 2) := FC1.t hT (by rw [← hC1, upd2_other _ _ _ (by decide), pu_upd2_at])
  have f2 := pu_passes_n (x := 119) T1 (by omega) (by omega)
  generalize hC2 : upd2 (upd2 C1 41 2 (nI (at_ + 2 + pu_rW ty b at_))) 45 k (nI (pu_rW ty b at_)) = C2
  have f2 : cfT_passes 1 (nI 119) C1 = some (nI (pu_rW ty b at_), upd2 C1 41 2 (nI (at_ + 2 + pu_rW ty b at_))) := by
    rw [f2, pu_bI_dec]
    rfl
  have FC2 : pu_F1 C C2 := by rw [← hC2]; exact (FC1.at_ (by omega)).l (by omega)
  have T2 : pu_CT C2 1 ty b (at_ + 2 + pu_rW ty b at_) := FC2.t hT (by rw [← hC2, upd2_other _ _ _ (by decide), pu_upd2_at])
  have f3 := pu_passes_n (x := 104) T2 hE.1 (by omega)
  have f3 : cfT_passes 1 (nI 104) C2 = some (nI (pu_rH ty b at_), upd2 C2 41 2 (nI (pu_rE ty b at_))) := by
    rw [f3, pu_bI_dec]
    rfl
  generalize hC3 : upd2 (upd2 C2 41 2 (nI (pu_rE ty b at_))) 46 k (nI (pu_rH ty b at_)) = C3
  have FC3 : pu_F1 C C3 := by rw [← hC3]; exact (FC2.at_ (by omega)).l (by omega)
  have e8 : C3 41 8 = nI r.parts := by
    rw [← hC3, upd2_other _ _ _ (by decide), pu_upd2_ne _ _ _ (by decide), ← hC2, upd2_other _ _ _ (by decide), pu_upd2_ne _ _ _ (by decide), ← hC1, upd2_other _ _ _ (by decide), pu_upd2_ne _ _ _ (by decide)]
    exact hR.parts
  have w1 : ∀ x, x ≤ 1 → nI x &&& nI 1 = nI x := by
    intro x hx
    rcases (show x = 0 ∨ x = 1 by omega) with rfl | rfl <;> rfl
  refine ⟨upd2 C3 41 8 (nI (r.parts + 1)), FC3.at_ (by omega), (FC3.at_ (by omega)).t hT (by rw [pu_upd2_ne _ _ _ (by decide), ← hC3, upd2_other _ _ _ (by decide), pu_upd2_at]), ?_, ?_⟩
  · unfold pu_setR pu_setN
    refine ⟨pu_upd2_at _ _ _ _, fun i hi => ?_, fun i hi => ?_, fun i hi => ?_⟩
    · dsimp only [pu_R4.parts, pu_R4.many, pu_R4.askR, pu_R4.askP, pu_RR.fault, pu_RR.r]
      rw [upd2_other _ _ _ (by decide), ← hC3, upd2_other _ _ _ (by decide), upd2_other _ _ _ (by decide), ← hC2, upd2_other _ _ _ (by decide), upd2_other _ _ _ (by decide), ← hC1]
      by_cases z : i = k
      · rw [z, pu_upd2_at, if_pos rfl]
      · rw [pu_upd2_ne _ _ _ z, if_neg z, upd2_other _ _ _ (by decide)]; exact hR.many i hi
    · dsimp only [pu_R4.parts, pu_R4.many, pu_R4.askR, pu_R4.askP, pu_RR.fault, pu_RR.r]
      rw [upd2_other _ _ _ (by decide), ← hC3, upd2_other _ _ _ (by decide), upd2_other _ _ _ (by decide), ← hC2]
      by_cases z : i = k
      · rw [z, pu_upd2_at, if_pos rfl]
      · rw [pu_upd2_ne _ _ _ z, if_neg z, upd2_other _ _ _ (by decide), ← hC1, upd2_other _ _ _ (by decide), upd2_other _ _ _ (by decide)]; exact hR.askR i hi
    · dsimp only [pu_R4.parts, pu_R4.many, pu_R4.askR, pu_R4.askP, pu_RR.fault, pu_RR.r]
      rw [upd2_other _ _ _ (by decide), ← hC3]
      by_cases z : i = k
      · rw [z, pu_upd2_at, if_pos rfl]
      · rw [pu_upd2_ne _ _ _ z, if_neg z, upd2_other _ _ _ (by decide), ← hC2, upd2_other _ _ _ (by decide), upd2_other _ _ _ (by decide), ← hC1, upd2_other _ _ _ (by decide), upd2_other _ _ _ (by decide)]; exact hR.askP i hi
  · unfold cfR_part
    simp only [pu_lit, pu_lt_s]
    rw [f1, pu_bd2_s, pu_as_n hk (by omega), hC1, f2, pu_bd2_s, w1 _ (pu_rW_le ty b at_), pu_as_n hk (by omega), hC2, f3, pu_bd2_s, w1 _ (pu_rH_le ty b at_), pu_as_n hk (by omega), hC3, e8, pu_nI_add]
theorem pu_finR {C : St} {pl : Int32} : ∃ J, pu_F1 C J ∧ pu_CR J pu_r0 ∧ cfT_fin 1 pl C = some (pl, J) := by
  obtain ⟨J, a1, a2, a3, a4⟩ := pu_clearsC_n C
  refine ⟨J, a1, a2, ?_⟩
  unfold cfT_fin cfT_cl
  rw [if_neg (by omega), a4, pu_bd_s]
theorem pu_nxR_n {ty : Nat} {b : Nat → Nat} : ∀ c f, c ≤ f → ∀ at_ r C, pu_CT C 1 ty b at_ → at_ ≤ ty → ty < at_ + 3 * c → pu_CR C r →
    ∃ J, pu_F1 C J ∧ pu_CR J (pu_rRun ty b c at_ r).r ∧ cfT_nxo 1 C (cfT_rl 1 f) = some (pu_fI (pu_rRun ty b c at_ r).fault, J) := by
  intro c
  induction c with
  | zero => intro f _ at_ r C _ h1 h2; omega
  | succ c ih =>
    intro f hf at_ r C hT hat hfu hR
    have h80 := hT.le
    have hkd := pu_kd_le (pu_bt ty b at_)
    have flt : ∀ k J', pu_F1 C J' → cfT_nxx 1 C = some (nI k, J') → ∃ J, pu_F1 C J ∧ pu_CR J pu_r0 ∧ cfT_nxo 1 C (cfT_rl 1 f) = some (pu_fI (k + 1), J) := by
      intro k J' hF hx
      obtain ⟨J, j1, j2, j3⟩ := pu_finR (C := J') (pl := nI k)
      refine ⟨J, hF.trans j1, j2, ?_⟩
      unfold cfT_nxo
      rw [hx, pu_bd2_s, j3, pu_fI_s]
      rfl
    have hx0 : cfT_nxx 1 C = if pu_kdS (pu_bt ty b at_) = 0 then some (nI at_, C) else cfT_figure_x 1 (nI 0) (nI 4) (upd2 C 41 2 (nI (at_ + 1))) := by
      unfold cfT_nxx cfT_hr cfT_hasRoom cfT_ptx cfR_part_x
      simp only [pu_lit, pu_lt_s]
      rw [pu_gd_t (by omega), pu_here_n hT hat, pu_bd_s, pu_kdOf_n, pu_fI_m1 (by omega), if_neg (show ¬ (1 : Nat) = 0 by omega), pu_bd_s, if_neg pu_n10, show C (40 + 1) 2 = nI at_ from hT.p, pu_nI_add, if_neg (show ¬ (1 : Nat) = 0 by omega)]
    have hn0 : pu_kdS (pu_bt ty b at_) ≠ 0 → cfT_nx 1 C = cfR_part (pu_fI (pu_kdS (pu_bt ty b at_))) (upd2 C 41 2 (nI (at_ + 1))) := by
      intro hk
      unfold cfT_nx cfT_hr cfT_hasRoom cfT_pt
      simp only [pu_lit, pu_lt_s]
      rw [pu_gd_t (by omega), pu_here_n hT hat, pu_bd_s, pu_kdOf_n, pu_fI_m1 (by omega), if_neg hk, if_neg (show ¬ (1 : Nat) = 0 by omega), pu_bd_s, if_neg pu_n10, show C (40 + 1) 2 = nI at_ from hT.p, pu_nI_add, if_neg (show ¬ (1 : Nat) = 0 by omega)]
    have T1 : pu_CT (upd2 C 41 2 (nI (at_ + 1))) 1 ty b (at_ + 1) := hT.mv
    unfold pu_rRun
    by_cases q1 : pu_kdS (pu_bt ty b at_) = 0
    · rw [if_pos q1] at hx0 ⊢
      exact flt at_ C (pu_F1.refl C) hx0
    · rw [if_neg q1] at hx0 ⊢
      have p0 : at_ < ty := by
        by_cases z : at_ < ty
        · exact z
        · exfalso; apply q1; rw [pu_bt_x (by omega)]; rfl
      have fx := (pu_figure_n (lo := 0) (hi := 4) T1 (by omega) (by omega) (by omega)).2
      by_cases q2 : 48 ≤ pu_bt ty b (at_ + 1) ∧ pu_bt ty b (at_ + 1) ≤ 52
      · rw [if_neg (not_not_intro q2)]
        have c1 : 0 + 48 ≤ pu_bt ty b (at_ + 1) ∧ pu_bt ty b (at_ + 1) ≤ 4 + 48 := by omega
        rw [if_pos c1] at fx
        have p1 : at_ + 1 < ty := pu_bt_lt (b := b) rfl (by omega)
        have hE := pu_rE_le (b := b) (at_ := at_) (ty := ty) (by omega)
        have F1' : pu_F1 C (upd2 C 41 2 (nI (at_ + 1))) := (pu_F1.refl C).at_ (by omega)
        have ek : pu_fI (pu_kdS (pu_bt ty b at_)) = nI (pu_kdS (pu_bt ty b at_) - 1) := by
          rw [← pu_fI_s]
          congr 1
          omega
        obtain ⟨J, a1, a2, a3, a4⟩ := pu_rpartC (k := pu_kdS (pu_bt ty b at_) - 1) (r := r) T1 ⟨by rw [pu_upd2_ne _ _ _ (by decide)]; exact hR.parts, fun k hk => by rw [upd2_other _ _ _ (by decide)]; exact hR.many k hk, fun k hk => by rw [upd2_other _ _ _ (by decide)]; exact hR.askR k hk, fun k hk => by rw [upd2_other _ _ _ (by decide)]; exact hR.askP k hk⟩ (by omega) p0 q2
        have hnxo : cfT_nxo 1 C (cfT_rl 1 f) = cfT_rl 1 f J := by
          unfold cfT_nxo
          rw [hx0, fx, hn0 q1, ek, a4, pu_bd_s]
          rfl
        rw [hnxo]
        obtain ⟨f, rfl⟩ : ∃ k, f = k + 1 := ⟨f - 1, by omega⟩
        have hF := F1'.trans a1
        generalize hpos : pu_rE ty b at_ = pos at a2 hE
        have hps : at_ + 2 ≤ pos := by rw [← hpos]; unfold pu_rE; omega
        unfold cfT_rl
        simp only [pu_lit]
        rw [show J (40 + 1) 1 = nI ty from a2.t, show J (40 + 1) 2 = nI pos from a2.p]
        by_cases z1 : pos = ty
        · rw [pu_ile_t (by omega) (by omega), if_pos z1]
          exact ⟨J, hF, a3, rfl⟩
        · have hps := pu_passes_n (x := 59) a2 hE.2 (by omega)
          rw [pu_ile_f (by omega) (by omega), if_neg z1, hps, pu_bd2_s, pu_bI0]
          by_cases z2 : pu_bt ty b pos = 59
          · rw [if_neg (not_not_intro z2), if_pos (decide_eq_true z2), if_pos z2]
            obtain ⟨J2, c1, c2, c3⟩ := ih f (by omega) (pos + 1) (pu_setR r (pu_kdS (pu_bt ty b at_) - 1) (pu_bt ty b (at_ + 1) - 48) (pu_rW ty b at_) (pu_rH ty b at_)) (upd2 J (40 + 1) 2 (nI (pos + 1))) a2.mv (by omega) (by omega) ⟨by rw [pu_upd2_ne _ _ _ (by decide)]; exact a3.parts, fun k hk => by rw [upd2_other _ _ _ (by decide)]; exact a3.many k hk, fun k hk => by rw [upd2_other _ _ _ (by decide)]; exact a3.askR k hk, fun k hk => by rw [upd2_other _ _ _ (by decide)]; exact a3.askP k hk⟩
            exact ⟨J2, (hF.at_ (by omega)).trans c1, c2, c3⟩
          · rw [if_pos z2, if_neg (by rw [decide_eq_false z2]; simp), if_neg z2]
            obtain ⟨J2, j1, j2, j3⟩ := pu_finR (C := upd2 J 41 2 (nI (pos + 0))) (pl := nI pos)
            refine ⟨J2, (hF.at_ (by omega)).trans j1, j2, ?_⟩
            show cfT_fin 1 (upd2 J 41 2 (nI (pos + 0)) 41 2) _ = _
            rw [pu_upd2_at, Nat.add_zero, pu_fI_s]
            exact j3
      · rw [if_pos q2]
        have c1 : ¬ (0 + 48 ≤ pu_bt ty b (at_ + 1) ∧ pu_bt ty b (at_ + 1) ≤ 4 + 48) := by omega
        rw [if_neg c1] at fx
        exact flt (at_ + 1) _ ((pu_F1.refl C).at_ (by omega)) (hx0.trans fx)
theorem pu_readsR_n {C : St} {ty p : Nat} {b : Nat → Nat} (hT : pu_CT C 1 ty b p) : ∃ J, pu_F1 C J ∧ pu_CR J (pu_rTop ty b).r ∧ cfT_reads 1 C = some (pu_fI (pu_rTop ty b).fault, J) := by
  have h80 := hT.le
  obtain ⟨J0, a1, a2, a3, a4⟩ := pu_clearsC_n (upd2 C 41 2 (nI 0))
  have FJ : pu_F1 C J0 := ((pu_F1.refl C).at_ (by omega)).trans a1
  have T0 : pu_CT J0 1 ty b 0 := FJ.t hT (by rw [a3, pu_upd2_at])
  unfold cfT_reads cfT_cl pu_rTop
  simp only [pu_lit, pu_lt_s]
  rw [pu_gd_t (by omega), if_neg (show ¬ (1 : Nat) = 0 by omega), show cfR_clears (upd2 C (40 + 1) 2 (nI 0)) = _ from a4, pu_bd_s, show J0 (40 + 1) 1 = nI ty from T0.t]
  by_cases z : ty = 0
  · rw [if_pos z, pu_ile_t (by omega) (by omega)]
    refine ⟨_, FJ, a2, ?_⟩
    show cfT_rl 1 45 _ = _
    unfold cfT_rl
    rw [show J0 (40 + 1) 1 = nI ty from T0.t, show J0 (40 + 1) 2 = nI 0 from T0.p, pu_ile_t (by omega) (by omega)]
    rfl
  · rw [if_neg z, pu_ile_f (by omega) (by omega)]
    obtain ⟨J, b1, b2, b3⟩ := pu_nxR_n (ty := ty) (b := b) 40 RFU (by decide) 0 pu_r0 _ T0 (by omega) (by omega) a2
    exact ⟨J, FJ.trans b1, b2, b3⟩
/-! PURE: crowds, likeness -/
def pu_askedS (V : pu_Vw) (p h : Nat) : Nat := pu_fo V.n (fun d a => a + if (pu_canS V d h && (pu_comeS V d h).testBit p) = true then 1 else 0) 0
theorem pu_askedS_le {V : pu_Vw} (o : pu_VOk V) (p h : Nat) : pu_askedS V p h ≤ 8 := by
  have h8 := o.n8
  have : pu_askedS V p h ≤ V.n := by
    unfold pu_askedS
    refine pu_fo_P (N := V.n) (fun i a => a ≤ i) (by omega) (fun i a hi h => ?_) V.n (Nat.le_refl _)
    split <;> omega
  omega
theorem pu_asked_n {I : St} {V : pu_Vw} {p x : Nat} (h : pu_MV I V) (o : pu_VOk V) (hp : p < 8) (hx : x < 8) : mo_askedOf I (nI p) (nI x) = some (nI (pu_askedS V p x)) := by
  have h8 := o.n8
  unfold mo_askedOf mo_askedOf_l5
  refine pu_lp_for (call := fun (t : Int32 → Int32 → Int32 → Int32 → Option Int32) i a => t (nI p) (nI x) (nI a) (nI i)) (P := fun _ _ => True) (f := fun d a => a + if (pu_canS V d x && (pu_comeS V d x).testBit p) = true then 1 else 0) (K := fun a => some (nI a)) V.n ?_ ?_ (fun _ _ _ _ => trivial) (a := 0) trivial FU (by rw [pu_FU_e]; omega)
  · intro t a _
    unfold mo_askedOf_b5
    rw [h.n, pu_ile_t (by omega) (by omega)]
  · intro t i a hi _
    have hl := pu_comeS_lt V i x
    unfold mo_askedOf_b5 mo_askedOf_b45
    simp only [pu_lit, pu_lt_s]
    rw [h.n, pu_ile_f (by omega) (by omega), pu_comes_n h o hi hx, pu_bd_s, pu_oN_3, pu_nI_add, pu_nI_add, pu_nI_add]
    by_cases q : pu_canS V i x = true
    · rw [if_pos q, pu_oN_some q, pu_isIn_n (by omega) (by omega), pu_bd_s, pu_bI0, q]
      cases (pu_comeS V i x).testBit p <;> rfl
    · rw [if_neg q, Bool.eq_false_iff.mpr q]; rfl
theorem pu_askedC_n {C : St} {V : pu_Vw} {p x : Nat} (h : pu_CV C V) (o : pu_VOk V) (hp : p < 8) (hx : x < 8) : cf_askedOf C (nI p) (nI x) = some (nI (pu_askedS V p x)) := by
  have h8 := o.n8
  unfold cf_askedOf cf_askedOf_l5
  refine pu_lp_for (call := fun (t : Int32 → Int32 → Int32 → Int32 → Option Int32) i a => t (nI p) (nI x) (nI a) (nI i)) (P := fun _ _ => True) (f := fun d a => a + if (pu_canS V d x && (pu_comeS V d x).testBit p) = true then 1 else 0) (K := fun a => some (nI a)) V.n ?_ ?_ (fun _ _ _ _ => trivial) (a := 0) trivial FU (by rw [pu_FU_e]; omega)
  · intro t a _
    unfold cf_askedOf_b5 cf_askedOf_b11
    rw [pu_deeds_n h, pu_bd_s, pu_ile_t (by omega) (by omega)]
  · intro t i a hi _
    have hl := pu_comeS_lt V i x
    unfold cf_askedOf_b5 cf_askedOf_b11 cf_askedOf_b52
    simp only [pu_lit, pu_lt_s]
    rw [pu_deeds_n h, pu_bd_s, pu_ile_f (by omega) (by omega), pu_deed2_n h o hi, pu_bd_s, pu_canBe_n h o hi hx, pu_bd_s, pu_bI0, pu_bd_s, pu_comersC_n h o hi hx, pu_bd_s, pu_isInC_n (by omega) (by omega), pu_bd_s, pu_bI0, pu_nI_add, pu_nI_add, pu_nI_add]
    cases pu_canS V i x <;> cases (pu_comeS V i x).testBit p <;> rfl
def pu_crowd1 (V : pu_Vw) (code : Nat) (a : Option Nat × Nat) : Option Nat × Nat := if a.2 < pu_askedS V (code / 8) (code % 8) then (some code, pu_askedS V (code / 8) (code % 8)) else a
def pu_crowdS (V : pu_Vw) (k : Nat) : Option Nat × Nat := pu_fo k (pu_crowd1 V) (none, 0)
theorem pu_crowdS_P {V : pu_Vw} (o : pu_VOk V) (k : Nat) (hk : k ≤ 64) : (pu_crowdS V k).2 ≤ 8 ∧ ∀ c, (pu_crowdS V k).1 = some c → c < 64 := by
  refine pu_fo_P (N := 64) (fun i (a : Option Nat × Nat) => a.2 ≤ 8 ∧ ∀ c, a.1 = some c → c < 64) ⟨by omega, by simp⟩ (fun i a hi h => ?_) k hk
  unfold pu_crowd1
  split
  · exact ⟨pu_askedS_le o _ _, fun c hc => by cases hc; exact hi⟩
  · exact h
theorem pu_div8 {c : Nat} (h : c < 64) : nI c / nI 8 = nI (c / 8) ∧ nI c - nI (c / 8) * nI 8 = nI (c % 8) := by
  have : ∀ c, c < 64 → nI c / nI 8 = nI (c / 8) ∧ nI c - nI (c / 8) * nI 8 = nI (c % 8) := by decide +kernel
  exact this c h
/-- what is told of a crowd -/
def pu_crowdR (a : Option Nat × Nat) (what : Nat) : Int32 := if what = 2 then nI a.2 else match a.1 with
  | none => -nI 1
  | some c => if what = 0 then nI (c / 8) else nI (c % 8)
theorem pu_crowd_n {I : St} {V : pu_Vw} {what : Nat} (h : pu_MV I V) (o : pu_VOk V) (hw : what < 3) : mo_crowdOf_l11 FU (nI what) (-nI 1) (nI 0) (nI 0) I = some (pu_crowdR (pu_crowdS V 64) what, I) := by
  refine (pu_lp_for (T := Int32 → Int32 → Int32 → Int32 → St → Option (Int32 × St)) (dead := fun _ _ _ _ _ => none) (b := mo_crowdOf_b11) (call := fun t i (_ : Unit) => t (nI what) (pu_oI (pu_crowdS V i).1) (nI (pu_crowdS V i).2) (nI i) I) (P := fun _ _ => True) (f := fun _ a => a) (K := fun _ => some (pu_crowdR (pu_crowdS V 64) what, I)) 64 ?_ ?_ (fun _ _ _ _ => trivial) (a := ()) trivial FU (by decide))
  · intro t _ _
    have hP := pu_crowdS_P o 64 (by omega)
    revert hP
    generalize pu_crowdS V 64 = a
    intro hP
    unfold mo_crowdOf_b11 pu_crowdR
    simp only [pu_lit]
    rw [pu_ile_t (by omega) (by omega), pu_oI_m1 (fun p hp => by have := hP.2 p hp; omega)]
    by_cases q : what = 2
    · rw [pu_ieq_t q, if_pos q]
    · rw [pu_ieq_f q (by omega) (by omega), if_neg q]
      cases e : a.1 with
      | none => rw [if_pos rfl]
      | some c =>
        have hc := hP.2 c e
        rw [if_neg (by simp)]
        show (if nI what = nI 0 then some (nI c / nI 8, I) else some (nI c - nI c / nI 8 * nI 8, I)) = _
        rw [(pu_div8 hc).1, (pu_div8 hc).2]
        by_cases q2 : what = 0
        · rw [pu_ieq_t q2]; simp [q2]
        · rw [pu_ieq_f q2 (by omega) (by omega)]; simp [q2]
  · intro t i _ hi _
    have hP := pu_crowdS_P o i (by omega)
    have hA := pu_askedS_le o (i / 8) (i % 8)
    have e : pu_crowdS V (i + 1) = pu_crowd1 V i (pu_crowdS V i) := rfl
    rw [e]
    revert hP
    generalize pu_crowdS V i = a
    intro hP
    unfold mo_crowdOf_b11 mo_crowdOf_b46 mo_crowdOf_b59 pu_crowd1
    simp only [pu_lit]
    rw [pu_ile_f (by omega) (by omega), (pu_div8 hi).1, (pu_div8 hi).2, pu_asked_n h o (by omega) (by omega), pu_bd_s, pu_nI_add]
    by_cases q : a.2 < pu_askedS V (i / 8) (i % 8)
    · rw [pu_ile_f q (by omega), pu_ile_f q (by omega), if_pos q]
      rfl
    · rw [pu_ile_t (by omega) (by omega), pu_ile_t (by omega) (by omega), if_neg q]
def pu_oI8 (a : Option Nat) : Int32 := match a with
  | none => -nI 1
  | some c => nI (c / 8)
def pu_oIm (a : Option Nat) : Int32 := match a with
  | none => -nI 1
  | some c => nI (c % 8)
theorem pu_crowdC_n {C : St} {V : pu_Vw} {what : Nat} (h : pu_CV C V) (o : pu_VOk V) (hw : what < 3) : cf_crowdOf C (nI what) = some (pu_crowdR (pu_crowdS V 64) what) := by
  unfold cf_crowdOf
  refine (pu_lp_for (T := Int32 → Int32 → Int32 → Int32 → Int32 → Option Int32) (dead := fun _ _ _ _ _ => none) (b := cf_crowdOf_b10 C) (call := fun t i (_ : Unit) => t (nI what) (pu_oI8 (pu_crowdS V (8 * i)).1) (pu_oIm (pu_crowdS V (8 * i)).1) (nI (pu_crowdS V (8 * i)).2) (nI i)) (P := fun _ _ => True) (f := fun _ a => a) (K := fun _ => some (pu_crowdR (pu_crowdS V 64) what)) 8 ?_ ?_ (fun _ _ _ _ => trivial) (a := ()) trivial FU (by decide))
  · intro t _ _
    unfold cf_crowdOf_b10 pu_crowdR
    simp only [pu_lit]
    rw [pu_ile_t (by omega) (by omega)]
    generalize pu_crowdS V (8 * 8) = a
    by_cases q0 : what = 0
    · rw [pu_ieq_t q0, if_neg (by omega)]
      unfold pu_oI8
      cases a.1 with
      | none => rfl
      | some c => simp [q0]
    · rw [pu_ieq_f q0 (by omega) (by omega)]
      by_cases q1 : what = 1
      · rw [pu_ieq_t q1, if_neg (by omega)]
        unfold pu_oIm
        cases a.1 with
        | none => rfl
        | some c => simp [q0]
      · rw [pu_ieq_f q1 (by omega) (by omega), if_pos (by omega)]
  · intro t p _ hp _
    unfold cf_crowdOf_b10
    simp only [pu_lit]
    rw [pu_ile_f (by omega) (by omega)]
    refine (pu_lp_for (T := Int32 → Int32 → Int32 → Int32 → Int32 → Int32 → Option Int32) (dead := fun _ _ _ _ _ _ => none) (b := cf_crowdOf_b20 C t) (call := fun u i (_ : Unit) => u (nI what) (pu_oI8 (pu_crowdS V (8 * p + i)).1) (pu_oIm (pu_crowdS V (8 * p + i)).1) (nI (pu_crowdS V (8 * p + i)).2) (nI p) (nI i)) (P := fun _ _ => True) (f := fun _ a => a) (K := fun _ => t (nI what) (pu_oI8 (pu_crowdS V (8 * (p + 1))).1) (pu_oIm (pu_crowdS V (8 * (p + 1))).1) (nI (pu_crowdS V (8 * (p + 1))).2) (nI (p + 1))) 8 ?_ ?_ (fun _ _ _ _ => trivial) (a := ()) trivial FU (by decide))
    · intro u _ _
      unfold cf_crowdOf_b20
      simp only [pu_lit]
      rw [pu_ile_t (by omega) (by omega), pu_nI_add, show 8 * p + 8 = 8 * (p + 1) by omega]
    · intro u i _ hi _
      have hP := pu_crowdS_P o (8 * p + i) (by omega)
      have e : pu_crowdS V (8 * p + (i + 1)) = pu_crowd1 V (8 * p + i) (pu_crowdS V (8 * p + i)) := rfl
      have e1 : (8 * p + i) / 8 = p := by omega
      have e2 : (8 * p + i) % 8 = i := by omega
      have hA := pu_askedS_le o p i
      rw [e]
      revert hP
      generalize pu_crowdS V (8 * p + i) = a
      intro hP
      unfold cf_crowdOf_b20 cf_crowdOf_b35 cf_crowdOf_b56 pu_crowd1
      simp only [pu_lit]
      rw [pu_ile_f (by omega) (by omega), pu_askedC_n h o hp hi, pu_bd_s, pu_bd_s, pu_nI_add, e1, e2]
      by_cases q : a.2 < pu_askedS V p i
      · rw [pu_ile_f q (by omega), if_pos q]
        unfold pu_oI8 pu_oIm
        dsimp only
        rw [e1, e2]
      · rw [pu_ile_t (by omega) (by omega), if_neg q]
theorem pu_pc_pos {b : Nat} (h1 : 0 < b) (h2 : b < 256) : 0 < pu_pc b ∧ pu_pc b ≤ 8 := by
  have : ∀ b, b < 256 → 0 < b → 0 < pu_pc b ∧ pu_pc b ≤ 8 := by decide +kernel
  exact this b h2 h1
theorem pu_div_n {a b : Nat} (ha : a ≤ 4) (h1 : 0 < b) (h2 : b ≤ 8) : nI (3 * a) / nI b = nI (3 * a / b) := by
  have : ∀ a, a < 5 → ∀ b, b < 9 → 0 < b → nI (3 * a) / nI b = nI (3 * a / b) := by decide +kernel
  exact this a (by omega) b (by omega) h1
def pu_likeN (V : pu_Vw) (d h : Nat) : Nat := (if V.askP (V.kind d) = 1 then 4 else 0) + (if V.askR (V.kind d) = 1 ∨ V.rain h = V.wet d then 3 else 0) + 3 * pu_needS V d / pu_pc (V.who d)
def pu_likeS (V : pu_Vw) (d h : Nat) : Int32 := if pu_canS V d h = true then nI (pu_likeN V d h) else -nI 3
theorem pu_canS_pc {V : pu_Vw} {d h : Nat} (q : pu_canS V d h = true) : pu_pc (pu_comeS V d h) = pu_needS V d := by
  unfold pu_canS at q
  simp only [Bool.and_eq_true, decide_eq_true_eq] at q
  exact q.1
theorem pu_likeN_le {V : pu_Vw} {d h : Nat} (o : pu_VOk V) (hd : d < V.n) : pu_likeN V d h ≤ 19 := by
  have h1 := pu_needS_le o hd
  have h2 := pu_pc_pos (o.who0 d hd) (o.who d hd)
  unfold pu_likeN
  have h3 : 3 * pu_needS V d / pu_pc (V.who d) ≤ 12 := Nat.le_trans (Nat.div_le_self _ _) (by omega)
  split <;> split <;> omega
theorem pu_like_n {I : St} {V : pu_Vw} {d x : Nat} (h : pu_MV I V) (o : pu_VOk V) (hd : d < V.n) (hx : x < 8) : mo_likenessOf I (nI d) (nI x) = some (pu_likeS V d x) := by
  have h8 := o.n8
  have hk := o.kind d hd
  have hl := pu_comeS_lt V d x
  have hp := pu_pc_pos (o.who0 d hd) (o.who d hd)
  have hwho := o.who d hd
  have hn := pu_needS_le o hd
  have a1 := o.askP _ hk
  have a2 := o.rain x hx
  have a3 := o.wet d hd
  unfold mo_likenessOf pu_likeS
  simp only [pu_lit]
  rw [pu_comes_n h o hd hx, pu_bd_s, pu_oN_3]
  by_cases q : pu_canS V d x = true
  · have e77 : ∀ u v : Nat, mo_likenessOf_b77 I (nI d) (nI (pu_comeS V d x)) (nI u) (nI v) = some (nI (v + u + 3 * pu_needS V d / pu_pc (V.who d))) := by
      intro u v
      unfold mo_likenessOf_b77
      simp only [pu_lit]
      rw [pu_ones_n (by omega), pu_bd_s, pu_al_n (by omega) (by omega), h.who d hd, pu_ones_n (by omega), pu_bd_s, pu_ieq_f (by omega) (by omega) (by omega), pu_canS_pc q, pu_nI_mul, pu_div_n hn hp.1 hp.2, pu_nI_add, pu_nI_add]
    have e45 : ∀ b : Bool, mo_likenessOf_b45 I (nI d) (nI (pu_comeS V d x)) (pu_bI b) = some (nI ((if V.askP (V.kind d) = 1 then 4 else 0) + (if b = true then 3 else 0) + 3 * pu_needS V d / pu_pc (V.who d))) := by
      intro b
      unfold mo_likenessOf_b45 mo_likenessOf_b67
      simp only [pu_lit]
      rw [pu_al_n (by omega) (by omega), h.kind d hd, pu_al_n hk (by omega), h.askP _ hk, pu_bI0, pu_bI0, e77, e77, e77, e77]
      by_cases z : V.askP (V.kind d) = 1
      · rw [pu_ieq_t z, if_pos z]; cases b <;> rfl
      · rw [pu_ieq_f z (by omega) (by omega), if_neg z]; cases b <;> rfl
    rw [if_pos q, if_pos q, pu_al_n hx (by omega), h.rain x hx, pu_al_n (by omega) (by omega), h.wet d hd, pu_oN_some q, pu_turned_n h o hd hx, pu_bd_s, pu_bI0, show nI 0 = pu_bI false from rfl, show nI 1 = pu_bI true from rfl, e45, e45]
    unfold pu_likeN pu_turnS
    by_cases z1 : V.rain x = V.wet d
    · rw [pu_ieq_t z1, if_pos (Or.inr z1)]; rfl
    · rw [pu_ieq_f z1 (by omega) (by omega)]
      by_cases z2 : V.askR (V.kind d) = 1
      · rw [if_pos (Or.inl z2)]; simp [z1, z2]
      · rw [if_neg (show ¬ (V.askR (V.kind d) = 1 ∨ V.rain x = V.wet d) by omega)]; simp [z1, z2]
  · rw [if_neg q, if_neg q]
theorem pu_likeC_n {C : St} {V : pu_Vw} {d x : Nat} (h : pu_CV C V) (o : pu_VOk V) (hd : d < V.n) (hx : x < 8) : cf_likenessOf C (nI d) (nI x) = some (pu_likeS V d x) := by
  have h8 := o.n8
  have hk := o.kind d hd
  have hp := pu_pc_pos (o.who0 d hd) (o.who d hd)
  have hwho := o.who d hd
  have hn := pu_needS_le o hd
  have a2 := o.rain x hx
  have a3 := o.wet d hd
  unfold cf_likenessOf pu_likeS
  simp only [pu_lit]
  rw [pu_deed2_n h o hd, pu_bd_s, pu_canBe_n h o hd hx, pu_bd_s, pu_bI0]
  have e69 : ∀ u v : Nat, cf_likenessOf_b69 C d (nI u) (nI v) = some (nI (v + u + 3 * pu_needS V d / pu_pc (V.who d))) := by
    intro u v
    unfold cf_likenessOf_b69
    simp only [pu_lit]
    rw [pu_needed_n h o hd, pu_bd_s, h.nn o, pu_fx_n hd, h.who d hd, pu_bitCount_n (by omega), pu_bd_s, pu_ieq_f (by omega) (by omega) (by omega), pu_nI_mul, pu_div_n hn hp.1 hp.2, pu_nI_add, pu_nI_add]
  have e44 : ∀ b : Bool, cf_likenessOf_b44 C d (pu_bI b) = some (nI ((if V.askP (V.kind d) = 1 then 4 else 0) + (if b = true then 3 else 0) + 3 * pu_needS V d / pu_pc (V.who d))) := by
    intro b
    unfold cf_likenessOf_b44 cf_likenessOf_b59
    simp only [pu_lit]
    rw [pu_asksP_n h o hd, pu_bd_s, pu_bI0, pu_bI0, pu_bI0, e69, e69, e69, e69]
    by_cases z : V.askP (V.kind d) = 1
    · rw [decide_eq_true z, if_pos z]; cases b <;> rfl
    · rw [decide_eq_false z, if_neg z]; cases b <;> rfl
  rw [pu_asksW_n h o hd, pu_bd_s, pu_bI0, pu_al_n hx (by omega), h.rain x hx, h.nn o, pu_fx_n hd, h.wet d hd, show nI 0 = pu_bI false from rfl, show nI 1 = pu_bI true from rfl, e44, e44]
  unfold pu_likeN
  by_cases q : pu_canS V d x = true
  · rw [if_pos q, if_pos q]
    by_cases z2 : V.askR (V.kind d) = 1
    · rw [if_pos (decide_eq_true z2), if_pos (Or.inl z2)]; rfl
    · rw [if_neg (by rw [decide_eq_false z2]; simp)]
      by_cases z1 : V.rain x = V.wet d
      · rw [pu_ieq_t z1, if_pos (Or.inr z1)]; rfl
      · rw [pu_ieq_f z1 (by omega) (by omega), if_neg (show ¬ (V.askR (V.kind d) = 1 ∨ V.rain x = V.wet d) by omega)]; rfl
  · rw [if_neg q, if_neg q]
/-! PURE: divisors, odds, regrets -/
def pu_lI (n : Nat) : Int64 := Int64.ofNat n
theorem pu_lI_toInt {n : Nat} (h : n < 9223372036854775808) : (pu_lI n).toInt = n := by
  unfold pu_lI
  rw [Int64.toInt_ofNat']
  exact Int.bmod_eq_of_le_mul_two (by have : Int64.size = 18446744073709551616 := rfl; omega) (by have : Int64.size = 18446744073709551616 := rfl; omega)
theorem pu_lI_inj {a b : Nat} (ha : a < 9223372036854775808) (hb : b < 9223372036854775808) : pu_lI a = pu_lI b ↔ a = b := by
  constructor
  · intro h
    have := congrArg Int64.toInt h
    rw [pu_lI_toInt ha, pu_lI_toInt hb] at this
    omega
  · rintro rfl; rfl
theorem pu_lI_mul (a b : Nat) : pu_lI a * pu_lI b = pu_lI (a * b) := (Int64.ofNat_mul a b).symm
theorem pu_lI_add (a b : Nat) : pu_lI a + pu_lI b = pu_lI (a + b) := (Int64.ofNat_add a b).symm
theorem pu_lI_sub {a b : Nat} (h : b ≤ a) : pu_lI a - pu_lI b = pu_lI (a - b) := by
  have : pu_lI a = pu_lI (a - b) + pu_lI b := by rw [pu_lI_add, Nat.sub_add_cancel h]
  rw [this, Int64.add_sub_cancel]
theorem pu_lI_div {a b : Nat} (ha : a < 9223372036854775808) (hb : b < 9223372036854775808) : pu_lI a / pu_lI b = pu_lI (a / b) := (Int64.ofNat_div ha hb).symm
theorem pu_lI_mod {a b : Nat} (ha : a < 9223372036854775808) (hb : b < 9223372036854775808) : pu_lI a - pu_lI a / pu_lI b * pu_lI b = pu_lI (a % b) := by
  rw [pu_lI_div ha hb, pu_lI_mul, pu_lI_sub (Nat.div_mul_le_self a b)]
  congr 1
  have := Nat.div_add_mod a b
  rw [Nat.mul_comm] at this
  omega
theorem pu_nI_64 {a : Nat} (h : a < 2147483648) : (nI a).toInt64 = pu_lI a := by
  apply Int64.toInt_inj.mp
  rw [Int32.toInt_toInt64, pu_nI_toInt h, pu_lI_toInt (by omega)]
theorem pu_lg_0 {b : Nat} (hb : b < 9223372036854775808) : (lg_cmp (pu_lI b) 0 = 0) ↔ b = 0 := by
  rw [lg_cmp_eq, show (0 : Int64) = pu_lI 0 from rfl, pu_lI_inj hb (by omega)]
theorem pu_half {a b : Nat} (h : 0 < a) (hb : a ≤ b) : 2 * (b % a) < b := by
  have h1 := Nat.mod_lt b h
  have h2 := Nat.div_add_mod b a
  have h3 : 1 ≤ b / a := (Nat.one_le_div_iff h).mpr hb
  have h4 : a * 1 ≤ a * (b / a) := Nat.mul_le_mul_left a h3
  omega
theorem pu_divisor_n : ∀ k n a b, 2 * k + 2 ≤ n → a < 4611686018427387904 → b < 2 ^ k → b < 4611686018427387904 → ∃ g, cf_divisor n (pu_lI a) (pu_lI b) = some (pu_lI g) ∧ g = Nat.gcd a b := by
  intro k
  induction k with
  | zero =>
    intro n a b hn ha hb _
    obtain ⟨n, rfl⟩ : ∃ m, n = m + 1 := ⟨n - 1, by omega⟩
    have : b = 0 := by omega
    subst this
    unfold cf_divisor
    rw [if_pos ((pu_lg_0 (by omega)).mpr rfl)]
    exact ⟨a, rfl, (Nat.gcd_zero_right a).symm⟩
  | succ k ih =>
    intro n a b hn ha hb hb2
    obtain ⟨n, rfl⟩ : ∃ m, n = m + 2 := ⟨n - 2, by omega⟩
    unfold cf_divisor
    by_cases q : b = 0
    · rw [if_pos ((pu_lg_0 (by omega)).mpr q)]
      subst q
      exact ⟨a, rfl, (Nat.gcd_zero_right a).symm⟩
    · rw [if_neg (fun z => q ((pu_lg_0 (by omega)).mp z)), pu_lI_mod (by omega) (by omega)]
      have hr := Nat.mod_lt a (show 0 < b by omega)
      unfold cf_divisor
      by_cases q2 : a % b = 0
      · rw [if_pos ((pu_lg_0 (by omega)).mpr q2)]
        refine ⟨b, rfl, ?_⟩
        rw [Nat.gcd_comm, Nat.gcd_rec, q2, Nat.gcd_zero_left]
      · rw [if_neg (fun z => q2 ((pu_lg_0 (by omega)).mp z)), pu_lI_mod (by omega) (by omega)]
        have h2 := pu_half (show 0 < a % b by omega) (Nat.le_of_lt hr)
        have h3 : 2 ^ (k + 1) = 2 * 2 ^ k := by rw [Nat.pow_succ, Nat.mul_comm]
        obtain ⟨g, e1, e2⟩ := ih n (a % b) (b % (a % b)) (by omega) (by omega) (by omega) (by omega)
        refine ⟨g, e1, ?_⟩
        rw [e2, Nat.gcd_comm (a % b), ← Nat.gcd_rec, ← Nat.gcd_rec, Nat.gcd_comm]
theorem pu_lowest_div : ∀ n a b g, cf_divisor n a b = some g → ∀ m, n ≤ m → ∀ (x0 x2 : Int64) (x4 : Int32), mo_lowest_l6 m x0 x2 x4 a b = if x4 = 0 then (if g = 0 then none else some (x0 / g)) else (if g = 0 then none else some (x2 / g))
  | 0, a, b, g, h, _, _, _, _, _ => by cases h
  | n + 1, a, b, g, h, m, hm, x0, x2, x4 => by
    obtain ⟨m, rfl⟩ : ∃ k, m = k + 1 := ⟨m - 1, by omega⟩
    unfold cf_divisor at h
    show mo_lowest_b6 (mo_lowest_l6 m) x0 x2 x4 a b = _
    unfold mo_lowest_b6
    by_cases q : lg_cmp b 0 = 0
    · rw [if_pos q] at h ⊢
      cases h
      rfl
    · rw [if_neg q] at h ⊢
      have : b ≠ 0 := fun z => q ((lg_cmp_eq b 0).mpr z)
      rw [if_neg this, pu_lt_s]
      exact pu_lowest_div n b _ g h m (by omega) x0 x2 x4
/-- a part in lowest terms -/
def pu_partS (a b what : Nat) : Int64 := pu_lI ((if what = 0 then a else b) / Nat.gcd a b)
theorem pu_part_n {a b what : Nat} (ha : a ≤ 4294967296) (hb : b ≤ 4294967296) (hp : 0 < b) (hw : what < 2) : cf_part (pu_lI a) (pu_lI b) (nI what) = some (pu_partS a b what) ∧ mo_lowest (pu_lI a) (pu_lI b) (nI what) = some (pu_partS a b what) := by
  obtain ⟨g, e1, e2⟩ := pu_divisor_n 33 100 a b (by omega) (by omega) (by omega) (by omega)
  have hg : 0 < g := by rw [e2]; exact Nat.gcd_pos_of_pos_right _ hp
  have hgb : g ≤ b := by rw [e2]; exact Nat.gcd_le_right _ hp
  have hg0 : ¬ pu_lI g = 0 := by
    rw [show (0 : Int64) = pu_lI 0 from rfl, pu_lI_inj (by omega) (by omega)]
    omega
  have e0 : (0 : Int32) = nI 0 := rfl
  have L := pu_lowest_div 100 _ _ _ e1 FU (by rw [pu_FU_e]; omega) (pu_lI a) (pu_lI b) (nI what)
  unfold cf_part cf_part_b10 cf_divisor100 mo_lowest pu_partS
  rw [L, e1, pu_bd_s, pu_bd_s, e0, if_neg hg0, if_neg hg0, pu_lI_div (by omega) (by omega), pu_lI_div (by omega) (by omega), ← e2]
  by_cases q : what = 0
  · rw [pu_ieq_t q, if_pos q]
    exact ⟨rfl, rfl⟩
  · rw [pu_ieq_f q (by omega) (by omega), if_neg q]
    exact ⟨rfl, rfl⟩
def pu_noS (x : Int32) : Int64 := -9223372036854775808 - x.toInt64
theorem pu_no_n (x : Int32) : mo_no x = some (pu_noS x) := rfl
theorem pu_noC_n (x : Int32) : cf_no x = some (pu_noS x) := rfl
def pu_odd1 (V : pu_Vw) (b p : Nat) (a : Nat × Nat) : Nat × Nat := if b.testBit p = true then (a.1 * (16 - V.mem p), a.2 * 16) else a
def pu_oddP (V : pu_Vw) (b : Nat) : Nat × Nat := pu_fo 8 (pu_odd1 V b) (1, 1)
theorem pu_oddP_P (V : pu_Vw) (b : Nat) : ∀ i, i ≤ 8 → (pu_fo i (pu_odd1 V b) (1, 1)).1 ≤ 16 ^ i ∧ (pu_fo i (pu_odd1 V b) (1, 1)).2 ≤ 16 ^ i ∧ 0 < (pu_fo i (pu_odd1 V b) (1, 1)).2 := by
  intro i hi
  refine pu_fo_P (N := 8) (fun i (a : Nat × Nat) => a.1 ≤ 16 ^ i ∧ a.2 ≤ 16 ^ i ∧ 0 < a.2) ⟨by decide, by decide, by decide⟩ (fun i a hi h => ?_) i hi
  have e : 16 ^ (i + 1) = 16 ^ i * 16 := Nat.pow_succ 16 i
  unfold pu_odd1
  split
  · dsimp only
    refine ⟨?_, by omega, by omega⟩
    rw [e]
    exact Nat.mul_le_mul h.1 (by omega)
  · rw [e]
    omega
def pu_oddB (V : pu_Vw) (d h : Nat) : Nat := if pu_likeN V d h < V.set 3 then pu_comeS V d h else 0
def pu_oddsS (V : pu_Vw) (d h what : Nat) : Int64 := if pu_canS V d h = true then pu_partS (pu_oddP V (pu_oddB V d h)).1 (pu_oddP V (pu_oddB V d h)).2 what else pu_noS (-nI 3)
theorem pu_odd_part {V : pu_Vw} {b what : Nat} (hw : what < 2) : cf_part (pu_lI (pu_oddP V b).1) (pu_lI (pu_oddP V b).2) (nI what) = some (pu_partS (pu_oddP V b).1 (pu_oddP V b).2 what) ∧ mo_lowest (pu_lI (pu_oddP V b).1) (pu_lI (pu_oddP V b).2) (nI what) = some (pu_partS (pu_oddP V b).1 (pu_oddP V b).2 what) := by
  have := pu_oddP_P V b 8 (by omega)
  exact pu_part_n this.1 this.2.1 this.2.2 hw
theorem pu_oddsC_n {C : St} {V : pu_Vw} {d x what : Nat} (h : pu_CV C V) (o : pu_VOk V) (hd : d < V.n) (hx : x < 8) (hw : what < 2) : cf_oddsOf C (nI d) (nI x) (nI what) = some (pu_oddsS V d x what) := by
  have hl := pu_comeS_lt V d x
  have hn := pu_likeN_le (h := x) o hd
  have h3 := o.set3
  have loop : ∀ b, b < 256 → cf_oddsOf_b54 C (nI what) 1 1 (nI b) = some (pu_partS (pu_oddP V b).1 (pu_oddP V b).2 what) := by
    intro b hb
    unfold cf_oddsOf_b54 cf_oddsOf_l59
    refine (pu_lp_for (T := Int32 → Int64 → Int64 → Int32 → Int32 → Option Int64) (call := fun t i (a : Nat × Nat) => t (nI what) (pu_lI a.1) (pu_lI a.2) (nI b) (nI i)) (P := fun _ _ => True) (f := pu_odd1 V b) (K := fun a => bd_ (cf_part (pu_lI a.1) (pu_lI a.2) (nI what)) fun v2 => some v2) 8 ?_ ?_ (fun _ _ _ _ => trivial) (a := (1, 1)) trivial FU (by decide)).trans ?_
    · intro t a _
      unfold cf_oddsOf_b59
      exact if_pos (by decide)
    · intro t i a hi _
      have hm := o.mem i hi
      unfold cf_oddsOf_b59 cf_oddsOf_b105 pu_odd1
      simp only [pu_lit, pu_lt_s]
      rw [pu_ile_f (by omega) (by omega), pu_isInC_n (by omega) (by omega), pu_bd_s, pu_bI0, pu_ix_n hi (by omega), pu_al_n (by omega) (by omega), h.mem i hi, pu_nI_sub hm, pu_nI_64 (by omega), pu_lI_mul, show (16 : Int64) = pu_lI 16 from rfl, pu_lI_mul, pu_nI_add]
      cases b.testBit i <;> rfl
    · show bd_ (cf_part (pu_lI (pu_oddP V b).1) (pu_lI (pu_oddP V b).2) (nI what)) _ = _
      rw [(pu_odd_part hw).1, pu_bd_s]
  unfold cf_oddsOf pu_oddsS pu_oddB
  simp only [pu_lit]
  rw [pu_deed2_n h o hd, pu_bd_s, pu_canBe_n h o hd hx, pu_bd_s, pu_bI0, pu_noC_n, pu_bd_s, pu_likeC_n h o hd hx, pu_bd_s, pu_al_n (by omega) (by omega), h.set 3 (by omega), pu_bd_s, pu_comersC_n h o hd hx, pu_bd_s, loop _ hl, loop 0 (by omega)]
  by_cases q : pu_canS V d x = true
  · rw [if_pos q, if_pos q]
    unfold pu_likeS
    rw [if_pos q]
    by_cases z : pu_likeN V d x < V.set 3
    · rw [pu_ilt_t z (by omega), if_pos z]
    · rw [pu_ilt_f (by omega) (by omega), if_neg z]
  · rw [if_neg q, if_neg q]
theorem pu_odds_n {I : St} {V : pu_Vw} {d x what : Nat} (h : pu_MV I V) (o : pu_VOk V) (hd : d < V.n) (hx : x < 8) (hw : what < 2) : mo_oddsOf I (nI d) (nI x) (nI what) = some (pu_oddsS V d x what) := by
  have hl := pu_comeS_lt V d x
  have hn := pu_likeN_le (h := x) o hd
  have h3 := o.set3
  unfold mo_oddsOf pu_oddsS
  simp only [pu_lit]
  rw [pu_like_n h o hd hx, pu_bd_s]
  by_cases q : pu_canS V d x = true
  · unfold pu_likeS
    rw [if_pos q, if_pos q, if_neg (pu_nI_m3 (by omega)), pu_comes_n h o hd hx, pu_bd_s, pu_oN_some q]
    unfold mo_oddsOf_l38
    have e : ∀ p a, pu_odd1 V (pu_oddB V d x) p a = if (pu_comeS V d x).testBit p = true then (if V.set 3 ≤ pu_likeN V d x then a else (a.1 * (16 - V.mem p), a.2 * 16)) else a := by
      intro p a
      unfold pu_odd1 pu_oddB
      by_cases z : pu_likeN V d x < V.set 3
      · rw [if_pos z]
        split
        · rw [if_neg (by omega)]
        · rfl
      · rw [if_neg z, Nat.zero_testBit]
        split
        · rename_i z2; cases z2
        · split
          · rw [if_pos (by omega)]
          · rfl
    refine (pu_lp_for (T := Int32 → Int32 → Int32 → Int64 → Int64 → Int32 → Option Int64) (call := fun t i (a : Nat × Nat) => t (nI what) (nI (pu_likeN V d x)) (nI (pu_comeS V d x)) (pu_lI a.1) (pu_lI a.2) (nI i)) (P := fun _ _ => True) (f := pu_odd1 V (pu_oddB V d x)) (K := fun a => bd_ (mo_lowest (pu_lI a.1) (pu_lI a.2) (nI what)) fun v2 => some v2) 8 ?_ ?_ (fun _ _ _ _ => trivial) (a := (1, 1)) trivial FU (by decide)).trans ?_
    · intro t a _
      unfold mo_oddsOf_b38
      exact if_pos (by decide)
    · intro t i a hi _
      have hm := o.mem i hi
      unfold mo_oddsOf_b38 mo_oddsOf_b90
      simp only [pu_lit, pu_lt_s]
      rw [e, pu_ile_f (by omega) (by omega), pu_isIn_n (by omega) (by omega), pu_bd_s, pu_bI0, pu_al_n (by omega) (by omega), h.set 3 (by omega), pu_al_n hi (by omega), h.mem i hi, pu_nI_sub hm, pu_nI_64 (by omega), pu_lI_mul, show (16 : Int64) = pu_lI 16 from rfl, pu_lI_mul, pu_nI_add]
      by_cases z : (pu_comeS V d x).testBit i = true
      · rw [if_pos z, if_pos z]
        by_cases z2 : V.set 3 ≤ pu_likeN V d x
        · rw [pu_ile_t z2 (by omega), if_pos z2]
        · rw [pu_ile_f (by omega) (by omega), if_neg z2]
      · rw [if_neg z, if_neg z]
    · show bd_ (mo_lowest (pu_lI (pu_oddP V (pu_oddB V d x)).1) (pu_lI (pu_oddP V (pu_oddB V d x)).2) (nI what)) _ = _
      rw [(pu_odd_part hw).2, pu_bd_s]
  · unfold pu_likeS
    rw [if_neg q, if_neg q, if_pos rfl, pu_no_n, pu_bd_s]
/-- how many ways to choose -/
def pu_chS : Nat → Nat → Nat
  | _, 0 => 1
  | 0, _ + 1 => 0
  | n + 1, k + 1 => pu_chS n k + pu_chS n (k + 1)
theorem pu_ch_n {n k : Nat} (hn : n ≤ 8) (hk : k ≤ 8) : mo_choose (nI n) (nI k) = some (pu_lI (pu_chS n k)) ∧ cf_choices (nI n) (nI k) = some (pu_lI (pu_chS n k)) ∧ pu_chS n k ≤ 70 ∧ (k ≤ n → 0 < pu_chS n k) := by
  have : ∀ n, n < 9 → ∀ k, k < 9 → mo_choose (nI n) (nI k) = some (pu_lI (pu_chS n k)) ∧ cf_choices (nI n) (nI k) = some (pu_lI (pu_chS n k)) ∧ pu_chS n k ≤ 70 ∧ (k ≤ n → 0 < pu_chS n k) := by decide +kernel
  exact this n (by omega) k (by omega)
def pu_neverS (V : pu_Vw) : Nat := pu_fo V.n (fun d a => a + if pu_hoursS V d = 0 then 1 else 0) 0
theorem pu_neverS_le (V : pu_Vw) : pu_neverS V ≤ V.n := by
  refine pu_fo_P (N := V.n) (fun i a => a ≤ i) (by omega) (fun i a hi h => ?_) V.n (Nat.le_refl _)
  split <;> omega
def pu_regretS (V : pu_Vw) (m what : Nat) : Int64 := if m ≤ V.n then pu_partS (pu_chS (pu_neverS V) m) (pu_chS V.n m) what else pu_noS (-nI 3)
theorem pu_hoursS_lt (V : pu_Vw) (d : Nat) : pu_hoursS V d < 256 := by
  refine pu_fo_P (N := 8) (fun i a => a < 256) (by omega) (fun i a hi h => ?_) 8 (by omega)
  split
  · exact pu_or_lt h hi
  · rw [Nat.or_zero]; exact h
theorem pu_regret_n {I : St} {V : pu_Vw} {m what : Nat} (h : pu_MV I V) (o : pu_VOk V) (hm : m ≤ 8) (hw : what < 2) : mo_regretsOf_l9 FU (nI m) (nI what) (nI 0) (nI 0) I = some (pu_regretS V m what, I) := by
  have h8 := o.n8
  have hv := pu_neverS_le V
  refine (pu_lp_for (T := Int32 → Int32 → Int32 → Int32 → St → Option (Int64 × St)) (call := fun t i a => t (nI m) (nI what) (nI a) (nI i) I) (P := fun _ _ => True) (f := fun d a => a + if pu_hoursS V d = 0 then 1 else 0) (K := fun a => if nI m ≤ nI V.n then (bd_ (mo_choose (nI a) (nI m)) fun v3 => bd_ (mo_choose (nI V.n) (nI m)) fun v4 => bd_ (mo_lowest v3 v4 (nI what)) fun v5 => some (v5, I)) else some (pu_noS (-nI 3), I)) V.n ?_ ?_ (fun _ _ _ _ => trivial) (a := 0) trivial FU (by rw [pu_FU_e]; omega)).trans ?_
  · intro t a _
    unfold mo_regretsOf_b9
    simp only [pu_lit]
    rw [h.n, pu_ile_t (by omega) (by omega), pu_no_n, pu_bd_s]
  · intro t i a hi _
    have := pu_hoursS_lt V i
    unfold mo_regretsOf_b9 mo_regretsOf_b33
    simp only [pu_lit, pu_lt_s]
    rw [h.n, pu_ile_f (by omega) (by omega), pu_hours_n h o hi, pu_bd_s, pu_nI_add, pu_nI_add, pu_nI_add]
    by_cases z : pu_hoursS V i = 0
    · rw [pu_ieq_t z, if_pos z]
    · rw [pu_ieq_f z (by omega) (by omega), if_neg z]
  · have c1 := pu_ch_n (n := pu_neverS V) (k := m) (by omega) hm
    have c2 := pu_ch_n (n := V.n) (k := m) (by omega) hm
    show (if nI m ≤ nI V.n then (bd_ (mo_choose (nI (pu_neverS V)) (nI m)) fun v3 => bd_ (mo_choose (nI V.n) (nI m)) fun v4 => bd_ (mo_lowest v3 v4 (nI what)) fun v5 => some (v5, I)) else some (pu_noS (-nI 3), I)) = _
    unfold pu_regretS
    rw [c1.1, pu_bd_s, c2.1, pu_bd_s]
    by_cases z : m ≤ V.n
    · rw [pu_ile_t z (by omega), if_pos z, (pu_part_n (by omega) (by omega) (c2.2.2.2 z) hw).2, pu_bd_s]
    · rw [pu_ile_f (by omega) (by omega), if_neg z]
theorem pu_regretC_n {C : St} {V : pu_Vw} {m what : Nat} (h : pu_CV C V) (o : pu_VOk V) (hm : m ≤ 8) (hw : what < 2) : cf_regretsOf C (nI m) (nI what) = some (pu_regretS V m what) := by
  have h8 := o.n8
  have hv := pu_neverS_le V
  unfold cf_regretsOf cf_regretsOf_l5
  refine (pu_lp_for (T := Int32 → Int32 → Int32 → Int32 → Option Int64) (call := fun t i a => t (nI m) (nI what) (nI a) (nI i)) (P := fun _ _ => True) (f := fun d a => a + if pu_hoursS V d = 0 then 1 else 0) (K := fun a => if nI m ≤ nI V.n then (bd_ (cf_choices (nI a) (nI m)) fun v3 => bd_ (cf_choices (nI V.n) (nI m)) fun v4 => bd_ (cf_part v3 v4 (nI what)) fun v5 => some v5) else some (pu_noS (-nI 3))) V.n ?_ ?_ (fun _ _ _ _ => trivial) (a := 0) trivial FU (by rw [pu_FU_e]; omega)).trans ?_
  · intro t a _
    unfold cf_regretsOf_b5 cf_regretsOf_b11
    simp only [pu_lit]
    rw [pu_deeds_n h, pu_bd_s, pu_ile_t (by omega) (by omega), pu_bd_s, pu_noC_n, pu_bd_s]
    rfl
  · intro t i a hi _
    have := pu_hoursS_lt V i
    unfold cf_regretsOf_b5 cf_regretsOf_b11 cf_regretsOf_b29
    simp only [pu_lit, pu_lt_s]
    rw [pu_deeds_n h, pu_bd_s, pu_ile_f (by omega) (by omega), pu_hoursC_n h o hi, pu_bd_s, pu_nI_add, pu_nI_add, pu_nI_add]
    by_cases z : pu_hoursS V i = 0
    · rw [pu_ieq_t z, if_pos z]
    · rw [pu_ieq_f z (by omega) (by omega), if_neg z]
  · have c1 := pu_ch_n (n := pu_neverS V) (k := m) (by omega) hm
    have c2 := pu_ch_n (n := V.n) (k := m) (by omega) hm
    show (if nI m ≤ nI V.n then (bd_ (cf_choices (nI (pu_neverS V)) (nI m)) fun v3 => bd_ (cf_choices (nI V.n) (nI m)) fun v4 => bd_ (cf_part v3 v4 (nI what)) fun v5 => some v5) else some (pu_noS (-nI 3))) = _
    unfold pu_regretS
    rw [c1.2.1, pu_bd_s, c2.2.1, pu_bd_s]
    by_cases z : m ≤ V.n
    · rw [pu_ile_t z (by omega), if_pos z, (pu_part_n (by omega) (by omega) (c2.2.2.2 z) hw).1, pu_bd_s]
    · rw [pu_ile_f (by omega) (by omega), if_neg z]
/-! PURE: sights, hats -/
abbrev pu_Ex : Type := Nat × (Nat → Nat) × (Nat → Nat) × (Nat → Nat) × Nat × (Nat → Nat) × (Nat → Nat)
abbrev pu_Ex.sn (x_ : pu_Ex) : Nat := x_.1
abbrev pu_Ex.sw (x_ : pu_Ex) : Nat → Nat := x_.2.1
abbrev pu_Ex.sp (x_ : pu_Ex) : Nat → Nat := x_.2.2.1
abbrev pu_Ex.sh (x_ : pu_Ex) : Nat → Nat := x_.2.2.2.1
abbrev pu_Ex.pn (x_ : pu_Ex) : Nat := x_.2.2.2.2.1
abbrev pu_Ex.pa (x_ : pu_Ex) : Nat → Nat := x_.2.2.2.2.2.1
abbrev pu_Ex.pb (x_ : pu_Ex) : Nat → Nat := x_.2.2.2.2.2.2
abbrev pu_EOk (E : pu_Ex) : Prop := E.sn ≤ 10 ∧ (∀ i, i < E.sn → E.sw i < 8) ∧ (∀ i, i < E.sn → E.sp i < 6) ∧ (∀ i, i < E.sn → E.sh i < 8) ∧ E.pn ≤ 10 ∧ (∀ i, i < E.pn → E.pa i < 8) ∧ (∀ i, i < E.pn → E.pb i < 8)
theorem pu_EOk.sn {E : pu_Ex} (h_ : pu_EOk E) : E.sn ≤ 10 := h_.1
theorem pu_EOk.sw {E : pu_Ex} (h_ : pu_EOk E) : ∀ i, i < E.sn → E.sw i < 8 := h_.2.1
theorem pu_EOk.sp {E : pu_Ex} (h_ : pu_EOk E) : ∀ i, i < E.sn → E.sp i < 6 := h_.2.2.1
theorem pu_EOk.sh {E : pu_Ex} (h_ : pu_EOk E) : ∀ i, i < E.sn → E.sh i < 8 := h_.2.2.2.1
theorem pu_EOk.pn {E : pu_Ex} (h_ : pu_EOk E) : E.pn ≤ 10 := h_.2.2.2.2.1
theorem pu_EOk.pa {E : pu_Ex} (h_ : pu_EOk E) : ∀ i, i < E.pn → E.pa i < 8 := h_.2.2.2.2.2.1
theorem pu_EOk.pb {E : pu_Ex} (h_ : pu_EOk E) : ∀ i, i < E.pn → E.pb i < 8 := h_.2.2.2.2.2.2
abbrev pu_ME (I : St) (E : pu_Ex) : Prop := I 26 0 = nI E.sn ∧ (∀ i, i < E.sn → I 27 i = nI (E.sw i)) ∧ (∀ i, i < E.sn → I 28 i = nI (E.sp i)) ∧ (∀ i, i < E.sn → I 29 i = nI (E.sh i)) ∧ I 30 0 = nI E.pn ∧ (∀ i, i < E.pn → I 31 i = nI (E.pa i)) ∧ (∀ i, i < E.pn → I 32 i = nI (E.pb i))
theorem pu_ME.sn {I : St} {E : pu_Ex} (h_ : pu_ME I E) : I 26 0 = nI E.sn := h_.1
theorem pu_ME.sw {I : St} {E : pu_Ex} (h_ : pu_ME I E) : ∀ i, i < E.sn → I 27 i = nI (E.sw i) := h_.2.1
theorem pu_ME.sp {I : St} {E : pu_Ex} (h_ : pu_ME I E) : ∀ i, i < E.sn → I 28 i = nI (E.sp i) := h_.2.2.1
theorem pu_ME.sh {I : St} {E : pu_Ex} (h_ : pu_ME I E) : ∀ i, i < E.sn → I 29 i = nI (E.sh i) := h_.2.2.2.1
theorem pu_ME.pn {I : St} {E : pu_Ex} (h_ : pu_ME I E) : I 30 0 = nI E.pn := h_.2.2.2.2.1
theorem pu_ME.pa {I : St} {E : pu_Ex} (h_ : pu_ME I E) : ∀ i, i < E.pn → I 31 i = nI (E.pa i) := h_.2.2.2.2.2.1
theorem pu_ME.pb {I : St} {E : pu_Ex} (h_ : pu_ME I E) : ∀ i, i < E.pn → I 32 i = nI (E.pb i) := h_.2.2.2.2.2.2
abbrev pu_CE (C : St) (E : pu_Ex) : Prop := C 51 2 = nI E.sn ∧ (∀ i, i < E.sn → C (200 + i) 0 = nI (E.sw i)) ∧ (∀ i, i < E.sn → C (200 + i) 1 = nI (E.sp i)) ∧ (∀ i, i < E.sn → C (200 + i) 2 = nI (E.sh i)) ∧ C 52 2 = nI E.pn ∧ (∀ i, i < E.pn → C (300 + i) 0 = nI (E.pa i)) ∧ (∀ i, i < E.pn → C (300 + i) 1 = nI (E.pb i))
theorem pu_CE.sn {C : St} {E : pu_Ex} (h_ : pu_CE C E) : C 51 2 = nI E.sn := h_.1
theorem pu_CE.sw {C : St} {E : pu_Ex} (h_ : pu_CE C E) : ∀ i, i < E.sn → C (200 + i) 0 = nI (E.sw i) := h_.2.1
theorem pu_CE.sp {C : St} {E : pu_Ex} (h_ : pu_CE C E) : ∀ i, i < E.sn → C (200 + i) 1 = nI (E.sp i) := h_.2.2.1
theorem pu_CE.sh {C : St} {E : pu_Ex} (h_ : pu_CE C E) : ∀ i, i < E.sn → C (200 + i) 2 = nI (E.sh i) := h_.2.2.2.1
theorem pu_CE.pn {C : St} {E : pu_Ex} (h_ : pu_CE C E) : C 52 2 = nI E.pn := h_.2.2.2.2.1
theorem pu_CE.pa {C : St} {E : pu_Ex} (h_ : pu_CE C E) : ∀ i, i < E.pn → C (300 + i) 0 = nI (E.pa i) := h_.2.2.2.2.2.1
theorem pu_CE.pb {C : St} {E : pu_Ex} (h_ : pu_CE C E) : ∀ i, i < E.pn → C (300 + i) 1 = nI (E.pb i) := h_.2.2.2.2.2.2
theorem pu_ME.fr {I J : St} {E : pu_Ex} (h : pu_ME I E) (e : ∀ b, 26 ≤ b → b ≤ 32 → J b = I b) : pu_ME J E := by
  refine ⟨?_, ?_, ?_, ?_, ?_, ?_, ?_⟩
  · rw [e 26 (by omega) (by omega)]; exact h.sn
  · rw [e 27 (by omega) (by omega)]; exact h.sw
  · rw [e 28 (by omega) (by omega)]; exact h.sp
  · rw [e 29 (by omega) (by omega)]; exact h.sh
  · rw [e 30 (by omega) (by omega)]; exact h.pn
  · rw [e 31 (by omega) (by omega)]; exact h.pa
  · rw [e 32 (by omega) (by omega)]; exact h.pb
theorem pu_CE.fr {C J : St} {E : pu_Ex} (h : pu_CE C E) (o : pu_EOk E) (e : ∀ b, b = 51 ∨ b = 52 ∨ (200 ≤ b ∧ b < 400) → J b = C b) : pu_CE J E := by
  have h1 := o.sn
  have h2 := o.pn
  refine ⟨?_, ?_, ?_, ?_, ?_, ?_, ?_⟩
  · rw [e 51 (by omega)]; exact h.sn
  · intro i hi; rw [e (200 + i) (by omega)]; exact h.sw i hi
  · intro i hi; rw [e (200 + i) (by omega)]; exact h.sp i hi
  · intro i hi; rw [e (200 + i) (by omega)]; exact h.sh i hi
  · rw [e 52 (by omega)]; exact h.pn
  · intro i hi; rw [e (300 + i) (by omega)]; exact h.pa i hi
  · intro i hi; rw [e (300 + i) (by omega)]; exact h.pb i hi
theorem pu_CE.nn1 {C : St} {E : pu_Ex} (h : pu_CE C E) (o : pu_EOk E) : cNn C 1 = E.sn := by
  unfold cNn
  rw [show 50 + 1 = 51 from rfl, h.sn, pu_nI_clamp (by have := o.sn; omega)]
theorem pu_CE.nn2 {C : St} {E : pu_Ex} (h : pu_CE C E) (o : pu_EOk E) : cNn C 2 = E.pn := by
  unfold cNn
  rw [show 50 + 2 = 52 from rfl, h.pn, pu_nI_clamp (by have := o.pn; omega)]
def pu_farD (h1 h2 p1 p2 : Nat) : Bool := (decide (h1 = h2) && decide (p1 ≠ p2)) || ((decide (h1 = h2 + 1) || decide (h2 = h1 + 1)) && (decide (p2 + 2 < p1) || decide (p1 + 2 < p2)))
def pu_falseS (E : pu_Ex) (a b : Nat) : Bool := decide (E.sw a = E.sw b) && pu_farD (E.sh a) (E.sh b) (E.sp a) (E.sp b)
def pu_fC (v1 v2 v4 v5 : Int32) : Option Int32 :=
  if (if 0 ≤ (v1 - v2) then (v1 - v2) else 0 - (v1 - v2)) = 0 then (if 0 < (if 0 ≤ (v4 - v5) then (v4 - v5) else 0 - (v4 - v5)) then (some (1 : Int32)) else (cfG_isFalse_b45 (fun _ _ => 0) (if 0 ≤ (v1 - v2) then (v1 - v2) else 0 - (v1 - v2)) (if 0 ≤ (v4 - v5) then (v4 - v5) else 0 - (v4 - v5))))
  else (cfG_isFalse_b45 (fun _ _ => 0) (if 0 ≤ (v1 - v2) then (v1 - v2) else 0 - (v1 - v2)) (if 0 ≤ (v4 - v5) then (v4 - v5) else 0 - (v4 - v5)))
theorem pu_fC_n {h1 h2 p1 p2 : Nat} (a1 : h1 < 8) (a2 : h2 < 8) (b1 : p1 < 6) (b2 : p2 < 6) : pu_fC (nI h1) (nI h2) (nI p1) (nI p2) = some (pu_bI (pu_farD h1 h2 p1 p2)) := by
  have : ∀ h1, h1 < 8 → ∀ h2, h2 < 8 → ∀ p1, p1 < 6 → ∀ p2, p2 < 6 → pu_fC (nI h1) (nI h2) (nI p1) (nI p2) = some (pu_bI (pu_farD h1 h2 p1 p2)) := by decide +kernel
  exact this h1 a1 h2 a2 p1 b1 p2 b2
theorem pu_isFalseC_n {C : St} {E : pu_Ex} {a b : Nat} (h : pu_CE C E) (o : pu_EOk E) (ha : a < E.sn) (hb : b < E.sn) : cfG_isFalse C a b = some (pu_bI (pu_falseS E a b)) := by
  have f := pu_fC_n (o.sh a ha) (o.sh b hb) (o.sp a ha) (o.sp b hb)
  have w1 := o.sw a ha
  have w2 := o.sw b hb
  unfold cfG_isFalse pu_falseS
  rw [h.nn1 o]
  simp only [pu_lt_s, pu_fx_n ha, pu_fx_n hb]
  rw [h.sh a ha, h.sh b hb, h.sp a ha, h.sp b hb, h.sw a ha, h.sw b hb]
  show (if nI (E.sw a) = nI (E.sw b) then pu_fC (nI (E.sh a)) (nI (E.sh b)) (nI (E.sp a)) (nI (E.sp b)) else some 0) = _
  rw [f]
  by_cases q : E.sw a = E.sw b
  · rw [pu_ieq_t q, decide_eq_true q]; rfl
  · rw [pu_ieq_f q (by omega) (by omega), decide_eq_false q]; rfl
def pu_fM (v3 v6 : Int32) : Option Int32 :=
  if v3 = 0 then (if v6 = 0 then (mo_areFalse_b73 (fun _ _ => 0) v3 (if (2 : Int32) < v6 then 1 else if (-2 : Int32) ≤ v6 then 0 else 1)) else (some (1 : Int32)))
    else (mo_areFalse_b73 (fun _ _ => 0) v3 (if (2 : Int32) < v6 then 1 else if (-2 : Int32) ≤ v6 then 0 else 1))
theorem pu_fM_n {h1 h2 p1 p2 : Nat} (a1 : h1 < 8) (a2 : h2 < 8) (b1 : p1 < 6) (b2 : p2 < 6) : pu_fM (nI h1 - nI h2) (nI p1 - nI p2) = some (pu_bI (pu_farD h1 h2 p1 p2)) := by
  have : ∀ h1, h1 < 8 → ∀ h2, h2 < 8 → ∀ p1, p1 < 6 → ∀ p2, p2 < 6 → pu_fM (nI h1 - nI h2) (nI p1 - nI p2) = some (pu_bI (pu_farD h1 h2 p1 p2)) := by decide +kernel
  exact this h1 a1 h2 a2 p1 b1 p2 b2
theorem pu_areFalse_n {I : St} {E : pu_Ex} {a b : Nat} (h : pu_ME I E) (o : pu_EOk E) (ha : a < E.sn) (hb : b < E.sn) : mo_areFalse I (nI a) (nI b) = some (pu_bI (pu_falseS E a b)) := by
  have f := pu_fM_n (o.sh a ha) (o.sh b hb) (o.sp a ha) (o.sp b hb)
  have w1 := o.sw a ha
  have w2 := o.sw b hb
  have h10 := o.sn
  have e47 : ∀ t0, mo_areFalse_b47 I (nI a) (nI b) (nI (E.sh a) - nI (E.sh b)) (nI (E.sp a) - nI (E.sp b)) t0 = if E.sw a = E.sw b then (if nI (E.sh a) - nI (E.sh b) = 0 then (if nI (E.sp a) - nI (E.sp b) = 0 then (mo_areFalse_b73 (fun _ _ => 0) (nI (E.sh a) - nI (E.sh b)) t0) else (some (1 : Int32))) else (mo_areFalse_b73 (fun _ _ => 0) (nI (E.sh a) - nI (E.sh b)) t0)) else some 0 := by
    intro t0
    unfold mo_areFalse_b47
    rw [pu_al_n (by omega) (by omega), pu_al_n (by omega) (by omega), h.sw a ha, h.sw b hb]
    by_cases q : E.sw a = E.sw b
    · rw [pu_ieq_t q, if_pos q]; rfl
    · rw [pu_ieq_f q (by omega) (by omega), if_neg q]
  unfold mo_areFalse pu_falseS
  simp only [pu_lt_s]
  rw [pu_al_n (by omega) (by omega), pu_al_n (by omega) (by omega), pu_al_n (by omega) (by omega), pu_al_n (by omega) (by omega), h.sh a ha, h.sh b hb, h.sp a ha, h.sp b hb, e47, e47]
  by_cases q : E.sw a = E.sw b
  · simp only [q, if_true, decide_true, Bool.true_and]
    rw [← f]
    unfold pu_fM
    repeat' split
    all_goals first | rfl | (exfalso; omega) | skip
    all_goals (first | rfl | contradiction)
  · simp only [q, if_false, decide_false, Bool.false_and]
    repeat' split
    all_goals rfl
theorem pu_isSight_n {I : St} {E : pu_Ex} (h : pu_ME I E) (x : Int32) : mo_isSight I x = some (pu_bI (pu_inS x (nI 0) (pu_fI E.sn))) := by
  unfold mo_isSight
  simp only [pu_lit]
  rw [h.sn, pu_moin, pu_bd_s, if_pos (pu_zb_b _)]
  rfl
theorem pu_isSightC_n {C : St} {E : pu_Ex} (h : pu_CE C E) (x : Int32) : cf_isSight C x = some (pu_bI (pu_inS x (nI 0) (pu_fI E.sn))) := by
  unfold cf_isSight cfL_size
  rw [pu_gd_t (by omega), show C (50 + 1) 2 = nI E.sn from h.sn, pu_bd_s, show cf_in x.toInt64 0 ((nI E.sn - 1).toInt64) = _ from pu_cfin x (nI 0) (nI E.sn - nI 1), pu_bd_s, if_pos (pu_zb_b _)]
  rfl
theorem pu_inS_fI {x : Int32} {n : Nat} (hn : n < 1000) (h : pu_inS x (nI 0) (pu_fI n) = true) : ∃ k, k < n ∧ x = nI k := by
  cases n with
  | zero =>
    exfalso
    unfold pu_inS at h
    rw [Bool.and_eq_true, decide_eq_true_iff, decide_eq_true_iff, Int32.le_iff_toInt_le, Int32.le_iff_toInt_le, pu_nI_toInt (by omega), show (pu_fI 0).toInt = -1 from rfl] at h
    omega
  | succ n =>
    rw [pu_fI_s] at h
    obtain ⟨k, h1, h2⟩ := pu_inS_ex (by omega) h
    exact ⟨k, by omega, h2⟩
theorem pu_inS_fI' {k n : Nat} (hk : k < 1000) (hn : n < 1000) : pu_inS (nI k) (nI 0) (pu_fI n) = decide (k < n) := by
  cases n with
  | zero =>
    unfold pu_inS
    rw [Bool.eq_iff_iff, Bool.and_eq_true, decide_eq_true_iff, decide_eq_true_iff, Int32.le_iff_toInt_le, Int32.le_iff_toInt_le, pu_nI_toInt (by omega), pu_nI_toInt (by omega), show (pu_fI 0).toInt = -1 from rfl]
    simp
    omega
  | succ n =>
    rw [pu_fI_s, pu_inS_n (by omega) (by omega) (by omega)]
    rw [decide_eq_decide]
    omega
theorem pu_getL_n {C : St} {j n k : Nat} (hj : j < 3) (hn : n < 1000) (pu_hs : C (50 + j) 2 = nI n) (hk : k < n) : cfL_get C j (nI k) = some k := by
  have e : cNn C j = n := by unfold cNn; rw [pu_hs, pu_nI_clamp (by omega)]
  unfold cfL_get cfL_elementData cjo_checkIndex cjp_checkIndex
  simp only [pu_lit]
  rw [pu_gd_t hj, pu_hs, pu_ilt_f (by omega) (by omega), pu_ilt_t hk (by omega), pu_bd_s, pu_bd_s, pu_gd_t hj, e, pu_ix_n hk (by omega), pu_bd_s]
def pu_clean1 (E : pu_Ex) (s a b : Nat) : Bool := s.testBit a || s.testBit b || !pu_falseS E a b
def pu_cleanS (E : pu_Ex) (s : Nat) : Bool := pu_allS E.sn (fun a => pu_allS a (pu_clean1 E s a))
theorem pu_fo_and' (p : Nat → Bool) (c : Bool) : ∀ n, pu_fo n (fun d a => a && p d) c = (c && pu_allS n p)
  | 0 => by unfold pu_fo pu_allS; rw [Bool.and_true]
  | n + 1 => by
    show (pu_fo n (fun d a => a && p d) c && p n) = (c && (pu_allS n p && p n))
    rw [pu_fo_and' p c n, Bool.and_assoc]
theorem pu_isClean_n {C : St} {E : pu_Ex} {s : Nat} (h : pu_CE C E) (o : pu_EOk E) (pu_hs : s < 2147483648) : cf_isClean C (nI s) = some (pu_bI (pu_cleanS E s)) := by
  have h10 := o.sn
  have hsz : cfL_size C 1 = some (nI E.sn) := by unfold cfL_size; rw [pu_gd_t (by omega), show C (50 + 1) 2 = nI E.sn from h.sn]
  have e : pu_cleanS E s = pu_fo E.sn (fun a c => c && pu_allS a (pu_clean1 E s a)) true := by rw [pu_fo_and' _ true, Bool.true_and]; rfl
  rw [e]
  unfold cf_isClean cf_isClean_l4
  refine pu_lp_for (T := Int32 → Int32 → Int32 → Option Int32) (call := fun t i c => t (nI s) (pu_bI c) (nI i)) (P := fun _ _ => True) (f := fun a c => c && pu_allS a (pu_clean1 E s a)) (K := fun c => some (pu_bI c)) E.sn ?_ ?_ (fun _ _ _ _ => trivial) (a := true) trivial FU (by rw [pu_FU_e]; omega)
  · intro t c _
    unfold cf_isClean_b4
    rw [hsz, pu_bd_s, pu_ile_t (by omega) (by omega), if_pos (pu_zb_b c)]
  · intro t a c ha _
    unfold cf_isClean_b4
    simp only [pu_lit]
    rw [hsz, pu_bd_s, pu_ile_f (by omega) (by omega)]
    unfold cf_isClean_l18
    refine (pu_lp_for (T := Int32 → Int32 → Int32 → Int32 → Option Int32) (call := fun u i c => u (nI s) (pu_bI c) (nI a) (nI i)) (P := fun _ _ => True) (f := fun b c => c && pu_clean1 E s a b) (K := fun c => t (nI s) (pu_bI c) (nI (a + 1))) a ?_ ?_ (fun _ _ _ _ => trivial) (a := c) trivial FU (by rw [pu_FU_e]; omega)).trans ?_
    · intro u c _
      unfold cf_isClean_b18
      simp only [pu_lit]
      rw [pu_ile_t (by omega) (by omega), pu_nI_add]
    · intro u b c hb _
      have e76 : ∀ q : Bool, cf_isClean_b76 C t u (nI s) (nI a) (nI b) (pu_bI q) (pu_bI c) = u (nI s) (pu_bI (c && q)) (nI a) (nI (b + 1)) := by
        intro q
        unfold cf_isClean_b76
        simp only [pu_lit, pu_lt_s]
        rw [pu_nI_add]
        cases q <;> cases c <;> rfl
      unfold cf_isClean_b18 pu_clean1
      simp only [pu_lit]
      rw [pu_ile_f (by omega) (by omega), pu_isInC_n pu_hs (by omega), pu_bd_s, pu_bI0, pu_isInC_n pu_hs (by omega), pu_bd_s, pu_bI0, pu_getL_n (n := E.sn) (by omega) (by omega) h.sn ha, pu_bd_s, pu_gd_t (by rw [h.nn1 o]; exact ha), pu_getL_n (n := E.sn) (by omega) (by omega) h.sn (by omega), pu_bd_s, pu_gd_t (by rw [h.nn1 o]; omega), pu_gd_t (by rw [h.nn1 o]; exact ha), pu_isFalseC_n h o ha (by omega), pu_bd_s, pu_bI0, show nI 0 = pu_bI false from rfl, show nI 1 = pu_bI true from rfl, e76, e76]
      cases s.testBit a <;> cases s.testBit b <;> cases pu_falseS E a b <;> rfl
    · rw [pu_fo_and']
def pu_fewer (s : Nat) : Option Nat → Bool
  | none => true
  | some b => decide (pu_pc s < pu_pc b)
def pu_hats1 (E : pu_Ex) (s : Nat) (best : Option Nat) : Option Nat := if (pu_fewer s best && pu_cleanS E s) = true then some s else best
def pu_hatsS (E : pu_Ex) : Option Nat := pu_fo (2 ^ E.sn) (pu_hats1 E) none
theorem pu_hats_lt {E : pu_Ex} : ∀ i b, pu_fo i (pu_hats1 E) none = some b → b < i := by
  intro i
  refine pu_fo_P (N := i) (fun i (a : Option Nat) => ∀ b, a = some b → b < i) (by simp) (fun i a _ h b hb => ?_) i (Nat.le_refl _)
  unfold pu_hats1 at hb
  by_cases q : (pu_fewer i a && pu_cleanS E i) = true
  · rw [if_pos q] at hb
    cases hb
    omega
  · rw [if_neg q] at hb
    have := h b hb
    omega
theorem pu_hats_some (E : pu_Ex) : ∃ b, pu_hatsS E = some b := by
  unfold pu_hatsS
  have hN : 0 < 2 ^ E.sn := Nat.two_pow_pos _
  obtain ⟨m, hm⟩ : ∃ m, 2 ^ E.sn = m + 1 := ⟨2 ^ E.sn - 1, by omega⟩
  rw [hm]
  show ∃ b, pu_hats1 E m (pu_fo m (pu_hats1 E) none) = some b
  have hc : pu_cleanS E m = true := by
    unfold pu_cleanS
    rw [pu_allS_iff]
    intro a ha
    rw [pu_allS_iff]
    intro b hb
    unfold pu_clean1
    have : m.testBit a = true := by
      rw [show m = 2 ^ E.sn - 1 by omega, Nat.testBit_two_pow_sub_one, decide_eq_true ha]
    rw [this]
    rfl
  generalize pu_fo m (pu_hats1 E) none = a
  unfold pu_hats1
  rw [hc, Bool.and_true]
  by_cases q : pu_fewer m a = true
  · rw [if_pos q]; exact ⟨m, rfl⟩
  · rw [if_neg q]
    cases a with
    | none => exact absurd rfl q
    | some b => exact ⟨b, rfl⟩
def pu_hatsR (E : pu_Ex) (what : Nat) : Int32 := match pu_hatsS E with
  | none => nI 0
  | some b => if what = 0 then nI (pu_pc b) else nI b
theorem pu_pow10 {E : pu_Ex} (o : pu_EOk E) : 2 ^ E.sn ≤ 1024 := Nat.pow_le_pow_right (n := 2) (by omega) o.sn
theorem pu_hatsC_n {C : St} {E : pu_Ex} {what : Nat} (h : pu_CE C E) (o : pu_EOk E) (hw : what < 2) : cf_hatsOf C (nI what) = some (pu_hatsR E what) := by
  have h10 := o.sn
  have hN := pu_pow10 o
  have hsz : cfL_size C 1 = some (nI E.sn) := by unfold cfL_size; rw [pu_gd_t (by omega), show C (50 + 1) 2 = nI E.sn from h.sn]
  unfold cf_hatsOf cf_hatsOf_l4
  refine pu_lp_for (T := Int32 → Int32 → Int32 → Option Int32) (call := fun t i a => t (nI what) (pu_oI a) (nI i)) (P := fun i a => a = pu_fo i (pu_hats1 E) none) (f := pu_hats1 E) (K := fun _ => some (pu_hatsR E what)) (2 ^ E.sn) ?_ ?_ ?_ (a := none) rfl FU (by rw [pu_FU_e]; omega)
  · intro t a ha
    have hb : ∃ b, a = some b := by
      obtain ⟨b, hb⟩ := pu_hats_some E
      exact ⟨b, by rw [ha]; exact hb⟩
    obtain ⟨b, rfl⟩ := hb
    have hl := pu_hats_lt _ b ha.symm
    unfold cf_hatsOf_b4 pu_hatsR
    simp only [pu_lit]
    rw [hsz, pu_bd_s, pu_nI_31 (by omega), pu_nI_one (by omega), pu_ile_t (by omega) (by omega), show pu_hatsS E = some b from ha.symm]
    show (if nI what = nI 0 then (bd_ (cj_bitCount (nI b)) fun v4 => some v4) else some (nI b)) = _
    rw [pu_bitCount_n (by omega), pu_bd_s]
    by_cases q : what = 0
    · rw [pu_ieq_t q]; simp [q]
    · rw [pu_ieq_f q (by omega) (by omega)]; simp [q]
  · intro t i a hi ha
    have hl : ∀ b, a = some b → b < 1024 := fun b hb => by have := pu_hats_lt i b (ha.symm.trans hb); omega
    have e38 : ∀ q : Bool, cf_hatsOf_b38 C t (nI what) (pu_oI a) (nI i) (pu_bI q) = t (nI what) (pu_oI (if (q && pu_cleanS E i) = true then some i else a)) (nI (i + 1)) := by
      intro q
      unfold cf_hatsOf_b38 cf_hatsOf_b58
      simp only [pu_lit]
      rw [pu_isClean_n h o (by omega), pu_bd_s, pu_bI0, pu_bI0, pu_nI_add]
      cases q <;> cases pu_cleanS E i <;> rfl
    have body : cf_hatsOf_b4 C t (nI what) (pu_oI a) (nI i) = cf_hatsOf_b38 C t (nI what) (pu_oI a) (nI i) (pu_bI (pu_fewer i a)) := by
      unfold cf_hatsOf_b4
      simp only [pu_lit]
      rw [hsz, pu_bd_s, pu_nI_31 (by omega), pu_nI_one (by omega), pu_ile_f (by omega) (by omega), pu_oI_m1 (fun p hp => by have := hl p hp; omega)]
      cases a with
      | none => rfl
      | some b =>
        have hb := hl b rfl
        have p1 := pu_pc_le i
        have p2 := pu_pc_le b
        rw [if_neg (by simp), pu_bitCount_n (by omega), pu_bd_s]
        show bd_ (cj_bitCount (nI b)) _ = _
        rw [pu_bitCount_n hb, pu_bd_s]
        rw [show pu_fewer i (some b) = decide (pu_pc i < pu_pc b) from rfl]
        by_cases q : pu_pc i < pu_pc b
        · rw [pu_ile_f q (by omega), decide_eq_true q]; rfl
        · rw [pu_ile_t (by omega) (by omega), decide_eq_false q]; rfl
    exact body.trans (e38 _)
  · intro i a hi ha
    rw [ha]
    rfl
theorem pu_hats_n {I : St} {E : pu_Ex} {what : Nat} (h : pu_ME I E) (o : pu_EOk E) (hw : what < 2) : mo_hatsOf I (nI what) = some (pu_hatsR E what) := by
  have h10 := o.sn
  have hN := pu_pow10 o
  unfold mo_hatsOf mo_hatsOf_l4
  refine pu_lp_for (T := Int32 → Int32 → Int32 → Option Int32) (call := fun t i a => t (nI what) (pu_oI a) (nI i)) (P := fun i a => a = pu_fo i (pu_hats1 E) none) (f := pu_hats1 E) (K := fun _ => some (pu_hatsR E what)) (2 ^ E.sn) ?_ ?_ ?_ (a := none) rfl FU (by rw [pu_FU_e]; omega)
  · intro t a ha
    have hb : ∃ b, a = some b := by
      obtain ⟨b, hb⟩ := pu_hats_some E
      exact ⟨b, by rw [ha]; exact hb⟩
    obtain ⟨b, rfl⟩ := hb
    have hl := pu_hats_lt _ b ha.symm
    unfold mo_hatsOf_b4 pu_hatsR
    simp only [pu_lit]
    rw [h.sn, pu_nI_31 (by omega), pu_nI_one (by omega), pu_ile_t (by omega) (by omega), show pu_hatsS E = some b from ha.symm]
    show (if nI what = nI 0 then (bd_ (mo_ones (nI b)) fun v4 => some v4) else some (nI b)) = _
    rw [pu_ones_n (by omega), pu_bd_s]
    by_cases q : what = 0
    · rw [pu_ieq_t q]; simp [q]
    · rw [pu_ieq_f q (by omega) (by omega)]; simp [q]
  · intro t i a hi ha
    have hl : ∀ b, a = some b → b < 1024 := fun b hb => by have := pu_hats_lt i b (ha.symm.trans hb); omega
    have e30 : mo_hatsOf_b30 I t (nI what) (pu_oI a) (nI i) = t (nI what) (pu_oI (if pu_cleanS E i = true then some i else a)) (nI (i + 1)) := by
      unfold mo_hatsOf_b30
      have e : pu_cleanS E i = pu_fo E.sn (fun a c => c && pu_allS a (pu_clean1 E i a)) true := by rw [pu_fo_and' _ true, Bool.true_and]; rfl
      rw [e]
      unfold mo_hatsOf_l36
      refine pu_lp_for (T := Int32 → Int32 → Int32 → Int32 → Int32 → Option Int32) (call := fun u x c => u (nI what) (pu_oI a) (nI i) (pu_bI c) (nI x)) (P := fun _ _ => True) (f := fun x c => c && pu_allS x (pu_clean1 E i x)) (K := fun c => t (nI what) (pu_oI (if c = true then some i else a)) (nI (i + 1))) E.sn ?_ ?_ (fun _ _ _ _ => trivial) (a := true) trivial FU (by rw [pu_FU_e]; omega)
      · intro u c _
        unfold mo_hatsOf_b36 mo_hatsOf_b118 mo_hatsOf_b119
        simp only [pu_lit]
        rw [h.sn, pu_ile_t (by omega) (by omega), pu_bI0, pu_nI_add]
        cases c <;> rfl
      · intro u x c hx _
        unfold mo_hatsOf_b36
        simp only [pu_lit]
        rw [h.sn, pu_ile_f (by omega) (by omega)]
        unfold mo_hatsOf_l48
        refine (pu_lp_for (T := Int32 → Int32 → Int32 → Int32 → Int32 → Int32 → Option Int32) (call := fun w y c => w (nI what) (pu_oI a) (nI i) (pu_bI c) (nI x) (nI y)) (P := fun _ _ => True) (f := fun b c => c && pu_clean1 E i x b) (K := fun c => u (nI what) (pu_oI a) (nI i) (pu_bI c) (nI (x + 1))) x ?_ ?_ (fun _ _ _ _ => trivial) (a := c) trivial FU (by rw [pu_FU_e]; omega)).trans ?_
        · intro w c _
          unfold mo_hatsOf_b48
          simp only [pu_lit]
          rw [pu_ile_t (by omega) (by omega), pu_nI_add]
        · intro w y c hy _
          unfold mo_hatsOf_b48 mo_hatsOf_b94 pu_clean1
          simp only [pu_lit]
          rw [pu_ile_f (by omega) (by omega), pu_bI0, pu_isIn_n (by omega) (by omega), pu_bd_s, pu_bI0, pu_isIn_n (by omega) (by omega), pu_bd_s, pu_bI0, pu_areFalse_n h o hx (by omega), pu_bd_s, pu_bI0, pu_nI_add]
          cases c <;> cases i.testBit x <;> cases i.testBit y <;> cases pu_falseS E x y <;> rfl
        · rw [pu_fo_and']
    have body : mo_hatsOf_b4 I t (nI what) (pu_oI a) (nI i) = t (nI what) (pu_oI (if (pu_fewer i a && pu_cleanS E i) = true then some i else a)) (nI (i + 1)) := by
      unfold mo_hatsOf_b4 mo_hatsOf_b119
      simp only [pu_lit]
      rw [h.sn, pu_nI_31 (by omega), pu_nI_one (by omega), pu_ile_f (by omega) (by omega), pu_oI_m1 (fun p hp => by have := hl p hp; omega), e30, pu_nI_add]
      cases a with
      | none => rfl
      | some b =>
        have hb := hl b rfl
        have p1 := pu_pc_le i
        have p2 := pu_pc_le b
        rw [if_neg (by simp), pu_ones_n (by omega), pu_bd_s]
        show bd_ (mo_ones (nI b)) _ = _
        rw [pu_ones_n (by omega), pu_bd_s]
        rw [show pu_fewer i (some b) = decide (pu_pc i < pu_pc b) from rfl]
        by_cases q : pu_pc i < pu_pc b
        · rw [pu_ile_f q (by omega), decide_eq_true q, Bool.true_and]
        · rw [pu_ile_t (by omega) (by omega), decide_eq_false q]; rfl
    exact body
  · intro i a hi ha
    rw [ha]
    rfl
/-! PURE: what follows -/
def pu_reach1 (V : pu_Vw) (E : pu_Ex) (k all : Nat) : Nat := all ||| if (all.testBit (E.pa k) && decide (E.pa k < V.n) && decide (E.pb k < V.n)) = true then 2 ^ (E.pb k) else 0
def pu_reachS (V : pu_Vw) (E : pu_Ex) (s : Nat) : Nat := pu_fo 8 (fun _ all => pu_fo E.pn (pu_reach1 V E) all) s
theorem pu_reach1_lt {V : pu_Vw} {E : pu_Ex} {k all : Nat} (o : pu_EOk E) (hk : k < E.pn) (h : all < 256) : pu_reach1 V E k all < 256 := by
  unfold pu_reach1
  split
  · exact pu_or_lt h (o.pb k hk)
  · rw [Nat.or_zero]; exact h
theorem pu_reachI_lt {V : pu_Vw} {E : pu_Ex} {all : Nat} (o : pu_EOk E) (h : all < 256) : pu_fo E.pn (pu_reach1 V E) all < 256 :=
  pu_fo_P (N := E.pn) (fun _ a => a < 256) h (fun i a hi ha => pu_reach1_lt o hi ha) E.pn (Nat.le_refl _)
theorem pu_reachS_lt {V : pu_Vw} {E : pu_Ex} {s : Nat} (o : pu_EOk E) (h : s < 256) : pu_reachS V E s < 256 :=
  pu_fo_P (N := 8) (fun _ a => a < 256) h (fun i a hi ha => pu_reachI_lt o ha) 8 (Nat.le_refl _)
theorem pu_isDeedF_n {C : St} {V : pu_Vw} (h : pu_CV C V) (x : Int32) : cf_isDeed C x = some (pu_bI (pu_inS x (nI 0) (pu_fI V.n))) := by
  unfold cf_isDeed
  rw [pu_deeds_n h, pu_bd_s, show cf_in x.toInt64 0 ((nI V.n - 1).toInt64) = _ from pu_cfin x (nI 0) (nI V.n - nI 1), pu_bd_s, if_pos (pu_zb_b _)]
  rfl
theorem pu_reachC_n {C : St} {V : pu_Vw} {E : pu_Ex} {s : Nat} (h : pu_CV C V) (o : pu_VOk V) (g : pu_CE C E) (oe : pu_EOk E) (pu_hs : s < 256) : cf_reaches C (nI s) = some (nI (pu_reachS V E s)) := by
  have h8 := o.n8
  have h10 := oe.pn
  have hsz : cfL_size C 2 = some (nI E.pn) := by unfold cfL_size; rw [pu_gd_t (by omega), show C (50 + 2) 2 = nI E.pn from g.pn]
  unfold cf_reaches cf_reaches_l4
  refine pu_lp_for (T := Int32 → Int32 → Option Int32) (call := fun t i a => t (nI a) (nI i)) (P := fun _ a => a < 256) (f := fun _ all => pu_fo E.pn (pu_reach1 V E) all) (K := fun a => some (nI a)) 8 ?_ ?_ (fun i a _ ha => pu_reachI_lt oe ha) (a := s) pu_hs FU (by decide)
  · intro t a _
    unfold cf_reaches_b4
    simp only [pu_lit]
    rw [pu_ile_t (by omega) (by omega)]
  · intro t i a hi ha
    unfold cf_reaches_b4
    simp only [pu_lit]
    rw [pu_ile_f (by omega) (by omega)]
    unfold cf_reaches_l13
    refine pu_lp_for (T := Int32 → Int32 → Int32 → Option Int32) (call := fun u k a => u (nI a) (nI i) (nI k)) (P := fun _ a => a < 256) (f := pu_reach1 V E) (K := fun a => t (nI a) (nI (i + 1))) E.pn ?_ ?_ (fun k a hk ha => pu_reach1_lt oe hk ha) (a := a) ha FU (by rw [pu_FU_e]; omega)
    · intro u a _
      unfold cf_reaches_b13
      simp only [pu_lit]
      rw [hsz, pu_bd_s, pu_ile_t (by omega) (by omega), pu_nI_add]
    · intro u k a hk ha
      have a1 := oe.pa k hk
      have a2 := oe.pb k hk
      have hc : k < cNn C 2 := by rw [g.nn2 oe]; exact hk
      unfold cf_reaches_b13 cf_reaches_b83 pu_reach1
      simp only [pu_lit, pu_lt_s]
      rw [hsz, pu_bd_s, pu_ile_f (by omega) (by omega), pu_getL_n (n := E.pn) (by omega) (by omega) g.pn hk, pu_bd_s, pu_gd_t hc, pu_gd_t hc, pu_al_n (by omega) (by omega), g.pa k hk, pu_isInC_n (by omega) (by omega), pu_bd_s, pu_bI0, pu_gd_t hc, pu_al_n (by omega) (by omega), g.pa k hk, pu_isDeedF_n h, pu_bd_s, pu_bI0, pu_inS_fI' (by omega) (by omega), pu_gd_t hc, pu_al_n (by omega) (by omega), g.pb k hk, pu_isDeedF_n h, pu_bd_s, pu_bI0, pu_inS_fI' (by omega) (by omega), pu_gd_t hc, pu_al_n (by omega) (by omega), g.pb k hk, pu_nI_31 (by omega), pu_nI_one (by omega), pu_nI_or, pu_nI_or, pu_nI_add]
      cases a.testBit (E.pa k) <;> cases decide (E.pa k < V.n) <;> cases decide (E.pb k < V.n) <;> rfl
def pu_sparedS (V : pu_Vw) (E : pu_Ex) (s : Nat) : Nat := pu_worthS V (pu_andn (pu_reachS V E s) s)
theorem pu_sparedC_n {C : St} {V : pu_Vw} {E : pu_Ex} {s : Nat} (h : pu_CV C V) (o : pu_VOk V) (g : pu_CE C E) (oe : pu_EOk E) (pu_hs : s < 256) : cf_sparedOf C (nI s) = some (nI (pu_sparedS V E s)) := by
  have h1 := pu_reachS_lt (V := V) oe pu_hs
  have h2 := pu_andn_le (pu_reachS V E s) s
  unfold cf_sparedOf
  simp only [pu_lit]
  rw [pu_reachC_n h o g oe pu_hs, pu_bd_s, pu_nI_not, pu_worthC_n h o (by omega), pu_bd_s]
  rfl
theorem pu_spared_n {I : St} {V : pu_Vw} {E : pu_Ex} {s : Nat} (h : pu_MV I V) (o : pu_VOk V) (g : pu_ME I E) (oe : pu_EOk E) (pu_hs : s < 256) : mo_sparedOf I (nI s) = some (nI (pu_sparedS V E s)) := by
  have h8 := o.n8
  have h10 := oe.pn
  have h1 := pu_reachS_lt (V := V) oe pu_hs
  have h2 := pu_andn_le (pu_reachS V E s) s
  unfold mo_sparedOf mo_sparedOf_l4
  refine (pu_lp_for (T := Int32 → Int32 → Int32 → Option Int32) (call := fun t i a => t (nI s) (nI a) (nI i)) (P := fun _ a => a < 256) (f := fun _ all => pu_fo E.pn (pu_reach1 V E) all) (K := fun a => bd_ (mo_worthBy I (nI (pu_andn a s))) fun v => some v) 8 ?_ ?_ (fun i a _ ha => pu_reachI_lt oe ha) (a := s) pu_hs FU (by decide)).trans ?_
  · intro t a _
    unfold mo_sparedOf_b4
    simp only [pu_lit]
    rw [pu_ile_t (by omega) (by omega), pu_nI_not]
  · intro t i a hi ha
    unfold mo_sparedOf_b4
    simp only [pu_lit]
    rw [pu_ile_f (by omega) (by omega)]
    unfold mo_sparedOf_l13
    refine pu_lp_for (T := Int32 → Int32 → Int32 → Int32 → Option Int32) (call := fun u k a => u (nI s) (nI a) (nI i) (nI k)) (P := fun _ a => a < 256) (f := pu_reach1 V E) (K := fun a => t (nI s) (nI a) (nI (i + 1))) E.pn ?_ ?_ (fun k a hk ha => pu_reach1_lt oe hk ha) (a := a) ha FU (by rw [pu_FU_e]; omega)
    · intro u a _
      unfold mo_sparedOf_b13
      simp only [pu_lit]
      rw [g.pn, pu_ile_t (by omega) (by omega), pu_nI_add]
    · intro u k a hk ha
      have a1 := oe.pa k hk
      have a2 := oe.pb k hk
      unfold mo_sparedOf_b13 mo_sparedOf_b78 pu_reach1
      simp only [pu_lit, pu_lt_s]
      rw [g.pn, pu_ile_f (by omega) (by omega)]
      simp (disch := omega) only [pu_al_n]
      rw [g.pa k hk, g.pb k hk, h.n, pu_isIn_n (by omega) (by omega), pu_bd_s, pu_bI0, pu_nI_31 (by omega), pu_nI_one (by omega), pu_nI_or, pu_nI_or, pu_nI_add]
      by_cases q1 : E.pa k < V.n
      · rw [pu_ile_f q1 (by omega), decide_eq_true q1]
        by_cases q2 : E.pb k < V.n
        · rw [pu_ile_f q2 (by omega), decide_eq_true q2]
          cases a.testBit (E.pa k) <;> rfl
        · rw [pu_ile_t (by omega) (by omega), decide_eq_false q2]
          cases a.testBit (E.pa k) <;> rfl
      · rw [pu_ile_t (by omega) (by omega), decide_eq_false q1]
        cases a.testBit (E.pa k) <;> rfl
  · show bd_ (mo_worthBy I (nI (pu_andn (pu_reachS V E s) s))) _ = _
    rw [pu_worthBy_n h o (by omega), pu_bd_s]
    rfl
def pu_best1 (V : pu_Vw) (E : pu_Ex) (d : Nat) (a : Option Nat × Nat) : Option Nat × Nat := if a.2 < V.worth d + pu_sparedS V E (2 ^ d) then (some d, V.worth d + pu_sparedS V E (2 ^ d)) else a
def pu_bestN (V : pu_Vw) (E : pu_Ex) : Option Nat × Nat := pu_fo V.n (pu_best1 V E) (none, 0)
theorem pu_pow8 {d : Nat} (h : d < 8) : 2 ^ d < 256 := Nat.pow_lt_pow_right (by omega) h
theorem pu_best1_P {V : pu_Vw} {E : pu_Ex} (o : pu_VOk V) : ∀ i a, i < V.n → a.2 ≤ 1000 → (pu_best1 V E i a).2 ≤ 1000 := by
  intro i a hi ha
  have := o.worth i hi
  have := pu_worthS_le o (pu_andn (pu_reachS V E (2 ^ i)) (2 ^ i))
  unfold pu_best1
  split
  · unfold pu_sparedS; dsimp only; omega
  · exact ha
theorem pu_bestC_n {C : St} {V : pu_Vw} {E : pu_Ex} (h : pu_CV C V) (o : pu_VOk V) (g : pu_CE C E) (oe : pu_EOk E) : cf_bestNow C = some (pu_oI (pu_bestN V E).1) := by
  have h8 := o.n8
  unfold cf_bestNow cf_bestNow_l6
  refine pu_lp_for (T := Int32 → Int32 → Int32 → Option Int32) (call := fun t i (a : Option Nat × Nat) => t (pu_oI a.1) (nI a.2) (nI i)) (P := fun _ a => a.2 ≤ 1000) (f := pu_best1 V E) (K := fun a => some (pu_oI a.1)) V.n ?_ ?_ (pu_best1_P o) (a := (none, 0)) (by decide) FU (by rw [pu_FU_e]; omega)
  · intro t a _
    unfold cf_bestNow_b6 cf_bestNow_b11
    rw [pu_deeds_n h, pu_bd_s, pu_ile_t (by omega) (by omega)]
  · intro t i a hi ha
    have hw := o.worth i hi
    have hp := pu_pow8 (show i < 8 by omega)
    have pu_hs : pu_sparedS V E (2 ^ i) ≤ 72 := pu_worthS_le o _
    unfold cf_bestNow_b6 cf_bestNow_b11 cf_bestNow_b43 pu_best1
    simp only [pu_lit, pu_lt_s]
    rw [pu_deeds_n h, pu_bd_s, pu_ile_f (by omega) (by omega), pu_deed2_n h o hi, pu_bd_s, h.nn o, pu_fx_n hi, h.worth i hi, pu_nI_31 (by omega), pu_nI_one (by omega), pu_sparedC_n h o g oe hp, pu_bd_s, pu_nI_add, pu_nI_add]
    by_cases q : a.2 < V.worth i + pu_sparedS V E (2 ^ i)
    · rw [pu_ile_f q (by omega), if_pos q, pu_ilt_t q (by omega)]
      rfl
    · rw [pu_ile_t (by omega) (by omega), if_neg q, pu_ilt_f (by omega) (by omega)]
theorem pu_best_n {I : St} {V : pu_Vw} {E : pu_Ex} (h : pu_MV I V) (o : pu_VOk V) (g : pu_ME I E) (oe : pu_EOk E) : mo_bestNow_l10 FU (-nI 1) (nI 0) (nI 0) I = some (pu_oI (pu_bestN V E).1, I) := by
  have h8 := o.n8
  refine pu_lp_for (T := Int32 → Int32 → Int32 → St → Option (Int32 × St)) (call := fun t i (a : Option Nat × Nat) => t (pu_oI a.1) (nI a.2) (nI i) I) (P := fun _ a => a.2 ≤ 1000) (f := pu_best1 V E) (K := fun a => some (pu_oI a.1, I)) V.n ?_ ?_ (pu_best1_P o) (a := (none, 0)) (by decide) FU (by rw [pu_FU_e]; omega)
  · intro t a _
    unfold mo_bestNow_b10
    rw [h.n, pu_ile_t (by omega) (by omega)]
  · intro t i a hi ha
    have hw := o.worth i hi
    have hp := pu_pow8 (show i < 8 by omega)
    have pu_hs : pu_sparedS V E (2 ^ i) ≤ 72 := pu_worthS_le o _
    unfold mo_bestNow_b10 mo_bestNow_b45 mo_bestNow_b58 pu_best1
    simp only [pu_lit, pu_lt_s]
    rw [h.n, pu_ile_f (by omega) (by omega), pu_al_n (by omega) (by omega), h.worth i hi, pu_nI_31 (by omega), pu_nI_one (by omega), pu_spared_n h o g oe hp, pu_bd_s, pu_nI_add, pu_nI_add]
    by_cases q : a.2 < V.worth i + pu_sparedS V E (2 ^ i)
    · rw [pu_ile_f q (by omega), pu_ile_f q (by omega), if_pos q]
      rfl
    · rw [pu_ile_t (by omega) (by omega), pu_ile_t (by omega) (by omega), if_neg q]
