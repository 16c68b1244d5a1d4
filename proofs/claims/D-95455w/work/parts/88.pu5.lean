/-! the plain side, part 5 -/
set_option maxRecDepth 100000
/-! PURE: the worlds of both, and what they share -/
abbrev pu_Rw : Type := Nat × Nat × (Nat → Nat) × (Nat → Nat) × (Nat → Nat) × (Nat → Nat) × (Nat → Nat) × (Nat → Nat) × (Nat → Nat) × (Nat → Nat)
abbrev pu_Rw.ty0 (x_ : pu_Rw) : Nat := x_.1
abbrev pu_Rw.ty1 (x_ : pu_Rw) : Nat := x_.2.1
abbrev pu_Rw.b0 (x_ : pu_Rw) : Nat → Nat := x_.2.2.1
abbrev pu_Rw.b1 (x_ : pu_Rw) : Nat → Nat := x_.2.2.2.1
abbrev pu_Rw.come (x_ : pu_Rw) : Nat → Nat := x_.2.2.2.2.1
abbrev pu_Rw.til (x_ : pu_Rw) : Nat → Nat := x_.2.2.2.2.2.1
abbrev pu_Rw.price (x_ : pu_Rw) : Nat → Nat := x_.2.2.2.2.2.2.1
abbrev pu_Rw.mem (x_ : pu_Rw) : Nat → Nat := x_.2.2.2.2.2.2.2.1
abbrev pu_Rw.rain (x_ : pu_Rw) : Nat → Nat := x_.2.2.2.2.2.2.2.2.1
abbrev pu_Rw.set (x_ : pu_Rw) : Nat → Nat := x_.2.2.2.2.2.2.2.2.2
abbrev pu_Sh : Type := (Nat → Bool) × (Nat → Nat) × (Nat → Nat) × (Nat → Nat → Int32)
abbrev pu_Sh.there (x_ : pu_Sh) : Nat → Bool := x_.1
abbrev pu_Sh.form (x_ : pu_Sh) : Nat → Nat := x_.2.1
abbrev pu_Sh.size (x_ : pu_Sh) : Nat → Nat := x_.2.2.1
abbrev pu_Sh.it (x_ : pu_Sh) : Nat → Nat → Int32 := x_.2.2.2
abbrev pu_Wd : Type := pu_Rw × pu_Ex × pu_Sh × Int32
abbrev pu_Wd.r (x_ : pu_Wd) : pu_Rw := x_.1
abbrev pu_Wd.e (x_ : pu_Wd) : pu_Ex := x_.2.1
abbrev pu_Wd.s (x_ : pu_Wd) : pu_Sh := x_.2.2.1
abbrev pu_Wd.f (x_ : pu_Wd) : Int32 := x_.2.2.2
def pu_VF (R : pu_Rw) : pu_Vw := ⟨(pu_dTop R.ty0 R.b0).n, fun d => ((pu_dTop R.ty0 R.b0).g d).kind, fun d => ((pu_dTop R.ty0 R.b0).g d).place, fun d => ((pu_dTop R.ty0 R.b0).g d).wet, fun d => ((pu_dTop R.ty0 R.b0).g d).worth, fun d => ((pu_dTop R.ty0 R.b0).g d).who, (pu_rTop R.ty1 R.b1).r.parts, (pu_rTop R.ty1 R.b1).r.many, (pu_rTop R.ty1 R.b1).r.askR, (pu_rTop R.ty1 R.b1).r.askP, R.come, R.til, R.price, R.mem, R.rain, R.set⟩
abbrev pu_RwOk (R : pu_Rw) : Prop := R.ty0 ≤ 80 ∧ R.ty1 ≤ 40 ∧ (∀ k, k < 80 → R.b0 k < 256) ∧ (∀ k, k < 40 → R.b1 k < 256) ∧ (∀ p, p < 8 → R.come p ≤ 7) ∧ (∀ p, p < 8 → R.til p ≤ 8) ∧ (∀ p, p < 8 → R.price p ≤ 99) ∧ (∀ p, p < 8 → R.mem p ≤ 16) ∧ (∀ h, h < 8 → R.rain h ≤ 1) ∧ R.set 0 ≤ 99 ∧ R.set 1 ≤ 1 ∧ R.set 2 ≤ 999 ∧ R.set 3 ≤ 10
theorem pu_RwOk.t0 {R : pu_Rw} (h_ : pu_RwOk R) : R.ty0 ≤ 80 := h_.1
theorem pu_RwOk.t1 {R : pu_Rw} (h_ : pu_RwOk R) : R.ty1 ≤ 40 := h_.2.1
theorem pu_RwOk.b0 {R : pu_Rw} (h_ : pu_RwOk R) : ∀ k, k < 80 → R.b0 k < 256 := h_.2.2.1
theorem pu_RwOk.b1 {R : pu_Rw} (h_ : pu_RwOk R) : ∀ k, k < 40 → R.b1 k < 256 := h_.2.2.2.1
theorem pu_RwOk.come {R : pu_Rw} (h_ : pu_RwOk R) : ∀ p, p < 8 → R.come p ≤ 7 := h_.2.2.2.2.1
theorem pu_RwOk.til {R : pu_Rw} (h_ : pu_RwOk R) : ∀ p, p < 8 → R.til p ≤ 8 := h_.2.2.2.2.2.1
theorem pu_RwOk.price {R : pu_Rw} (h_ : pu_RwOk R) : ∀ p, p < 8 → R.price p ≤ 99 := h_.2.2.2.2.2.2.1
theorem pu_RwOk.mem {R : pu_Rw} (h_ : pu_RwOk R) : ∀ p, p < 8 → R.mem p ≤ 16 := h_.2.2.2.2.2.2.2.1
theorem pu_RwOk.rain {R : pu_Rw} (h_ : pu_RwOk R) : ∀ h, h < 8 → R.rain h ≤ 1 := h_.2.2.2.2.2.2.2.2.1
theorem pu_RwOk.set0 {R : pu_Rw} (h_ : pu_RwOk R) : R.set 0 ≤ 99 := h_.2.2.2.2.2.2.2.2.2.1
theorem pu_RwOk.set1 {R : pu_Rw} (h_ : pu_RwOk R) : R.set 1 ≤ 1 := h_.2.2.2.2.2.2.2.2.2.2.1
theorem pu_RwOk.set2 {R : pu_Rw} (h_ : pu_RwOk R) : R.set 2 ≤ 999 := h_.2.2.2.2.2.2.2.2.2.2.2.1
theorem pu_RwOk.set3 {R : pu_Rw} (h_ : pu_RwOk R) : R.set 3 ≤ 10 := h_.2.2.2.2.2.2.2.2.2.2.2.2
def pu_fitF (f : Nat) (v : Int32) : Prop := (f = 0 → -128 ≤ v.toInt ∧ v.toInt ≤ 127) ∧ (f = 1 → -32768 ≤ v.toInt ∧ v.toInt ≤ 32767)
abbrev pu_SOk (S : pu_Sh) : Prop := (∀ s, s < 4 → S.there s = true → S.form s < 3) ∧ (∀ s, s < 4 → S.there s = true → S.size s ≤ 60) ∧ (∀ s, s < 4 → S.there s = true → ∀ i, i < S.size s → pu_fitF (S.form s) (S.it s i))
theorem pu_SOk.form {S : pu_Sh} (h_ : pu_SOk S) : ∀ s, s < 4 → S.there s = true → S.form s < 3 := h_.1
theorem pu_SOk.size {S : pu_Sh} (h_ : pu_SOk S) : ∀ s, s < 4 → S.there s = true → S.size s ≤ 60 := h_.2.1
theorem pu_SOk.fit {S : pu_Sh} (h_ : pu_SOk S) : ∀ s, s < 4 → S.there s = true → ∀ i, i < S.size s → pu_fitF (S.form s) (S.it s i) := h_.2.2
abbrev pu_WOk (w : pu_Wd) : Prop := pu_RwOk w.r ∧ pu_EOk w.e ∧ pu_SOk w.s
theorem pu_WOk.r {w : pu_Wd} (h_ : pu_WOk w) : pu_RwOk w.r := h_.1
theorem pu_WOk.e {w : pu_Wd} (h_ : pu_WOk w) : pu_EOk w.e := h_.2.1
theorem pu_WOk.s {w : pu_Wd} (h_ : pu_WOk w) : pu_SOk w.s := h_.2.2
/-! ranges of what is read -/
abbrev pu_DOk (d : pu_D5) : Prop := d.kind < 4 ∧ d.place < 6 ∧ d.wet ≤ 1 ∧ d.worth ≤ 9 ∧ 0 < d.worth ∧ d.who < 256 ∧ 0 < d.who
theorem pu_DOk.kind {d : pu_D5} (h_ : pu_DOk d) : d.kind < 4 := h_.1
theorem pu_DOk.place {d : pu_D5} (h_ : pu_DOk d) : d.place < 6 := h_.2.1
theorem pu_DOk.wet {d : pu_D5} (h_ : pu_DOk d) : d.wet ≤ 1 := h_.2.2.1
theorem pu_DOk.worth {d : pu_D5} (h_ : pu_DOk d) : d.worth ≤ 9 := h_.2.2.2.1
theorem pu_DOk.worth0 {d : pu_D5} (h_ : pu_DOk d) : 0 < d.worth := h_.2.2.2.2.1
theorem pu_DOk.who {d : pu_D5} (h_ : pu_DOk d) : d.who < 256 := h_.2.2.2.2.2.1
theorem pu_DOk.who0 {d : pu_D5} (h_ : pu_DOk d) : 0 < d.who := h_.2.2.2.2.2.2
theorem pu_dPart_ok {ty at_ : Nat} {b : Nat → Nat} {d : pu_D5} {pos : Nat} (h : pu_dPart ty b at_ = .inr (d, pos)) : pu_DOk d := by
  unfold pu_dPart at h
  have hk := pu_kd_le (pu_bt ty b at_)
  split at h
  · cases h
  · split at h
    · cases h
    · split at h
      · cases h
      · split at h
        · cases h
        · split at h
          · cases h
          · rename_i h1 h2 h3 h4 h5
            have p3 : at_ + 3 < ty := pu_bt_lt (b := b) rfl (by omega)
            have := (pu_pplS_ex (ty := ty) (b := b) at_ (by omega)).2.2
            cases h
            exact ⟨by dsimp only [pu_D5.kind, pu_D5.place, pu_D5.wet, pu_D5.worth, pu_D5.who, pu_R4.many, pu_R4.askR, pu_R4.askP, pu_DR.n, pu_DR.g, pu_DR.fault]; omega, by dsimp only [pu_D5.kind, pu_D5.place, pu_D5.wet, pu_D5.worth, pu_D5.who, pu_R4.many, pu_R4.askR, pu_R4.askP, pu_DR.n, pu_DR.g, pu_DR.fault]; omega, by dsimp only [pu_D5.kind, pu_D5.place, pu_D5.wet, pu_D5.worth, pu_D5.who, pu_R4.many, pu_R4.askR, pu_R4.askP, pu_DR.n, pu_DR.g, pu_DR.fault]; split <;> omega, by dsimp only [pu_D5.kind, pu_D5.place, pu_D5.wet, pu_D5.worth, pu_D5.who, pu_R4.many, pu_R4.askR, pu_R4.askP, pu_DR.n, pu_DR.g, pu_DR.fault]; omega, by dsimp only [pu_D5.kind, pu_D5.place, pu_D5.wet, pu_D5.worth, pu_D5.who, pu_R4.many, pu_R4.askR, pu_R4.askP, pu_DR.n, pu_DR.g, pu_DR.fault]; omega, this, by dsimp only [pu_D5.kind, pu_D5.place, pu_D5.wet, pu_D5.worth, pu_D5.who, pu_R4.many, pu_R4.askR, pu_R4.askP, pu_DR.n, pu_DR.g, pu_DR.fault]; omega⟩
theorem pu_dRun_ok {ty : Nat} {b : Nat → Nat} : ∀ m at_ g, m ≤ 8 → (∀ i, i < 8 - m → pu_DOk (g i)) → ∀ i, i < (pu_dRun ty b m at_ g).n → pu_DOk ((pu_dRun ty b m at_ g).g i)
  | 0, at_, g, _, _, i, hi => absurd hi (Nat.not_lt_zero _)
  | m + 1, at_, g, hm, hg, i, hi => by
    have key : ∀ d pos, pu_dPart ty b at_ = .inr (d, pos) → ∀ i, i < 8 - m → pu_DOk (pu_setG g (7 - m) d i) := by
      intro d pos hp i hi
      unfold pu_setG
      by_cases q : i = 7 - m
      · rw [if_pos q]; exact pu_dPart_ok hp
      · rw [if_neg q]; exact hg i (by omega)
    unfold pu_dRun at hi ⊢
    cases hp : pu_dPart ty b at_ with
    | inl k => rw [hp] at hi; exact absurd hi (Nat.not_lt_zero _)
    | inr dp =>
      obtain ⟨d, pos⟩ := dp
      rw [hp] at hi
      dsimp only [pu_D5.kind, pu_D5.place, pu_D5.wet, pu_D5.worth, pu_D5.who, pu_R4.many, pu_R4.askR, pu_R4.askP, pu_DR.n, pu_DR.g, pu_DR.fault] at hi ⊢
      by_cases q1 : pos = ty
      · rw [if_pos q1] at hi ⊢
        exact key d pos hp i hi
      · rw [if_neg q1] at hi ⊢
        by_cases q2 : pu_bt ty b pos ≠ 59
        · rw [if_pos q2] at hi; exact absurd hi (Nat.not_lt_zero _)
        · rw [if_neg q2] at hi ⊢
          exact pu_dRun_ok m (pos + 1) _ (by omega) (key d pos hp) i hi
theorem pu_dTop_ok (ty : Nat) (b : Nat → Nat) : (pu_dTop ty b).n ≤ 8 ∧ ∀ i, i < (pu_dTop ty b).n → pu_DOk ((pu_dTop ty b).g i) := by
  unfold pu_dTop
  by_cases z : ty = 0
  · rw [if_pos z]
    exact ⟨Nat.zero_le _, fun i hi => absurd hi (Nat.not_lt_zero _)⟩
  · rw [if_neg z]
    exact ⟨pu_dRun_le 8 0 _ (by omega), pu_dRun_ok 8 0 _ (by omega) (fun i hi => by omega)⟩
abbrev pu_ROk (r : pu_R4) : Prop := (∀ k, r.many k ≤ 4) ∧ (∀ k, r.askR k ≤ 1) ∧ (∀ k, r.askP k ≤ 1)
theorem pu_ROk.many {r : pu_R4} (h_ : pu_ROk r) : ∀ k, r.many k ≤ 4 := h_.1
theorem pu_ROk.askR {r : pu_R4} (h_ : pu_ROk r) : ∀ k, r.askR k ≤ 1 := h_.2.1
theorem pu_ROk.askP {r : pu_R4} (h_ : pu_ROk r) : ∀ k, r.askP k ≤ 1 := h_.2.2
theorem pu_r0_ok : pu_ROk pu_r0 := ⟨fun _ => Nat.zero_le _, fun _ => Nat.zero_le _, fun _ => Nat.zero_le _⟩
theorem pu_rRun_ok {ty : Nat} {b : Nat → Nat} : ∀ c at_ r, pu_ROk r → pu_ROk (pu_rRun ty b c at_ r).r
  | 0, at_, r, h => pu_r0_ok
  | c + 1, at_, r, h => by
    unfold pu_rRun
    split
    · exact pu_r0_ok
    · split
      · exact pu_r0_ok
      · rename_i h1 h2
        have pu_hs : pu_ROk (pu_setR r (pu_kdS (pu_bt ty b at_) - 1) (pu_bt ty b (at_ + 1) - 48) (pu_rW ty b at_) (pu_rH ty b at_)) := by
          have w1 := pu_rW_le ty b at_
          have w2 := pu_rH_le ty b at_
          unfold pu_setR pu_setN
          refine ⟨fun k => ?_, fun k => ?_, fun k => ?_⟩
          · dsimp only [pu_D5.kind, pu_D5.place, pu_D5.wet, pu_D5.worth, pu_D5.who, pu_R4.many, pu_R4.askR, pu_R4.askP, pu_DR.n, pu_DR.g, pu_DR.fault]; split
            · omega
            · exact h.many k
          · dsimp only [pu_D5.kind, pu_D5.place, pu_D5.wet, pu_D5.worth, pu_D5.who, pu_R4.many, pu_R4.askR, pu_R4.askP, pu_DR.n, pu_DR.g, pu_DR.fault]; split
            · omega
            · exact h.askR k
          · dsimp only [pu_D5.kind, pu_D5.place, pu_D5.wet, pu_D5.worth, pu_D5.who, pu_R4.many, pu_R4.askR, pu_R4.askP, pu_DR.n, pu_DR.g, pu_DR.fault]; split
            · omega
            · exact h.askP k
        split
        · exact pu_hs
        · split
          · exact pu_r0_ok
          · exact pu_rRun_ok c _ _ pu_hs
theorem pu_rTop_ok (ty : Nat) (b : Nat → Nat) : pu_ROk (pu_rTop ty b).r := by
  unfold pu_rTop
  split
  · exact pu_r0_ok
  · exact pu_rRun_ok _ _ _ pu_r0_ok
theorem pu_VF_ok {R : pu_Rw} (o : pu_RwOk R) : pu_VOk (pu_VF R) := by
  have d := pu_dTop_ok R.ty0 R.b0
  have r := pu_rTop_ok R.ty1 R.b1
  exact ⟨d.1, fun i hi => (d.2 i hi).kind, fun i hi => (d.2 i hi).place, fun i hi => (d.2 i hi).wet, fun i hi => (d.2 i hi).worth, fun i hi => (d.2 i hi).worth0, fun i hi => (d.2 i hi).who, fun i hi => (d.2 i hi).who0, fun k _ => r.many k, fun k _ => r.askR k, fun k _ => r.askP k, o.come, o.til, o.price, o.mem, o.rain, o.set0, o.set1, o.set2, o.set3⟩
/-! the model -/
abbrev pu_RM (I : St) (R : pu_Rw) : Prop := I 0 0 = nI R.ty0 ∧ I 0 1 = nI R.ty1 ∧ (∀ k, k < 80 → I 1 k = nI (R.b0 k)) ∧ (∀ k, k < 40 → I 1 (80 + k) = nI (R.b1 k)) ∧ (∀ p, p < 8 → I 12 p = nI (R.come p)) ∧ (∀ p, p < 8 → I 13 p = nI (R.til p)) ∧ (∀ p, p < 8 → I 14 p = nI (R.price p)) ∧ (∀ p, p < 8 → I 15 p = nI (R.mem p)) ∧ (∀ h, h < 8 → I 16 h = nI (R.rain h)) ∧ (∀ k, k < 4 → I 17 k = nI (R.set k))
theorem pu_RM.t0 {I : St} {R : pu_Rw} (h_ : pu_RM I R) : I 0 0 = nI R.ty0 := h_.1
theorem pu_RM.t1 {I : St} {R : pu_Rw} (h_ : pu_RM I R) : I 0 1 = nI R.ty1 := h_.2.1
theorem pu_RM.b0 {I : St} {R : pu_Rw} (h_ : pu_RM I R) : ∀ k, k < 80 → I 1 k = nI (R.b0 k) := h_.2.2.1
theorem pu_RM.b1 {I : St} {R : pu_Rw} (h_ : pu_RM I R) : ∀ k, k < 40 → I 1 (80 + k) = nI (R.b1 k) := h_.2.2.2.1
theorem pu_RM.come {I : St} {R : pu_Rw} (h_ : pu_RM I R) : ∀ p, p < 8 → I 12 p = nI (R.come p) := h_.2.2.2.2.1
theorem pu_RM.til {I : St} {R : pu_Rw} (h_ : pu_RM I R) : ∀ p, p < 8 → I 13 p = nI (R.til p) := h_.2.2.2.2.2.1
theorem pu_RM.price {I : St} {R : pu_Rw} (h_ : pu_RM I R) : ∀ p, p < 8 → I 14 p = nI (R.price p) := h_.2.2.2.2.2.2.1
theorem pu_RM.mem {I : St} {R : pu_Rw} (h_ : pu_RM I R) : ∀ p, p < 8 → I 15 p = nI (R.mem p) := h_.2.2.2.2.2.2.2.1
theorem pu_RM.rain {I : St} {R : pu_Rw} (h_ : pu_RM I R) : ∀ h, h < 8 → I 16 h = nI (R.rain h) := h_.2.2.2.2.2.2.2.2.1
theorem pu_RM.set {I : St} {R : pu_Rw} (h_ : pu_RM I R) : ∀ k, k < 4 → I 17 k = nI (R.set k) := h_.2.2.2.2.2.2.2.2.2
def pu_MSh (I : St) (S : pu_Sh) : Prop := ∀ s, s < 4 → I 33 s = pu_bI (S.there s) ∧ (S.there s = true → I 34 s = nI (S.form s) ∧ I 35 s = nI (S.size s) ∧ ∀ i, i < S.size s → I 36 (60 * s + i) = S.it s i)
abbrev pu_MI (I : St) (w : pu_Wd) : Prop := pu_RM I w.r ∧ pu_ME I w.e ∧ pu_MSh I w.s ∧ I 38 0 = w.f
theorem pu_MI.r {I : St} {w : pu_Wd} (h_ : pu_MI I w) : pu_RM I w.r := h_.1
theorem pu_MI.e {I : St} {w : pu_Wd} (h_ : pu_MI I w) : pu_ME I w.e := h_.2.1
theorem pu_MI.s {I : St} {w : pu_Wd} (h_ : pu_MI I w) : pu_MSh I w.s := h_.2.2.1
theorem pu_MI.f {I : St} {w : pu_Wd} (h_ : pu_MI I w) : I 38 0 = w.f := h_.2.2.2
/-- what the model may write without harm -/
def pu_mBk (b : Nat) : Bool := (decide (2 ≤ b) && decide (b ≤ 11)) || (decide (18 ≤ b) && decide (b ≤ 25)) || decide (b = 37)
theorem pu_MI.fr {I J : St} {w : pu_Wd} (h : pu_MI I w) (e : ∀ b, pu_mBk b = false → J b = I b) : pu_MI J w := by
  have g : ∀ b, pu_mBk b = false → J b = I b := e
  refine ⟨⟨?_, ?_, ?_, ?_, ?_, ?_, ?_, ?_, ?_, ?_⟩, h.e.fr (fun b h1 h2 => g b (by unfold pu_mBk; simp; omega)), fun s pu_hs => ?_, ?_⟩
  · rw [g 0 rfl]; exact h.r.t0
  · rw [g 0 rfl]; exact h.r.t1
  · rw [g 1 rfl]; exact h.r.b0
  · rw [g 1 rfl]; exact h.r.b1
  · rw [g 12 rfl]; exact h.r.come
  · rw [g 13 rfl]; exact h.r.til
  · rw [g 14 rfl]; exact h.r.price
  · rw [g 15 rfl]; exact h.r.mem
  · rw [g 16 rfl]; exact h.r.rain
  · rw [g 17 rfl]; exact h.r.set
  · rw [g 33 rfl, g 34 rfl, g 35 rfl, g 36 rfl]; exact h.s s pu_hs
  · rw [g 38 rfl]; exact h.f
theorem pu_MI.fr1 {I J : St} {w : pu_Wd} {bs : List Nat} (h : pu_MI I w) (e : pu_Fr bs I J) (hb : bs.all pu_mBk = true) : pu_MI J w := h.fr (fun b hq => e b (fun q => by
  have := List.all_eq_true.mp hb b q
  rw [hq] at this
  cases this))
theorem pu_MI.t0 {I : St} {w : pu_Wd} (h : pu_MI I w) (o : pu_RwOk w.r) : pu_MT I 0 w.r.ty0 w.r.b0 := ⟨h.r.t0, o.t0, by omega, fun k hk => by rw [Nat.mul_zero, Nat.zero_add]; exact h.r.b0 k (by have := o.t0; omega), fun k hk => o.b0 k (by have := o.t0; omega)⟩
theorem pu_MI.t1 {I : St} {w : pu_Wd} (h : pu_MI I w) (o : pu_RwOk w.r) : pu_MT I 1 w.r.ty1 w.r.b1 := ⟨h.r.t1, by have := o.t1; omega, by omega, fun k hk => h.r.b1 k (by have := o.t1; omega), fun k hk => o.b1 k (by have := o.t1; omega)⟩
theorem pu_fault0_n {I : St} {w : pu_Wd} (h : pu_MI I w) (o : pu_RwOk w.r) : ∃ J, pu_Fr pu_dBk I J ∧ J 2 0 = nI (pu_VF w.r).n ∧ pu_MG J (pu_dTop w.r.ty0 w.r.b0).g (pu_dTop w.r.ty0 w.r.b0).n ∧ mo_faultOf (nI 0) I = some (pu_fI (pu_dTop w.r.ty0 w.r.b0).fault, J) := by
  obtain ⟨J, a1, a2, a3, a4⟩ := pu_readsDeeds_n (h.t0 o)
  refine ⟨J, a1, a2, a3, ?_⟩
  unfold mo_faultOf
  rw [if_pos (show nI 0 = 0 from rfl), a4, pu_bd2_s]
theorem pu_reads_n {I : St} {w : pu_Wd} (h : pu_MI I w) (o : pu_RwOk w.r) : ∃ J, pu_MV J (pu_VF w.r) ∧ pu_MI J w ∧ mo_reads I = some J := by
  obtain ⟨J, a1, a2, a3, a4⟩ := pu_fault0_n h o
  have hJ := h.fr1 a1 (by decide)
  obtain ⟨K, b1, b2, b3⟩ := pu_faultOf1_n (hJ.t1 o)
  have hK := hJ.fr1 b1 (by decide)
  refine ⟨K, ?_, hK, ?_⟩
  · have g : ∀ b, 2 ≤ b → b ≤ 7 → K b = J b := fun b h1 h2 => b1 b (by simp; omega)
    refine ⟨?_, ?_, ?_, ?_, ?_, ?_, ?_, ?_, ?_, ?_, ?_, ?_, ?_, ?_, ?_, ?_⟩
    · rw [g 2 (by omega) (by omega)]; exact a2
    · intro d hd; rw [g 3 (by omega) (by omega)]; exact (a3 d hd).1
    · intro d hd; rw [g 4 (by omega) (by omega)]; exact (a3 d hd).2.1
    · intro d hd; rw [g 5 (by omega) (by omega)]; exact (a3 d hd).2.2.1
    · intro d hd; rw [g 6 (by omega) (by omega)]; exact (a3 d hd).2.2.2.1
    · intro d hd; rw [g 7 (by omega) (by omega)]; exact (a3 d hd).2.2.2.2
    · exact b2.parts
    · exact b2.many
    · exact b2.askR
    · exact b2.askP
    · exact hK.r.come
    · exact hK.r.til
    · exact hK.r.price
    · exact hK.r.mem
    · exact hK.r.rain
    · exact hK.r.set
  · unfold mo_reads
    simp only [pu_lit]
    rw [a4, pu_bd2_s, b3, pu_bd2_s]
/-! the component -/
abbrev pu_RC (C : St) (R : pu_Rw) : Prop := C 40 1 = nI R.ty0 ∧ C 41 1 = nI R.ty1 ∧ (∀ k, k < 80 → C 42 k = nI (R.b0 k)) ∧ (∀ k, k < 40 → C 43 k = nI (R.b1 k)) ∧ (∀ p, p < 8 → C (20 + p) 0 = nI (R.come p)) ∧ (∀ p, p < 8 → C (20 + p) 1 = nI (R.til p)) ∧ (∀ p, p < 8 → C (20 + p) 2 = nI (R.price p)) ∧ (∀ p, p < 8 → C (20 + p) 3 = nI (R.mem p)) ∧ (∀ h, h < 8 → C 2 h = nI (R.rain h)) ∧ (∀ k, k < 4 → C 3 k = nI (R.set k))
theorem pu_RC.t0 {C : St} {R : pu_Rw} (h_ : pu_RC C R) : C 40 1 = nI R.ty0 := h_.1
theorem pu_RC.t1 {C : St} {R : pu_Rw} (h_ : pu_RC C R) : C 41 1 = nI R.ty1 := h_.2.1
theorem pu_RC.b0 {C : St} {R : pu_Rw} (h_ : pu_RC C R) : ∀ k, k < 80 → C 42 k = nI (R.b0 k) := h_.2.2.1
theorem pu_RC.b1 {C : St} {R : pu_Rw} (h_ : pu_RC C R) : ∀ k, k < 40 → C 43 k = nI (R.b1 k) := h_.2.2.2.1
theorem pu_RC.come {C : St} {R : pu_Rw} (h_ : pu_RC C R) : ∀ p, p < 8 → C (20 + p) 0 = nI (R.come p) := h_.2.2.2.2.1
theorem pu_RC.til {C : St} {R : pu_Rw} (h_ : pu_RC C R) : ∀ p, p < 8 → C (20 + p) 1 = nI (R.til p) := h_.2.2.2.2.2.1
theorem pu_RC.price {C : St} {R : pu_Rw} (h_ : pu_RC C R) : ∀ p, p < 8 → C (20 + p) 2 = nI (R.price p) := h_.2.2.2.2.2.2.1
theorem pu_RC.mem {C : St} {R : pu_Rw} (h_ : pu_RC C R) : ∀ p, p < 8 → C (20 + p) 3 = nI (R.mem p) := h_.2.2.2.2.2.2.2.1
theorem pu_RC.rain {C : St} {R : pu_Rw} (h_ : pu_RC C R) : ∀ h, h < 8 → C 2 h = nI (R.rain h) := h_.2.2.2.2.2.2.2.2.1
theorem pu_RC.set {C : St} {R : pu_Rw} (h_ : pu_RC C R) : ∀ k, k < 4 → C 3 k = nI (R.set k) := h_.2.2.2.2.2.2.2.2.2
def pu_CSh (C : St) (S : pu_Sh) : Prop := ∀ s, s < 4 → C (60 + s) 0 = pu_bI (S.there s) ∧ (S.there s = true → C (60 + s) 1 = nI (S.form s) ∧ C (60 + s) 2 = nI (S.size s) ∧ ∀ i, i < S.size s → C (70 + s) i = S.it s i)
abbrev pu_PL (C : St) (R : pu_Rw) : Prop := C 40 3 = nI 1 ∧ C 41 3 = nI 1 ∧ (∀ w c, pu_tgtS (pu_VF R) = some (w, c) → C 0 14 = nI w ∧ C 0 15 = nI c ∧ ∀ d, d < (pu_VF R).n → C 16 d = pu_fI (pu_rowS (pu_VF R) d))
theorem pu_PL.a {C : St} {R : pu_Rw} (h_ : pu_PL C R) : C 40 3 = nI 1 := h_.1
theorem pu_PL.b {C : St} {R : pu_Rw} (h_ : pu_PL C R) : C 41 3 = nI 1 := h_.2.1
theorem pu_PL.p {C : St} {R : pu_Rw} (h_ : pu_PL C R) : ∀ w c, pu_tgtS (pu_VF R) = some (w, c) → C 0 14 = nI w ∧ C 0 15 = nI c ∧ ∀ d, d < (pu_VF R).n → C 16 d = pu_fI (pu_rowS (pu_VF R) d) := h_.2.2
abbrev pu_CI (C : St) (w : pu_Wd) : Prop := pu_RC C w.r ∧ pu_CE C w.e ∧ pu_CSh C w.s ∧ C 0 0 = w.f ∧ ((C 40 3 = nI 0) ∨ (C 40 3 = nI 1 ∧ pu_CG C (pu_dTop w.r.ty0 w.r.b0).g (pu_dTop w.r.ty0 w.r.b0).n ∧ C 40 4 = pu_fI (pu_dTop w.r.ty0 w.r.b0).fault)) ∧ ((C 41 3 = nI 0) ∨ (C 41 3 = nI 1 ∧ pu_CR C (pu_rTop w.r.ty1 w.r.b1).r ∧ C 41 4 = pu_fI (pu_rTop w.r.ty1 w.r.b1).fault)) ∧ ((C 0 4 = nI 1) ∨ (C 0 4 = nI 0 ∧ pu_PL C w.r))
theorem pu_CI.r {C : St} {w : pu_Wd} (h_ : pu_CI C w) : pu_RC C w.r := h_.1
theorem pu_CI.e {C : St} {w : pu_Wd} (h_ : pu_CI C w) : pu_CE C w.e := h_.2.1
theorem pu_CI.s {C : St} {w : pu_Wd} (h_ : pu_CI C w) : pu_CSh C w.s := h_.2.2.1
theorem pu_CI.f {C : St} {w : pu_Wd} (h_ : pu_CI C w) : C 0 0 = w.f := h_.2.2.2.1
theorem pu_CI.q0 {C : St} {w : pu_Wd} (h_ : pu_CI C w) : (C 40 3 = nI 0) ∨ (C 40 3 = nI 1 ∧ pu_CG C (pu_dTop w.r.ty0 w.r.b0).g (pu_dTop w.r.ty0 w.r.b0).n ∧ C 40 4 = pu_fI (pu_dTop w.r.ty0 w.r.b0).fault) := h_.2.2.2.2.1
theorem pu_CI.q1 {C : St} {w : pu_Wd} (h_ : pu_CI C w) : (C 41 3 = nI 0) ∨ (C 41 3 = nI 1 ∧ pu_CR C (pu_rTop w.r.ty1 w.r.b1).r ∧ C 41 4 = pu_fI (pu_rTop w.r.ty1 w.r.b1).fault) := h_.2.2.2.2.2.1
theorem pu_CI.pl {C : St} {w : pu_Wd} (h_ : pu_CI C w) : (C 0 4 = nI 1) ∨ (C 0 4 = nI 0 ∧ pu_PL C w.r) := h_.2.2.2.2.2.2
/-! PURE: the component's reading, keeping its world -/
theorem pu_ex_nI (x : Int32) : ∃ p, x = nI p := ⟨x.toUInt32.toNat, by
  apply Int32.toBitVec_inj.mp
  show x.toBitVec = BitVec.ofNat 32 x.toBitVec.toNat
  rw [BitVec.ofNat_toNat, BitVec.setWidth_eq]⟩
theorem pu_CI.t0 {C : St} {w : pu_Wd} (h : pu_CI C w) (o : pu_RwOk w.r) : ∃ p, pu_CT C 0 w.r.ty0 w.r.b0 p := by
  obtain ⟨p, hp⟩ := pu_ex_nI (C 40 2)
  exact ⟨p, h.r.t0, hp, o.t0, by omega, fun k hk => h.r.b0 k (by have := o.t0; omega), fun k hk => o.b0 k (by have := o.t0; omega)⟩
theorem pu_CI.t1 {C : St} {w : pu_Wd} (h : pu_CI C w) (o : pu_RwOk w.r) : ∃ p, pu_CT C 1 w.r.ty1 w.r.b1 p := by
  obtain ⟨p, hp⟩ := pu_ex_nI (C 41 2)
  exact ⟨p, h.r.t1, hp, by have := o.t1; omega, by omega, fun k hk => h.r.b1 k (by have := o.t1; omega), fun k hk => o.b1 k (by have := o.t1; omega)⟩
/-- the deeds' text read -/
theorem pu_rd0_n {C : St} {w : pu_Wd} (h : pu_CI C w) (o : pu_WOk w) : ∃ J, pu_CI J w ∧ J 40 3 = nI 1 ∧ J 41 3 = C 41 3 ∧ J 0 = C 0 ∧ J 16 = C 16 ∧ cp_read 0 C = some (pu_fI (pu_dTop w.r.ty0 w.r.b0).fault, J) := by
  obtain ⟨p, hT⟩ := h.t0 o.r
  rcases h.q0 with hq | ⟨hq, hG, hf⟩
  · obtain ⟨J0, a1, a2, a3⟩ := pu_readsC_n hT
    generalize hJ : upd2 (upd2 J0 40 4 (pu_fI (pu_dTop w.r.ty0 w.r.b0).fault)) 40 3 (nI 1) = J
    have g : ∀ a, a ≠ 40 → J a = J0 a := fun a ha => by rw [← hJ, upd2_other _ _ _ ha, upd2_other _ _ _ ha]
    have G : ∀ a, a ≠ 40 → a ≠ 50 → (a < 100 ∨ 110 ≤ a) → J a = C a := fun a h1 h2 h3 => (g a h1).trans (a1.1 a h1 h2 h3)
    have g40 : ∀ k, k ≠ 2 → k ≠ 3 → k ≠ 4 → J 40 k = C 40 k := fun k h1 h2 h3 => by rw [← hJ, pu_upd2_ne _ _ _ h2, pu_upd2_ne _ _ _ h3]; exact a1.2 k h1
    have e3 : J 40 3 = nI 1 := by rw [← hJ, pu_upd2_at]
    have e4 : J 40 4 = pu_fI (pu_dTop w.r.ty0 w.r.b0).fault := by rw [← hJ, pu_upd2_ne _ _ _ (by decide), pu_upd2_at]
    refine ⟨J, ⟨⟨?_, ?_, ?_, ?_, ?_, ?_, ?_, ?_, ?_, ?_⟩, h.e.fr o.e (fun b hb => G b (by omega) (by omega) (by omega)), fun s pu_hs => ?_, ?_, Or.inr ⟨e3, ⟨by rw [g 50 (by decide)]; exact a2.1, fun i hi => by rw [g (100 + i) (by omega)]; exact a2.2 i hi⟩, e4⟩, ?_, ?_⟩, e3, by rw [G 41 (by decide) (by decide) (by decide)], G 0 (by decide) (by decide) (by decide), G 16 (by decide) (by decide) (by decide), ?_⟩
    · rw [g40 1 (by decide) (by decide) (by decide)]; exact h.r.t0
    · rw [G 41 (by decide) (by decide) (by decide)]; exact h.r.t1
    · rw [G 42 (by decide) (by decide) (by decide)]; exact h.r.b0
    · rw [G 43 (by decide) (by decide) (by decide)]; exact h.r.b1
    · intro p hp; rw [G (20 + p) (by omega) (by omega) (by omega)]; exact h.r.come p hp
    · intro p hp; rw [G (20 + p) (by omega) (by omega) (by omega)]; exact h.r.til p hp
    · intro p hp; rw [G (20 + p) (by omega) (by omega) (by omega)]; exact h.r.price p hp
    · intro p hp; rw [G (20 + p) (by omega) (by omega) (by omega)]; exact h.r.mem p hp
    · rw [G 2 (by decide) (by decide) (by decide)]; exact h.r.rain
    · rw [G 3 (by decide) (by decide) (by decide)]; exact h.r.set
    · rw [G (60 + s) (by omega) (by omega) (by omega), G (70 + s) (by omega) (by omega) (by omega)]; exact h.s s pu_hs
    · rw [G 0 (by decide) (by decide) (by decide)]; exact h.f
    · rw [G 41 (by decide) (by decide) (by decide)]
      rcases h.q1 with z | ⟨z1, z2, z3⟩
      · exact Or.inl z
      · exact Or.inr ⟨z1, ⟨by rw [G 41 (by decide) (by decide) (by decide)]; exact z2.parts, by rw [G 44 (by decide) (by decide) (by decide)]; exact z2.many, by rw [G 45 (by decide) (by decide) (by decide)]; exact z2.askR, by rw [G 46 (by decide) (by decide) (by decide)]; exact z2.askP⟩, z3⟩
    · rw [G 0 (by decide) (by decide) (by decide)]
      rcases h.pl with z | ⟨z1, z2⟩
      · exact Or.inl z
      · rw [z2.a] at hq
        exact absurd hq pu_n10
    · unfold cp_read cfT_rdf
      simp only [pu_lit, pu_lt_s]
      rw [pu_gd_t (by omega), show C (40 + 0) 3 = nI 0 from hq, if_pos rfl, a3, pu_bd2_s]
      show some (upd2 (upd2 J0 40 4 (pu_fI (pu_dTop w.r.ty0 w.r.b0).fault)) 40 3 (nI 1) 40 4, upd2 (upd2 J0 40 4 (pu_fI (pu_dTop w.r.ty0 w.r.b0).fault)) 40 3 (nI 1)) = _
      rw [hJ, e4]
  · refine ⟨C, h, hq, rfl, rfl, rfl, ?_⟩
    unfold cp_read cfT_rdf
    simp only [pu_lit, pu_lt_s]
    rw [pu_gd_t (by omega), show C (40 + 0) 3 = nI 1 from hq, if_neg pu_n10]
    show some (upd2 C 40 3 (nI 1) 40 4, upd2 C 40 3 (nI 1)) = _
    rw [← hq, pu_upd2_self, hf]
/-- the rules' text read -/
theorem pu_rd1_n {C : St} {w : pu_Wd} (h : pu_CI C w) (o : pu_WOk w) : ∃ J, pu_CI J w ∧ J 41 3 = nI 1 ∧ J 40 3 = C 40 3 ∧ J 0 = C 0 ∧ J 16 = C 16 ∧ cp_read 1 C = some (pu_fI (pu_rTop w.r.ty1 w.r.b1).fault, J) := by
  obtain ⟨p, hT⟩ := h.t1 o.r
  rcases h.q1 with hq | ⟨hq, hG, hf⟩
  · obtain ⟨J0, a1, a2, a3⟩ := pu_readsR_n hT
    generalize hJ : upd2 (upd2 J0 41 4 (pu_fI (pu_rTop w.r.ty1 w.r.b1).fault)) 41 3 (nI 1) = J
    have g : ∀ a, a ≠ 41 → J a = J0 a := fun a ha => by rw [← hJ, upd2_other _ _ _ ha, upd2_other _ _ _ ha]
    have G : ∀ a, a ≠ 41 → a ≠ 44 → a ≠ 45 → a ≠ 46 → J a = C a := fun a h1 h2 h3 h4 => (g a h1).trans (a1.1 a h1 h2 h3 h4)
    have g40 : ∀ k, k ≠ 2 → k ≠ 3 → k ≠ 4 → k ≠ 8 → J 41 k = C 41 k := fun k h1 h2 h3 h4 => by rw [← hJ, pu_upd2_ne _ _ _ h2, pu_upd2_ne _ _ _ h3]; exact a1.2 k h1 h4
    have e3 : J 41 3 = nI 1 := by rw [← hJ, pu_upd2_at]
    have e4 : J 41 4 = pu_fI (pu_rTop w.r.ty1 w.r.b1).fault := by rw [← hJ, pu_upd2_ne _ _ _ (by decide), pu_upd2_at]
    have e8 : J 41 8 = J0 41 8 := by rw [← hJ, pu_upd2_ne _ _ _ (by decide), pu_upd2_ne _ _ _ (by decide)]
    refine ⟨J, ⟨⟨?_, ?_, ?_, ?_, ?_, ?_, ?_, ?_, ?_, ?_⟩, h.e.fr o.e (fun b hb => G b (by omega) (by omega) (by omega) (by omega)), fun s pu_hs => ?_, ?_, ?_, Or.inr ⟨e3, ⟨by rw [e8]; exact a2.parts, by rw [g 44 (by decide)]; exact a2.many, by rw [g 45 (by decide)]; exact a2.askR, by rw [g 46 (by decide)]; exact a2.askP⟩, e4⟩, ?_⟩, e3, by rw [G 40 (by decide) (by decide) (by decide) (by decide)], G 0 (by decide) (by decide) (by decide) (by decide), G 16 (by decide) (by decide) (by decide) (by decide), ?_⟩
    · rw [G 40 (by decide) (by decide) (by decide) (by decide)]; exact h.r.t0
    · rw [g40 1 (by decide) (by decide) (by decide) (by decide)]; exact h.r.t1
    · rw [G 42 (by decide) (by decide) (by decide) (by decide)]; exact h.r.b0
    · rw [G 43 (by decide) (by decide) (by decide) (by decide)]; exact h.r.b1
    · intro p hp; rw [G (20 + p) (by omega) (by omega) (by omega) (by omega)]; exact h.r.come p hp
    · intro p hp; rw [G (20 + p) (by omega) (by omega) (by omega) (by omega)]; exact h.r.til p hp
    · intro p hp; rw [G (20 + p) (by omega) (by omega) (by omega) (by omega)]; exact h.r.price p hp
    · intro p hp; rw [G (20 + p) (by omega) (by omega) (by omega) (by omega)]; exact h.r.mem p hp
    · rw [G 2 (by decide) (by decide) (by decide) (by decide)]; exact h.r.rain
    · rw [G 3 (by decide) (by decide) (by decide) (by decide)]; exact h.r.set
    · rw [G (60 + s) (by omega) (by omega) (by omega) (by omega), G (70 + s) (by omega) (by omega) (by omega) (by omega)]; exact h.s s pu_hs
    · rw [G 0 (by decide) (by decide) (by decide) (by decide)]; exact h.f
    · rw [G 40 (by decide) (by decide) (by decide) (by decide)]
      rcases h.q0 with z | ⟨z1, z2, z3⟩
      · exact Or.inl z
      · have n8 := (pu_dTop_ok w.r.ty0 w.r.b0).1
        exact Or.inr ⟨z1, ⟨by rw [G 50 (by decide) (by decide) (by decide) (by decide)]; exact z2.1, fun i hi => by rw [G (100 + i) (by omega) (by omega) (by omega) (by omega)]; exact z2.2 i hi⟩, z3⟩
    · rw [G 0 (by decide) (by decide) (by decide) (by decide)]
      rcases h.pl with z | ⟨z1, z2⟩
      · exact Or.inl z
      · rw [z2.b] at hq
        exact absurd hq pu_n10
    · unfold cp_read cfT_rdf
      simp only [pu_lit, pu_lt_s]
      rw [pu_gd_t (by omega), show C (40 + 1) 3 = nI 0 from hq, if_pos rfl, a3, pu_bd2_s]
      show some (upd2 (upd2 J0 41 4 (pu_fI (pu_rTop w.r.ty1 w.r.b1).fault)) 41 3 (nI 1) 41 4, upd2 (upd2 J0 41 4 (pu_fI (pu_rTop w.r.ty1 w.r.b1).fault)) 41 3 (nI 1)) = _
      rw [hJ, e4]
  · refine ⟨C, h, hq, rfl, rfl, rfl, ?_⟩
    unfold cp_read cfT_rdf
    simp only [pu_lit, pu_lt_s]
    rw [pu_gd_t (by omega), show C (40 + 1) 3 = nI 1 from hq, if_neg pu_n10]
    show some (upd2 C 41 3 (nI 1) 41 4, upd2 C 41 3 (nI 1)) = _
    rw [← hq, pu_upd2_self, hf]
/-- both texts being read, the component shows the view -/
theorem pu_CI.v {C : St} {w : pu_Wd} (h : pu_CI C w) (e0 : C 40 3 = nI 1) (e1 : C 41 3 = nI 1) : pu_CV C (pu_VF w.r) := by
  rcases h.q0 with z | ⟨_, G, _⟩
  · rw [e0] at z; exact absurd z pu_n10
  · rcases h.q1 with z | ⟨_, R, _⟩
    · rw [e1] at z; exact absurd z pu_n10
    · exact ⟨G.1, fun d hd => (G.2 d hd).1, fun d hd => (G.2 d hd).2.1, fun d hd => (G.2 d hd).2.2.1, fun d hd => (G.2 d hd).2.2.2.1, fun d hd => (G.2 d hd).2.2.2.2, R.parts, R.many, R.askR, R.askP, h.r.come, h.r.til, h.r.price, h.r.mem, h.r.rain, h.r.set, e0, e1⟩
theorem pu_cdeeds_n {C : St} {w : pu_Wd} (h : pu_CI C w) (o : pu_WOk w) : ∃ J, pu_CI J w ∧ pu_CV J (pu_VF w.r) ∧ cp_deeds C = some (nI (pu_VF w.r).n, J) := by
  obtain ⟨J, a1, a2, a3, _, _, a4⟩ := pu_rd0_n h o
  obtain ⟨K, b1, b2, b3, _, _, b4⟩ := pu_rd1_n a1 o
  have V := b1.v (b3.trans a2) b2
  refine ⟨K, b1, V, ?_⟩
  unfold cp_deeds cfL_size
  rw [a4, pu_bd2_s, b4, pu_bd2_s, pu_gd_t (by omega), pu_bd_s]
  show some (K 50 2, K) = _
  rw [V.n]
theorem pu_cisDeed_n {C : St} {w : pu_Wd} (h : pu_CI C w) (o : pu_WOk w) (x : Int32) : ∃ J, pu_CI J w ∧ pu_CV J (pu_VF w.r) ∧ cp_isDeed x C = some (pu_bI (pu_inS x (nI 0) (pu_fI (pu_VF w.r).n)), J) := by
  obtain ⟨J, a1, a2, a3⟩ := pu_cdeeds_n h o
  refine ⟨J, a1, a2, ?_⟩
  unfold cp_isDeed
  rw [a3, pu_bd2_s, show cf_in x.toInt64 0 ((nI (pu_VF w.r).n - 1).toInt64) = _ from pu_cfin x (nI 0) (nI (pu_VF w.r).n - nI 1), pu_bd_s, if_pos (pu_zb_b _)]
  rfl
theorem pu_isDeed_n {I : St} {w : pu_Wd} (h : pu_MI I w) (o : pu_WOk w) (x : Int32) : ∃ J, pu_MI J w ∧ pu_MV J (pu_VF w.r) ∧ mo_isDeed x I = some (pu_bI (pu_inS x (nI 0) (pu_fI (pu_VF w.r).n)), J) := by
  obtain ⟨J, a1, a2, a3⟩ := pu_reads_n h o.r
  refine ⟨J, a2, a1, ?_⟩
  unfold mo_isDeed
  simp only [pu_lit]
  rw [a3, pu_bd_s, a1.n, pu_moin, pu_bd_s, if_pos (pu_zb_b _)]
  rfl
/-- plans -/
theorem pu_CI.plan {C J : St} {w : pu_Wd} (h : pu_CI C w) (o : pu_WOk w) (e0 : C 40 3 = nI 1) (e1 : C 41 3 = nI 1) (F : pu_Fr pu_pBk C J) (pu_F0 : ∀ k, k ≠ 12 → k ≠ 13 → k ≠ 14 → k ≠ 15 → J 0 k = C 0 k) (P : ∀ a b, pu_tgtS (pu_VF w.r) = some (a, b) → J 0 14 = nI a ∧ J 0 15 = nI b ∧ ∀ d, d < (pu_VF w.r).n → J 16 d = pu_fI (pu_rowS (pu_VF w.r) d)) : pu_CI (upd2 J 0 4 (nI 0)) w ∧ pu_CV (upd2 J 0 4 (nI 0)) (pu_VF w.r) := by
  have F' : ∀ b, b ∉ pu_pBk → upd2 J 0 4 (nI 0) b = C b := fun b hb => by rw [upd2_other _ _ _ (fun z => hb (by rw [z]; decide))]; exact F b hb
  have G : ∀ b, pu_pBk.contains b = false → upd2 J 0 4 (nI 0) b = C b := fun b hb => F' b (fun z => by
    have := List.contains_iff_mem.mpr z
    rw [hb] at this
    cases this)
  have hp : ∀ b, (b < 30 ∧ b ≠ 0 ∧ b ≠ 8 ∧ b ≠ 9 ∧ b ≠ 10 ∧ b ≠ 11 ∧ b ≠ 16) ∨ 38 ≤ b → upd2 J 0 4 (nI 0) b = C b := fun b hb => F' b (by simp; omega)
  have n8 := (pu_dTop_ok w.r.ty0 w.r.b0).1
  have hCI : pu_CI (upd2 J 0 4 (nI 0)) w := by
    refine ⟨⟨?_, ?_, ?_, ?_, ?_, ?_, ?_, ?_, ?_, ?_⟩, h.e.fr o.e (fun b hb => hp b (by omega)), fun s pu_hs => ?_, ?_, ?_, ?_, Or.inr ⟨pu_upd2_at _ _ _ _, ?_, ?_, fun a b hab => ?_⟩⟩
    · rw [hp 40 (by omega)]; exact h.r.t0
    · rw [hp 41 (by omega)]; exact h.r.t1
    · rw [hp 42 (by omega)]; exact h.r.b0
    · rw [hp 43 (by omega)]; exact h.r.b1
    · intro p hp8; rw [hp (20 + p) (by omega)]; exact h.r.come p hp8
    · intro p hp8; rw [hp (20 + p) (by omega)]; exact h.r.til p hp8
    · intro p hp8; rw [hp (20 + p) (by omega)]; exact h.r.price p hp8
    · intro p hp8; rw [hp (20 + p) (by omega)]; exact h.r.mem p hp8
    · rw [hp 2 (by omega)]; exact h.r.rain
    · rw [hp 3 (by omega)]; exact h.r.set
    · rw [hp (60 + s) (by omega), hp (70 + s) (by omega)]; exact h.s s pu_hs
    · rw [pu_upd2_ne _ _ _ (by decide), pu_F0 0 (by decide) (by decide) (by decide) (by decide)]; exact h.f
    · rw [hp 40 (by omega)]
      rcases h.q0 with z | ⟨z1, z2, z3⟩
      · exact Or.inl z
      · exact Or.inr ⟨z1, ⟨by rw [hp 50 (by omega)]; exact z2.1, fun i hi => by rw [hp (100 + i) (by omega)]; exact z2.2 i hi⟩, z3⟩
    · rw [hp 41 (by omega)]
      rcases h.q1 with z | ⟨z1, z2, z3⟩
      · exact Or.inl z
      · exact Or.inr ⟨z1, ⟨by rw [hp 41 (by omega)]; exact z2.parts, by rw [hp 44 (by omega)]; exact z2.many, by rw [hp 45 (by omega)]; exact z2.askR, by rw [hp 46 (by omega)]; exact z2.askP⟩, z3⟩
    · rw [hp 40 (by omega)]; exact e0
    · rw [hp 41 (by omega)]; exact e1
    · have := P a b hab
      rw [pu_upd2_ne _ _ _ (by decide), pu_upd2_ne _ _ _ (by decide), upd2_other _ _ _ (by decide)]
      exact this
  exact ⟨hCI, hCI.v (by rw [hp 40 (by omega)]; exact e0) (by rw [hp 41 (by omega)]; exact e1)⟩
theorem pu_cplanned_n {C : St} {w : pu_Wd} (h : pu_CI C w) (o : pu_WOk w) : ∃ J, pu_CI J w ∧ pu_CV J (pu_VF w.r) ∧ J 0 4 = nI 0 ∧ pu_PL J w.r ∧ cp_planned C = some J := by
  rcases h.pl with z | ⟨z, P⟩
  · obtain ⟨J, a1, a2, a3⟩ := pu_cdeeds_n h o
    obtain ⟨u, c, ht⟩ := pu_tgtS_some (pu_VF w.r)
    obtain ⟨K, b1, b2, b3, b4, b5, b6⟩ := pu_findPlan_n (pu_VF_ok o.r) a2 ht
    have X := a1.plan o a2.f0 a2.f1 b1 b2 (fun a b hab => by rw [ht] at hab; cases hab; exact ⟨b3, b4, b5⟩)
    refine ⟨upd2 K 0 4 (nI 0), X.1, X.2, pu_upd2_at _ _ _ _, ?_, ?_⟩
    · rcases X.1.pl with q | ⟨_, q⟩
      · rw [pu_upd2_at] at q; exact absurd q.symm pu_n10
      · exact q
    · unfold cp_planned cp_findPlan cf_findPlan_b4 cf_planned_b11
      simp only [pu_lit, pu_lt_s]
      rw [z, if_neg pu_n10, a3, pu_bd2_s, b6, pu_bd_s]
  · refine ⟨C, h, h.v P.a P.b, z, P, ?_⟩
    unfold cp_planned
    simp only [pu_lit, pu_lt_s]
    rw [z, if_pos rfl, ← z, pu_upd2_self]
theorem pu_fplanned_n {C : St} {w : pu_Wd} (h : pu_CI C w) (o : pu_WOk w) (V : pu_CV C (pu_VF w.r)) : ∃ J, pu_CI J w ∧ pu_CV J (pu_VF w.r) ∧ J 0 4 = nI 0 ∧ pu_PL J w.r ∧ cf_planned C = some J := by
  rcases h.pl with z | ⟨z, P⟩
  · obtain ⟨u, c, ht⟩ := pu_tgtS_some (pu_VF w.r)
    obtain ⟨K, b1, b2, b3, b4, b5, b6⟩ := pu_findPlan_n (pu_VF_ok o.r) V ht
    have X := h.plan o V.f0 V.f1 b1 b2 (fun a b hab => by rw [ht] at hab; cases hab; exact ⟨b3, b4, b5⟩)
    refine ⟨upd2 K 0 4 (nI 0), X.1, X.2, pu_upd2_at _ _ _ _, ?_, ?_⟩
    · rcases X.1.pl with q | ⟨_, q⟩
      · rw [pu_upd2_at] at q; exact absurd q.symm pu_n10
      · exact q
    · unfold cf_planned cf_findPlan cf_findPlan_b4 cf_planned_b11
      simp only [pu_lit, pu_lt_s]
      rw [z, if_neg pu_n10, pu_deeds_n V, pu_bd_s, b6, pu_bd_s]
  · refine ⟨C, h, V, z, P, ?_⟩
    unfold cf_planned cf_planned_b11
    simp only [pu_lit, pu_lt_s]
    rw [z, if_pos rfl, ← z, pu_upd2_self]
theorem pu_mplanned_n {I : St} {w : pu_Wd} (h : pu_MI I w) (o : pu_WOk w) : ∃ J, pu_MI J w ∧ pu_MV J (pu_VF w.r) ∧ (∀ a b, pu_tgtS (pu_VF w.r) = some (a, b) → J 24 0 = nI a ∧ J 25 0 = nI b ∧ ∀ d, d < (pu_VF w.r).n → J 21 d = pu_fI (pu_rowS (pu_VF w.r) d)) ∧ mo_laysMost I = some J := by
  obtain ⟨J, a1, a2, a3⟩ := pu_reads_n h o.r
  obtain ⟨u, c, ht⟩ := pu_tgtS_some (pu_VF w.r)
  obtain ⟨K, b1, b2, b3, b4, b5⟩ := pu_laysMost_n (pu_VF_ok o.r) a1 ht
  refine ⟨K, a2.fr1 b1 (by decide), a1.fr1 b1 (by simp), fun a b hab => by rw [ht] at hab; cases hab; exact ⟨b2, b3, b4⟩, ?_⟩
  unfold mo_laysMost
  simp only [pu_lit]
  rw [a3, pu_bd_s, b5]
/-! PURE: calls, side by side -/
def pu_Out {α : Type} (c m : Option (α × St)) : Prop := ∃ r C' I' w', c = some (r, C') ∧ m = some (r, I') ∧ pu_WOk w' ∧ pu_CI C' w' ∧ pu_MI I' w'
theorem pu_Out.mk {α : Type} {c m : Option (α × St)} {w : pu_Wd} (r : α) {C' I' : St} (hc : c = some (r, C')) (hm : m = some (r, I')) (o : pu_WOk w) (h1 : pu_CI C' w) (h2 : pu_MI I' w) : pu_Out c m := ⟨r, C', I', w, hc, hm, o, h1, h2⟩
theorem pu_q_in {α : Type} {bad : α} {C I : St} {w : pu_Wd} {b : Bool} {KC KM : Option (α × St)} {i1 i2 : Decidable (pu_bI b = nI 0)} (o : pu_WOk w) (hc : pu_CI C w) (hm : pu_MI I w) (hK : b = true → pu_Out KC KM) : pu_Out (@ite _ (pu_bI b = nI 0) i1 (some (bad, C)) KC) (@ite _ (pu_bI b = nI 0) i2 (some (bad, I)) KM) := by
  rw [pu_bI0, pu_bI0]
  cases b with
  | true => rw [if_pos rfl, if_pos rfl]; exact hK rfl
  | false => exact pu_Out.mk bad rfl rfl o hc hm
theorem pu_q_deed {α : Type} {bad : α} {C I : St} {w : pu_Wd} {x : Int32} {KC KM : St → Option (α × St)} (o : pu_WOk w) (hc : pu_CI C w) (hm : pu_MI I w)
    (hK : ∀ d C1 I1, d < (pu_VF w.r).n → x = nI d → pu_CI C1 w → pu_CV C1 (pu_VF w.r) → pu_MI I1 w → pu_MV I1 (pu_VF w.r) → pu_Out (KC C1) (KM I1)) :
    pu_Out (bd2_ (cp_isDeed x C) fun v C1 => if v = nI 0 then some (bad, C1) else KC C1) (bd2_ (mo_isDeed x I) fun v I1 => if v = nI 0 then some (bad, I1) else KM I1) := by
  obtain ⟨C1, a1, a2, a3⟩ := pu_cisDeed_n hc o x
  obtain ⟨I1, b1, b2, b3⟩ := pu_isDeed_n hm o x
  have n8 := (pu_VF_ok o.r).n8
  rw [a3, b3, pu_bd2_s, pu_bd2_s]
  refine pu_q_in o a1 b1 (fun h => ?_)
  obtain ⟨d, hd, hx⟩ := pu_inS_fI (by omega) h
  exact hK d C1 I1 hd hx a1 a2 b1 b2
theorem pu_mHour (x : Int32) : mo_isHour x = some (pu_bI (pu_inS x (nI 0) (nI 7))) := by
  unfold mo_isHour
  simp only [pu_lit]
  rw [pu_moin, pu_bd_s, if_pos (pu_zb_b _)]
theorem pu_mPerson (x : Int32) : mo_isPerson x = some (pu_bI (pu_inS x (nI 0) (nI 7))) := by
  unfold mo_isPerson
  simp only [pu_lit]
  rw [pu_moin, pu_bd_s, if_pos (pu_zb_b _)]
theorem pu_cin (x : Int32) (k : Nat) (hk : k < 2147483648) : cf_in x.toInt64 0 (pu_lI k) = some (pu_bI (pu_inS x (nI 0) (nI k))) := by
  rw [← pu_nI_64 hk]
  exact pu_cfin x (nI 0) (nI k)
theorem pu_llit (k : Nat) : (OfNat.ofNat k : Int64) = pu_lI k := Int64.toBitVec_inj.mp rfl
section OPS
variable {C I : St} {w : pu_Wd}
theorem pu_op_can (x1 x2 : Int32) (o : pu_WOk w) (hc : pu_CI C w) (hm : pu_MI I w) : pu_Out (cp_can x1 x2 C) (mo_can x1 x2 I) := by
  unfold cp_can mo_can
  simp only [pu_lit]
  refine pu_q_deed o hc hm (fun d C1 I1 hd hx c1 v1 m1 u1 => ?_)
  subst hx
  rw [pu_isHour_n, pu_mHour, pu_bd_s, pu_bd_s]
  refine pu_q_in o c1 m1 (fun h => ?_)
  obtain ⟨k, hk, rfl⟩ := pu_inS_ex (by omega) h
  have V := pu_VF_ok o.r
  rw [pu_deed2_n v1 V hd, pu_bd_s, pu_canBe_n v1 V hd (by omega), pu_bd_s, pu_canOf_n u1 V hd (by omega), pu_bd_s, pu_bI0]
  refine pu_Out.mk (pu_bI (pu_canS (pu_VF w.r) d k)) ?_ rfl o c1 m1
  cases pu_canS (pu_VF w.r) d k <;> rfl
theorem pu_op_hours (x1 : Int32) (o : pu_WOk w) (hc : pu_CI C w) (hm : pu_MI I w) : pu_Out (cp_hours x1 C) (mo_hours x1 I) := by
  unfold cp_hours mo_hours
  simp only [pu_lit]
  refine pu_q_deed o hc hm (fun d C1 I1 hd hx c1 v1 m1 u1 => ?_)
  subst hx
  have V := pu_VF_ok o.r
  rw [pu_hoursC_n v1 V hd, pu_bd_s, pu_hours_n u1 V hd, pu_bd_s]
  exact pu_Out.mk _ rfl rfl o c1 m1
theorem pu_op_comes (x1 x2 : Int32) (o : pu_WOk w) (hc : pu_CI C w) (hm : pu_MI I w) : pu_Out (cp_comes x1 x2 C) (mo_comes x1 x2 I) := by
  unfold cp_comes mo_comes
  simp only [pu_lit]
  refine pu_q_deed o hc hm (fun d C1 I1 hd hx c1 v1 m1 u1 => ?_)
  subst hx
  rw [pu_isHour_n, pu_mHour, pu_bd_s, pu_bd_s]
  refine pu_q_in o c1 m1 (fun h => ?_)
  obtain ⟨k, hk, rfl⟩ := pu_inS_ex (by omega) h
  have V := pu_VF_ok o.r
  rw [pu_deed2_n v1 V hd, pu_bd_s, pu_canBe_n v1 V hd (by omega), pu_bd_s, pu_comes_n u1 V hd (by omega), pu_bd_s, pu_bI0, pu_bd_s, pu_comersC_n v1 V hd (by omega), pu_bd_s]
  by_cases q : pu_canS (pu_VF w.r) d k = true
  · rw [if_pos q, pu_oN_some q]; exact pu_Out.mk _ rfl rfl o c1 m1
  · rw [if_neg q, pu_oN_none q]; exact pu_Out.mk _ rfl rfl o c1 m1
theorem pu_op_costs (x1 x2 : Int32) (o : pu_WOk w) (hc : pu_CI C w) (hm : pu_MI I w) : pu_Out (cp_costs x1 x2 C) (mo_costs x1 x2 I) := by
  unfold cp_costs mo_costs
  simp only [pu_lit]
  refine pu_q_deed o hc hm (fun d C1 I1 hd hx c1 v1 m1 u1 => ?_)
  subst hx
  rw [pu_isHour_n, pu_mHour, pu_bd_s, pu_bd_s]
  refine pu_q_in o c1 m1 (fun h => ?_)
  obtain ⟨k, hk, rfl⟩ := pu_inS_ex (by omega) h
  have V := pu_VF_ok o.r
  rw [pu_costsC_n v1 V hd (by omega), pu_bd_s, pu_costs_n u1 V hd (by omega), pu_bd_s]
  exact pu_Out.mk _ rfl rfl o c1 m1
theorem pu_op_likeness (x1 x2 : Int32) (o : pu_WOk w) (hc : pu_CI C w) (hm : pu_MI I w) : pu_Out (cp_likeness x1 x2 C) (mo_likeness x1 x2 I) := by
  unfold cp_likeness mo_likeness
  simp only [pu_lit]
  refine pu_q_deed o hc hm (fun d C1 I1 hd hx c1 v1 m1 u1 => ?_)
  subst hx
  rw [pu_isHour_n, pu_mHour, pu_bd_s, pu_bd_s]
  refine pu_q_in o c1 m1 (fun h => ?_)
  obtain ⟨k, hk, rfl⟩ := pu_inS_ex (by omega) h
  have V := pu_VF_ok o.r
  rw [pu_likeC_n v1 V hd (by omega), pu_bd_s, pu_like_n u1 V hd (by omega), pu_bd_s]
  exact pu_Out.mk _ rfl rfl o c1 m1
theorem pu_op_odds (x1 x2 x3 : Int32) (o : pu_WOk w) (hc : pu_CI C w) (hm : pu_MI I w) : pu_Out (cp_odds x1 x2 x3 C) (mo_odds x1 x2 x3 I) := by
  unfold cp_odds mo_odds mo_odds_b34
  simp only [pu_lit, pu_no_n, pu_noC_n, pu_bd_s]
  refine pu_q_deed o hc hm (fun d C1 I1 hd hx c1 v1 m1 u1 => ?_)
  subst hx
  rw [pu_isHour_n, pu_mHour, pu_bd_s, pu_bd_s]
  refine pu_q_in o c1 m1 (fun h => ?_)
  obtain ⟨k, hk, rfl⟩ := pu_inS_ex (by omega) h
  rw [pu_isTwo_n, pu_moin, pu_bd_s, pu_bd_s]
  refine pu_q_in o c1 m1 (fun h => ?_)
  obtain ⟨j, hj, rfl⟩ := pu_inS_ex (by omega) h
  have V := pu_VF_ok o.r
  rw [pu_oddsC_n v1 V hd (by omega) (by omega), pu_bd_s, pu_odds_n u1 V hd (by omega) (by omega), pu_bd_s]
  exact pu_Out.mk _ rfl rfl o c1 m1
def pu_deedS (V : pu_Vw) (d what : Nat) : Nat := if what = 0 then V.kind d else if what = 1 then V.place d else if what = 2 then V.wet d else if what = 3 then V.worth d else V.who d
theorem pu_deedBy_n {V : pu_Vw} {d what : Nat} (h : pu_CV C V) (o : pu_VOk V) (hd : d < V.n) (hw : what < 5) : cf_deedBy C (nI d) (nI what) = some (nI (pu_deedS V d what)) := by
  unfold cf_deedBy pu_deedS
  simp only [pu_lit]
  rw [pu_deed2_n h o hd, pu_bd_s, h.nn o]
  simp only [pu_fx_n hd, h.kind d hd, h.place d hd, h.wet d hd, h.worth d hd, h.who d hd]
  rcases (show what = 0 ∨ what = 1 ∨ what = 2 ∨ what = 3 ∨ what = 4 by omega) with rfl | rfl | rfl | rfl | rfl <;> rfl
theorem pu_deedOf_n {V : pu_Vw} {d what : Nat} (h : pu_MV I V) (o : pu_VOk V) (hd : d < V.n) (hw : what < 5) : mo_deedOf I (nI d) (nI what) = some (nI (pu_deedS V d what)) := by
  have n8 := o.n8
  unfold mo_deedOf pu_deedS
  simp only [pu_lit]
  simp (disch := omega) only [pu_al_n, h.kind d hd, h.place d hd, h.wet d hd, h.worth d hd, h.who d hd]
  rcases (show what = 0 ∨ what = 1 ∨ what = 2 ∨ what = 3 ∨ what = 4 by omega) with rfl | rfl | rfl | rfl | rfl <;> rfl
theorem pu_op_deed (x1 x2 : Int32) (o : pu_WOk w) (hc : pu_CI C w) (hm : pu_MI I w) : pu_Out (cp_deed x1 x2 C) (mo_deed x1 x2 I) := by
  unfold cp_deed mo_deed
  simp only [pu_lit]
  refine pu_q_deed o hc hm (fun d C1 I1 hd hx c1 v1 m1 u1 => ?_)
  subst hx
  rw [show cf_in x2.toInt64 0 4 = _ from pu_cin x2 4 (by omega), pu_moin, pu_bd_s, pu_bd_s]
  refine pu_q_in o c1 m1 (fun h => ?_)
  obtain ⟨k, hk, rfl⟩ := pu_inS_ex (by omega) h
  have V := pu_VF_ok o.r
  rw [pu_deedBy_n v1 V hd (by omega), pu_bd_s, pu_deedOf_n u1 V hd (by omega), pu_bd_s]
  exact pu_Out.mk _ rfl rfl o c1 m1
theorem pu_op_when (x1 : Int32) (o : pu_WOk w) (hc : pu_CI C w) (hm : pu_MI I w) : pu_Out (cp_when x1 C) (mo_when x1 I) := by
  unfold cp_when mo_when
  simp only [pu_lit]
  refine pu_q_deed o hc hm (fun d C1 I1 hd hx c1 v1 m1 u1 => ?_)
  subst hx
  have n8 := (pu_VF_ok o.r).n8
  obtain ⟨C2, a1, a2, a3, a4, a5⟩ := pu_fplanned_n c1 o v1
  obtain ⟨I2, b1, b2, b3, b4⟩ := pu_mplanned_n m1 o
  obtain ⟨u, c, ht⟩ := pu_tgtS_some (pu_VF w.r)
  rw [a5, pu_bd_s, b4, pu_bd_s, pu_al_n (by omega) (by omega), pu_al_n (by omega) (by omega), (a4.p u c ht).2.2 d hd, (b3 u c ht).2.2 d hd]
  exact pu_Out.mk _ rfl rfl o a1 b1
theorem pu_op_most (x1 : Int32) (o : pu_WOk w) (hc : pu_CI C w) (hm : pu_MI I w) : pu_Out (cp_most x1 C) (mo_most x1 I) := by
  unfold cp_most mo_most
  simp only [pu_lit]
  rw [pu_isTwo_n, pu_moin, pu_bd_s, pu_bd_s]
  refine pu_q_in o hc hm (fun h => ?_)
  obtain ⟨C2, a1, a2, a3, a4, a5⟩ := pu_cplanned_n hc o
  obtain ⟨I2, b1, b2, b3, b4⟩ := pu_mplanned_n hm o
  obtain ⟨u, c, ht⟩ := pu_tgtS_some (pu_VF w.r)
  rw [a5, pu_bd_s, b4, pu_bd_s, pu_bd_s, (a4.p u c ht).1, (a4.p u c ht).2.1, (b3 u c ht).1, (b3 u c ht).2.1]
  obtain ⟨k, hk, rfl⟩ := pu_inS_ex (by omega) h
  by_cases q : k = 0
  · rw [pu_ieq_t q, pu_ieq_t q]; exact pu_Out.mk _ rfl rfl o a1 b1
  · rw [pu_ieq_f q (by omega) (by omega), pu_ieq_f q (by omega) (by omega)]; exact pu_Out.mk _ rfl rfl o a1 b1
theorem pu_op_asked (x1 x2 : Int32) (o : pu_WOk w) (hc : pu_CI C w) (hm : pu_MI I w) : pu_Out (cp_asked x1 x2 C) (mo_asked x1 x2 I) := by
  unfold cp_asked mo_asked
  simp only [pu_lit]
  rw [pu_isPerson_n, pu_mPerson, pu_bd_s, pu_bd_s]
  refine pu_q_in o hc hm (fun h => ?_)
  obtain ⟨p, hp, rfl⟩ := pu_inS_ex (by omega) h
  rw [pu_isHour_n, pu_mHour, pu_bd_s, pu_bd_s]
  refine pu_q_in o hc hm (fun h => ?_)
  obtain ⟨k, hk, rfl⟩ := pu_inS_ex (by omega) h
  have V := pu_VF_ok o.r
  obtain ⟨C1, a1, a2, a3⟩ := pu_cdeeds_n hc o
  obtain ⟨I1, b1, b2, b3⟩ := pu_reads_n hm o.r
  have e : cp_askedOf (nI p) (nI k) C = some (nI (pu_askedS (pu_VF w.r) p k), C1) := by
    have := pu_askedC_n a2 V (p := p) (x := k) (by omega) (by omega)
    unfold cf_askedOf at this
    rw [show cf_askedOf_l5 C1 FU (nI p) (nI k) 0 0 = bd_ (cf_deeds C1) (fun v1 => cf_askedOf_b11 C1 (cf_askedOf_l5 C1 2999) (nI p) (nI k) 0 0 v1 0) from rfl, pu_deeds_n a2, pu_bd_s] at this
    unfold cp_askedOf
    rw [a3, pu_bd2_s, this, pu_bd_s]
  rw [e, pu_bd2_s, b3, pu_bd_s, pu_asked_n b1 V (by omega) (by omega), pu_bd_s]
  exact pu_Out.mk _ rfl rfl o a1 b2
theorem pu_ccrowd_n (hc : pu_CI C w) (o : pu_WOk w) {k : Nat} (hk : k < 3) : ∃ J, pu_CI J w ∧ pu_CV J (pu_VF w.r) ∧ cp_crowdOf (nI k) C = some (pu_crowdR (pu_crowdS (pu_VF w.r) 64) k, J) := by
  have V := pu_VF_ok o.r
  obtain ⟨C1, a1, a2, a3⟩ := pu_cdeeds_n hc o
  refine ⟨C1, a1, a2, ?_⟩
  have ask := pu_askedC_n a2 V (p := 0) (x := 0) (by omega) (by omega)
  have e : cp_askedOf 0 0 C = some (nI (pu_askedS (pu_VF w.r) 0 0), C1) := by
    have h := ask
    unfold cf_askedOf at h
    rw [show cf_askedOf_l5 C1 FU (nI 0) (nI 0) 0 0 = bd_ (cf_deeds C1) (fun v1 => cf_askedOf_b11 C1 (cf_askedOf_l5 C1 2999) (nI 0) (nI 0) 0 0 v1 0) from rfl, pu_deeds_n a2, pu_bd_s] at h
    unfold cp_askedOf
    rw [a3, pu_bd2_s, show cf_askedOf_b11 C1 (cf_askedOf_l5 C1 2999) 0 0 0 0 (nI (pu_VF w.r).n) 0 = _ from h, pu_bd_s]
  have cr := pu_crowdC_n a2 V (what := k) hk
  unfold cf_crowdOf at cr
  rw [show cf_crowdOf_l10 C1 FU (nI k) (-1) (-1) 0 0 = (if (8 : Int32) ≤ 0 then (if nI k = 0 then some (-1) else (if nI k = 1 then some (-1) else some 0)) else (if (8 : Int32) ≤ 0 then (cf_crowdOf_l10 C1 2999) (nI k) (-1) (-1) 0 (0 + 1) else bd_ (cf_askedOf C1 0 0) fun v2 => cf_crowdOf_b35 C1 (cf_crowdOf_l10 C1 2999) (cf_crowdOf_l20 C1 (cf_crowdOf_l10 C1 2999) 2999) (nI k) (-1) (-1) 0 0 0 v2)) from rfl] at cr
  rw [if_neg (by decide), if_neg (by decide), show cf_askedOf C1 0 0 = _ from ask, pu_bd_s] at cr
  unfold cp_crowdOf
  rw [if_neg (by decide), if_neg (by decide), e, pu_bd2_s, cr, pu_bd_s]
theorem pu_mcrowd_n (hm : pu_MI I w) (o : pu_WOk w) {k : Nat} (hk : k < 3) : ∃ J, pu_MI J w ∧ pu_MV J (pu_VF w.r) ∧ mo_crowdOf (nI k) I = some (pu_crowdR (pu_crowdS (pu_VF w.r) 64) k, J) := by
  have V := pu_VF_ok o.r
  obtain ⟨I1, b1, b2, b3⟩ := pu_reads_n hm o.r
  refine ⟨I1, b2, b1, ?_⟩
  unfold mo_crowdOf
  simp only [pu_lit]
  rw [b3, pu_bd_s, pu_crowd_n b1 V hk]
theorem pu_op_crowd (x1 : Int32) (o : pu_WOk w) (hc : pu_CI C w) (hm : pu_MI I w) : pu_Out (cp_crowd x1 C) (mo_crowd x1 I) := by
  unfold cp_crowd mo_crowd
  simp only [pu_lit]
  rw [show cf_in x1.toInt64 0 2 = _ from pu_cin x1 2 (by omega), pu_moin, pu_bd_s, pu_bd_s]
  refine pu_q_in o hc hm (fun h => ?_)
  obtain ⟨k, hk, rfl⟩ := pu_inS_ex (by omega) h
  obtain ⟨C1, a1, a2, a3⟩ := pu_ccrowd_n hc o (k := k) (by omega)
  obtain ⟨I1, b1, b2, b3⟩ := pu_mcrowd_n hm o (k := k) (by omega)
  rw [a3, b3, pu_bd2_s, pu_bd2_s]
  exact pu_Out.mk _ rfl rfl o a1 b1
theorem pu_cbest_n (hc : pu_CI C w) (o : pu_WOk w) : ∃ J, pu_CI J w ∧ pu_CV J (pu_VF w.r) ∧ cp_bestNow C = some (pu_oI (pu_bestN (pu_VF w.r) w.e).1, J) := by
  have V := pu_VF_ok o.r
  obtain ⟨C1, a1, a2, a3⟩ := pu_cdeeds_n hc o
  refine ⟨C1, a1, a2, ?_⟩
  have h := pu_bestC_n a2 V a1.e o.e
  unfold cf_bestNow at h
  rw [show cf_bestNow_l6 C1 FU (-1) 0 0 = bd_ (cf_deeds C1) (fun v1 => cf_bestNow_b11 C1 (cf_bestNow_l6 C1 2999) (-1) 0 0 v1 0) from rfl, pu_deeds_n a2, pu_bd_s] at h
  unfold cp_bestNow
  rw [a3, pu_bd2_s, h, pu_bd_s]
theorem pu_mbest_n (hm : pu_MI I w) (o : pu_WOk w) : ∃ J, pu_MI J w ∧ pu_MV J (pu_VF w.r) ∧ mo_bestNow I = some (pu_oI (pu_bestN (pu_VF w.r) w.e).1, J) := by
  have V := pu_VF_ok o.r
  obtain ⟨I1, b1, b2, b3⟩ := pu_reads_n hm o.r
  refine ⟨I1, b2, b1, ?_⟩
  unfold mo_bestNow
  simp only [pu_lit]
  rw [b3, pu_bd_s, pu_best_n b1 V b2.e o.e]
theorem pu_op_best (o : pu_WOk w) (hc : pu_CI C w) (hm : pu_MI I w) : pu_Out (cp_best C) (mo_best I) := by
  obtain ⟨C1, a1, a2, a3⟩ := pu_cbest_n hc o
  obtain ⟨I1, b1, b2, b3⟩ := pu_mbest_n hm o
  unfold cp_best mo_best
  rw [a3, b3, pu_bd2_s, pu_bd2_s]
  exact pu_Out.mk _ rfl rfl o a1 b1
theorem pu_cregret_n (hc : pu_CI C w) (o : pu_WOk w) {m k : Nat} (hmm : m ≤ 8) (hk : k < 2) : ∃ J, pu_CI J w ∧ pu_CV J (pu_VF w.r) ∧ cp_regretsOf (nI m) (nI k) C = some (pu_regretS (pu_VF w.r) m k, J) := by
  have V := pu_VF_ok o.r
  obtain ⟨C1, a1, a2, a3⟩ := pu_cdeeds_n hc o
  refine ⟨C1, a1, a2, ?_⟩
  have h := pu_regretC_n a2 V hmm hk
  unfold cf_regretsOf at h
  rw [show cf_regretsOf_l5 C1 FU (nI m) (nI k) 0 0 = bd_ (cf_deeds C1) (fun v1 => cf_regretsOf_b11 C1 (cf_regretsOf_l5 C1 2999) (nI m) (nI k) 0 0 v1 0) from rfl, pu_deeds_n a2, pu_bd_s] at h
  unfold cp_regretsOf
  rw [a3, pu_bd2_s, h, pu_bd_s]
theorem pu_mregret_n (hm : pu_MI I w) (o : pu_WOk w) {m k : Nat} (hmm : m ≤ 8) (hk : k < 2) : ∃ J, pu_MI J w ∧ pu_MV J (pu_VF w.r) ∧ mo_regretsOf (nI m) (nI k) I = some (pu_regretS (pu_VF w.r) m k, J) := by
  have V := pu_VF_ok o.r
  obtain ⟨I1, b1, b2, b3⟩ := pu_reads_n hm o.r
  refine ⟨I1, b2, b1, ?_⟩
  unfold mo_regretsOf
  simp only [pu_lit]
  rw [b3, pu_bd_s, pu_regret_n b1 V hmm hk]
theorem pu_op_regrets (x1 x2 : Int32) (o : pu_WOk w) (hc : pu_CI C w) (hm : pu_MI I w) : pu_Out (cp_regrets x1 x2 C) (mo_regrets x1 x2 I) := by
  unfold cp_regrets mo_regrets mo_regrets_b28
  simp only [pu_lit, pu_no_n, pu_noC_n, pu_bd_s]
  rw [show cf_in x1.toInt64 0 8 = _ from pu_cin x1 8 (by omega), pu_moin, pu_bd_s, pu_bd_s]
  refine pu_q_in o hc hm (fun h => ?_)
  obtain ⟨m, hm8, rfl⟩ := pu_inS_ex (by omega) h
  rw [pu_isTwo_n, pu_moin, pu_bd_s, pu_bd_s]
  refine pu_q_in o hc hm (fun h => ?_)
  obtain ⟨k, hk, rfl⟩ := pu_inS_ex (by omega) h
  obtain ⟨C1, a1, a2, a3⟩ := pu_cregret_n hc o hm8 (k := k) (by omega)
  obtain ⟨I1, b1, b2, b3⟩ := pu_mregret_n hm o hm8 (k := k) (by omega)
  rw [a3, b3, pu_bd2_s, pu_bd2_s]
  exact pu_Out.mk _ rfl rfl o a1 b1
theorem pu_op_spared (x1 : Int32) (o : pu_WOk w) (hc : pu_CI C w) (hm : pu_MI I w) : pu_Out (cp_spared x1 C) (mo_spared x1 I) := by
  have V := pu_VF_ok o.r
  have n8 := V.n8
  have hN := pu_pow_le V
  have hN0 : 0 < 2 ^ (pu_VF w.r).n := Nat.two_pow_pos _
  obtain ⟨C1, a1, a2, a3⟩ := pu_cdeeds_n hc o
  obtain ⟨I1, b1, b2, b3⟩ := pu_reads_n hm o.r
  unfold cp_spared mo_spared mo_allDeeds
  simp only [pu_lit]
  rw [a3, pu_bd2_s, b3, pu_bd_s, pu_bd2_s, b1.n, pu_nI_31 (by omega), pu_nI_one (by omega), pu_nI_sub (by omega), pu_nI_64 (by omega), show cf_in x1.toInt64 0 (pu_lI (2 ^ (pu_VF w.r).n - 1)) = _ from pu_cin x1 _ (by omega), pu_moin, pu_bd_s, pu_bd_s]
  refine pu_q_in o a1 b2 (fun h => ?_)
  obtain ⟨s, pu_hs, rfl⟩ := pu_inS_ex (by omega) h
  rw [pu_sparedC_n a2 V a1.e o.e (by omega), pu_bd_s, pu_spared_n b1 V b2.e o.e (by omega), pu_bd_s]
  exact pu_Out.mk _ rfl rfl o a1 b2
theorem pu_op_isFalse (x1 x2 : Int32) (o : pu_WOk w) (hc : pu_CI C w) (hm : pu_MI I w) : pu_Out (cp_isFalse x1 x2 C) (bd_ (mo_isFalse I x1 x2) fun v => some (v, I)) := by
  have h10 := o.e.sn
  unfold cp_isFalse mo_isFalse
  simp only [pu_lit]
  rw [pu_isSightC_n hc.e, pu_isSight_n hm.e, pu_bd_s, pu_bd_s]
  have key : pu_inS x1 (nI 0) (pu_fI w.e.sn) = true → pu_inS x2 (nI 0) (pu_fI w.e.sn) = true → x1 ≠ x2 → ∃ b : Bool, (bd_ (cfL_get C 1 x1) fun v6 => gd_ (v6 < cNn C 1) <| bd_ (cfL_get C 1 x2) fun v8 => gd_ (v8 < cNn C 1) <| gd_ (v6 < cNn C 1) <| bd_ (cfG_isFalse C v6 v8) fun v11 => if v11 = nI 0 then (some (nI 0, C)) else (some (nI 1, C))) = some (pu_bI b, C) ∧ (bd_ (mo_areFalse I x1 x2) fun v6 => if v6 = nI 0 then some (nI 0) else some (nI 1)) = some (pu_bI b) := by
    intro h1 h2 hne
    obtain ⟨a, ha, rfl⟩ := pu_inS_fI (by omega) h1
    obtain ⟨b, hb, rfl⟩ := pu_inS_fI (by omega) h2
    refine ⟨pu_falseS w.e a b, ?_, ?_⟩
    · rw [pu_getL_n (n := w.e.sn) (by omega) (by omega) hc.e.sn ha, pu_bd_s, pu_gd_t (by rw [hc.e.nn1 o.e]; exact ha), pu_getL_n (n := w.e.sn) (by omega) (by omega) hc.e.sn hb, pu_bd_s, pu_gd_t (by rw [hc.e.nn1 o.e]; exact hb), pu_gd_t (by rw [hc.e.nn1 o.e]; exact ha), pu_isFalseC_n hc.e o.e ha hb, pu_bd_s, pu_bI0]
      cases pu_falseS w.e a b <;> rfl
    · rw [pu_areFalse_n hm.e o.e ha hb, pu_bd_s, pu_bI0]
      cases pu_falseS w.e a b <;> rfl
  rw [pu_isSightC_n hc.e, pu_isSight_n hm.e, pu_bd_s, pu_bd_s]
  simp only [pu_bI0]
  by_cases q1 : pu_inS x1 (nI 0) (pu_fI w.e.sn) = true
  · by_cases q2 : pu_inS x2 (nI 0) (pu_fI w.e.sn) = true
    · by_cases q3 : x1 = x2
      · rw [if_pos q1, if_pos q1, if_pos q2, if_pos q2, if_pos q3, if_pos q3, pu_bd_s]
        exact pu_Out.mk _ rfl rfl o hc hm
      · obtain ⟨b, e1, e2⟩ := key q1 q2 q3
        rw [if_pos q1, if_pos q1, if_pos q2, if_pos q2, if_neg q3, if_neg q3, e1, e2, pu_bd_s]
        exact pu_Out.mk _ rfl rfl o hc hm
    · rw [if_pos q1, if_pos q1, if_neg q2, if_neg q2, pu_bd_s]
      exact pu_Out.mk _ rfl rfl o hc hm
  · rw [if_neg q1, if_neg q1, pu_bd_s]
    exact pu_Out.mk _ rfl rfl o hc hm
theorem pu_op_hats (x1 : Int32) (o : pu_WOk w) (hc : pu_CI C w) (hm : pu_MI I w) : pu_Out (cp_hats x1 C) (bd_ (mo_hats I x1) fun v => some (v, I)) := by
  unfold cp_hats mo_hats
  simp only [pu_lit]
  rw [pu_isTwo_n, pu_moin, pu_bd_s, pu_bd_s]
  simp only [pu_bI0]
  by_cases q : pu_inS x1 (nI 0) (nI 1) = true
  · obtain ⟨k, hk, rfl⟩ := pu_inS_ex (by omega) q
    rw [if_pos q, if_pos q, pu_hatsC_n hc.e o.e (by omega), pu_bd_s, pu_hats_n hm.e o.e (by omega), pu_bd_s, pu_bd_s]
    exact pu_Out.mk _ rfl rfl o hc hm
  · rw [if_neg q, if_neg q, pu_bd_s]
    exact pu_Out.mk _ rfl rfl o hc hm
end OPS
/-! PURE: calls that change what is given -/
theorem pu_CI.raw {C C' : St} {w : pu_Wd} {r' : pu_Rw} (h : pu_CI C w) (o : pu_WOk w) (hr : pu_RC C' r') (e0 : r'.ty0 = w.r.ty0) (eb0 : r'.b0 = w.r.b0) (e1 : r'.ty1 = w.r.ty1) (eb1 : r'.b1 = w.r.b1) (G : ∀ b, (40 ≤ b ∧ b ≤ 46) ∨ 50 ≤ b → C' b = C b) (hf : C' 0 0 = C 0 0) (pu_hs : C' 0 4 = nI 1) : pu_CI C' ⟨r', w.e, w.s, w.f⟩ := by
  refine ⟨hr, h.e.fr o.e (fun b hb => G b (by omega)), fun s pu_hs => ?_, ?_, ?_, ?_, Or.inl pu_hs⟩
  · rw [G (60 + s) (by omega), G (70 + s) (by omega)]; exact h.s s pu_hs
  · rw [hf]; exact h.f
  · rw [G 40 (by omega), e0, eb0]
    rcases h.q0 with z | ⟨z1, z2, z3⟩
    · exact Or.inl z
    · exact Or.inr ⟨z1, ⟨by rw [G 50 (by omega)]; exact z2.1, fun i hi => by rw [G (100 + i) (by omega)]; exact z2.2 i hi⟩, z3⟩
  · rw [G 41 (by omega), e1, eb1]
    rcases h.q1 with z | ⟨z1, z2, z3⟩
    · exact Or.inl z
    · exact Or.inr ⟨z1, ⟨by rw [G 41 (by omega)]; exact z2.parts, by rw [G 44 (by omega)]; exact z2.many, by rw [G 45 (by omega)]; exact z2.askR, by rw [G 46 (by omega)]; exact z2.askP⟩, z3⟩
theorem pu_MI.raw {I I' : St} {w : pu_Wd} {r' : pu_Rw} (h : pu_MI I w) (hr : pu_RM I' r') (G : ∀ b, 26 ≤ b → b ≤ 38 → I' b = I b) : pu_MI I' ⟨r', w.e, w.s, w.f⟩ := by
  refine ⟨hr, h.e.fr (fun b h1 h2 => G b h1 (by omega)), fun s pu_hs => ?_, ?_⟩
  · rw [G 33 (by omega) (by omega), G 34 (by omega) (by omega), G 35 (by omega) (by omega), G 36 (by omega) (by omega)]; exact h.s s pu_hs
  · rw [G 38 (by omega) (by omega)]; exact h.f
theorem pu_CI.stale {C : St} {w : pu_Wd} (h : pu_CI C w) (o : pu_WOk w) : pu_CI (upd2 C 0 4 (nI 1)) w := by
  have G : ∀ b, b ≠ 0 → upd2 C 0 4 (nI 1) b = C b := fun b hb => upd2_other _ _ _ hb
  refine h.raw (r' := w.r) o ⟨?_, ?_, ?_, ?_, ?_, ?_, ?_, ?_, ?_, ?_⟩ rfl rfl rfl rfl (fun b hb => G b (by omega)) (pu_upd2_ne _ _ _ (by decide)) (pu_upd2_at _ _ _ _)
  · rw [G 40 (by decide)]; exact h.r.t0
  · rw [G 41 (by decide)]; exact h.r.t1
  · rw [G 42 (by decide)]; exact h.r.b0
  · rw [G 43 (by decide)]; exact h.r.b1
  · intro p hp; rw [G (20 + p) (by omega)]; exact h.r.come p hp
  · intro p hp; rw [G (20 + p) (by omega)]; exact h.r.til p hp
  · intro p hp; rw [G (20 + p) (by omega)]; exact h.r.price p hp
  · intro p hp; rw [G (20 + p) (by omega)]; exact h.r.mem p hp
  · rw [G 2 (by decide)]; exact h.r.rain
  · rw [G 3 (by decide)]; exact h.r.set
theorem pu_setN_at (f : Nat → Nat) (i v : Nat) : pu_setN f i v i = v := if_pos rfl
theorem pu_setN_ne (f : Nat → Nat) {i j : Nat} (v : Nat) (h : j ≠ i) : pu_setN f i v j = f j := if_neg h
section OPS
variable {C I : St} {w : pu_Wd}
/-- a fact of a person -/
def pu_perR (R : pu_Rw) (what p v : Nat) : pu_Rw := if what = 0 then ⟨R.ty0, R.ty1, R.b0, R.b1, pu_setN R.come p v, R.til, R.price, R.mem, R.rain, R.set⟩ else if what = 1 then ⟨R.ty0, R.ty1, R.b0, R.b1, R.come, pu_setN R.til p v, R.price, R.mem, R.rain, R.set⟩ else if what = 2 then ⟨R.ty0, R.ty1, R.b0, R.b1, R.come, R.til, pu_setN R.price p v, R.mem, R.rain, R.set⟩ else ⟨R.ty0, R.ty1, R.b0, R.b1, R.come, R.til, R.price, pu_setN R.mem p v, R.rain, R.set⟩
def pu_perM (what : Nat) : Nat := if what = 0 then 7 else if what = 1 then 8 else if what = 2 then 99 else 16
def pu_perV (R : pu_Rw) (what p : Nat) : Nat := if what = 0 then R.come p else if what = 1 then R.til p else if what = 2 then R.price p else R.mem p
theorem pu_perR_ok {R : pu_Rw} {what p v : Nat} (o : pu_RwOk R) (hv : v ≤ pu_perM what) : pu_RwOk (pu_perR R what p v) := by
  have key : ∀ (f : Nat → Nat) (m : Nat), (∀ p, p < 8 → f p ≤ m) → v ≤ m → ∀ q, q < 8 → pu_setN f p v q ≤ m := by
    intro f m hf hv q hq
    unfold pu_setN
    split
    · exact hv
    · exact hf q hq
  unfold pu_perM at hv
  unfold pu_perR
  by_cases h0 : what = 0
  · rw [if_pos h0] at hv ⊢
    exact ⟨o.t0, o.t1, o.b0, o.b1, key _ 7 o.come hv, o.til, o.price, o.mem, o.rain, o.set0, o.set1, o.set2, o.set3⟩
  · rw [if_neg h0] at hv ⊢
    by_cases h1 : what = 1
    · rw [if_pos h1] at hv ⊢
      exact ⟨o.t0, o.t1, o.b0, o.b1, o.come, key _ 8 o.til hv, o.price, o.mem, o.rain, o.set0, o.set1, o.set2, o.set3⟩
    · rw [if_neg h1] at hv ⊢
      by_cases h2 : what = 2
      · rw [if_pos h2] at hv ⊢
        exact ⟨o.t0, o.t1, o.b0, o.b1, o.come, o.til, key _ 99 o.price hv, o.mem, o.rain, o.set0, o.set1, o.set2, o.set3⟩
      · rw [if_neg h2] at hv ⊢
        exact ⟨o.t0, o.t1, o.b0, o.b1, o.come, o.til, o.price, key _ 16 o.mem hv, o.rain, o.set0, o.set1, o.set2, o.set3⟩
theorem pu_upN {f : Nat → Int32} {g : Nat → Nat} {i v n : Nat} (h : ∀ p, p < n → f p = nI (g p)) : ∀ p, p < n → upd f i (nI v) p = nI (pu_setN g i v p) := by
  intro p hp
  unfold upd pu_setN
  split
  · rfl
  · exact h p hp
theorem pu_op_person (x1 x2 x3 : Int32) (o : pu_WOk w) (hc : pu_CI C w) (hm : pu_MI I w) : pu_Out (cp_person x1 x2 x3 C) (mo_person x1 x2 x3 I) := by
  unfold cp_person mo_person
  simp only [pu_lit]
  rw [pu_isPerson_n, pu_mPerson, pu_bd_s, pu_bd_s]
  refine pu_q_in o hc hm (fun h => ?_)
  obtain ⟨p, hp, rfl⟩ := pu_inS_ex (by omega) h
  rw [show cf_in x2.toInt64 0 3 = _ from pu_cin x2 3 (by omega), pu_moin, pu_bd_s, pu_bd_s]
  refine pu_q_in o hc hm (fun h => ?_)
  obtain ⟨k, hk, rfl⟩ := pu_inS_ex (by omega) h
  have eg : stG k = nI (pu_perM k) := by
    rcases (show k = 0 ∨ k = 1 ∨ k = 2 ∨ k = 3 by omega) with rfl | rfl | rfl | rfl <;> rfl
  have hm16 : pu_perM k < 100 := by
    rcases (show k = 0 ∨ k = 1 ∨ k = 2 ∨ k = 3 by omega) with rfl | rfl | rfl | rfl <;> decide
  have emo : (if nI k = nI 0 then mo_person_b49 (nI p) (nI k) x3 (nI 7) (nI 0) x3 I else if nI k = nI 1 then mo_person_b49 (nI p) (nI k) x3 (nI 8) (nI 0) x3 I else if nI k = nI 2 then mo_person_b49 (nI p) (nI k) x3 (nI 99) (nI 0) x3 I else mo_person_b49 (nI p) (nI k) x3 (nI 16) (nI 0) x3 I) = mo_person_b49 (nI p) (nI k) x3 (nI (pu_perM k)) (nI 0) x3 I := by
    rcases (show k = 0 ∨ k = 1 ∨ k = 2 ∨ k = 3 by omega) with rfl | rfl | rfl | rfl <;> rfl
  rw [pu_al_n (by omega) (by omega), eg, pu_nI_64 (by omega), show cf_in x3.toInt64 0 (pu_lI (pu_perM k)) = _ from pu_cin x3 _ (by omega), pu_bd_s, emo]
  unfold mo_person_b49
  simp only [pu_lit]
  rw [pu_moin, pu_bd_s]
  refine pu_q_in o hc hm (fun h => ?_)
  obtain ⟨v, hv, rfl⟩ := pu_inS_ex (by omega) h
  rw [pu_ix_n (by omega) (by omega), pu_al_n (by omega) (by omega), pu_ix_n (by omega) (by omega), pu_as_n (by omega) (by omega), pu_lt_s]
  have ov : pu_WOk ⟨pu_perR w.r k p v, w.e, w.s, w.f⟩ := ⟨pu_perR_ok o.r hv, o.e, o.s⟩
  -- the component's side
  have Gc : ∀ b, b ≠ 0 → b ≠ 20 + p → upd2 (upd2 C (20 + p) k (nI v)) 0 4 (nI 1) b = C b := fun b h1 h2 => by rw [upd2_other _ _ _ h1, upd2_other _ _ _ h2]
  have ec : ∀ q j, q < 8 → upd2 (upd2 C (20 + p) k (nI v)) 0 4 (nI 1) (20 + q) j = if q = p ∧ j = k then nI v else C (20 + q) j := by
    intro q j hq
    rw [upd2_other _ _ _ (by omega)]
    by_cases z : q = p
    · subst z
      by_cases z2 : j = k
      · subst z2; rw [pu_upd2_at, if_pos ⟨rfl, rfl⟩]
      · rw [pu_upd2_ne _ _ _ z2, if_neg (fun z => z2 z.2)]
    · rw [upd2_other _ _ _ (by omega), if_neg (fun y => z y.1)]
  have hC' : pu_CI (upd2 (upd2 C (20 + p) k (nI v)) 0 4 (nI 1)) ⟨pu_perR w.r k p v, w.e, w.s, w.f⟩ := by
    refine hc.raw o ⟨?_, ?_, ?_, ?_, ?_, ?_, ?_, ?_, ?_, ?_⟩ ?_ ?_ ?_ ?_ (fun b hb => Gc b (by omega) (by omega)) (by rw [pu_upd2_ne _ _ _ (by decide), upd2_other _ _ _ (by omega)]) (pu_upd2_at _ _ _ _)
    · rw [Gc 40 (by omega) (by omega)]; unfold pu_perR; repeat' split
      all_goals exact hc.r.t0
    · rw [Gc 41 (by omega) (by omega)]; unfold pu_perR; repeat' split
      all_goals exact hc.r.t1
    · rw [Gc 42 (by omega) (by omega)]; unfold pu_perR; repeat' split
      all_goals exact hc.r.b0
    · rw [Gc 43 (by omega) (by omega)]; unfold pu_perR; repeat' split
      all_goals exact hc.r.b1
    · intro q hq
      rw [ec q 0 hq]
      unfold pu_perR pu_setN
      rcases (show k = 0 ∨ k = 1 ∨ k = 2 ∨ k = 3 by omega) with rfl | rfl | rfl | rfl
      · by_cases z : q = p
        · rw [if_pos ⟨z, rfl⟩]; simp [z, pu_Rw.come, pu_Rw.til, pu_Rw.price, pu_Rw.mem]
        · rw [if_neg (fun y => z y.1)]; simp [z, hc.r.come q hq, pu_Rw.come]
      all_goals (rw [if_neg (by omega)]; exact hc.r.come q hq)
    · intro q hq
      rw [ec q 1 hq]
      unfold pu_perR pu_setN
      rcases (show k = 0 ∨ k = 1 ∨ k = 2 ∨ k = 3 by omega) with rfl | rfl | rfl | rfl
      · rw [if_neg (by omega)]; exact hc.r.til q hq
      · by_cases z : q = p
        · rw [if_pos ⟨z, rfl⟩]; simp [z, pu_Rw.come, pu_Rw.til, pu_Rw.price, pu_Rw.mem]
        · rw [if_neg (fun y => z y.1)]; simp [z, hc.r.til q hq, pu_Rw.til]
      all_goals (rw [if_neg (by omega)]; exact hc.r.til q hq)
    · intro q hq
      rw [ec q 2 hq]
      unfold pu_perR pu_setN
      rcases (show k = 0 ∨ k = 1 ∨ k = 2 ∨ k = 3 by omega) with rfl | rfl | rfl | rfl
      · rw [if_neg (by omega)]; exact hc.r.price q hq
      · rw [if_neg (by omega)]; exact hc.r.price q hq
      · by_cases z : q = p
        · rw [if_pos ⟨z, rfl⟩]; simp [z, pu_Rw.come, pu_Rw.til, pu_Rw.price, pu_Rw.mem]
        · rw [if_neg (fun y => z y.1)]; simp [z, hc.r.price q hq, pu_Rw.price]
      · rw [if_neg (by omega)]; exact hc.r.price q hq
    · intro q hq
      rw [ec q 3 hq]
      unfold pu_perR pu_setN
      rcases (show k = 0 ∨ k = 1 ∨ k = 2 ∨ k = 3 by omega) with rfl | rfl | rfl | rfl
      · rw [if_neg (by omega)]; exact hc.r.mem q hq
      · rw [if_neg (by omega)]; exact hc.r.mem q hq
      · rw [if_neg (by omega)]; exact hc.r.mem q hq
      · by_cases z : q = p
        · rw [if_pos ⟨z, rfl⟩]; simp [z, pu_Rw.come, pu_Rw.til, pu_Rw.price, pu_Rw.mem]
        · rw [if_neg (fun y => z y.1)]; simp [z, hc.r.mem q hq, pu_Rw.mem]
    · rw [Gc 2 (by omega) (by omega)]; unfold pu_perR; repeat' split
      all_goals exact hc.r.rain
    · rw [Gc 3 (by omega) (by omega)]; unfold pu_perR; repeat' split
      all_goals exact hc.r.set
    all_goals (unfold pu_perR; repeat' split)
    all_goals rfl
  have er : C (20 + p) k = nI (pu_perV w.r k p) := by
    rcases (show k = 0 ∨ k = 1 ∨ k = 2 ∨ k = 3 by omega) with rfl | rfl | rfl | rfl
    · exact hc.r.come p (by omega)
    · exact hc.r.til p (by omega)
    · exact hc.r.price p (by omega)
    · exact hc.r.mem p (by omega)
  rw [er]
  refine pu_Out.mk (I' := upd2 I (12 + k) p (nI v)) (nI (pu_perV w.r k p)) rfl ?_ ov hC' ?_
  · unfold mo_person_b105
    simp only [pu_lit]
    rcases (show k = 0 ∨ k = 1 ∨ k = 2 ∨ k = 3 by omega) with rfl | rfl | rfl | rfl
    · rw [if_pos rfl, pu_al_n (by omega) (by omega), if_pos rfl, pu_as_n (by omega) (by omega), hm.r.come p (by omega)]; rfl
    · rw [if_neg pu_n10, if_pos rfl, pu_al_n (by omega) (by omega), if_neg pu_n10, if_pos rfl, pu_as_n (by omega) (by omega), hm.r.til p (by omega)]; rfl
    · simp (disch := omega) only [pu_ieq_f, pu_al_n, pu_as_n]
      rw [hm.r.price p (by omega)]; rfl
    · simp (disch := omega) only [pu_ieq_f, pu_al_n, pu_as_n]
      rw [hm.r.mem p (by omega)]; rfl
  · refine hm.raw ?_ (fun b h1 h2 => upd2_other _ _ _ (by omega))
    have Gm : ∀ b, b ≠ 12 + k → upd2 I (12 + k) p (nI v) b = I b := fun b hb => upd2_other _ _ _ hb
    rcases (show k = 0 ∨ k = 1 ∨ k = 2 ∨ k = 3 by omega) with rfl | rfl | rfl | rfl
    · refine ⟨by rw [Gm 0 (by omega)]; exact hm.r.t0, by rw [Gm 0 (by omega)]; exact hm.r.t1, by rw [Gm 1 (by omega)]; exact hm.r.b0, by rw [Gm 1 (by omega)]; exact hm.r.b1, ?_, by rw [Gm 13 (by omega)]; exact hm.r.til, by rw [Gm 14 (by omega)]; exact hm.r.price, by rw [Gm 15 (by omega)]; exact hm.r.mem, by rw [Gm 16 (by omega)]; exact hm.r.rain, by rw [Gm 17 (by omega)]; exact hm.r.set⟩
      rw [upd2_same]; exact pu_upN hm.r.come
    · refine ⟨by rw [Gm 0 (by omega)]; exact hm.r.t0, by rw [Gm 0 (by omega)]; exact hm.r.t1, by rw [Gm 1 (by omega)]; exact hm.r.b0, by rw [Gm 1 (by omega)]; exact hm.r.b1, by rw [Gm 12 (by omega)]; exact hm.r.come, ?_, by rw [Gm 14 (by omega)]; exact hm.r.price, by rw [Gm 15 (by omega)]; exact hm.r.mem, by rw [Gm 16 (by omega)]; exact hm.r.rain, by rw [Gm 17 (by omega)]; exact hm.r.set⟩
      rw [upd2_same]; exact pu_upN hm.r.til
    · refine ⟨by rw [Gm 0 (by omega)]; exact hm.r.t0, by rw [Gm 0 (by omega)]; exact hm.r.t1, by rw [Gm 1 (by omega)]; exact hm.r.b0, by rw [Gm 1 (by omega)]; exact hm.r.b1, by rw [Gm 12 (by omega)]; exact hm.r.come, by rw [Gm 13 (by omega)]; exact hm.r.til, ?_, by rw [Gm 15 (by omega)]; exact hm.r.mem, by rw [Gm 16 (by omega)]; exact hm.r.rain, by rw [Gm 17 (by omega)]; exact hm.r.set⟩
      rw [upd2_same]; exact pu_upN hm.r.price
    · refine ⟨by rw [Gm 0 (by omega)]; exact hm.r.t0, by rw [Gm 0 (by omega)]; exact hm.r.t1, by rw [Gm 1 (by omega)]; exact hm.r.b0, by rw [Gm 1 (by omega)]; exact hm.r.b1, by rw [Gm 12 (by omega)]; exact hm.r.come, by rw [Gm 13 (by omega)]; exact hm.r.til, by rw [Gm 14 (by omega)]; exact hm.r.price, ?_, by rw [Gm 16 (by omega)]; exact hm.r.rain, by rw [Gm 17 (by omega)]; exact hm.r.set⟩
      rw [upd2_same]; exact pu_upN hm.r.mem
/-- the weather of an hour -/
def pu_rainR (R : pu_Rw) (h v : Nat) : pu_Rw := ⟨R.ty0, R.ty1, R.b0, R.b1, R.come, R.til, R.price, R.mem, pu_setN R.rain h v, R.set⟩
theorem pu_rainR_ok {R : pu_Rw} {h v : Nat} (o : pu_RwOk R) (hv : v ≤ 1) : pu_RwOk (pu_rainR R h v) := ⟨o.t0, o.t1, o.b0, o.b1, o.come, o.til, o.price, o.mem, fun q hq => by
  show pu_setN R.rain h v q ≤ 1
  unfold pu_setN
  split
  · exact hv
  · exact o.rain q hq, o.set0, o.set1, o.set2, o.set3⟩
theorem pu_rainC {h v : Nat} (o : pu_WOk w) (hc : pu_CI C w) : pu_CI (upd2 (upd2 C 2 h (nI v)) 0 4 (nI 1)) ⟨pu_rainR w.r h v, w.e, w.s, w.f⟩ := by
  have G : ∀ b, b ≠ 0 → b ≠ 2 → upd2 (upd2 C 2 h (nI v)) 0 4 (nI 1) b = C b := fun b h1 h2 => by rw [upd2_other _ _ _ h1, upd2_other _ _ _ h2]
  refine hc.raw o ⟨?_, ?_, ?_, ?_, ?_, ?_, ?_, ?_, ?_, ?_⟩ rfl rfl rfl rfl (fun b hb => G b (by omega) (by omega)) (by rw [pu_upd2_ne _ _ _ (by decide), upd2_other _ _ _ (by decide)]) (pu_upd2_at _ _ _ _)
  · rw [G 40 (by decide) (by decide)]; exact hc.r.t0
  · rw [G 41 (by decide) (by decide)]; exact hc.r.t1
  · rw [G 42 (by decide) (by decide)]; exact hc.r.b0
  · rw [G 43 (by decide) (by decide)]; exact hc.r.b1
  · intro p hp; rw [G (20 + p) (by omega) (by omega)]; exact hc.r.come p hp
  · intro p hp; rw [G (20 + p) (by omega) (by omega)]; exact hc.r.til p hp
  · intro p hp; rw [G (20 + p) (by omega) (by omega)]; exact hc.r.price p hp
  · intro p hp; rw [G (20 + p) (by omega) (by omega)]; exact hc.r.mem p hp
  · rw [upd2_other _ _ _ (by decide), upd2_same]; exact pu_upN hc.r.rain
  · rw [G 3 (by decide) (by decide)]; exact hc.r.set
theorem pu_rainM {h v : Nat} (hm : pu_MI I w) : pu_MI (upd2 I 16 h (nI v)) ⟨pu_rainR w.r h v, w.e, w.s, w.f⟩ := by
  have Gm : ∀ b, b ≠ 16 → upd2 I 16 h (nI v) b = I b := fun b hb => upd2_other _ _ _ hb
  refine hm.raw ⟨by rw [Gm 0 (by omega)]; exact hm.r.t0, by rw [Gm 0 (by omega)]; exact hm.r.t1, by rw [Gm 1 (by omega)]; exact hm.r.b0, by rw [Gm 1 (by omega)]; exact hm.r.b1, by rw [Gm 12 (by omega)]; exact hm.r.come, by rw [Gm 13 (by omega)]; exact hm.r.til, by rw [Gm 14 (by omega)]; exact hm.r.price, by rw [Gm 15 (by omega)]; exact hm.r.mem, ?_, by rw [Gm 17 (by omega)]; exact hm.r.set⟩ (fun b h1 h2 => Gm b (by omega))
  rw [upd2_same]; exact pu_upN hm.r.rain
theorem pu_op_weather (x1 x2 : Int32) (o : pu_WOk w) (hc : pu_CI C w) (hm : pu_MI I w) : pu_Out (cp_weather x1 x2 C) (mo_weather x1 x2 I) := by
  unfold cp_weather mo_weather
  simp only [pu_lit, pu_lt_s]
  rw [pu_isHour_n, pu_mHour, pu_bd_s, pu_bd_s]
  refine pu_q_in o hc hm (fun h => ?_)
  obtain ⟨k, hk, rfl⟩ := pu_inS_ex (by omega) h
  rw [pu_isTwo_n, pu_moin, pu_bd_s, pu_bd_s]
  refine pu_q_in o hc hm (fun h => ?_)
  obtain ⟨v, hv, rfl⟩ := pu_inS_ex (by omega) h
  rw [pu_al_n (by omega) (by omega), pu_as_n (by omega) (by omega), pu_al_n (by omega) (by omega), pu_as_n (by omega) (by omega), hc.r.rain k (by omega), hm.r.rain k (by omega)]
  exact pu_Out.mk (w := ⟨pu_rainR w.r k v, w.e, w.s, w.f⟩) _ rfl rfl ⟨pu_rainR_ok o.r hv, o.e, o.s⟩ (pu_rainC o hc) (pu_rainM hm)
def pu_setM (what : Nat) : Nat := if what = 0 then 99 else if what = 1 then 1 else if what = 2 then 999 else 10
def pu_setR' (R : pu_Rw) (k v : Nat) : pu_Rw := ⟨R.ty0, R.ty1, R.b0, R.b1, R.come, R.til, R.price, R.mem, R.rain, pu_setN R.set k v⟩
theorem pu_op_set (x1 x2 : Int32) (o : pu_WOk w) (hc : pu_CI C w) (hm : pu_MI I w) : pu_Out (cp_set x1 x2 C) (mo_set x1 x2 I) := by
  unfold cp_set mo_set
  simp only [pu_lit, pu_lt_s]
  rw [show cf_in x1.toInt64 0 3 = _ from pu_cin x1 3 (by omega), pu_moin, pu_bd_s, pu_bd_s]
  refine pu_q_in o hc hm (fun h => ?_)
  obtain ⟨k, hk, rfl⟩ := pu_inS_ex (by omega) h
  have eg : stH k = nI (pu_setM k) := by
    rcases (show k = 0 ∨ k = 1 ∨ k = 2 ∨ k = 3 by omega) with rfl | rfl | rfl | rfl <;> rfl
  have hm16 : pu_setM k < 1000 := by
    rcases (show k = 0 ∨ k = 1 ∨ k = 2 ∨ k = 3 by omega) with rfl | rfl | rfl | rfl <;> decide
  have emo : (if nI k = nI 0 then mo_set_b42 (nI k) x2 (nI 99) (nI 0) x2 I else if nI k = nI 1 then mo_set_b42 (nI k) x2 (nI 1) (nI 0) x2 I else if nI k = nI 2 then mo_set_b42 (nI k) x2 (nI 999) (nI 0) x2 I else mo_set_b42 (nI k) x2 (nI 10) (nI 0) x2 I) = mo_set_b42 (nI k) x2 (nI (pu_setM k)) (nI 0) x2 I := by
    rcases (show k = 0 ∨ k = 1 ∨ k = 2 ∨ k = 3 by omega) with rfl | rfl | rfl | rfl <;> rfl
  rw [pu_al_n (by omega) (by omega), eg, pu_nI_64 (by omega), show cf_in x2.toInt64 0 (pu_lI (pu_setM k)) = _ from pu_cin x2 _ (by omega), pu_bd_s, emo]
  unfold mo_set_b42
  simp only [pu_lit]
  rw [pu_moin, pu_bd_s]
  refine pu_q_in o hc hm (fun h => ?_)
  obtain ⟨v, hv, rfl⟩ := pu_inS_ex (by omega) h
  rw [pu_al_n (by omega) (by omega), pu_as_n (by omega) (by omega), pu_al_n (by omega) (by omega), pu_as_n (by omega) (by omega), hc.r.set k (by omega), hm.r.set k (by omega)]
  have ov : pu_WOk ⟨pu_setR' w.r k v, w.e, w.s, w.f⟩ := by
    refine ⟨⟨o.r.t0, o.r.t1, o.r.b0, o.r.b1, o.r.come, o.r.til, o.r.price, o.r.mem, o.r.rain, ?_, ?_, ?_, ?_⟩, o.e, o.s⟩
    all_goals
      show pu_setN w.r.set k v _ ≤ _
      unfold pu_setN
      unfold pu_setM at hv
      split
      · rename_i h
        subst h
        exact hv
      · first | exact o.r.set0 | exact o.r.set1 | exact o.r.set2 | exact o.r.set3
  refine pu_Out.mk _ rfl rfl ov ?_ ?_
  · have G : ∀ b, b ≠ 0 → b ≠ 3 → upd2 (upd2 C 3 k (nI v)) 0 4 (nI 1) b = C b := fun b h1 h2 => by rw [upd2_other _ _ _ h1, upd2_other _ _ _ h2]
    refine hc.raw o ⟨?_, ?_, ?_, ?_, ?_, ?_, ?_, ?_, ?_, ?_⟩ rfl rfl rfl rfl (fun b hb => G b (by omega) (by omega)) (by rw [pu_upd2_ne _ _ _ (by decide), upd2_other _ _ _ (by decide)]) (pu_upd2_at _ _ _ _)
    · rw [G 40 (by decide) (by decide)]; exact hc.r.t0
    · rw [G 41 (by decide) (by decide)]; exact hc.r.t1
    · rw [G 42 (by decide) (by decide)]; exact hc.r.b0
    · rw [G 43 (by decide) (by decide)]; exact hc.r.b1
    · intro p hp; rw [G (20 + p) (by omega) (by omega)]; exact hc.r.come p hp
    · intro p hp; rw [G (20 + p) (by omega) (by omega)]; exact hc.r.til p hp
    · intro p hp; rw [G (20 + p) (by omega) (by omega)]; exact hc.r.price p hp
    · intro p hp; rw [G (20 + p) (by omega) (by omega)]; exact hc.r.mem p hp
    · rw [G 2 (by decide) (by decide)]; exact hc.r.rain
    · rw [upd2_other _ _ _ (by decide), upd2_same]; exact pu_upN hc.r.set
  · have Gm : ∀ b, b ≠ 17 → upd2 I 17 k (nI v) b = I b := fun b hb => upd2_other _ _ _ hb
    refine hm.raw ⟨by rw [Gm 0 (by omega)]; exact hm.r.t0, by rw [Gm 0 (by omega)]; exact hm.r.t1, by rw [Gm 1 (by omega)]; exact hm.r.b0, by rw [Gm 1 (by omega)]; exact hm.r.b1, by rw [Gm 12 (by omega)]; exact hm.r.come, by rw [Gm 13 (by omega)]; exact hm.r.til, by rw [Gm 14 (by omega)]; exact hm.r.price, by rw [Gm 15 (by omega)]; exact hm.r.mem, by rw [Gm 16 (by omega)]; exact hm.r.rain, ?_⟩ (fun b h1 h2 => Gm b (by omega))
    rw [upd2_same]; exact pu_upN hm.r.set
end OPS
/-! PURE: texts typed and wiped; sights, pairs; counts -/
section OPS
variable {C I : St} {w : pu_Wd}
def pu_ty0R (R : pu_Rw) (t : Nat) (b : Nat → Nat) : pu_Rw := ⟨t, R.ty1, b, R.b1, R.come, R.til, R.price, R.mem, R.rain, R.set⟩
def pu_ty1R (R : pu_Rw) (t : Nat) (b : Nat → Nat) : pu_Rw := ⟨R.ty0, t, R.b0, b, R.come, R.til, R.price, R.mem, R.rain, R.set⟩
/-- the first text changed -/
theorem pu_CI.x0 {C' : St} {t : Nat} {b : Nat → Nat} (h : pu_CI C w) (o : pu_WOk w) (h1 : C' 40 1 = nI t) (h3 : C' 40 3 = nI 0) (hb : ∀ k, k < 80 → C' 42 k = nI (b k)) (G : ∀ a, a ≠ 0 → a ≠ 40 → a ≠ 42 → C' a = C a) (hf : C' 0 0 = C 0 0) (pu_hs : C' 0 4 = nI 1) : pu_CI C' ⟨pu_ty0R w.r t b, w.e, w.s, w.f⟩ := by
  refine ⟨⟨h1, ?_, hb, ?_, ?_, ?_, ?_, ?_, ?_, ?_⟩, h.e.fr o.e (fun b hb => G b (by omega) (by omega) (by omega)), fun s pu_hs => ?_, ?_, Or.inl h3, ?_, Or.inl pu_hs⟩
  · rw [G 41 (by decide) (by decide) (by decide)]; exact h.r.t1
  · rw [G 43 (by decide) (by decide) (by decide)]; exact h.r.b1
  · intro p hp; rw [G (20 + p) (by omega) (by omega) (by omega)]; exact h.r.come p hp
  · intro p hp; rw [G (20 + p) (by omega) (by omega) (by omega)]; exact h.r.til p hp
  · intro p hp; rw [G (20 + p) (by omega) (by omega) (by omega)]; exact h.r.price p hp
  · intro p hp; rw [G (20 + p) (by omega) (by omega) (by omega)]; exact h.r.mem p hp
  · rw [G 2 (by decide) (by decide) (by decide)]; exact h.r.rain
  · rw [G 3 (by decide) (by decide) (by decide)]; exact h.r.set
  · rw [G (60 + s) (by omega) (by omega) (by omega), G (70 + s) (by omega) (by omega) (by omega)]; exact h.s s pu_hs
  · rw [hf]; exact h.f
  · rw [G 41 (by decide) (by decide) (by decide)]
    rcases h.q1 with z | ⟨z1, z2, z3⟩
    · exact Or.inl z
    · exact Or.inr ⟨z1, ⟨by rw [G 41 (by decide) (by decide) (by decide)]; exact z2.parts, by rw [G 44 (by decide) (by decide) (by decide)]; exact z2.many, by rw [G 45 (by decide) (by decide) (by decide)]; exact z2.askR, by rw [G 46 (by decide) (by decide) (by decide)]; exact z2.askP⟩, z3⟩
theorem pu_CI.x1 {C' : St} {t : Nat} {b : Nat → Nat} (h : pu_CI C w) (o : pu_WOk w) (h1 : C' 41 1 = nI t) (h3 : C' 41 3 = nI 0) (hb : ∀ k, k < 40 → C' 43 k = nI (b k)) (G : ∀ a, a ≠ 0 → a ≠ 41 → a ≠ 43 → C' a = C a) (hf : C' 0 0 = C 0 0) (pu_hs : C' 0 4 = nI 1) : pu_CI C' ⟨pu_ty1R w.r t b, w.e, w.s, w.f⟩ := by
  have n8 := (pu_dTop_ok w.r.ty0 w.r.b0).1
  refine ⟨⟨?_, h1, ?_, hb, ?_, ?_, ?_, ?_, ?_, ?_⟩, h.e.fr o.e (fun b hb => G b (by omega) (by omega) (by omega)), fun s pu_hs => ?_, ?_, ?_, Or.inl h3, Or.inl pu_hs⟩
  · rw [G 40 (by decide) (by decide) (by decide)]; exact h.r.t0
  · rw [G 42 (by decide) (by decide) (by decide)]; exact h.r.b0
  · intro p hp; rw [G (20 + p) (by omega) (by omega) (by omega)]; exact h.r.come p hp
  · intro p hp; rw [G (20 + p) (by omega) (by omega) (by omega)]; exact h.r.til p hp
  · intro p hp; rw [G (20 + p) (by omega) (by omega) (by omega)]; exact h.r.price p hp
  · intro p hp; rw [G (20 + p) (by omega) (by omega) (by omega)]; exact h.r.mem p hp
  · rw [G 2 (by decide) (by decide) (by decide)]; exact h.r.rain
  · rw [G 3 (by decide) (by decide) (by decide)]; exact h.r.set
  · rw [G (60 + s) (by omega) (by omega) (by omega), G (70 + s) (by omega) (by omega) (by omega)]; exact h.s s pu_hs
  · rw [hf]; exact h.f
  · rw [G 40 (by decide) (by decide) (by decide)]
    rcases h.q0 with z | ⟨z1, z2, z3⟩
    · exact Or.inl z
    · exact Or.inr ⟨z1, ⟨by rw [G 50 (by decide) (by decide) (by decide)]; exact z2.1, fun i hi => by rw [G (100 + i) (by omega) (by omega) (by omega)]; exact z2.2 i hi⟩, z3⟩
theorem pu_MI.x {I' : St} {r' : pu_Rw} (h : pu_MI I w) (h0 : I' 0 0 = nI r'.ty0) (h1 : I' 0 1 = nI r'.ty1) (hb0 : ∀ k, k < 80 → I' 1 k = nI (r'.b0 k)) (hb1 : ∀ k, k < 40 → I' 1 (80 + k) = nI (r'.b1 k)) (e : r'.come = w.r.come ∧ r'.til = w.r.til ∧ r'.price = w.r.price ∧ r'.mem = w.r.mem ∧ r'.rain = w.r.rain ∧ r'.set = w.r.set) (G : ∀ a, a ≠ 0 → a ≠ 1 → I' a = I a) : pu_MI I' ⟨r', w.e, w.s, w.f⟩ := by
  refine h.raw ⟨h0, h1, hb0, hb1, ?_, ?_, ?_, ?_, ?_, ?_⟩ (fun b h1 h2 => G b (by omega) (by omega))
  · rw [G 12 (by decide) (by decide), e.1]; exact h.r.come
  · rw [G 13 (by decide) (by decide), e.2.1]; exact h.r.til
  · rw [G 14 (by decide) (by decide), e.2.2.1]; exact h.r.price
  · rw [G 15 (by decide) (by decide), e.2.2.2.1]; exact h.r.mem
  · rw [G 16 (by decide) (by decide), e.2.2.2.2.1]; exact h.r.rain
  · rw [G 17 (by decide) (by decide), e.2.2.2.2.2]; exact h.r.set
theorem pu_op_type (x1 x2 : Int32) (o : pu_WOk w) (hc : pu_CI C w) (hm : pu_MI I w) : pu_Out (cp_type x1 x2 C) (mo_type x1 x2 I) := by
  have t0 := o.r.t0
  have t1 := o.r.t1
  unfold cp_type mo_type
  simp only [pu_lit, pu_lt_s]
  rw [pu_isTwo_n, pu_moin, pu_bd_s, pu_bd_s]
  refine pu_q_in o hc hm (fun h => ?_)
  obtain ⟨q, hq, rfl⟩ := pu_inS_ex (by omega) h
  rw [show cf_in x2.toInt64 0 255 = _ from pu_cin x2 255 (by omega), pu_moin, pu_bd_s, pu_bd_s]
  refine pu_q_in o hc hm (fun h => ?_)
  obtain ⟨v, hv, rfl⟩ := pu_inS_ex (by omega) h
  have hst := hc.stale o
  rcases (show q = 0 ∨ q = 1 by omega) with rfl | rfl
  · unfold cf_text mo_type_b40 cfT_type
    simp only [pu_lit, pu_lt_s, if_true]
    rw [pu_bd_s, pu_gd_t (by omega), pu_gd_t (by omega), pu_al_n (by omega) (by omega), hm.r.t0, show upd2 C 0 4 (nI 1) (40 + 0) 1 = nI w.r.ty0 from hst.r.t0, show (Int32.ofNat (cBl 0)) = nI 80 from rfl]
    by_cases z : w.r.ty0 = 80
    · rw [pu_ieq_t z, pu_ieq_t z, pu_bd2_s]
      exact pu_Out.mk _ rfl rfl o hst hm
    · rw [pu_ieq_f z (by omega) (by omega), pu_ieq_f z (by omega) (by omega), pu_al_n (by omega) (by omega), hm.r.t0, pu_nI_mul, pu_nI_add, pu_as_n (show w.r.ty0 < cBl 0 by show _ < 80; omega) (by decide), pu_as_n (by omega) (by omega)]
      have e1 : upd2 (upd2 C 0 4 (nI 1)) (42 + 0) w.r.ty0 (nI v) (40 + 0) 1 = nI w.r.ty0 := by rw [upd2_other _ _ _ (by decide)]; exact hst.r.t0
      have e2 : upd2 I 1 (80 * 0 + w.r.ty0) (nI v) 0 0 = nI w.r.ty0 := by rw [upd2_other _ _ _ (by decide)]; exact hm.r.t0
      rw [e1, pu_nI_add, pu_al_n (by omega) (by omega), e2, pu_nI_add, pu_as_n (by omega) (by omega), pu_al_n (by omega) (by omega), pu_upd2_at, pu_bd2_s]
      have e3 : upd2 (upd2 (upd2 (upd2 C 0 4 (nI 1)) (42 + 0) w.r.ty0 (nI v)) (40 + 0) 1 (nI (w.r.ty0 + 1))) (40 + 0) 3 (nI 0) (40 + 0) 1 = nI (w.r.ty0 + 1) := by rw [pu_upd2_ne _ _ _ (by decide), pu_upd2_at]
      rw [e3]
      have ov : pu_WOk ⟨pu_ty0R w.r (w.r.ty0 + 1) (pu_setN w.r.b0 w.r.ty0 v), w.e, w.s, w.f⟩ := ⟨⟨by show w.r.ty0 + 1 ≤ 80; omega, o.r.t1, fun k hk => by
        show pu_setN w.r.b0 w.r.ty0 v k < 256
        unfold pu_setN
        split
        · omega
        · exact o.r.b0 k hk, o.r.b1, o.r.come, o.r.til, o.r.price, o.r.mem, o.r.rain, o.r.set0, o.r.set1, o.r.set2, o.r.set3⟩, o.e, o.s⟩
      refine pu_Out.mk _ rfl rfl ov ?_ ?_
      · refine hc.x0 o (by show upd2 _ 40 3 _ 40 1 = _; rw [pu_upd2_ne _ _ _ (by decide), pu_upd2_at]) (pu_upd2_at _ _ _ _) (fun k hk => ?_) (fun a h1 h2 h3 => ?_) ?_ ?_
        · show upd2 (upd2 (upd2 (upd2 C 0 4 (nI 1)) 42 w.r.ty0 (nI v)) 40 1 (nI (w.r.ty0 + 1))) 40 3 (nI 0) 42 k = _
          rw [upd2_other _ _ _ (by decide), upd2_other _ _ _ (by decide), upd2_same]
          exact pu_upN hst.r.b0 k hk
        · show upd2 (upd2 (upd2 (upd2 C 0 4 (nI 1)) 42 w.r.ty0 (nI v)) 40 1 (nI (w.r.ty0 + 1))) 40 3 (nI 0) a = _
          rw [upd2_other _ _ _ h2, upd2_other _ _ _ h2, upd2_other _ _ _ h3, upd2_other _ _ _ h1]
        · show upd2 (upd2 (upd2 (upd2 C 0 4 (nI 1)) 42 w.r.ty0 (nI v)) 40 1 (nI (w.r.ty0 + 1))) 40 3 (nI 0) 0 0 = _
          rw [upd2_other _ _ _ (by decide), upd2_other _ _ _ (by decide), upd2_other _ _ _ (by decide), pu_upd2_ne _ _ _ (by decide)]
        · show upd2 (upd2 (upd2 (upd2 C 0 4 (nI 1)) 42 w.r.ty0 (nI v)) 40 1 (nI (w.r.ty0 + 1))) 40 3 (nI 0) 0 4 = _
          rw [upd2_other _ _ _ (by decide), upd2_other _ _ _ (by decide), upd2_other _ _ _ (by decide), pu_upd2_at]
      · refine hm.x (pu_upd2_at _ _ _ _) ?_ (fun k hk => ?_) (fun k hk => ?_) ⟨rfl, rfl, rfl, rfl, rfl, rfl⟩ (fun a h1 h2 => ?_)
        · rw [pu_upd2_ne _ _ _ (by decide), upd2_other _ _ _ (by decide)]; exact hm.r.t1
        · rw [upd2_other _ _ _ (by decide), upd2_same, Nat.mul_zero, Nat.zero_add]
          exact pu_upN hm.r.b0 k hk
        · rw [upd2_other _ _ _ (by decide), pu_upd2_ne _ _ _ (by omega)]; exact hm.r.b1 k hk
        · rw [upd2_other _ _ _ h1, upd2_other _ _ _ h2]
  · unfold cf_text mo_type_b40 cfT_type
    simp only [pu_lit, pu_lt_s, if_false, pu_n10]
    rw [pu_bd_s, pu_gd_t (by omega), pu_gd_t (by omega), pu_al_n (by omega) (by omega), hm.r.t1, show upd2 C 0 4 (nI 1) (40 + 1) 1 = nI w.r.ty1 from hst.r.t1, show (Int32.ofNat (cBl 1)) = nI 40 from rfl]
    by_cases z : w.r.ty1 = 40
    · rw [pu_ieq_t z, pu_ieq_t z, pu_bd2_s]
      exact pu_Out.mk _ rfl rfl o hst hm
    · rw [pu_ieq_f z (by omega) (by omega), pu_ieq_f z (by omega) (by omega), pu_al_n (by omega) (by omega), hm.r.t1, pu_nI_mul, pu_nI_add, pu_as_n (show w.r.ty1 < cBl 1 by show _ < 40; omega) (by decide), pu_as_n (by omega) (by omega)]
      have e1 : upd2 (upd2 C 0 4 (nI 1)) (42 + 1) w.r.ty1 (nI v) (40 + 1) 1 = nI w.r.ty1 := by rw [upd2_other _ _ _ (by decide)]; exact hst.r.t1
      have e2 : upd2 I 1 (80 * 1 + w.r.ty1) (nI v) 0 1 = nI w.r.ty1 := by rw [upd2_other _ _ _ (by decide)]; exact hm.r.t1
      rw [e1, pu_nI_add, pu_al_n (by omega) (by omega), e2, pu_nI_add, pu_as_n (by omega) (by omega), pu_al_n (by omega) (by omega), pu_upd2_at, pu_bd2_s]
      have e3 : upd2 (upd2 (upd2 (upd2 C 0 4 (nI 1)) (42 + 1) w.r.ty1 (nI v)) (40 + 1) 1 (nI (w.r.ty1 + 1))) (40 + 1) 3 (nI 0) (40 + 1) 1 = nI (w.r.ty1 + 1) := by rw [pu_upd2_ne _ _ _ (by decide), pu_upd2_at]
      rw [e3]
      have ov : pu_WOk ⟨pu_ty1R w.r (w.r.ty1 + 1) (pu_setN w.r.b1 w.r.ty1 v), w.e, w.s, w.f⟩ := ⟨⟨o.r.t0, by show w.r.ty1 + 1 ≤ 40; omega, o.r.b0, fun k hk => by
        show pu_setN w.r.b1 w.r.ty1 v k < 256
        unfold pu_setN
        split
        · omega
        · exact o.r.b1 k hk, o.r.come, o.r.til, o.r.price, o.r.mem, o.r.rain, o.r.set0, o.r.set1, o.r.set2, o.r.set3⟩, o.e, o.s⟩
      refine pu_Out.mk _ rfl rfl ov ?_ ?_
      · refine hc.x1 o (by show upd2 _ 41 3 _ 41 1 = _; rw [pu_upd2_ne _ _ _ (by decide), pu_upd2_at]) (pu_upd2_at _ _ _ _) (fun k hk => ?_) (fun a h1 h2 h3 => ?_) ?_ ?_
        · show upd2 (upd2 (upd2 (upd2 C 0 4 (nI 1)) 43 w.r.ty1 (nI v)) 41 1 (nI (w.r.ty1 + 1))) 41 3 (nI 0) 43 k = _
          rw [upd2_other _ _ _ (by decide), upd2_other _ _ _ (by decide), upd2_same]
          exact pu_upN hst.r.b1 k hk
        · show upd2 (upd2 (upd2 (upd2 C 0 4 (nI 1)) 43 w.r.ty1 (nI v)) 41 1 (nI (w.r.ty1 + 1))) 41 3 (nI 0) a = _
          rw [upd2_other _ _ _ h2, upd2_other _ _ _ h2, upd2_other _ _ _ h3, upd2_other _ _ _ h1]
        · show upd2 (upd2 (upd2 (upd2 C 0 4 (nI 1)) 43 w.r.ty1 (nI v)) 41 1 (nI (w.r.ty1 + 1))) 41 3 (nI 0) 0 0 = _
          rw [upd2_other _ _ _ (by decide), upd2_other _ _ _ (by decide), upd2_other _ _ _ (by decide), pu_upd2_ne _ _ _ (by decide)]
        · show upd2 (upd2 (upd2 (upd2 C 0 4 (nI 1)) 43 w.r.ty1 (nI v)) 41 1 (nI (w.r.ty1 + 1))) 41 3 (nI 0) 0 4 = _
          rw [upd2_other _ _ _ (by decide), upd2_other _ _ _ (by decide), upd2_other _ _ _ (by decide), pu_upd2_at]
      · refine hm.x ?_ (pu_upd2_at _ _ _ _) (fun k hk => ?_) (fun k hk => ?_) ⟨rfl, rfl, rfl, rfl, rfl, rfl⟩ (fun a h1 h2 => ?_)
        · rw [pu_upd2_ne _ _ _ (by decide), upd2_other _ _ _ (by decide)]; exact hm.r.t0
        · rw [upd2_other _ _ _ (by decide), pu_upd2_ne _ _ _ (by omega)]; exact hm.r.b0 k hk
        · rw [upd2_other _ _ _ (by decide)]
          show upd2 I 1 (80 * 1 + w.r.ty1) (nI v) 1 (80 + k) = nI (pu_setN w.r.b1 w.r.ty1 v k)
          unfold pu_setN
          by_cases y : k = w.r.ty1
          · rw [if_pos y, y, Nat.mul_one, pu_upd2_at]
          · rw [if_neg y, pu_upd2_ne _ _ _ (by omega)]; exact hm.r.b1 k hk
        · rw [upd2_other _ _ _ h1, upd2_other _ _ _ h2]
theorem pu_op_wipe (x1 : Int32) (o : pu_WOk w) (hc : pu_CI C w) (hm : pu_MI I w) : pu_Out (cp_wipe x1 C) (mo_wipe x1 I) := by
  unfold cp_wipe mo_wipe
  simp only [pu_lit, pu_lt_s]
  rw [pu_isTwo_n, pu_moin, pu_bd_s, pu_bd_s]
  refine pu_q_in o hc hm (fun h => ?_)
  obtain ⟨q, hq, rfl⟩ := pu_inS_ex (by omega) h
  have hst := hc.stale o
  rcases (show q = 0 ∨ q = 1 by omega) with rfl | rfl
  · unfold cf_text cfT_wipe
    simp only [pu_lit, pu_lt_s, if_true]
    rw [pu_bd_s, pu_gd_t (by omega), pu_gd_t (by omega), pu_al_n (by omega) (by omega), hm.r.t0, pu_as_n (by omega) (by omega), show upd2 C 0 4 (nI 1) (40 + 0) 1 = nI w.r.ty0 from hst.r.t0, pu_bd2_s]
    have ov : pu_WOk ⟨pu_ty0R w.r 0 w.r.b0, w.e, w.s, w.f⟩ := ⟨⟨by show 0 ≤ 80; omega, o.r.t1, o.r.b0, o.r.b1, o.r.come, o.r.til, o.r.price, o.r.mem, o.r.rain, o.r.set0, o.r.set1, o.r.set2, o.r.set3⟩, o.e, o.s⟩
    refine pu_Out.mk _ rfl rfl ov ?_ ?_
    · refine hc.x0 o (by show upd2 _ 40 3 _ 40 1 = _; rw [pu_upd2_ne _ _ _ (by decide), pu_upd2_at]) (pu_upd2_at _ _ _ _) (fun k hk => ?_) (fun a h1 h2 h3 => ?_) ?_ ?_
      · show upd2 (upd2 (upd2 C 0 4 (nI 1)) 40 1 (nI 0)) 40 3 (nI 0) 42 k = _
        rw [upd2_other _ _ _ (by decide), upd2_other _ _ _ (by decide)]
        exact hst.r.b0 k hk
      · show upd2 (upd2 (upd2 C 0 4 (nI 1)) 40 1 (nI 0)) 40 3 (nI 0) a = _
        rw [upd2_other _ _ _ h2, upd2_other _ _ _ h2, upd2_other _ _ _ h1]
      · show upd2 (upd2 (upd2 C 0 4 (nI 1)) 40 1 (nI 0)) 40 3 (nI 0) 0 0 = _
        rw [upd2_other _ _ _ (by decide), upd2_other _ _ _ (by decide), pu_upd2_ne _ _ _ (by decide)]
      · show upd2 (upd2 (upd2 C 0 4 (nI 1)) 40 1 (nI 0)) 40 3 (nI 0) 0 4 = _
        rw [upd2_other _ _ _ (by decide), upd2_other _ _ _ (by decide), pu_upd2_at]
    · refine hm.x (pu_upd2_at _ _ _ _) ?_ (fun k hk => ?_) (fun k hk => ?_) ⟨rfl, rfl, rfl, rfl, rfl, rfl⟩ (fun a h1 h2 => upd2_other _ _ _ h1)
      · rw [pu_upd2_ne _ _ _ (by decide)]; exact hm.r.t1
      · rw [upd2_other _ _ _ (by decide)]; exact hm.r.b0 k hk
      · rw [upd2_other _ _ _ (by decide)]; exact hm.r.b1 k hk
  · unfold cf_text cfT_wipe
    simp only [pu_lit, pu_lt_s]
    rw [if_neg pu_n10, pu_bd_s, pu_gd_t (by omega), pu_gd_t (by omega), pu_al_n (by omega) (by omega), hm.r.t1, pu_as_n (by omega) (by omega), show upd2 C 0 4 (nI 1) (40 + 1) 1 = nI w.r.ty1 from hst.r.t1, pu_bd2_s]
    have ov : pu_WOk ⟨pu_ty1R w.r 0 w.r.b1, w.e, w.s, w.f⟩ := ⟨⟨o.r.t0, by show 0 ≤ 40; omega, o.r.b0, o.r.b1, o.r.come, o.r.til, o.r.price, o.r.mem, o.r.rain, o.r.set0, o.r.set1, o.r.set2, o.r.set3⟩, o.e, o.s⟩
    refine pu_Out.mk _ rfl rfl ov ?_ ?_
    · refine hc.x1 o (by show upd2 _ 41 3 _ 41 1 = _; rw [pu_upd2_ne _ _ _ (by decide), pu_upd2_at]) (pu_upd2_at _ _ _ _) (fun k hk => ?_) (fun a h1 h2 h3 => ?_) ?_ ?_
      · show upd2 (upd2 (upd2 C 0 4 (nI 1)) 41 1 (nI 0)) 41 3 (nI 0) 43 k = _
        rw [upd2_other _ _ _ (by decide), upd2_other _ _ _ (by decide)]
        exact hst.r.b1 k hk
      · show upd2 (upd2 (upd2 C 0 4 (nI 1)) 41 1 (nI 0)) 41 3 (nI 0) a = _
        rw [upd2_other _ _ _ h2, upd2_other _ _ _ h2, upd2_other _ _ _ h1]
      · show upd2 (upd2 (upd2 C 0 4 (nI 1)) 41 1 (nI 0)) 41 3 (nI 0) 0 0 = _
        rw [upd2_other _ _ _ (by decide), upd2_other _ _ _ (by decide), pu_upd2_ne _ _ _ (by decide)]
      · show upd2 (upd2 (upd2 C 0 4 (nI 1)) 41 1 (nI 0)) 41 3 (nI 0) 0 4 = _
        rw [upd2_other _ _ _ (by decide), upd2_other _ _ _ (by decide), pu_upd2_at]
    · refine hm.x ?_ (pu_upd2_at _ _ _ _) (fun k hk => ?_) (fun k hk => ?_) ⟨rfl, rfl, rfl, rfl, rfl, rfl⟩ (fun a h1 h2 => upd2_other _ _ _ h1)
      · rw [pu_upd2_ne _ _ _ (by decide)]; exact hm.r.t0
      · rw [upd2_other _ _ _ (by decide)]; exact hm.r.b0 k hk
      · rw [upd2_other _ _ _ (by decide)]; exact hm.r.b1 k hk
theorem pu_op_fault (x1 : Int32) (o : pu_WOk w) (hc : pu_CI C w) (hm : pu_MI I w) : pu_Out (cp_fault x1 C) (mo_fault x1 I) := by
  unfold cp_fault mo_fault
  simp only [pu_lit]
  rw [pu_isTwo_n, pu_moin, pu_bd_s, pu_bd_s]
  refine pu_q_in o hc hm (fun h => ?_)
  obtain ⟨q, hq, rfl⟩ := pu_inS_ex (by omega) h
  rcases (show q = 0 ∨ q = 1 by omega) with rfl | rfl
  · obtain ⟨J, a1, _, _, _, _, a4⟩ := pu_rd0_n hc o
    obtain ⟨K, b1, _, _, b4⟩ := pu_fault0_n hm o.r
    unfold cf_text
    simp only [pu_lit, if_true]
    rw [pu_bd_s, pu_gd_t (by omega), a4, pu_bd2_s, b4, pu_bd2_s]
    exact pu_Out.mk _ rfl rfl o a1 (hm.fr1 b1 (by decide))
  · obtain ⟨J, a1, _, _, _, _, a4⟩ := pu_rd1_n hc o
    obtain ⟨K, b1, _, b4⟩ := pu_faultOf1_n (hm.t1 o.r)
    unfold cf_text
    simp only [pu_lit]
    rw [if_neg pu_n10, pu_bd_s, pu_gd_t (by omega), a4, pu_bd2_s, b4, pu_bd2_s]
    exact pu_Out.mk _ rfl rfl o a1 (hm.fr1 b1 (by decide))
def pu_ruleS (V : pu_Vw) (k what : Nat) : Nat := if what = 0 then V.many k else if what = 1 then V.askR k else V.askP k
theorem pu_crule_n (hc : pu_CI C w) (o : pu_WOk w) {k j : Nat} (hk : k < 4) (hj : j < 3) : ∃ J, pu_CI J w ∧ cp_ruleOf (nI k) (nI j) C = some (nI (pu_ruleS (pu_VF w.r) k j), J) := by
  obtain ⟨J, a1, a2, _, _, _, a4⟩ := pu_rd1_n hc o
  refine ⟨J, a1, ?_⟩
  have R : pu_CR J (pu_rTop w.r.ty1 w.r.b1).r := by
    rcases a1.q1 with z | ⟨_, z, _⟩
    · rw [a2] at z; exact absurd z pu_n10
    · exact z
  have ok := pu_rTop_ok w.r.ty1 w.r.b1
  have l1 := ok.askR k
  have l2 := ok.askP k
  unfold cp_ruleOf pu_ruleS
  simp only [pu_lit]
  rw [a4, pu_bd2_s, pu_al_n hk (by omega), pu_al_n hk (by omega), pu_al_n hk (by omega), R.many k hk, R.askR k hk, R.askP k hk]
  rcases (show j = 0 ∨ j = 1 ∨ j = 2 by omega) with rfl | rfl | rfl
  · rw [if_pos rfl]; rfl
  · rw [if_neg pu_n10, if_pos rfl]
    show _ = some (nI ((pu_rTop w.r.ty1 w.r.b1).r.askR k), J)
    rcases (show (pu_rTop w.r.ty1 w.r.b1).r.askR k = 0 ∨ (pu_rTop w.r.ty1 w.r.b1).r.askR k = 1 by omega) with z | z <;> rw [z] <;> rfl
  · rw [pu_ieq_f (by omega) (by omega) (by omega), pu_ieq_f (by omega) (by omega) (by omega)]
    show _ = some (nI ((pu_rTop w.r.ty1 w.r.b1).r.askP k), J)
    rcases (show (pu_rTop w.r.ty1 w.r.b1).r.askP k = 0 ∨ (pu_rTop w.r.ty1 w.r.b1).r.askP k = 1 by omega) with z | z <;> rw [z] <;> rfl
theorem pu_mrule_n (hm : pu_MI I w) (o : pu_WOk w) {k j : Nat} (hk : k < 4) (hj : j < 3) : ∃ J, pu_MI J w ∧ pu_MV J (pu_VF w.r) ∧ mo_ruleOf (nI k) (nI j) I = some (nI (pu_ruleS (pu_VF w.r) k j), J) := by
  obtain ⟨J, b1, b2, b3⟩ := pu_reads_n hm o.r
  refine ⟨J, b2, b1, ?_⟩
  unfold mo_ruleOf pu_ruleS
  simp only [pu_lit]
  rw [b3, pu_bd_s, pu_al_n hk (by omega), pu_al_n hk (by omega), pu_al_n hk (by omega), b1.many k hk, b1.askR k hk, b1.askP k hk]
  rcases (show j = 0 ∨ j = 1 ∨ j = 2 by omega) with rfl | rfl | rfl <;> rfl
theorem pu_op_rule (x1 x2 : Int32) (o : pu_WOk w) (hc : pu_CI C w) (hm : pu_MI I w) : pu_Out (cp_rule x1 x2 C) (mo_rule x1 x2 I) := by
  unfold cp_rule mo_rule
  simp only [pu_lit]
  rw [show cf_in x1.toInt64 0 3 = _ from pu_cin x1 3 (by omega), pu_moin, pu_bd_s, pu_bd_s]
  refine pu_q_in o hc hm (fun h => ?_)
  obtain ⟨k, hk, rfl⟩ := pu_inS_ex (by omega) h
  rw [show cf_in x2.toInt64 0 2 = _ from pu_cin x2 2 (by omega), pu_moin, pu_bd_s, pu_bd_s]
  refine pu_q_in o hc hm (fun h => ?_)
  obtain ⟨j, hj, rfl⟩ := pu_inS_ex (by omega) h
  obtain ⟨J, a1, a2⟩ := pu_crule_n hc o (k := k) (j := j) (by omega) (by omega)
  obtain ⟨K, b1, _, b2⟩ := pu_mrule_n hm o (k := k) (j := j) (by omega) (by omega)
  rw [a2, b2, pu_bd2_s, pu_bd2_s]
  exact pu_Out.mk _ rfl rfl o a1 b1
end OPS
/-! PURE: sights, pairs, counts -/
/-- what only touches sights and pairs -/
theorem pu_CI.ex {C C' : St} {w : pu_Wd} {e' : pu_Ex} (h : pu_CI C w) (he : pu_CE C' e') (G : ∀ b, b ≠ 51 → b ≠ 52 → (b < 200 ∨ 400 ≤ b) → C' b = C b) : pu_CI C' ⟨w.r, e', w.s, w.f⟩ := by
  have n8 := (pu_dTop_ok w.r.ty0 w.r.b0).1
  refine ⟨⟨?_, ?_, ?_, ?_, ?_, ?_, ?_, ?_, ?_, ?_⟩, he, fun s pu_hs => ?_, ?_, ?_, ?_, ?_⟩
  · rw [G 40 (by decide) (by decide) (by decide)]; exact h.r.t0
  · rw [G 41 (by decide) (by decide) (by decide)]; exact h.r.t1
  · rw [G 42 (by decide) (by decide) (by decide)]; exact h.r.b0
  · rw [G 43 (by decide) (by decide) (by decide)]; exact h.r.b1
  · intro p hp; rw [G (20 + p) (by omega) (by omega) (by omega)]; exact h.r.come p hp
  · intro p hp; rw [G (20 + p) (by omega) (by omega) (by omega)]; exact h.r.til p hp
  · intro p hp; rw [G (20 + p) (by omega) (by omega) (by omega)]; exact h.r.price p hp
  · intro p hp; rw [G (20 + p) (by omega) (by omega) (by omega)]; exact h.r.mem p hp
  · rw [G 2 (by decide) (by decide) (by decide)]; exact h.r.rain
  · rw [G 3 (by decide) (by decide) (by decide)]; exact h.r.set
  · rw [G (60 + s) (by omega) (by omega) (by omega), G (70 + s) (by omega) (by omega) (by omega)]; exact h.s s pu_hs
  · rw [G 0 (by decide) (by decide) (by decide)]; exact h.f
  · rw [G 40 (by decide) (by decide) (by decide)]
    rcases h.q0 with z | ⟨z1, z2, z3⟩
    · exact Or.inl z
    · exact Or.inr ⟨z1, ⟨by rw [G 50 (by decide) (by decide) (by decide)]; exact z2.1, fun i hi => by have hi : i < (pu_dTop w.r.ty0 w.r.b0).n := hi; rw [G (100 + i) (by omega) (by omega) (by omega)]; exact z2.2 i hi⟩, z3⟩
  · rw [G 41 (by decide) (by decide) (by decide)]
    rcases h.q1 with z | ⟨z1, z2, z3⟩
    · exact Or.inl z
    · exact Or.inr ⟨z1, ⟨by rw [G 41 (by decide) (by decide) (by decide)]; exact z2.parts, by rw [G 44 (by decide) (by decide) (by decide)]; exact z2.many, by rw [G 45 (by decide) (by decide) (by decide)]; exact z2.askR, by rw [G 46 (by decide) (by decide) (by decide)]; exact z2.askP⟩, z3⟩
  · rw [G 0 (by decide) (by decide) (by decide)]
    rcases h.pl with z | ⟨z1, z2⟩
    · exact Or.inl z
    · refine Or.inr ⟨z1, ⟨by rw [G 40 (by decide) (by decide) (by decide)]; exact z2.a, by rw [G 41 (by decide) (by decide) (by decide)]; exact z2.b, ?_⟩⟩
      rw [G 0 (by decide) (by decide) (by decide), G 16 (by decide) (by decide) (by decide)]
      exact z2.p
theorem pu_MI.ex {I I' : St} {w : pu_Wd} {e' : pu_Ex} (h : pu_MI I w) (he : pu_ME I' e') (G : ∀ b, b < 26 ∨ 33 ≤ b → I' b = I b) : pu_MI I' ⟨w.r, e', w.s, w.f⟩ := by
  refine ⟨⟨?_, ?_, ?_, ?_, ?_, ?_, ?_, ?_, ?_, ?_⟩, he, fun s pu_hs => ?_, ?_⟩
  · rw [G 0 (by omega)]; exact h.r.t0
  · rw [G 0 (by omega)]; exact h.r.t1
  · rw [G 1 (by omega)]; exact h.r.b0
  · rw [G 1 (by omega)]; exact h.r.b1
  · rw [G 12 (by omega)]; exact h.r.come
  · rw [G 13 (by omega)]; exact h.r.til
  · rw [G 14 (by omega)]; exact h.r.price
  · rw [G 15 (by omega)]; exact h.r.mem
  · rw [G 16 (by omega)]; exact h.r.rain
  · rw [G 17 (by omega)]; exact h.r.set
  · rw [G 33 (by omega), G 34 (by omega), G 35 (by omega), G 36 (by omega)]; exact h.s s pu_hs
  · rw [G 38 (by omega)]; exact h.f
section OPS
variable {C I : St} {w : pu_Wd}
def pu_sgE (E : pu_Ex) (p l h : Nat) : pu_Ex := ⟨E.sn + 1, pu_setN E.sw E.sn p, pu_setN E.sp E.sn l, pu_setN E.sh E.sn h, E.pn, E.pa, E.pb⟩
def pu_prE (E : pu_Ex) (a b : Nat) : pu_Ex := ⟨E.sn, E.sw, E.sp, E.sh, E.pn + 1, pu_setN E.pa E.pn a, pu_setN E.pb E.pn b⟩
theorem pu_setN_lt {f : Nat → Nat} {n v m : Nat} (h : ∀ i, i < n → f i < m) (hv : v < m) : ∀ i, i < n + 1 → pu_setN f n v i < m := by
  intro i hi
  unfold pu_setN
  split
  · exact hv
  · exact h i (by omega)
theorem pu_sgE_ok {E : pu_Ex} {p l h : Nat} (o : pu_EOk E) (pu_hs : E.sn < 10) (hp : p < 8) (hl : l < 6) (hh : h < 8) : pu_EOk (pu_sgE E p l h) := ⟨by show E.sn + 1 ≤ 10; omega, pu_setN_lt o.sw hp, pu_setN_lt o.sp hl, pu_setN_lt o.sh hh, o.pn, o.pa, o.pb⟩
theorem pu_prE_ok {E : pu_Ex} {a b : Nat} (o : pu_EOk E) (pu_hs : E.pn < 10) (ha : a < 8) (hb : b < 8) : pu_EOk (pu_prE E a b) := ⟨o.sn, o.sw, o.sp, o.sh, by show E.pn + 1 ≤ 10; omega, pu_setN_lt o.pa ha, pu_setN_lt o.pb hb⟩
theorem pu_setN_s {f : Nat → Int32} {g : Nat → Nat} {n v : Nat} (h : ∀ i, i < n → f i = nI (g i)) : ∀ i, i < n + 1 → upd f n (nI v) i = nI (pu_setN g n v i) := by
  intro i hi
  unfold upd pu_setN
  split
  · rfl
  · exact h i (by omega)
theorem pu_op_seen (x1 x2 x3 : Int32) (o : pu_WOk w) (hc : pu_CI C w) (hm : pu_MI I w) : pu_Out (cp_seen x1 x2 x3 C) (mo_seen x1 x2 x3 I) := by
  have h10 := o.e.sn
  have p10 := o.e.pn
  unfold cp_seen mo_seen
  simp only [pu_lit, pu_lt_s]
  rw [pu_isPerson_n, pu_mPerson, pu_bd_s, pu_bd_s]
  refine pu_q_in o hc hm (fun h => ?_)
  obtain ⟨p, hp, rfl⟩ := pu_inS_ex (by omega) h
  rw [show cf_in x2.toInt64 0 5 = _ from pu_cin x2 5 (by omega), pu_moin, pu_bd_s, pu_bd_s]
  refine pu_q_in o hc hm (fun h => ?_)
  obtain ⟨l, hl, rfl⟩ := pu_inS_ex (by omega) h
  rw [pu_isHour_n, pu_mHour, pu_bd_s, pu_bd_s]
  refine pu_q_in o hc hm (fun h => ?_)
  obtain ⟨k, hk, rfl⟩ := pu_inS_ex (by omega) h
  have hsz : ∀ C : St, cfL_size C 1 = some (C 51 2) := fun C => by unfold cfL_size; rw [pu_gd_t (by omega)]
  rw [hsz, hsz, hc.e.sn, hm.e.sn, pu_bd_s]
  by_cases z : w.e.sn = 10
  · rw [pu_ieq_t z, pu_ieq_t z]; exact pu_Out.mk _ rfl rfl o hc hm
  · rw [pu_ieq_f z (by omega) (by omega), pu_ieq_f z (by omega) (by omega), pu_gd_t (by rw [hc.e.nn1 o.e]; omega), pu_as_n (by omega) (by omega), pu_bd_s]
    have e1 : upd2 I 27 w.e.sn (nI p) 26 0 = nI w.e.sn := by rw [upd2_other _ _ _ (by decide)]; exact hm.e.sn
    rw [e1, pu_as_n (by omega) (by omega)]
    have e2 : upd2 (upd2 I 27 w.e.sn (nI p)) 28 w.e.sn (nI l) 26 0 = nI w.e.sn := by rw [upd2_other _ _ _ (by decide)]; exact e1
    rw [e2, pu_as_n (by omega) (by omega)]
    have e3 : upd2 (upd2 (upd2 I 27 w.e.sn (nI p)) 28 w.e.sn (nI l)) 29 w.e.sn (nI k) 26 0 = nI w.e.sn := by rw [upd2_other _ _ _ (by decide)]; exact e2
    rw [e3, pu_nI_add, pu_upd2_at]
    have ea : addC C 1 (sgG (nI p) (nI l) (nI k)) 51 2 = nI (w.e.sn + 1) := by unfold addC; rw [hc.e.nn1 o.e]; exact pu_upd2_at _ _ _ _
    rw [ea]
    refine pu_Out.mk (w := ⟨w.r, pu_sgE w.e p l k, w.s, w.f⟩) _ rfl rfl ⟨o.r, pu_sgE_ok o.e (by omega) (by omega) (by omega) (by omega), o.s⟩ ?_ ?_
    · have G : ∀ b, b ≠ 51 → b ≠ 200 + w.e.sn → addC C 1 (sgG (nI p) (nI l) (nI k)) b = C b := by
        intro b h1 h2
        unfold addC
        rw [hc.e.nn1 o.e, upd2_other _ _ _ h1, upd2_other _ _ _ h1, up1_other _ _ (by omega)]
      have A : addC C 1 (sgG (nI p) (nI l) (nI k)) (200 + w.e.sn) = sgG (nI p) (nI l) (nI k) := by
        unfold addC
        rw [hc.e.nn1 o.e, upd2_other _ _ _ (by omega), upd2_other _ _ _ (by omega), up1_same]
      have key : ∀ (j : Nat) (f : Nat → Nat) (v : Nat), sgG (nI p) (nI l) (nI k) j = nI v → (∀ i, i < w.e.sn → C (200 + i) j = nI (f i)) → ∀ i, i < w.e.sn + 1 → addC C 1 (sgG (nI p) (nI l) (nI k)) (200 + i) j = nI (pu_setN f w.e.sn v i) := by
        intro j f v hv hf i hi
        unfold pu_setN
        by_cases y : i = w.e.sn
        · rw [if_pos y, y, A]; exact hv
        · rw [if_neg y, G _ (by omega) (by omega)]; exact hf i (by omega)
      refine hc.ex ⟨ea, key 0 w.e.sw p rfl hc.e.sw, key 1 w.e.sp l rfl hc.e.sp, key 2 w.e.sh k rfl hc.e.sh, ?_, ?_, ?_⟩ (fun b h1 h2 h3 => G b h1 (by omega))
      · rw [G 52 (by decide) (by omega)]; exact hc.e.pn
      · intro i hi; have hi : i < w.e.pn := hi; rw [G (300 + i) (by omega) (by omega)]; exact hc.e.pa i hi
      · intro i hi; have hi : i < w.e.pn := hi; rw [G (300 + i) (by omega) (by omega)]; exact hc.e.pb i hi
    · refine hm.ex ⟨pu_upd2_at _ _ _ _, ?_, ?_, ?_, ?_, ?_, ?_⟩ (fun b hb => by rw [upd2_other _ _ _ (by omega), upd2_other _ _ _ (by omega), upd2_other _ _ _ (by omega), upd2_other _ _ _ (by omega)])
      · rw [upd2_other _ _ _ (by decide), upd2_other _ _ _ (by decide), upd2_other _ _ _ (by decide), upd2_same]; exact pu_setN_s hm.e.sw
      · rw [upd2_other _ _ _ (by decide), upd2_other _ _ _ (by decide), upd2_same, upd2_other _ _ _ (by decide)]; exact pu_setN_s hm.e.sp
      · rw [upd2_other _ _ _ (by decide), upd2_same, upd2_other _ _ _ (by decide), upd2_other _ _ _ (by decide)]; exact pu_setN_s hm.e.sh
      · rw [upd2_other _ _ _ (by decide), upd2_other _ _ _ (by decide), upd2_other _ _ _ (by decide), upd2_other _ _ _ (by decide)]; exact hm.e.pn
      · rw [upd2_other _ _ _ (by decide), upd2_other _ _ _ (by decide), upd2_other _ _ _ (by decide), upd2_other _ _ _ (by decide)]; exact hm.e.pa
      · rw [upd2_other _ _ _ (by decide), upd2_other _ _ _ (by decide), upd2_other _ _ _ (by decide), upd2_other _ _ _ (by decide)]; exact hm.e.pb
theorem pu_isAny_n (x : Int32) : cf_isAnyDeed x = some (pu_bI (pu_inS x (nI 0) (nI 7))) := by
  unfold cf_isAnyDeed
  rw [show cf_in x.toInt64 0 7 = _ from pu_cfin x (nI 0) (nI 7), pu_bd_s, if_pos (pu_zb_b _)]
theorem pu_op_after (x1 x2 : Int32) (o : pu_WOk w) (hc : pu_CI C w) (hm : pu_MI I w) : pu_Out (cp_after x1 x2 C) (mo_after x1 x2 I) := by
  have h10 := o.e.sn
  have p10 := o.e.pn
  unfold cp_after mo_after
  simp only [pu_lit, pu_lt_s]
  rw [pu_isAny_n, pu_moin, pu_bd_s, pu_bd_s]
  refine pu_q_in o hc hm (fun h => ?_)
  obtain ⟨a, ha, rfl⟩ := pu_inS_ex (by omega) h
  rw [pu_isAny_n, pu_moin, pu_bd_s, pu_bd_s]
  refine pu_q_in o hc hm (fun h => ?_)
  obtain ⟨b, hb, rfl⟩ := pu_inS_ex (by omega) h
  by_cases y : a = b
  · rw [pu_ieq_t y, pu_ieq_t y]; exact pu_Out.mk _ rfl rfl o hc hm
  · rw [pu_ieq_f y (by omega) (by omega), pu_ieq_f y (by omega) (by omega)]
    have hsz : ∀ C : St, cfL_size C 2 = some (C 52 2) := fun C => by unfold cfL_size; rw [pu_gd_t (by omega)]
    rw [hsz, hsz, hc.e.pn, hm.e.pn, pu_bd_s]
    by_cases z : w.e.pn = 10
    · rw [pu_ieq_t z, pu_ieq_t z]; exact pu_Out.mk _ rfl rfl o hc hm
    · rw [pu_ieq_f z (by omega) (by omega), pu_ieq_f z (by omega) (by omega), pu_gd_t (by rw [hc.e.nn2 o.e]; omega), pu_as_n (by omega) (by omega), pu_bd_s]
      have e1 : upd2 I 31 w.e.pn (nI a) 30 0 = nI w.e.pn := by rw [upd2_other _ _ _ (by decide)]; exact hm.e.pn
      rw [e1, pu_as_n (by omega) (by omega)]
      have e2 : upd2 (upd2 I 31 w.e.pn (nI a)) 32 w.e.pn (nI b) 30 0 = nI w.e.pn := by rw [upd2_other _ _ _ (by decide)]; exact e1
      rw [e2, pu_nI_add, pu_upd2_at]
      generalize hg : upd (upd (fun _ => nI 0) 0 (nI a)) 1 (nI b) = g
      have g0 : g 0 = nI a := by rw [← hg]; rfl
      have g1 : g 1 = nI b := by rw [← hg]; rfl
      have ea : addC C 2 g 52 2 = nI (w.e.pn + 1) := by unfold addC; rw [hc.e.nn2 o.e]; exact pu_upd2_at _ _ _ _
      rw [ea]
      refine pu_Out.mk (w := ⟨w.r, pu_prE w.e a b, w.s, w.f⟩) _ rfl rfl ⟨o.r, pu_prE_ok o.e (by omega) (by omega) (by omega), o.s⟩ ?_ ?_
      · have G : ∀ x, x ≠ 52 → x ≠ 300 + w.e.pn → addC C 2 g x = C x := by
          intro x h1 h2
          unfold addC
          rw [hc.e.nn2 o.e, upd2_other _ _ _ h1, upd2_other _ _ _ h1, up1_other _ _ (by omega)]
        have A : addC C 2 g (300 + w.e.pn) = g := by
          unfold addC
          rw [hc.e.nn2 o.e, upd2_other _ _ _ (by omega), upd2_other _ _ _ (by omega), up1_same]
        have key : ∀ (j : Nat) (f : Nat → Nat) (v : Nat), g j = nI v → (∀ i, i < w.e.pn → C (300 + i) j = nI (f i)) → ∀ i, i < w.e.pn + 1 → addC C 2 g (300 + i) j = nI (pu_setN f w.e.pn v i) := by
          intro j f v hv hf i hi
          unfold pu_setN
          by_cases y : i = w.e.pn
          · rw [if_pos y, y, A]; exact hv
          · rw [if_neg y, G _ (by omega) (by omega)]; exact hf i (by omega)
        refine hc.ex ⟨?_, ?_, ?_, ?_, ea, key 0 w.e.pa a g0 hc.e.pa, key 1 w.e.pb b g1 hc.e.pb⟩ (fun b h1 h2 h3 => G b h2 (by omega))
        · rw [G 51 (by decide) (by omega)]; exact hc.e.sn
        · intro i hi; have hi : i < w.e.sn := hi; rw [G (200 + i) (by omega) (by omega)]; exact hc.e.sw i hi
        · intro i hi; have hi : i < w.e.sn := hi; rw [G (200 + i) (by omega) (by omega)]; exact hc.e.sp i hi
        · intro i hi; have hi : i < w.e.sn := hi; rw [G (200 + i) (by omega) (by omega)]; exact hc.e.sh i hi
      · refine hm.ex ⟨?_, ?_, ?_, ?_, pu_upd2_at _ _ _ _, ?_, ?_⟩ (fun b hb => by rw [upd2_other _ _ _ (by omega), upd2_other _ _ _ (by omega), upd2_other _ _ _ (by omega)])
        · rw [upd2_other _ _ _ (by decide), upd2_other _ _ _ (by decide), upd2_other _ _ _ (by decide)]; exact hm.e.sn
        · rw [upd2_other _ _ _ (by decide), upd2_other _ _ _ (by decide), upd2_other _ _ _ (by decide)]; exact hm.e.sw
        · rw [upd2_other _ _ _ (by decide), upd2_other _ _ _ (by decide), upd2_other _ _ _ (by decide)]; exact hm.e.sp
        · rw [upd2_other _ _ _ (by decide), upd2_other _ _ _ (by decide), upd2_other _ _ _ (by decide)]; exact hm.e.sh
        · rw [upd2_other _ _ _ (by decide), upd2_other _ _ _ (by decide), upd2_same]; exact pu_setN_s hm.e.pa
        · rw [upd2_other _ _ _ (by decide), upd2_same, upd2_other _ _ _ (by decide)]; exact pu_setN_s hm.e.pb
theorem pu_op_forget (x1 : Int32) (o : pu_WOk w) (hc : pu_CI C w) (hm : pu_MI I w) : pu_Out (cp_forget x1 C) (mo_forget x1 I) := by
  have h10 := o.e.sn
  have p10 := o.e.pn
  unfold cp_forget mo_forget
  simp only [pu_lit]
  rw [pu_isTwo_n, pu_moin, pu_bd_s, pu_bd_s]
  refine pu_q_in o hc hm (fun h => ?_)
  obtain ⟨q, hq, rfl⟩ := pu_inS_ex (by omega) h
  have hs1 : cfL_size C 1 = some (nI w.e.sn) := by unfold cfL_size; rw [pu_gd_t (by omega), show C (50 + 1) 2 = nI w.e.sn from hc.e.sn]
  have hs2 : cfL_size C 2 = some (nI w.e.pn) := by unfold cfL_size; rw [pu_gd_t (by omega), show C (50 + 2) 2 = nI w.e.pn from hc.e.pn]
  have hc1 : cfL_clear 1 C = some (clr C 1) := by unfold cfL_clear; rw [if_pos (by omega)]
  have hc2 : cfL_clear 2 C = some (clr C 2) := by unfold cfL_clear; rw [if_pos (by omega)]
  rw [hs1, hs2, hc1, hc2]
  unfold mo_forget_b27 mo_forget_b41 mo_forget_b58
  simp only [pu_lit, pu_lt_s, pu_bd_s]
  rcases (show q = 0 ∨ q = 1 by omega) with rfl | rfl
  · simp only [if_true, pu_n01, if_false]
    rw [hm.e.sn, show upd2 I 26 0 (nI 0) 30 0 = I 30 0 from by rw [upd2_other _ _ _ (by decide)]]
    refine pu_Out.mk (w := ⟨w.r, ⟨0, w.e.sw, w.e.sp, w.e.sh, w.e.pn, w.e.pa, w.e.pb⟩, w.s, w.f⟩) _ rfl rfl ⟨o.r, ⟨Nat.zero_le _, fun i hi => absurd hi (Nat.not_lt_zero _), fun i hi => absurd hi (Nat.not_lt_zero _), fun i hi => absurd hi (Nat.not_lt_zero _), o.e.pn, o.e.pa, o.e.pb⟩, o.s⟩ ?_ ?_
    · have G : ∀ b, b ≠ 51 → clr C 1 b = C b := fun b hb => by unfold clr; rw [upd2_other _ _ _ hb, upd2_other _ _ _ hb]
      refine hc.ex ⟨by unfold clr; exact pu_upd2_at _ _ _ _, fun i hi => absurd hi (Nat.not_lt_zero _), fun i hi => absurd hi (Nat.not_lt_zero _), fun i hi => absurd hi (Nat.not_lt_zero _), ?_, ?_, ?_⟩ (fun b h1 h2 h3 => G b h1)
      · rw [G 52 (by decide)]; exact hc.e.pn
      · intro i hi; have hi : i < w.e.pn := hi; rw [G (300 + i) (by omega)]; exact hc.e.pa i hi
      · intro i hi; have hi : i < w.e.pn := hi; rw [G (300 + i) (by omega)]; exact hc.e.pb i hi
    · refine hm.ex ⟨?_, fun i hi => absurd hi (Nat.not_lt_zero _), fun i hi => absurd hi (Nat.not_lt_zero _), fun i hi => absurd hi (Nat.not_lt_zero _), ?_, ?_, ?_⟩ (fun b hb => by rw [upd2_other _ _ _ (by omega), upd2_other _ _ _ (by omega)])
      · rw [upd2_other _ _ _ (by decide), pu_upd2_at]
      · rw [pu_upd2_at]; exact hm.e.pn
      · rw [upd2_other _ _ _ (by decide), upd2_other _ _ _ (by decide)]; exact hm.e.pa
      · rw [upd2_other _ _ _ (by decide), upd2_other _ _ _ (by decide)]; exact hm.e.pb
  · simp only [if_true, pu_n10, if_false]
    rw [hm.e.pn]
    refine pu_Out.mk (w := ⟨w.r, ⟨w.e.sn, w.e.sw, w.e.sp, w.e.sh, 0, w.e.pa, w.e.pb⟩, w.s, w.f⟩) _ rfl rfl ⟨o.r, ⟨o.e.sn, o.e.sw, o.e.sp, o.e.sh, Nat.zero_le _, fun i hi => absurd hi (Nat.not_lt_zero _), fun i hi => absurd hi (Nat.not_lt_zero _)⟩, o.s⟩ ?_ ?_
    · have G : ∀ b, b ≠ 52 → clr C 2 b = C b := fun b hb => by unfold clr; rw [upd2_other _ _ _ hb, upd2_other _ _ _ hb]
      refine hc.ex ⟨?_, ?_, ?_, ?_, by unfold clr; exact pu_upd2_at _ _ _ _, fun i hi => absurd hi (Nat.not_lt_zero _), fun i hi => absurd hi (Nat.not_lt_zero _)⟩ (fun b h1 h2 h3 => G b h2)
      · rw [G 51 (by decide)]; exact hc.e.sn
      · intro i hi; have hi : i < w.e.sn := hi; rw [G (200 + i) (by omega)]; exact hc.e.sw i hi
      · intro i hi; have hi : i < w.e.sn := hi; rw [G (200 + i) (by omega)]; exact hc.e.sp i hi
      · intro i hi; have hi : i < w.e.sn := hi; rw [G (200 + i) (by omega)]; exact hc.e.sh i hi
    · refine hm.ex ⟨?_, ?_, ?_, ?_, pu_upd2_at _ _ _ _, fun i hi => absurd hi (Nat.not_lt_zero _), fun i hi => absurd hi (Nat.not_lt_zero _)⟩ (fun b hb => by rw [upd2_other _ _ _ (by omega), upd2_other _ _ _ (by omega)])
      · rw [upd2_other _ _ _ (by decide), pu_upd2_at]; exact hm.e.sn
      · rw [upd2_other _ _ _ (by decide), upd2_other _ _ _ (by decide)]; exact hm.e.sw
      · rw [upd2_other _ _ _ (by decide), upd2_other _ _ _ (by decide)]; exact hm.e.sp
      · rw [upd2_other _ _ _ (by decide), upd2_other _ _ _ (by decide)]; exact hm.e.sh
/-- counts -/
def pu_rainSum (V : pu_Vw) : Nat := pu_fo 8 (fun h a => a + V.rain h) 0
def pu_countS (w : pu_Wd) (k : Nat) : Int32 := match k with
  | 0 => nI (pu_VF w.r).n
  | 1 => nI w.r.ty0
  | 2 => nI w.r.ty1
  | 3 => nI (pu_VF w.r).parts
  | 4 => nI w.e.sn
  | 5 => nI w.e.pn
  | 6 => nI (pu_worthS (pu_VF w.r) (2 ^ (pu_VF w.r).n - 1))
  | 7 => nI (pu_rainSum (pu_VF w.r))
  | 8 => w.f
  | _ => -nI 2
theorem pu_sumOf_n (hm : pu_MI I w) (o : pu_WOk w) {k : Nat} (hk : k < 9) : ∃ J, pu_MI J w ∧ pu_MV J (pu_VF w.r) ∧ mo_sumOf (nI k) I = some (if k = 0 then nI (pu_VF w.r).n else if k = 3 then nI (pu_VF w.r).parts else if k = 6 then nI (pu_worthS (pu_VF w.r) (2 ^ (pu_VF w.r).n - 1)) else nI (pu_rainSum (pu_VF w.r)), J) := by
  have V := pu_VF_ok o.r
  have n8 := V.n8
  have hN := pu_pow_le V
  have hN0 : 0 < 2 ^ (pu_VF w.r).n := Nat.two_pow_pos _
  obtain ⟨J, b1, b2, b3⟩ := pu_reads_n hm o.r
  refine ⟨J, b2, b1, ?_⟩
  unfold mo_sumOf mo_allDeeds
  simp only [pu_lit]
  rw [b3, pu_bd_s, pu_bd2_s, b1.n, pu_nI_31 (by omega), pu_nI_one (by omega), pu_nI_sub (by omega)]
  refine (pu_lp_for (T := Int32 → Int32 → Int32 → Int32 → St → Option (Int32 × St)) (call := fun t i a => t (nI k) (nI (2 ^ (pu_VF w.r).n - 1)) (nI a) (nI i) J) (P := fun _ _ => True) (f := fun h a => a + (pu_VF w.r).rain h) (K := fun a => some (if k = 0 then nI (pu_VF w.r).n else if k = 3 then nI (pu_VF w.r).parts else if k = 6 then nI (pu_worthS (pu_VF w.r) (2 ^ (pu_VF w.r).n - 1)) else nI a, J)) 8 ?_ ?_ (fun _ _ _ _ => trivial) (a := 0) trivial FU (by decide))
  · intro t a _
    unfold mo_sumOf_b10
    simp only [pu_lit]
    rw [pu_ile_t (by omega) (by omega), b1.n, b1.parts, pu_worthBy_n b1 V (by omega), pu_bd_s]
    by_cases q0 : k = 0
    · rw [pu_ieq_t q0, if_pos q0]
    · rw [pu_ieq_f q0 (by omega) (by omega), if_neg q0]
      by_cases q3 : k = 3
      · rw [pu_ieq_t q3, if_pos q3]
      · rw [pu_ieq_f q3 (by omega) (by omega), if_neg q3]
        by_cases q6 : k = 6
        · rw [pu_ieq_t q6, if_pos q6]
        · rw [pu_ieq_f q6 (by omega) (by omega), if_neg q6]
  · intro t i a hi _
    unfold mo_sumOf_b10
    simp only [pu_lit, pu_lt_s]
    rw [pu_ile_f (by omega) (by omega), pu_al_n hi (by omega), b1.rain i hi, pu_nI_add, pu_nI_add]
theorem pu_ccount_n (hc : pu_CI C w) (o : pu_WOk w) {k : Nat} (hk : k < 9) : ∃ J, pu_CI J w ∧ (k = 0 → pu_CV J (pu_VF w.r)) ∧ (C 40 3 = nI 1 → C 41 3 = nI 1 → pu_CV J (pu_VF w.r)) ∧ cp_count (nI k) C = some (pu_countS w k, J) := by
  have V := pu_VF_ok o.r
  have n8 := V.n8
  have hN := pu_pow_le V
  have hN0 : 0 < 2 ^ (pu_VF w.r).n := Nat.two_pow_pos _
  unfold cp_count
  simp only [pu_lit]
  rcases (show k = 0 ∨ k = 1 ∨ k = 2 ∨ k = 3 ∨ k = 4 ∨ k = 5 ∨ k = 6 ∨ k = 7 ∨ k = 8 by omega) with rfl | rfl | rfl | rfl | rfl | rfl | rfl | rfl | rfl
  · obtain ⟨J, a1, a2, a3⟩ := pu_cdeeds_n hc o
    rw [if_pos rfl, a3, pu_bd2_s]
    exact ⟨J, a1, fun _ => a2, fun _ _ => a2, rfl⟩
  · refine ⟨C, hc, fun h => by omega, fun h1 h2 => hc.v h1 h2, ?_⟩
    rw [if_neg pu_n10, if_pos rfl, show nI 1 - nI 1 = nI 0 from rfl]
    unfold cf_text
    simp only [pu_lit, if_true]
    rw [pu_bd_s, pu_gd_t (by omega), show C (40 + 0) 1 = nI w.r.ty0 from hc.r.t0]
    rfl
  · refine ⟨C, hc, fun h => by omega, fun h1 h2 => hc.v h1 h2, ?_⟩
    rw [pu_ieq_f (by omega) (by omega) (by omega), pu_ieq_f (by omega) (by omega) (by omega), if_pos rfl, show nI 2 - nI 1 = nI 1 from rfl]
    unfold cf_text
    simp only [pu_lit, pu_n10, if_false]
    rw [pu_bd_s, pu_gd_t (by omega), show C (40 + 1) 1 = nI w.r.ty1 from hc.r.t1]
    rfl
  · obtain ⟨J, a1, a2, a3, _, _, a4⟩ := pu_rd1_n hc o
    have R : pu_CR J (pu_rTop w.r.ty1 w.r.b1).r := by
      rcases a1.q1 with z | ⟨_, z, _⟩
      · rw [a2] at z; exact absurd z pu_n10
      · exact z
    refine ⟨J, a1, fun h => by omega, fun h1 h2 => a1.v (a3.trans h1) a2, ?_⟩
    simp (disch := omega) only [pu_ieq_f, if_true]
    rw [a4, pu_bd2_s, R.parts]
    rfl
  · refine ⟨C, hc, fun h => by omega, fun h1 h2 => hc.v h1 h2, ?_⟩
    simp (disch := omega) only [pu_ieq_f, if_true]
    unfold cfL_size
    rw [pu_gd_t (by omega), pu_bd_s, show C (50 + 1) 2 = nI w.e.sn from hc.e.sn]
    rfl
  · refine ⟨C, hc, fun h => by omega, fun h1 h2 => hc.v h1 h2, ?_⟩
    simp (disch := omega) only [pu_ieq_f, if_true]
    unfold cfL_size
    rw [pu_gd_t (by omega), pu_bd_s, show C (50 + 2) 2 = nI w.e.pn from hc.e.pn]
    rfl
  · obtain ⟨J, a1, a2, a3⟩ := pu_cdeeds_n hc o
    refine ⟨J, a1, fun h => by omega, fun _ _ => a2, ?_⟩
    simp (disch := omega) only [pu_ieq_f, if_true]
    rw [a3, pu_bd2_s, pu_nI_31 (by omega), pu_nI_one (by omega), pu_nI_sub (by omega), pu_worthC_n a2 V (by omega), pu_bd_s]
    rfl
  · refine ⟨C, hc, fun h => by omega, fun h1 h2 => hc.v h1 h2, ?_⟩
    simp (disch := omega) only [pu_ieq_f, if_true]
    have : cf_count_l115 C FU (nI 0) (nI 0) = some (nI (pu_rainSum (pu_VF w.r))) := by
      refine pu_lp_for (T := Int32 → Int32 → Option Int32) (call := fun t i a => t (nI a) (nI i)) (P := fun _ _ => True) (f := fun h a => a + (pu_VF w.r).rain h) (K := fun a => some (nI a)) 8 ?_ ?_ (fun _ _ _ _ => trivial) (a := 0) trivial FU (by decide)
      · intro t a _
        unfold cf_count_b115
        simp only [pu_lit]
        rw [pu_ile_t (by omega) (by omega)]
      · intro t i a hi _
        unfold cf_count_b115
        simp only [pu_lit, pu_lt_s]
        rw [pu_ile_f (by omega) (by omega), pu_al_n hi (by omega), hc.r.rain i hi, pu_nI_add, pu_nI_add]
        rfl
    rw [this, pu_bd_s]
    rfl
  · refine ⟨C, hc, fun h => by omega, fun h1 h2 => hc.v h1 h2, ?_⟩
    simp (disch := omega) only [pu_ieq_f, if_true]
    rw [hc.f]
    rfl
theorem pu_mcount_n (hm : pu_MI I w) (o : pu_WOk w) {k : Nat} (hk : k < 9) : ∃ J, pu_MI J w ∧ mo_count (nI k) I = some (pu_countS w k, J) := by
  unfold mo_count mo_count_b52 mo_count_b58
  simp only [pu_lit]
  obtain ⟨J, a1, a2, a3⟩ := pu_sumOf_n hm o hk
  rw [a3, pu_bd2_s]
  rcases (show k = 0 ∨ k = 1 ∨ k = 2 ∨ k = 3 ∨ k = 4 ∨ k = 5 ∨ k = 6 ∨ k = 7 ∨ k = 8 by omega) with rfl | rfl | rfl | rfl | rfl | rfl | rfl | rfl | rfl
  · exact ⟨J, a1, rfl⟩
  · refine ⟨I, hm, ?_⟩
    rw [if_neg pu_n10, if_pos rfl, show nI 1 - nI 1 = nI 0 from rfl, pu_al_n (by omega) (by omega), hm.r.t0]
    rfl
  · refine ⟨I, hm, ?_⟩
    rw [pu_ieq_f (by omega) (by omega) (by omega), pu_ieq_f (by omega) (by omega) (by omega), if_pos rfl, show nI 2 - nI 1 = nI 1 from rfl, pu_al_n (by omega) (by omega), hm.r.t1]
    rfl
  · exact ⟨J, a1, rfl⟩
  · refine ⟨I, hm, ?_⟩
    simp (disch := omega) only [pu_ieq_f, if_true]
    rw [hm.e.sn]; rfl
  · refine ⟨I, hm, ?_⟩
    simp (disch := omega) only [pu_ieq_f, if_true]
    rw [hm.e.pn]; rfl
  · exact ⟨J, a1, rfl⟩
  · exact ⟨J, a1, rfl⟩
  · refine ⟨I, hm, ?_⟩
    simp (disch := omega) only [pu_ieq_f, if_true]
    rw [hm.f]; rfl
theorem pu_op_count (x1 : Int32) (o : pu_WOk w) (hc : pu_CI C w) (hm : pu_MI I w) : pu_Out (cp_count x1 C) (mo_count x1 I) := by
  by_cases h : ∃ k, k < 9 ∧ x1 = nI k
  · obtain ⟨k, hk, rfl⟩ := h
    obtain ⟨J, a1, _, _, a2⟩ := pu_ccount_n hc o hk
    obtain ⟨K, b1, b2⟩ := pu_mcount_n hm o hk
    exact pu_Out.mk _ a2 b2 o a1 b1
  · have n : ∀ k, k < 9 → ¬ x1 = nI k := fun k hk e => h ⟨k, hk, e⟩
    unfold cp_count mo_count
    simp only [pu_lit]
    rw [if_neg (n 0 (by omega)), if_neg (n 1 (by omega)), if_neg (n 2 (by omega)), if_neg (n 3 (by omega)), if_neg (n 4 (by omega)), if_neg (n 5 (by omega)), if_neg (n 6 (by omega)), if_neg (n 7 (by omega)), if_neg (n 8 (by omega)), if_neg (n 0 (by omega)), if_neg (n 1 (by omega)), if_neg (n 2 (by omega)), if_neg (n 3 (by omega)), if_neg (n 4 (by omega)), if_neg (n 5 (by omega)), if_neg (n 6 (by omega)), if_neg (n 7 (by omega)), if_neg (n 8 (by omega))]
    exact pu_Out.mk _ rfl rfl o hc hm
end OPS
