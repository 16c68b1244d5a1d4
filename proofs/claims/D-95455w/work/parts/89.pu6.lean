/-! the plain side, part 6 -/
set_option maxRecDepth 100000
/-! PURE: sheets -/
theorem pu_CI.sh {C C' : St} {w : pu_Wd} {s' : pu_Sh} (h : pu_CI C w) (o : pu_WOk w) (pu_hs : pu_CSh C' s') (G : ∀ b, b < 60 ∨ 80 ≤ b → C' b = C b) : pu_CI C' ⟨w.r, w.e, s', w.f⟩ := by
  refine ⟨⟨?_, ?_, ?_, ?_, ?_, ?_, ?_, ?_, ?_, ?_⟩, h.e.fr o.e (fun b hb => G b (by omega)), pu_hs, ?_, ?_, ?_, ?_⟩
  · rw [G 40 (by omega)]; exact h.r.t0
  · rw [G 41 (by omega)]; exact h.r.t1
  · rw [G 42 (by omega)]; exact h.r.b0
  · rw [G 43 (by omega)]; exact h.r.b1
  · intro p hp; rw [G (20 + p) (by omega)]; exact h.r.come p hp
  · intro p hp; rw [G (20 + p) (by omega)]; exact h.r.til p hp
  · intro p hp; rw [G (20 + p) (by omega)]; exact h.r.price p hp
  · intro p hp; rw [G (20 + p) (by omega)]; exact h.r.mem p hp
  · rw [G 2 (by omega)]; exact h.r.rain
  · rw [G 3 (by omega)]; exact h.r.set
  · rw [G 0 (by omega)]; exact h.f
  · rw [G 40 (by omega)]
    rcases h.q0 with z | ⟨z1, z2, z3⟩
    · exact Or.inl z
    · exact Or.inr ⟨z1, ⟨by rw [G 50 (by omega)]; exact z2.1, fun i hi => by rw [G (100 + i) (by omega)]; exact z2.2 i hi⟩, z3⟩
  · rw [G 41 (by omega)]
    rcases h.q1 with z | ⟨z1, z2, z3⟩
    · exact Or.inl z
    · exact Or.inr ⟨z1, ⟨by rw [G 41 (by omega)]; exact z2.parts, by rw [G 44 (by omega)]; exact z2.many, by rw [G 45 (by omega)]; exact z2.askR, by rw [G 46 (by omega)]; exact z2.askP⟩, z3⟩
  · rw [G 0 (by omega)]
    rcases h.pl with z | ⟨z1, z2⟩
    · exact Or.inl z
    · refine Or.inr ⟨z1, ⟨by rw [G 40 (by omega)]; exact z2.a, by rw [G 41 (by omega)]; exact z2.b, ?_⟩⟩
      rw [G 0 (by omega), G 16 (by omega)]
      exact z2.p
theorem pu_MI.sh {I I' : St} {w : pu_Wd} {s' : pu_Sh} (h : pu_MI I w) (pu_hs : pu_MSh I' s') (G : ∀ b, b < 33 ∨ b = 38 → I' b = I b) : pu_MI I' ⟨w.r, w.e, s', w.f⟩ := by
  refine ⟨⟨?_, ?_, ?_, ?_, ?_, ?_, ?_, ?_, ?_, ?_⟩, h.e.fr (fun b h1 h2 => G b (by omega)), pu_hs, ?_⟩
  · rw [G 0 (by omega)]; exact h.r.t0
  · rw [G 0 (by omega)]; exact h.r.t1
  · rw [G 1 (by omega)]; exact h.r.b0
  · rw [G 1 (by omega)]; exact h.r.b1
  · rw [G 12 (by omega)]; exact h.r.come
  · rw [G 13 (by omega)]; exact h.r.til
  · rw [G 14 (by omega)]; exact h.r.price
  · rw [G 15 (by omega)]; exact h.r.mem
  · rw [G 16 (by omega)]; exact h.r.rain
  · rw [G 17 (by omega)]; exact h.r.set
  · rw [G 38 (by omega)]; exact h.f
theorem pu_CI.met {C : St} {w : pu_Wd} (h : pu_CI C w) (o : pu_WOk w) (x : Int32) : pu_CI (upd2 C 0 0 x) ⟨w.r, w.e, w.s, x⟩ := by
  have G : ∀ b, b ≠ 0 → upd2 C 0 0 x b = C b := fun b hb => upd2_other _ _ _ hb
  refine ⟨⟨?_, ?_, ?_, ?_, ?_, ?_, ?_, ?_, ?_, ?_⟩, h.e.fr o.e (fun b hb => G b (by omega)), fun s pu_hs => ?_, pu_upd2_at _ _ _ _, ?_, ?_, ?_⟩
  · rw [G 40 (by decide)]; exact h.r.t0
  · rw [G 41 (by decide)]; exact h.r.t1
  · rw [G 42 (by decide)]; exact h.r.b0
  · rw [G 43 (by decide)]; exact h.r.b1
  · intro p hp; rw [G (20 + p) (by omega)]; exact h.r.come p hp
  · intro p hp; rw [G (20 + p) (by omega)]; exact h.r.til p hp
  · intro p hp; rw [G (20 + p) (by omega)]; exact h.r.price p hp
  · intro p hp; rw [G (20 + p) (by omega)]; exact h.r.mem p hp
  · rw [G 2 (by decide)]; exact h.r.rain
  · rw [G 3 (by decide)]; exact h.r.set
  · rw [G (60 + s) (by omega), G (70 + s) (by omega)]; exact h.s s pu_hs
  · rw [G 40 (by decide)]
    rcases h.q0 with z | ⟨z1, z2, z3⟩
    · exact Or.inl z
    · exact Or.inr ⟨z1, ⟨by rw [G 50 (by decide)]; exact z2.1, fun i hi => by rw [G (100 + i) (by omega)]; exact z2.2 i hi⟩, z3⟩
  · rw [G 41 (by decide)]
    rcases h.q1 with z | ⟨z1, z2, z3⟩
    · exact Or.inl z
    · exact Or.inr ⟨z1, ⟨by rw [G 41 (by decide)]; exact z2.parts, by rw [G 44 (by decide)]; exact z2.many, by rw [G 45 (by decide)]; exact z2.askR, by rw [G 46 (by decide)]; exact z2.askP⟩, z3⟩
  · rw [pu_upd2_ne _ _ _ (by decide)]
    rcases h.pl with z | ⟨z1, z2⟩
    · exact Or.inl z
    · refine Or.inr ⟨z1, ⟨by rw [G 40 (by decide)]; exact z2.a, by rw [G 41 (by decide)]; exact z2.b, ?_⟩⟩
      rw [pu_upd2_ne _ _ _ (by decide), pu_upd2_ne _ _ _ (by decide), G 16 (by decide)]
      exact z2.p
theorem pu_MI.met {I : St} {w : pu_Wd} (h : pu_MI I w) (x : Int32) : pu_MI (upd2 I 38 0 x) ⟨w.r, w.e, w.s, x⟩ := by
  have G : ∀ b, b ≠ 38 → upd2 I 38 0 x b = I b := fun b hb => upd2_other _ _ _ hb
  refine ⟨⟨?_, ?_, ?_, ?_, ?_, ?_, ?_, ?_, ?_, ?_⟩, h.e.fr (fun b h1 h2 => G b (by omega)), fun s pu_hs => ?_, pu_upd2_at _ _ _ _⟩
  · rw [G 0 (by omega)]; exact h.r.t0
  · rw [G 0 (by omega)]; exact h.r.t1
  · rw [G 1 (by omega)]; exact h.r.b0
  · rw [G 1 (by omega)]; exact h.r.b1
  · rw [G 12 (by omega)]; exact h.r.come
  · rw [G 13 (by omega)]; exact h.r.til
  · rw [G 14 (by omega)]; exact h.r.price
  · rw [G 15 (by omega)]; exact h.r.mem
  · rw [G 16 (by omega)]; exact h.r.rain
  · rw [G 17 (by omega)]; exact h.r.set
  · rw [G 33 (by decide), G 34 (by decide), G 35 (by decide), G 36 (by decide)]; exact h.s s pu_hs
section OPS
variable {C I : St} {w : pu_Wd}
/-- a finding is met -/
theorem pu_o_met (x : Int32) (o : pu_WOk w) (hc : pu_CI C w) (hm : pu_MI I w) : pu_Out (bd2_ (cf_met x C) fun v C1 => some (v, C1)) (bd2_ (mo_meets x I) fun v I1 => some (v, I1)) := by
  unfold cf_met mo_meets
  simp only [pu_lt_s, pu_bd2_s]
  exact pu_Out.mk (w := ⟨w.r, w.e, w.s, x⟩) _ rfl rfl ⟨o.r, o.e, o.s⟩ (hc.met o x) (hm.met x)
theorem pu_isSheet_n (x : Int32) : cf_isSheet x = some (pu_bI (pu_inS x (nI 0) (nI 3))) := by
  unfold cf_isSheet
  rw [show cf_in x.toInt64 0 3 = _ from pu_cfin x (nI 0) (nI 3), pu_bd_s, if_pos (pu_zb_b _)]
theorem pu_mSheet (x : Int32) : mo_isSheet x = some (pu_bI (pu_inS x (nI 0) (nI 3))) := by
  unfold mo_isSheet
  simp only [pu_lit]
  rw [pu_moin, pu_bd_s, if_pos (pu_zb_b _)]
theorem pu_cRt_n {f g : Nat} (hf : f < 3) (hg : g < 3) : cRt (nI f) = cRt (nI g) ↔ f = g := by
  have : ∀ f, f < 3 → ∀ g, g < 3 → (cRt (nI f) = cRt (nI g) ↔ f = g) := by decide +kernel
  exact this f hf g hg
theorem pu_cr0 : cRt (nI 0) = 2 := rfl
theorem pu_cr1 : cRt (nI 1) = 3 := by decide
theorem pu_cr2 : cRt (nI 2) = 0 := by decide
theorem pu_type_n {s : Nat} (hc : pu_CI C w) (o : pu_WOk w) (pu_hs : s < 4) (ht : w.s.there s = true) : cfS_type C s = some (nI (w.s.form s)) := by
  have h := hc.s s pu_hs
  have hf := o.s.form s pu_hs ht
  unfold cfS_type
  rw [pu_gd_t pu_hs, pu_gd_t (by rw [h.1, ht]; rfl), (h.2 ht).1]
  have : ∀ f, f < 3 → shT (nI f) = nI f := by decide +kernel
  rw [this _ hf]
theorem pu_size_n {s : Nat} (hc : pu_CI C w) (o : pu_WOk w) (pu_hs : s < 4) (ht : w.s.there s = true) : cfS_size C s = some (nI (w.s.size s)) := by
  have h := hc.s s pu_hs
  have hf := o.s.form s pu_hs ht
  have hz := o.s.size s pu_hs ht
  have h1 : C (60 + s) 0 = nI 1 := by rw [h.1, ht]; rfl
  unfold cfS_size
  simp only [pu_lit, pu_lt_s]
  rw [pu_gd_t pu_hs, pu_type_n hc o pu_hs ht, pu_bd_s, (h.2 ht).1, (h.2 ht).2.1, pu_nI_clamp (by omega)]
  rcases (show w.s.form s = 0 ∨ w.s.form s = 1 ∨ w.s.form s = 2 by omega) with z | z | z
  · rw [z, if_pos rfl, pu_gd_t h1, pu_gd_t pu_cr0]; rfl
  · rw [z, if_neg pu_n10, if_pos rfl, pu_gd_t h1, pu_gd_t pu_cr1]; rfl
  · rw [z, pu_ieq_f (by omega) (by omega) (by omega), pu_ieq_f (by omega) (by omega) (by omega), pu_gd_t h1, pu_gd_t pu_cr2]; rfl
theorem pu_item_n {s i : Nat} (hc : pu_CI C w) (o : pu_WOk w) (pu_hs : s < 4) (ht : w.s.there s = true) (hi : i < w.s.size s) : cfS_item C s (nI (w.s.form s)) (nI i) = some (w.s.it s i) := by
  have h := hc.s s pu_hs
  have hf := o.s.form s pu_hs ht
  have hz := o.s.size s pu_hs ht
  have h1 : C (60 + s) 0 = nI 1 := by rw [h.1, ht]; rfl
  have ev : C (70 + s) i = w.s.it s i := (h.2 ht).2.2 i hi
  unfold cfS_item
  simp only [pu_lit]
  rw [(h.2 ht).1, (h.2 ht).2.1, pu_nI_clamp (by omega)]
  rcases (show w.s.form s = 0 ∨ w.s.form s = 1 ∨ w.s.form s = 2 by omega) with z | z | z
  · rw [z, if_pos rfl, pu_gd_t pu_hs, pu_gd_t h1, pu_gd_t pu_cr0, pu_al_n hi (by omega), ev]
  · rw [z, if_neg pu_n10, if_pos rfl, pu_gd_t pu_hs, pu_gd_t h1, pu_gd_t pu_cr1, pu_al_n hi (by omega), ev]
  · rw [z, pu_ieq_f (by omega) (by omega) (by omega), pu_ieq_f (by omega) (by omega) (by omega), pu_gd_t pu_hs, pu_gd_t h1, pu_gd_t pu_cr2, pu_al_n hi (by omega), ev]
/-- a number as a form holds it -/
def pu_narS (f : Nat) (v : Int32) : Int32 := if f = 0 then v.toInt8.toInt32 else if f = 1 then v.toInt16.toInt32 else v
theorem pu_i8_i8 (v : Int32) : v.toInt8.toInt32.toInt8.toInt32 = v.toInt8.toInt32 := by rw [Int8.toInt8_toInt32]
theorem pu_i16_i16 (v : Int32) : v.toInt16.toInt32.toInt16.toInt32 = v.toInt16.toInt32 := by rw [Int16.toInt16_toInt32]
theorem pu_narS_fit {f : Nat} (v : Int32) : pu_fitF f (pu_narS f v) := by
  unfold pu_fitF pu_narS
  constructor
  · intro z
    rw [if_pos z, Int8.toInt_toInt32]
    have h1 := Int8.toInt_lt v.toInt8
    have h2 := Int8.le_toInt v.toInt8
    omega
  · intro z
    rw [if_neg (by omega), if_pos z, Int16.toInt_toInt32]
    have h1 := Int16.toInt_lt v.toInt16
    have h2 := Int16.le_toInt v.toInt16
    omega
theorem pu_lay_n {s i : Nat} {v : Int32} (hc : pu_CI C w) (o : pu_WOk w) (pu_hs : s < 4) (ht : w.s.there s = true) (hi : i < w.s.size s) : cfS_lay s (nI (w.s.form s)) (nI i) v C = some (upd2 C (70 + s) i (pu_narS (w.s.form s) v)) := by
  have h := hc.s s pu_hs
  have hf := o.s.form s pu_hs ht
  have hz := o.s.size s pu_hs ht
  have h1 : C (60 + s) 0 = nI 1 := by rw [h.1, ht]; rfl
  unfold cfS_lay pu_narS
  simp only [pu_lit]
  rw [(h.2 ht).1, (h.2 ht).2.1, pu_nI_clamp (by omega)]
  rcases (show w.s.form s = 0 ∨ w.s.form s = 1 ∨ w.s.form s = 2 by omega) with z | z | z
  · rw [z, if_pos rfl, pu_gd_t pu_hs, pu_gd_t h1, pu_gd_t pu_cr0, pu_as_n hi (by omega), if_pos rfl, show vp_nar .byte v.toInt8.toInt32 = v.toInt8.toInt32.toInt8.toInt32 from rfl, pu_i8_i8]
  · rw [z, if_neg pu_n10, if_pos rfl, pu_gd_t pu_hs, pu_gd_t h1, pu_gd_t pu_cr1, pu_as_n hi (by omega), if_neg (by omega), if_pos rfl, show vp_nar .short v.toInt16.toInt32 = v.toInt16.toInt32.toInt16.toInt32 from rfl, pu_i16_i16]
  · rw [z, pu_ieq_f (by omega) (by omega) (by omega), pu_ieq_f (by omega) (by omega) (by omega), pu_gd_t pu_hs, pu_gd_t h1, pu_gd_t pu_cr2, pu_as_n hi (by omega), if_neg (by omega), if_neg (by omega)]
theorem pu_keep_n {s i : Nat} {v : Int32} (hm : pu_MI I w) (o : pu_WOk w) (pu_hs : s < 4) (ht : w.s.there s = true) (hi : i < w.s.size s) : mo_keep (nI s) (nI i) v I = some (upd2 I 36 (60 * s + i) (pu_narS (w.s.form s) v)) := by
  have h := hm.s s pu_hs
  have hf := o.s.form s pu_hs ht
  have hz := o.s.size s pu_hs ht
  unfold mo_keep mo_keep_b40 pu_narS
  simp only [pu_lit]
  rw [pu_al_n pu_hs (by omega), pu_al_n pu_hs (by omega), (h.2 ht).1, pu_nI_mul, pu_nI_add, pu_as_n (by omega) (by omega), pu_as_n (by omega) (by omega), pu_as_n (by omega) (by omega)]
  rcases (show w.s.form s = 0 ∨ w.s.form s = 1 ∨ w.s.form s = 2 by omega) with z | z | z <;> rw [z] <;> rfl
/-- one number of a sheet -/
def pu_itS (S : pu_Sh) (s i : Nat) (v : Int32) : pu_Sh := ⟨S.there, S.form, S.size, fun t j => if t = s ∧ j = i then v else S.it t j⟩
theorem pu_itS_ok {S : pu_Sh} {s i : Nat} {v : Int32} (o : pu_SOk S) (hv : pu_fitF (S.form s) v) : pu_SOk (pu_itS S s i v) := ⟨o.form, o.size, fun t ht th j hj => by
  show pu_fitF (S.form t) (if t = s ∧ j = i then v else S.it t j)
  by_cases z : t = s ∧ j = i
  · rw [if_pos z, z.1]; exact hv
  · rw [if_neg z]; exact o.fit t ht th j hj⟩
theorem pu_itC {s i : Nat} {v : Int32} (hc : pu_CI C w) (o : pu_WOk w) (pu_hs : s < 4) : pu_CI (upd2 C (70 + s) i v) ⟨w.r, w.e, pu_itS w.s s i v, w.f⟩ := by
  refine hc.sh o (fun t ht => ?_) (fun b hb => upd2_other _ _ _ (by omega))
  have h := hc.s t ht
  rw [upd2_other _ _ _ (by omega)]
  refine ⟨h.1, fun th => ⟨(h.2 th).1, (h.2 th).2.1, fun j hj => ?_⟩⟩
  show _ = if t = s ∧ j = i then v else w.s.it t j
  by_cases z : t = s
  · subst z
    by_cases y : j = i
    · subst y; rw [pu_upd2_at, if_pos ⟨rfl, rfl⟩]
    · rw [pu_upd2_ne _ _ _ y, if_neg (fun q => y q.2)]; exact (h.2 th).2.2 j hj
  · rw [upd2_other _ _ _ (by omega), if_neg (fun q => z q.1)]; exact (h.2 th).2.2 j hj
theorem pu_itM {s i : Nat} {v : Int32} (hm : pu_MI I w) (o : pu_WOk w) (pu_hs : s < 4) (ht' : w.s.there s = true) (hi : i < w.s.size s) : pu_MI (upd2 I 36 (60 * s + i) v) ⟨w.r, w.e, pu_itS w.s s i v, w.f⟩ := by
  have hz := o.s.size s pu_hs ht'
  refine hm.sh (fun t ht => ?_) (fun b hb => upd2_other _ _ _ (by omega))
  have h := hm.s t ht
  rw [upd2_other _ _ _ (by decide), upd2_other _ _ _ (by decide), upd2_other _ _ _ (by decide)]
  refine ⟨h.1, fun th => ⟨(h.2 th).1, (h.2 th).2.1, fun j hj => ?_⟩⟩
  have hj : j < w.s.size t := hj
  have hzt := o.s.size t ht th
  show _ = if t = s ∧ j = i then v else w.s.it t j
  by_cases z : t = s ∧ j = i
  · rw [if_pos z, z.1, z.2, pu_upd2_at]
  · rw [if_neg z, pu_upd2_ne _ _ _ (by omega)]; exact (h.2 th).2.2 j hj
theorem pu_idx_n {x : Int32} {n : Nat} (hn : n < 1000) : (x < nI 0 ∨ n ≤ x.toNatClampNeg) ↔ ¬ pu_inS x (nI 0) (pu_fI n) = true := by
  constructor
  · intro h q
    obtain ⟨k, hk, rfl⟩ := pu_inS_fI hn q
    rw [pu_nI_clamp (by omega), pu_nI_lt (by omega) (by omega)] at h
    omega
  · intro q
    by_cases z : x < nI 0
    · exact Or.inl z
    · refine Or.inr (Nat.not_lt.mp (fun y => q ?_))
      have hx : x = nI x.toNatClampNeg := by
        apply Int32.toInt_inj.mp
        have h0 : 0 ≤ x.toInt := by
          rw [Int32.lt_iff_toInt_lt] at z
          have : (nI 0).toInt = 0 := rfl
          omega
        rw [pu_nI_toInt (by omega), ← Int32.toNat_toInt]
        omega
      rw [hx, pu_inS_fI' (by omega) hn]
      exact decide_eq_true y
theorem pu_lacks_n {s f : Nat} {x : Int32} (hm : pu_MI I w) (o : pu_WOk w) (pu_hs : s < 4) (hf : f < 3) : mo_lacks I (nI s) (nI f) x = some (if w.s.there s = true then (if w.s.form s = f then (if pu_inS x (nI 0) (pu_fI (w.s.size s)) = true then nI 0 else nI 2) else nI 3) else nI 1) := by
  have h := hm.s s pu_hs
  unfold mo_lacks
  simp only [pu_lit]
  rw [pu_al_n pu_hs (by omega), pu_al_n pu_hs (by omega), pu_al_n pu_hs (by omega), h.1, pu_bI0]
  by_cases ht : w.s.there s = true
  · have hf' := o.s.form s pu_hs ht
    rw [if_pos ht, if_pos ht, (h.2 ht).1, (h.2 ht).2.1, pu_moin, pu_bd_s, pu_bI0]
    by_cases z : w.s.form s = f
    · rw [pu_ieq_t z, if_pos z]
      show (if pu_inS x (nI 0) (pu_fI (w.s.size s)) = true then some (nI 0) else some (nI 2)) = _
      split <;> rfl
    · rw [pu_ieq_f z (by omega) (by omega), if_neg z]
  · rw [if_neg ht, if_neg ht]
theorem pu_op_put (x1 x2 x3 x4 : Int32) (o : pu_WOk w) (hc : pu_CI C w) (hm : pu_MI I w) : pu_Out (cp_put x1 x2 x3 x4 C) (mo_put x1 x2 x3 x4 I) := by
  unfold cp_put mo_put
  simp only [pu_lit]
  rw [pu_isSheet_n, pu_mSheet, pu_bd_s, pu_bd_s]
  refine pu_q_in o hc hm (fun h => ?_)
  obtain ⟨s, pu_hs, rfl⟩ := pu_inS_ex (by omega) h
  rw [show cf_in x2.toInt64 0 2 = _ from pu_cin x2 2 (by omega), pu_moin, pu_bd_s, pu_bd_s]
  refine pu_q_in o hc hm (fun h => ?_)
  obtain ⟨f, hf, rfl⟩ := pu_inS_ex (by omega) h
  have hS := hc.s s (by omega)
  rw [pu_ix_n (by omega) (by omega), pu_lacks_n hm o (by omega) (by omega), pu_bd_s, hS.1, pu_bI1]
  by_cases ht : w.s.there s = true
  · have hf' := o.s.form s (by omega) ht
    have hz := o.s.size s (by omega) ht
    rw [if_pos ht, if_pos ht, pu_ix_n (by omega) (by omega), pu_gd_t (by rw [hS.1, ht]; rfl), (hS.2 ht).1, (hS.2 ht).2.1, pu_nI_clamp (by omega)]
    by_cases z : w.s.form s = f
    · rw [if_pos ((pu_cRt_n hf' (by omega)).mpr z), if_pos z]
      by_cases y : pu_inS x3 (nI 0) (pu_fI (w.s.size s)) = true
      · obtain ⟨i, hi, rfl⟩ := pu_inS_fI (by omega) y
        rw [if_neg (fun q => (pu_idx_n (by omega)).mp q y), if_pos y, pu_ile_t (by omega) (by omega), pu_keep_n hm o (by omega) ht hi, pu_bd_s, ← z, pu_lay_n hc o (by omega) ht hi, pu_bd_s]
        exact pu_Out.mk (w := ⟨w.r, w.e, pu_itS w.s s i (pu_narS (w.s.form s) x4), w.f⟩) _ rfl rfl ⟨o.r, o.e, pu_itS_ok o.s (pu_narS_fit x4)⟩ (pu_itC hc o (by omega)) (pu_itM hm o (by omega) ht hi)
      · rw [if_pos ((pu_idx_n (by omega)).mpr y), if_neg y, pu_ile_f (by omega) (by omega)]
        exact pu_o_met (nI 2) o hc hm
    · rw [if_neg (fun q => z ((pu_cRt_n hf' (by omega)).mp q)), if_neg z, pu_ile_f (by omega) (by omega)]
      exact pu_o_met (nI 3) o hc hm
  · rw [if_neg ht, if_neg ht, pu_ile_f (by omega) (by omega)]
    exact pu_o_met (nI 1) o hc hm
theorem pu_o_low (x : Int32) (o : pu_WOk w) (hc : pu_CI C w) (hm : pu_MI I w) : pu_Out (bd2_ (cf_lowest x C) fun v C1 => some (v, C1)) (some ((-2147483648 : Int32), upd2 I 38 0 x)) := by
  unfold cf_lowest
  simp only [pu_lt_s, pu_bd2_s]
  exact pu_Out.mk (w := ⟨w.r, w.e, w.s, x⟩) _ rfl rfl ⟨o.r, o.e, o.s⟩ (hc.met o x) (hm.met x)
theorem pu_op_get (x1 x2 x3 : Int32) (o : pu_WOk w) (hc : pu_CI C w) (hm : pu_MI I w) : pu_Out (cp_get x1 x2 x3 C) (mo_get x1 x2 x3 I) := by
  unfold cp_get mo_get mo_get_b16
  have e0 : (0 : Int32) = nI 0 := rfl
  have e1 : (1 : Int32) = nI 1 := rfl
  have e2 : (2 : Int32) = nI 2 := rfl
  have e3 : (3 : Int32) = nI 3 := rfl
  have e60 : (60 : Int32) = nI 60 := rfl
  rw [e0, e1, e2, e3, e60]
  rw [pu_isSheet_n, pu_mSheet, pu_bd_s, pu_bd_s]
  refine pu_q_in o hc hm (fun h => ?_)
  obtain ⟨s, pu_hs, rfl⟩ := pu_inS_ex (by omega) h
  rw [show cf_in x2.toInt64 0 2 = _ from pu_cin x2 2 (by omega), pu_moin, pu_bd_s, pu_bd_s]
  refine pu_q_in o hc hm (fun h => ?_)
  obtain ⟨f, hf, rfl⟩ := pu_inS_ex (by omega) h
  have hS := hc.s s (by omega)
  have hM := hm.s s (by omega)
  rw [pu_ix_n (by omega) (by omega), pu_lacks_n hm o (by omega) (by omega), pu_bd_s, hS.1, pu_bI1]
  by_cases ht : w.s.there s = true
  · have hf' := o.s.form s (by omega) ht
    have hz := o.s.size s (by omega) ht
    rw [if_pos ht, if_pos ht, pu_ix_n (by omega) (by omega), pu_gd_t (by rw [hS.1, ht]; rfl), (hS.2 ht).1, (hS.2 ht).2.1, pu_nI_clamp (by omega)]
    by_cases z : w.s.form s = f
    · rw [if_pos ((pu_cRt_n hf' (by omega)).mpr z), if_pos z]
      by_cases y : pu_inS x3 (nI 0) (pu_fI (w.s.size s)) = true
      · obtain ⟨i, hi, rfl⟩ := pu_inS_fI (by omega) y
        rw [if_neg (fun q => (pu_idx_n (by omega)).mp q y), if_pos y, pu_ile_t (by omega) (by omega), pu_nI_mul, pu_nI_add, pu_al_n (by omega) (by omega), (hM.2 ht).2.2 i hi, ← z, pu_item_n hc o (by omega) ht hi, pu_bd_s]
        exact pu_Out.mk _ rfl rfl o hc hm
      · rw [if_pos ((pu_idx_n (by omega)).mpr y), if_neg y, pu_ile_f (by omega) (by omega), pu_lt_s]
        exact pu_o_low (nI 2) o hc hm
    · rw [if_neg (fun q => z ((pu_cRt_n hf' (by omega)).mp q)), if_neg z, pu_ile_f (by omega) (by omega), pu_lt_s]
      exact pu_o_low (nI 3) o hc hm
  · rw [if_neg ht, if_neg ht, pu_ile_f (by omega) (by omega), pu_lt_s]
    exact pu_o_low (nI 1) o hc hm
theorem pu_op_lose (x1 : Int32) (o : pu_WOk w) (hc : pu_CI C w) (hm : pu_MI I w) : pu_Out (cp_lose x1 C) (mo_lose x1 I) := by
  unfold cp_lose mo_lose
  simp only [pu_lit, pu_lt_s]
  rw [pu_isSheet_n, pu_mSheet, pu_bd_s, pu_bd_s]
  refine pu_q_in o hc hm (fun h => ?_)
  obtain ⟨s, pu_hs, rfl⟩ := pu_inS_ex (by omega) h
  have hS := hc.s s (by omega)
  have hM := hm.s s (by omega)
  rw [pu_ix_n (by omega) (by omega), hS.1, pu_bI1, pu_al_n (by omega) (by omega), hM.1, pu_bI0]
  by_cases ht : w.s.there s = true
  · rw [if_pos ht, if_pos ht, pu_ix_n (by omega) (by omega), pu_size_n hc o (by omega) ht, pu_bd_s, pu_ix_n (by omega) (by omega), pu_as_n (by omega) (by omega), pu_al_n (by omega) (by omega), upd2_other _ _ _ (by decide), (hM.2 ht).2.1]
    refine pu_Out.mk (w := ⟨w.r, w.e, ⟨fun t => if t = s then false else w.s.there t, w.s.form, w.s.size, w.s.it⟩, w.f⟩) _ rfl rfl ⟨o.r, o.e, ⟨fun t ht' th => o.s.form t ht' ?_, fun t ht' th => o.s.size t ht' ?_, fun t ht' th => o.s.fit t ht' ?_⟩⟩ ?_ ?_
    · have th : (if t = s then false else w.s.there t) = true := th
      by_cases z : t = s
      · rw [if_pos z] at th; cases th
      · rw [if_neg z] at th; exact th
    · have th : (if t = s then false else w.s.there t) = true := th
      by_cases z : t = s
      · rw [if_pos z] at th; cases th
      · rw [if_neg z] at th; exact th
    · have th : (if t = s then false else w.s.there t) = true := th
      by_cases z : t = s
      · rw [if_pos z] at th; cases th
      · rw [if_neg z] at th; exact th
    · refine hc.sh o (fun t ht' => ?_) (fun b hb => upd2_other _ _ _ (by omega))
      have h := hc.s t ht'
      show _ = pu_bI (if t = s then false else w.s.there t) ∧ ((if t = s then false else w.s.there t) = true → _)
      by_cases z : t = s
      · subst z
        rw [if_pos rfl]
        exact ⟨pu_upd2_at _ _ _ _, fun q => by cases q⟩
      · rw [if_neg z, upd2_other _ _ _ (by omega), upd2_other _ _ _ (by omega)]
        exact h
    · refine hm.sh (fun t ht' => ?_) (fun b hb => upd2_other _ _ _ (by omega))
      have h := hm.s t ht'
      show _ = pu_bI (if t = s then false else w.s.there t) ∧ ((if t = s then false else w.s.there t) = true → _)
      rw [upd2_other _ _ _ (show (34 : Nat) ≠ 33 by decide), upd2_other _ _ _ (show (35 : Nat) ≠ 33 by decide), upd2_other _ _ _ (show (36 : Nat) ≠ 33 by decide)]
      by_cases z : t = s
      · subst z
        rw [if_pos rfl]
        exact ⟨pu_upd2_at _ _ _ _, fun q => by cases q⟩
      · rw [if_neg z, pu_upd2_ne _ _ _ z]
        exact h
  · rw [if_neg ht, if_neg ht]
    exact pu_o_met (nI 1) o hc hm
end OPS
/-! PURE: sheets made, read, written -/
section OPS
variable {C I : St} {w : pu_Wd}
def pu_shNw (S : pu_Sh) (s f n : Nat) : pu_Sh := ⟨fun t => if t = s then true else S.there t, pu_setN S.form s f, pu_setN S.size s n, fun t i => if t = s then nI 0 else S.it t i⟩
theorem pu_shNw_ok {S : pu_Sh} {s f n : Nat} (o : pu_SOk S) (hf : f < 3) (hn : n ≤ 60) : pu_SOk (pu_shNw S s f n) := by
  have th' : ∀ t, t ≠ s → (pu_shNw S s f n).there t = true → S.there t = true := by
    intro t z h
    have h : (if t = s then true else S.there t) = true := h
    rw [if_neg z] at h
    exact h
  refine ⟨fun t ht th => ?_, fun t ht th => ?_, fun t ht th i hi => ?_⟩
  · show pu_setN S.form s f t < 3
    by_cases z : t = s
    · rw [z, pu_setN_at]; exact hf
    · rw [pu_setN_ne _ _ z]; exact o.form t ht (th' t z th)
  · show pu_setN S.size s n t ≤ 60
    by_cases z : t = s
    · rw [z, pu_setN_at]; exact hn
    · rw [pu_setN_ne _ _ z]; exact o.size t ht (th' t z th)
  · have hi : i < pu_setN S.size s n t := hi
    show pu_fitF (pu_setN S.form s f t) (if t = s then nI 0 else S.it t i)
    by_cases z : t = s
    · rw [if_pos z]
      have : (nI 0).toInt = 0 := rfl
      unfold pu_fitF
      omega
    · rw [if_neg z, pu_setN_ne _ _ z]
      rw [pu_setN_ne _ _ z] at hi
      exact o.fit t ht (th' t z th) i hi
theorem pu_op_sheet (x1 x2 x3 : Int32) (o : pu_WOk w) (hc : pu_CI C w) (hm : pu_MI I w) : pu_Out (cp_sheet x1 x2 x3 C) (mo_sheet x1 x2 x3 I) := by
  unfold cp_sheet mo_sheet
  simp only [pu_lit, pu_lt_s]
  rw [pu_isSheet_n, pu_mSheet, pu_bd_s, pu_bd_s]
  refine pu_q_in o hc hm (fun h => ?_)
  obtain ⟨s, pu_hs, rfl⟩ := pu_inS_ex (by omega) h
  rw [show cf_in x2.toInt64 0 2 = _ from pu_cin x2 2 (by omega), pu_moin, pu_bd_s, pu_bd_s]
  refine pu_q_in o hc hm (fun h => ?_)
  obtain ⟨f, hf, rfl⟩ := pu_inS_ex (by omega) h
  by_cases q1 : x3 ≤ nI 60
  · rw [if_pos q1, if_pos q1, pu_ix_n (by omega) (by omega)]
    by_cases q2 : x3 < nI 0
    · rw [if_pos q2, if_neg (by rw [Int32.le_iff_toInt_le]; rw [Int32.lt_iff_toInt_lt] at q2; omega)]
      exact pu_o_met (nI 5) o hc hm
    · have hx : pu_inS x3 (nI 0) (nI 60) = true := by
        unfold pu_inS
        rw [Bool.and_eq_true, decide_eq_true_iff, decide_eq_true_iff]
        refine ⟨?_, q1⟩
        rw [Int32.le_iff_toInt_le]
        rw [Int32.lt_iff_toInt_lt] at q2
        omega
      obtain ⟨n, hn, rfl⟩ := pu_inS_ex (by omega) hx
      rw [if_neg q2, pu_gd_t q1, if_pos (by rw [pu_nI_le (by omega) (by omega)]; omega), pu_as_n (by omega) (by omega), pu_as_n (by omega) (by omega), pu_as_n (by omega) (by omega)]
      generalize hI3 : upd2 (upd2 (upd2 I 33 s (nI 1 &&& nI 1)) 34 s (nI f)) 35 s (nI n) = I3
      obtain ⟨J, ⟨j1, j2, j3⟩, j4⟩ := pu_lp_forE (T := Int32 → Int32 → Int32 → St → Option (Int32 × St)) (dead := fun _ _ _ _ => none) (b := mo_sheet_b59) (call := fun t i J => t (nI s) (nI n) (nI i) J) (P := fun i J => pu_Fr [36] I3 J ∧ (∀ k, (k < 60 * s ∨ 60 * s + 60 ≤ k) → J 36 k = I3 36 k) ∧ ∀ k, k < i → J 36 (60 * s + k) = nI 0) (K := fun J => some (nI n, J)) 60 (by
        intro t J _
        unfold mo_sheet_b59
        simp only [pu_lit]
        rw [pu_ile_t (by omega) (by omega)]) (by
        rintro t i J hi ⟨f1, f2, f3⟩
        refine ⟨upd2 J 36 (60 * s + i) (nI 0), ⟨f1.upd (by simp), fun k hk => by rw [pu_upd2_ne _ _ _ (by omega)]; exact f2 k hk, fun k hk => ?_⟩, ?_⟩
        · by_cases y : k = i
          · rw [y, pu_upd2_at]
          · rw [pu_upd2_ne _ _ _ (by omega)]; exact f3 k (by omega)
        · unfold mo_sheet_b59
          simp only [pu_lit]
          rw [pu_ile_f (by omega) (by omega), pu_nI_mul, pu_nI_add, pu_as_n (by omega) (by omega), pu_nI_add]) (a := I3) ⟨pu_Fr.refl _ _, fun _ _ => rfl, fun k hk => absurd hk (Nat.not_lt_zero _)⟩ FU (by decide)
      refine pu_Out.mk (w := ⟨w.r, w.e, pu_shNw w.s s f n, w.f⟩) (nI n) rfl j4 ⟨o.r, o.e, pu_shNw_ok o.s (by omega) hn⟩ ?_ ?_
      · have G : ∀ b, b ≠ 60 + s → b ≠ 70 + s → shSet C s (nI f) (nI n) b = C b := fun b h1 h2 => by unfold shSet; rw [if_neg h1, if_neg h2]
        refine hc.sh o (fun t ht => ?_) (fun b hb => G b (by omega) (by omega))
        have h := hc.s t ht
        show _ = pu_bI (if t = s then true else w.s.there t) ∧ ((if t = s then true else w.s.there t) = true → _ = nI (pu_setN w.s.form s f t) ∧ _ = nI (pu_setN w.s.size s n t) ∧ ∀ i, i < pu_setN w.s.size s n t → _ = (if t = s then nI 0 else w.s.it t i))
        by_cases z : t = s
        · subst z
          rw [if_pos rfl, pu_setN_at, pu_setN_at]
          have e0 : shSet C t (nI f) (nI n) (60 + t) 0 = 1 := by unfold shSet; rw [if_pos rfl]; rfl
          have e1 : shSet C t (nI f) (nI n) (60 + t) 1 = nI f := by unfold shSet; rw [if_pos rfl]; rfl
          have e2 : shSet C t (nI f) (nI n) (60 + t) 2 = nI n := by unfold shSet; rw [if_pos rfl]; rfl
          have e70 : ∀ i, shSet C t (nI f) (nI n) (70 + t) i = 0 := fun i => by unfold shSet; rw [if_neg (by omega), if_pos rfl]
          exact ⟨e0, fun _ => ⟨e1, e2, fun i hi => by rw [if_pos rfl]; exact e70 i⟩⟩
        · rw [if_neg z, pu_setN_ne _ _ z, pu_setN_ne _ _ z, G (60 + t) (by omega) (by omega), G (70 + t) (by omega) (by omega)]
          refine ⟨h.1, fun th => ⟨(h.2 th).1, (h.2 th).2.1, fun i hi => ?_⟩⟩
          rw [if_neg z]
          exact (h.2 th).2.2 i hi
      · refine hm.sh (fun t ht => ?_) (fun b hb => ?_)
        · have h := hm.s t ht
          have e33 : J 33 = upd (I 33) s (nI 1) := by rw [j1 33 (by simp), ← hI3, upd2_other _ _ _ (by decide), upd2_other _ _ _ (by decide), upd2_same]; rfl
          have e34 : J 34 = upd (I 34) s (nI f) := by rw [j1 34 (by simp), ← hI3, upd2_other _ _ _ (by decide), upd2_same, upd2_other _ _ _ (by decide)]
          have e35 : J 35 = upd (I 35) s (nI n) := by rw [j1 35 (by simp), ← hI3, upd2_same, upd2_other _ _ _ (by decide), upd2_other _ _ _ (by decide)]
          have e36 : I3 36 = I 36 := by rw [← hI3, upd2_other _ _ _ (by decide), upd2_other _ _ _ (by decide), upd2_other _ _ _ (by decide)]
          show _ = pu_bI (if t = s then true else w.s.there t) ∧ ((if t = s then true else w.s.there t) = true → _ = nI (pu_setN w.s.form s f t) ∧ _ = nI (pu_setN w.s.size s n t) ∧ ∀ i, i < pu_setN w.s.size s n t → _ = (if t = s then nI 0 else w.s.it t i))
          rw [e33, e34, e35]
          unfold upd
          by_cases z : t = s
          · subst z
            rw [if_pos rfl, if_pos rfl, if_pos rfl, if_pos rfl, pu_setN_at, pu_setN_at]
            exact ⟨rfl, fun _ => ⟨rfl, rfl, fun i hi => by rw [if_pos rfl]; exact j3 i (by omega)⟩⟩
          · rw [if_neg z, if_neg z, if_neg z, if_neg z, pu_setN_ne _ _ z, pu_setN_ne _ _ z]
            refine ⟨h.1, fun th => ⟨(h.2 th).1, (h.2 th).2.1, fun i hi => ?_⟩⟩
            have hz := o.s.size t ht th
            rw [if_neg z, j2 _ (by omega), e36]
            exact (h.2 th).2.2 i hi
        · rw [j1 b (by simp; omega), ← hI3, upd2_other _ _ _ (by omega), upd2_other _ _ _ (by omega), upd2_other _ _ _ (by omega)]
  · rw [if_neg q1, if_neg q1]
    exact pu_Out.mk _ rfl rfl o hc hm
theorem pu_cweather_eq : cf_weather = cp_weather := rfl
/-- the weather by a sheet -/
theorem pu_read_lp {s : Nat} (pu_hs : s < 4) : ∀ m fc fm, m < fc → m < fm → ∀ n C I w, pu_WOk w → pu_CI C w → pu_MI I w → w.s.there s = true → n + m = w.s.size s → pu_Out (cf_read_l32 fc s (nI n) C) (mo_read_l27 fm (nI s) (nI n) I) := by
  intro m
  induction m with
  | zero =>
    intro fc fm h1 h2 n C I w o hc hm ht hn
    obtain ⟨fc, rfl⟩ : ∃ k, fc = k + 1 := ⟨fc - 1, by omega⟩
    obtain ⟨fm, rfl⟩ : ∃ k, fm = k + 1 := ⟨fm - 1, by omega⟩
    have hz := o.s.size s pu_hs ht
    have hM := hm.s s pu_hs
    show pu_Out (cf_read_b32 _ s (nI n) C) (mo_read_b27 _ (nI s) (nI n) I)
    unfold cf_read_b32 mo_read_b27
    rw [pu_gd_t pu_hs, pu_size_n hc o pu_hs ht, pu_bd_s, pu_ile_t (by omega) (by omega), pu_al_n pu_hs (by omega), (hM.2 ht).2.1, pu_ile_t (by omega) (by omega)]
    exact pu_Out.mk _ rfl rfl o hc hm
  | succ m ih =>
    intro fc fm h1 h2 n C I w o hc hm ht hn
    obtain ⟨fc, rfl⟩ : ∃ k, fc = k + 1 := ⟨fc - 1, by omega⟩
    obtain ⟨fm, rfl⟩ : ∃ k, fm = k + 1 := ⟨fm - 1, by omega⟩
    have hz := o.s.size s pu_hs ht
    have hM := hm.s s pu_hs
    show pu_Out (cf_read_b32 (cf_read_l32 fc) s (nI n) C) (mo_read_b27 (mo_read_l27 fm) (nI s) (nI n) I)
    unfold cf_read_b32 mo_read_b27
    simp only [pu_lit]
    rw [pu_gd_t pu_hs, pu_size_n hc o pu_hs ht, pu_bd_s, pu_ile_f (by omega) (by omega), pu_al_n pu_hs (by omega), (hM.2 ht).2.1, pu_ile_f (by omega) (by omega), pu_type_n hc o pu_hs ht, pu_bd_s, pu_item_n hc o pu_hs ht (by omega), pu_bd_s]
    simp only [pu_nI_mul, pu_nI_add]
    rw [pu_al_n (by omega) (by omega), (hM.2 ht).2.2 n (by omega), pu_moin, pu_bd_s]
    unfold cf_weather
    simp only [pu_lit, pu_lt_s]
    rw [pu_isHour_n, pu_bd_s, pu_bI0, pu_isTwo_n, pu_bd_s, pu_bI0, pu_bI0]
    by_cases q1 : n < 8
    · rw [if_pos (by rw [pu_inS_n (by omega) (by omega) (by omega)]; exact decide_eq_true (by omega)), pu_ile_f (by omega) (by omega)]
      by_cases q2 : pu_inS (w.s.it s n) (nI 0) (nI 1) = true
      · obtain ⟨v, hv, hx⟩ := pu_inS_ex (by omega) q2
        rw [if_pos q2, if_pos q2, hx, pu_al_n q1 (by omega), pu_as_n q1 (by omega), pu_al_n (by omega) (by omega), (hM.2 ht).2.2 n (by omega), hx, pu_as_n q1 (by omega), hc.r.rain n q1, pu_bd2_s, pu_ilt_f (by omega) (by have := o.r.rain n q1; omega)]
        exact ih fc fm (by omega) (by omega) (n + 1) _ _ ⟨pu_rainR w.r n v, w.e, w.s, w.f⟩ ⟨pu_rainR_ok o.r hv, o.e, o.s⟩ (pu_rainC o hc) (pu_rainM hm) ht (by show n + 1 + m = w.s.size s; omega)
      · rw [if_neg q2, if_neg q2, pu_bd2_s, if_pos (show -nI 2 < nI 0 by decide)]
        exact pu_Out.mk _ rfl rfl o hc hm
    · rw [if_neg (by rw [pu_inS_n (by omega) (by omega) (by omega), decide_eq_false (by omega)]; simp), pu_ile_t (by omega) (by omega), pu_bd2_s, if_pos (show -nI 2 < nI 0 by decide)]
      exact pu_Out.mk _ rfl rfl o hc hm
theorem pu_op_read (x1 : Int32) (o : pu_WOk w) (hc : pu_CI C w) (hm : pu_MI I w) : pu_Out (cp_readS x1 C) (mo_read x1 I) := by
  have e : ∀ s, s < 4 → w.s.there s = true → cp_readS (nI s) C = cf_read_l32 3001 s (nI 0) C := by
    intro s pu_hs ht
    have h := hc.s s pu_hs
    show _ = cf_read_b32 (cf_read_l32 FU) s (nI 0) C
    unfold cp_readS cf_read_b32
    simp only [pu_lit]
    rw [pu_isSheet_n, pu_bd_s, pu_bI0, if_pos (by rw [pu_inS_n (by omega) (by omega) (by omega)]; exact decide_eq_true (by omega)), pu_ix_n pu_hs (by omega), h.1, ht, pu_gd_t pu_hs]
    rfl
  by_cases hx : pu_inS x1 (nI 0) (nI 3) = true
  · obtain ⟨s, pu_hs, rfl⟩ := pu_inS_ex (by omega) hx
    have hS := hc.s s (by omega)
    have hM := hm.s s (by omega)
    by_cases ht : w.s.there s = true
    · rw [e s (by omega) ht]
      unfold mo_read
      simp only [pu_lit]
      rw [pu_mSheet, pu_bd_s, pu_bI0, if_pos hx, pu_al_n (by omega) (by omega), hM.1, pu_bI0, if_pos ht]
      have hz := o.s.size s (by omega) ht
      exact pu_read_lp (by omega) (w.s.size s) 3001 FU (by omega) (by rw [pu_FU_e]; omega) 0 C I w o hc hm ht (by omega)
    · unfold cp_readS mo_read
      simp only [pu_lit]
      rw [pu_isSheet_n, pu_bd_s, pu_bI0, if_pos hx, pu_ix_n (by omega) (by omega), hS.1, pu_bI1, if_neg ht, pu_mSheet, pu_bd_s, pu_bI0, if_pos hx, pu_al_n (by omega) (by omega), hM.1, pu_bI0, if_neg ht]
      exact pu_o_met (nI 1) o hc hm
  · unfold cp_readS mo_read
    simp only [pu_lit]
    rw [pu_isSheet_n, pu_bd_s, pu_mSheet, pu_bd_s]
    exact pu_q_in o hc hm (fun h => absurd h hx)
/-- the plan into a sheet -/
theorem pu_write_lp {s N : Nat} (pu_hs : s < 4) : ∀ m fc fm, m < fc → m < fm → ∀ n C I w, pu_WOk w → pu_CI C w → pu_MI I w → pu_CV C (pu_VF w.r) → pu_MV I (pu_VF w.r) → (∀ a b, pu_tgtS (pu_VF w.r) = some (a, b) → ∀ d, d < (pu_VF w.r).n → I 21 d = pu_fI (pu_rowS (pu_VF w.r) d)) → w.s.there s = true → n + m = N → N = min (pu_VF w.r).n (w.s.size s) → pu_Out (cf_write_l45 fc s (nI N) (nI n) C) (mo_write_l31 fm (nI s) (nI n) I) := by
  intro m
  induction m with
  | zero =>
    intro fc fm h1 h2 n C I w o hc hm cv mv pl ht hn hN
    obtain ⟨fc, rfl⟩ : ∃ k, fc = k + 1 := ⟨fc - 1, by omega⟩
    obtain ⟨fm, rfl⟩ : ∃ k, fm = k + 1 := ⟨fm - 1, by omega⟩
    have hz := o.s.size s pu_hs ht
    have n8 := (pu_VF_ok o.r).n8
    have hM := hm.s s pu_hs
    show pu_Out (cf_write_b45 _ s (nI N) (nI n) C) (mo_write_b31 _ (nI s) (nI n) I)
    unfold cf_write_b45 mo_write_b31
    rw [pu_ile_t (by omega) (by omega), pu_al_n pu_hs (by omega), (hM.2 ht).2.1, mv.n]
    by_cases y : w.s.size s ≤ n
    · rw [pu_ile_t y (by omega), show N = n by omega]
      exact pu_Out.mk _ rfl rfl o hc hm
    · rw [pu_ile_f (by omega) (by omega), pu_ile_t (by omega) (by omega), show N = n by omega]
      exact pu_Out.mk _ rfl rfl o hc hm
  | succ m ih =>
    intro fc fm h1 h2 n C I w o hc hm cv mv pl ht hn hN
    obtain ⟨fc, rfl⟩ : ∃ k, fc = k + 1 := ⟨fc - 1, by omega⟩
    obtain ⟨fm, rfl⟩ : ∃ k, fm = k + 1 := ⟨fm - 1, by omega⟩
    have hz := o.s.size s pu_hs ht
    have n8 := (pu_VF_ok o.r).n8
    have hM := hm.s s pu_hs
    obtain ⟨u, c, htg⟩ := pu_tgtS_some (pu_VF w.r)
    obtain ⟨J, a1, a2, a3, a4, a5⟩ := pu_fplanned_n hc o cv
    show pu_Out (cf_write_b45 (cf_write_l45 fc) s (nI N) (nI n) C) (mo_write_b31 (mo_write_l31 fm) (nI s) (nI n) I)
    unfold cf_write_b45 mo_write_b31
    simp only [pu_lit]
    rw [pu_ile_f (by omega) (by omega), pu_gd_t pu_hs, pu_type_n hc o pu_hs ht, pu_bd_s, a5, pu_bd_s, pu_al_n (by omega) (by omega), (a4.p u c htg).2.2 n (by omega), pu_lay_n a1 o pu_hs ht (by omega), pu_bd_s, pu_nI_add, pu_al_n pu_hs (by omega), (hM.2 ht).2.1, pu_ile_f (by omega) (by omega), mv.n, pu_ile_f (by omega) (by omega), pu_al_n (by omega) (by omega), pl u c htg n (by omega), pu_keep_n hm o pu_hs ht (by omega), pu_bd_s]
    refine ih fc fm (by omega) (by omega) (n + 1) _ _ ⟨w.r, w.e, pu_itS w.s s n (pu_narS (w.s.form s) (pu_fI (pu_rowS (pu_VF w.r) n))), w.f⟩ ⟨o.r, o.e, pu_itS_ok o.s (pu_narS_fit _)⟩ (pu_itC a1 o pu_hs) (pu_itM hm o pu_hs ht (by omega)) ?_ ?_ ?_ ht (by omega) hN
    · exact a2.fr (pu_VF_ok o.r) (fun b hb => upd2_other _ _ _ (by omega))
    · exact mv.fr (fun b h1 h2 => upd2_other _ _ _ (by omega))
    · intro a b hab d hd
      rw [upd2_other _ _ _ (by decide)]
      exact pl a b hab d hd
theorem pu_op_write (x1 : Int32) (o : pu_WOk w) (hc : pu_CI C w) (hm : pu_MI I w) : pu_Out (cp_write x1 C) (mo_write x1 I) := by
  unfold cp_write mo_write
  simp only [pu_lit, pu_lt_s]
  rw [pu_isSheet_n, pu_mSheet, pu_bd_s, pu_bd_s]
  refine pu_q_in o hc hm (fun h => ?_)
  obtain ⟨s, pu_hs, rfl⟩ := pu_inS_ex (by omega) h
  have hS := hc.s s (by omega)
  have hM := hm.s s (by omega)
  have n8 := (pu_VF_ok o.r).n8
  rw [pu_ix_n (by omega) (by omega), hS.1, pu_bI1, pu_al_n (by omega) (by omega), hM.1, pu_bI0]
  by_cases ht : w.s.there s = true
  · have hz := o.s.size s (by omega) ht
    obtain ⟨C1, a1, a2, a3⟩ := pu_cdeeds_n hc o
    obtain ⟨I1, b1, b2, b3, b4⟩ := pu_mplanned_n hm o
    rw [if_pos ht, if_pos ht, a3, pu_bd2_s, pu_size_n a1 o (by omega) ht, pu_bd_s, b4, pu_bd_s]
    have emin : (if nI (w.s.size s) < nI (pu_VF w.r).n then nI (w.s.size s) else nI (pu_VF w.r).n) = nI (min (pu_VF w.r).n (w.s.size s)) := by
      by_cases q : w.s.size s < (pu_VF w.r).n
      · rw [pu_ilt_t q (by omega), Nat.min_eq_right (by omega)]
      · rw [pu_ilt_f (by omega) (by omega), Nat.min_eq_left (by omega)]
    rw [emin]
    exact pu_write_lp (by omega) (min (pu_VF w.r).n (w.s.size s)) FU FU (by rw [pu_FU_e]; omega) (by rw [pu_FU_e]; omega) 0 C1 I1 w o a1 b1 a2 b2 (fun a b hab => (b3 a b hab).2.2) ht (by omega) rfl
  · rw [if_neg ht, if_neg ht]
    exact pu_o_met (nI 1) o hc hm
end OPS
/-! PURE: sheets as plans; copies -/
/-- deeds by a mark -/
def pu_bitsS (p : Nat → Bool) (n : Nat) : Nat := pu_fo n (fun d a => a ||| if p d = true then 2 ^ d else 0) 0
theorem pu_bitsS_tb (p : Nat → Bool) : ∀ n j, (pu_bitsS p n).testBit j = (decide (j < n) && p j)
  | 0, j => by unfold pu_bitsS pu_fo; rw [Nat.zero_testBit]; simp
  | n + 1, j => by
    have e : pu_bitsS p (n + 1) = pu_bitsS p n ||| if p n = true then 2 ^ n else 0 := rfl
    rw [e, Nat.testBit_or, pu_bitsS_tb p n j]
    by_cases q : j = n
    · subst q
      by_cases z : p j = true
      · rw [if_pos z, pu_pow_tb]; simp [z]
      · rw [if_neg z, Nat.zero_testBit]; simp [z]
    · have : (if p n = true then 2 ^ n else 0 : Nat).testBit j = false := by
        split
        · rw [pu_pow_tb]; simp; omega
        · exact Nat.zero_testBit _
      rw [this, Bool.or_false]
      congr 1
      rw [decide_eq_decide]
      omega
theorem pu_bitsS_lt {p : Nat → Bool} {n : Nat} (h : n ≤ 8) : pu_bitsS p n < 256 := by
  apply Nat.lt_pow_two_of_testBit (n := 8)
  intro j hj
  rw [pu_bitsS_tb, decide_eq_false (by omega)]
  rfl
def pu_pcost1 (V : pu_Vw) (it : Nat → Int32) (h sum : Nat) : Option Nat := if pu_costN V (pu_bitsS (fun d => decide (it d = nI h)) V.n) h = 1000000 then none else some (sum + pu_costN V (pu_bitsS (fun d => decide (it d = nI h)) V.n) h)
def pu_pcostS (V : pu_Vw) (it : Nat → Int32) : Option Nat := if pu_allS V.n (fun d => pu_inS (it d) (-nI 1) (nI 7)) = true then pu_foX 8 (pu_pcost1 V it) 0 else none
theorem pu_pcostS_le {V : pu_Vw} {it : Nat → Int32} {c : Nat} (o : pu_VOk V) (h : pu_pcostS V it = some c) : c ≤ 60000 := by
  unfold pu_pcostS at h
  split at h
  · have : c ≤ 6435 * 8 := by
      refine pu_foX_P (N := 8) (fun i a => a ≤ 6435 * i) (by omega) (fun i a a' hi hp ha => ?_) 8 (Nat.le_refl _) c h
      unfold pu_pcost1 at ha
      have := pu_costN_lt o (pu_bitsS (fun d => decide (it d = nI i)) V.n) i
      split at ha
      · cases ha
      · cases ha; omega
    omega
  · cases h
theorem pu_costBy_n {C : St} {w : pu_Wd} {s : Nat} (hc : pu_CI C w) (o : pu_WOk w) (cv : pu_CV C (pu_VF w.r)) (pu_hs : s < 4) (ht : w.s.there s = true) (hz : (pu_VF w.r).n ≤ w.s.size s) : cf_costBy C s = some (pu_oN (pu_pcostS (pu_VF w.r) (w.s.it s))) := by
  have V := pu_VF_ok o.r
  have n8 := V.n8
  have hsz := o.s.size s pu_hs ht
  unfold cf_costBy
  have L := pu_lp_all (T := Nat → Int32 → Int32 → Option Int32) (dead := fun _ _ _ => none) (b := cf_costBy_b4 C) (call := fun t i => t s (nI 0) (nI i)) (fun d => pu_inS (w.s.it s d) (-nI 1) (nI 7)) (cf_costBy_l45 C FU s (nI 0) (nI 0)) (some (-nI 3)) (pu_VF w.r).n (fun t => by
      unfold cf_costBy_b4
      simp only [pu_lit]
      rw [pu_deeds_n cv, pu_bd_s, pu_ile_t (by omega) (by omega)]) (fun t i hi => by
      unfold cf_costBy_b4
      simp only [pu_lit]
      rw [pu_deeds_n cv, pu_bd_s, pu_ile_f (by omega) (by omega), pu_gd_t pu_hs, pu_type_n hc o pu_hs ht, pu_bd_s, pu_item_n hc o pu_hs ht (by omega), pu_bd_s, show cf_in (w.s.it s i).toInt64 (-1) 7 = _ from pu_cfin (w.s.it s i) (-nI 1) (nI 7), pu_bd_s, pu_bI0, pu_nI_add]) FU (by rw [pu_FU_e]; omega)
  refine L.trans ?_
  unfold pu_pcostS
  by_cases q : pu_allS (pu_VF w.r).n (fun d => pu_inS (w.s.it s d) (-nI 1) (nI 7)) = true
  · rw [if_pos q, if_pos q]
    refine (pu_lp_forX (T := Nat → Int32 → Int32 → Option Int32) (dead := fun _ _ _ => none) (b := cf_costBy_b45 C) (call := fun t i (a : Nat) => t s (nI a) (nI i)) (P := fun _ _ => True) (f := pu_pcost1 (pu_VF w.r) (w.s.it s)) (K := fun a => some (nI a)) (R0 := some (-nI 3)) 8 ?_ ?_ (fun _ _ _ _ _ _ => trivial) (a := 0) trivial FU (by decide)).trans ?_
    · intro t a _
      unfold cf_costBy_b45
      simp only [pu_lit]
      rw [pu_ile_t (by omega) (by omega)]
    · intro t h a hh _
      unfold cf_costBy_b45
      simp only [pu_lit]
      rw [pu_ile_f (by omega) (by omega)]
      refine (pu_lp_for (T := Nat → Int32 → Int32 → Int32 → Int32 → Option Int32) (dead := fun _ _ _ _ _ => none) (b := cf_costBy_b57 C t) (call := fun u i (b : Nat) => u s (nI a) (nI h) (nI b) (nI i)) (P := fun _ _ => True) (f := fun d b => b ||| if decide (w.s.it s d = nI h) = true then 2 ^ d else 0) (K := fun b => bd_ (cf_costOf C (nI b) (nI h)) fun v3 => if v3 = nI 1000000 then some (-nI 3) else t s (nI a + v3) (nI (h + 1))) (pu_VF w.r).n ?_ ?_ (fun _ _ _ _ => trivial) (a := 0) trivial FU (by rw [pu_FU_e]; omega)).trans ?_
      · intro u b _
        unfold cf_costBy_b57
        simp only [pu_lit, pu_lt_s]
        rw [pu_deeds_n cv, pu_bd_s, pu_ile_t (by omega) (by omega), pu_nI_add]
      · intro u i b hi _
        unfold cf_costBy_b57 cf_costBy_b90
        simp only [pu_lit, pu_lt_s]
        rw [pu_deeds_n cv, pu_bd_s, pu_ile_f (by omega) (by omega), pu_gd_t pu_hs, pu_type_n hc o pu_hs ht, pu_bd_s, pu_item_n hc o pu_hs ht (by omega), pu_bd_s, pu_nI_31 (by omega), pu_nI_one (by omega), pu_nI_or, pu_nI_or, pu_nI_add]
        by_cases z : w.s.it s i = nI h
        · rw [if_pos z, if_pos (decide_eq_true z)]
        · rw [if_neg z, if_neg (by rw [decide_eq_false z]; simp)]
      · show bd_ (cf_costOf C (nI (pu_bitsS (fun d => decide (w.s.it s d = nI h)) (pu_VF w.r).n)) (nI h)) _ = _
        have hb := pu_bitsS_lt (p := fun d => decide (w.s.it s d = nI h)) n8
        have hl := pu_costN_lt V (pu_bitsS (fun d => decide (w.s.it s d = nI h)) (pu_VF w.r).n) h
        rw [pu_costOf_n cv V (by omega) hh, pu_bd_s]
        unfold pu_pcost1
        by_cases z : pu_costN (pu_VF w.r) (pu_bitsS (fun d => decide (w.s.it s d = nI h)) (pu_VF w.r).n) h = 1000000
        · rw [pu_ieq_t z, if_pos z]
        · rw [pu_ieq_f z (by omega) (by omega), if_neg z, pu_nI_add]
    · cases pu_foX 8 (pu_pcost1 (pu_VF w.r) (w.s.it s)) 0 <;> rfl
  · rw [if_neg q, if_neg q]
    rfl
theorem pu_pcost_n {I : St} {w : pu_Wd} {s : Nat} (hm : pu_MI I w) (o : pu_WOk w) (mv : pu_MV I (pu_VF w.r)) (pu_hs : s < 4) (ht : w.s.there s = true) (hz : (pu_VF w.r).n ≤ w.s.size s) : mo_planCostOf I (nI s) = some (pu_oN (pu_pcostS (pu_VF w.r) (w.s.it s))) := by
  have V := pu_VF_ok o.r
  have n8 := V.n8
  have hsz := o.s.size s pu_hs ht
  have hM := (hm.s s pu_hs).2 ht
  unfold mo_planCostOf
  have L := pu_lp_all (T := Int32 → Int32 → Int32 → Option Int32) (dead := fun _ _ _ => none) (b := mo_planCostOf_b4 I) (call := fun t i => t (nI s) (nI 0) (nI i)) (fun d => pu_inS (w.s.it s d) (-nI 1) (nI 7)) (mo_planCostOf_l43 I FU (nI s) (nI 0) (nI 0)) (some (-nI 3)) (pu_VF w.r).n (fun t => by
      unfold mo_planCostOf_b4
      simp only [pu_lit]
      rw [mv.n, pu_ile_t (by omega) (by omega)]) (fun t i hi => by
      unfold mo_planCostOf_b4
      simp only [pu_lit, pu_nI_mul, pu_nI_add]
      rw [mv.n, pu_ile_f (by omega) (by omega), pu_al_n (by omega) (by omega), hM.2.2 i (by omega), pu_moin, pu_bd_s, pu_bI0]) FU (by rw [pu_FU_e]; omega)
  refine L.trans ?_
  unfold pu_pcostS
  by_cases q : pu_allS (pu_VF w.r).n (fun d => pu_inS (w.s.it s d) (-nI 1) (nI 7)) = true
  · rw [if_pos q, if_pos q]
    refine (pu_lp_forX (T := Int32 → Int32 → Int32 → Option Int32) (dead := fun _ _ _ => none) (b := mo_planCostOf_b43 I) (call := fun t i (a : Nat) => t (nI s) (nI a) (nI i)) (P := fun _ _ => True) (f := pu_pcost1 (pu_VF w.r) (w.s.it s)) (K := fun a => some (nI a)) (R0 := some (-nI 3)) 8 ?_ ?_ (fun _ _ _ _ _ _ => trivial) (a := 0) trivial FU (by decide)).trans ?_
    · intro t a _
      unfold mo_planCostOf_b43
      simp only [pu_lit]
      rw [pu_ile_t (by omega) (by omega)]
    · intro t h a hh _
      unfold mo_planCostOf_b43
      simp only [pu_lit]
      rw [pu_ile_f (by omega) (by omega)]
      refine (pu_lp_for (T := Int32 → Int32 → Int32 → Int32 → Int32 → Option Int32) (dead := fun _ _ _ _ _ => none) (b := mo_planCostOf_b55 I t) (call := fun u i (b : Nat) => u (nI s) (nI a) (nI h) (nI b) (nI i)) (P := fun _ _ => True) (f := fun d b => b ||| if decide (w.s.it s d = nI h) = true then 2 ^ d else 0) (K := fun b => bd_ (mo_costTogether I (nI b) (nI h)) fun v3 => if v3 < nI 1000000 then t (nI s) (nI a + v3) (nI (h + 1)) else some (-nI 3)) (pu_VF w.r).n ?_ ?_ (fun _ _ _ _ => trivial) (a := 0) trivial FU (by rw [pu_FU_e]; omega)).trans ?_
      · intro u b _
        unfold mo_planCostOf_b55
        simp only [pu_lit, pu_lt_s]
        rw [mv.n, pu_ile_t (by omega) (by omega), pu_nI_add]
      · intro u i b hi _
        unfold mo_planCostOf_b55 mo_planCostOf_b90
        simp only [pu_lit, pu_lt_s, pu_nI_mul, pu_nI_add]
        rw [mv.n, pu_ile_f (by omega) (by omega), pu_al_n (by omega) (by omega), hM.2.2 i (by omega), pu_nI_31 (by omega), pu_nI_one (by omega), pu_nI_or, pu_nI_or]
        by_cases z : w.s.it s i = nI h
        · rw [if_pos z, if_pos (decide_eq_true z)]
        · rw [if_neg z, if_neg (by rw [decide_eq_false z]; simp)]
      · show bd_ (mo_costTogether I (nI (pu_bitsS (fun d => decide (w.s.it s d = nI h)) (pu_VF w.r).n)) (nI h)) _ = _
        have hb := pu_bitsS_lt (p := fun d => decide (w.s.it s d = nI h)) n8
        have hl := pu_costN_lt V (pu_bitsS (fun d => decide (w.s.it s d = nI h)) (pu_VF w.r).n) h
        rw [pu_costT_n mv V (by omega) hh, pu_bd_s]
        unfold pu_pcost1
        by_cases z : pu_costN (pu_VF w.r) (pu_bitsS (fun d => decide (w.s.it s d = nI h)) (pu_VF w.r).n) h = 1000000
        · rw [pu_ilt_f (by omega) (by omega), if_pos z]
        · rw [pu_ilt_t (by omega) (by omega), if_neg z, pu_nI_add]
    · cases pu_foX 8 (pu_pcost1 (pu_VF w.r) (w.s.it s)) 0 <;> rfl
  · rw [if_neg q, if_neg q]
    rfl
def pu_pworthS (V : pu_Vw) (it : Nat → Int32) : Nat := pu_worthS V (pu_bitsS (fun d => !decide (it d = -nI 1)) V.n)
theorem pu_pworth_eq (V : pu_Vw) (it : Nat → Int32) : pu_pworthS V it = pu_fo V.n (fun d a => a + if it d = -nI 1 then 0 else V.worth d) 0 := by
  unfold pu_pworthS pu_worthS
  apply pu_fo_congr
  intro i a hi
  rw [pu_bitsS_tb, decide_eq_true hi, Bool.true_and]
  by_cases z : it i = -nI 1
  · rw [if_pos z, decide_eq_true z]; rfl
  · rw [if_neg z, decide_eq_false z]; rfl
theorem pu_worthBy'_n {C : St} {w : pu_Wd} {s : Nat} (hc : pu_CI C w) (o : pu_WOk w) (cv : pu_CV C (pu_VF w.r)) (pu_hs : s < 4) (ht : w.s.there s = true) (hz : (pu_VF w.r).n ≤ w.s.size s) : cf_worthBy C s = some (nI (pu_pworthS (pu_VF w.r) (w.s.it s))) := by
  have V := pu_VF_ok o.r
  have n8 := V.n8
  have hsz := o.s.size s pu_hs ht
  have hb := pu_bitsS_lt (p := fun d => !decide (w.s.it s d = -nI 1)) n8
  unfold cf_worthBy
  refine (pu_lp_for (T := Nat → Int32 → Int32 → Option Int32) (dead := fun _ _ _ => none) (b := cf_worthBy_b4 C) (call := fun u i (b : Nat) => u s (nI b) (nI i)) (P := fun _ _ => True) (f := fun d b => b ||| if (!decide (w.s.it s d = -nI 1)) = true then 2 ^ d else 0) (K := fun b => bd_ (cf_worthOf C (nI b)) fun v3 => some v3) (pu_VF w.r).n ?_ ?_ (fun _ _ _ _ => trivial) (a := 0) trivial FU (by rw [pu_FU_e]; omega)).trans ?_
  · intro u b _
    unfold cf_worthBy_b4
    simp only [pu_lit]
    rw [pu_deeds_n cv, pu_bd_s, pu_ile_t (by omega) (by omega)]
  · intro u i b hi _
    unfold cf_worthBy_b4 cf_worthBy_b33
    simp only [pu_lit, pu_lt_s]
    rw [pu_deeds_n cv, pu_bd_s, pu_ile_f (by omega) (by omega), pu_gd_t pu_hs, pu_type_n hc o pu_hs ht, pu_bd_s, pu_item_n hc o pu_hs ht (by omega), pu_bd_s, pu_nI_31 (by omega), pu_nI_one (by omega), pu_nI_or, pu_nI_or, pu_nI_add]
    by_cases z : w.s.it s i = -nI 1
    · rw [if_pos z, if_neg (by rw [decide_eq_true z]; simp)]
    · rw [if_neg z, if_pos (by rw [decide_eq_false z]; rfl)]
  · show bd_ (cf_worthOf C (nI (pu_bitsS (fun d => !decide (w.s.it s d = -nI 1)) (pu_VF w.r).n))) _ = _
    rw [pu_worthC_n cv V (by omega), pu_bd_s]
    rfl
section OPS
variable {C I : St} {w : pu_Wd}
theorem pu_oN_m3 {α : Sort _} {a : Option Nat} {i : Decidable (pu_oN a = -nI 3)} {x y : α} (h : ∀ c, a = some c → c < 2147483648) : @ite α (pu_oN a = -nI 3) i x y = if a = none then x else y := by
  cases a with
  | none => rw [if_pos (show pu_oN none = -nI 3 from rfl), if_pos rfl]
  | some c => rw [if_neg (show ¬ pu_oN (some c) = -nI 3 from pu_nI_m3 (h c rfl)), if_neg (by simp)]
theorem pu_op_plan (x1 x2 : Int32) (o : pu_WOk w) (hc : pu_CI C w) (hm : pu_MI I w) : pu_Out (cp_plan x1 x2 C) (mo_plan x1 x2 I) := by
  have V := pu_VF_ok o.r
  have n8 := V.n8
  unfold cp_plan mo_plan
  simp only [pu_lit]
  rw [pu_isSheet_n, pu_mSheet, pu_bd_s, pu_bd_s]
  refine pu_q_in o hc hm (fun h => ?_)
  obtain ⟨s, pu_hs, rfl⟩ := pu_inS_ex (by omega) h
  rw [show cf_in x2.toInt64 0 2 = _ from pu_cin x2 2 (by omega), pu_moin, pu_bd_s, pu_bd_s]
  refine pu_q_in o hc hm (fun h => ?_)
  obtain ⟨k, hk, rfl⟩ := pu_inS_ex (by omega) h
  have hS := hc.s s (by omega)
  have hM := hm.s s (by omega)
  rw [pu_ix_n (by omega) (by omega), hS.1, pu_bI1, pu_al_n (by omega) (by omega), hM.1, pu_bI0]
  by_cases ht : w.s.there s = true
  · have hz := o.s.size s (by omega) ht
    obtain ⟨C1, a1, a2, a3⟩ := pu_cdeeds_n hc o
    obtain ⟨I1, b1, b2, b3⟩ := pu_reads_n hm o.r
    have hM1 := (b2.s s (by omega)).2 ht
    unfold mo_planOf
    simp only [pu_lit]
    rw [if_pos ht, if_pos ht, pu_size_n hc o (by omega) ht, pu_bd_s, a3, pu_bd2_s, b3, pu_bd_s, pu_al_n (by omega) (by omega), hM1.2.1, b1.n]
    by_cases q : (pu_VF w.r).n ≤ w.s.size s
    · have hcl : ∀ c, pu_pcostS (pu_VF w.r) (w.s.it s) = some c → c < 2147483648 := fun c hc => by have := pu_pcostS_le V hc; omega
      rw [pu_ile_t q (by omega), pu_ile_t q (by omega), pu_costBy_n a1 o a2 (by omega) ht q, pu_bd_s, pu_pcost_n b2 o b1 (by omega) ht q, pu_bd_s, pu_oN_m3 hcl, pu_oN_m3 hcl, pu_worthBy'_n a1 o a2 (by omega) ht q, pu_bd_s]
      have eL : mo_planOf_l48 FU (nI s) (nI k) (pu_oN (pu_pcostS (pu_VF w.r) (w.s.it s))) (nI 0) (nI 0) I1 = some (if pu_pcostS (pu_VF w.r) (w.s.it s) = none then -nI 3 else if k = 1 then nI (pu_pworthS (pu_VF w.r) (w.s.it s)) else pu_oN (pu_pcostS (pu_VF w.r) (w.s.it s)), I1) := by
        rw [pu_pworth_eq]
        refine (pu_lp_for (T := Int32 → Int32 → Int32 → Int32 → Int32 → St → Option (Int32 × St)) (dead := fun _ _ _ _ _ _ => none) (b := mo_planOf_b48) (call := fun u i (a : Nat) => u (nI s) (nI k) (pu_oN (pu_pcostS (pu_VF w.r) (w.s.it s))) (nI a) (nI i) I1) (P := fun _ _ => True) (f := fun d a => a + if w.s.it s d = -nI 1 then 0 else (pu_VF w.r).worth d) (K := fun a => some (if pu_pcostS (pu_VF w.r) (w.s.it s) = none then -nI 3 else if k = 1 then nI a else pu_oN (pu_pcostS (pu_VF w.r) (w.s.it s)), I1)) (pu_VF w.r).n ?_ ?_ (fun _ _ _ _ => trivial) (a := 0) trivial FU (by rw [pu_FU_e]; omega))
        · intro u a _
          unfold mo_planOf_b48
          simp only [pu_lit]
          rw [b1.n, pu_ile_t (by omega) (by omega), pu_oN_m3 hcl]
          by_cases z : pu_pcostS (pu_VF w.r) (w.s.it s) = none
          · rw [if_pos z, if_pos z]
          · rw [if_neg z, if_neg z]
            by_cases y : k = 1
            · rw [pu_ieq_t y, if_pos y]
            · rw [pu_ieq_f y (by omega) (by omega), if_neg y]
        · intro u i a hi _
          unfold mo_planOf_b48 mo_planOf_b86
          simp only [pu_lit, pu_lt_s, pu_nI_mul, pu_nI_add]
          rw [b1.n, pu_ile_f (by omega) (by omega), pu_al_n (by omega) (by omega), hM1.2.2 i (by omega), pu_al_n (by omega) (by omega), b1.worth i hi, pu_nI_add]
          split <;> rfl
      rw [eL]
      by_cases y0 : k = 0
      · rw [pu_ieq_t y0, pu_ieq_t y0, pu_oN_m3 hcl]
        by_cases z : pu_pcostS (pu_VF w.r) (w.s.it s) = none
        · rw [if_pos z, if_pos z, pu_bd2_s]; exact pu_Out.mk _ rfl rfl o a1 b2
        · rw [if_neg z, if_neg z, pu_bd2_s]; exact pu_Out.mk _ rfl rfl o a1 b2
      · rw [pu_ieq_f y0 (by omega) (by omega), pu_ieq_f y0 (by omega) (by omega), pu_bd2_s]
        by_cases z : pu_pcostS (pu_VF w.r) (w.s.it s) = none
        · rw [if_pos z, if_pos z, z]; exact pu_Out.mk _ rfl rfl o a1 b2
        · rw [if_neg z, if_neg z]
          by_cases y2 : k = 2
          · rw [pu_ieq_t y2, if_neg (by omega)]; exact pu_Out.mk _ rfl rfl o a1 b2
          · rw [pu_ieq_f y2 (by omega) (by omega), if_pos (by omega)]; exact pu_Out.mk _ rfl rfl o a1 b2
    · rw [pu_ile_f (by omega) (by omega), pu_ile_f (by omega) (by omega), pu_bd2_s]
      exact pu_Out.mk _ rfl rfl o a1 b2
  · rw [if_neg ht, if_neg ht]
    exact pu_o_met (nI 1) o hc hm
end OPS
/-! PURE: copies between sheets -/
section OPS
variable {C I : St} {w : pu_Wd}
def pu_cpS (S : pu_Sh) (s i t j n : Nat) : pu_Sh := ⟨S.there, S.form, S.size, fun u k => if u = t ∧ j ≤ k ∧ k < j + n then S.it s (i + (k - j)) else S.it u k⟩
theorem pu_fit_b {v : Int32} (h : -128 ≤ v.toInt ∧ v.toInt ≤ 127) : fits (shTy 2) (.int v) = true := by
  show (decide (-128 ≤ v) && decide (v ≤ 127)) = true
  rw [Bool.and_eq_true, decide_eq_true_iff, decide_eq_true_iff, Int32.le_iff_toInt_le, Int32.le_iff_toInt_le]
  exact h
theorem pu_fit_s {v : Int32} (h : -32768 ≤ v.toInt ∧ v.toInt ≤ 32767) : fits (shTy 3) (.int v) = true := by
  show (decide (-32768 ≤ v) && decide (v ≤ 32767)) = true
  rw [Bool.and_eq_true, decide_eq_true_iff, decide_eq_true_iff, Int32.le_iff_toInt_le, Int32.le_iff_toInt_le]
  exact h
theorem pu_fit_i (v : Int32) : fits (shTy 0) (.int v) = true := rfl
theorem pu_shFit_n {s i n : Nat} (hc : pu_CI C w) (o : pu_WOk w) (pu_hs : s < 4) (ht : w.s.there s = true) (hin : i + n ≤ w.s.size s) : shFit C s (nI i) (nI n) = true := by
  have hz := o.s.size s pu_hs ht
  have hf := o.s.form s pu_hs ht
  have h := (hc.s s pu_hs).2 ht
  unfold shFit
  rw [pu_nI_clamp (by omega), pu_nI_clamp (by omega), List.all_eq_true]
  intro k hk
  have hk := List.mem_range.mp hk
  have ff := o.s.fit s pu_hs ht (i + k) (by omega)
  rw [h.1, h.2.2 (i + k) (by omega)]
  rcases (show w.s.form s = 0 ∨ w.s.form s = 1 ∨ w.s.form s = 2 by omega) with z | z | z
  · rw [z, pu_cr0]; exact pu_fit_b (ff.1 z)
  · rw [z, pu_cr1]; exact pu_fit_s (ff.2 z)
  · rw [z, pu_cr2]; exact pu_fit_i _
theorem pu_nonneg_n {x : Int32} (h : ¬ x < nI 0) : ∃ k, x = nI k ∧ k < 2147483648 := by
  rw [Int32.lt_iff_toInt_lt] at h
  have h0 : (nI 0).toInt = 0 := rfl
  have h1 := Int32.toInt_lt x
  refine ⟨x.toInt.toNat, ?_, by omega⟩
  apply Int32.toInt_inj.mp
  rw [pu_nI_toInt (by omega)]
  omega
theorem pu_lg_sum {a b c : Nat} (ha : a < 2147483648) (hb : b < 2147483648) (hc : c < 2147483648) : (0 < lg_cmp ((nI a).toInt64 + (nI b).toInt64) (nI c).toInt64 ↔ c < a + b) ∧ (lg_cmp ((nI a).toInt64 + (nI b).toInt64) (nI c).toInt64 ≤ 0 ↔ a + b ≤ c) := by
  rw [pu_nI_64 ha, pu_nI_64 hb, pu_nI_64 hc, pu_lI_add, lg_cmp_gt, lg_cmp_le, Int64.lt_iff_toInt_lt, Int64.le_iff_toInt_le, pu_lI_toInt (by omega), pu_lI_toInt (by omega)]
  omega
theorem pu_op_copy (x1 x2 x3 x4 x5 : Int32) (o : pu_WOk w) (hc : pu_CI C w) (hm : pu_MI I w) : pu_Out (cp_copy x1 x2 x3 x4 x5 C) (mo_copy x1 x2 x3 x4 x5 I) := by
  unfold cp_copy mo_copy
  simp only [pu_lit, pu_lt_s]
  rw [pu_isSheet_n, pu_mSheet, pu_bd_s, pu_bd_s]
  refine pu_q_in o hc hm (fun h => ?_)
  obtain ⟨s, pu_hs, rfl⟩ := pu_inS_ex (by omega) h
  rw [pu_isSheet_n, pu_mSheet, pu_bd_s, pu_bd_s]
  refine pu_q_in o hc hm (fun h => ?_)
  obtain ⟨t, ht4, rfl⟩ := pu_inS_ex (by omega) h
  have hS := hc.s s (by omega)
  have hM := hm.s s (by omega)
  have hS' := hc.s t (by omega)
  have hM' := hm.s t (by omega)
  have m1 : mo_copy_b35 I = bd2_ (mo_meets (nI 1) I) fun v I1 => some (v, I1) := rfl
  have m2 : mo_copy_b111 I = bd2_ (mo_meets (nI 2) I) fun v I1 => some (v, I1) := rfl
  rw [pu_ix_n (by omega) (by omega), hS.1, pu_bI1, pu_al_n (by omega) (by omega), hM.1, pu_bI0, m1, m2]
  by_cases ht : w.s.there s = true
  · rw [if_pos ht, if_pos ht, pu_ix_n (by omega) (by omega), hS'.1, pu_bI1, pu_al_n (by omega) (by omega), hM'.1, pu_bI0]
    by_cases ht' : w.s.there t = true
    · have hz := o.s.size s (by omega) ht
      have hf := o.s.form s (by omega) ht
      have hz' := o.s.size t (by omega) ht'
      have hf' := o.s.form t (by omega) ht'
      rw [if_pos ht', if_pos ht', pu_ix_n (by omega) (by omega), pu_type_n hc o (by omega) ht, pu_bd_s, pu_ix_n (by omega) (by omega), pu_type_n hc o (by omega) ht', pu_bd_s, pu_al_n (by omega) (by omega), pu_al_n (by omega) (by omega), (hM.2 ht).1, (hM'.2 ht').1]
      by_cases q : w.s.form s = w.s.form t
      · rw [pu_ieq_t q, pu_ieq_t q, pu_ix_n (by omega) (by omega), pu_gd_t (by rw [hS.1, ht]; rfl), pu_ix_n (by omega) (by omega), pu_gd_t (by rw [hS'.1, ht']; rfl), pu_gd_t (by rw [(hS.2 ht).1, (hS'.2 ht').1, q])]
        have eo : cpOut C s t x2 x4 x5 ↔ (x2 < nI 0 ∨ x4 < nI 0 ∨ x5 < nI 0 ∨ x2.toInt + x5.toInt > w.s.size s ∨ x4.toInt + x5.toInt > w.s.size t) := by
          unfold cpOut
          rw [(hS.2 ht).2.1, (hS'.2 ht').2.1, pu_nI_clamp (by omega), pu_nI_clamp (by omega)]
          exact Iff.rfl
        by_cases y1 : x2 < nI 0
        · rw [if_pos (eo.mpr (Or.inl y1)), if_pos y1]; exact pu_o_met (nI 2) o hc hm
        · by_cases y2 : x4 < nI 0
          · rw [if_pos (eo.mpr (Or.inr (Or.inl y2))), if_neg y1, if_pos y2]; exact pu_o_met (nI 2) o hc hm
          · by_cases y3 : x5 < nI 0
            · rw [if_pos (eo.mpr (Or.inr (Or.inr (Or.inl y3)))), if_neg y1, if_neg y2, if_pos y3]; exact pu_o_met (nI 2) o hc hm
            · obtain ⟨i, rfl, hi⟩ := pu_nonneg_n y1
              obtain ⟨j, rfl, hj⟩ := pu_nonneg_n y2
              obtain ⟨n, rfl, hn⟩ := pu_nonneg_n y3
              rw [pu_nI_toInt hi, pu_nI_toInt hj, pu_nI_toInt hn] at eo
              rw [if_neg y1, if_neg y2, if_neg y3, pu_al_n (by omega) (by omega), (hM.2 ht).2.1, pu_al_n (by omega) (by omega), (hM'.2 ht').2.1]
              have g1 := (pu_lg_sum hi hn (show w.s.size s < 2147483648 by omega)).1
              have g2 := (pu_lg_sum hj hn (show w.s.size t < 2147483648 by omega)).2
              by_cases y4 : w.s.size s < i + n
              · rw [if_pos (eo.mpr (by omega)), if_pos (show nI 0 < lg_cmp ((nI i).toInt64 + (nI n).toInt64) (nI (w.s.size s)).toInt64 from g1.mpr y4)]; exact pu_o_met (nI 2) o hc hm
              · rw [if_neg (show ¬ (nI 0 < lg_cmp ((nI i).toInt64 + (nI n).toInt64) (nI (w.s.size s)).toInt64) from fun z => y4 (g1.mp z))]
                by_cases y5 : j + n ≤ w.s.size t
                · have eno : ¬ cpOut C s t (nI i) (nI j) (nI n) := by
                    rw [eo, pu_nI_lt (by omega) (by omega), pu_nI_lt (by omega) (by omega), pu_nI_lt (by omega) (by omega)]
                    omega
                  rw [if_neg eno, if_pos (show lg_cmp ((nI j).toInt64 + (nI n).toInt64) (nI (w.s.size t)).toInt64 ≤ nI 0 from g2.mpr y5), pu_gd_t (pu_shFit_n hc o (by omega) ht (by omega)), pu_nI_clamp hi, pu_nI_clamp hj, pu_nI_clamp hn]
                  -- the model: out, then in
                  obtain ⟨J, ⟨j1, j2⟩, j3⟩ := pu_lp_forE (T := Int32 → Int32 → Int32 → Int32 → Int32 → Int32 → St → Option (Int32 × St)) (dead := fun _ _ _ _ _ _ _ => none) (b := mo_copy_b120) (call := fun u k J => u (nI s) (nI i) (nI t) (nI j) (nI n) (nI k) J) (P := fun k J => pu_Fr [37] I J ∧ ∀ a, a < k → J 37 a = w.s.it s (i + a)) (K := fun J => mo_copy_l157 FU (nI t) (nI j) (nI n) (nI 0) J) n (by
                    intro u J _
                    unfold mo_copy_b120
                    simp only [pu_lit]
                    rw [pu_ile_t (by omega) (by omega)]) (by
                    rintro u k J hk ⟨f1, f2⟩
                    refine ⟨upd2 J 37 k (w.s.it s (i + k)), ⟨f1.upd (by simp), fun a ha => ?_⟩, ?_⟩
                    · by_cases z : a = k
                      · rw [z, pu_upd2_at]
                      · rw [pu_upd2_ne _ _ _ z]; exact f2 a (by omega)
                    · unfold mo_copy_b120
                      simp only [pu_lit, pu_nI_mul, pu_nI_add]
                      rw [pu_ile_f (by omega) (by omega), pu_al_n (by omega) (by omega), f1 36 (by simp), show 60 * s + i + k = 60 * s + (i + k) by omega, (hM.2 ht).2.2 (i + k) (by omega), pu_as_n (by omega) (by omega)]) (a := I) ⟨pu_Fr.refl _ _, fun a ha => absurd ha (Nat.not_lt_zero _)⟩ FU (by rw [pu_FU_e]; omega)
                  obtain ⟨K, ⟨k1, k2, k3⟩, k4⟩ := pu_lp_forE (T := Int32 → Int32 → Int32 → Int32 → St → Option (Int32 × St)) (dead := fun _ _ _ _ _ => none) (b := mo_copy_b157) (call := fun u k J => u (nI t) (nI j) (nI n) (nI k) J) (P := fun k K => pu_Fr [36] J K ∧ (∀ a, (a < 60 * t + j ∨ 60 * t + j + k ≤ a) → K 36 a = I 36 a) ∧ ∀ a, a < k → K 36 (60 * t + j + a) = w.s.it s (i + a)) (K := fun K => some (nI 1, K)) n (by
                    intro u K _
                    unfold mo_copy_b157
                    simp only [pu_lit]
                    rw [pu_ile_t (by omega) (by omega)]) (by
                    rintro u k K hk ⟨f1, f2, f3⟩
                    refine ⟨upd2 K 36 (60 * t + j + k) (w.s.it s (i + k)), ⟨f1.upd (by simp), fun a ha => by rw [pu_upd2_ne _ _ _ (by omega)]; exact f2 a (by omega), fun a ha => ?_⟩, ?_⟩
                    · by_cases z : a = k
                      · rw [z, pu_upd2_at]
                      · rw [pu_upd2_ne _ _ _ (by omega)]; exact f3 a (by omega)
                    · unfold mo_copy_b157
                      simp only [pu_lit, pu_nI_mul, pu_nI_add]
                      rw [pu_ile_f (by omega) (by omega), pu_al_n (by omega) (by omega), f1 37 (by simp), j2 k hk, pu_as_n (by omega) (by omega)]) (a := J) ⟨pu_Fr.refl _ _, fun a _ => by rw [j1 36 (by simp)], fun a ha => absurd ha (Nat.not_lt_zero _)⟩ FU (by rw [pu_FU_e]; omega)
                  refine pu_Out.mk (w := ⟨w.r, w.e, pu_cpS w.s s i t j n, w.f⟩) (nI 1) rfl (j3.trans k4) ⟨o.r, o.e, ⟨o.s.form, o.s.size, fun u hu th k hk => ?_⟩⟩ ?_ ?_
                  · have hk : k < w.s.size u := hk
                    show pu_fitF (w.s.form u) (if u = t ∧ j ≤ k ∧ k < j + n then w.s.it s (i + (k - j)) else w.s.it u k)
                    by_cases z : u = t ∧ j ≤ k ∧ k < j + n
                    · rw [if_pos z, z.1, ← q]
                      exact o.s.fit s (by omega) ht _ (by omega)
                    · rw [if_neg z]; exact o.s.fit u hu th k hk
                  · refine hc.sh o (fun u hu => ?_) (fun b hb => up1_other _ _ (by omega))
                    have hcu := hc.s u hu
                    rw [up1_other _ _ (by omega)]
                    refine ⟨hcu.1, fun th => ⟨(hcu.2 th).1, (hcu.2 th).2.1, fun k hk => ?_⟩⟩
                    have hk : k < w.s.size u := hk
                    show _ = if u = t ∧ j ≤ k ∧ k < j + n then w.s.it s (i + (k - j)) else w.s.it u k
                    by_cases z : u = t
                    · subst z
                      rw [up1_same]
                      unfold va_cpy
                      by_cases y : j ≤ k ∧ k < j + n
                      · rw [if_pos y, if_pos ⟨rfl, y⟩]
                        exact (hS.2 ht).2.2 _ (by omega)
                      · rw [if_neg y, if_neg (fun q => y q.2)]
                        exact (hcu.2 th).2.2 k hk
                    · rw [up1_other _ _ (by omega), if_neg (fun q => z q.1)]
                      exact (hcu.2 th).2.2 k hk
                  · refine hm.sh (fun u hu => ?_) (fun b hb => by rw [k1 b (by simp; omega), j1 b (by simp; omega)])
                    have h := hm.s u hu
                    rw [k1 33 (by simp), j1 33 (by simp), k1 34 (by simp), j1 34 (by simp), k1 35 (by simp), j1 35 (by simp)]
                    refine ⟨h.1, fun th => ⟨(h.2 th).1, (h.2 th).2.1, fun k hk => ?_⟩⟩
                    have hk : k < w.s.size u := hk
                    have hzu := o.s.size u hu th
                    show _ = if u = t ∧ j ≤ k ∧ k < j + n then w.s.it s (i + (k - j)) else w.s.it u k
                    by_cases z : u = t ∧ j ≤ k ∧ k < j + n
                    · rw [if_pos z, z.1]
                      have := k3 (k - j) (by omega)
                      rw [show 60 * t + j + (k - j) = 60 * t + k by omega] at this
                      exact this
                    · rw [if_neg z, k2 _ (by omega)]
                      exact (h.2 th).2.2 k hk
                · rw [if_pos (eo.mpr (by omega)), if_neg (show ¬ (lg_cmp ((nI j).toInt64 + (nI n).toInt64) (nI (w.s.size t)).toInt64 ≤ nI 0) from fun z => y5 (g2.mp z))]
                  exact pu_o_met (nI 2) o hc hm
      · rw [pu_ieq_f q (by omega) (by omega), pu_ieq_f q (by omega) (by omega)]
        exact pu_o_met (nI 4) o hc hm
    · rw [if_neg ht', if_neg ht']
      exact pu_o_met (nI 1) o hc hm
  · rw [if_neg ht, if_neg ht]
    exact pu_o_met (nI 1) o hc hm
end OPS
/-! PURE: digests -/
def pu_hs (h v : Int64) : Int64 := 31 * h + v
def pu_g348 (w : pu_Wd) (h : Int64) : Int64 := pu_fo 2 (fun k h => pu_hs h (pu_regretS (pu_VF w.r) 2 k)) h
def pu_g310 (w : pu_Wd) (h : Int64) : Int64 := pu_g348 w (pu_hs (pu_fo 2 (fun k h => pu_hs h (pu_hatsR w.e k).toInt64) h) (pu_oI (pu_bestN (pu_VF w.r) w.e).1).toInt64)
def pu_g284 (w : pu_Wd) (h : Int64) : Int64 := pu_g310 w (pu_fo 3 (fun k h => pu_hs h (pu_crowdR (pu_crowdS (pu_VF w.r) 64) k).toInt64) h)
def pu_gRule (w : pu_Wd) (k : Nat) (h : Int64) : Int64 := pu_fo 3 (fun j h => pu_hs h (nI (pu_ruleS (pu_VF w.r) k j)).toInt64) h
def pu_g211 (w : pu_Wd) (a b : Nat) (h : Int64) : Int64 := pu_g284 w (pu_hs (pu_hs (pu_fo 4 (pu_gRule w) h) (nI a).toInt64) (nI b).toInt64)
def pu_gDeed1 (w : pu_Wd) (d : Nat) (h : Int64) : Int64 := pu_hs (pu_hs (pu_hs (pu_fo 5 (fun k h => pu_hs h (nI (pu_deedS (pu_VF w.r) d k)).toInt64) h) (nI (pu_hoursS (pu_VF w.r) d)).toInt64) (pu_costsS (pu_VF w.r) d 2).toInt64) (pu_likeS (pu_VF w.r) d 2).toInt64
def pu_gDeed (w : pu_Wd) (d : Nat) (h : Int64) : Int64 := pu_hs (pu_hs (pu_fo 2 (fun k h => pu_hs h (pu_oddsS (pu_VF w.r) d 2 k)) (pu_gDeed1 w d h)) (pu_fI (pu_rowS (pu_VF w.r) d)).toInt64) (nI (pu_sparedS (pu_VF w.r) w.e (2 ^ d))).toInt64
def pu_g62 (w : pu_Wd) (a b : Nat) (h : Int64) : Int64 := pu_g211 w a b (pu_fo (pu_VF w.r).n (pu_gDeed w) h)
def pu_g33 (w : pu_Wd) (a b : Nat) (h : Int64) : Int64 := pu_g62 w a b (pu_hs (pu_hs h (pu_fI (pu_dTop w.r.ty0 w.r.b0).fault).toInt64) (pu_fI (pu_rTop w.r.ty1 w.r.b1).fault).toInt64)
def pu_g6 (w : pu_Wd) (a b : Nat) : Int64 := pu_g33 w a b (pu_fo 8 (fun k h => pu_hs h (pu_countS w k).toInt64) 17)
section OPS
variable {C I : St} {w : pu_Wd}
theorem pu_d348 (o : pu_WOk w) (cv : pu_CV C (pu_VF w.r)) (h : Int64) : cf_digest_l348 FU h (nI 0) C = some (pu_g348 w h, C) := by
  have V := pu_VF_ok o.r
  refine pu_lp_for (T := Int64 → Int32 → St → Option (Int64 × St)) (call := fun t i h => t h (nI i) C) (P := fun _ _ => True) (f := fun k h => pu_hs h (pu_regretS (pu_VF w.r) 2 k)) (K := fun h => some (h, C)) 2 ?_ ?_ (fun _ _ _ _ => trivial) (a := h) trivial FU (by decide)
  · intro t h _
    unfold cf_digest_b348
    simp only [pu_lit]
    rw [pu_ile_t (by omega) (by omega)]
  · intro t i h hi _
    unfold cf_digest_b348
    simp only [pu_lit, pu_lt_s]
    rw [pu_ile_f (by omega) (by omega), pu_regretC_n cv V (by omega) hi, pu_bd_s, pu_nI_add]
    rfl
theorem pu_d310 (o : pu_WOk w) (cv : pu_CV C (pu_VF w.r)) (ce : pu_CE C w.e) (h : Int64) : cf_digest_l310 FU h (nI 0) C = some (pu_g310 w h, C) := by
  have V := pu_VF_ok o.r
  refine pu_lp_for (T := Int64 → Int32 → St → Option (Int64 × St)) (call := fun t i h => t h (nI i) C) (P := fun _ _ => True) (f := fun k h => pu_hs h (pu_hatsR w.e k).toInt64) (K := fun h => some (pu_g348 w (pu_hs h (pu_oI (pu_bestN (pu_VF w.r) w.e).1).toInt64), C)) 2 ?_ ?_ (fun _ _ _ _ => trivial) (a := h) trivial FU (by decide)
  · intro t h _
    unfold cf_digest_b310
    simp only [pu_lit, pu_lt_s]
    rw [pu_ile_t (by omega) (by omega), pu_bestC_n cv V ce o.e, pu_bd_s, pu_d348 o cv]
    rfl
  · intro t i h hi _
    unfold cf_digest_b310
    simp only [pu_lit, pu_lt_s]
    rw [pu_ile_f (by omega) (by omega), pu_hatsC_n ce o.e hi, pu_bd_s, pu_nI_add]
    rfl
theorem pu_d284 (o : pu_WOk w) (cv : pu_CV C (pu_VF w.r)) (ce : pu_CE C w.e) (h : Int64) : cf_digest_l284 FU h (nI 0) C = some (pu_g284 w h, C) := by
  have V := pu_VF_ok o.r
  refine pu_lp_for (T := Int64 → Int32 → St → Option (Int64 × St)) (call := fun t i h => t h (nI i) C) (P := fun _ _ => True) (f := fun k h => pu_hs h (pu_crowdR (pu_crowdS (pu_VF w.r) 64) k).toInt64) (K := fun h => some (pu_g310 w h, C)) 3 ?_ ?_ (fun _ _ _ _ => trivial) (a := h) trivial FU (by decide)
  · intro t h _
    unfold cf_digest_b284
    simp only [pu_lit]
    rw [pu_ile_t (by omega) (by omega), pu_d310 o cv ce]
  · intro t i h hi _
    unfold cf_digest_b284
    simp only [pu_lit, pu_lt_s]
    rw [pu_ile_f (by omega) (by omega), pu_crowdC_n cv V hi, pu_bd_s, pu_nI_add]
    rfl
theorem pu_frule_n {k j : Nat} (o : pu_WOk w) (cv : pu_CV C (pu_VF w.r)) (hk : k < 4) (hj : j < 3) : cf_ruleOf C (nI k) (nI j) = some (nI (pu_ruleS (pu_VF w.r) k j)) := by
  have V := pu_VF_ok o.r
  have l1 := V.askR k hk
  have l2 := V.askP k hk
  have f1 : C (40 + 1) 3 = nI 1 := cv.f1
  unfold cf_ruleOf cfT_read cfT_read_b15 pu_ruleS
  simp only [pu_lit]
  rw [pu_gd_t (by omega), f1, if_neg pu_n10, pu_gd_t (by omega), pu_gd_t rfl, pu_bd_s, pu_al_n hk (by omega), pu_al_n hk (by omega), pu_al_n hk (by omega), cv.many k hk, cv.askR k hk, cv.askP k hk]
  rcases (show j = 0 ∨ j = 1 ∨ j = 2 by omega) with rfl | rfl | rfl
  · rw [if_pos rfl]; rfl
  · rw [if_neg pu_n10, if_pos rfl]
    rcases (show (pu_VF w.r).askR k = 0 ∨ (pu_VF w.r).askR k = 1 by omega) with z | z <;> rw [z] <;> rfl
  · rw [pu_ieq_f (by omega) (by omega) (by omega), pu_ieq_f (by omega) (by omega) (by omega)]
    rcases (show (pu_VF w.r).askP k = 0 ∨ (pu_VF w.r).askP k = 1 by omega) with z | z <;> rw [z] <;> rfl
theorem pu_d211 {a b : Nat} (htg : pu_tgtS (pu_VF w.r) = some (a, b)) (o : pu_WOk w) (hc : pu_CI C w) (cv : pu_CV C (pu_VF w.r)) (h : Int64) : ∃ C', pu_CI C' w ∧ cf_digest_l211 FU h (nI 0) C = some (pu_g211 w a b h, C') := by
  obtain ⟨C1, a1, a2, a3, a4, a5⟩ := pu_fplanned_n hc o cv
  obtain ⟨C2, b1, b2, b3, b4, b5⟩ := pu_fplanned_n a1 o a2
  refine ⟨C2, b1, ?_⟩
  refine pu_lp_for (T := Int64 → Int32 → St → Option (Int64 × St)) (call := fun t i h => t h (nI i) C) (P := fun _ _ => True) (f := pu_gRule w) (K := fun h => some (pu_g284 w (pu_hs (pu_hs h (nI a).toInt64) (nI b).toInt64), C2)) 4 ?_ ?_ (fun _ _ _ _ => trivial) (a := h) trivial FU (by decide)
  · intro t h _
    unfold cf_digest_b211
    simp only [pu_lit, pu_lt_s]
    rw [pu_ile_t (by omega) (by omega), a5, pu_bd_s, b5, pu_bd_s, (a4.p a b htg).1, (b4.p a b htg).2.1, pu_d284 o b2 b1.e]
    rfl
  · intro t k h hk _
    unfold cf_digest_b211
    simp only [pu_lit]
    rw [pu_ile_f (by omega) (by omega)]
    refine pu_lp_for (T := Int64 → Int32 → Int32 → St → Option (Int64 × St)) (call := fun u j h => u h (nI k) (nI j) C) (P := fun _ _ => True) (f := fun j h => pu_hs h (nI (pu_ruleS (pu_VF w.r) k j)).toInt64) (K := fun h => t h (nI (k + 1)) C) 3 ?_ ?_ (fun _ _ _ _ => trivial) (a := h) trivial FU (by decide)
    · intro u h _
      unfold cf_digest_b219
      simp only [pu_lit]
      rw [pu_ile_t (by omega) (by omega), pu_nI_add]
    · intro u j h hj _
      unfold cf_digest_b219
      simp only [pu_lit, pu_lt_s]
      rw [pu_ile_f (by omega) (by omega), pu_frule_n o cv hk hj, pu_bd_s, pu_nI_add]
      rfl
theorem pu_d62 {a b : Nat} (htg : pu_tgtS (pu_VF w.r) = some (a, b)) (o : pu_WOk w) (hc : pu_CI C w) (cv : pu_CV C (pu_VF w.r)) (h : Int64) : ∃ C', pu_CI C' w ∧ cf_digest_l62 FU h (nI 0) C = some (pu_g62 w a b h, C') := by
  have V := pu_VF_ok o.r
  have n8 := V.n8
  obtain ⟨x, ⟨x1, x2, x3⟩, x4⟩ := pu_lp_forE (T := Int64 → Int32 → St → Option (Int64 × St)) (dead := fun _ _ _ => none) (b := cf_digest_b62) (call := fun t i (x : Int64 × St) => t x.1 (nI i) x.2) (P := fun i x => x.1 = pu_fo i (pu_gDeed w) h ∧ pu_CI x.2 w ∧ pu_CV x.2 (pu_VF w.r)) (K := fun x => cf_digest_l211 FU x.1 (nI 0) x.2) (pu_VF w.r).n (by
    rintro t x ⟨y1, y2, y3⟩
    unfold cf_digest_b62
    simp only [pu_lit]
    rw [pu_deeds_n y3, pu_bd_s, pu_ile_t (by omega) (by omega)]) (by
    rintro t d x hd ⟨y1, y2, y3⟩
    obtain ⟨C1, a1, a2, a3, a4, a5⟩ := pu_fplanned_n y2 o y3
    refine ⟨(pu_gDeed w d x.1, C1), ⟨by show pu_gDeed w d x.1 = pu_gDeed w d (pu_fo d (pu_gDeed w) h); rw [y1], a1, a2⟩, ?_⟩
    have e144 : ∀ h, cf_digest_l144 t FU h (nI d) (nI 0) x.2 = t (pu_hs (pu_hs (pu_fo 2 (fun k h => pu_hs h (pu_oddsS (pu_VF w.r) d 2 k)) h) (pu_fI (pu_rowS (pu_VF w.r) d)).toInt64) (nI (pu_sparedS (pu_VF w.r) w.e (2 ^ d))).toInt64) (nI (d + 1)) C1 := by
      intro h
      refine pu_lp_for (T := Int64 → Int32 → Int32 → St → Option (Int64 × St)) (call := fun u j h => u h (nI d) (nI j) x.2) (P := fun _ _ => True) (f := fun k h => pu_hs h (pu_oddsS (pu_VF w.r) d 2 k)) (K := fun h => t (pu_hs (pu_hs h (pu_fI (pu_rowS (pu_VF w.r) d)).toInt64) (nI (pu_sparedS (pu_VF w.r) w.e (2 ^ d))).toInt64) (nI (d + 1)) C1) 2 ?_ ?_ (fun _ _ _ _ => trivial) (a := h) trivial FU (by decide)
      · intro u h _
        unfold cf_digest_b144
        simp only [pu_lit, pu_lt_s]
        rw [pu_ile_t (by omega) (by omega), a5, pu_bd_s, pu_al_n (by omega) (by omega), (a4.p a b htg).2.2 d hd, pu_nI_31 (by omega), pu_nI_one (by omega), pu_sparedC_n a2 V a1.e o.e (pu_pow8 (by omega)), pu_bd_s, pu_nI_add]
        rfl
      · intro u j h hj _
        unfold cf_digest_b144
        simp only [pu_lit, pu_lt_s]
        rw [pu_ile_f (by omega) (by omega), pu_oddsC_n y3 V hd (by omega) hj, pu_bd_s, pu_nI_add]
        rfl
    have e73 : ∀ h, cf_digest_l73 t FU h (nI d) (nI 0) x.2 = t (pu_gDeed w d h) (nI (d + 1)) C1 := by
      intro h
      refine pu_lp_for (T := Int64 → Int32 → Int32 → St → Option (Int64 × St)) (call := fun u j h => u h (nI d) (nI j) x.2) (P := fun _ _ => True) (f := fun k h => pu_hs h (nI (pu_deedS (pu_VF w.r) d k)).toInt64) (K := fun h => t (pu_hs (pu_hs (pu_fo 2 (fun k h => pu_hs h (pu_oddsS (pu_VF w.r) d 2 k)) (pu_hs (pu_hs (pu_hs h (nI (pu_hoursS (pu_VF w.r) d)).toInt64) (pu_costsS (pu_VF w.r) d 2).toInt64) (pu_likeS (pu_VF w.r) d 2).toInt64)) (pu_fI (pu_rowS (pu_VF w.r) d)).toInt64) (nI (pu_sparedS (pu_VF w.r) w.e (2 ^ d))).toInt64) (nI (d + 1)) C1) 5 ?_ ?_ (fun _ _ _ _ => trivial) (a := h) trivial FU (by decide)
      · intro u h _
        unfold cf_digest_b73
        simp only [pu_lit, pu_lt_s]
        rw [pu_ile_t (by omega) (by omega), pu_hoursC_n y3 V hd, pu_bd_s, pu_costsC_n y3 V hd (by omega), pu_bd_s, pu_likeC_n y3 V hd (by omega), pu_bd_s, e144]
        rfl
      · intro u j h hj _
        unfold cf_digest_b73
        simp only [pu_lit, pu_lt_s]
        rw [pu_ile_f (by omega) (by omega), pu_deedBy_n y3 V hd hj, pu_bd_s, pu_nI_add]
        rfl
    unfold cf_digest_b62
    simp only [pu_lit]
    rw [pu_deeds_n y3, pu_bd_s, pu_ile_f (by omega) (by omega), e73]) (a := (h, C)) ⟨rfl, hc, cv⟩ FU (by rw [pu_FU_e]; omega)
  obtain ⟨C', c1, c2⟩ := pu_d211 htg o x2 x3 x.1
  refine ⟨C', c1, x4.trans ?_⟩
  rw [c2, x1]
  rfl
theorem pu_tread_n (o : pu_WOk w) (hc : pu_CI C w) (cv : pu_CV C (pu_VF w.r)) : cfT_read C 0 = some (pu_fI (pu_dTop w.r.ty0 w.r.b0).fault) ∧ cfT_read C 1 = some (pu_fI (pu_rTop w.r.ty1 w.r.b1).fault) := by
  have f0 : C (40 + 0) 3 = nI 1 := cv.f0
  have f1 : C (40 + 1) 3 = nI 1 := cv.f1
  constructor
  · unfold cfT_read cfT_read_b15
    simp only [pu_lit]
    rw [pu_gd_t (by omega), f0, if_neg pu_n10, pu_gd_t (by omega), pu_gd_t rfl]
    rcases hc.q0 with z | ⟨_, _, z⟩
    · rw [cv.f0] at z; exact absurd z pu_n10
    · show some (C 40 4) = _
      rw [z]
  · unfold cfT_read cfT_read_b15
    simp only [pu_lit]
    rw [pu_gd_t (by omega), f1, if_neg pu_n10, pu_gd_t (by omega), pu_gd_t rfl]
    rcases hc.q1 with z | ⟨_, _, z⟩
    · rw [cv.f1] at z; exact absurd z pu_n10
    · show some (C 41 4) = _
      rw [z]
theorem pu_d33 {a b : Nat} (htg : pu_tgtS (pu_VF w.r) = some (a, b)) (o : pu_WOk w) (hc : pu_CI C w) (cv : pu_CV C (pu_VF w.r)) (h : Int64) : ∃ C', pu_CI C' w ∧ cf_digest_l33 FU h (nI 0) C = some (pu_g33 w a b h, C') := by
  obtain ⟨C', c1, c2⟩ := pu_d62 htg o hc cv (pu_hs (pu_hs h (pu_fI (pu_dTop w.r.ty0 w.r.b0).fault).toInt64) (pu_fI (pu_rTop w.r.ty1 w.r.b1).fault).toInt64)
  refine ⟨C', c1, ?_⟩
  have tr := pu_tread_n o hc cv
  refine (pu_lp_for (T := Int64 → Int32 → St → Option (Int64 × St)) (dead := fun _ _ _ => none) (b := cf_digest_b33) (call := fun t i h => t h (nI i) C) (P := fun _ _ => True) (f := fun k h => pu_hs h (if k = 0 then pu_fI (pu_dTop w.r.ty0 w.r.b0).fault else pu_fI (pu_rTop w.r.ty1 w.r.b1).fault).toInt64) (K := fun h => cf_digest_l62 FU h (nI 0) C) 2 ?_ ?_ (fun _ _ _ _ => trivial) (a := h) trivial FU (by decide)).trans ?_
  · intro t h _
    unfold cf_digest_b33
    simp only [pu_lit]
    rw [pu_ile_t (by omega) (by omega)]
  · intro t i h hi _
    unfold cf_digest_b33 cf_text
    simp only [pu_lit, pu_lt_s]
    rw [pu_ile_f (by omega) (by omega), pu_nI_add]
    rcases (show i = 0 ∨ i = 1 by omega) with rfl | rfl
    · rw [if_pos rfl, pu_bd_s, pu_gd_t (by omega), tr.1, pu_bd_s]; rfl
    · rw [if_neg pu_n10, pu_bd_s, pu_gd_t (by omega), tr.2, pu_bd_s]; rfl
  · exact c2
theorem pu_fcount_n {k : Nat} (o : pu_WOk w) (hc : pu_CI C w) (cv : pu_CV C (pu_VF w.r)) (hk : k < 8) : cf_count C (nI k) = some (pu_countS w k) := by
  have V := pu_VF_ok o.r
  have n8 := V.n8
  have hN := pu_pow_le V
  have hN0 : 0 < 2 ^ (pu_VF w.r).n := Nat.two_pow_pos _
  unfold cf_count cf_count_b57
  simp only [pu_lit]
  rcases (show k = 0 ∨ k = 1 ∨ k = 2 ∨ k = 3 ∨ k = 4 ∨ k = 5 ∨ k = 6 ∨ k = 7 by omega) with rfl | rfl | rfl | rfl | rfl | rfl | rfl | rfl
  · rw [if_pos rfl, pu_deeds_n cv, pu_bd_s]; rfl
  · rw [if_neg pu_n10, if_pos rfl, show nI 1 - nI 1 = nI 0 from rfl]
    unfold cf_text
    simp only [pu_lit, if_true]
    rw [pu_bd_s, pu_gd_t (by omega), show C (40 + 0) 1 = nI w.r.ty0 from hc.r.t0]; rfl
  · rw [pu_ieq_f (by omega) (by omega) (by omega), pu_ieq_f (by omega) (by omega) (by omega), if_pos rfl, show nI 2 - nI 1 = nI 1 from rfl]
    unfold cf_text
    simp only [pu_lit, pu_n10, if_false]
    rw [pu_bd_s, pu_gd_t (by omega), show C (40 + 1) 1 = nI w.r.ty1 from hc.r.t1]; rfl
  · simp (disch := omega) only [pu_ieq_f, if_true]
    rw [(pu_tread_n o hc cv).2, pu_bd_s, cv.parts]; rfl
  · simp (disch := omega) only [pu_ieq_f, if_true]
    unfold cfL_size
    rw [pu_gd_t (by omega), pu_bd_s, show C (50 + 1) 2 = nI w.e.sn from hc.e.sn]; rfl
  · simp (disch := omega) only [pu_ieq_f, if_true]
    unfold cfL_size
    rw [pu_gd_t (by omega), pu_bd_s, show C (50 + 2) 2 = nI w.e.pn from hc.e.pn]; rfl
  · simp (disch := omega) only [pu_ieq_f, if_true]
    rw [pu_deeds_n cv, pu_bd_s, pu_nI_31 (by omega), pu_nI_one (by omega), pu_nI_sub (by omega), pu_worthC_n cv V (by omega), pu_bd_s]; rfl
  · simp (disch := omega) only [pu_ieq_f, if_true]
    refine pu_lp_for (T := Int32 → Int32 → Option Int32) (call := fun t i a => t (nI a) (nI i)) (P := fun _ _ => True) (f := fun h a => a + (pu_VF w.r).rain h) (K := fun a => some (nI a)) 8 ?_ ?_ (fun _ _ _ _ => trivial) (a := 0) trivial FU (by decide)
    · intro t a _
      unfold cf_count_b115
      simp only [pu_lit]
      rw [pu_ile_t (by omega) (by omega)]
    · intro t i a hi _
      unfold cf_count_b115
      simp only [pu_lit, pu_lt_s]
      rw [pu_ile_f (by omega) (by omega), pu_al_n hi (by omega), hc.r.rain i hi, pu_nI_add, pu_nI_add]
      rfl
theorem pu_cdigest_n {a b : Nat} (htg : pu_tgtS (pu_VF w.r) = some (a, b)) (o : pu_WOk w) (hc : pu_CI C w) : ∃ C', pu_CI C' w ∧ cp_digest C = some (pu_g6 w a b, C') := by
  obtain ⟨C2, a1, a2, a3⟩ := pu_cdeeds_n hc o
  obtain ⟨C', c1, c2⟩ := pu_d33 htg o a1 a2 (pu_fo 8 (fun k h => pu_hs h (pu_countS w k).toInt64) 17)
  refine ⟨C', c1, ?_⟩
  have e : cp_digest C = cf_digest_l6 FU 17 (nI 0) C2 := by
    show _ = cf_digest_b6 (cf_digest_l6 2999) 17 (nI 0) C2
    unfold cp_digest cf_digest_b6
    have e0 : cp_count 0 C = some (nI (pu_VF w.r).n, C2) := by
      unfold cp_count
      rw [if_pos rfl, a3, pu_bd2_s]
    rw [if_neg (by decide), e0, pu_bd2_s, if_neg (by decide), pu_fcount_n o a1 a2 (by omega), pu_bd_s]
    rfl
  rw [e]
  refine (pu_lp_for (T := Int64 → Int32 → St → Option (Int64 × St)) (dead := fun _ _ _ => none) (b := cf_digest_b6) (call := fun t i h => t h (nI i) C2) (P := fun _ _ => True) (f := fun k h => pu_hs h (pu_countS w k).toInt64) (K := fun h => cf_digest_l33 FU h (nI 0) C2) 8 ?_ ?_ (fun _ _ _ _ => trivial) (a := 17) trivial FU (by decide)).trans c2
  · intro t h _
    unfold cf_digest_b6
    simp only [pu_lit]
    rw [pu_ile_t (by omega) (by omega)]
  · intro t i h hi _
    unfold cf_digest_b6 cf_digest_b22
    simp only [pu_lit, pu_lt_s]
    rw [pu_ile_f (by omega) (by omega), pu_fcount_n o a1 a2 hi, pu_bd_s, pu_nI_add]
    rfl
theorem pu_m274 (o : pu_WOk w) (hm : pu_MI I w) (h : Int64) : ∃ I', pu_MI I' w ∧ mo_digest_l274 FU h (nI 0) I = some (pu_g284 w h, I') := by
  have V := pu_VF_ok o.r
  obtain ⟨x, ⟨x1, x2⟩, x4⟩ := pu_lp_forE (T := Int64 → Int32 → St → Option (Int64 × St)) (dead := fun _ _ _ => none) (b := mo_digest_b274) (call := fun t i (x : Int64 × St) => t x.1 (nI i) x.2) (P := fun i x => x.1 = pu_fo i (fun k h => pu_hs h (pu_crowdR (pu_crowdS (pu_VF w.r) 64) k).toInt64) h ∧ pu_MI x.2 w) (K := fun x => mo_digest_b274 (mo_digest_l274 0) x.1 (nI 3) x.2) 3 (by
    rintro t x ⟨y1, y2⟩
    unfold mo_digest_b274
    simp only [pu_lit]
    rw [pu_ile_t (by omega) (by omega), pu_ile_t (by omega) (by omega)]) (by
    rintro t i x hi ⟨y1, y2⟩
    obtain ⟨J, b1, b2, b3⟩ := pu_mcrowd_n y2 o (k := i) hi
    refine ⟨(pu_hs x.1 (pu_crowdR (pu_crowdS (pu_VF w.r) 64) i).toInt64, J), ⟨by show pu_hs x.1 _ = pu_hs (pu_fo i _ h) _; rw [y1], b1⟩, ?_⟩
    unfold mo_digest_b274
    simp only [pu_lit, pu_lt_s]
    rw [pu_ile_f (by omega) (by omega), b3, pu_bd2_s, pu_nI_add]
    rfl) (a := (h, I)) ⟨rfl, hm⟩ FU (by decide)
  obtain ⟨J1, b1, _, b3⟩ := pu_mbest_n x2 o
  obtain ⟨J2, c1, _, c3⟩ := pu_mregret_n b1 o (m := 2) (k := 0) (by omega) (by omega)
  obtain ⟨J3, e1, _, e3⟩ := pu_mregret_n c1 o (m := 2) (k := 1) (by omega) (by omega)
  refine ⟨J3, e1, x4.trans ?_⟩
  unfold mo_digest_b274
  simp only [pu_lit, pu_lt_s]
  rw [pu_ile_t (by omega) (by omega), pu_hats_n x2.e o.e (by omega), pu_bd_s, pu_hats_n x2.e o.e (by omega), pu_bd_s, b3, pu_bd2_s, c3, pu_bd2_s, e3, pu_bd2_s, x1]
  rfl
theorem pu_m207 {a b : Nat} (o : pu_WOk w) (hm : pu_MI I w) (h24 : I 24 0 = nI a) (h25 : I 25 0 = nI b) (h : Int64) : ∃ I', pu_MI I' w ∧ mo_digest_l207 FU h (nI 0) I = some (pu_g211 w a b h, I') := by
  obtain ⟨x, ⟨x1, x2, x3, x5⟩, x4⟩ := pu_lp_forE (T := Int64 → Int32 → St → Option (Int64 × St)) (dead := fun _ _ _ => none) (b := mo_digest_b207) (call := fun t i (x : Int64 × St) => t x.1 (nI i) x.2) (P := fun i x => x.1 = pu_fo i (pu_gRule w) h ∧ pu_MI x.2 w ∧ x.2 24 0 = nI a ∧ x.2 25 0 = nI b) (K := fun x => mo_digest_l274 FU (pu_hs (pu_hs x.1 (nI a).toInt64) (nI b).toInt64) (nI 0) x.2) 4 (by
    rintro t x ⟨y1, y2, y3, y4⟩
    unfold mo_digest_b207
    simp only [pu_lit, pu_lt_s]
    rw [pu_ile_t (by omega) (by omega), y3, y4]
    rfl) (by
    rintro t k x hk ⟨y1, y2, y3, y4⟩
    obtain ⟨z, ⟨z1, z2, z3, z5⟩, z4⟩ := pu_lp_forE (T := Int64 → Int32 → Int32 → St → Option (Int64 × St)) (dead := fun _ _ _ _ => none) (b := mo_digest_b215 t) (call := fun u j (z : Int64 × St) => u z.1 (nI k) (nI j) z.2) (P := fun j z => z.1 = pu_fo j (fun j h => pu_hs h (nI (pu_ruleS (pu_VF w.r) k j)).toInt64) x.1 ∧ pu_MI z.2 w ∧ z.2 24 0 = nI a ∧ z.2 25 0 = nI b) (K := fun z => t z.1 (nI (k + 1)) z.2) 3 (by
      rintro u z _
      unfold mo_digest_b215
      simp only [pu_lit]
      rw [pu_ile_t (by omega) (by omega), pu_nI_add]) (by
      rintro u j z hj ⟨r1, r2, r3, r4⟩
      obtain ⟨J, b1, b2, b3⟩ := pu_reads_n r2 o.r
      obtain ⟨J', c1, c2, c3⟩ := pu_mrule_n r2 o hk hj
      have eJ : J' = J := by
        unfold mo_ruleOf at c3
        simp only [pu_lit] at c3
        rw [b3, pu_bd_s, pu_al_n hk (by omega), pu_al_n hk (by omega), pu_al_n hk (by omega)] at c3
        rcases (show j = 0 ∨ j = 1 ∨ j = 2 by omega) with rfl | rfl | rfl
        · rw [if_pos rfl] at c3; exact (Prod.mk.inj (Option.some.inj c3)).2.symm
        · rw [if_neg pu_n10, if_pos rfl] at c3; exact (Prod.mk.inj (Option.some.inj c3)).2.symm
        · rw [pu_ieq_f (by omega) (by omega) (by omega), pu_ieq_f (by omega) (by omega) (by omega)] at c3; exact (Prod.mk.inj (Option.some.inj c3)).2.symm
      subst eJ
      have key : J' 24 = z.2 24 ∧ J' 25 = z.2 25 := by
        obtain ⟨K1, p1, p2, p3, p4⟩ := pu_fault0_n r2 o.r
        have hK := r2.fr1 p1 (by decide)
        obtain ⟨K2, q1, q2, q3⟩ := pu_faultOf1_n (hK.t1 o.r)
        unfold mo_reads at b3
        simp only [pu_lit] at b3
        rw [p4, pu_bd2_s, q3, pu_bd2_s] at b3
        cases b3
        exact ⟨by rw [q1 24 (by simp), p1 24 (by simp)], by rw [q1 25 (by simp), p1 25 (by simp)]⟩
      refine ⟨(pu_hs z.1 (nI (pu_ruleS (pu_VF w.r) k j)).toInt64, J'), ⟨by show pu_hs z.1 _ = pu_hs (pu_fo j _ x.1) _; rw [r1], c1, by show J' 24 0 = _; rw [key.1]; exact r3, by show J' 25 0 = _; rw [key.2]; exact r4⟩, ?_⟩
      unfold mo_digest_b215
      simp only [pu_lit, pu_lt_s]
      rw [pu_ile_f (by omega) (by omega), c3, pu_bd2_s, pu_nI_add]
      rfl) (a := x) ⟨rfl, y2, y3, y4⟩ FU (by decide)
    refine ⟨z, ⟨by rw [z1, y1]; rfl, z2, z3, z5⟩, ?_⟩
    unfold mo_digest_b207
    simp only [pu_lit]
    rw [pu_ile_f (by omega) (by omega)]
    exact z4) (a := (h, I)) ⟨rfl, hm, h24, h25⟩ FU (by decide)
  obtain ⟨I', c1, c2⟩ := pu_m274 o x2 (pu_hs (pu_hs x.1 (nI a).toInt64) (nI b).toInt64)
  refine ⟨I', c1, x4.trans ?_⟩
  rw [c2, x1]
  rfl
theorem pu_m63 {a b : Nat} (o : pu_WOk w) (hm : pu_MI I w) (mv : pu_MV I (pu_VF w.r)) (h24 : I 24 0 = nI a) (h25 : I 25 0 = nI b) (h21 : ∀ d, d < (pu_VF w.r).n → I 21 d = pu_fI (pu_rowS (pu_VF w.r) d)) (h : Int64) : ∃ I', pu_MI I' w ∧ mo_digest_l63 FU h (nI 0) I = some (pu_g62 w a b h, I') := by
  have V := pu_VF_ok o.r
  have n8 := V.n8
  obtain ⟨I', c1, c2⟩ := pu_m207 (a := a) (b := b) o hm h24 h25 (pu_fo (pu_VF w.r).n (pu_gDeed w) h)
  refine ⟨I', c1, ?_⟩
  refine (pu_lp_for (T := Int64 → Int32 → St → Option (Int64 × St)) (dead := fun _ _ _ => none) (b := mo_digest_b63) (call := fun t i h => t h (nI i) I) (P := fun _ _ => True) (f := pu_gDeed w) (K := fun h => mo_digest_l207 FU h (nI 0) I) (pu_VF w.r).n ?_ ?_ (fun _ _ _ _ => trivial) (a := h) trivial FU (by rw [pu_FU_e]; omega)).trans c2
  · intro t h _
    unfold mo_digest_b63
    simp only [pu_lit]
    rw [mv.n, pu_ile_t (by omega) (by omega)]
  · intro t d h hd _
    unfold mo_digest_b63
    simp only [pu_lit]
    rw [mv.n, pu_ile_f (by omega) (by omega)]
    refine pu_lp_for (T := Int64 → Int32 → Int32 → St → Option (Int64 × St)) (call := fun u j h => u h (nI d) (nI j) I) (P := fun _ _ => True) (f := fun k h => pu_hs h (nI (pu_deedS (pu_VF w.r) d k)).toInt64) (K := fun h => t (pu_hs (pu_hs (pu_fo 2 (fun k h => pu_hs h (pu_oddsS (pu_VF w.r) d 2 k)) (pu_hs (pu_hs (pu_hs h (nI (pu_hoursS (pu_VF w.r) d)).toInt64) (pu_costsS (pu_VF w.r) d 2).toInt64) (pu_likeS (pu_VF w.r) d 2).toInt64)) (pu_fI (pu_rowS (pu_VF w.r) d)).toInt64) (nI (pu_sparedS (pu_VF w.r) w.e (2 ^ d))).toInt64) (nI (d + 1)) I) 5 ?_ ?_ (fun _ _ _ _ => trivial) (a := h) trivial FU (by decide)
    · intro u h _
      unfold mo_digest_b74
      simp only [pu_lit, pu_lt_s]
      rw [pu_ile_t (by omega) (by omega), pu_hours_n mv V hd, pu_bd_s, pu_costs_n mv V hd (by omega), pu_bd_s, pu_like_n mv V hd (by omega), pu_bd_s, pu_odds_n mv V hd (by omega) (by omega), pu_bd_s, pu_odds_n mv V hd (by omega) (by omega), pu_bd_s, pu_al_n (by omega) (by omega), h21 d hd, pu_nI_31 (by omega), pu_nI_one (by omega), pu_spared_n mv V hm.e o.e (pu_pow8 (by omega)), pu_bd_s, pu_nI_add]
      rfl
    · intro u j h hj _
      unfold mo_digest_b74
      simp only [pu_lit, pu_lt_s]
      rw [pu_ile_f (by omega) (by omega), pu_deedOf_n mv V hd hj, pu_bd_s, pu_nI_add]
      rfl
theorem pu_mdigest_n {a b : Nat} (htg : pu_tgtS (pu_VF w.r) = some (a, b)) (o : pu_WOk w) (hm : pu_MI I w) : ∃ I', pu_MI I' w ∧ mo_digest I = some (pu_g6 w a b, I') := by
  obtain ⟨x, ⟨x1, x2⟩, x4⟩ := pu_lp_forE (T := Int64 → Int32 → St → Option (Int64 × St)) (dead := fun _ _ _ => none) (b := mo_digest_b6) (call := fun t i (x : Int64 × St) => t x.1 (nI i) x.2) (P := fun i x => x.1 = pu_fo i (fun k h => pu_hs h (pu_countS w k).toInt64) 17 ∧ pu_MI x.2 w) (K := fun x => mo_digest_b6 (mo_digest_l6 0) x.1 (nI 8) x.2) 8 (by
    rintro t x _
    unfold mo_digest_b6
    simp only [pu_lit]
    rw [pu_ile_t (by omega) (by omega), pu_ile_t (by omega) (by omega)]) (by
    rintro t i x hi ⟨y1, y2⟩
    obtain ⟨J, b1, b3⟩ := pu_mcount_n y2 o (k := i) (by omega)
    refine ⟨(pu_hs x.1 (pu_countS w i).toInt64, J), ⟨by show pu_hs x.1 _ = pu_hs (pu_fo i _ 17) _; rw [y1], b1⟩, ?_⟩
    unfold mo_digest_b6
    simp only [pu_lit, pu_lt_s]
    rw [pu_ile_f (by omega) (by omega), b3, pu_bd2_s, pu_nI_add]
    rfl) (a := (17, I)) ⟨rfl, hm⟩ FU (by decide)
  obtain ⟨K1, p1, p2, p3, p4⟩ := pu_fault0_n x2 o.r
  have hK := x2.fr1 p1 (by decide)
  obtain ⟨K2, q1, q2, q3⟩ := pu_faultOf1_n (hK.t1 o.r)
  have hK2 := hK.fr1 q1 (by decide)
  obtain ⟨K3, r1, r2, r3, r4⟩ := pu_mplanned_n hK2 o
  have r3 := r3 a b htg
  obtain ⟨I', c1, c2⟩ := pu_m63 (a := a) (b := b) o r1 r2 r3.1 r3.2.1 r3.2.2 (pu_hs (pu_hs x.1 (pu_fI (pu_dTop w.r.ty0 w.r.b0).fault).toInt64) (pu_fI (pu_rTop w.r.ty1 w.r.b1).fault).toInt64)
  refine ⟨I', c1, Eq.trans (show mo_digest I = _ from x4) ?_⟩
  unfold mo_digest_b6
  simp only [pu_lit, pu_lt_s]
  rw [pu_ile_t (by omega) (by omega), p4, pu_bd2_s, q3, pu_bd2_s, r4, pu_bd_s]
  refine Eq.trans (show _ = _ from c2) ?_
  rw [x1]
  rfl
theorem pu_op_digest (o : pu_WOk w) (hc : pu_CI C w) (hm : pu_MI I w) : pu_Out (cp_digest C) (mo_digest I) := by
  obtain ⟨a, b, htg⟩ := pu_tgtS_some (pu_VF w.r)
  obtain ⟨C', c1, c2⟩ := pu_cdigest_n htg o hc
  obtain ⟨I', m1, m2⟩ := pu_mdigest_n htg o hm
  exact pu_Out.mk _ c2 m2 o c1 m1
end OPS
/-! PURE: the first states; what both keep -/
def pu_w0 : pu_Wd := ⟨⟨0, 0, fun _ => 0, fun _ => 0, fun _ => 0, fun _ => 8, fun _ => 1, fun _ => 16, fun _ => 0, fun k => if k = 0 then 9 else if k = 2 then 999 else if k = 3 then 6 else 0⟩, ⟨0, fun _ => 0, fun _ => 0, fun _ => 0, 0, fun _ => 0, fun _ => 0⟩, ⟨fun _ => false, fun _ => 0, fun _ => 0, fun _ _ => 0⟩, 0⟩
theorem pu_w0_ok : pu_WOk pu_w0 := by
  refine ⟨⟨Nat.zero_le _, Nat.zero_le _, fun _ _ => by show 0 < 256; omega, fun _ _ => by show 0 < 256; omega, fun _ _ => Nat.zero_le _, fun _ _ => Nat.le_refl _, fun _ _ => by show 1 ≤ 99; omega, fun _ _ => Nat.le_refl _, fun _ _ => Nat.zero_le _, by decide, by decide, by decide, by decide⟩, ⟨Nat.zero_le _, fun i hi => absurd hi (Nat.not_lt_zero _), fun i hi => absurd hi (Nat.not_lt_zero _), fun i hi => absurd hi (Nat.not_lt_zero _), Nat.zero_le _, fun i hi => absurd hi (Nat.not_lt_zero _), fun i hi => absurd hi (Nat.not_lt_zero _)⟩, ⟨(fun s _ h => by cases h), (fun s _ h => by cases h), (fun s _ h => by cases h)⟩⟩
theorem pu_w0_m : pu_MI smI pu_w0 := by
  refine ⟨⟨rfl, rfl, fun _ _ => rfl, fun _ _ => rfl, fun _ _ => rfl, ?_, ?_, ?_, fun _ _ => rfl, ?_⟩, ⟨rfl, fun _ _ => rfl, fun _ _ => rfl, fun _ _ => rfl, rfl, fun _ _ => rfl, fun _ _ => rfl⟩, fun s pu_hs => ⟨rfl, fun h => by cases h⟩, rfl⟩
  · decide
  · decide
  · decide
  · decide
theorem pu_w0_c : pu_CI scC pu_w0 := by
  have hp : ∀ p, p < 8 → scC (20 + p) = psG := by
    intro p hp
    rcases (show p = 0 ∨ p = 1 ∨ p = 2 ∨ p = 3 ∨ p = 4 ∨ p = 5 ∨ p = 6 ∨ p = 7 by omega) with rfl | rfl | rfl | rfl | rfl | rfl | rfl | rfl <;> rfl
  refine ⟨⟨rfl, rfl, fun _ _ => rfl, fun _ _ => rfl, fun p h => by rw [hp p h]; rfl, fun p h => by rw [hp p h]; rfl, fun p h => by rw [hp p h]; rfl, fun p h => by rw [hp p h]; rfl, fun _ _ => rfl, by decide⟩, ⟨rfl, fun i hi => absurd hi (Nat.not_lt_zero _), fun i hi => absurd hi (Nat.not_lt_zero _), fun i hi => absurd hi (Nat.not_lt_zero _), rfl, fun i hi => absurd hi (Nat.not_lt_zero _), fun i hi => absurd hi (Nat.not_lt_zero _)⟩, fun s pu_hs => ⟨?_, fun h => by cases h⟩, rfl, Or.inl rfl, Or.inl rfl, Or.inl rfl⟩
  rcases (show s = 0 ∨ s = 1 ∨ s = 2 ∨ s = 3 by omega) with rfl | rfl | rfl | rfl <;> rfl
/-- what both keep -/
def pu_Both (C I : St) : Prop := ∃ w, pu_WOk w ∧ pu_CI C w ∧ pu_MI I w
theorem pu_both_0 : pu_Both scC smI := ⟨pu_w0, pu_w0_ok, pu_w0_c, pu_w0_m⟩
theorem pu_Out.both {α : Type} {c m : Option (α × St)} (h : pu_Out c m) : ∃ r C' I', c = some (r, C') ∧ m = some (r, I') ∧ pu_Both C' I' := by
  obtain ⟨r, C', I', w, h1, h2, h3, h4, h5⟩ := h
  exact ⟨r, C', I', h1, h2, w, h3, h4, h5⟩
