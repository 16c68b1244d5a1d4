/-! the plain side, part 1 -/
set_option maxRecDepth 100000
/-! PURE: numbers, loops -/
theorem pu_nI_toInt {n : Nat} (h : n < 2147483648) : (nI n).toInt = n := by
  unfold nI
  rw [Int32.toInt_ofNat']
  exact Int.bmod_eq_of_le_mul_two (by have : Int32.size = 4294967296 := rfl; omega) (by have : Int32.size = 4294967296 := rfl; omega)
theorem pu_nI_clamp {n : Nat} (h : n < 2147483648) : (nI n).toNatClampNeg = n := by
  rw [← Int32.toNat_toInt, pu_nI_toInt h]
  rfl
theorem pu_nI_inj {a b : Nat} (ha : a < 2147483648) (hb : b < 2147483648) : nI a = nI b ↔ a = b := by
  constructor
  · intro h
    have := congrArg Int32.toInt h
    rw [pu_nI_toInt ha, pu_nI_toInt hb] at this
    omega
  · rintro rfl; rfl
theorem pu_nI_le {a b : Nat} (ha : a < 2147483648) (hb : b < 2147483648) : nI a ≤ nI b ↔ a ≤ b := by
  rw [Int32.le_iff_toInt_le, pu_nI_toInt ha, pu_nI_toInt hb]
  omega
theorem pu_nI_lt {a b : Nat} (ha : a < 2147483648) (hb : b < 2147483648) : nI a < nI b ↔ a < b := by
  rw [Int32.lt_iff_toInt_lt, pu_nI_toInt ha, pu_nI_toInt hb]
  omega
theorem pu_nI_add (a b : Nat) : nI a + nI b = nI (a + b) := (Int32.ofNat_add a b).symm
theorem pu_nI_mul (a b : Nat) : nI a * nI b = nI (a * b) := (Int32.ofNat_mul a b).symm
theorem pu_nI_sub {a b : Nat} (h : b ≤ a) : nI a - nI b = nI (a - b) := by
  have : nI a = nI (a - b) + nI b := by rw [pu_nI_add, Nat.sub_add_cancel h]
  rw [this, Int32.add_sub_cancel]
theorem pu_nI_dec {a : Nat} (h : 0 < a) : nI a + (-nI 1) = nI (a - 1) := by
  have : nI a = nI (a - 1) + nI 1 := by rw [pu_nI_add, Nat.sub_add_cancel h]
  rw [this, Int32.add_assoc, show nI 1 + (-nI 1) = 0 from rfl, Int32.add_zero]
theorem pu_lit (k : Nat) : (OfNat.ofNat k : Int32) = nI k := Int32.toBitVec_inj.mp rfl
theorem pu_nI_m1 {a : Nat} (h : a < 2147483648) : nI a ≠ -nI 1 := by
  intro q
  have := congrArg Int32.toInt q
  rw [pu_nI_toInt h, show (-nI 1).toInt = -1 from rfl] at this
  omega
theorem pu_nI_m3 {a : Nat} (h : a < 2147483648) : nI a ≠ -nI 3 := by
  intro q
  have := congrArg Int32.toInt q
  rw [pu_nI_toInt h, show (-nI 3).toInt = -3 from rfl] at this
  omega
theorem pu_bd_s {α β : Type} (a : α) (f : α → Option β) : bd_ (some a) f = f a := rfl
theorem pu_bd2_s {α γ β : Type} (a : α) (b : γ) (f : α → γ → Option β) : bd2_ (some (a, b)) f = f a b := rfl
theorem pu_lt_s {α β : Type} (e : α) (f : α → β) : lt_ e f = f e := rfl
theorem pu_inb_n {i n : Nat} (h : i < n) (hn : n ≤ 2147483648) : inb (nI i) n = true := by
  unfold inb
  rw [pu_nI_clamp (by omega)]
  have : ¬ nI i < 0 := by
    rw [show (0 : Int32) = nI 0 from rfl, pu_nI_lt (by omega) (by omega)]
    omega
  simp [this, h]
theorem pu_al_n {β : Type} {n i : Nat} {f : Nat → Int32} {k : Int32 → Option β} (h : i < n) (hn : n ≤ 2147483648) : al_ n f (nI i) k = k (f i) := by
  unfold al_
  rw [if_pos (pu_inb_n h hn), pu_nI_clamp (by omega)]
theorem pu_as_n {β : Type} {n i b : Nat} {I : St} {x : Int32} {k : St → Option β} (h : i < n) (hn : n ≤ 2147483648) : as_ n b I (nI i) x k = k (upd2 I b i x) := by
  unfold as_
  rw [if_pos (pu_inb_n h hn), pu_nI_clamp (by omega)]
theorem pu_ix_n {β : Type} {n i : Nat} {k : Nat → Option β} (h : i < n) (hn : n ≤ 2147483648) : ix_ n (nI i) k = k i := by
  unfold ix_
  rw [if_pos (pu_inb_n h hn), pu_nI_clamp (by omega)]
theorem pu_fx_n {β : Type} {n d : Nat} {v : Int32} {k : Int32 → Option β} (h : d < n) : fx_ n d v k = k v := if_pos h
theorem pu_gd_t {β : Type} {c : Prop} {i : Decidable c} {k : Option β} (h : c) : @gd_ β c i k = k := if_pos h
theorem pu_ile_t {α : Sort _} {a b : Nat} {i : Decidable (nI a ≤ nI b)} {x y : α} (h : a ≤ b) (hb : b < 2147483648) : @ite α (nI a ≤ nI b) i x y = x := if_pos ((pu_nI_le (by omega) hb).mpr h)
theorem pu_ile_f {α : Sort _} {a b : Nat} {i : Decidable (nI a ≤ nI b)} {x y : α} (h : b < a) (ha : a < 2147483648) : @ite α (nI a ≤ nI b) i x y = y := if_neg (fun q => by have := (pu_nI_le ha (by omega)).mp q; omega)
theorem pu_ilt_t {α : Sort _} {a b : Nat} {i : Decidable (nI a < nI b)} {x y : α} (h : a < b) (hb : b < 2147483648) : @ite α (nI a < nI b) i x y = x := if_pos ((pu_nI_lt (by omega) hb).mpr h)
theorem pu_ilt_f {α : Sort _} {a b : Nat} {i : Decidable (nI a < nI b)} {x y : α} (h : b ≤ a) (ha : a < 2147483648) : @ite α (nI a < nI b) i x y = y := if_neg (fun q => by have := (pu_nI_lt (by omega) (by omega)).mp q; omega)
theorem pu_ieq_t {α : Sort _} {a b : Nat} {i : Decidable (nI a = nI b)} {x y : α} (h : a = b) : @ite α (nI a = nI b) i x y = x := if_pos (by rw [h])
theorem pu_ieq_f {α : Sort _} {a b : Nat} {i : Decidable (nI a = nI b)} {x y : α} (h : a ≠ b) (ha : a < 2147483648) (hb : b < 2147483648) : @ite α (nI a = nI b) i x y = y := if_neg (fun q => h ((pu_nI_inj ha hb).mp q))
/-- truth values as numbers -/
theorem pu_n10 : ¬ nI 1 = nI 0 := by decide
theorem pu_n01 : ¬ nI 0 = nI 1 := by decide
def pu_bI (b : Bool) : Int32 := if b = true then nI 1 else nI 0
theorem pu_bI0 {α : Sort _} {b : Bool} {i : Decidable (pu_bI b = nI 0)} {x y : α} : @ite α (pu_bI b = nI 0) i x y = if b = true then y else x := by
  cases b
  · rw [if_pos (show pu_bI false = nI 0 from rfl)]; rfl
  · rw [if_neg (show ¬ pu_bI true = nI 0 from pu_n10)]; rfl
theorem pu_bI1 {α : Sort _} {b : Bool} {i : Decidable (pu_bI b = nI 1)} {x y : α} : @ite α (pu_bI b = nI 1) i x y = if b = true then x else y := by
  cases b
  · rw [if_neg (show ¬ pu_bI false = nI 1 from pu_n01)]; rfl
  · rw [if_pos (show pu_bI true = nI 1 from rfl)]; rfl
theorem pu_zb_b (b : Bool) : zb (pu_bI b) = true := by cases b <;> rfl
theorem pu_s_bI {c : Prop} [Decidable c] : (if c then some (nI 1) else some (nI 0)) = some (pu_bI (decide c)) := by
  by_cases h : c
  · rw [if_pos h, decide_eq_true h]; rfl
  · rw [if_neg h, decide_eq_false h]; rfl
/-- a loop, counted -/
def pu_fo {α : Type} : Nat → (Nat → α → α) → α → α
  | 0, _, a => a
  | n + 1, f, a => f n (pu_fo n f a)
theorem pu_lp_up {T : Type} {dead : T} {b : T → T} (P : Nat → T → Prop) (h0 : ∀ t, P 0 (b t)) (pu_hs : ∀ m t, P m t → P (m + 1) (b t)) : ∀ m n, m < n → P m (lp dead b n) := by
  intro m
  induction m with
  | zero => intro n hn; cases n with
    | zero => omega
    | succ n => exact h0 _
  | succ m ih => intro n hn; cases n with
    | zero => omega
    | succ n => exact pu_hs _ _ (ih n (by omega))
/-- counts up from 0 to N; after it K -/
theorem pu_lp_for {T α R : Type} {dead : T} {b : T → T} (call : T → Nat → α → R) (P : Nat → α → Prop) (f : Nat → α → α) (K : α → R) (N : Nat)
    (h0 : ∀ t a, P N a → call (b t) N a = K a) (pu_hs : ∀ t i a, i < N → P i a → call (b t) i a = call t (i + 1) (f i a)) (hP : ∀ i a, i < N → P i a → P (i + 1) (f i a)) {a : α} (ha : P 0 a) (n : Nat) (hn : N < n) :
    call (lp dead b n) 0 a = K (pu_fo N f a) := by
  have key : ∀ m n, m < n → ∀ i, i + m = N → P i (pu_fo i f a) → call (lp dead b n) i (pu_fo i f a) = K (pu_fo N f a) := by
    intro m n hmn
    refine pu_lp_up (fun m t => ∀ i, i + m = N → P i (pu_fo i f a) → call t i (pu_fo i f a) = K (pu_fo N f a)) ?_ ?_ m n hmn
    · intro t i hi hp
      have : i = N := by omega
      subst this
      exact h0 t _ hp
    · intro m t ih i hi hp
      rw [pu_hs t i _ (by omega) hp]
      exact ih (i + 1) (by omega) (hP i _ (by omega) hp)
  exact key N n hn 0 (by omega) ha
theorem pu_fo_P {α : Type} {f : Nat → α → α} {a : α} {N : Nat} (P : Nat → α → Prop) (h0 : P 0 a) (hP : ∀ i a, i < N → P i a → P (i + 1) (f i a)) : ∀ n, n ≤ N → P n (pu_fo n f a)
  | 0, _ => h0
  | n + 1, h => hP n _ (by omega) (pu_fo_P P h0 hP n (by omega))
theorem pu_fo_congr {α : Type} {f g : Nat → α → α} {a : α} : ∀ n, (∀ i a, i < n → f i a = g i a) → pu_fo n f a = pu_fo n g a
  | 0, _ => rfl
  | n + 1, h => by
    show f n (pu_fo n f a) = g n (pu_fo n g a)
    rw [pu_fo_congr n (fun i a hi => h i a (by omega)), h n _ (by omega)]
theorem pu_FU_e : FU = 3000 := rfl
/-! PURE: sets as numbers -/
theorem pu_nI_or (a b : Nat) : nI a ||| nI b = nI (a ||| b) := by
  apply Int32.toBitVec_inj.mp
  show BitVec.ofNat 32 a ||| BitVec.ofNat 32 b = BitVec.ofNat 32 (a ||| b)
  exact (BitVec.ofNat_or).symm
theorem pu_nI_and (a b : Nat) : nI a &&& nI b = nI (a &&& b) := by
  apply Int32.toBitVec_inj.mp
  show BitVec.ofNat 32 a &&& BitVec.ofNat 32 b = BitVec.ofNat 32 (a &&& b)
  exact (BitVec.ofNat_and).symm
theorem pu_and31 {k : Nat} (h : k < 32) : k &&& 31 = k := by
  rw [Nat.and_two_pow_sub_one_eq_mod k 5]
  exact Nat.mod_eq_of_lt h
theorem pu_nI_31 {k : Nat} (h : k < 32) : nI k &&& nI 31 = nI k := by rw [pu_nI_and, pu_and31 h]
theorem pu_nI_bv (n : Nat) : (nI n).toBitVec = BitVec.ofNat 32 n := rfl
theorem pu_nI_smod {k : Nat} (h : k < 32) : (BitVec.smod (nI k).toBitVec 32).toNat = k := by
  have : ∀ k, k < 32 → (BitVec.smod (nI k).toBitVec 32).toNat = k := by decide +kernel
  exact this k h
theorem pu_nI_shr {a k : Nat} (ha : a < 2147483648) (hk : k < 32) : nI a >>> nI k = nI (a >>> k) := by
  apply Int32.toBitVec_inj.mp
  show (BitVec.sshiftRight' (nI a).toBitVec ((nI k).toBitVec.smod 32)) = BitVec.ofNat 32 (a >>> k)
  unfold BitVec.sshiftRight'
  rw [pu_nI_smod hk, BitVec.sshiftRight_eq_of_msb_false]
  · apply BitVec.eq_of_toNat_eq
    rw [BitVec.toNat_ushiftRight, pu_nI_bv, BitVec.toNat_ofNat, BitVec.toNat_ofNat, Nat.mod_eq_of_lt (by omega), Nat.mod_eq_of_lt]
    have := Nat.shiftRight_le a k
    omega
  · rw [pu_nI_bv, BitVec.msb_eq_decide, BitVec.toNat_ofNat, Nat.mod_eq_of_lt (by omega)]
    simp only [decide_eq_false_iff_not]
    omega
theorem pu_nI_one {k : Nat} (hk : k < 31) : nI 1 <<< nI k = nI (2 ^ k) := by
  have : ∀ k, k < 31 → nI 1 <<< nI k = nI (2 ^ k) := by decide +kernel
  exact this k hk
theorem pu_tb_shr (a k : Nat) : ((a >>> k) &&& 1 = 1) ↔ a.testBit k = true := by
  rw [Nat.testBit_eq_decide_div_mod_eq, Nat.shiftRight_eq_div_pow, Nat.and_one_is_mod]
  simp
theorem pu_isIn_n {a k : Nat} (ha : a < 2147483648) (hk : k < 32) : mo_isIn (nI a) (nI k) = some (pu_bI (a.testBit k)) := by
  unfold mo_isIn
  simp only [pu_lit]
  rw [pu_nI_31 hk, pu_nI_shr ha hk, pu_nI_and, pu_s_bI]
  have h1 := Nat.and_le_right (n := a >>> k) (m := 1)
  have h2 : decide (nI (a >>> k &&& 1) = nI 1) = a.testBit k := by
    rw [Bool.eq_iff_iff, decide_eq_true_iff, ← pu_tb_shr, pu_nI_inj (by omega) (by omega)]
  rw [h2]
theorem pu_isInC_n {a k : Nat} (ha : a < 2147483648) (hk : k < 32) : cf_isIn (nI a) (nI k) = some (pu_bI (a.testBit k)) := pu_isIn_n ha hk
/-- how many are in a set -/
def pu_pc (b : Nat) : Nat := pu_fo 10 (fun k n => n + (b >>> k) % 2) 0
theorem pu_pc_le (b : Nat) : pu_pc b ≤ 10 := by
  unfold pu_pc
  refine pu_fo_P (N := 10) (fun i a => a ≤ i) (by omega) (fun i a _ h => by omega) 10 (by omega)
theorem pu_ones_n {b : Nat} (h : b < 2147483648) : mo_ones (nI b) = some (nI (pu_pc b)) := by
  unfold mo_ones mo_ones_l4
  refine pu_lp_for (call := fun (t : Int32 → Int32 → Int32 → Option Int32) i a => t (nI b) (nI a) (nI i)) (P := fun _ _ => True) (f := fun k n => n + (b >>> k) % 2) (K := fun a => some (nI a)) 10 ?_ ?_ (fun _ _ _ _ => trivial) trivial FU (by decide)
  · intro t a _
    unfold mo_ones_b4
    exact if_pos (by decide)
  · intro t i a hi _
    unfold mo_ones_b4
    simp only [pu_lit]
    rw [pu_ile_f (by omega) (by omega), pu_lt_s, pu_nI_31 (by omega), pu_nI_shr h (by omega), pu_nI_and, pu_nI_add, pu_nI_add, Nat.and_one_is_mod]
theorem pu_bitCount_n {b : Nat} (h : b < 1024) : cj_bitCount (nI b) = some (nI (pu_pc b)) := by
  have : ∀ b, b < 1024 → cj_bitCount (nI b) = some (nI (pu_pc b)) := by decide +kernel
  exact this b h
/-! PURE: the view (deeds, rules, people, weather, settings), and who comes -/
abbrev pu_Vw : Type := Nat × (Nat → Nat) × (Nat → Nat) × (Nat → Nat) × (Nat → Nat) × (Nat → Nat) × Nat × (Nat → Nat) × (Nat → Nat) × (Nat → Nat) × (Nat → Nat) × (Nat → Nat) × (Nat → Nat) × (Nat → Nat) × (Nat → Nat) × (Nat → Nat)
abbrev pu_Vw.n (x_ : pu_Vw) : Nat := x_.1
abbrev pu_Vw.kind (x_ : pu_Vw) : Nat → Nat := x_.2.1
abbrev pu_Vw.place (x_ : pu_Vw) : Nat → Nat := x_.2.2.1
abbrev pu_Vw.wet (x_ : pu_Vw) : Nat → Nat := x_.2.2.2.1
abbrev pu_Vw.worth (x_ : pu_Vw) : Nat → Nat := x_.2.2.2.2.1
abbrev pu_Vw.who (x_ : pu_Vw) : Nat → Nat := x_.2.2.2.2.2.1
abbrev pu_Vw.parts (x_ : pu_Vw) : Nat := x_.2.2.2.2.2.2.1
abbrev pu_Vw.many (x_ : pu_Vw) : Nat → Nat := x_.2.2.2.2.2.2.2.1
abbrev pu_Vw.askR (x_ : pu_Vw) : Nat → Nat := x_.2.2.2.2.2.2.2.2.1
abbrev pu_Vw.askP (x_ : pu_Vw) : Nat → Nat := x_.2.2.2.2.2.2.2.2.2.1
abbrev pu_Vw.come (x_ : pu_Vw) : Nat → Nat := x_.2.2.2.2.2.2.2.2.2.2.1
abbrev pu_Vw.til (x_ : pu_Vw) : Nat → Nat := x_.2.2.2.2.2.2.2.2.2.2.2.1
abbrev pu_Vw.price (x_ : pu_Vw) : Nat → Nat := x_.2.2.2.2.2.2.2.2.2.2.2.2.1
abbrev pu_Vw.mem (x_ : pu_Vw) : Nat → Nat := x_.2.2.2.2.2.2.2.2.2.2.2.2.2.1
abbrev pu_Vw.rain (x_ : pu_Vw) : Nat → Nat := x_.2.2.2.2.2.2.2.2.2.2.2.2.2.2.1
abbrev pu_Vw.set (x_ : pu_Vw) : Nat → Nat := x_.2.2.2.2.2.2.2.2.2.2.2.2.2.2.2
abbrev pu_VOk (V : pu_Vw) : Prop := V.n ≤ 8 ∧ (∀ d, d < V.n → V.kind d < 4) ∧ (∀ d, d < V.n → V.place d < 6) ∧ (∀ d, d < V.n → V.wet d ≤ 1) ∧ (∀ d, d < V.n → V.worth d ≤ 9) ∧ (∀ d, d < V.n → 0 < V.worth d) ∧ (∀ d, d < V.n → V.who d < 256) ∧ (∀ d, d < V.n → 0 < V.who d) ∧ (∀ k, k < 4 → V.many k ≤ 4) ∧ (∀ k, k < 4 → V.askR k ≤ 1) ∧ (∀ k, k < 4 → V.askP k ≤ 1) ∧ (∀ p, p < 8 → V.come p ≤ 7) ∧ (∀ p, p < 8 → V.til p ≤ 8) ∧ (∀ p, p < 8 → V.price p ≤ 99) ∧ (∀ p, p < 8 → V.mem p ≤ 16) ∧ (∀ h, h < 8 → V.rain h ≤ 1) ∧ V.set 0 ≤ 99 ∧ V.set 1 ≤ 1 ∧ V.set 2 ≤ 999 ∧ V.set 3 ≤ 10
theorem pu_VOk.n8 {V : pu_Vw} (h_ : pu_VOk V) : V.n ≤ 8 := h_.1
theorem pu_VOk.kind {V : pu_Vw} (h_ : pu_VOk V) : ∀ d, d < V.n → V.kind d < 4 := h_.2.1
theorem pu_VOk.place {V : pu_Vw} (h_ : pu_VOk V) : ∀ d, d < V.n → V.place d < 6 := h_.2.2.1
theorem pu_VOk.wet {V : pu_Vw} (h_ : pu_VOk V) : ∀ d, d < V.n → V.wet d ≤ 1 := h_.2.2.2.1
theorem pu_VOk.worth {V : pu_Vw} (h_ : pu_VOk V) : ∀ d, d < V.n → V.worth d ≤ 9 := h_.2.2.2.2.1
theorem pu_VOk.worth0 {V : pu_Vw} (h_ : pu_VOk V) : ∀ d, d < V.n → 0 < V.worth d := h_.2.2.2.2.2.1
theorem pu_VOk.who {V : pu_Vw} (h_ : pu_VOk V) : ∀ d, d < V.n → V.who d < 256 := h_.2.2.2.2.2.2.1
theorem pu_VOk.who0 {V : pu_Vw} (h_ : pu_VOk V) : ∀ d, d < V.n → 0 < V.who d := h_.2.2.2.2.2.2.2.1
theorem pu_VOk.many {V : pu_Vw} (h_ : pu_VOk V) : ∀ k, k < 4 → V.many k ≤ 4 := h_.2.2.2.2.2.2.2.2.1
theorem pu_VOk.askR {V : pu_Vw} (h_ : pu_VOk V) : ∀ k, k < 4 → V.askR k ≤ 1 := h_.2.2.2.2.2.2.2.2.2.1
theorem pu_VOk.askP {V : pu_Vw} (h_ : pu_VOk V) : ∀ k, k < 4 → V.askP k ≤ 1 := h_.2.2.2.2.2.2.2.2.2.2.1
theorem pu_VOk.come {V : pu_Vw} (h_ : pu_VOk V) : ∀ p, p < 8 → V.come p ≤ 7 := h_.2.2.2.2.2.2.2.2.2.2.2.1
theorem pu_VOk.til {V : pu_Vw} (h_ : pu_VOk V) : ∀ p, p < 8 → V.til p ≤ 8 := h_.2.2.2.2.2.2.2.2.2.2.2.2.1
theorem pu_VOk.price {V : pu_Vw} (h_ : pu_VOk V) : ∀ p, p < 8 → V.price p ≤ 99 := h_.2.2.2.2.2.2.2.2.2.2.2.2.2.1
theorem pu_VOk.mem {V : pu_Vw} (h_ : pu_VOk V) : ∀ p, p < 8 → V.mem p ≤ 16 := h_.2.2.2.2.2.2.2.2.2.2.2.2.2.2.1
theorem pu_VOk.rain {V : pu_Vw} (h_ : pu_VOk V) : ∀ h, h < 8 → V.rain h ≤ 1 := h_.2.2.2.2.2.2.2.2.2.2.2.2.2.2.2.1
theorem pu_VOk.set0 {V : pu_Vw} (h_ : pu_VOk V) : V.set 0 ≤ 99 := h_.2.2.2.2.2.2.2.2.2.2.2.2.2.2.2.2.1
theorem pu_VOk.set1 {V : pu_Vw} (h_ : pu_VOk V) : V.set 1 ≤ 1 := h_.2.2.2.2.2.2.2.2.2.2.2.2.2.2.2.2.2.1
theorem pu_VOk.set2 {V : pu_Vw} (h_ : pu_VOk V) : V.set 2 ≤ 999 := h_.2.2.2.2.2.2.2.2.2.2.2.2.2.2.2.2.2.2.1
theorem pu_VOk.set3 {V : pu_Vw} (h_ : pu_VOk V) : V.set 3 ≤ 10 := h_.2.2.2.2.2.2.2.2.2.2.2.2.2.2.2.2.2.2.2
/-- the model shows a view -/
abbrev pu_MV (I : St) (V : pu_Vw) : Prop := I 2 0 = nI V.n ∧ (∀ d, d < V.n → I 3 d = nI (V.kind d)) ∧ (∀ d, d < V.n → I 4 d = nI (V.place d)) ∧ (∀ d, d < V.n → I 5 d = nI (V.wet d)) ∧ (∀ d, d < V.n → I 6 d = nI (V.worth d)) ∧ (∀ d, d < V.n → I 7 d = nI (V.who d)) ∧ I 8 0 = nI V.parts ∧ (∀ k, k < 4 → I 9 k = nI (V.many k)) ∧ (∀ k, k < 4 → I 10 k = nI (V.askR k)) ∧ (∀ k, k < 4 → I 11 k = nI (V.askP k)) ∧ (∀ p, p < 8 → I 12 p = nI (V.come p)) ∧ (∀ p, p < 8 → I 13 p = nI (V.til p)) ∧ (∀ p, p < 8 → I 14 p = nI (V.price p)) ∧ (∀ p, p < 8 → I 15 p = nI (V.mem p)) ∧ (∀ h, h < 8 → I 16 h = nI (V.rain h)) ∧ (∀ k, k < 4 → I 17 k = nI (V.set k))
theorem pu_MV.n {I : St} {V : pu_Vw} (h_ : pu_MV I V) : I 2 0 = nI V.n := h_.1
theorem pu_MV.kind {I : St} {V : pu_Vw} (h_ : pu_MV I V) : ∀ d, d < V.n → I 3 d = nI (V.kind d) := h_.2.1
theorem pu_MV.place {I : St} {V : pu_Vw} (h_ : pu_MV I V) : ∀ d, d < V.n → I 4 d = nI (V.place d) := h_.2.2.1
theorem pu_MV.wet {I : St} {V : pu_Vw} (h_ : pu_MV I V) : ∀ d, d < V.n → I 5 d = nI (V.wet d) := h_.2.2.2.1
theorem pu_MV.worth {I : St} {V : pu_Vw} (h_ : pu_MV I V) : ∀ d, d < V.n → I 6 d = nI (V.worth d) := h_.2.2.2.2.1
theorem pu_MV.who {I : St} {V : pu_Vw} (h_ : pu_MV I V) : ∀ d, d < V.n → I 7 d = nI (V.who d) := h_.2.2.2.2.2.1
theorem pu_MV.parts {I : St} {V : pu_Vw} (h_ : pu_MV I V) : I 8 0 = nI V.parts := h_.2.2.2.2.2.2.1
theorem pu_MV.many {I : St} {V : pu_Vw} (h_ : pu_MV I V) : ∀ k, k < 4 → I 9 k = nI (V.many k) := h_.2.2.2.2.2.2.2.1
theorem pu_MV.askR {I : St} {V : pu_Vw} (h_ : pu_MV I V) : ∀ k, k < 4 → I 10 k = nI (V.askR k) := h_.2.2.2.2.2.2.2.2.1
theorem pu_MV.askP {I : St} {V : pu_Vw} (h_ : pu_MV I V) : ∀ k, k < 4 → I 11 k = nI (V.askP k) := h_.2.2.2.2.2.2.2.2.2.1
theorem pu_MV.come {I : St} {V : pu_Vw} (h_ : pu_MV I V) : ∀ p, p < 8 → I 12 p = nI (V.come p) := h_.2.2.2.2.2.2.2.2.2.2.1
theorem pu_MV.til {I : St} {V : pu_Vw} (h_ : pu_MV I V) : ∀ p, p < 8 → I 13 p = nI (V.til p) := h_.2.2.2.2.2.2.2.2.2.2.2.1
theorem pu_MV.price {I : St} {V : pu_Vw} (h_ : pu_MV I V) : ∀ p, p < 8 → I 14 p = nI (V.price p) := h_.2.2.2.2.2.2.2.2.2.2.2.2.1
theorem pu_MV.mem {I : St} {V : pu_Vw} (h_ : pu_MV I V) : ∀ p, p < 8 → I 15 p = nI (V.mem p) := h_.2.2.2.2.2.2.2.2.2.2.2.2.2.1
theorem pu_MV.rain {I : St} {V : pu_Vw} (h_ : pu_MV I V) : ∀ h, h < 8 → I 16 h = nI (V.rain h) := h_.2.2.2.2.2.2.2.2.2.2.2.2.2.2.1
theorem pu_MV.set {I : St} {V : pu_Vw} (h_ : pu_MV I V) : ∀ k, k < 4 → I 17 k = nI (V.set k) := h_.2.2.2.2.2.2.2.2.2.2.2.2.2.2.2
/-- the component shows it, both texts being read -/
abbrev pu_CV (C : St) (V : pu_Vw) : Prop := C 50 2 = nI V.n ∧ (∀ d, d < V.n → C (100 + d) 0 = nI (V.kind d)) ∧ (∀ d, d < V.n → C (100 + d) 1 = nI (V.place d)) ∧ (∀ d, d < V.n → C (100 + d) 2 = nI (V.wet d)) ∧ (∀ d, d < V.n → C (100 + d) 3 = nI (V.worth d)) ∧ (∀ d, d < V.n → C (100 + d) 4 = nI (V.who d)) ∧ C 41 8 = nI V.parts ∧ (∀ k, k < 4 → C 44 k = nI (V.many k)) ∧ (∀ k, k < 4 → C 45 k = nI (V.askR k)) ∧ (∀ k, k < 4 → C 46 k = nI (V.askP k)) ∧ (∀ p, p < 8 → C (20 + p) 0 = nI (V.come p)) ∧ (∀ p, p < 8 → C (20 + p) 1 = nI (V.til p)) ∧ (∀ p, p < 8 → C (20 + p) 2 = nI (V.price p)) ∧ (∀ p, p < 8 → C (20 + p) 3 = nI (V.mem p)) ∧ (∀ h, h < 8 → C 2 h = nI (V.rain h)) ∧ (∀ k, k < 4 → C 3 k = nI (V.set k)) ∧ C 40 3 = nI 1 ∧ C 41 3 = nI 1
theorem pu_CV.n {C : St} {V : pu_Vw} (h_ : pu_CV C V) : C 50 2 = nI V.n := h_.1
theorem pu_CV.kind {C : St} {V : pu_Vw} (h_ : pu_CV C V) : ∀ d, d < V.n → C (100 + d) 0 = nI (V.kind d) := h_.2.1
theorem pu_CV.place {C : St} {V : pu_Vw} (h_ : pu_CV C V) : ∀ d, d < V.n → C (100 + d) 1 = nI (V.place d) := h_.2.2.1
theorem pu_CV.wet {C : St} {V : pu_Vw} (h_ : pu_CV C V) : ∀ d, d < V.n → C (100 + d) 2 = nI (V.wet d) := h_.2.2.2.1
theorem pu_CV.worth {C : St} {V : pu_Vw} (h_ : pu_CV C V) : ∀ d, d < V.n → C (100 + d) 3 = nI (V.worth d) := h_.2.2.2.2.1
theorem pu_CV.who {C : St} {V : pu_Vw} (h_ : pu_CV C V) : ∀ d, d < V.n → C (100 + d) 4 = nI (V.who d) := h_.2.2.2.2.2.1
theorem pu_CV.parts {C : St} {V : pu_Vw} (h_ : pu_CV C V) : C 41 8 = nI V.parts := h_.2.2.2.2.2.2.1
theorem pu_CV.many {C : St} {V : pu_Vw} (h_ : pu_CV C V) : ∀ k, k < 4 → C 44 k = nI (V.many k) := h_.2.2.2.2.2.2.2.1
theorem pu_CV.askR {C : St} {V : pu_Vw} (h_ : pu_CV C V) : ∀ k, k < 4 → C 45 k = nI (V.askR k) := h_.2.2.2.2.2.2.2.2.1
theorem pu_CV.askP {C : St} {V : pu_Vw} (h_ : pu_CV C V) : ∀ k, k < 4 → C 46 k = nI (V.askP k) := h_.2.2.2.2.2.2.2.2.2.1
theorem pu_CV.come {C : St} {V : pu_Vw} (h_ : pu_CV C V) : ∀ p, p < 8 → C (20 + p) 0 = nI (V.come p) := h_.2.2.2.2.2.2.2.2.2.2.1
theorem pu_CV.til {C : St} {V : pu_Vw} (h_ : pu_CV C V) : ∀ p, p < 8 → C (20 + p) 1 = nI (V.til p) := h_.2.2.2.2.2.2.2.2.2.2.2.1
theorem pu_CV.price {C : St} {V : pu_Vw} (h_ : pu_CV C V) : ∀ p, p < 8 → C (20 + p) 2 = nI (V.price p) := h_.2.2.2.2.2.2.2.2.2.2.2.2.1
theorem pu_CV.mem {C : St} {V : pu_Vw} (h_ : pu_CV C V) : ∀ p, p < 8 → C (20 + p) 3 = nI (V.mem p) := h_.2.2.2.2.2.2.2.2.2.2.2.2.2.1
theorem pu_CV.rain {C : St} {V : pu_Vw} (h_ : pu_CV C V) : ∀ h, h < 8 → C 2 h = nI (V.rain h) := h_.2.2.2.2.2.2.2.2.2.2.2.2.2.2.1
theorem pu_CV.set {C : St} {V : pu_Vw} (h_ : pu_CV C V) : ∀ k, k < 4 → C 3 k = nI (V.set k) := h_.2.2.2.2.2.2.2.2.2.2.2.2.2.2.2.1
theorem pu_CV.f0 {C : St} {V : pu_Vw} (h_ : pu_CV C V) : C 40 3 = nI 1 := h_.2.2.2.2.2.2.2.2.2.2.2.2.2.2.2.2.1
theorem pu_CV.f1 {C : St} {V : pu_Vw} (h_ : pu_CV C V) : C 41 3 = nI 1 := h_.2.2.2.2.2.2.2.2.2.2.2.2.2.2.2.2.2
theorem pu_CV.nn {C : St} {V : pu_Vw} (h : pu_CV C V) (o : pu_VOk V) : cNn C 0 = V.n := by
  unfold cNn
  rw [show 50 + 0 = 50 from rfl, h.n, pu_nI_clamp (by have := o.n8; omega)]
theorem pu_bI_ne {a b : Nat} (ha : a < 2147483648) (hb : b < 2147483648) : (if nI a = nI b then some (nI 0) else some (nI 1)) = some (pu_bI (decide (a ≠ b))) := by
  by_cases h : a = b
  · rw [pu_ieq_t h, decide_eq_false (by omega)]; rfl
  · rw [pu_ieq_f h ha hb, decide_eq_true h]; rfl
def pu_needS (V : pu_Vw) (d : Nat) : Nat := min (V.many (V.kind d)) (pu_pc (V.who d))
def pu_turnS (V : pu_Vw) (d h : Nat) : Bool := decide (V.askR (V.kind d) = 1) && decide (V.rain h ≠ V.wet d)
theorem pu_needS_le {V : pu_Vw} {d : Nat} (o : pu_VOk V) (hd : d < V.n) : pu_needS V d ≤ 4 := Nat.le_trans (Nat.min_le_left _ _) (o.many _ (o.kind d hd))
theorem pu_needs_n {I : St} {V : pu_Vw} {d : Nat} (h : pu_MV I V) (o : pu_VOk V) (hd : d < V.n) : mo_needs I (nI d) = some (nI (pu_needS V d)) := by
  have h8 := o.n8
  have hk := o.kind d hd
  have hw := o.who d hd
  have hm := o.many _ hk
  have hp := pu_pc_le (V.who d)
  unfold mo_needs
  rw [pu_al_n (by omega) (by omega), h.who d hd, pu_ones_n (by omega), pu_bd_s, pu_al_n (by omega) (by omega), h.kind d hd, pu_al_n hk (by omega), h.many _ hk]
  unfold pu_needS
  by_cases q : pu_pc (V.who d) ≤ V.many (V.kind d)
  · rw [pu_ile_t q (by omega), Nat.min_eq_right q]
  · rw [pu_ile_f (by omega) (by omega), pu_al_n (by omega) (by omega), h.kind d hd, pu_al_n hk (by omega), h.many _ hk, Nat.min_eq_left (by omega)]
theorem pu_needed_n {C : St} {V : pu_Vw} {d : Nat} (h : pu_CV C V) (o : pu_VOk V) (hd : d < V.n) : cf_needed C d = some (nI (pu_needS V d)) := by
  have h8 := o.n8
  have hk := o.kind d hd
  have hw := o.who d hd
  have hm := o.many _ hk
  have hp := pu_pc_le (V.who d)
  unfold cf_needed
  rw [h.nn o, pu_fx_n hd, h.kind d hd, pu_al_n hk (by omega), h.many _ hk, pu_fx_n hd, h.who d hd, pu_bitCount_n (by omega), pu_bd_s, pu_lt_s]
  unfold pu_needS
  by_cases q : pu_pc (V.who d) < V.many (V.kind d)
  · rw [pu_ilt_t q (by omega), Nat.min_eq_right (by omega)]
  · rw [pu_ilt_f (by omega) (by omega), Nat.min_eq_left (by omega)]
theorem pu_turned_n {I : St} {V : pu_Vw} {d x : Nat} (h : pu_MV I V) (o : pu_VOk V) (hd : d < V.n) (hx : x < 8) : mo_isTurned I (nI d) (nI x) = some (pu_bI (pu_turnS V d x)) := by
  have h8 := o.n8
  have hk := o.kind d hd
  have hr := o.askR _ hk
  have h1 := o.rain x hx
  have h2 := o.wet d hd
  unfold mo_isTurned pu_turnS
  simp only [pu_lit]
  rw [pu_al_n (by omega) (by omega), h.kind d hd, pu_al_n hk (by omega), h.askR _ hk, pu_al_n hx (by omega), h.rain x hx, pu_al_n (by omega) (by omega), h.wet d hd, pu_bI_ne (by omega) (by omega)]
  by_cases q : V.askR (V.kind d) = 1
  · rw [pu_ieq_t q, decide_eq_true q]; rfl
  · rw [pu_ieq_f q (by omega) (by omega), decide_eq_false q]; rfl
theorem pu_asksW_n {C : St} {V : pu_Vw} {d : Nat} (h : pu_CV C V) (o : pu_VOk V) (hd : d < V.n) : cf_asksWeather C d = some (pu_bI (decide (V.askR (V.kind d) = 1))) := by
  have hk := o.kind d hd
  have hr := o.askR _ hk
  unfold cf_asksWeather
  rw [h.nn o, pu_fx_n hd, h.kind d hd, pu_al_n hk (by omega), h.askR _ hk]
  rcases (show V.askR (V.kind d) = 0 ∨ V.askR (V.kind d) = 1 by omega) with q | q <;> rw [q] <;> rfl
theorem pu_asksP_n {C : St} {V : pu_Vw} {d : Nat} (h : pu_CV C V) (o : pu_VOk V) (hd : d < V.n) : cf_asksPlace C d = some (pu_bI (decide (V.askP (V.kind d) = 1))) := by
  have hk := o.kind d hd
  have hr := o.askP _ hk
  unfold cf_asksPlace
  rw [h.nn o, pu_fx_n hd, h.kind d hd, pu_al_n hk (by omega), h.askP _ hk]
  rcases (show V.askP (V.kind d) = 0 ∨ V.askP (V.kind d) = 1 by omega) with q | q <;> rw [q] <;> rfl
theorem pu_turnedC_n {C : St} {V : pu_Vw} {d x : Nat} (h : pu_CV C V) (o : pu_VOk V) (hd : d < V.n) (hx : x < 8) : cf_isTurned C d (nI x) = some (pu_bI (pu_turnS V d x)) := by
  have h1 := o.rain x hx
  have h2 := o.wet d hd
  unfold cf_isTurned pu_turnS
  simp only [pu_lit]
  rw [pu_asksW_n h o hd, pu_bd_s, pu_bI0, pu_al_n hx (by omega), h.rain x hx, h.nn o, pu_fx_n hd, h.wet d hd, pu_bI_ne (by omega) (by omega)]
  by_cases q : V.askR (V.kind d) = 1
  · rw [decide_eq_true q]; rfl
  · rw [decide_eq_false q]; rfl
/-- numbers that may be lacking -/
def pu_oI : Option Nat → Int32
  | none => -nI 1
  | some p => nI p
def pu_freeS (V : pu_Vw) (d h bits p : Nat) : Bool := (V.who d).testBit p && !bits.testBit p && decide (V.come p ≤ h) && decide (h < V.til p)
def pu_take1 (V : pu_Vw) (p : Nat) : Option Nat → Option Nat
  | none => some p
  | some b => if V.price p < V.price b then some p else some b
def pu_pick1 (V : pu_Vw) (d h bits p : Nat) (best : Option Nat) : Option Nat := if pu_freeS V d h bits p = true then pu_take1 V p best else best
def pu_pickS (V : pu_Vw) (d h bits : Nat) : Option Nat := pu_fo 8 (pu_pick1 V d h bits) none
theorem pu_pickS_P {V : pu_Vw} {d h bits : Nat} : ∀ i, i ≤ 8 → ∀ p, pu_fo i (pu_pick1 V d h bits) none = some p → p < i ∧ pu_freeS V d h bits p = true := by
  intro i hi
  refine pu_fo_P (N := 8) (fun i a => ∀ p, a = some p → p < i ∧ pu_freeS V d h bits p = true) (by simp) (fun i a _ hq p hp => ?_) i hi
  unfold pu_pick1 at hp
  by_cases q : pu_freeS V d h bits i = true
  · rw [if_pos q] at hp
    cases a with
    | none => cases hp; exact ⟨by omega, q⟩
    | some b =>
      unfold pu_take1 at hp
      dsimp only at hp
      by_cases z : V.price i < V.price b
      · rw [if_pos z] at hp; cases hp; exact ⟨by omega, q⟩
      · rw [if_neg z] at hp; cases hp; have := hq _ rfl; exact ⟨by omega, this.2⟩
  · rw [if_neg q] at hp
    have := hq p hp
    exact ⟨by omega, this.2⟩
/-! PURE: who comes -/
theorem pu_oI_m1 {α : Sort _} {o : Option Nat} {i : Decidable (pu_oI o = -nI 1)} {x y : α} (h : ∀ p, o = some p → p < 100000) : @ite α (pu_oI o = -nI 1) i x y = if o = none then x else y := by
  cases o with
  | none => rw [if_pos (show pu_oI none = -nI 1 from rfl), if_pos rfl]
  | some p => rw [if_neg (show ¬ pu_oI (some p) = -nI 1 from pu_nI_m1 (by have := h p rfl; omega)), if_neg (by simp)]
theorem pu_pick41 {I : St} {V : pu_Vw} {d x bits : Nat} (h : pu_MV I V) (o : pu_VOk V) (hd : d < V.n) (hx : x < 8) (hb : bits < 2147483648) (k30 : Int32 → Int32 → Int32 → Int32 → Option Int32) (x4 : Int32) :
    mo_comesOf_l41 I k30 FU (nI d) (nI x) (nI bits) x4 (-nI 1) (nI 0) = match pu_pickS V d x bits with
      | none => some (-nI 3)
      | some p => k30 (nI d) (nI x) (nI (bits ||| 2 ^ p)) (x4 + (-nI 1)) := by
  have h8 := o.n8
  have hw := o.who d hd
  unfold mo_comesOf_l41
  refine pu_lp_for (call := fun (t : Int32 → Int32 → Int32 → Int32 → Int32 → Int32 → Option Int32) i a => t (nI d) (nI x) (nI bits) x4 (pu_oI a) (nI i)) (P := fun i a => ∀ p, a = some p → p < i) (f := pu_pick1 V d x bits) (K := fun a => match a with
      | none => some (-nI 3)
      | some p => k30 (nI d) (nI x) (nI (bits ||| 2 ^ p)) (x4 + (-nI 1))) 8 ?_ ?_ ?_ (a := none) (by simp) FU (by decide)
  · intro t a ha
    unfold mo_comesOf_b41
    simp only [pu_lit]
    rw [pu_ile_t (by omega) (by omega), pu_oI_m1 (fun p hp => by have := ha p hp; omega)]
    cases a with
    | none => rfl
    | some p =>
      have := ha p rfl
      rw [if_neg (by simp), pu_lt_s]
      show k30 _ _ (nI bits ||| nI 1 <<< (nI p &&& nI 31)) _ = _
      rw [pu_nI_31 (by omega), pu_nI_one (by omega), pu_nI_or]
  · intro t i a hi ha
    have hp := o.price i hi
    have hc := o.come i hi
    have ht := o.til i hi
    have e98 : ∀ b : Bool, mo_comesOf_b98 I k30 t (nI d) (nI x) (nI bits) x4 (pu_oI a) (nI i) (pu_bI b) = t (nI d) (nI x) (nI bits) x4 (pu_oI (if b = true then pu_take1 V i a else a)) (nI (i + 1)) := by
      intro b
      unfold mo_comesOf_b98 mo_comesOf_b135
      simp only [pu_lit]
      rw [pu_bI0, pu_nI_add]
      cases b with
      | false => rfl
      | true =>
        rw [if_pos rfl, pu_oI_m1 (fun p hp => by have := ha p hp; omega)]
        cases a with
        | none => rfl
        | some q =>
          have hq := ha q rfl
          have hpq := o.price q (by omega)
          rw [if_neg (by simp), pu_al_n hi (by omega)]
          show al_ 8 (I 14) (nI q) _ = _
          rw [pu_al_n (by omega) (by omega), h.price i hi, h.price q (by omega)]
          by_cases z : V.price i < V.price q
          · rw [pu_ile_f z (by omega), if_pos rfl]
            simp only [pu_take1, z, if_true]
            rfl
          · rw [pu_ile_t (by omega) (by omega), if_pos rfl]
            simp only [pu_take1, z, if_false]
    have e0 := e98 false
    have e1 := e98 true
    unfold mo_comesOf_b41
    simp only [pu_lit]
    rw [pu_ile_f (by omega) (by omega), pu_al_n (by omega) (by omega), h.who d hd, pu_isIn_n (by omega) (by omega), pu_bd_s, pu_bI0, pu_isIn_n hb (by omega), pu_bd_s, pu_bI0, pu_al_n hi (by omega), pu_al_n hi (by omega), h.come i hi, h.til i hi]
    unfold pu_pick1 pu_freeS
    rw [show nI 0 = pu_bI false from rfl, show nI 1 = pu_bI true from rfl, e0, e1]
    by_cases q1 : (V.who d).testBit i = true <;> by_cases q2 : bits.testBit i = true <;> simp [q1, q2]
    by_cases q3 : V.come i ≤ x
    · rw [pu_ilt_f (by omega) (by omega)]
      by_cases q4 : x < V.til i
      · rw [pu_ile_f (by omega) (by omega)]
        simp [q3, q4]
      · rw [pu_ile_t (by omega) (by omega)]
        simp [q3, q4]
    · rw [pu_ilt_t (by omega) (by omega)]
      simp [q3]
  · intro i a hi ha p hp
    unfold pu_pick1 at hp
    by_cases q : pu_freeS V d x bits i = true
    · rw [if_pos q] at hp
      cases a with
      | none => cases hp; omega
      | some b =>
        unfold pu_take1 at hp
        dsimp only at hp
        by_cases z : V.price i < V.price b
        · rw [if_pos z] at hp; cases hp; omega
        · rw [if_neg z] at hp; cases hp; have := ha _ rfl; omega
    · rw [if_neg q] at hp
      have := ha p hp
      omega
theorem pu_comesP_n {C : St} {V : pu_Vw} {x p : Nat} (h : pu_CV C V) (o : pu_VOk V) (hp : p < 8) (hx : x < 8) : cfP_comes C p (nI x) = some (pu_bI (decide (V.come p ≤ x) && decide (x < V.til p))) := by
  have hc := o.come p hp
  have ht := o.til p hp
  unfold cfP_comes
  simp only [pu_lit]
  rw [pu_gd_t hp, pu_al_n (by omega) (by omega), pu_al_n (by omega) (by omega), h.come p hp, h.til p hp]
  by_cases q3 : V.come p ≤ x
  · rw [pu_ilt_f (by omega) (by omega)]
    by_cases q4 : x < V.til p
    · rw [pu_ile_f (by omega) (by omega)]
      simp [q3, q4, pu_bI]
    · rw [pu_ile_t (by omega) (by omega)]
      simp [q3, q4, pu_bI]
  · rw [pu_ilt_t (by omega) (by omega)]
    simp [q3, pu_bI]
theorem pu_pick20 {C : St} {V : pu_Vw} {d x bits : Nat} (h : pu_CV C V) (o : pu_VOk V) (hd : d < V.n) (hx : x < 8) (hb : bits < 2147483648) (k30 : Nat → Int32 → Int32 → Int32 → Option Int32) (x4 : Int32) :
    cf_comers_l20 C k30 FU d (nI x) (nI bits) x4 (-nI 1) (nI 0) = match pu_pickS V d x bits with
      | none => k30 d (nI x) (nI bits) (x4 + (-nI 1))
      | some p => k30 d (nI x) (nI (bits ||| 2 ^ p)) (x4 + (-nI 1)) := by
  have h8 := o.n8
  have hw := o.who d hd
  unfold cf_comers_l20
  refine pu_lp_for (call := fun (t : Nat → Int32 → Int32 → Int32 → Int32 → Int32 → Option Int32) i a => t d (nI x) (nI bits) x4 (pu_oI a) (nI i)) (P := fun i a => ∀ p, a = some p → p < i) (f := pu_pick1 V d x bits) (K := fun a => match a with
      | none => k30 d (nI x) (nI bits) (x4 + (-nI 1))
      | some p => k30 d (nI x) (nI (bits ||| 2 ^ p)) (x4 + (-nI 1))) 8 ?_ ?_ ?_ (a := none) (by simp) FU (by decide)
  · intro t a ha
    unfold cf_comers_b20 cf_comers_b132
    simp only [pu_lit]
    rw [pu_ile_t (by omega) (by omega), pu_oI_m1 (fun p hp => by have := ha p hp; omega)]
    cases a with
    | none =>
      rw [if_pos rfl, pu_lt_s, pu_nI_or, Nat.or_zero]
    | some p =>
      have := ha p rfl
      rw [if_neg (by simp), pu_lt_s]
      show k30 _ _ (nI bits ||| nI 1 <<< (nI p &&& nI 31)) _ = _
      rw [pu_nI_31 (by omega), pu_nI_one (by omega), pu_nI_or]
  · intro t i a hi ha
    have hp := o.price i hi
    have hc := o.come i hi
    have ht := o.til i hi
    have e98 : ∀ b : Bool, cf_comers_b67 C k30 t d (nI x) (nI bits) x4 (pu_oI a) (nI i) (pu_bI b) = t d (nI x) (nI bits) x4 (pu_oI (if b = true then pu_take1 V i a else a)) (nI (i + 1)) := by
      intro b
      unfold cf_comers_b67 cf_comers_b111 cf_comers_b107 cf_comers_b111
      simp only [pu_lit]
      rw [pu_bI0, pu_nI_add]
      cases b with
      | false => rfl
      | true =>
        rw [if_pos rfl, pu_oI_m1 (fun p hp => by have := ha p hp; omega)]
        cases a with
        | none => rfl
        | some q =>
          have hq := ha q rfl
          have hpq := o.price q (by omega)
          rw [if_neg (by simp), pu_ix_n hi (by omega), pu_al_n (by omega) (by omega)]
          show ix_ 8 (nI q) _ = _
          rw [pu_ix_n (by omega) (by omega), pu_al_n (by omega) (by omega), h.price i hi, h.price q (by omega)]
          by_cases z : V.price i < V.price q
          · rw [pu_ile_f z (by omega), if_pos rfl]
            simp only [pu_take1, z, if_true]
            rfl
          · rw [pu_ile_t (by omega) (by omega), if_pos rfl]
            simp only [pu_take1, z, if_false]
    have e0 := e98 false
    have e1 := e98 true
    unfold cf_comers_b20
    simp only [pu_lit]
    rw [pu_ile_f (by omega) (by omega), h.nn o, pu_fx_n hd, h.who d hd, pu_isInC_n (by omega) (by omega), pu_bd_s, pu_bI0, pu_isInC_n hb (by omega), pu_bd_s, pu_bI0, pu_ix_n hi (by omega), pu_comesP_n h o hi hx, pu_bd_s, pu_bI0]
    unfold pu_pick1 pu_freeS
    rw [show nI 0 = pu_bI false from rfl, show nI 1 = pu_bI true from rfl, e0, e1]
    by_cases q1 : (V.who d).testBit i = true <;> by_cases q2 : bits.testBit i = true <;> simp [q1, q2]
    split <;> rfl
  · intro i a hi ha p hp
    unfold pu_pick1 at hp
    by_cases q : pu_freeS V d x bits i = true
    · rw [if_pos q] at hp
      cases a with
      | none => cases hp; omega
      | some b =>
        unfold pu_take1 at hp
        dsimp only at hp
        by_cases z : V.price i < V.price b
        · rw [if_pos z] at hp; cases hp; omega
        · rw [if_neg z] at hp; cases hp; have := ha _ rfl; omega
    · rw [if_neg q] at hp
      have := ha p hp
      omega
/-- what may be refused -/
def pu_oN : Option Nat → Int32
  | none => -nI 3
  | some b => nI b
def pu_goS (V : pu_Vw) (d h : Nat) : Nat → Nat → Option Nat
  | 0, bits => some bits
  | k + 1, bits => match pu_pickS V d h bits with
    | none => none
    | some p => pu_goS V d h k (bits ||| 2 ^ p)
def pu_comersS (V : pu_Vw) (d h : Nat) : Nat → Nat → Nat
  | 0, bits => bits
  | k + 1, bits => match pu_pickS V d h bits with
    | none => pu_comersS V d h k bits
    | some p => pu_comersS V d h k (bits ||| 2 ^ p)
theorem pu_or_lt {a p : Nat} (ha : a < 256) (hp : p < 8) : a ||| 2 ^ p < 256 := Nat.or_lt_two_pow (n := 8) ha (Nat.pow_lt_pow_right (by omega) hp)
theorem pu_pick_lt {V : pu_Vw} {d x bits p : Nat} (h : pu_pickS V d x bits = some p) : p < 8 := (pu_pickS_P 8 (by omega) p h).1
theorem pu_come30 {I : St} {V : pu_Vw} {d x : Nat} (h : pu_MV I V) (o : pu_VOk V) (hd : d < V.n) (hx : x < 8) : ∀ m n, m < n → m < 2147483648 → ∀ bits, bits < 256 → mo_comesOf_l30 I n (nI d) (nI x) (nI bits) (nI m) = some (pu_oN (pu_goS V d x m bits)) := by
  intro m n hmn
  unfold mo_comesOf_l30
  refine pu_lp_up (fun m (t : Int32 → Int32 → Int32 → Int32 → Option Int32) => m < 2147483648 → ∀ bits, bits < 256 → t (nI d) (nI x) (nI bits) (nI m) = some (pu_oN (pu_goS V d x m bits))) ?_ ?_ m n hmn
  · intro t _ bits hb
    unfold mo_comesOf_b30
    simp only [pu_lit]
    rw [pu_ile_t (by omega) (by omega)]
    rfl
  · intro m t ih hm bits hb
    unfold mo_comesOf_b30
    simp only [pu_lit]
    rw [pu_ile_f (by omega) (by omega), pu_pick41 h o hd hx (by omega)]
    unfold pu_goS
    cases e : pu_pickS V d x bits with
    | none => rfl
    | some p =>
      dsimp only
      rw [pu_nI_dec (by omega)]
      exact ih (by omega) _ (pu_or_lt hb (pu_pick_lt e))
theorem pu_come9 {C : St} {V : pu_Vw} {d x : Nat} (h : pu_CV C V) (o : pu_VOk V) (hd : d < V.n) (hx : x < 8) : ∀ m n, m < n → m < 2147483648 → ∀ bits, bits < 256 → cf_comers_l9 C n d (nI x) (nI bits) (nI m) = some (nI (pu_comersS V d x m bits)) := by
  intro m n hmn
  unfold cf_comers_l9
  refine pu_lp_up (fun m (t : Nat → Int32 → Int32 → Int32 → Option Int32) => m < 2147483648 → ∀ bits, bits < 256 → t d (nI x) (nI bits) (nI m) = some (nI (pu_comersS V d x m bits))) ?_ ?_ m n hmn
  · intro t _ bits hb
    unfold cf_comers_b9
    simp only [pu_lit]
    rw [pu_ile_t (by omega) (by omega)]
    rfl
  · intro m t ih hm bits hb
    unfold cf_comers_b9
    simp only [pu_lit]
    rw [pu_ile_f (by omega) (by omega), pu_pick20 h o hd hx (by omega)]
    unfold pu_comersS
    cases e : pu_pickS V d x bits with
    | none =>
      dsimp only
      rw [pu_nI_dec (by omega)]
      exact ih (by omega) _ hb
    | some p =>
      dsimp only
      rw [pu_nI_dec (by omega)]
      exact ih (by omega) _ (pu_or_lt hb (pu_pick_lt e))
theorem pu_comers_n {C : St} {V : pu_Vw} {d x : Nat} (h : pu_CV C V) (o : pu_VOk V) (hd : d < V.n) (hx : x < 8) : cf_comers C d (nI x) = some (nI (pu_comersS V d x (pu_needS V d) 0)) := by
  have := pu_needS_le o hd
  unfold cf_comers
  rw [pu_needed_n h o hd, pu_bd_s]
  exact pu_come9 h o hd hx _ _ (by rw [pu_FU_e]; omega) (by omega) 0 (by omega)
def pu_comesS (V : pu_Vw) (d h : Nat) : Option Nat := if (pu_turnS V d h && decide (V.set 1 = 0)) = true then none else pu_goS V d h (pu_needS V d) 0
theorem pu_comes_n {I : St} {V : pu_Vw} {d x : Nat} (h : pu_MV I V) (o : pu_VOk V) (hd : d < V.n) (hx : x < 8) : mo_comesOf I (nI d) (nI x) = some (pu_oN (pu_comesS V d x)) := by
  have h4 := pu_needS_le o hd
  have h1 := o.set1
  have e : mo_comesOf_b21 I (nI d) (nI x) = some (pu_oN (pu_goS V d x (pu_needS V d) 0)) := by
    unfold mo_comesOf_b21
    rw [pu_needs_n h o hd, pu_bd_s]
    exact pu_come30 h o hd hx _ _ (by rw [pu_FU_e]; omega) (by omega) 0 (by omega)
  unfold mo_comesOf pu_comesS
  simp only [pu_lit]
  rw [pu_turned_n h o hd hx, pu_bd_s, pu_bI0, pu_al_n (by omega) (by omega), h.set 1 (by omega), e]
  by_cases q : pu_turnS V d x = true
  · by_cases z : V.set 1 = 0
    · rw [pu_ieq_t z]; simp [q, z, pu_oN]
    · rw [pu_ieq_f z (by omega) (by omega)]; simp [q, z]
  · simp [q]
/-! PURE: whether it can be, prices, hours -/
theorem pu_pc_or {b p : Nat} (hb : b < 256) (hp : p < 8) (h : b.testBit p = false) : pu_pc (b ||| 2 ^ p) = pu_pc b + 1 := by
  have : ∀ b, b < 256 → ∀ p, p < 8 → b.testBit p = false → pu_pc (b ||| 2 ^ p) = pu_pc b + 1 := by decide +kernel
  exact this b hb p hp h
theorem pu_goS_eq {V : pu_Vw} {d x : Nat} : ∀ k bits, bits < 256 → pu_comersS V d x k bits < 256 ∧ pu_pc (pu_comersS V d x k bits) ≤ pu_pc bits + k ∧ pu_goS V d x k bits = if pu_pc (pu_comersS V d x k bits) = pu_pc bits + k then some (pu_comersS V d x k bits) else none := by
  intro k
  induction k with
  | zero => intro bits hb; exact ⟨hb, Nat.le_refl _, (if_pos rfl).symm⟩
  | succ k ih =>
    intro bits hb
    unfold pu_comersS pu_goS
    cases e : pu_pickS V d x bits with
    | none =>
      dsimp only
      have := ih bits hb
      exact ⟨this.1, by omega, (if_neg (by omega)).symm⟩
    | some p =>
      dsimp only
      have hp := pu_pickS_P 8 (by omega) p e
      have hf : bits.testBit p = false := by
        have := hp.2
        unfold pu_freeS at this
        simp only [Bool.and_eq_true, Bool.not_eq_true'] at this
        exact this.1.1.2
      have := ih _ (pu_or_lt hb hp.1)
      rw [pu_pc_or hb hp.1 hf] at this
      refine ⟨this.1, by omega, ?_⟩
      rw [this.2.2]
      congr 2
      omega
def pu_comeS (V : pu_Vw) (d h : Nat) : Nat := pu_comersS V d h (pu_needS V d) 0
theorem pu_comeS_lt (V : pu_Vw) (d h : Nat) : pu_comeS V d h < 256 := (pu_goS_eq _ 0 (by omega)).1
def pu_canS (V : pu_Vw) (d h : Nat) : Bool := decide (pu_pc (pu_comeS V d h) = pu_needS V d) && !(pu_turnS V d h && decide (V.set 1 = 0))
theorem pu_comesS_eq (V : pu_Vw) (d h : Nat) : pu_comesS V d h = if pu_canS V d h = true then some (pu_comeS V d h) else none := by
  unfold pu_comesS pu_canS
  have := (pu_goS_eq (V := V) (d := d) (x := h) (pu_needS V d) 0 (by omega)).2.2
  rw [show pu_pc 0 = 0 from rfl, Nat.zero_add] at this
  rw [this]
  show _ = ite ((decide (pu_pc (pu_comersS V d h (pu_needS V d) 0) = pu_needS V d) && _) = true) (some (pu_comersS V d h (pu_needS V d) 0)) none
  cases (pu_turnS V d h && decide (V.set 1 = 0))
  · by_cases q : pu_pc (pu_comersS V d h (pu_needS V d) 0) = pu_needS V d
    · simp [q]
    · simp [q]
  · simp
theorem pu_oN_3 {α : Sort _} {V : pu_Vw} {d h : Nat} {i : Decidable (pu_oN (pu_comesS V d h) = -nI 3)} {x y : α} : @ite α (pu_oN (pu_comesS V d h) = -nI 3) i x y = if pu_canS V d h = true then y else x := by
  have := pu_comeS_lt V d h
  have e := pu_comesS_eq V d h
  by_cases q : pu_canS V d h = true
  · rw [if_pos q] at e
    rw [if_neg (by rw [e]; exact pu_nI_m3 (by omega)), if_pos q]
  · rw [if_neg q] at e
    rw [if_pos (by rw [e]; rfl), if_neg q]
theorem pu_oN_some {V : pu_Vw} {d h : Nat} (q : pu_canS V d h = true) : pu_oN (pu_comesS V d h) = nI (pu_comeS V d h) := by rw [pu_comesS_eq, if_pos q]; rfl
theorem pu_oN_none {V : pu_Vw} {d h : Nat} (q : ¬ pu_canS V d h = true) : pu_oN (pu_comesS V d h) = -nI 3 := by rw [pu_comesS_eq, if_neg q]; rfl
theorem pu_comersC_n {C : St} {V : pu_Vw} {d x : Nat} (h : pu_CV C V) (o : pu_VOk V) (hd : d < V.n) (hx : x < 8) : cf_comers C d (nI x) = some (nI (pu_comeS V d x)) := pu_comers_n h o hd hx
theorem pu_canOf_n {I : St} {V : pu_Vw} {d x : Nat} (h : pu_MV I V) (o : pu_VOk V) (hd : d < V.n) (hx : x < 8) : mo_canOf I (nI d) (nI x) = some (pu_bI (pu_canS V d x)) := by
  unfold mo_canOf
  simp only [pu_lit]
  rw [pu_comes_n h o hd hx, pu_bd_s, pu_oN_3]
  cases pu_canS V d x <;> rfl
theorem pu_canBe_n {C : St} {V : pu_Vw} {d x : Nat} (h : pu_CV C V) (o : pu_VOk V) (hd : d < V.n) (hx : x < 8) : cf_canBe C d (nI x) = some (pu_bI (pu_canS V d x)) := by
  have h1 := pu_comeS_lt V d x
  have h2 := pu_needS_le o hd
  have h3 := pu_pc_le (pu_comeS V d x)
  have h4 := o.set1
  unfold cf_canBe pu_canS
  simp only [pu_lit]
  rw [pu_comersC_n h o hd hx, pu_bd_s, pu_bitCount_n (by omega), pu_bd_s, pu_needed_n h o hd, pu_bd_s, pu_turnedC_n h o hd hx, pu_bd_s, pu_bI0, pu_al_n (by omega) (by omega), h.set 1 (by omega)]
  by_cases q : pu_pc (pu_comeS V d x) = pu_needS V d
  · rw [pu_ieq_t q, decide_eq_true q]
    cases pu_turnS V d x
    · rfl
    · rw [if_pos rfl, pu_s_bI]
      congr 2
      by_cases z : V.set 1 = 0
      · rw [z]; rfl
      · rw [show V.set 1 = 1 by omega]; rfl
  · rw [pu_ieq_f q (by omega) (by omega), decide_eq_false q]; rfl
theorem pu_deed2_n {C : St} {V : pu_Vw} {d : Nat} (h : pu_CV C V) (o : pu_VOk V) (hd : d < V.n) : cf_deed_2 C (nI d) = some d := by
  have h8 := o.n8
  unfold cf_deed_2 cfL_get cfL_elementData cjo_checkIndex cjp_checkIndex
  simp only [pu_lit]
  rw [pu_gd_t (by omega), show 50 + 0 = 50 from rfl, h.n, pu_ilt_f (by omega) (by omega), pu_ilt_t hd (by omega), pu_bd_s, pu_bd_s, pu_gd_t (by omega), h.nn o, pu_ix_n hd (by omega), pu_bd_s, pu_bd_s, pu_gd_t hd]
theorem pu_deeds_n {C : St} {V : pu_Vw} (h : pu_CV C V) : cf_deeds C = some (nI V.n) := by
  unfold cf_deeds cfT_read cfT_read_b15 cfL_size
  simp only [pu_lit]
  have f0 : C (40 + 0) 3 = nI 1 := h.f0
  have f1 : C (40 + 1) 3 = nI 1 := h.f1
  rw [pu_gd_t (by omega), f0, pu_ieq_f (by omega) (by omega) (by omega), pu_gd_t (by omega), pu_gd_t rfl, pu_bd_s, pu_gd_t (by omega), f1, pu_ieq_f (by omega) (by omega) (by omega), pu_gd_t (by omega), pu_gd_t rfl, pu_bd_s, pu_gd_t (by omega)]
  show some (C 50 2) = _
  rw [h.n]
def pu_priceS (V : pu_Vw) (b : Nat) : Nat := pu_fo 8 (fun p s => s + if b.testBit p = true then V.price p else 0) 0
theorem pu_priceS_le {V : pu_Vw} (o : pu_VOk V) (b : Nat) : pu_priceS V b ≤ 792 := by
  unfold pu_priceS
  refine pu_fo_P (N := 8) (fun i a => a ≤ 99 * i) (by omega) (fun i a hi h => ?_) 8 (by omega)
  have := o.price i hi
  by_cases q : b.testBit i = true
  · rw [if_pos q]; omega
  · rw [if_neg q]; omega
theorem pu_prices_n {I : St} {V : pu_Vw} {b : Nat} (h : pu_MV I V) (o : pu_VOk V) (hb : b < 2147483648) : mo_pricesOf I (nI b) = some (nI (pu_priceS V b)) := by
  unfold mo_pricesOf mo_pricesOf_l4
  refine pu_lp_for (call := fun (t : Int32 → Int32 → Int32 → Option Int32) i a => t (nI b) (nI a) (nI i)) (P := fun _ _ => True) (f := fun p s => s + if b.testBit p = true then V.price p else 0) (K := fun a => some (nI a)) 8 ?_ ?_ (fun _ _ _ _ => trivial) (a := 0) trivial FU (by decide)
  · intro t a _
    unfold mo_pricesOf_b4
    exact if_pos (by decide)
  · intro t i a hi _
    unfold mo_pricesOf_b4 mo_pricesOf_b29
    simp only [pu_lit]
    rw [pu_ile_f (by omega) (by omega), pu_isIn_n hb (by omega), pu_bd_s, pu_bI0, pu_al_n hi (by omega), h.price i hi, pu_lt_s, pu_lt_s, pu_nI_add, pu_nI_add, pu_nI_add]
    cases b.testBit i <;> rfl
theorem pu_pricesC_n {C : St} {V : pu_Vw} {b : Nat} (h : pu_CV C V) (o : pu_VOk V) (hb : b < 2147483648) : cf_prices C (nI b) = some (nI (pu_priceS V b)) := by
  unfold cf_prices cf_prices_l4
  refine pu_lp_for (call := fun (t : Int32 → Int32 → Int32 → Option Int32) i a => t (nI b) (nI a) (nI i)) (P := fun _ _ => True) (f := fun p s => s + if b.testBit p = true then V.price p else 0) (K := fun a => some (nI a)) 8 ?_ ?_ (fun _ _ _ _ => trivial) (a := 0) trivial FU (by decide)
  · intro t a _
    unfold cf_prices_b4
    exact if_pos (by decide)
  · intro t i a hi _
    unfold cf_prices_b4 cf_prices_b34
    simp only [pu_lit]
    rw [pu_ile_f (by omega) (by omega), pu_isInC_n hb (by omega), pu_bd_s, pu_bI0, pu_ix_n hi (by omega), pu_al_n (by omega) (by omega), h.price i hi, pu_lt_s, pu_lt_s, pu_nI_add, pu_nI_add, pu_nI_add]
    cases b.testBit i <;> rfl
def pu_costsS (V : pu_Vw) (d h : Nat) : Int32 := if pu_canS V d h = true then nI (pu_priceS V (pu_comeS V d h) + if pu_turnS V d h = true then V.set 0 else 0) else -nI 3
theorem pu_costs_n {I : St} {V : pu_Vw} {d x : Nat} (h : pu_MV I V) (o : pu_VOk V) (hd : d < V.n) (hx : x < 8) : mo_costsOf I (nI d) (nI x) = some (pu_costsS V d x) := by
  have h1 := pu_comeS_lt V d x
  unfold mo_costsOf mo_costsOf_b42 pu_costsS
  simp only [pu_lit]
  rw [pu_comes_n h o hd hx, pu_bd_s, pu_oN_3]
  by_cases q : pu_canS V d x = true
  · rw [if_pos q, if_pos q, pu_oN_some q, pu_prices_n h o (by omega), pu_bd_s, pu_turned_n h o hd hx, pu_bd_s, pu_bI0, pu_al_n (by omega) (by omega), h.set 0 (by omega), pu_nI_add, pu_nI_add]
    cases pu_turnS V d x <;> rfl
  · rw [if_neg q, if_neg q]
theorem pu_costsC_n {C : St} {V : pu_Vw} {d x : Nat} (h : pu_CV C V) (o : pu_VOk V) (hd : d < V.n) (hx : x < 8) : cf_costsOf C (nI d) (nI x) = some (pu_costsS V d x) := by
  have h1 := pu_comeS_lt V d x
  unfold cf_costsOf cf_costsOf_b44 pu_costsS
  simp only [pu_lit]
  rw [pu_deed2_n h o hd, pu_bd_s, pu_canBe_n h o hd hx, pu_bd_s, pu_bI0]
  by_cases q : pu_canS V d x = true
  · rw [if_pos q, if_pos q, pu_comersC_n h o hd hx, pu_bd_s, pu_pricesC_n h o (by omega), pu_bd_s, pu_turnedC_n h o hd hx, pu_bd_s, pu_bI0, pu_al_n (by omega) (by omega), h.set 0 (by omega), pu_nI_add, pu_nI_add]
    cases pu_turnS V d x <;> rfl
  · rw [if_neg q, if_neg q]
def pu_hoursS (V : pu_Vw) (d : Nat) : Nat := pu_fo 8 (fun h b => b ||| if pu_canS V d h = true then 2 ^ h else 0) 0
theorem pu_hours_n {I : St} {V : pu_Vw} {d : Nat} (h : pu_MV I V) (o : pu_VOk V) (hd : d < V.n) : mo_hoursOf I (nI d) = some (nI (pu_hoursS V d)) := by
  unfold mo_hoursOf mo_hoursOf_l4
  refine pu_lp_for (call := fun (t : Int32 → Int32 → Int32 → Option Int32) i a => t (nI d) (nI a) (nI i)) (P := fun _ _ => True) (f := fun h b => b ||| if pu_canS V d h = true then 2 ^ h else 0) (K := fun a => some (nI a)) 8 ?_ ?_ (fun _ _ _ _ => trivial) (a := 0) trivial FU (by decide)
  · intro t a _
    unfold mo_hoursOf_b4
    exact if_pos (by decide)
  · intro t i a hi _
    unfold mo_hoursOf_b4
    simp only [pu_lit]
    rw [pu_ile_f (by omega) (by omega), pu_canOf_n h o hd hi, pu_bd_s, pu_lt_s, pu_nI_add, pu_nI_31 (by omega)]
    cases pu_canS V d i
    · have : pu_bI false <<< nI i = nI 0 := by
        have : ∀ i, i < 8 → pu_bI false <<< nI i = nI 0 := by decide
        exact this i hi
      rw [this, pu_nI_or]; rfl
    · show t _ (nI a ||| nI 1 <<< nI i) _ = _
      rw [pu_nI_one (by omega), pu_nI_or]; rfl
theorem pu_hoursC_n {C : St} {V : pu_Vw} {d : Nat} (h : pu_CV C V) (o : pu_VOk V) (hd : d < V.n) : cf_hoursOf C (nI d) = some (nI (pu_hoursS V d)) := by
  unfold cf_hoursOf cf_hoursOf_l4
  refine pu_lp_for (call := fun (t : Int32 → Int32 → Int32 → Option Int32) i a => t (nI d) (nI a) (nI i)) (P := fun _ _ => True) (f := fun h b => b ||| if pu_canS V d h = true then 2 ^ h else 0) (K := fun a => some (nI a)) 8 ?_ ?_ (fun _ _ _ _ => trivial) (a := 0) trivial FU (by decide)
  · intro t a _
    unfold cf_hoursOf_b4
    exact if_pos (by decide)
  · intro t i a hi _
    unfold cf_hoursOf_b4 cf_hoursOf_b31
    simp only [pu_lit]
    rw [pu_ile_f (by omega) (by omega), pu_deed2_n h o hd, pu_bd_s, pu_canBe_n h o hd hi, pu_bd_s, pu_bI0, pu_lt_s, pu_lt_s, pu_nI_add, pu_nI_31 (by omega), pu_nI_one (by omega), pu_nI_or, pu_nI_or]
    cases pu_canS V d i <;> rfl
/-! PURE: what deeds cost together -/
/-- loops that may end early -/
def pu_foX {α : Type} : Nat → (Nat → α → Option α) → α → Option α
  | 0, _, a => some a
  | n + 1, f, a => match pu_foX n f a with
    | none => none
    | some b => f n b
theorem pu_foX_none {α : Type} {f : Nat → α → Option α} {a : α} {i : Nat} (h : pu_foX i f a = none) : ∀ k, pu_foX (i + k) f a = none
  | 0 => h
  | k + 1 => by
    show (match pu_foX (i + k) f a with
      | none => none
      | some b => f (i + k) b) = none
    rw [pu_foX_none h k]
theorem pu_lp_forX {T α R : Type} {dead : T} {b : T → T} (call : T → Nat → α → R) (P : Nat → α → Prop) (f : Nat → α → Option α) (K : α → R) (R0 : R) (N : Nat)
    (h0 : ∀ t a, P N a → call (b t) N a = K a) (pu_hs : ∀ t i a, i < N → P i a → call (b t) i a = match f i a with
      | some a' => call t (i + 1) a'
      | none => R0) (hP : ∀ i a a', i < N → P i a → f i a = some a' → P (i + 1) a') {a : α} (ha : P 0 a) (n : Nat) (hn : N < n) :
    call (lp dead b n) 0 a = match pu_foX N f a with
      | some a' => K a'
      | none => R0 := by
  have key : ∀ m n, m < n → ∀ i c, i + m = N → pu_foX i f a = some c → P i c → call (lp dead b n) i c = match pu_foX N f a with
      | some a' => K a'
      | none => R0 := by
    intro m n hmn
    refine pu_lp_up (fun m t => ∀ i c, i + m = N → pu_foX i f a = some c → P i c → call t i c = match pu_foX N f a with
      | some a' => K a'
      | none => R0) ?_ ?_ m n hmn
    · intro t i c hi hc hp
      have : i = N := by omega
      subst this
      rw [hc, h0 t _ hp]
    · intro m t ih i c hi hc hp
      rw [pu_hs t i _ (by omega) hp]
      have e : pu_foX (i + 1) f a = f i c := by
        show (match pu_foX i f a with
          | none => none
          | some b => f i b) = _
        rw [hc]
      cases q : f i c with
      | none =>
        have := pu_foX_none (e.trans q) m
        rw [show i + 1 + m = N by omega] at this
        rw [this]
      | some a' => exact ih (i + 1) a' (by omega) (e.trans q) (hP i c a' (by omega) hp q)
  exact key N n hn 0 a (by omega) rfl ha
/-- whether all below n do -/
def pu_allS : Nat → (Nat → Bool) → Bool
  | 0, _ => true
  | n + 1, p => pu_allS n p && p n
theorem pu_allS_iff {p : Nat → Bool} : ∀ n, pu_allS n p = true ↔ ∀ i, i < n → p i = true
  | 0 => by simp [pu_allS]
  | n + 1 => by
    simp only [pu_allS, Bool.and_eq_true, pu_allS_iff n]
    constructor
    · intro h i hi
      rcases (show i < n ∨ i = n by omega) with q | q
      · exact h.1 i q
      · rw [q]; exact h.2
    · intro h
      exact ⟨fun i hi => h i (by omega), h n (by omega)⟩
theorem pu_allS_congr {p q : Nat → Bool} (n : Nat) (h : ∀ i, i < n → p i = q i) : pu_allS n p = pu_allS n q := by
  rw [Bool.eq_iff_iff, pu_allS_iff, pu_allS_iff]
  exact ⟨fun z i hi => by rw [← h i hi]; exact z i hi, fun z i hi => by rw [h i hi]; exact z i hi⟩
theorem pu_foX_all (p : Nat → Bool) : ∀ n, pu_foX n (fun i (a : Unit) => if p i = true then some a else none) () = if pu_allS n p = true then some () else none
  | 0 => rfl
  | n + 1 => by
    unfold pu_foX pu_allS
    rw [pu_foX_all p n]
    cases pu_allS n p <;> cases e : p n <;> simp [e]
theorem pu_lp_all {T R : Type} {dead : T} {b : T → T} (call : T → Nat → R) (p : Nat → Bool) (K R0 : R) (N : Nat)
    (h0 : ∀ t, call (b t) N = K) (pu_hs : ∀ t i, i < N → call (b t) i = if p i = true then call t (i + 1) else R0) (n : Nat) (hn : N < n) : call (lp dead b n) 0 = if pu_allS N p = true then K else R0 := by
  have := pu_lp_forX (dead := dead) (b := b) (fun t i (_ : Unit) => call t i) (fun _ _ => True) (fun i a => if p i = true then some a else none) (fun _ => K) R0 N (fun t a _ => h0 t) (fun t i a hi _ => by
    rw [pu_hs t i hi]
    cases p i <;> rfl) (fun _ _ _ _ _ _ => trivial) (a := ()) trivial n hn
  rw [pu_foX_all] at this
  rw [this]
  cases pu_allS N p <;> rfl
def pu_placeC (V : pu_Vw) (d e : Nat) : Bool := decide (V.askP (V.kind d) = 1) && decide (V.askP (V.kind e) = 1) && decide (V.place d = V.place e)
def pu_skyC (V : pu_Vw) (d e : Nat) : Bool := decide (V.askR (V.kind d) = 1) && decide (V.askR (V.kind e) = 1) && decide (V.wet d ≠ V.wet e)
def pu_meetS (V : pu_Vw) (h d e : Nat) : Bool := decide (pu_comeS V d h &&& pu_comeS V e h = 0) && !pu_placeC V d e && !pu_skyC V d e
theorem pu_goTog_n {C : St} {V : pu_Vw} {d e x : Nat} (h : pu_CV C V) (o : pu_VOk V) (hd : d < V.n) (he : e < V.n) (hx : x < 8) : cf_goTogether C d e (nI x) = some (pu_bI (pu_meetS V x d e)) := by
  have h1 := pu_comeS_lt V d x
  have h2 := pu_comeS_lt V e x
  have h3 := Nat.and_le_left (n := pu_comeS V d x) (m := pu_comeS V e x)
  have e89 : ∀ a b c : Bool, cf_goTogether_b89 C (pu_bI a) (pu_bI b) (pu_bI c) = some (pu_bI (a && !b && !c)) := by intro a b c; cases a <;> cases b <;> cases c <;> rfl
  have e55 : ∀ a b : Bool, cf_goTogether_b55 C d e (pu_bI a) (pu_bI b) = some (pu_bI (a && !b && !pu_skyC V d e)) := by
    intro a b
    have w1 := o.wet d hd
    have w2 := o.wet e he
    unfold cf_goTogether_b55 pu_skyC
    simp only [pu_lit]
    rw [pu_asksW_n h o hd, pu_bd_s, pu_bI0, pu_asksW_n h o he, pu_bd_s, pu_bI0, h.nn o, pu_fx_n hd, pu_fx_n he, h.wet d hd, h.wet e he, show nI 0 = pu_bI false from rfl, show nI 1 = pu_bI true from rfl, e89, e89]
    by_cases q : V.wet d = V.wet e
    · rw [pu_ieq_t q]
      by_cases q1 : V.askR (V.kind d) = 1 <;> by_cases q2 : V.askR (V.kind e) = 1 <;> simp [q1, q2, q]
    · rw [pu_ieq_f q (by omega) (by omega)]
      by_cases q1 : V.askR (V.kind d) = 1 <;> by_cases q2 : V.askR (V.kind e) = 1 <;> simp [q1, q2, q]
  have e21 : ∀ a : Bool, cf_goTogether_b21 C d e (pu_bI a) = some (pu_bI (a && !pu_placeC V d e && !pu_skyC V d e)) := by
    intro a
    have w1 := o.place d hd
    have w2 := o.place e he
    unfold cf_goTogether_b21 pu_placeC
    simp only [pu_lit]
    rw [pu_asksP_n h o hd, pu_bd_s, pu_bI0, pu_asksP_n h o he, pu_bd_s, pu_bI0, h.nn o, pu_fx_n hd, pu_fx_n he, h.place d hd, h.place e he, show nI 0 = pu_bI false from rfl, show nI 1 = pu_bI true from rfl, e55, e55]
    by_cases q : V.place d = V.place e
    · rw [pu_ieq_t q]
      by_cases q1 : V.askP (V.kind d) = 1 <;> by_cases q2 : V.askP (V.kind e) = 1 <;> simp [q1, q2, q]
    · rw [pu_ieq_f q (by omega) (by omega)]
      by_cases q1 : V.askP (V.kind d) = 1 <;> by_cases q2 : V.askP (V.kind e) = 1 <;> simp [q1, q2, q]
  unfold cf_goTogether pu_meetS
  simp only [pu_lit]
  rw [pu_comersC_n h o hd hx, pu_bd_s, pu_comersC_n h o he hx, pu_bd_s, pu_nI_and, show nI 1 = pu_bI true from rfl, e21, show cf_goTogether_b21 C d e (nI 0) = _ from e21 false]
  by_cases q : pu_comeS V d x &&& pu_comeS V e x = 0
  · rw [pu_ieq_t q, decide_eq_true q]
  · rw [pu_ieq_f q (by omega) (by omega), decide_eq_false q]
/-- one deed more -/
def pu_cost1 (V : pu_Vw) (set h d : Nat) (a : Nat × Bool) : Option (Nat × Bool) :=
  if set.testBit d = true then (if (pu_canS V d h && pu_allS d (fun e => !set.testBit e || pu_meetS V h d e)) = true then some (a.1 + pu_priceS V (pu_comeS V d h), a.2 || pu_turnS V d h) else none) else some a
def pu_costX (V : pu_Vw) (set h : Nat) : Option (Nat × Bool) := pu_foX V.n (pu_cost1 V set h) (0, false)
def pu_costN (V : pu_Vw) (set h : Nat) : Nat := match pu_costX V set h with
  | some a => a.1 + if a.2 = true then V.set 0 else 0
  | none => 1000000
theorem pu_foX_P {α : Type} {f : Nat → α → Option α} {a : α} {N : Nat} (P : Nat → α → Prop) (h0 : P 0 a) (hP : ∀ i a a', i < N → P i a → f i a = some a' → P (i + 1) a') : ∀ n, n ≤ N → ∀ c, pu_foX n f a = some c → P n c
  | 0, _, c, h => by cases h; exact h0
  | n + 1, hn, c, h => by
    unfold pu_foX at h
    cases e : pu_foX n f a with
    | none => rw [e] at h; cases h
    | some b =>
      rw [e] at h
      exact hP n b c (by omega) (pu_foX_P P h0 hP n (by omega) b e) h
theorem pu_costN_lt {V : pu_Vw} (o : pu_VOk V) (set h : Nat) : pu_costN V set h = 1000000 ∨ pu_costN V set h ≤ 6435 := by
  unfold pu_costN
  cases e : pu_costX V set h with
  | none => exact Or.inl rfl
  | some a =>
    refine Or.inr ?_
    have : a.1 ≤ 792 * V.n := by
      refine pu_foX_P (N := V.n) (fun i (a : Nat × Bool) => a.1 ≤ 792 * i) (by omega) (fun i a a' hi hp ha => ?_) V.n (Nat.le_refl _) a e
      unfold pu_cost1 at ha
      split at ha
      · split at ha
        · cases ha
          have := pu_priceS_le o (pu_comeS V i h)
          dsimp only
          omega
        · cases ha
      · cases ha; omega
    have h8 := o.n8
    have h9 := o.set0
    dsimp only
    split <;> omega
theorem pu_bI_or (a b : Bool) : pu_bI a ||| pu_bI b = pu_bI (a || b) := by cases a <;> cases b <;> rfl
theorem pu_costOf_n {C : St} {V : pu_Vw} {set x : Nat} (h : pu_CV C V) (o : pu_VOk V) (pu_hs : set < 2147483648) (hx : x < 8) : cf_costOf C (nI set) (nI x) = some (nI (pu_costN V set x)) := by
  have h8 := o.n8
  unfold cf_costOf cf_costOf_l8
  have := pu_lp_forX (dead := fun _ _ _ _ _ => none) (b := cf_costOf_b8 C) (call := fun (t : Int32 → Int32 → Int32 → Int32 → Int32 → Option Int32) i (a : Nat × Bool) => t (nI set) (nI x) (nI a.1) (pu_bI a.2) (nI i)) (P := fun _ _ => True) (f := pu_cost1 V set x) (K := fun a => some (nI (a.1 + if a.2 = true then V.set 0 else 0))) (R0 := some (nI 1000000)) V.n ?_ ?_ (fun _ _ _ _ _ _ => trivial) (a := (0, false)) trivial FU (by rw [pu_FU_e]; omega)
  · refine this.trans ?_
    unfold pu_costN pu_costX
    cases pu_foX V.n (pu_cost1 V set x) (0, false) <;> rfl
  · intro t a _
    unfold cf_costOf_b8 cf_costOf_b147
    simp only [pu_lit]
    rw [pu_deeds_n h, pu_bd_s, pu_ile_t (by omega) (by omega), pu_bI0, pu_al_n (by omega) (by omega), h.set 0 (by omega), pu_nI_add, pu_nI_add]
    cases a.2 <;> rfl
  · intro t d a hd _
    have hl := pu_comeS_lt V d x
    unfold cf_costOf_b8 cf_costOf_b125 pu_cost1 cf_costOf_l46
    simp only [pu_lit]
    rw [pu_deeds_n h, pu_bd_s, pu_ile_f (by omega) (by omega), pu_isInC_n pu_hs (by omega), pu_bd_s, pu_bI0, pu_deed2_n h o hd, pu_bd_s, pu_canBe_n h o hd hx, pu_bd_s, pu_bI0, pu_nI_add]
    by_cases q1 : set.testBit d = true
    · rw [if_pos q1, if_pos q1]
      by_cases q2 : pu_canS V d x = true
      · rw [if_pos q2]
        have e46 := pu_lp_all (dead := fun _ _ _ _ _ _ => none) (b := cf_costOf_b46 C t) (call := fun (s : Int32 → Int32 → Int32 → Int32 → Int32 → Int32 → Option Int32) i => s (nI set) (nI x) (nI a.1) (pu_bI a.2) (nI d) (nI i)) (fun e => !set.testBit e || pu_meetS V x d e) (t (nI set) (nI x) (nI (a.1 + pu_priceS V (pu_comeS V d x))) (pu_bI (a.2 || pu_turnS V d x)) (nI (d + 1))) (some (nI 1000000)) d (fun s => by
            unfold cf_costOf_b46 cf_costOf_b125
            simp only [pu_lit]
            rw [pu_ile_t (by omega) (by omega), pu_deed2_n h o hd, pu_bd_s, pu_comersC_n h o hd hx, pu_bd_s, pu_pricesC_n h o (by omega), pu_bd_s, pu_lt_s, pu_bd_s, pu_turnedC_n h o hd hx, pu_bd_s, pu_lt_s, pu_nI_add, pu_nI_add, pu_bI_or]) (fun s e he => by
            unfold cf_costOf_b46 cf_costOf_b85
            simp only [pu_lit]
            rw [pu_ile_f (by omega) (by omega), pu_isInC_n pu_hs (by omega), pu_bd_s, pu_bI0, pu_deed2_n h o hd, pu_bd_s, pu_deed2_n h o (by omega), pu_bd_s, pu_goTog_n h o hd (by omega) hx, pu_bd_s, pu_bI0, pu_nI_add]
            cases set.testBit e <;> cases pu_meetS V x d e <;> rfl) FU (by rw [pu_FU_e]; omega)
        refine e46.trans ?_
        rw [q2, Bool.true_and]
        cases pu_allS d (fun e => !set.testBit e || pu_meetS V x d e) <;> rfl
      · rw [if_neg q2, Bool.eq_false_iff.mpr q2]
        rfl
    · rw [if_neg q1, if_neg q1]
/-- those who come to the first so many of a set -/
def pu_whoS (V : pu_Vw) (set h n : Nat) : Nat := pu_fo n (fun e w => if set.testBit e = true then w ||| pu_comeS V e h else w) 0
theorem pu_whoS_lt (V : pu_Vw) (set h : Nat) : ∀ n, pu_whoS V set h n < 256 := by
  intro n
  refine pu_fo_P (N := n) (fun _ w => w < 256) (by omega) (fun i a _ ha => ?_) n (Nat.le_refl _)
  split
  · exact Nat.or_lt_two_pow (n := 8) ha (pu_comeS_lt V i h)
  · exact ha
theorem pu_and_or_0 (a b c : Nat) : a &&& (b ||| c) = 0 ↔ a &&& b = 0 ∧ a &&& c = 0 := by
  rw [Nat.and_or_distrib_left]
  exact Nat.or_eq_zero_iff
theorem pu_whoS_iff {V : pu_Vw} {set h b : Nat} : ∀ n, b &&& pu_whoS V set h n = 0 ↔ ∀ e, e < n → set.testBit e = true → b &&& pu_comeS V e h = 0
  | 0 => by simp [pu_whoS, pu_fo]
  | n + 1 => by
    have e : pu_whoS V set h (n + 1) = if set.testBit n = true then pu_whoS V set h n ||| pu_comeS V n h else pu_whoS V set h n := rfl
    rw [e]
    by_cases q : set.testBit n = true
    · rw [if_pos q, pu_and_or_0, pu_whoS_iff n]
      constructor
      · intro z i hi hb
        rcases (show i < n ∨ i = n by omega) with w | w
        · exact z.1 i w hb
        · rw [w]; exact z.2
      · intro z
        exact ⟨fun i hi hb => z i (by omega) hb, z n (by omega) q⟩
    · rw [if_neg q, pu_whoS_iff n]
      constructor
      · intro z i hi hb
        rcases (show i < n ∨ i = n by omega) with w | w
        · exact z i w hb
        · rw [w] at hb; exact absurd hb q
      · intro z i hi hb
        exact z i (by omega) hb
theorem pu_meet_all {V : pu_Vw} {set h d : Nat} : pu_allS d (fun e => !set.testBit e || pu_meetS V h d e) = (decide (pu_comeS V d h &&& pu_whoS V set h d = 0) && pu_allS d (fun e => !set.testBit e || (!pu_placeC V d e && !pu_skyC V d e))) := by
  rw [Bool.eq_iff_iff, Bool.and_eq_true, decide_eq_true_eq, pu_whoS_iff, pu_allS_iff, pu_allS_iff]
  unfold pu_meetS
  constructor
  · intro z
    refine ⟨fun e he hb => ?_, fun e he => ?_⟩
    · have := z e he
      simp only [hb, Bool.not_true, Bool.false_or, Bool.and_eq_true, decide_eq_true_eq] at this
      exact this.1.1
    · have := z e he
      revert this
      cases set.testBit e <;> cases decide (pu_comeS V d h &&& pu_comeS V e h = 0) <;> simp
  · intro z e he
    have h1 := z.1 e he
    have h2 := z.2 e he
    revert h1 h2
    cases set.testBit e
    · simp
    · intro h1 h2
      rw [decide_eq_true (h1 rfl)]
      exact h2
theorem pu_costT_n {I : St} {V : pu_Vw} {set x : Nat} (h : pu_MV I V) (o : pu_VOk V) (pu_hs : set < 2147483648) (hx : x < 8) : mo_costTogether I (nI set) (nI x) = some (nI (pu_costN V set x)) := by
  have h8 := o.n8
  unfold mo_costTogether mo_costTogether_l11
  have := pu_lp_forX (dead := fun _ _ _ _ _ _ => none) (b := mo_costTogether_b11 I) (call := fun (t : Int32 → Int32 → Int32 → Int32 → Int32 → Int32 → Option Int32) i (a : Nat × Bool) => t (nI set) (nI x) (nI (pu_whoS V set x i)) (nI a.1) (pu_bI a.2) (nI i)) (P := fun _ _ => True) (f := pu_cost1 V set x) (K := fun a => some (nI (a.1 + if a.2 = true then V.set 0 else 0))) (R0 := some (nI 1000000)) V.n ?_ ?_ (fun _ _ _ _ _ _ => trivial) (a := (0, false)) trivial FU (by rw [pu_FU_e]; omega)
  · refine this.trans ?_
    unfold pu_costN pu_costX
    cases pu_foX V.n (pu_cost1 V set x) (0, false) <;> rfl
  · intro t a _
    unfold mo_costTogether_b11 mo_costTogether_b275
    simp only [pu_lit]
    rw [h.n, pu_ile_t (by omega) (by omega), pu_bI0, pu_al_n (by omega) (by omega), h.set 0 (by omega), pu_nI_add, pu_nI_add]
    cases a.2 <;> rfl
  · intro t d a hd _
    have hl := pu_comeS_lt V d x
    have hw := pu_whoS_lt V set x d
    have ha := Nat.and_le_left (n := pu_comeS V d x) (m := pu_whoS V set x d)
    have e91 : ∀ (w : Nat) (b : Bool) (c : Nat), mo_costTogether_b91 I t (nI set) (nI x) (nI w) (nI c) (nI d) (pu_bI b) = if pu_allS d (fun e => !set.testBit e || (!pu_placeC V d e && !pu_skyC V d e)) = true then t (nI set) (nI x) (nI w) (nI c) (pu_bI b) (nI (d + 1)) else some (nI 1000000) := by
      intro w b c
      unfold mo_costTogether_b91 mo_costTogether_l96
      refine pu_lp_all (dead := fun _ _ _ _ _ _ _ => none) (b := mo_costTogether_b96 I t) (call := fun (s : Int32 → Int32 → Int32 → Int32 → Int32 → Int32 → Int32 → Option Int32) i => s (nI set) (nI x) (nI w) (nI c) (pu_bI b) (nI d) (nI i)) (fun e => !set.testBit e || (!pu_placeC V d e && !pu_skyC V d e)) _ _ d (fun s => ?_) (fun s e he => ?_) FU (by rw [pu_FU_e]; omega)
      · unfold mo_costTogether_b96 mo_costTogether_b252
        simp only [pu_lit]
        rw [pu_ile_t (by omega) (by omega), pu_nI_add]
      · have hen : e < V.n := by omega
        have hkd := o.kind d hd
        have hke := o.kind e hen
        have a1 := o.askR _ hkd
        have a2 := o.askR _ hke
        have a3 := o.askP _ hkd
        have a4 := o.askP _ hke
        have a5 := o.wet d hd
        have a6 := o.wet e hen
        have a7 := o.place d hd
        have a8 := o.place e hen
        have e231 : ∀ u v : Bool, mo_costTogether_b231 I t s (nI set) (nI x) (nI w) (nI c) (pu_bI b) (nI d) (nI e) (pu_bI u) (pu_bI v) = if (!u && !v) = true then s (nI set) (nI x) (nI w) (nI c) (pu_bI b) (nI d) (nI (e + 1)) else some (nI 1000000) := by
          intro u v
          unfold mo_costTogether_b231
          simp only [pu_lit]
          rw [pu_bI0, pu_bI0, pu_nI_add]
          cases u <;> cases v <;> rfl
        have e166 : ∀ u : Bool, mo_costTogether_b166 I t s (nI set) (nI x) (nI w) (nI c) (pu_bI b) (nI d) (nI e) (pu_bI u) = if (!u && !(set.testBit e && pu_skyC V d e)) = true then s (nI set) (nI x) (nI w) (nI c) (pu_bI b) (nI d) (nI (e + 1)) else some (nI 1000000) := by
          intro u
          unfold mo_costTogether_b166 pu_skyC
          simp only [pu_lit]
          rw [pu_isIn_n pu_hs (by omega), pu_bd_s, pu_bI0, pu_al_n (by omega) (by omega), h.kind d hd, pu_al_n hkd (by omega), h.askR _ hkd, pu_al_n (by omega) (by omega), h.kind e hen, pu_al_n hke (by omega), h.askR _ hke, pu_al_n (by omega) (by omega), pu_al_n (by omega) (by omega), h.wet d hd, h.wet e hen, show nI 0 = pu_bI false from rfl, show nI 1 = pu_bI true from rfl, e231, e231]
          rw [show pu_bI true = nI 1 from rfl]
          by_cases q3 : V.wet d = V.wet e
          · rw [pu_ieq_t q3]
            cases set.testBit e <;> by_cases q1 : V.askR (V.kind d) = 1 <;> by_cases q2 : V.askR (V.kind e) = 1 <;> simp [q1, q2, q3, pu_nI_inj (show V.askR (V.kind d) < 2147483648 by omega), pu_nI_inj (show V.askR (V.kind e) < 2147483648 by omega)]
          · rw [pu_ieq_f q3 (by omega) (by omega)]
            cases set.testBit e <;> by_cases q1 : V.askR (V.kind d) = 1 <;> by_cases q2 : V.askR (V.kind e) = 1 <;> simp [q1, q2, q3, pu_nI_inj (show V.askR (V.kind d) < 2147483648 by omega), pu_nI_inj (show V.askR (V.kind e) < 2147483648 by omega)]
        unfold mo_costTogether_b96 pu_placeC
        simp only [pu_lit]
        rw [pu_ile_f (by omega) (by omega), pu_isIn_n pu_hs (by omega), pu_bd_s, pu_bI0, pu_al_n (by omega) (by omega), h.kind d hd, pu_al_n hkd (by omega), h.askP _ hkd, pu_al_n (by omega) (by omega), h.kind e hen, pu_al_n hke (by omega), h.askP _ hke, pu_al_n (by omega) (by omega), pu_al_n (by omega) (by omega), h.place d hd, h.place e hen, show nI 0 = pu_bI false from rfl, show nI 1 = pu_bI true from rfl, e166, e166]
        rw [show pu_bI true = nI 1 from rfl]
        by_cases q3 : V.place d = V.place e
        · rw [pu_ieq_t q3]
          cases set.testBit e <;> by_cases q1 : V.askP (V.kind d) = 1 <;> by_cases q2 : V.askP (V.kind e) = 1 <;> simp [q1, q2, q3, pu_nI_inj (show V.askP (V.kind d) < 2147483648 by omega), pu_nI_inj (show V.askP (V.kind e) < 2147483648 by omega)]
        · rw [pu_ieq_f q3 (by omega) (by omega)]
          cases set.testBit e <;> by_cases q1 : V.askP (V.kind d) = 1 <;> by_cases q2 : V.askP (V.kind e) = 1 <;> simp [q1, q2, q3, pu_nI_inj (show V.askP (V.kind d) < 2147483648 by omega), pu_nI_inj (show V.askP (V.kind e) < 2147483648 by omega)]
    have ew : pu_whoS V set x (d + 1) = if set.testBit d = true then pu_whoS V set x d ||| pu_comeS V d x else pu_whoS V set x d := rfl
    unfold mo_costTogether_b11 mo_costTogether_b252 pu_cost1
    simp only [pu_lit]
    rw [h.n, pu_ile_f (by omega) (by omega), pu_isIn_n pu_hs (by omega), pu_bd_s, pu_bI0, pu_comes_n h o hd hx, pu_bd_s, pu_oN_3, pu_nI_add, pu_meet_all]
    by_cases q1 : set.testBit d = true
    · rw [if_pos q1, if_pos q1, ew, if_pos q1]
      by_cases q2 : pu_canS V d x = true
      · rw [if_pos q2, pu_oN_some q2, pu_nI_and, pu_lt_s, pu_prices_n h o (by omega), pu_bd_s, pu_lt_s, pu_turned_n h o hd hx, pu_bd_s, pu_bI0, pu_bI0, pu_nI_or, pu_nI_add, show nI 0 = pu_bI false from rfl, show nI 1 = pu_bI true from rfl, e91, e91, q2, Bool.true_and]
        by_cases q3 : pu_comeS V d x &&& pu_whoS V set x d = 0
        · rw [show pu_bI false = nI 0 from rfl, pu_ieq_t q3, decide_eq_true q3, Bool.true_and]
          cases a.2 <;> cases pu_turnS V d x <;> cases pu_allS d (fun e => !set.testBit e || (!pu_placeC V d e && !pu_skyC V d e)) <;> rfl
        · rw [show pu_bI false = nI 0 from rfl, pu_ieq_f q3 (by omega) (by omega), decide_eq_false q3]
          rfl
      · rw [if_neg q2, Bool.eq_false_iff.mpr q2]
        rfl
    · rw [if_neg q1, if_neg q1, ew, if_neg q1]
