/-! Deeds.part: the loop over those who must be there (pc 59 to 125) -/
set_option maxRecDepth 100000
def cfD_lp : Nat → Int32 → St → Option (Int32 × St)
  | 0, _, _ => none
  | n + 1, t, C => bd_ (cfT_here C 0) fun h => bd_ (cf_isPerson (h - 65)) fun a => if a = 0 then some (t, C) else (bd_ (cf_isIn t (h - 65)) fun b => if b = 0 then (bd2_ (cfT_passes 0 h C) fun _ C2 => cfD_lp n (t ||| ((1 : Int32) <<< ((h - 65) &&& 31))) C2) else some (t, C))
set_option maxHeartbeats 4000000 in
theorem cfD_lpw {p : Program} {l : Launch} {e : Env} {R : Room} {s : State} {m : MethodId} {args : Array Value} {below : List Frame} {meth : Method} {c : Code} {cells slots : Nat} {Q : State → Prop} {Z : CZ} {A : Nat → Prop} {v : Nat} {dk dp dw dx : Int32} (X : CCx p s m args meth c cX3_part 6 none RX3 Z) (hA : ∀ q, s.heap.size ≤ q → A q) (hR : 5 ≤ R.frames ∧ 100 ≤ R.locals ∧ cells ≤ R.cells ∧ slots ≤ R.slots) {r : Int32 × St}
    (kk : ∀ (Y : CY) (H : Heap) (locs : List Loc) (ls : Array Slot), lmD Z Y A r.2 v (ldE dk dp dw dx r.1) H → va_S A s.heap H locs → lv_has ls 6 [(0, .ref (cSa Z 40)), (4, .ref v)] → W p l e R s m args below meth c H locs cells slots Q (F0 m 125 ls [])) :
    ∀ (n : Nat) (t : Int32) (Y : CY) (C : St) (H : Heap) (locs : List Loc) (ls : Array Slot), lmD Z Y A C v (ldE dk dp dw dx t) H → va_S A s.heap H locs → lv_has ls 6 [(0, .ref (cSa Z 40)), (4, .ref v)] → cfD_lp n t C = some r → W p l e R s m args below meth c H locs cells slots Q (F0 m 59 ls []) := by
  intro n
  induction n with
  | zero => intro t Y C H locs ls hL hS hl h; exact no_ h
  | succ n ih =>
    intro t Y C H locs ls hL hS hl h
    obtain ⟨⟨hx, hb, hr, hlocks, hml, hown, hts⟩, hK⟩ := id X
    unfold cfD_lp at h
    have hM := hL.1
    obtain ⟨v2, q_v2, h⟩ := bd_e h
    refine lv_aload_n hx hb dX3_part_59 rfl (lv_at hl 0 rfl) ?_
    refine f_roUI (As := []) (rest := []) (owner := RX2) (x := ⟨RX3, "here", "()I"⟩) X hM (c_recvX0 X hM) hS.2.2 (cPD.fr hM) (cfT_here_met _ Z Y A C 0 v2 q_v2) (lw_U q544 q545 q547 q406 q81 q410) rfl (by decide +kernel) ⟨rfl, rfl⟩ ⟨Nat.le_trans (m := 5) (Nat.le_of_ble_eq_true rfl) hR.1, Nat.le_trans (m := 100) (Nat.le_of_ble_eq_true rfl) hR.2.1⟩ ⟨hR.2.2.1, hR.2.2.2⟩ rfl hl.1 rfl (Nat.le_of_ble_eq_true rfl) dX3_part_60 (fun locs hLo => ?_)
    have hS : va_S A s.heap _ locs := ⟨hS.1, hS.2.1, hLo⟩
    refine lv_bipush (v := 65) hx hb dX3_part_63 (by decide) ?_
    refine lv_isub hx hb dX3_part_65 ?_
    obtain ⟨v4, q_v4, h⟩ := bd_e h
    refine s_roNI (As := [.int (v2 - 65)]) (rest := []) (host := "SecondChances") X (cf_isPerson_met _ (v2 - 65) v4 q_v4) (X.2.2 _ (List.mem_of_getElem? (i := 18) rfl)) (lw_meth q296) q295 q79 cf_isPerson_hd ⟨rfl, rfl⟩ ⟨Nat.le_trans (m := 5) (Nat.le_of_ble_eq_true rfl) hR.1, Nat.le_trans (m := 100) (Nat.le_of_ble_eq_true rfl) hR.2.1⟩ ⟨hR.2.2.1, hR.2.2.2⟩ rfl hl.1 rfl (Nat.le_of_ble_eq_true rfl) dX3_part_66 ?_
    refine lv_if_eq (tgt := 125) hx hb dX3_part_69 (by decide) (fun c5 => ?_) (fun c5 => ?_)
    · have h := so_ (ip_ c5 h)
      subst h
      exact kk Y H locs ls hL hS hl
    · have h := in_ c5 h
      obtain ⟨v6, q_v6, h⟩ := bd_e h
      refine lv_aload hx hb dX3_part_72 (lv_at hl 1 rfl) ?_
      refine ld_get X hL dX3_part_74 ?_
      refine lv_aload_n hx hb dX3_part_77 rfl (lv_at hl 0 rfl) ?_
      refine f_roUI (As := []) (rest := [.int t]) (owner := RX2) (x := ⟨RX3, "here", "()I"⟩) X hM (c_recvX0 X hM) hS.2.2 (cPD.fr hM) (cfT_here_met _ Z Y A C 0 v2 q_v2) (lw_U q544 q545 q547 q406 q81 q410) rfl (by decide +kernel) ⟨rfl, rfl⟩ ⟨Nat.le_trans (m := 5) (Nat.le_of_ble_eq_true rfl) hR.1, Nat.le_trans (m := 100) (Nat.le_of_ble_eq_true rfl) hR.2.1⟩ ⟨hR.2.2.1, hR.2.2.2⟩ rfl hl.1 rfl (Nat.le_of_ble_eq_true rfl) dX3_part_78 (fun locs hLo => ?_)
      have hS : va_S A s.heap _ locs := ⟨hS.1, hS.2.1, hLo⟩
      refine lv_bipush (v := 65) hx hb dX3_part_81 (by decide) ?_
      refine lv_isub hx hb dX3_part_83 ?_
      refine s_roNI (As := [.int t, .int (v2 - 65)]) (rest := []) (host := "SecondChances") X (cf_isIn_met _ t (v2 - 65) v6 q_v6) (X.2.2 _ (List.mem_of_getElem? (i := 19) rfl)) (lw_meth q551) q550 q79 cf_isIn_hd ⟨rfl, rfl⟩ ⟨Nat.le_trans (m := 5) (Nat.le_of_ble_eq_true rfl) hR.1, Nat.le_trans (m := 100) (Nat.le_of_ble_eq_true rfl) hR.2.1⟩ ⟨hR.2.2.1, hR.2.2.2⟩ rfl hl.1 rfl (Nat.le_of_ble_eq_true rfl) dX3_part_84 ?_
      refine lv_if_ne (tgt := 125) hx hb dX3_part_87 (by decide) (fun c6 => ?_) (fun c6 => ?_)
      · have h := so_ (in_ c6 h)
        subst h
        exact kk Y H locs ls hL hS hl
      · have h := ip_ c6 h
        obtain ⟨v7, C2, q_C2, h⟩ := bd2_e h
        refine lv_aload_n hx hb dX3_part_90 rfl (lv_at hl 0 rfl) ?_
        refine f_roUI (As := []) (rest := []) (owner := RX2) (x := ⟨RX3, "here", "()I"⟩) X hM (c_recvX0 X hM) hS.2.2 (cPD.fr hM) (cfT_here_met _ Z Y A C 0 v2 q_v2) (lw_U q544 q545 q547 q406 q81 q410) rfl (by decide +kernel) ⟨rfl, rfl⟩ ⟨Nat.le_trans (m := 5) (Nat.le_of_ble_eq_true rfl) hR.1, Nat.le_trans (m := 100) (Nat.le_of_ble_eq_true rfl) hR.2.1⟩ ⟨hR.2.2.1, hR.2.2.2⟩ rfl hl.1 rfl (Nat.le_of_ble_eq_true rfl) dX3_part_91 (fun locs hLo => ?_)
        have hS : va_S A s.heap _ locs := ⟨hS.1, hS.2.1, hLo⟩
        refine lv_bipush (v := 65) hx hb dX3_part_94 (by decide) ?_
        refine lv_isub hx hb dX3_part_96 ?_
        refine lv_istore (lv' := [(5, .int (v2 - 65)), (0, .ref (cSa Z 40)), (4, .ref v)]) hx hb dX3_part_97 hl (by decide) rfl (fun ls hl => ?_)
        refine lv_aload_n hx hb dX3_part_99 rfl (lv_at hl 1 rfl) ?_
        refine lv_aload_n hx hb dX3_part_100 rfl (lv_at hl 1 rfl) ?_
        refine f_roUI (As := []) (rest := [.ref (cSa Z 40)]) (owner := RX2) (x := ⟨RX3, "here", "()I"⟩) X hM (c_recvX0 X hM) hS.2.2 (cPD.fr hM) (cfT_here_met _ Z Y A C 0 v2 q_v2) (lw_U q544 q545 q547 q406 q81 q410) rfl (by decide +kernel) ⟨rfl, rfl⟩ ⟨Nat.le_trans (m := 5) (Nat.le_of_ble_eq_true rfl) hR.1, Nat.le_trans (m := 100) (Nat.le_of_ble_eq_true rfl) hR.2.1⟩ ⟨hR.2.2.1, hR.2.2.2⟩ rfl hl.1 rfl (Nat.le_of_ble_eq_true rfl) dX3_part_101 (fun locs hLo => ?_)
        have hS : va_S A s.heap _ locs := ⟨hS.1, hS.2.1, hLo⟩
        refine w_lm (n := 1) (As := [.int v2]) (rest := []) (v := some (.int v7)) (owner := RX2) (x := ⟨RX3, "passes", "(I)Z"⟩) X hL hS hA (c_recvX0 X hM) (cfT_passes_met _ Z _ C _ 0 v2 (v7, C2) q_C2) (lw_U q507 q508 q510 q511 q81 q512) rfl (by decide +kernel) ⟨rfl, rfl⟩ ⟨Nat.le_trans (m := 5) (Nat.le_of_ble_eq_true rfl) hR.1, Nat.le_trans (m := 100) (Nat.le_of_ble_eq_true rfl) hR.2.1⟩ ⟨hR.2.2.1, hR.2.2.2⟩ rfl hl.1 rfl (Nat.le_of_ble_eq_true rfl) dX3_part_104 (fun Y H locs hL hS => ?_)
        refine lv_pop hx hb dX3_part_107 rfl ?_
        refine lv_aload hx hb dX3_part_108 (lv_at hl 2 rfl) ?_
        refine lv_dup hx hb dX3_part_110 rfl ?_
        refine ld_get X hL dX3_part_111 ?_
        refine lv_iconst (v := 1) hx hb dX3_part_114 (by decide) ?_
        refine lv_iload hx hb dX3_part_115 (lv_at hl 0 rfl) ?_
        refine lv_ishl hx hb dX3_part_117 ?_
        refine lv_ior hx hb dX3_part_118 ?_
        refine ld_put X hL hS dX3_part_119 (fun H locs hL hS => ?_)
        refine lv_goto (tgt := 59) hx hb dX3_part_122 (by decide) ?_
        exact ih _ Y C2 H locs ls hL hS (lv_sub hl [1, 2] rfl) h
