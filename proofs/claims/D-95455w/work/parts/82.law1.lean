/-! the law: both worlds side by side -/
set_option maxRecDepth 100000
def lwI (Z : CZ) (Y : CY) (A : Nat → Prop) (C : St) (Zm : MZ) (I : St) (H : Heap) : Prop := cPD Z Y A C H ∧ mPD Zm I H ∧ (∀ k, k ∈ cHs Y C → ¬ mA Zm (cAr Z Y k)) ∧ ∀ q, mA Zm q → A q
theorem mA_lt {Zm : MZ} {I : St} {H : Heap} (h : mPD Zm I H) {q : Nat} (hq : mA Zm q) : q < H.size := by
  rcases hq with rfl | ⟨k, hk, rfl⟩
  · exact (h.1 0 _ rfl).lt
  · obtain ⟨pos, hp⟩ := List.getElem?_of_mem hk
    exact (h.1 (pos + 1) _ (mWs_at Zm I hp)).lt
section LW
variable {p : Program} {l : Launch} {e : Env} {R : Room} {s : State} {m : MethodId} {args : Array Value} {below : List Frame} {meth : Method} {c : Code} {H : Heap} {locs : List Loc} {cells slots mc ms : Nat} {Q : State → Prop}
variable {pc : Nat} {ls : Array Slot} {rest st0 : List Value} {Z : CZ} {Y : CY} {A : Nat → Prop} {C C' I I' : St} {Zm : MZ} {v : Option Value} {a : Array Value}
theorem lw_old (hI : lwI Z Y A C Zm I H) {q : Nat} (hm : mA Zm q) : ¬ va_A (cWs Z Y C) H.size q := by
  rintro (⟨k, e, hk⟩ | z)
  · obtain ⟨j, hj, ej⟩ := cWs_mem hk
    exact hI.2.2.1 j hj (by rw [ej]; exact hm)
  · have := mA_lt hI.2.1 hm
    omega
theorem lw_cc (hI : lwI Z Y A C Zm I H) (hS : va_S A s.heap H locs) (hA : ∀ q, s.heap.size ≤ q → A q) (hr : va_Run p l e R s m args below meth c H locs cells slots mc ms (F0 m pc ls st0) rest (Qcw v Z (va_A (cWs Z Y C) H.size) C' a) (va_A (cWs Z Y C) H.size))
    (kk : ∀ (Y' : CY) (H1 : Heap) (locs1 : List Loc), lwI Z Y' A C' Zm I H1 → va_S A s.heap H1 locs1 → W p l e R s m args below meth c H1 locs1 (cells + mc) (slots + ms) Q (F0 m (pc + 3) ls (v.toList ++ rest))) : W p l e R s m args below meth c H locs cells slots Q (F0 m pc ls st0) :=
  w_runK hI.1 hS hA hr (fun Y' H1 locs1 h1 h2 hk h4 => kk Y' H1 locs1 ⟨h1, ⟨hI.2.1.1.kept (fun k x hx => hk x.1 ((hI.2.1.1 k x hx).lt) (lw_old hI (hI.2.1.2.2 k x hx))), hI.2.1.2⟩, fun k hk' hm => lw_old hI hm (cPD_A h4 hk'), hI.2.2.2⟩ h2)
theorem lw_mc (hI : lwI Z Y A C Zm I H) (hS : va_S A s.heap H locs) (hr : va_Run p l e R s m args below meth c H locs cells slots mc ms (F0 m pc ls st0) rest (Qwr v (mS Zm I') (mA Zm) a) (mA Zm))
    (kk : ∀ (H1 : Heap) (locs1 : List Loc), lwI Z Y A C Zm I' H1 → va_S A s.heap H1 locs1 → W p l e R s m args below meth c H1 locs1 (cells + mc) (slots + ms) Q (F0 m (pc + 3) ls (v.toList ++ rest))) : W p l e R s m args below meth c H locs cells slots Q (F0 m pc ls st0) :=
  c_wr hr hS (fun q _ h => hI.2.2.2 q h) (fun q h => hI.2.2.2 q h) (fun t H1 locs1 ht _ hB _ hk hS1 => kk H1 locs1 ⟨⟨hI.1.1.kept (fun k x hx => hk x.1 ((hI.1.1 k x hx).lt) (fun hm => by
    obtain ⟨j, hj, ej⟩ := cWs_mem (v := x.1) (e := x.2) hx
    exact hI.2.2.1 j hj (by rw [ej]; exact hm))), hI.1.2⟩, by rw [← ht]; exact hB.1, hI.2.2⟩ hS1)
end LW
