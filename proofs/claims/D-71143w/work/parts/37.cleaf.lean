/-! LEAVES BY HAND: lists, sorts, casts, readings, copies (statements; some proofs still owed) -/
set_option maxRecDepth 100000
def lget (σ : CM) (i : Nat) (x : Int32) : Option Nat := if inb x (lsz σ i) = true then some x.toNatClampNeg else none
def cel (σ : CM) (i n : Nat) (x : Int32) : Option Int32 := if i < 3 then cld σ (17 + i) n x else none
def celS (σ : CM) (i n : Nat) (x v : Int32) : Option CM := if i < 3 then cas σ (17 + i) n x v else none
def rdS (σ : CM) : Option Int32 := if 0 ≤ σ 1 0 1 ∧ σ 1 0 1 ≤ 12 then some (σ 1 0 4) else none
def rdR (σ : CM) : Option Int32 := if 0 ≤ σ 2 0 1 ∧ σ 2 0 1 ≤ 31 then some (σ 2 0 4) else none
def srolls (c : Nat) : Option Int32 := if c = 0 then some 1 else if c = 1 then some 2 else if c = 2 then some 3 else none
def ssteps (c : Nat) (h : Int32) : Option Int32 := if c = 0 then some 2 else if c = 1 then some 1 else if c = 2 then some (1 - (h - h / 2 * 2)) else none
def snumber (c : Nat) : Option Int32 := if c = 0 then some 0 else if c = 1 then some 1 else if c = 2 then some 2 else none
def clk (σ : CM) (k i : Nat) : Option Unit := if clive σ k i = true then some () else none
theorem clk_l {σ : CM} {k i : Nat} {u : Unit} (h : clk σ k i = some u) : clive σ k i = true := (og h).1
theorem evl_lt (x : Int32) : evl x < 2 := by unfold evl; split <;> decide
theorem evl_4 (x : Int32) : evl x < 4 := Nat.lt_trans (evl_lt x) (by decide)
theorem evl_3 {m2 : Bool} (x : Int32) (h : evl x = 3) : m2 = true := absurd h (by have := evl_lt x; omega)
theorem metC_size (l : Launch) (σ : CM) (i : Nat) (hi : i < 4) (r : Bool) (hr : i = 3 → r = true) : MetC l yJ2_size (ws_ yJ2_size cJ2_size 1 (some .int)) 1 0 false false false false false r (fun G => [.ref (cA G.1 6 i)]) σ (fun _ => some (.int (σ 6 i 2))) σ := by
  refine met_wC (own := RJ2) (by decide +kernel) rfl (by simp [cRt]) (fun _ => Nat.le_of_ble_eq_true rfl) (fun G p e s m args below meth c Q hr1 hr2 C hE ls hl hJ => ?_)
  have hl : lv_has ls 1 [(0, .ref (gA G 6 i))] := hl
  refine lv_aload_n C.1.1 C.1.2.1 dJ2_size_0 rfl (lv_at hl 0 rfl) ?_
  refine cj_g0 C hJ 6 i 2 (ad_s rfl) (by decide) (by decide) rfl rfl ?_ (by simp [clive, hi]) (Or.inl (C.1.2.2.2.2 _ q676)) dJ2_size_1 ?_
  · by_cases h3 : i = 3
    · subst h3
      have h4 : G.2.2.1 = true := hr2 (hr rfl)
      rw [h4]
      rfl
    · simp [vis, junk, tdS, tdR, h3]
  · exact hE _ _ _ _ _ _ _ _ _ _ _ _ (some (.int (σ 6 i 2))) hJ (fun h => by cases h) (fun h => by cases h) ⟨_, rfl⟩ rfl dJ2_size_4
theorem hdC_size : yJ2_size.cls = RJ2 ∧ yJ2_size.cls ≠ "java/lang/invoke/MethodHandle" ∧ yJ2_size.cls ≠ "java/lang/invoke/VarHandle" ∧ (parseMethodDescriptor yJ2_size.desc).map (fun d => d.parameters.length) = some 0 := by decide +kernel
section CLE0
variable {p : Program} {l : Launch} {e : Env} {R : Room} {s : State} {m : MethodId} {args : Array Value} {below : List Frame} {meth : Method} {c : Code} {H H0 H1 : Heap} {locs : List Loc} {ce sl : Nat} {Q : State → Prop}
variable {cc bytes : ByteArray} {pc nL maxL index n d a ex : Nat} {ls : Array Slot} {rest st As : List Value} {G : CG} {D : Nat → Nat → Nat} {σ σ' : CM} {own C : String} {m1 m2 b1 b2 : Bool}
theorem cj_size (C0 : CC p s m args c cc nL own G) (hJ : CJ G s R ex b1 b2 m1 m2 D σ H locs ce sl) (i : Nat) (hi : i < 4) (h3 : i = 3 → m2 = true) (hlink : Cond.methodLink own index ⟨"java/util/ArrayList", "size", "()I"⟩ ∈ lw_all) (hR : 2 ≤ R.frames ∧ 128 ≤ R.locals) (hl : ls.size = nL) (hW : (rest.map fun v => v.category).sum ≤ 8) (hdg : decode cc pc = .ok (.invokevirtual index, 3))
    (kk : ∀ (D1 : Nat → Nat → Nat) (H1 : Heap) (locs1 : List Loc), (m2 = true → D1 = D) → CJ G s R ex b1 b2 m1 m2 D1 σ H1 locs1 ce sl → W p l e R s m args below meth c H1 locs1 ce sl Q (F0 m (pc + 3) ls (.int (σ 6 i 2) :: rest))) : W p l e R s m args below meth c H locs ce sl Q (F0 m pc ls (.ref (gA G 6 i) :: rest)) :=
  cc_V (As := []) (rest := rest) (f1 := false) (f2 := false) (x1 := false) (x2 := false) (c1 := b1) (c2 := b2) (ec := 0) (ey := ex) (d := 1) C0 hJ (metC_size l σ i hi m2 h3) rfl rfl (by omega) (cost_ok false false b1 b2 m1 m2 (fun h => by cases h) (fun h => by cases h)) (fun h => by cases h) (fun h => h) (cj_recv C0 hJ 6 i (ad_s rfl) (by decide) rfl (by simp [clive, hi])) (cwV 0 C0.1.2.2.2.2 (lw_V hlink q222 q223 q115 q224) rfl rfl rfl hdC_size ⟨hR.1, by show 8 + (1 + 11) + 64 * 1 ≤ R.locals; omega⟩) rfl hl rfl (lv_room hW) hdg (fun D1 H1 l1 hD hj => kk D1 H1 l1 hD hj)
theorem cj_sizeT (C0 : CC p s m args c cc nL own G) (hJ : CJ G s R ex b1 b2 m1 true D σ H locs ce sl) (i : Nat) (hi : i < 4) (h3 : i = 3 → true = true) (hlink : Cond.methodLink own index ⟨"java/util/ArrayList", "size", "()I"⟩ ∈ lw_all) (hR : 2 ≤ R.frames ∧ 128 ≤ R.locals) (hl : ls.size = nL) (hW : (rest.map fun v => v.category).sum ≤ 8) (hdg : decode cc pc = .ok (.invokevirtual index, 3))
    (kk : ∀ (H1 : Heap) (locs1 : List Loc), CJ G s R ex b1 b2 m1 true D σ H1 locs1 ce sl → W p l e R s m args below meth c H1 locs1 ce sl Q (F0 m (pc + 3) ls (.int (σ 6 i 2) :: rest))) : W p l e R s m args below meth c H locs ce sl Q (F0 m pc ls (.ref (gA G 6 i) :: rest)) :=
  cj_size C0 hJ i hi h3 hlink hR hl hW hdg (fun D1 H1 l1 hD hj => kk H1 l1 (by rw [hD rfl] at hj; exact hj))
end CLE0
theorem metC_ci (l : Launch) (σ : CM) (x n : Int32) (h0 : ¬ x < 0) (h1 : x < n) : MetC l yJ10_checkIndex (ws_ yJ10_checkIndex cJ10_checkIndex 3 (some .int)) 1 0 false false false false false false (fun _ => [.int x, .int n, .null]) σ (fun _ => some (.int x)) σ := by
  refine met_wC (own := RJ10) (by decide +kernel) rfl (by simp [cRt]) (fun _ => Nat.le_of_ble_eq_true rfl) (fun G p e s m args below meth c Q hr1 hr2 C hE ls hl hJ => ?_)
  have hx := C.1.1
  have hb := C.1.2.1
  have hl : lv_has ls 3 [(0, .int x), (1, .int n), (2, .null)] := hl
  refine lv_iload_n hx hb dJ10_checkIndex_0 rfl (lv_at hl 0 rfl) ?_
  refine lv_if_lt (tgt := 9) hx hb dJ10_checkIndex_1 (by decide) (fun hc => absurd hc h0) (fun _ => ?_)
  refine lv_iload_n hx hb dJ10_checkIndex_4 rfl (lv_at hl 0 rfl) ?_
  refine lv_iload_n hx hb dJ10_checkIndex_5 rfl (lv_at hl 1 rfl) ?_
  refine lv_icmp_lt (tgt := 16) hx hb dJ10_checkIndex_6 (by decide) (fun _ => ?_) (fun hc => absurd h1 hc)
  refine lv_iload_n hx hb dJ10_checkIndex_16 rfl (lv_at hl 0 rfl) ?_
  exact hE _ _ _ _ _ _ _ _ _ _ _ _ (some (.int x)) hJ (fun h => by cases h) (fun h => by cases h) ⟨_, rfl⟩ rfl dJ10_checkIndex_17
theorem hdC_ci : yJ10_checkIndex.cls ≠ "java/lang/invoke/MethodHandle" ∧ yJ10_checkIndex.cls ≠ "java/lang/invoke/VarHandle" ∧ (parseMethodDescriptor yJ10_checkIndex.desc).map (fun d => d.parameters.length) = some 3 := by decide +kernel
theorem metC_oci (l : Launch) (σ : CM) (x n : Int32) (h0 : ¬ x < 0) (h1 : x < n) : MetC l yJ13_checkIndex (ws_ yJ13_checkIndex cJ13_checkIndex 2 (some .int)) 2 0 false false false false false false (fun _ => [.int x, .int n]) σ (fun _ => some (.int x)) σ := by
  refine met_wC (own := RJ13) (by decide +kernel) rfl (by simp [cRt]) (fun _ => Nat.le_of_ble_eq_true rfl) (fun G p e s m args below meth c Q hr1 hr2 C hE ls hl hJ => ?_)
  have hx := C.1.1
  have hb := C.1.2.1
  have hl : lv_has ls 2 [(0, .int x), (1, .int n)] := hl
  refine lv_iload_n hx hb dJ13_checkIndex_0 rfl (lv_at hl 0 rfl) ?_
  refine lv_iload_n hx hb dJ13_checkIndex_1 rfl (lv_at hl 1 rfl) ?_
  refine lv_null hx hb dJ13_checkIndex_2 ?_
  refine cc_S (As := [.int x, .int n, .null]) (rest := []) C hJ (metC_ci l σ x n h0 h1) rfl rfl (show 0 + 0 ≤ 0 from Nat.le_refl _) (cost_ok false false false false _ _ (fun h => by cases h) (fun h => by cases h)) (fun h => by cases h) (fun h => by cases h) (va_cwS 3 C.1.2.2.2.2 (lw_S q537 q538 q127 q539) rfl rfl rfl hdC_ci ⟨Nat.le_of_ble_eq_true rfl, Nat.le_of_ble_eq_true rfl⟩) rfl hl.1 rfl (lv_room (Nat.le_of_ble_eq_true rfl)) dJ13_checkIndex_3 (fun D H locs _ hJ => ?_)
  exact hE _ _ _ _ _ _ _ _ _ _ _ _ (some (.int x)) hJ (fun h => by cases h) (fun h => by cases h) ⟨_, rfl⟩ rfl dJ13_checkIndex_6
theorem hdC_oci : yJ13_checkIndex.cls ≠ "java/lang/invoke/MethodHandle" ∧ yJ13_checkIndex.cls ≠ "java/lang/invoke/VarHandle" ∧ (parseMethodDescriptor yJ13_checkIndex.desc).map (fun d => d.parameters.length) = some 2 := by decide +kernel
/-- of a list that holds something, where its array is and what it holds -/
theorem Lz.grown {m1 : Bool} {ρ σ : CM} {K : CK} {D : Nat → Nat → Nat} (hL : Lz m1 true ρ σ) {i : Nat} (hi : i < 4) {x : Int32} {n : Nat} (hx : lget σ i x = some n) : oV K D ρ 6 i 1 = .ref (D 23 i) ∧ clive ρ 23 i = true ∧ inb x (aLen ρ 23 i) = true ∧ n = x.toNatClampNeg ∧ aV K D ρ 23 i n = .ref (elA K D i n) ∧ inb x (lsz σ i) = true := by
  obtain ⟨h1, h2⟩ := og hx
  have h3 := Option.some.inj h2
  have hz : lsz ρ i = lsz σ i := by
    unfold lsz
    rw [hL.at (k := 6) (i := i) (j := 2) (by simp [vis, junk, tdS])]
  have h4 := inb_lt h1
  have h5 := hL.2.2.2 i hi
  rw [hz] at h5
  have h6 : ρ 6 i 1 ≠ 0 := h5.2.1 (by omega)
  refine ⟨?_, by simp [clive, hi, h6], ?_, h3.symm, ?_, h1⟩
  · show (if ρ 6 i 1 = 0 then Value.ref (cEm K) else Value.ref (D 23 i)) = _
    rw [if_neg h6]
  · unfold inb
    refine decide_eq_true (fun z => ?_)
    rcases z with z | z
    · exact inb_vp h1 (Or.inl z)
    · have : aLen ρ 23 i = 10 := rfl
      omega
  · show (if n < lsz ρ i then Value.ref (elA K D i n) else .null) = _
    rw [if_pos (by rw [hz, ← h3]; exact h4)]
theorem metC_eld (l : Launch) (σ : CM) (i : Nat) (hi : i < 4) (x : Int32) (n : Nat) (hx : lget σ i x = some n) : MetC l yJ2_elementData (ws_ yJ2_elementData cJ2_elementData 2 (some (.object "java/lang/Object"))) 1 0 false false false false false true (fun G => [.ref (cA G.1 6 i), .int x]) σ (fun G => some (.ref (elA G.1 G.2.2.2 i n))) σ := by
  refine met_wC (own := RJ2) (by decide +kernel) rfl (by simp [cRt]) (fun _ => Nat.le_of_ble_eq_true rfl) (fun G p e s m args below meth c Q hr1 hr2 C hE ls hl hJ => ?_)
  have hx' := C.1.1
  have hb := C.1.2.1
  have hJ := CJ.s2 (hr2 rfl) hJ
  have hl : lv_has ls 2 [(0, .ref (gA G 6 i)), (1, .int x)] := hl
  obtain ⟨ρ, hW, hL⟩ := hJ.1
  obtain ⟨g1, g2, g3, g4, g5, g6⟩ := hL.grown (K := G.1) (D := G.2.2.2) hi hx
  refine lv_aload_n hx' hb dJ2_elementData_0 rfl (lv_at hl 0 rfl) ?_
  rw [show gA G 6 i = adr G.1 G.2.2.2 6 i from (ad_s rfl).symm]
  refine hx_get C.1 C.2.1 hW 6 i 1 (by decide) (by decide) (by simp [clive, hi]) (C.1.2.2.2.2 _ q675) dJ2_elementData_1 ?_
  rw [g1]
  refine lv_iload_n hx' hb dJ2_elementData_4 rfl (lv_at hl 1 rfl) ?_
  rw [show G.2.2.2 23 i = adr G.1 G.2.2.2 23 i from (ad_d rfl).symm]
  have h1 := hW.2.1 23 i (by decide) g2
  refine W.aald (v := aV G.1 G.2.2.2 ρ 23 i x.toNatClampNeg) (ty := .object "java/lang/Object") hx' hb h1 ((C.2.1.2.1 7 (by decide)).1 (aLen ρ 23 i) (aV G.1 G.2.2.2 ρ 23 i)) rfl (fun q => by cases q) (by show ¬ (x < 0 ∨ (arrV _ _ _).slots.size ≤ _); rw [arrV_size]; exact inb_vp g3) (by show (arrV _ _ _).slots[_]? = _; rw [arrV_read _ _ (inb_lt g3)]) rfl rfl dJ2_elementData_5 ?_
  rw [← g4, g5]
  exact hE _ _ _ _ _ _ _ _ _ _ _ _ (some (.ref (elA G.1 G.2.2.2 i n))) hJ (fun h => by cases h) (fun h => by cases h) (Or.inr ⟨_, rfl⟩) rfl dJ2_elementData_6
theorem hdC_eld : yJ2_elementData.cls = RJ2 ∧ yJ2_elementData.cls ≠ "java/lang/invoke/MethodHandle" ∧ yJ2_elementData.cls ≠ "java/lang/invoke/VarHandle" ∧ (parseMethodDescriptor yJ2_elementData.desc).map (fun d => d.parameters.length) = some 1 := by decide +kernel
theorem lget_lt {σ : CM} {i : Nat} {x : Int32} {n : Nat} (hx : lget σ i x = some n) : ¬ x < 0 ∧ x < σ 6 i 2 := by
  obtain ⟨h1, -⟩ := og hx
  have h2 := vp_in_iff.mp (inb_vp h1)
  refine ⟨fun z => inb_vp h1 (Or.inl z), ?_⟩
  have h3 := h2.2
  unfold lsz at h3
  rw [Int32.lt_iff_toInt_lt]
  have h4 : ((σ 6 i 2).toNatClampNeg : Int) = ((σ 6 i 2).toInt.toNat : Nat) := rfl
  omega
theorem metC_get (l : Launch) (σ : CM) (i : Nat) (hi : i < 4) (x : Int32) (n : Nat) (hx : lget σ i x = some n) : MetC l yJ2_get (ws_ yJ2_get cJ2_get 2 (some (.object "java/lang/Object"))) 3 0 false false false false false true (fun G => [.ref (cA G.1 6 i), .int x]) σ (fun G => some (.ref (elA G.1 G.2.2.2 i n))) σ := by
  refine met_wC (own := RJ2) (by decide +kernel) rfl (by simp [cRt]) (fun _ => Nat.le_of_ble_eq_true rfl) (fun G p e s m args below meth c Q hr1 hr2 C hE ls hl hJ => ?_)
  have hx' := C.1.1
  have hb := C.1.2.1
  have hts := C.1.2.2.2.2
  have hJ := CJ.s2 (hr2 rfl) hJ
  have hl : lv_has ls 2 [(0, .ref (gA G 6 i)), (1, .int x)] := hl
  have hlt := lget_lt hx
  refine lv_iload_n hx' hb dJ2_get_0 rfl (lv_at hl 1 rfl) ?_
  refine lv_aload_n hx' hb dJ2_get_1 rfl (lv_at hl 0 rfl) ?_
  refine cj_g0 C hJ 6 i 2 (ad_s rfl) (by decide) (by decide) rfl rfl (by simp [vis, junk, tdS]) (by simp [clive, hi]) (Or.inl (hts _ q676)) dJ2_get_2 ?_
  refine cc_St (As := [.int x, .int (σ 6 i 2)]) (rest := []) C hJ (metC_oci l σ x (σ 6 i 2) hlt.1 hlt.2) rfl rfl (show 0 + 0 ≤ 0 from Nat.le_refl _) (cost_ok false false false false _ _ (fun h => by cases h) (fun h => by cases h)) (fun h => by cases h) (fun _ => rfl) (va_cwS 2 hts (lw_S q534 q535 q132 q536) rfl rfl rfl hdC_oci ⟨Nat.le_of_ble_eq_true rfl, Nat.le_of_ble_eq_true rfl⟩) rfl hl.1 rfl (lv_room (Nat.le_of_ble_eq_true rfl)) dJ2_get_5 (fun H locs hJ => ?_)
  refine lv_pop hx' hb dJ2_get_8 rfl ?_
  refine lv_aload_n hx' hb dJ2_get_9 rfl (lv_at hl 0 rfl) ?_
  refine lv_iload_n hx' hb dJ2_get_10 rfl (lv_at hl 1 rfl) ?_
  refine cc_Vt (As := [.int x]) (rest := []) C hJ (metC_eld l σ i hi x n hx) rfl rfl (show 0 + 0 ≤ 0 from Nat.le_refl _) (cost_ok false false false false _ _ (fun h => by cases h) (fun h => by cases h)) (fun h => by cases h) (fun h => h) (cj_recv C hJ 6 i (ad_s rfl) (by decide) rfl (by simp [clive, hi])) (cwV 1 hts (lw_V q540 q541 q542 q115 q543) rfl rfl rfl hdC_eld ⟨Nat.le_of_ble_eq_true rfl, Nat.le_of_ble_eq_true rfl⟩) rfl hl.1 rfl (lv_room (Nat.le_of_ble_eq_true rfl)) dJ2_get_11 (fun H locs hJ => ?_)
  exact hE _ _ _ _ _ _ _ _ _ _ _ _ (some (.ref (elA G.1 G.2.2.2 i n))) hJ (fun h => by cases h) (fun h => by cases h) (Or.inr ⟨_, rfl⟩) rfl dJ2_get_14
theorem hdC_get : yJ2_get.cls = RJ2 ∧ yJ2_get.cls ≠ "java/lang/invoke/MethodHandle" ∧ yJ2_get.cls ≠ "java/lang/invoke/VarHandle" ∧ (parseMethodDescriptor yJ2_get.desc).map (fun d => d.parameters.length) = some 1 := by decide +kernel
section CLE
variable {p : Program} {l : Launch} {e : Env} {R : Room} {s : State} {m : MethodId} {args : Array Value} {below : List Frame} {meth : Method} {c : Code} {H H0 H1 : Heap} {locs : List Loc} {ce sl : Nat} {Q : State → Prop}
variable {cc bytes : ByteArray} {pc nL maxL index n d a ex : Nat} {ls : Array Slot} {rest st As : List Value} {G : CG} {D : Nat → Nat → Nat} {σ σ' : CM} {own C : String} {m1 m2 f1 f2 x1 x2 b1 b2 c1 c2 r1 r2 : Bool} {y : MethodName} {rt : Option FieldType} {rv : Option Value} {ws : List Cond}
theorem cj_get (C0 : CC p s m args c cc nL own G) (hJ : CJ G s R ex b1 b2 m1 true D σ H locs ce sl) (i : Nat) (hi : i < 4) (h3 : i = 3 → true = true) (hlink : Cond.methodLink own index ⟨"java/util/ArrayList", "get", "(I)Ljava/lang/Object;"⟩ ∈ lw_all) (hR : 5 ≤ R.frames ∧ 256 ≤ R.locals) (hl : ls.size = nL) (hW : (rest.map fun v => v.category).sum ≤ 8) {x : Int32} {n : Nat} (hx : lget σ i x = some n) (hdg : decode cc pc = .ok (.invokevirtual index, 3))
    (kk : ∀ (H1 : Heap) (locs1 : List Loc), CJ G s R ex b1 b2 m1 true D σ H1 locs1 ce sl → W p l e R s m args below meth c H1 locs1 ce sl Q (F0 m (pc + 3) ls (.ref (elA G.1 D i n) :: rest))) : W p l e R s m args below meth c H locs ce sl Q (F0 m pc ls (.int x :: .ref (gA G 6 i) :: rest)) :=
  cc_Vt (As := [.int x]) (rest := rest) (f1 := false) (f2 := false) (x1 := false) (x2 := false) (c1 := b1) (c2 := b2) (ec := 0) (ey := ex) (d := 3) C0 hJ (metC_get l σ i hi x n hx) rfl rfl (by omega) (cost_ok false false b1 b2 m1 true (fun h => by cases h) (fun h => by cases h)) (fun h => by cases h) (fun h => h) (cj_recv C0 hJ 6 i (ad_s rfl) (by decide) rfl (by simp [clive, hi])) (cwV 1 C0.1.2.2.2.2 (lw_V hlink q531 q532 q115 q533) rfl rfl rfl hdC_get ⟨by show 3 + 1 ≤ R.frames; omega, by show 8 + (2 + 11) + 64 * 3 ≤ R.locals; omega⟩) rfl hl rfl (lv_room hW) hdg (fun H1 l1 hj => kk H1 l1 hj)
theorem cj_castM (C0 : CC p s m args c cc nL own G) (hJ : CJ G s R ex b1 b2 m1 true D σ H locs ce sl) {i : Nat} {x : Int32} (hx : lget σ 3 x = some i) (hlink : Cond.classLink own index "WoodliceSenate$Member" ∈ lw_all) (hdg : decode cc pc = .ok (.checkcast index, 3))
    (kk : W p l e R s m args below meth c H locs ce sl Q (F0 m (pc + 3) ls (.ref (D 5 i) :: rest))) : W p l e R s m args below meth c H locs ce sl Q (F0 m pc ls (.ref (elA G.1 D 3 i) :: rest)) := by
  obtain ⟨h1, h2⟩ := og hx
  have h3 : clive σ 5 i = true := by
    rw [← Option.some.inj h2]
    simp [clive, inb_lt h1]
  exact va_castS C0.1.1 C0.1.2.1 C0.1.2.2.2.1 (C0.1.2.2.2.2 _ hlink) (C0.2.1.1 5 (by decide)).2 (cj_recv C0 hJ 5 i (ad_d rfl) (by decide) rfl h3) hdg kk
theorem cj_castI (C0 : CC p s m args c cc nL own G) (hJ : CJ G s R ex b1 b2 m1 m2 D σ H locs ce sl) {i n : Nat} (hi : i < 3) {x : Int32} (hx : lget σ i x = some n) (hlink : Cond.classLink own index "[I" ∈ lw_all) (hdg : decode cc pc = .ok (.checkcast index, 3))
    (kk : W p l e R s m args below meth c H locs ce sl Q (F0 m (pc + 3) ls (.ref (elA G.1 D i n) :: rest))) : W p l e R s m args below meth c H locs ce sl Q (F0 m pc ls (.ref (elA G.1 D i n) :: rest)) := by
  obtain ⟨h1, h2⟩ := og hx
  have h4 := inb_lt h1
  have h5 := Option.some.inj h2
  obtain ⟨ρ, hW, hL⟩ := hJ.1
  have h8 : lsz σ i ≤ 8 := by
    have e0 : lsz ρ i = lsz σ i := by
      unfold lsz
      rw [hL.1 6 i 2 rfl rfl (by simp [tdR]; omega)]
    rw [← e0]
    exact (hL.2.2.2 i (by omega)).1
  have hlv : clive ρ (17 + i) n = true := by
    rw [hL.live (by simp [lvok]; omega)]
    rw [h5] at h4
    match i, hi with
    | 0, _ => simp [clive, h4]
    | 1, _ => simp [clive]; omega
    | 2, _ => simp [clive, h4]
  have h6 := hW.2.1 (17 + i) n (by omega) hlv
  have e1 : adr G.1 D (17 + i) n = elA G.1 D i n ∧ aCd ρ (17 + i) n = 0 := by
    match i, hi with
    | 0, _ => exact ⟨rfl, rfl⟩
    | 1, _ => exact ⟨rfl, rfl⟩
    | 2, _ => exact ⟨rfl, rfl⟩
  rw [e1.1] at h6
  unfold aCell at h6
  rw [e1.2] at h6
  exact va_castA (D := (fun _ => 0, fun _ _ => 0)) (cl := []) (ws := [(elA G.1 D i n, .inl (cR G.1 0, aLen ρ (17 + i) n, .inl (fun j => ρ (17 + i) n j)))]) C0.1.1 C0.1.2.1 C0.1.2.2.2.1 (C0.1.2.2.2.2 _ hlink) (fun k q hk => by
    match k, hk with
    | 0, hk =>
      cases hk
      show H[elA G.1 D i n]? = some (vp_cell _ _)
      rw [h6]
      have e2 : aV G.1 D ρ (17 + i) n = fun j => Value.int (ρ (17 + i) n j) := by
        match i, hi with
        | 0, _ => rfl
        | 1, _ => rfl
        | 2, _ => rfl
      rw [e2]
      rfl
    | k + 1, hk => simp at hk) 0 rfl (C0.2.1.2.1 0 (by decide)).2 hdg kk
theorem cj_el (C0 : CC p s m args c cc nL own G) (hJ : CJ G s R ex b1 b2 m1 m2 D σ H locs ce sl) (i n : Nat) {x z : Int32} (hx : cel σ i n x = some z) (hdg : decode cc pc = .ok (.iaload, 1))
    (kk : W p l e R s m args below meth c H locs ce sl Q (F0 m (pc + 1) ls (.int z :: rest))) : W p l e R s m args below meth c H locs ce sl Q (F0 m pc ls (.int x :: .ref (elA G.1 D i n) :: rest)) := by
  obtain ⟨h1, h2⟩ := og hx
  match i, h1 with
  | 0, _ => exact cj_il C0 hJ 17 n (ad_d rfl) rfl rfl rfl h2 hdg kk
  | 1, _ => exact cj_il C0 hJ 18 n (ad_s rfl) rfl rfl rfl h2 hdg kk
  | 2, _ => exact cj_il C0 hJ 19 n (ad_d rfl) rfl rfl rfl h2 hdg kk
theorem cj_gsort (C0 : CC p s m args c cc nL own G) (hJ : CJ G s R ex b1 b2 m1 true D σ H locs ce sl) (i : Nat) (hlink : (Cond.fieldLink own index (oT 5 0).1 (oT 5 0).2.1 (oT 5 0).2.2.1).before args s = true ∨ ∃ host, (Cond.fieldLinkNest own index (oT 5 0).1 (oT 5 0).2.1 (oT 5 0).2.2.1 host).before args s = true) {x : Int32} (hx : cget σ 5 i 0 = some x) (hdg : decode cc pc = .ok (.getfield index, 3))
    (kk : W p l e R s m args below meth c H locs ce sl Q (F0 m (pc + 3) ls (.ref (cSo G.1 x.toNatClampNeg) :: rest))) : W p l e R s m args below meth c H locs ce sl Q (F0 m pc ls (.ref (D 5 i) :: rest)) := by
  obtain ⟨h1, h2⟩ := og hx
  refine cj_gr (v := .ref (cSo G.1 x.toNatClampNeg)) C0 hJ 5 i 0 (ad_d rfl) (by decide) (by decide) rfl h1 hlink (fun ρ hL => ?_) hdg kk
  show Value.ref (cSo G.1 (ρ 5 i 0).toNatClampNeg) = _
  rw [hL.at (k := 5) (i := i) (j := 0) rfl, Option.some.inj h2]
theorem cj_psort (C0 : CC p s m args c cc nL own G) (hJ : CJ G s R ex b1 b2 m1 true D σ H locs ce sl) (i : Nat) (hlink : (Cond.fieldLink own index (oT 5 0).1 (oT 5 0).2.1 (oT 5 0).2.2.1).before args s = true ∨ ∃ host, (Cond.fieldLinkNest own index (oT 5 0).1 (oT 5 0).2.1 (oT 5 0).2.2.1 host).before args s = true) {x : Int32} (h3 : x.toNatClampNeg < 3) (hx : cst σ 5 i 0 x = some σ') (hdg : decode cc pc = .ok (.putfield index, 3))
    (kk : ∀ (H1 : Heap) (locs1 : List Loc), CJ G s R ex b1 b2 m1 true D σ' H1 locs1 ce sl → W p l e R s m args below meth c H1 locs1 ce sl Q (F0 m (pc + 3) ls rest)) : W p l e R s m args below meth c H locs ce sl Q (F0 m pc ls (.ref (cSo G.1 x.toNatClampNeg) :: .ref (D 5 i) :: rest)) := by
  obtain ⟨h1, h2⟩ := og hx
  obtain ⟨ρ, hW, hL⟩ := hJ.1
  have hl := (hL.live (k := 5) (i := i) rfl).trans h1
  rw [show D 5 i = adr G.1 D 5 i from (ad_d rfl).symm]
  refine hx_put C0.1 C0.2.1 hW 5 i 0 (by decide) (by decide) hl rfl rfl rfl hlink hdg fun H1 n g1 g2 g3 => kk H1 _ ?_
  rw [← Option.some.inj h2]
  refine hJ.wr (hW.2.2.2 5 i hl) ⟨_, hW.wr (cput_same (i := i) (v := x) rfl) hl (fun a b hq j => cput_ne (fun z => hq ⟨z.1, z.2.1⟩)) g3 (fun _ => g1.to (fun j hj => ?_)) (fun z => by omega), hL.put rfl rfl x⟩ g2 g3
  match j, hj with
  | 0, _ =>
    show _ = Value.ref (cSo G.1 (cput ρ 5 i 0 x 5 i 0).toNatClampNeg)
    rw [cput_eq]
    simp [updV]
  | 1, _ =>
    show _ = Value.int (cput ρ 5 i 0 x 5 i 1)
    rw [cput_ne (by omega)]
    rfl
  | 2, _ =>
    show _ = Value.int (cput ρ 5 i 0 x 5 i 2)
    rw [cput_ne (by omega)]
    rfl
/-- a whole array's contents anew -/
def cblk (ρ : CM) (k i : Nat) (f : Nat → Int32) : CM := fun a b d => if a = k ∧ b = i then f d else ρ a b d
theorem cblk_ne {ρ : CM} {k i a b d : Nat} {f : Nat → Int32} (h : ¬ (a = k ∧ b = i)) : cblk ρ k i f a b d = ρ a b d := by simp only [cblk, if_neg h]
theorem cblk_eq {ρ : CM} {k i d : Nat} {f : Nat → Int32} : cblk ρ k i f k i d = f d := by simp [cblk]
theorem cblk_same {ρ : CM} {k i : Nat} {f : Nat → Int32} (h4 : k ≠ 4) (h6 : k ≠ 6) : SameS ρ (cblk ρ k i f) :=
  ⟨fun _ => cblk_ne (fun z => h6 z.1.symm), fun _ => cblk_ne (fun z => h6 z.1.symm), fun _ => cblk_ne (fun z => h4 z.1.symm), fun _ => cblk_ne (fun z => h4 z.1.symm)⟩
theorem aInt_n {k : Nat} (h : aInt k = true) : k ≠ 4 ∧ k ≠ 6 ∧ k ≠ 1 ∧ k ≠ 2 ∧ k ≠ 5 ∧ k ≠ 21 ∧ k ≠ 22 ∧ 7 ≤ k := by
  simp only [aInt, Bool.or_eq_true, beq_iff_eq] at h
  omega
theorem Lz.blk {m1 m2 : Bool} {ρ σ : CM} (h : Lz m1 m2 ρ σ) {k i : Nat} (hai : aInt k = true) (hw : wok m1 m2 k i 0 = true) (f : Nat → Int32) : Lz m1 m2 (cblk ρ k i f) (cblk σ k i f) := by
  obtain ⟨n4, n6, n1, n2, n5, n21, n22, -⟩ := aInt_n hai
  have both : ∀ a b d, ρ a b d = σ a b d → cblk ρ k i f a b d = cblk σ k i f a b d := fun a b d e => by simp only [cblk, e]
  refine ⟨fun a b d x y z => both a b d (h.1 a b d x y z), ?_, ?_, ?_⟩
  · have hf : cblk ρ k i f 1 0 3 = ρ 1 0 3 := cblk_ne (fun z => n1 z.1.symm)
    rcases h.2.1 with ⟨a, b⟩ | ⟨a, b, q⟩
    · exact Or.inl ⟨by rw [hf]; exact a, fun x y z w => both x y z (b x y z w)⟩
    · refine Or.inr ⟨a, by rw [hf]; exact b, ?_⟩
      have n9 : k ≠ 9 := by
        intro z
        subst z
        subst a
        simp [wok, junk, tdS] at hw
      have g : ∀ x, x = 1 ∨ x = 9 ∨ x = 21 → cblk σ k i f x 0 = σ x 0 := fun x hx => by
        funext y
        exact cblk_ne (fun w => by omega)
      rw [g 1 (by omega), g 9 (by omega), g 21 (by omega)]
      exact q
  · have hf : cblk ρ k i f 2 0 3 = ρ 2 0 3 := cblk_ne (fun z => n2 z.1.symm)
    rcases h.2.2.1 with ⟨a, b⟩ | ⟨a, b, q⟩
    · exact Or.inl ⟨by rw [hf]; exact a, fun x y z w => both x y z (b x y z w)⟩
    · refine Or.inr ⟨a, by rw [hf]; exact b, ?_⟩
      have g : ∀ x, x = 2 ∨ x = 22 → cblk σ k i f x 0 = σ x 0 := fun x hx => by
        funext y
        exact cblk_ne (fun w => by omega)
      have g5 : cblk σ k i f 5 = σ 5 := by
        funext x y
        exact cblk_ne (fun w => by omega)
      rw [g 2 (by omega), g 22 (by omega), g5, cblk_ne (ρ := σ) (a := 6) (b := 3) (d := 2) (fun w => by omega)]
      exact q
  · have hS := cblk_same (ρ := ρ) (i := i) (f := f) n4 n6
    intro a ha
    rw [hS.lsz, hS.2.1, hS.1]
    exact h.2.2.2 a ha
/-- System.arraycopy of the first twelve, from one int array to another -/
def ccp (σ : CM) (k i k' i' : Nat) : Option CM := if clive σ k i = true ∧ clive σ k' i' = true then some (cblk σ k' i' (fun d => if d < 12 then σ k i d else σ k' i' d)) else none
/-- System.arraycopy between two int arrays: the target anew, nothing else -/
theorem hx_copy (hexec : p.tables.exec = Jvm.exec) (hb : c.code = cc) (hml : c.maxLocals = ls.size) (hown : s.vm.findClass own = some m.cls) (hlink : (Cond.methodLink own index arraycopyName).before args s = true) (hnat : (Cond.native arraycopyName).before args s = true) (hstat : (Cond.static arraycopyName).before args s = true) (hini : (Cond.initialized "java/lang/System").before args s = true)
    {a0 : Nat} {c0 : ClassId} {n0 n1 : Nat} {f g : Nat → Int32} (hc0 : H[a0]? = some (arrV c0 n0 (fun j => .int (f j)))) (hc1 : H[a]? = some (arrV c0 n1 (fun j => .int (g j)))) (hA : ArrOfT s c0 .int)
    {sp dp n : Int32} (h1 : ¬ sp < 0) (h2 : ¬ dp < 0) (h3 : ¬ n < 0) (h4 : sp.toNatClampNeg + n.toNatClampNeg ≤ n0) (h5 : dp.toNatClampNeg + n.toNatClampNeg ≤ n1)
    (hframes : 1 ≤ R.frames) (hlocals : (rest.map fun v => v.category).sum + (nativeFrameWords "java/lang/System" "arraycopy" 5 + 11) ≤ R.locals) (hdg : decode cc pc = .ok (.invokestatic index, 3))
    (kk : ∀ (H1 : Heap) (locs1 : List Loc), H1[a]? = some (arrV c0 n1 (fun j => .int (va_cpy f g sp.toNatClampNeg dp.toNatClampNeg n.toNatClampNeg j))) → H1.size = H.size → (∀ q, q ≠ a → H1[q]? = H[q]?) → (∀ q ∈ locs1, q ∈ locs ∨ q.base = a) → W p l e R s m args below meth c H1 locs1 ce sl Q (F0 m (pc + 3) ls rest)) : W p l e R s m args below meth c H locs ce sl Q (F0 m pc ls (.int n :: .int dp :: .ref a :: .int sp :: .ref a0 :: rest)) := by
  have nn : ∀ z : Int32, ¬ z < 0 → z.toInt = (z.toNatClampNeg : Int) := by
    intro z hz
    have hz0 : (0 : Int) ≤ z.toInt := by
      have := Int32.not_lt.mp hz
      simpa using Int32.le_iff_toInt_le.mp this
    show z.toInt = ((z.toInt.toNat : Nat) : Int)
    omega
  intro T hT X
  obtain ⟨-, k0, hk0, cm0, hkk0⟩ := hA n0 (fun j => .int (f j))
  obtain ⟨-, k1, hk1, cm1, hkk1⟩ := hA n1 (fun j => .int (g j))
  obtain ⟨vm', X', step⟩ := X.arraycopy hexec hown hlink hnat hstat hini (src := a0) (dst := a) (cs := arrV c0 n0 (fun j => .int (f j))) (cd := arrV c0 n1 (fun j => .int (g j))) (srcPos := sp) (destPos := dp) (n := n) (by rw [hT]; exact hc0) (by rw [hT]; exact hc1)
    (fun _ h => by cases h) (fun _ h => by cases h) (fun h => by cases h) (fun h => by cases h) hk0 hk1 hkk0 hkk1 (by simp [refKind]) h1 h2 h3
    (by rw [nn sp h1, nn n h3, arrV_size]; omega)
    (by rw [nn dp h2, nn n h3, arrV_size]; omega)
    (fun vm₁ _ i hi => by
      have e : (arrV c0 n0 (fun j => .int (f j))).slots.getD (sp.toNatClampNeg + i) .null = .int (f (sp.toNatClampNeg + i)) := by
        rw [Array.getD_eq_getD_getElem?, arrV_read _ _ (by omega)]
        rfl
      refine ⟨?_, ?_⟩
      · rw [e]
        rfl
      · rw [e]
        exact trivial)
    (g := F0 m pc ls (.int n :: .int dp :: .ref a :: .int sp :: .ref a0 :: rest)) rfl (by rw [hml]) (rest := rest) rfl (by rw [hb]; exact hdg) hframes (by show 2 * 0 + _ + _ ≤ _; omega)
  have e1 : copied (arrV c0 n0 (fun j => .int (f j))) (arrV c0 n1 (fun j => .int (g j))) sp dp n = arrV c0 n1 (fun j => .int (va_cpy f g sp.toNatClampNeg dp.toNatClampNeg n.toNatClampNeg j)) := va_copied (fun z => .int z) c0 c0 f g h4
  rw [e1] at X' step
  have hl : a < H.size := (Array.getElem?_eq_some_iff.mp hc1).1
  have hheap : ((T.setVm vm').setCell a (arrV c0 n1 (fun j => .int (va_cpy f g sp.toNatClampNeg dp.toNatClampNeg n.toNatClampNeg j)))).heap = H.setIfInBounds a (arrV c0 n1 (fun j => .int (va_cpy f g sp.toNatClampNeg dp.toNatClampNeg n.toNatClampNeg j))) := by rw [← hT]; rfl
  obtain ⟨t, a1, b1⟩ := kk _ _ (by simp [Array.getElem?_setIfInBounds, hl]) (by simp) (fun q hq => by simp [Array.getElem?_setIfInBounds, Ne.symm hq]) (fun q hq => by
      rcases List.mem_append.mp hq with h | h
      · exact Or.inl h
      · obtain ⟨z, -, hz⟩ := List.mem_map.mp h
        rw [← hz]
        exact Or.inr rfl) _ hheap X'
  exact ⟨t, step t a1, b1⟩
theorem cj_copy (C0 : CC p s m args c cc nL own G) (hJ : CJ G s R ex b1 b2 m1 m2 D σ H locs ce sl) (k i k' i' : Nat) (ha : aInt k = true) (ha' : aInt k' = true) (hne : (k == k') = false) (h12 : aLen σ k i = 12) (h12' : aLen σ k' i' = 12) (hd : dyn k = false) (hd' : dyn k' = false) (hv : vis m1 m2 k i 0 = true) (hw : wok m1 m2 k' i' 0 = true) (hlink : Cond.methodLink own index ⟨"java/lang/System", "arraycopy", "(Ljava/lang/Object;ILjava/lang/Object;II)V"⟩ ∈ lw_all) (hR : 1 ≤ R.frames ∧ 128 ≤ R.locals) (hl : ls.size = nL) (hW : (rest.map fun v => v.category).sum ≤ 8) (hx : ccp σ k i k' i' = some σ') (hdg : decode cc pc = .ok (.invokestatic index, 3))
    (kk : ∀ (H1 : Heap) (locs1 : List Loc), CJ G s R ex b1 b2 m1 m2 D σ' H1 locs1 ce sl → W p l e R s m args below meth c H1 locs1 ce sl Q (F0 m (pc + 3) ls rest)) : W p l e R s m args below meth c H locs ce sl Q (F0 m pc ls (.int 12 :: .int 0 :: .ref (gA G k' i') :: .int 0 :: .ref (gA G k i) :: rest)) := by
  obtain ⟨⟨h1, h2⟩, h3⟩ := og hx
  obtain ⟨ρ, hW0, hL⟩ := hJ.1
  have lvk : ∀ {q : Nat}, aInt q = true → lvok m2 q = true := fun {q} hq => by
    obtain ⟨-, -, -, -, n5, -, -, -⟩ := aInt_n hq
    simp only [aInt, Bool.or_eq_true, beq_iff_eq] at hq
    simp only [lvok, Bool.and_eq_true, Bool.not_eq_true', Bool.or_eq_true, beq_eq_false_iff_ne, ne_eq]
    omega
  have l1 := (hL.live (lvk ha)).trans h1
  have l2 := (hL.live (lvk ha')).trans h2
  obtain ⟨s7, sc, sv⟩ := aInt_s ha G.1 D ρ i
  obtain ⟨t7, tc, tv⟩ := aInt_s ha' G.1 D ρ i'
  have c1 := hW0.2.1 k i s7 l1
  have c2 := hW0.2.1 k' i' t7 l2
  have p2 := hW0.2.2.2 k' i' l2
  rw [ad_s hd] at c1
  rw [ad_s hd'] at c2 p2
  unfold aCell at c1 c2
  rw [sc, sv, hL.len, h12] at c1
  rw [tc, tv, hL.len, h12'] at c2
  have hn : (k' = k) = False := by
    have : ¬ k' = k := by
      simp only [beq_eq_false_iff_ne, ne_eq] at hne
      exact fun z => hne z.symm
    exact eq_false this
  have z12 : (12 : Int32).toNatClampNeg = 12 := by decide
  have z0 : (0 : Int32).toNatClampNeg = 0 := by decide
  refine hx_copy (sp := 0) (dp := 0) (n := 12) C0.1.1 C0.1.2.1 (by rw [C0.1.2.2.1, hl]) C0.1.2.2.2.1 (C0.1.2.2.2.2 _ hlink) (C0.1.2.2.2.2 _ q477) (C0.1.2.2.2.2 _ q476) (C0.1.2.2.2.2 _ q131) c1 c2 (C0.2.1.2.1 0 (by decide)).1 (by decide) (by decide) (by decide) (by rw [z12, z0]; omega) (by rw [z12, z0]; omega) hR.1 (by
    have e9 : nativeFrameWords "java/lang/System" "arraycopy" 5 + 11 ≤ 64 := by decide
    omega) hdg (fun H1 locs1 g1 g2 g3 g4 => kk H1 locs1 ?_)
  have n46 := aInt_n ha'
  have hf : (fun d => if d < 12 then ρ k i d else ρ k' i' d) = (fun d => if d < 12 then σ k i d else σ k' i' d) := by
    funext d
    have v1 : ρ k i d = σ k i d := hL.at (by
      simp only [aInt, Bool.or_eq_true, beq_iff_eq] at ha
      rcases ha with (((((h | h) | h) | h) | h) | h) | h <;> subst h <;> exact hv)
    have v2 : ρ k' i' d = σ k' i' d := hL.at (by
      simp only [aInt, Bool.or_eq_true, beq_iff_eq] at ha'
      rcases ha' with (((((h | h) | h) | h) | h) | h) | h <;> subst h <;> first | rfl | (cases m1 <;> first | rfl | (simp [wok, junk, tdS] at hw)))
    rw [v1, v2]
  refine ⟨⟨cblk ρ k' i' (fun d => if d < 12 then ρ k i d else ρ k' i' d), ?_, ?_⟩, ⟨by rw [g2]; exact hJ.2.1.1, fun q q1 q2 => by rw [g3 q (fun z => q2 (by rw [z]; exact p2))]; exact hJ.2.1.2.1 q q1 q2, fun q hq => by
      rcases g4 q hq with z | z
      · exact hJ.2.1.2.2 q z
      · rw [z]; exact p2⟩, hJ.2.2⟩
  · refine hW0.wr (cblk_same n46.1 n46.2.1) l2 (fun a b hq j => cblk_ne hq) (by rw [ad_s hd']; exact g3) (fun z => by omega) (fun _ => ?_)
    obtain ⟨-, tc', tv'⟩ := aInt_s ha' G.1 D (cblk ρ k' i' (fun d => if d < 12 then ρ k i d else ρ k' i' d)) i'
    rw [ad_s hd', g1]
    unfold aCell
    rw [tc', tv', (cblk_same n46.1 n46.2.1).len, hL.len, h12']
    congr 2
    funext j
    rw [cblk_eq]
    simp only [va_cpy, z0, z12]
    by_cases hj : j < 12
    · simp [hj]
    · simp [hj]
  · rw [← Option.some.inj h3, hf]
    exact hL.blk ha' hw _
end CLE
