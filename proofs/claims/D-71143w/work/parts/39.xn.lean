/-! ArrayList.add -/
set_option maxRecDepth 100000
theorem metP_max10 (l : Launch) (K : CK) : MetP l K yJ8_max 2 0 [.int 10, .int 1] (some (.int 10)) := by
  refine metP_w (cc := cJ8_max) q340 rfl (Nat.le_of_ble_eq_true rfl) (fun p e s m args below meth c Q S hSt hE ls hl => ?_)
  obtain ⟨hx, hb, hml, ho, hts⟩ := S
  have hl : lv_has ls 2 [(0, .int 10), (1, .int 1)] := hl
  refine lv_iload_n hx hb dJ8_max_0 rfl (lv_at hl 0 rfl) ?_
  refine lv_iload_n hx hb dJ8_max_1 rfl (lv_at hl 1 rfl) ?_
  refine lv_icmp_lt (tgt := 9) hx hb dJ8_max_2 (by decide) (fun hc => absurd hc (by decide)) (fun _ => ?_)
  refine lv_iload_n hx hb dJ8_max_5 rfl (lv_at hl 0 rfl) ?_
  refine lv_goto (tgt := 10) hx hb dJ8_max_6 (by decide) ?_
  exact hE _ _ dJ8_max_10
/-- ten places anew -/
def GrwR (K : CK) (b : Nat) (mc : Int32) (H0 : Heap) : Outcome → Heap → Prop := fun o H1 => o = .returned (some (.ref H0.size)) ∧ H1.size = H0.size + 1 ∧ (∀ q, q < H0.size → q ≠ b → H1[q]? = H0[q]?) ∧ LiO K b mc H0.size 0 H1 ∧ LiA K H0.size (fun _ => .null) H1
theorem metH_grow2 (l : Launch) (K : CK) (b : Nat) (mc : Int32) (H0 : Heap) (hO : LiO K b mc (cEm K) 0 H0) (hbP : cP K b) (hblt : b < H0.size) : MetH l K yJ2_grow_2 4 1 1 10 [.ref b, .int 1] H0 (GrwR K b mc H0) := by
  refine metH_w (cc := cJ2_grow_2) q435 (Or.inr (Or.inr (Or.inr (Or.inr (Or.inr ⟨_, rfl⟩))))) (Nat.le_of_ble_eq_true rfl) (fun p e s m args below meth c Q hH hnm hno E hE hT ls hl => ?_)
  subst hH
  obtain ⟨S, hTb, hSt, hA9⟩ := E
  have S0 := S
  obtain ⟨hx, hb, hml, ho, hts⟩ := S
  have hK := hTb.1 6 (by decide)
  have hl : lv_has ls 4 [(0, .ref b), (1, .int 1)] := hl
  refine lv_aload_n hx hb dJ2_grow_2_0 rfl (lv_at hl 0 rfl) ?_
  refine ob_get S0 hK in_J2 hO 1 (by decide) rfl q675 (v := .ref (cEm K)) rfl dJ2_grow_2_1 ?_
  refine va_tlen hx hb hSt.2.2.2.2.1 va_S.rf (v := 0) rfl dJ2_grow_2_4 ?_
  refine lv_istore_n hx hb dJ2_grow_2_5 rfl hl (by decide) rfl (fun ls hl => ?_)
  have hl : lv_has ls 4 [(2, .int 0), (0, .ref b), (1, .int 1)] := hl
  refine lv_iload_n hx hb dJ2_grow_2_6 rfl (lv_at hl 0 rfl) ?_
  refine lv_if_gt (tgt := 20) hx hb dJ2_grow_2_7 (by decide) (fun hc => absurd hc (by decide)) (fun _ => ?_)
  refine lv_aload_n hx hb dJ2_grow_2_10 rfl (lv_at hl 1 rfl) ?_
  refine ob_get S0 hK in_J2 hO 1 (by decide) rfl q675 (v := .ref (cEm K)) rfl dJ2_grow_2_11 ?_
  refine va_gets hx hb hSt.2.2.2.1 va_S.rf ho (hts _ q436) (fun _ h => h) dJ2_grow_2_14 ?_
  refine lv_acmp_eq (rx := some (cEm K)) (ry := some (cEm K)) (tgt := 45) hx hb dJ2_grow_2_17 (by decide) (fun _ => ?_) (fun hc => absurd rfl hc)
  refine lv_aload_n hx hb dJ2_grow_2_45 rfl (lv_at hl 1 rfl) ?_
  refine lv_bipush hx hb dJ2_grow_2_46 (v := 10) (by decide) ?_
  refine lv_iload_n hx hb dJ2_grow_2_48 rfl (lv_at hl 2 rfl) ?_
  refine hx_pS (As := [.int 10, .int 1]) (rest := [.ref b]) S0 hSt va_S.rf (metP_max10 l K) hdP_5.2 ⟨by decide, by decide⟩ q340 q478 q339 q125 hdP_5.1 hl.1 rfl (Nat.le_of_ble_eq_true rfl) ⟨Nat.zero_le _, Nat.zero_le _⟩ dJ2_grow_2_49 ?_
  refine W.anew hx hb ho (hts _ q479) (hTb.2.2 (.arrayOver (.object "java/lang/Object")) (by simp [cNest])) (n := 10) (rest := [.ref b]) rfl dJ2_grow_2_52 rfl (by decide) (by decide) (Nat.le_refl _) (Nat.le_refl _) (fun cA kA comp w1 w2 w3 w4 => ?_)
  cases ((hTb.2.1 7 (by decide)).2).symm.trans w1
  have hnew : (s.heap.push { cls := cR K 7, slots := Array.replicate (10 : Int32).toNatClampNeg .null, vm := .none })[s.heap.size]? = some (arrV (cR K 7) 10 (fun _ => .null)) := by
    rw [Array.getElem?_push_size]
    congr 1
  have hold : ∀ q, q < s.heap.size → (s.heap.push { cls := cR K 7, slots := Array.replicate (10 : Int32).toNatClampNeg .null, vm := .none })[q]? = s.heap[q]? := fun q hq => Array.getElem?_push_lt hq ▸ (by rw [Array.getElem?_eq_getElem hq])
  have hz : (s.heap.push { cls := cR K 7, slots := Array.replicate (10 : Int32).toNatClampNeg .null, vm := .none }).size = s.heap.size + 1 := Array.size_push _
  show W p l e (rmc 1 1 10) s m args below meth c (s.heap.push { cls := cR K 7, slots := Array.replicate (10 : Int32).toNatClampNeg .null, vm := .none }) [] (0 + 1) (0 + 10) Q (F0 m 55 ls [.ref s.heap.size, .ref b])
  generalize hHn : s.heap.push { cls := cR K 7, slots := Array.replicate (10 : Int32).toNatClampNeg .null, vm := .none } = Hn at hnew hold hz
  have hO1 : LiO K b mc (cEm K) 0 Hn := hO.kept (hold b hblt)
  have hS1 : va_S (cP K) s.heap Hn [] := hv_new va_S.rf hz hold
  refine lv_dup_x1 hx hb dJ2_grow_2_55 rfl rfl ?_
  refine ob_putR S0 hK in_J2 tyJ2_ok nmJ2 hO1 1 (by decide) rfl (v := .ref s.heap.size) rfl rfl rfl q675 dJ2_grow_2_56 (fun H2 n2 hO2 z2 o2 => ?_)
  have hO2 : LiO K b mc s.heap.size 0 H2 := hO2.to (li_1 _ _ _ _)
  exact hE H2 _ _ _ ls 59 (some (.ref s.heap.size)) (hv_put hS1 z2 o2 hbP) (Nat.le_refl _) (Nat.le_refl _) ⟨rfl, by omega, fun q h1 h2 => by rw [o2 q h2, hold q h1], hO2, by show H2[_]? = _; rw [o2 _ (by omega)]; exact hnew⟩ (Or.inr ⟨_, rfl⟩) dJ2_grow_2_59

theorem hdH_li : (yJ2_grow_2.cls ≠ "java/lang/invoke/MethodHandle" ∧ yJ2_grow_2.cls ≠ "java/lang/invoke/VarHandle" ∧ (parseMethodDescriptor yJ2_grow_2.desc).map (fun d => d.parameters.length) = some 1) ∧ (yJ2_grow.cls ≠ "java/lang/invoke/MethodHandle" ∧ yJ2_grow.cls ≠ "java/lang/invoke/VarHandle" ∧ (parseMethodDescriptor yJ2_grow.desc).map (fun d => d.parameters.length) = some 0) ∧ (yJ2_add_2.cls ≠ "java/lang/invoke/MethodHandle" ∧ yJ2_add_2.cls ≠ "java/lang/invoke/VarHandle" ∧ (parseMethodDescriptor yJ2_add_2.desc).map (fun d => d.parameters.length) = some 3) ∧ (yJ2_add.cls ≠ "java/lang/invoke/MethodHandle" ∧ yJ2_add.cls ≠ "java/lang/invoke/VarHandle" ∧ (parseMethodDescriptor yJ2_add.desc).map (fun d => d.parameters.length) = some 1) ∧ (yJ2_clear.cls ≠ "java/lang/invoke/MethodHandle" ∧ yJ2_clear.cls ≠ "java/lang/invoke/VarHandle" ∧ (parseMethodDescriptor yJ2_clear.desc).map (fun d => d.parameters.length) = some 0) ∧ (yJ2_size.cls ≠ "java/lang/invoke/MethodHandle" ∧ yJ2_size.cls ≠ "java/lang/invoke/VarHandle" ∧ (parseMethodDescriptor yJ2_size.desc).map (fun d => d.parameters.length) = some 0) := by decide +kernel
theorem hdH_lp : plainFor yJ2_grow_2 = true ∧ plainFor yJ2_grow = true ∧ plainFor yJ2_add_2 = true ∧ plainFor yJ2_add = true ∧ plainFor yJ2_clear = true ∧ plainFor yJ2_size = true := by decide +kernel
theorem li_recv {K : CK} {b : Nat} {mc : Int32} {d n : Nat} {H : Heap} {s : State} (hT : CTb K s) (hO : LiO K b mc d n H) : ∃ cell : Cell, H[b]? = some cell ∧ cell.vm.isStatics = false ∧ s.vm.findClass RJ2 = some cell.cls := by
  obtain ⟨cell, q1, q2, q3, -⟩ := hO
  exact ⟨cell, q1, by rw [q3]; rfl, by rw [q2]; exact (hT.1 6 (by decide)).2.1⟩
theorem metH_grow (l : Launch) (K : CK) (b : Nat) (mc : Int32) (H0 : Heap) (hO : LiO K b mc (cEm K) 0 H0) (hbP : cP K b) (hblt : b < H0.size) : MetH l K yJ2_grow 1 2 1 10 [.ref b] H0 (GrwR K b mc H0) := by
  refine metH_w (cc := cJ2_grow) q431 (Or.inr (Or.inr (Or.inr (Or.inr (Or.inr ⟨_, rfl⟩))))) (Nat.le_of_ble_eq_true rfl) (fun p e s m args below meth c Q hH hnm hno E hE hT ls hl => ?_)
  subst hH
  have E0 := E
  obtain ⟨S, hTb, hSt, hA9⟩ := E
  have S0 := S
  obtain ⟨hx, hb, hml, ho, hts⟩ := S
  have hK := hTb.1 6 (by decide)
  have hl : lv_has ls 1 [(0, .ref b)] := hl
  refine lv_aload_n hx hb dJ2_grow_0 rfl (lv_at hl 0 rfl) ?_
  refine lv_aload_n hx hb dJ2_grow_1 rfl (lv_at hl 0 rfl) ?_
  refine ob_get S0 hK in_J2 hO 2 (by decide) rfl q676 (v := .int 0) rfl dJ2_grow_2 ?_
  refine lv_iconst hx hb dJ2_grow_5 (v := 1) (by decide) ?_
  refine lv_iadd hx hb dJ2_grow_6 ?_
  refine hx_HV (C := RJ2) (As := [.int 1]) (rest := []) E0 va_S.rf (metH_grow2 l K b mc s.heap hO hbP hblt) (fun _ _ h => by cases h.1) hdH_lp.1 ⟨by decide, by decide⟩ q435 q432 q434 qs4 hdH_li.1 (li_recv hTb hO) hl.1 rfl (Nat.le_of_ble_eq_true rfl) ⟨Nat.le_refl _, Nat.le_refl _⟩ dJ2_grow_7 (fun v H1 L hF hq hS => ?_)
  obtain ⟨e0, h1⟩ := hq
  cases e0
  exact hE H1 _ _ _ ls 10 (some (.ref s.heap.size)) hS (Nat.le_refl _) (Nat.le_refl _) ⟨rfl, h1⟩ (Or.inr ⟨_, rfl⟩) dJ2_grow_10
/-- one more: the array as it was (d), or ten places anew -/
def AddR (K : CK) (b : Nat) (mc : Int32) (d n : Nat) (f : Nat → Value) (v : Nat) (rv : Option Value) (H0 : Heap) : Outcome → Heap → Prop := fun o H1 => o = .returned rv ∧ LiO K b mc (if d = cEm K then H0.size else d) (n + 1) H1 ∧ LiA K (if d = cEm K then H0.size else d) (updV f n (.ref v)) H1 ∧ H0.size ≤ H1.size ∧ H1.size ≤ H0.size + 1 ∧ (d = cEm K → H1.size = H0.size + 1) ∧ (∀ q, q < H0.size → q ≠ b → q ≠ d → H1[q]? = H0[q]?)
/-- what a list must be for that -/
def AddP (K : CK) (b : Nat) (d n : Nat) (f : Nat → Value) (v : Nat) (H0 : Heap) : Prop := (d = cEm K ∧ n = 0 ∧ f = (fun _ => .null)) ∨ (d ≠ cEm K ∧ n < 10 ∧ LiA K d f H0 ∧ d ≠ b ∧ cP K d)
theorem metH_add2 (l : Launch) (K : CK) (b : Nat) (mc : Int32) (d n : Nat) (f : Nat → Value) (v : Nat) (E : String) (H0 : Heap) (hO : LiO K b mc d n H0) (hbP : cP K b) (hA : AddP K b d n f v H0) (hca : Cond.castable E "java/lang/Object" ∈ cNest) (hv : ∃ cv : Cell, H0[v]? = some cv ∧ cv.vm.isStatics = false ∧ ∀ s : State, CTb K s → s.vm.findClass E = some cv.cls) (hvb : v ≠ b) : MetH l K yJ2_add_2 4 3 1 10 [.ref b, .ref v, .ref d, .int (nI n)] H0 (AddR K b mc d n f v none H0) := by
  refine metH_w (cc := cJ2_add_2) q427 (Or.inl rfl) (Nat.le_of_ble_eq_true rfl) (fun p e s m args below meth c Q hH hnm hno E9 hE hT ls hl => ?_)
  subst hH
  have E0 := E9
  obtain ⟨S, hTb, hSt, hA9⟩ := E9
  have S0 := S
  obtain ⟨hx, hb, hml, ho, hts⟩ := S
  have hK := hTb.1 6 (by decide)
  have hl : lv_has ls 4 [(0, .ref b), (1, .ref v), (2, .ref d), (3, .int (nI n))] := hl
  obtain ⟨cell0, q10, -⟩ := id hO
  have hblt : b < s.heap.size := (Array.getElem?_eq_some_iff.mp q10).1
  obtain ⟨cv, hv1, hv2, hv3⟩ := hv
  have hvlt : v < s.heap.size := (Array.getElem?_eq_some_iff.mp hv1).1
  have hn10 : n < 10 := by
    rcases hA with h | h
    · omega
    · exact h.2.1
  have hnum := nI10 n (by omega)
  -- behind the store
  have tail : ∀ (d' : Nat) (ls : Array Slot) (H : Heap) (locs : List Loc), lv_has ls 4 [(2, .ref d'), (0, .ref b), (1, .ref v), (3, .int (nI n))] → LiO K b mc d' n H → LiA K d' f H → d' ≠ b → cP K d' → d' = (if d = cEm K then s.heap.size else d) → va_S (cP K) s.heap H locs → s.heap.size ≤ H.size → H.size ≤ s.heap.size + 1 → (d = cEm K → H.size = s.heap.size + 1) → (∀ q, q < s.heap.size → q ≠ b → q ≠ d → H[q]? = s.heap[q]?) → H[v]? = some cv → W p l e (rmc 3 1 10) s m args below meth c H locs 1 10 Q (F0 m 11 ls []) := by
    intro d' ls H locs hl hO1 hA1 hdb hdP hd' hS z1 z2 z3 o1 hvv
    refine lv_aload_n hx hb dJ2_add_2_11 rfl (lv_at hl 0 rfl) ?_
    refine lv_iload_n hx hb dJ2_add_2_12 rfl (lv_at hl 3 rfl) ?_
    refine lv_aload_n hx hb dJ2_add_2_13 rfl (lv_at hl 2 rfl) ?_
    refine hx_aO (E := E) S0 hTb hA1 (hTb.2.2 _ hca) ⟨cv, hvv, hv2, hv3 s hTb⟩ (x := nI n) (hnum.2.2.2.2.1 hn10) dJ2_add_2_14 (fun H2 n2 hA2 z4 o2 => ?_)
    rw [hnum.1] at hA2
    have hO2 : LiO K b mc d' n H2 := hO1.kept (o2 b (Ne.symm hdb))
    refine lv_aload_n hx hb dJ2_add_2_15 rfl (lv_at hl 1 rfl) ?_
    refine lv_iload_n hx hb dJ2_add_2_16 rfl (lv_at hl 3 rfl) ?_
    refine lv_iconst hx hb dJ2_add_2_17 (v := 1) (by decide) ?_
    refine lv_iadd hx hb dJ2_add_2_18 ?_
    rw [hnum.2.2.2.1]
    refine ob_putR S0 hK in_J2 tyJ2_ok nmJ2 hO2 2 (by decide) rfl (v := .int (nI (n + 1))) rfl rfl rfl q676 dJ2_add_2_19 (fun H3 n3 hO3 z5 o3 => ?_)
    have hO3 : LiO K b mc d' (n + 1) H3 := hO3.to (li_2 _ _ _ _)
    refine hE H3 _ _ _ ls 22 none (hv_put (hv_put hS z4 o2 hdP) z5 o3 hbP) (Nat.le_refl _) (Nat.le_refl _) ⟨rfl, by rw [← hd']; exact hO3, ?_, by omega, by omega, fun h => by rw [z5, z4]; exact z3 h, fun q h1 h2 h3 => ?_⟩ rfl dJ2_add_2_22
    · rw [← hd']
      show H3[d']? = _
      rw [o3 d' hdb]
      exact hA2
    · have hq : q ≠ d' := by
        rw [hd']
        split
        · omega
        · exact h3
      rw [o3 q h2, o2 q hq, o1 q h1 h2 h3]
  refine lv_iload_n hx hb dJ2_add_2_0 rfl (lv_at hl 3 rfl) ?_
  refine lv_aload_n hx hb dJ2_add_2_1 rfl (lv_at hl 2 rfl) ?_
  rcases hA with ⟨h1, h2, h3⟩ | ⟨h1, h2, h3, h4, h5⟩
  · subst h1
    subst h2
    refine va_tlen hx hb hSt.2.2.2.2.1 va_S.rf (v := 0) rfl dJ2_add_2_2 ?_
    refine lv_icmp_ne (tgt := 11) hx hb dJ2_add_2_3 (by decide) (fun hc => absurd rfl hc) (fun _ => ?_)
    refine lv_aload_n hx hb dJ2_add_2_6 rfl (lv_at hl 0 rfl) ?_
    refine hx_HV (C := RJ2) (As := []) (rest := []) E0 va_S.rf (metH_grow l K b mc s.heap hO hbP hblt) (fun _ _ h => by cases h.1) hdH_lp.2.1 ⟨by decide, by decide⟩ q431 q428 q430 qs3 hdH_li.2.1 (li_recv hTb hO) hl.1 rfl (Nat.le_of_ble_eq_true rfl) ⟨Nat.le_refl _, Nat.le_refl _⟩ dJ2_add_2_7 (fun v9 H1 L hF hq hS => ?_)
    obtain ⟨e0, z1, o1, hO1, hA1⟩ := hq
    cases e0
    refine lv_astore_n hx hb dJ2_add_2_10 rfl hl (by decide) rfl (fun ls hl => ?_)
    exact tail s.heap.size ls H1 _ hl hO1 (by rw [h3]; exact hA1) (by omega) (hA9 _ (Nat.le_refl _)) (by rw [if_pos rfl]) hS (by omega) (by omega) (fun _ => z1) (fun q g1 g2 _ => o1 q g1 g2) (by rw [o1 v hvlt hvb]; exact hv1)
  · refine W.alen (n := 10) hx hb h3 ((hTb.2.1 7 (by decide)).1 10 f) (by rw [arrV_size]; rfl) rfl rfl dJ2_add_2_2 ?_
    show W p l e (rmc 3 1 10) s m args below meth c s.heap [] 0 0 Q (F0 m 3 ls [.int 10, .int (nI n)])
    refine lv_icmp_ne (tgt := 11) hx hb dJ2_add_2_3 (by decide) (fun _ => ?_) (fun hc => absurd hc (hnum.2.2.2.2.2.1 h2))
    refine W.widen (k := 1) (n := 10) (Nat.zero_le _) (Nat.zero_le _) ?_
    exact tail d ls s.heap [] (lv_sub hl [2, 0, 1, 3] rfl) hO h3 h4 h5 (by rw [if_neg h1]) va_S.rf (Nat.le_refl _) (by omega) (fun h => absurd h h1) (fun _ _ _ _ => rfl) hv1
theorem metH_add (l : Launch) (K : CK) (b : Nat) (mc : Int32) (d n : Nat) (f : Nat → Value) (v : Nat) (E : String) (H0 : Heap) (hO : LiO K b mc d n H0) (hbP : cP K b) (hA : AddP K b d n f v H0) (hca : Cond.castable E "java/lang/Object" ∈ cNest) (hv : ∃ cv : Cell, H0[v]? = some cv ∧ cv.vm.isStatics = false ∧ ∀ s : State, CTb K s → s.vm.findClass E = some cv.cls) (hvb : v ≠ b) : MetH l K yJ2_add 2 4 1 10 [.ref b, .ref v] H0 (AddR K b (mc + 1) d n f v (some (.int 1)) H0) := by
  refine metH_w (cc := cJ2_add) q422 (Or.inr (Or.inr (Or.inl rfl))) (Nat.le_of_ble_eq_true rfl) (fun p e s m args below meth c Q hH hnm hno E9 hE hT ls hl => ?_)
  subst hH
  have E0 := E9
  obtain ⟨S, hTb, hSt, hA9⟩ := E9
  have S0 := S
  obtain ⟨hx, hb, hml, ho, hts⟩ := S
  have hK := hTb.1 6 (by decide)
  have hf0 : FdAs s "java/util/ArrayList" TJ2 0 := FdAs.of hts q679
  have hl : lv_has ls 2 [(0, .ref b), (1, .ref v)] := hl
  refine lv_aload_n hx hb dJ2_add_0 rfl (lv_at hl 0 rfl) ?_
  refine lv_dup hx hb dJ2_add_1 rfl ?_
  refine ob_get S0 hK in_J2 hO 0 (by decide) hf0 q678 (v := .int mc) rfl dJ2_add_2 ?_
  refine lv_iconst hx hb dJ2_add_5 (v := 1) (by decide) ?_
  refine lv_iadd hx hb dJ2_add_6 ?_
  refine ob_putR S0 hK in_J2 tyJ2_ok nmJ2 hO 0 (by decide) rfl (v := .int (mc + 1)) rfl rfl hf0 q678 dJ2_add_7 (fun H1 n1 hO1 z1 o1 => ?_)
  have hO1 : LiO K b (mc + 1) d n H1 := hO1.to (li_0 _ _ _ _)
  have hS1 := hv_put (n := n1) (locs := []) (va_S.rf (A := cP K)) z1 o1 hbP
  have hA1 : AddP K b d n f v H1 := by
    rcases hA with h | ⟨h1, h2, h3, h4, h5⟩
    · exact Or.inl h
    · exact Or.inr ⟨h1, h2, by show H1[d]? = _; rw [o1 d h4]; exact h3, h4, h5⟩
  have hv1 : ∃ cv : Cell, H1[v]? = some cv ∧ cv.vm.isStatics = false ∧ ∀ s : State, CTb K s → s.vm.findClass E = some cv.cls := by
    obtain ⟨cv, g1, g2⟩ := hv
    exact ⟨cv, by rw [o1 v hvb]; exact g1, g2⟩
  refine lv_aload_n hx hb dJ2_add_10 rfl (lv_at hl 0 rfl) ?_
  refine lv_aload_n hx hb dJ2_add_11 rfl (lv_at hl 1 rfl) ?_
  refine lv_aload_n hx hb dJ2_add_12 rfl (lv_at hl 0 rfl) ?_
  refine ob_get S0 hK in_J2 hO1 1 (by decide) rfl q675 (v := .ref d) rfl dJ2_add_13 ?_
  refine lv_aload_n hx hb dJ2_add_16 rfl (lv_at hl 0 rfl) ?_
  refine ob_get S0 hK in_J2 hO1 2 (by decide) rfl q676 (v := .int (nI n)) rfl dJ2_add_17 ?_
  refine hx_HV (C := RJ2) (As := [.ref v, .ref d, .int (nI n)]) (rest := []) E0 hS1 (metH_add2 l K b (mc + 1) d n f v E H1 hO1 hbP hA1 hca hv1 hvb) (fun _ _ h => by cases h.1) hdH_lp.2.2.1 ⟨by decide, by decide⟩ q427 q423 q425 qs2 hdH_li.2.2.1 (li_recv hTb hO1) hl.1 rfl (Nat.le_of_ble_eq_true rfl) ⟨Nat.le_refl _, Nat.le_refl _⟩ dJ2_add_20 (fun v9 H2 L hF hq hS => ?_)
  obtain ⟨e0, hO2, hA2, z2, z3, z4, o2⟩ := hq
  cases e0
  rw [z1] at hO2 hA2
  refine lv_iconst hx hb dJ2_add_23 (v := 1) (by decide) ?_
  exact hE H2 _ _ _ ls 24 (some (.int 1)) hS (Nat.le_refl _) (Nat.le_refl _) ⟨rfl, hO2, hA2, by omega, by omega, fun h => by rw [z4 h, z1], fun q g1 g2 g3 => by rw [o2 q (by omega) g2 g3, o1 q g2]⟩ ⟨_, rfl⟩ dJ2_add_24
