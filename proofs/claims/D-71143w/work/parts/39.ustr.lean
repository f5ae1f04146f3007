/-! PURE METHODS BY THEIR OWN WALK (nothing moves): the JDK's String.indexOf over the literals -/
set_option maxRecDepth 100000
def PuQ (v : Option Value) : Array Value → State → Outcome → State → Prop := fun _ st o t => o = .returned v ∧ t.heap = st.heap
theorem PuQ.ret {v : Option Value} : ∀ a st o t, PuQ v a st o t → ∃ v, o = .returned v := fun _ _ _ _ h => ⟨_, h.1⟩
def PuP (K : CK) (As : List Value) : Array Value → State → Prop := va_Pc As (fun U => CSt K U U.heap)
theorem PuP.blind {K : CK} {As : List Value} : FrameBlind (PuP K As) := by
  intro a U g mk h
  obtain ⟨h0, h1⟩ := h
  exact ⟨h0, CSt.next (H := U.heap) (U := U.calling g mk a) h1 (State.WarmedH.refl U) (fun _ _ _ => rfl)⟩
abbrev MetP (l : Launch) (K : CK) (y : MethodName) (nL d : Nat) (As : List Value) (v : Option Value) : Prop := MetB l y nL (rmc d 0 0) (PuP K As) (PuQ v) 0 0 (fun _ => False)
section PUR
variable {p : Program} {l : Launch} {e : Env} {R : Room} {s : State} {m : MethodId} {args : Array Value} {below : List Frame} {meth : Method} {c : Code} {H : Heap} {locs : List Loc} {ce sl : Nat} {Q : State → Prop}
variable {cc bytes : ByteArray} {pc nL maxL index d b : Nat} {ls : Array Slot} {rest st As : List Value} {own C : String} {y : MethodName} {rt : Option FieldType} {v : Option Value} {K : CK}
/-- the statics' picture at any point of a walk -/
theorem CSt.at (hS : CSt K s s.heap) (hv : va_S (cP K) s.heap H locs) {U : State} (hU : U.heap = H) (hW : s.WarmedH U.vm) : CSt K U U.heap :=
  CSt.next hS hW (fun a h1 h2 => by rw [hU]; exact hv.2.1 a h1 h2)
theorem hx_pV (S : CallFix p m c cc nL s args lw_all own) (hSt : CSt K s s.heap) (hS : va_S (cP K) s.heap H locs) (hM : MetP l K y maxL d (.ref b :: As) v) (hpl : plainFor y = true) (hR : d + 1 ≤ R.frames ∧ 8 + (maxL + 11) + 64 * d ≤ R.locals) (hcode : Cond.code y bytes maxL rt ∈ lw_all) (hlink : Cond.methodLink own index y ∈ lw_all) (hiy : Cond.instanceMethod y ∈ lw_all) (hsel : Cond.selects C y y ∈ lw_all)
    (hd : y.cls ≠ "java/lang/invoke/MethodHandle" ∧ y.cls ≠ "java/lang/invoke/VarHandle" ∧ (parseMethodDescriptor y.desc).map (fun d => d.parameters.length) = some As.length)
    (hrecv : ∃ cell : Cell, H[b]? = some cell ∧ cell.vm.isStatics = false ∧ s.vm.findClass C = some cell.cls) (hl : ls.size = nL) (hst : st = As.reverse ++ .ref b :: rest) (hW : (rest.map fun v => v.category).sum ≤ 8) (hfit : ce ≤ R.cells ∧ sl ≤ R.slots) (hdg : decode cc pc = .ok (.invokevirtual index, 3))
    (kk : W p l e R s m args below meth c H locs ce sl Q (F0 m (pc + 3) ls (v.toList ++ rest))) : W p l e R s m args below meth c H locs ce sl Q (F0 m pc ls st) := by
  obtain ⟨hx, hb, hml, ho, hts⟩ := S
  obtain ⟨cell, g1, g2, g3⟩ := hrecv
  have hK : Back l R p e below s args y 3 8 (PreOf R 0 0 (PuP K (.ref b :: As))) (PostOf (PuQ v) 0 0 (fun _ => False)) := back_bare (bytes := bytes) (ret := rt) hM PuQ.ret hx hpl PuP.blind rfl rfl hR.1 hR.2 hts hcode
  intro T hT X
  obtain ⟨v', vm₁, ⟨U', l2, c2, s2⟩, hW₁, X', ⟨g', mk, t, L, e1, e2, hq, h1, hL, h2, h3⟩, st'⟩ := callV X hx (C := C) (y := y) (bytes := bytes) (maxL := maxL) (ret := rt) ho (hts _ hlink) (hts _ hiy) (hts _ hsel) (hts _ hcode) ⟨hd.1, hd.2.1⟩ hK (by rw [hT]; exact g1) g2 g3 (g := F0 m pc ls st) rfl (hl.trans hml.symm) (argsL := As) (rest := rest) (fun sig h => by have h9 := hd.2.2; rw [h] at h9; exact (Option.some.inj h9).symm) hst (by show 2 * 0 + _ ≤ 8; omega) (by rw [hb]; exact hdg)
    (fun vm₁ hW₁ => ⟨hfit.1, hfit.2, rfl, CSt.at hSt hS (U := T.setVm vm₁) hT hW₁⟩)
  dsimp only [Pt.U, Pt.locs, Pt.cells, Pt.slots] at X' e1 e2 h1 h2 h3 st'
  subst h1; subst h2; subst h3
  obtain ⟨hv, hh⟩ := hq
  cases hv
  have hL0 : L = [] := List.eq_nil_iff_forall_not_mem.mpr (fun q hq => hL q hq)
  subst hL0
  rw [List.append_nil] at X'
  obtain ⟨t2, a1, b1⟩ := kk U' (by rw [e1, hh]; exact hT) X'
  exact ⟨t2, st' t2 a1, b1⟩
theorem hx_pS (S : CallFix p m c cc nL s args lw_all own) (hSt : CSt K s s.heap) (hS : va_S (cP K) s.heap H locs) (hM : MetP l K y maxL d As v) (hpl : plainFor y = true) (hR : d + 1 ≤ R.frames ∧ 8 + (maxL + 11) + 64 * d ≤ R.locals) (hcode : Cond.code y bytes maxL rt ∈ lw_all) (hlink : Cond.methodLink own index y ∈ lw_all) (hst0 : Cond.static y ∈ lw_all) (hini : Cond.initialized y.cls ∈ lw_all)
    (hd : y.cls ≠ "java/lang/invoke/MethodHandle" ∧ y.cls ≠ "java/lang/invoke/VarHandle" ∧ (parseMethodDescriptor y.desc).map (fun d => d.parameters.length) = some As.length)
    (hl : ls.size = nL) (hst : st = As.reverse ++ rest) (hW : (rest.map fun v => v.category).sum ≤ 8) (hfit : ce ≤ R.cells ∧ sl ≤ R.slots) (hdg : decode cc pc = .ok (.invokestatic index, 3))
    (kk : W p l e R s m args below meth c H locs ce sl Q (F0 m (pc + 3) ls (v.toList ++ rest))) : W p l e R s m args below meth c H locs ce sl Q (F0 m pc ls st) := by
  obtain ⟨hx, hb, hml, ho, hts⟩ := S
  have hK : Back l R p e below s args y 3 8 (PreOf R 0 0 (PuP K As)) (PostOf (PuQ v) 0 0 (fun _ => False)) := back_bare (bytes := bytes) (ret := rt) hM PuQ.ret hx hpl PuP.blind rfl rfl hR.1 hR.2 hts hcode
  intro T hT X
  obtain ⟨v', vm₁, ⟨U', l2, c2, s2⟩, hW₁, X', ⟨g', mk, t, L, e1, e2, hq, h1, hL, h2, h3⟩, st'⟩ := callS X hx (y := y) (bytes := bytes) (maxL := maxL) (ret := rt) ho (hts _ hlink) (hts _ hst0) (hts _ hini) (hts _ hcode) ⟨hd.1, hd.2.1⟩ hK (g := F0 m pc ls st) rfl (hl.trans hml.symm) (argsL := As) (rest := rest) (fun sig h => by have h9 := hd.2.2; rw [h] at h9; exact (Option.some.inj h9).symm) hst (by show 2 * 0 + _ ≤ 8; omega) (by rw [hb]; exact hdg)
    (fun vm₁ hW₁ => ⟨hfit.1, hfit.2, rfl, CSt.at hSt hS (U := T.setVm vm₁) hT hW₁⟩)
  dsimp only [Pt.U, Pt.locs, Pt.cells, Pt.slots] at X' e1 e2 h1 h2 h3 st'
  subst h1; subst h2; subst h3
  obtain ⟨hv, hh⟩ := hq
  cases hv
  have hL0 : L = [] := List.eq_nil_iff_forall_not_mem.mpr (fun q hq => hL q hq)
  subst hL0
  rw [List.append_nil] at X'
  obtain ⟨t2, a1, b1⟩ := kk U' (by rw [e1, hh]; exact hT) X'
  exact ⟨t2, st' t2 a1, b1⟩
end PUR
theorem metP_w {l : Launch} {K : CK} {y : MethodName} {cc : ByteArray} {nL d : Nat} {As : List Value} {z : Int32} {ty : FieldType} (hcode : Cond.code y cc nL (some ty) ∈ lw_all) (hn : narrow ty (.int z) = .int z) (hlen : (lg_sl As).length ≤ nL)
    (hw : ∀ (p : Program) (e : Env) (s : State) (m : MethodId) (args : Array Value) (below : List Frame) (meth : Method) (c : Code) (Q : State → Prop), CallFix p m c cc nL s args lw_all y.cls → CSt K s s.heap → (∀ (ls : Array Slot) (pc : Nat), decode cc pc = .ok (.ireturn, 1) → W p l e (rmc d 0 0) s m args below meth c s.heap [] 0 0 Q (F0 m pc ls [.int z])) → ∀ ls : Array Slot, lv_has ls nL (lv_args 0 As) → W p l e (rmc d 0 0) s m args below meth c s.heap [] 0 0 Q (F0 m 0 ls [])) : MetP l K y nL d As (some (.int z)) := by
  intro p e s m args below meth c hx hnm hm hc hml hts hP
  obtain ⟨rfl, hSt⟩ := hP
  obtain ⟨meth', c', hm', hc', hb, -, hr, hlk, -, -⟩ := Cond.code_spec hnm (hts _ hcode)
  cases hm.symm.trans hm'
  cases hc.symm.trans hc'
  rw [lg_entry_eq]
  refine hw p e s m _ below meth c _ ⟨hx, hb, hml, findClass_of_methodNamed hnm, hts⟩ hSt (fun ls pc hd => ?_) _ (lv_entry As (n := nL) hlen)
  intro T hT X
  obtain ⟨t, a1, b1⟩ := W.zret (free := fun _ => False) (Qc := PuQ (some (.int z))) hx hb hr hn (fun t ht _ => ⟨rfl, ht⟩) (fun q hq => by cases hq) hd hlk T hT X
  exact ⟨t, a1, b1.x⟩
/-- a literal's byte -/
def strF (i j : Nat) : Int32 := (strB.getD i []).getD j 0
def strN (i : Nat) : Nat := strL.getD i 0
theorem metP_isLatin1 (l : Launch) (K : CK) (i : Nat) (hi : i < 5) : MetP l K yJ6_isLatin1 1 0 [.ref (cSo K (10 + i))] (some (.int 1)) := by
  refine metP_w (cc := cJ6_isLatin1) q321 rfl (Nat.le_of_ble_eq_true rfl) (fun p e s m args below meth c Q S hSt hE ls hl => ?_)
  obtain ⟨hx, hb, hml, ho, hts⟩ := S
  have hl : lv_has ls 1 [(0, .ref (cSo K (10 + i)))] := hl
  refine va_gets hx hb hSt.2.2.2.2.2.2.2.1 va_S.rf ho (hts _ q322) (fun _ h => h) dJ6_isLatin1_0 ?_
  refine lv_if_eq (tgt := 17) hx hb dJ6_isLatin1_3 (by decide) (fun hc => absurd hc (by decide)) (fun _ => ?_)
  refine lv_aload_n hx hb dJ6_isLatin1_6 rfl (lv_at hl 0 rfl) ?_
  refine vk_getf hx hb (hSt.2.2.2.2.2.1.1 i hi).2.1 va_S.rf ho (hts _ q1802) (fun _ h => h) dJ6_isLatin1_7 ?_
  refine lv_if_ne (tgt := 17) hx hb dJ6_isLatin1_10 (by decide) (fun hc => absurd rfl hc) (fun _ => ?_)
  refine lv_iconst hx hb dJ6_isLatin1_13 (v := 1) (by decide) ?_
  refine lv_goto (tgt := 18) hx hb dJ6_isLatin1_14 (by decide) ?_
  exact hE _ _ dJ6_isLatin1_18
theorem metP_coder (l : Launch) (K : CK) (i : Nat) (hi : i < 5) : MetP l K yJ6_coder 1 0 [.ref (cSo K (10 + i))] (some (.int 0)) := by
  refine metP_w (cc := cJ6_coder) q331 rfl (Nat.le_of_ble_eq_true rfl) (fun p e s m args below meth c Q S hSt hE ls hl => ?_)
  obtain ⟨hx, hb, hml, ho, hts⟩ := S
  have hl : lv_has ls 1 [(0, .ref (cSo K (10 + i)))] := hl
  refine va_gets hx hb hSt.2.2.2.2.2.2.2.1 va_S.rf ho (hts _ q322) (fun _ h => h) dJ6_coder_0 ?_
  refine lv_if_eq (tgt := 13) hx hb dJ6_coder_3 (by decide) (fun hc => absurd hc (by decide)) (fun _ => ?_)
  refine lv_aload_n hx hb dJ6_coder_6 rfl (lv_at hl 0 rfl) ?_
  refine vk_getf hx hb (hSt.2.2.2.2.2.1.1 i hi).2.1 va_S.rf ho (hts _ q1802) (fun _ h => h) dJ6_coder_7 ?_
  refine lv_goto (tgt := 14) hx hb dJ6_coder_10 (by decide) ?_
  exact hE _ _ dJ6_coder_14
theorem hdP_1 : (yJ6_isLatin1.cls ≠ "java/lang/invoke/MethodHandle" ∧ yJ6_isLatin1.cls ≠ "java/lang/invoke/VarHandle" ∧ (parseMethodDescriptor yJ6_isLatin1.desc).map (fun d => d.parameters.length) = some 0) ∧ plainFor yJ6_isLatin1 = true := by decide +kernel
theorem hdP_2 : (yJ6_coder.cls ≠ "java/lang/invoke/MethodHandle" ∧ yJ6_coder.cls ≠ "java/lang/invoke/VarHandle" ∧ (parseMethodDescriptor yJ6_coder.desc).map (fun d => d.parameters.length) = some 0) ∧ plainFor yJ6_coder = true := by decide +kernel
theorem hdP_3 : (yJ6_length.cls ≠ "java/lang/invoke/MethodHandle" ∧ yJ6_length.cls ≠ "java/lang/invoke/VarHandle" ∧ (parseMethodDescriptor yJ6_length.desc).map (fun d => d.parameters.length) = some 0) ∧ plainFor yJ6_length = true := by decide +kernel
theorem hdP_4 : (yJ7_canEncode.cls ≠ "java/lang/invoke/MethodHandle" ∧ yJ7_canEncode.cls ≠ "java/lang/invoke/VarHandle" ∧ (parseMethodDescriptor yJ7_canEncode.desc).map (fun d => d.parameters.length) = some 1) ∧ plainFor yJ7_canEncode = true := by decide +kernel
theorem hdP_5 : (yJ8_max.cls ≠ "java/lang/invoke/MethodHandle" ∧ yJ8_max.cls ≠ "java/lang/invoke/VarHandle" ∧ (parseMethodDescriptor yJ8_max.desc).map (fun d => d.parameters.length) = some 2) ∧ plainFor yJ8_max = true := by decide +kernel
theorem hdP_6 : (yJ8_min.cls ≠ "java/lang/invoke/MethodHandle" ∧ yJ8_min.cls ≠ "java/lang/invoke/VarHandle" ∧ (parseMethodDescriptor yJ8_min.desc).map (fun d => d.parameters.length) = some 2) ∧ plainFor yJ8_min = true := by decide +kernel
theorem hdP_7 : (yJ7_indexOfChar.cls ≠ "java/lang/invoke/MethodHandle" ∧ yJ7_indexOfChar.cls ≠ "java/lang/invoke/VarHandle" ∧ (parseMethodDescriptor yJ7_indexOfChar.desc).map (fun d => d.parameters.length) = some 4) ∧ plainFor yJ7_indexOfChar = true := by decide +kernel
theorem hdP_8 : (yJ7_indexOf.cls ≠ "java/lang/invoke/MethodHandle" ∧ yJ7_indexOf.cls ≠ "java/lang/invoke/VarHandle" ∧ (parseMethodDescriptor yJ7_indexOf.desc).map (fun d => d.parameters.length) = some 4) ∧ plainFor yJ7_indexOf = true := by decide +kernel
theorem hdP_9 : (yJ6_indexOf_2.cls ≠ "java/lang/invoke/MethodHandle" ∧ yJ6_indexOf_2.cls ≠ "java/lang/invoke/VarHandle" ∧ (parseMethodDescriptor yJ6_indexOf_2.desc).map (fun d => d.parameters.length) = some 2) ∧ plainFor yJ6_indexOf_2 = true := by decide +kernel
theorem hdP_10 : (yJ6_indexOf.cls ≠ "java/lang/invoke/MethodHandle" ∧ yJ6_indexOf.cls ≠ "java/lang/invoke/VarHandle" ∧ (parseMethodDescriptor yJ6_indexOf.desc).map (fun d => d.parameters.length) = some 1) ∧ plainFor yJ6_indexOf = true := by decide +kernel
theorem str_recv {K : CK} {s : State} {i : Nat} (hSt : CSt K s s.heap) (hi : i < 5) : ∃ cell : Cell, s.heap[cSo K (10 + i)]? = some cell ∧ cell.vm.isStatics = false ∧ s.vm.findClass RJ6 = some cell.cls := vk_recv (i := i) (adK := fun i => cSo K (10 + i)) hSt.2.2.2.2.2.1 hi va_S.rf
theorem shr0 : ∀ i, i < 5 → nI (strN i) >>> ((0 : Int32) &&& 31) = nI (strN i) := by decide
theorem metP_length (l : Launch) (K : CK) (i : Nat) (hi : i < 5) : MetP l K yJ6_length 1 1 [.ref (cSo K (10 + i))] (some (.int (nI (strN i)))) := by
  refine metP_w (cc := cJ6_length) q327 rfl (Nat.le_of_ble_eq_true rfl) (fun p e s m args below meth c Q S hSt hE ls hl => ?_)
  have S0 := S
  obtain ⟨hx, hb, hml, ho, hts⟩ := S
  have hl : lv_has ls 1 [(0, .ref (cSo K (10 + i)))] := hl
  have h9 := hSt.2.2.2.2.2.1.1 i hi
  refine lv_aload_n hx hb dJ6_length_0 rfl (lv_at hl 0 rfl) ?_
  refine vk_getf hx hb h9.2.2.1 va_S.rf ho (hts _ q1803) (fun _ h => h) dJ6_length_1 ?_
  refine va_tlen hx hb h9.2.2.2 va_S.rf (v := nI (strN i)) rfl dJ6_length_4 ?_
  refine lv_aload_n hx hb dJ6_length_5 rfl (lv_at hl 0 rfl) ?_
  refine hx_pV (C := RJ6) (As := []) (rest := [.int (nI (strN i))]) S0 hSt va_S.rf (metP_coder l K i hi) hdP_2.2 ⟨by decide, by decide⟩ q331 q328 q329 q330 hdP_2.1 (str_recv hSt hi) hl.1 rfl (Nat.le_of_ble_eq_true rfl) ⟨Nat.le_refl _, Nat.le_refl _⟩ dJ6_length_6 ?_
  refine lv_ishr hx hb dJ6_length_9 ?_
  rw [shr0 i hi]
  exact hE _ _ dJ6_length_10
theorem metP_canEncode (l : Launch) (K : CK) (x : Int32) (h0 : ¬ x < 0) (h1 : ¬ x > 255) : MetP l K yJ7_canEncode 1 0 [.int x] (some (.int 1)) := by
  refine metP_w (cc := cJ7_canEncode) q337 rfl (Nat.le_of_ble_eq_true rfl) (fun p e s m args below meth c Q S hSt hE ls hl => ?_)
  obtain ⟨hx, hb, hml, ho, hts⟩ := S
  have hl : lv_has ls 1 [(0, .int x)] := hl
  refine lv_iload_n hx hb dJ7_canEncode_0 rfl (lv_at hl 0 rfl) ?_
  refine lv_if_lt (tgt := 15) hx hb dJ7_canEncode_1 (by decide) (fun hc => absurd hc h0) (fun _ => ?_)
  refine lv_iload_n hx hb dJ7_canEncode_4 rfl (lv_at hl 0 rfl) ?_
  refine lv_sipush hx hb dJ7_canEncode_5 (v := 255) (by decide) ?_
  refine lv_icmp_gt (tgt := 15) hx hb dJ7_canEncode_8 (by decide) (fun hc => absurd hc h1) (fun _ => ?_)
  refine lv_iconst hx hb dJ7_canEncode_11 (v := 1) (by decide) ?_
  refine lv_goto (tgt := 16) hx hb dJ7_canEncode_12 (by decide) ?_
  exact hE _ _ dJ7_canEncode_16
theorem metP_max0 (l : Launch) (K : CK) : MetP l K yJ8_max 2 0 [.int 0, .int 0] (some (.int 0)) := by
  refine metP_w (cc := cJ8_max) q340 rfl (Nat.le_of_ble_eq_true rfl) (fun p e s m args below meth c Q S hSt hE ls hl => ?_)
  obtain ⟨hx, hb, hml, ho, hts⟩ := S
  have hl : lv_has ls 2 [(0, .int 0), (1, .int 0)] := hl
  refine lv_iload_n hx hb dJ8_max_0 rfl (lv_at hl 0 rfl) ?_
  refine lv_iload_n hx hb dJ8_max_1 rfl (lv_at hl 1 rfl) ?_
  refine lv_icmp_lt (tgt := 9) hx hb dJ8_max_2 (by decide) (fun hc => absurd hc (by decide)) (fun _ => ?_)
  refine lv_iload_n hx hb dJ8_max_5 rfl (lv_at hl 0 rfl) ?_
  refine lv_goto (tgt := 10) hx hb dJ8_max_6 (by decide) ?_
  exact hE _ _ dJ8_max_10
theorem metP_minx (l : Launch) (K : CK) (x : Int32) (h : ¬ x > x) : MetP l K yJ8_min 2 0 [.int x, .int x] (some (.int x)) := by
  refine metP_w (cc := cJ8_min) q343 rfl (Nat.le_of_ble_eq_true rfl) (fun p e s m args below meth c Q S hSt hE ls hl => ?_)
  obtain ⟨hx, hb, hml, ho, hts⟩ := S
  have hl : lv_has ls 2 [(0, .int x), (1, .int x)] := hl
  refine lv_iload_n hx hb dJ8_min_0 rfl (lv_at hl 0 rfl) ?_
  refine lv_iload_n hx hb dJ8_min_1 rfl (lv_at hl 1 rfl) ?_
  refine lv_icmp_gt (tgt := 9) hx hb dJ8_min_2 (by decide) (fun hc => absurd hc h) (fun _ => ?_)
  refine lv_iload_n hx hb dJ8_min_5 rfl (lv_at hl 0 rfl) ?_
  refine lv_goto (tgt := 10) hx hb dJ8_min_6 (by decide) ?_
  exact hE _ _ dJ8_min_10
