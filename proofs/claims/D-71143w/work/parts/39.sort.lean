/-! THE THREE SORTS (printed) -/
set_option maxRecDepth 100000
section SOM
variable {l : Launch} {y : MethodName} {cc : ByteArray} {nL d b : Nat} {C : String} {As : List Value} {z : Int32}
theorem metS_w (hcode : Cond.code y cc nL (some .int) ∈ lw_all) (hlen : (lg_sl (.ref b :: As)).length ≤ nL)
    (hw : ∀ (p : Program) (e : Env) (s : State) (m : MethodId) (args : Array Value) (below : List Frame) (meth : Method) (c : Code) (Q : State → Prop), CallFix p m c cc nL s args lw_all y.cls → (∃ (cell : Cell) (kB : Class), s.heap[b]? = some cell ∧ cell.vm.isStatics = false ∧ s.vm.findClass C = some cell.cls ∧ s.vm.classes[cell.cls]? = some kB) → (∀ (ls : Array Slot) (pc : Nat), decode cc pc = .ok (.ireturn, 1) → W p l e (rmc d 0 0) s m args below meth c s.heap [] 0 0 Q (F0 m pc ls [.int z])) → ∀ ls : Array Slot, lv_has ls nL (lv_args 0 (.ref b :: As)) → W p l e (rmc d 0 0) s m args below meth c s.heap [] 0 0 Q (F0 m 0 ls [])) : MetS l y nL d C b As z := by
  intro p e s m args below meth c hx hn hm hc hml hts hP
  obtain ⟨rfl, hrecv⟩ := hP
  obtain ⟨meth', c', hm', hc', hb, -, hr, hlk, -, -⟩ := Cond.code_spec hn (hts _ hcode)
  cases hm.symm.trans hm'
  cases hc.symm.trans hc'
  rw [lg_entry_eq]
  refine hw p e s m _ below meth c _ ⟨hx, hb, hml, findClass_of_methodNamed hn, hts⟩ hrecv (fun ls pc hd => ?_) _ (lv_entry (.ref b :: As) (n := nL) hlen)
  intro T hT X
  obtain ⟨t, a1, b1⟩ := W.iret (free := fun _ => False) (Qc := SoQ z) hx hb hr (fun t ht _ => ⟨rfl, ht⟩) (fun q hq => by cases hq) hd hlk T hT X
  exact ⟨t, a1, b1.x⟩
end SOM
theorem plnumber_S : plainFor yX11_number = true ∧ plainFor yX10_number = true ∧ plainFor yX9_number = true := by decide +kernel
theorem hdnumber_S : (yX11_number.cls ≠ "java/lang/invoke/MethodHandle" ∧ yX11_number.cls ≠ "java/lang/invoke/VarHandle" ∧ (parseMethodDescriptor yX11_number.desc).map (fun d => d.parameters.length) = some 0) ∧ yX11_number.name ≠ "<init>" := by decide +kernel
theorem metS_number (l : Launch) (C : String) (b : Nat) : MetS l yX11_number 1 0 C b [] 1 := by
  refine metS_w (cc := cX11_number) q563 (Nat.le_of_ble_eq_true rfl) (fun p e s m args below meth c Q S hrecv hE ls hl => ?_)
  refine lv_iconst S.1 S.2.1 dX11_number_0 (v := 1) (by decide) ?_
  exact hE _ _ dX11_number_1
theorem metSP_number (l : Launch) (b : Nat) : MetS l yX10_number 1 1 RX10 b [] (0) := by
  refine metS_w (cc := cX10_number) q560 (Nat.le_of_ble_eq_true rfl) (fun p e s m args below meth c Q S hrecv hE ls hl => ?_)
  have hx := S.1
  have hb := S.2.1
  have hl : lv_has ls 1 [(0, .ref b)] := hl
  refine lv_aload_n hx hb dX10_number_0 rfl (lv_at hl 0 rfl) ?_
  refine hx_sup (z := 1) (As := []) (rest := []) (C := RX10) (b := b) S (metS_number l RX10 b) plnumber_S.1 ⟨by decide, by decide⟩ q563 q561 q552 q562 q550 ⟨hdnumber_S.2, hdnumber_S.1.2.2⟩ hrecv hl.1 rfl (by decide) ⟨Nat.zero_le _, Nat.zero_le _⟩ dX10_number_1 ?_
  refine lv_iconst hx hb dX10_number_4 (v := 1) (by decide) ?_
  refine lv_isub hx hb dX10_number_5 ?_
  exact hE _ _ dX10_number_6
theorem metSO_number (l : Launch) (b : Nat) : MetS l yX9_number 1 1 RX9 b [] (2) := by
  refine metS_w (cc := cX9_number) q555 (Nat.le_of_ble_eq_true rfl) (fun p e s m args below meth c Q S hrecv hE ls hl => ?_)
  have hx := S.1
  have hb := S.2.1
  have hl : lv_has ls 1 [(0, .ref b)] := hl
  refine lv_aload_n hx hb dX9_number_0 rfl (lv_at hl 0 rfl) ?_
  refine hx_sup (z := 1) (As := []) (rest := []) (C := RX9) (b := b) S (metS_number l RX9 b) plnumber_S.1 ⟨by decide, by decide⟩ q563 q556 q552 q557 q550 ⟨hdnumber_S.2, hdnumber_S.1.2.2⟩ hrecv hl.1 rfl (by decide) ⟨Nat.zero_le _, Nat.zero_le _⟩ dX9_number_1 ?_
  refine lv_iconst hx hb dX9_number_4 (v := 1) (by decide) ?_
  refine lv_iadd hx hb dX9_number_5 ?_
  exact hE _ _ dX9_number_6
theorem plrolls_S : plainFor yX11_rolls = true ∧ plainFor yX10_rolls = true ∧ plainFor yX9_rolls = true := by decide +kernel
theorem hdrolls_S : (yX11_rolls.cls ≠ "java/lang/invoke/MethodHandle" ∧ yX11_rolls.cls ≠ "java/lang/invoke/VarHandle" ∧ (parseMethodDescriptor yX11_rolls.desc).map (fun d => d.parameters.length) = some 0) ∧ yX11_rolls.name ≠ "<init>" := by decide +kernel
theorem metS_rolls (l : Launch) (C : String) (b : Nat) : MetS l yX11_rolls 1 0 C b [] 2 := by
  refine metS_w (cc := cX11_rolls) q846 (Nat.le_of_ble_eq_true rfl) (fun p e s m args below meth c Q S hrecv hE ls hl => ?_)
  refine lv_iconst S.1 S.2.1 dX11_rolls_0 (v := 2) (by decide) ?_
  exact hE _ _ dX11_rolls_1
theorem metSP_rolls (l : Launch) (b : Nat) : MetS l yX10_rolls 1 1 RX10 b [] (1) := by
  refine metS_w (cc := cX10_rolls) q844 (Nat.le_of_ble_eq_true rfl) (fun p e s m args below meth c Q S hrecv hE ls hl => ?_)
  have hx := S.1
  have hb := S.2.1
  have hl : lv_has ls 1 [(0, .ref b)] := hl
  refine lv_aload_n hx hb dX10_rolls_0 rfl (lv_at hl 0 rfl) ?_
  refine hx_sup (z := 2) (As := []) (rest := []) (C := RX10) (b := b) S (metS_rolls l RX10 b) plrolls_S.1 ⟨by decide, by decide⟩ q846 q845 q837 q562 q835 ⟨hdrolls_S.2, hdrolls_S.1.2.2⟩ hrecv hl.1 rfl (by decide) ⟨Nat.zero_le _, Nat.zero_le _⟩ dX10_rolls_1 ?_
  refine lv_iconst hx hb dX10_rolls_4 (v := 1) (by decide) ?_
  refine lv_isub hx hb dX10_rolls_5 ?_
  exact hE _ _ dX10_rolls_6
theorem metSO_rolls (l : Launch) (b : Nat) : MetS l yX9_rolls 1 1 RX9 b [] (3) := by
  refine metS_w (cc := cX9_rolls) q840 (Nat.le_of_ble_eq_true rfl) (fun p e s m args below meth c Q S hrecv hE ls hl => ?_)
  have hx := S.1
  have hb := S.2.1
  have hl : lv_has ls 1 [(0, .ref b)] := hl
  refine lv_aload_n hx hb dX9_rolls_0 rfl (lv_at hl 0 rfl) ?_
  refine hx_sup (z := 2) (As := []) (rest := []) (C := RX9) (b := b) S (metS_rolls l RX9 b) plrolls_S.1 ⟨by decide, by decide⟩ q846 q841 q837 q557 q835 ⟨hdrolls_S.2, hdrolls_S.1.2.2⟩ hrecv hl.1 rfl (by decide) ⟨Nat.zero_le _, Nat.zero_le _⟩ dX9_rolls_1 ?_
  refine lv_iconst hx hb dX9_rolls_4 (v := 1) (by decide) ?_
  refine lv_iadd hx hb dX9_rolls_5 ?_
  exact hE _ _ dX9_rolls_6
theorem plsteps_S : plainFor yX11_steps = true ∧ plainFor yX10_steps = true ∧ plainFor yX9_steps = true := by decide +kernel
theorem hdsteps_S : (yX11_steps.cls ≠ "java/lang/invoke/MethodHandle" ∧ yX11_steps.cls ≠ "java/lang/invoke/VarHandle" ∧ (parseMethodDescriptor yX11_steps.desc).map (fun d => d.parameters.length) = some 1) ∧ yX11_steps.name ≠ "<init>" := by decide +kernel
theorem metS_steps (l : Launch) (C : String) (b : Nat) (h : Int32) : MetS l yX11_steps 2 0 C b [.int h] 1 := by
  refine metS_w (cc := cX11_steps) q873 (Nat.le_of_ble_eq_true rfl) (fun p e s m args below meth c Q S hrecv hE ls hl => ?_)
  refine lv_iconst S.1 S.2.1 dX11_steps_0 (v := 1) (by decide) ?_
  exact hE _ _ dX11_steps_1
theorem metSP_steps (l : Launch) (b : Nat) (h : Int32) : MetS l yX10_steps 2 1 RX10 b [.int h] (2) := by
  refine metS_w (cc := cX10_steps) q871 (Nat.le_of_ble_eq_true rfl) (fun p e s m args below meth c Q S hrecv hE ls hl => ?_)
  have hx := S.1
  have hb := S.2.1
  have hl : lv_has ls 2 [(0, .ref b), (1, .int h)] := hl
  refine lv_aload_n hx hb dX10_steps_0 rfl (lv_at hl 0 rfl) ?_
  refine lv_iload_n hx hb dX10_steps_1 rfl (lv_at hl 1 rfl) ?_
  refine hx_sup (z := 1) (As := [.int h]) (rest := []) (C := RX10) (b := b) S (metS_steps l RX10 b h) plsteps_S.1 ⟨by decide, by decide⟩ q873 q872 q864 q562 q862 ⟨hdsteps_S.2, hdsteps_S.1.2.2⟩ hrecv hl.1 rfl (by decide) ⟨Nat.zero_le _, Nat.zero_le _⟩ dX10_steps_2 ?_
  refine lv_iconst hx hb dX10_steps_5 (v := 1) (by decide) ?_
  refine lv_iadd hx hb dX10_steps_6 ?_
  exact hE _ _ dX10_steps_7
theorem metSO_steps (l : Launch) (b : Nat) (h : Int32) : MetS l yX9_steps 2 1 RX9 b [.int h] (1 - (h - h / 2 * 2)) := by
  refine metS_w (cc := cX9_steps) q867 (Nat.le_of_ble_eq_true rfl) (fun p e s m args below meth c Q S hrecv hE ls hl => ?_)
  have hx := S.1
  have hb := S.2.1
  have hl : lv_has ls 2 [(0, .ref b), (1, .int h)] := hl
  refine lv_aload_n hx hb dX9_steps_0 rfl (lv_at hl 0 rfl) ?_
  refine lv_iload_n hx hb dX9_steps_1 rfl (lv_at hl 1 rfl) ?_
  refine hx_sup (z := 1) (As := [.int h]) (rest := []) (C := RX9) (b := b) S (metS_steps l RX9 b h) plsteps_S.1 ⟨by decide, by decide⟩ q873 q868 q864 q557 q862 ⟨hdsteps_S.2, hdsteps_S.1.2.2⟩ hrecv hl.1 rfl (by decide) ⟨Nat.zero_le _, Nat.zero_le _⟩ dX9_steps_2 ?_
  refine lv_iload_n hx hb dX9_steps_5 rfl (lv_at hl 1 rfl) ?_
  refine lv_iconst hx hb dX9_steps_6 (v := 2) (by decide) ?_
  refine my_irem hx hb (z := h - h / 2 * 2) (by simp [irm]) dX9_steps_7 ?_
  refine lv_isub hx hb dX9_steps_8 ?_
  exact hE _ _ dX9_steps_9
section SOC
variable {p : Program} {l : Launch} {e : Env} {R : Room} {s : State} {m : MethodId} {args : Array Value} {below : List Frame} {meth : Method} {c : Code} {H : Heap} {locs : List Loc} {ce sl : Nat} {Q : State → Prop}
variable {cc : ByteArray} {pc nL index ex : Nat} {ls : Array Slot} {rest : List Value} {G : CG} {D : Nat → Nat → Nat} {σ : CM} {own : String} {m1 m2 b1 b2 : Bool}
theorem cj_sorecv (C0 : CC p s m args c cc nL own G) (hJ : CJ G s R ex b1 b2 m1 m2 D σ H locs ce sl) {k : Nat} (hk : k < 3) : ∃ (cell : Cell) (kB : Class), H[cSo G.1 k]? = some cell ∧ cell.vm.isStatics = false ∧ s.vm.findClass (sortN k) = some cell.cls ∧ s.vm.classes[cell.cls]? = some kB := by
  obtain ⟨cell, h1, h2, h3, h4⟩ := (C0.2.2.1 k hk).kept hJ.2.1.2.1
  obtain ⟨kB, hkB⟩ := Vm.classAt_of_findClass h3
  exact ⟨cell, kB, h1, h2, h3, hkB⟩
theorem CJ.fit0 (hJ : CJ G s R ex b1 b2 m1 m2 D σ H locs ce sl) : ce ≤ R.cells ∧ sl ≤ R.slots := by
  obtain ⟨-, -, -, -, -, -, g4, g5⟩ := hJ
  omega
theorem cj_rolls (C0 : CC p s m args c cc nL own G) (hJ : CJ G s R ex b1 b2 m1 m2 D σ H locs ce sl) {k : Nat} (hlink : Cond.methodLink own index ⟨"WoodliceSenate$Sort", "rolls", "()I"⟩ ∈ lw_all) (hR : 4 ≤ R.frames ∧ 256 ≤ R.locals) (hl : ls.size = nL) (hW : (rest.map fun v => v.category).sum ≤ 8) {x : Int32} (hx : srolls k = some x) (hdg : decode cc pc = .ok (.invokevirtual index, 3))
    (kk : ∀ (H1 : Heap) (locs1 : List Loc), CJ G s R ex b1 b2 m1 m2 D σ H1 locs1 ce sl → W p l e R s m args below meth c H1 locs1 ce sl Q (F0 m (pc + 3) ls (.int x :: rest))) : W p l e R s m args below meth c H locs ce sl Q (F0 m pc ls (.ref (cSo G.1 k) :: rest)) := by
  have kk := kk H locs hJ
  have hk : k = 0 ∨ k = 1 ∨ k = 2 := by
    unfold srolls at hx
    by_cases h0 : k = 0
    · exact Or.inl h0
    · by_cases h1 : k = 1
      · exact Or.inr (Or.inl h1)
      · by_cases h2 : k = 2
        · exact Or.inr (Or.inr h2)
        · rw [if_neg h0, if_neg h1, if_neg h2] at hx
          cases hx
  rcases hk with rfl | rfl | rfl
  · have hx := Option.some.inj hx
    subst hx
    exact hx_sort (d := 1) (maxL := 1) (As := []) (rest := rest) (C := RX10) (b := cSo G.1 0) (x := yX11_rolls) C0.1 (metSP_rolls l (cSo G.1 0)) plrolls_S.2.1 ⟨by omega, by omega⟩ q844 hlink q837 q835 q846 q842 q843 hdrolls_S.1 (cj_sorecv C0 hJ (k := 0) (by decide)) hl rfl hW hJ.fit0 hdg kk
  · have hx := Option.some.inj hx
    subst hx
    exact hx_sort (d := 0) (maxL := 1) (As := []) (rest := rest) (C := RX11) (b := cSo G.1 1) (x := yX11_rolls) C0.1 (metS_rolls l RX11 (cSo G.1 1)) plrolls_S.1 ⟨by omega, by omega⟩ q846 hlink q837 q835 q846 q836 q835 hdrolls_S.1 (cj_sorecv C0 hJ (k := 1) (by decide)) hl rfl hW hJ.fit0 hdg kk
  · have hx := Option.some.inj hx
    subst hx
    exact hx_sort (d := 1) (maxL := 1) (As := []) (rest := rest) (C := RX9) (b := cSo G.1 2) (x := yX11_rolls) C0.1 (metSO_rolls l (cSo G.1 2)) plrolls_S.2.2 ⟨by omega, by omega⟩ q840 hlink q837 q835 q846 q838 q839 hdrolls_S.1 (cj_sorecv C0 hJ (k := 2) (by decide)) hl rfl hW hJ.fit0 hdg kk
theorem cj_steps (C0 : CC p s m args c cc nL own G) (hJ : CJ G s R ex b1 b2 m1 m2 D σ H locs ce sl) {k : Nat} (hlink : Cond.methodLink own index ⟨"WoodliceSenate$Sort", "steps", "(I)I"⟩ ∈ lw_all) (hR : 4 ≤ R.frames ∧ 256 ≤ R.locals) (hl : ls.size = nL) (hW : (rest.map fun v => v.category).sum ≤ 8) {h x : Int32} (hx : ssteps k h = some x) (hdg : decode cc pc = .ok (.invokevirtual index, 3))
    (kk : ∀ (H1 : Heap) (locs1 : List Loc), CJ G s R ex b1 b2 m1 m2 D σ H1 locs1 ce sl → W p l e R s m args below meth c H1 locs1 ce sl Q (F0 m (pc + 3) ls (.int x :: rest))) : W p l e R s m args below meth c H locs ce sl Q (F0 m pc ls (.int h :: .ref (cSo G.1 k) :: rest)) := by
  have kk := kk H locs hJ
  have hk : k = 0 ∨ k = 1 ∨ k = 2 := by
    unfold ssteps at hx
    by_cases h0 : k = 0
    · exact Or.inl h0
    · by_cases h1 : k = 1
      · exact Or.inr (Or.inl h1)
      · by_cases h2 : k = 2
        · exact Or.inr (Or.inr h2)
        · rw [if_neg h0, if_neg h1, if_neg h2] at hx
          cases hx
  rcases hk with rfl | rfl | rfl
  · have hx := Option.some.inj hx
    subst hx
    exact hx_sort (d := 1) (maxL := 2) (As := [.int h]) (rest := rest) (C := RX10) (b := cSo G.1 0) (x := yX11_steps) C0.1 (metSP_steps l (cSo G.1 0) h) plsteps_S.2.1 ⟨by omega, by omega⟩ q871 hlink q864 q862 q873 q869 q870 hdsteps_S.1 (cj_sorecv C0 hJ (k := 0) (by decide)) hl rfl hW hJ.fit0 hdg kk
  · have hx := Option.some.inj hx
    subst hx
    exact hx_sort (d := 0) (maxL := 2) (As := [.int h]) (rest := rest) (C := RX11) (b := cSo G.1 1) (x := yX11_steps) C0.1 (metS_steps l RX11 (cSo G.1 1) h) plsteps_S.1 ⟨by omega, by omega⟩ q873 hlink q864 q862 q873 q863 q862 hdsteps_S.1 (cj_sorecv C0 hJ (k := 1) (by decide)) hl rfl hW hJ.fit0 hdg kk
  · have hx := Option.some.inj hx
    subst hx
    exact hx_sort (d := 1) (maxL := 2) (As := [.int h]) (rest := rest) (C := RX9) (b := cSo G.1 2) (x := yX11_steps) C0.1 (metSO_steps l (cSo G.1 2) h) plsteps_S.2.2 ⟨by omega, by omega⟩ q867 hlink q864 q862 q873 q865 q866 hdsteps_S.1 (cj_sorecv C0 hJ (k := 2) (by decide)) hl rfl hW hJ.fit0 hdg kk
theorem cj_number (C0 : CC p s m args c cc nL own G) (hJ : CJ G s R ex b1 b2 m1 m2 D σ H locs ce sl) {k : Nat} (hlink : Cond.methodLink own index ⟨"WoodliceSenate$Sort", "number", "()I"⟩ ∈ lw_all) (hR : 4 ≤ R.frames ∧ 256 ≤ R.locals) (hl : ls.size = nL) (hW : (rest.map fun v => v.category).sum ≤ 8) {x : Int32} (hx : snumber k = some x) (hdg : decode cc pc = .ok (.invokevirtual index, 3))
    (kk : ∀ (H1 : Heap) (locs1 : List Loc), CJ G s R ex b1 b2 m1 m2 D σ H1 locs1 ce sl → W p l e R s m args below meth c H1 locs1 ce sl Q (F0 m (pc + 3) ls (.int x :: rest))) : W p l e R s m args below meth c H locs ce sl Q (F0 m pc ls (.ref (cSo G.1 k) :: rest)) := by
  have kk := kk H locs hJ
  have hk : k = 0 ∨ k = 1 ∨ k = 2 := by
    unfold snumber at hx
    by_cases h0 : k = 0
    · exact Or.inl h0
    · by_cases h1 : k = 1
      · exact Or.inr (Or.inl h1)
      · by_cases h2 : k = 2
        · exact Or.inr (Or.inr h2)
        · rw [if_neg h0, if_neg h1, if_neg h2] at hx
          cases hx
  rcases hk with rfl | rfl | rfl
  · have hx := Option.some.inj hx
    subst hx
    exact hx_sort (d := 1) (maxL := 1) (As := []) (rest := rest) (C := RX10) (b := cSo G.1 0) (x := yX11_number) C0.1 (metSP_number l (cSo G.1 0)) plnumber_S.2.1 ⟨by omega, by omega⟩ q560 hlink q552 q550 q563 q558 q559 hdnumber_S.1 (cj_sorecv C0 hJ (k := 0) (by decide)) hl rfl hW hJ.fit0 hdg kk
  · have hx := Option.some.inj hx
    subst hx
    exact hx_sort (d := 0) (maxL := 1) (As := []) (rest := rest) (C := RX11) (b := cSo G.1 1) (x := yX11_number) C0.1 (metS_number l RX11 (cSo G.1 1)) plnumber_S.1 ⟨by omega, by omega⟩ q563 hlink q552 q550 q563 q551 q550 hdnumber_S.1 (cj_sorecv C0 hJ (k := 1) (by decide)) hl rfl hW hJ.fit0 hdg kk
  · have hx := Option.some.inj hx
    subst hx
    exact hx_sort (d := 1) (maxL := 1) (As := []) (rest := rest) (C := RX9) (b := cSo G.1 2) (x := yX11_number) C0.1 (metSO_number l (cSo G.1 2)) plnumber_S.2.2 ⟨by omega, by omega⟩ q555 hlink q552 q550 q563 q553 q554 hdnumber_S.1 (cj_sorecv C0 hJ (k := 2) (by decide)) hl rfl hW hJ.fit0 hdg kk
end SOC
