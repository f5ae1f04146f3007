/-! THE REFERENCE's CONTRACTS: a method as a function on memory; its calls -/
set_option maxRecDepth 100000
/-- a method's end: its answer, its memory behind, nothing else changed -/
def MQc (K : MK) (rv : Option Value) (σ' : MM) : Array Value → State → Outcome → State → Prop := fun _ st oc t => (oc = .returned rv ∧ MU K σ' t) ∧ va_F (kP K) st t
/-- the contract: with these arguments (the receiver among them) on this memory: this answer, this memory -/
def MetM (l : Launch) (y : MethodName) (cc : ByteArray) (nL : Nat) (rt : Option FieldType) (d : Nat) (As : MK → List Value) (σ : MM) (rv : Option Value) (σ' : MM) : Prop :=
  ∀ K : MK, Met l y (ws_ y cc nL rt) (rmd d) (va_Pc (As K) (MU K σ)) (MQc K rv σ') 0 0 (kP K)
theorem MU.blind {K : MK} {σ : MM} {av : List Value} : FrameBlind (va_Pc av (MU K σ)) := by
  intro a U g mk h
  obtain ⟨h0, h1, h2, h3⟩ := h
  exact ⟨h0, h1, MTb.moved (u := U) (U := U.calling g mk a) (Vm.Alike.refl U.vm) h2, h3⟩
section MC1
variable {p : Program} {l : Launch} {e : Env} {R : Room} {s : State} {m : MethodId} {args : Array Value} {below : List Frame} {meth : Method} {c : Code} {H H0 : Heap} {locs : List Loc} {cells slots : Nat} {Q : State → Prop}
variable {cc bytes : ByteArray} {pc nL maxL d index n : Nat} {ls : Array Slot} {rest st As : List Value} {K : MK} {σ σ' : MM} {y : MethodName} {rt : Option FieldType} {rv : Option Value}
theorem MWd.kept {H1 : Heap} (h : MWd K σ H) (hk : ∀ q, q < H.size → H1[q]? = H[q]?) : MWd K σ H1 := by
  obtain ⟨h1, h2, h3, h4⟩ := h
  have h1' := h1
  obtain ⟨cell, q1, -⟩ := h1'
  have lt : ∀ {q : Nat} {x : Cell}, H[q]? = some x → q < H.size := fun hq => (Array.getElem?_eq_some_iff.mp hq).1
  refine ⟨h1.kept (hk _ (lt q1)), h2, fun k hk1 hi => ?_, h4⟩
  obtain ⟨g1, g2, g3⟩ := h3 k hk1 hi
  exact ⟨by rw [hk _ (lt g1)]; exact g1, g2, g3⟩
theorem mc_go {args' : Array Value} (hJ : MJ K σ s.heap H locs) (hr : va_Run p l e R s m args below meth c H locs 0 0 0 0 (F0 m pc ls st) rest (MQc K rv σ' args') (kP K))
    (kk : ∀ (H1 : Heap) (locs1 : List Loc), MJ K σ' s.heap H1 locs1 → W p l e R s m args below meth c H1 locs1 0 0 Q (F0 m (pc + 3) ls (rv.toList ++ rest))) : W p l e R s m args below meth c H locs 0 0 Q (F0 m pc ls st) := by
  intro T hT X
  obtain ⟨v, st₀, t, T', L, h0, X', hL, e1, e2, ⟨⟨hv, hb⟩, hz, hk⟩, st⟩ := hr T hT X
  cases hv
  rw [h0] at hz hk
  obtain ⟨-, hS, hA⟩ := hJ
  obtain ⟨t2, a1, b1⟩ := kk T'.heap (locs ++ L) ⟨by rw [e1]; exact hb.1, ⟨Nat.le_trans hS.1 (by rw [e1]; exact hz), fun q h1 h2 => by rw [e1, hk q (Nat.lt_of_lt_of_le h1 hS.1) h2]; exact hS.2.1 q h1 h2, fun q hq => by
      rcases List.mem_append.mp hq with h | h
      · exact hS.2.2 q h
      · exact hL q h⟩, hA⟩ T' rfl X'
  exact ⟨t2, st t2 a1, b1⟩
theorem mc_V (C : MC p s m args c cc nL K) (hJ : MJ K σ s.heap H locs) (hM : MetM l y bytes maxL rt d (fun K => .ref (kO K) :: As) σ rv σ')
    (cw : CallW R s args RX6 RX6 index y bytes maxL rt (ws_ y bytes maxL rt) (rmd d) 0 0 n) (hn : As.length = n) (hl : ls.size = nL) (hst : st = As.reverse ++ .ref (kO K) :: rest) (hW : 2 * (F0 m pc ls st).monitorRoom + (rest.map fun v => v.category).sum ≤ 8) (hdg : decode cc pc = .ok (.invokevirtual index, 3))
    (kk : ∀ (H1 : Heap) (locs1 : List Loc), MJ K σ' s.heap H1 locs1 → W p l e R s m args below meth c H1 locs1 0 0 Q (F0 m (pc + 3) ls (rv.toList ++ rest))) : W p l e R s m args below meth c H locs 0 0 Q (F0 m pc ls st) := by
  refine mc_go (args' := (Value.ref (kO K) :: As).toArray) hJ (va_runV (As := As) (rest := rest) C.1 (hM K) cw ⟨MU.blind, ?_, fun U hU hW => ⟨rfl, by rw [hU]; exact hJ.1, C.2.moved hW.alike, fun q hq => hJ.2.2 q (Nat.le_trans hJ.2.1.1 (by rw [← hU]; exact hq))⟩⟩ rfl hn hl hst hW hdg ⟨Nat.zero_le _, Nat.zero_le _⟩) kk
  obtain ⟨cell, q1, q2, q3, q4⟩ := hJ.1.1
  exact ⟨cell, q1, by rw [q3]; rfl, by rw [q2]; exact C.2.1.2.1⟩
theorem mc_S (C : MC p s m args c cc nL K) (hJ : MJ K σ s.heap H locs) (hM : MetM l y bytes maxL rt d (fun _ => As) σ rv σ')
    (cw : CallB R s args RX6 index y bytes maxL rt (ws_ y bytes maxL rt) (rmd d) 0 0 n ∧ (Cond.static y).before args s = true) (hn : As.length = n) (hl : ls.size = nL) (hst : st = As.reverse ++ rest) (hW : 2 * (F0 m pc ls st).monitorRoom + (rest.map fun v => v.category).sum ≤ 8) (hdg : decode cc pc = .ok (.invokestatic index, 3))
    (kk : ∀ (H1 : Heap) (locs1 : List Loc), MJ K σ' s.heap H1 locs1 → W p l e R s m args below meth c H1 locs1 0 0 Q (F0 m (pc + 3) ls (rv.toList ++ rest))) : W p l e R s m args below meth c H locs 0 0 Q (F0 m pc ls st) :=
  mc_go (args' := As.toArray) hJ (va_runS (As := As) (rest := rest) C.1 (hM K) cw ⟨MU.blind, fun U hU hW => ⟨rfl, by rw [hU]; exact hJ.1, C.2.moved hW.alike, fun q hq => hJ.2.2 q (Nat.le_trans hJ.2.1.1 (by rw [← hU]; exact hq))⟩⟩ rfl hn hl hst hW hdg ⟨Nat.zero_le _, Nat.zero_le _⟩) kk
/-- a boolean's return narrows -/
theorem W.zretN {Qc : Array Value → State → Outcome → State → Prop} {free : Addr → Prop} {v : Int32} (hexec : p.tables.exec = Jvm.exec) (hb : c.code = cc) (hr : meth.sig.returnType = some .boolean)
    (hq : ∀ t : State, t.heap = H → s.WarmedH t.vm → Qc args s (.returned (some (.int (bz v)))) t) (hf : ∀ q ∈ locs, free q.base)
    (hdg : decode cc pc = .ok (.ireturn, 1)) (hlocks : meth.locks = false) : W p l e R s m args below meth c H locs cells slots (MQ below Qc args s cells slots free) (F0 m pc ls [.int v]) := by
  intro T hT X
  have hn : narrow .boolean (.int v) = .int (bz v) := rfl
  obtain ⟨fs, hret, hrun, hended, hW, hframe⟩ := X.leave (v := some (.int (bz v))) (hlocks := hlocks) (fun h => by rw [hr] at h; cases h)
  have hmeth' : T.vm.method? m = some meth := X.method'
  refine ⟨T.setFrames fs, ?_, .returned (some (.int (bz v))), hrun, hended, hq _ hT hW, locs, ⟨⟨_, rfl⟩, hW, hframe⟩, hf⟩
  jvm_step X.here [X.here.top, hexec, hb, hdg, hmeth', hr, hn]
  (try refine ⟨rfl, ?_⟩); (try refine ⟨rfl, ?_⟩)
  first | (intro acts; rw [hret _ acts rfl rfl rfl]) | rw [hret _ _ rfl rfl rfl]
  exact Steps.refl _
end MC1
/-- how an answer is given, by its type -/
def mIns (rt : Option FieldType) : Instr := match rt with
  | none => .return_
  | some .long => .lreturn
  | _ => .ireturn
def mNv (rt : Option FieldType) : Value → Value := match rt with
  | some .boolean => fun v => match v with
    | .int x => .int (bz x)
    | w => w
  | _ => fun v => v
/-- the answer's shape, by its type -/
def mOk (rt : Option FieldType) (v : Option Value) : Prop := match rt with
  | none => v = none
  | some .long => ∃ x, v = some (.long x)
  | _ => ∃ x, v = some (.int x)
def mRt (rt : Option FieldType) : Prop := rt = none ∨ rt = some .int ∨ rt = some .boolean ∨ rt = some .long
/-- a method's end, by its type -/
def MEd (p : Program) (l : Launch) (e : Env) (R : Room) (s : State) (m : MethodId) (args : Array Value) (below : List Frame) (meth : Method) (c : Code) (cc : ByteArray) (K : MK) (Q : State → Prop) (rt : Option FieldType) (rv : Option Value) (σ' : MM) : Prop :=
  ∀ (H : Heap) (locs : List Loc) (ls : Array Slot) (pc : Nat) (v : Option Value), MJ K σ' s.heap H locs → mOk rt v → v.map (mNv rt) = rv → decode cc pc = .ok (mIns rt, 1) → W p l e R s m args below meth c H locs 0 0 Q (F0 m pc ls v.toList)
theorem met_walk {l : Launch} {y : MethodName} {cc : ByteArray} {nL d : Nat} {rt : Option FieldType} {As : MK → List Value} {σ σ' : MM} {rv : Option Value} (hy : y.cls = RX6) (hrt : mRt rt) (hlen : ∀ K, (lg_sl (As K)).length ≤ nL)
    (hw : ∀ (K : MK) (p : Program) (e : Env) (s : State) (m : MethodId) (args : Array Value) (below : List Frame) (meth : Method) (c : Code) (Q : State → Prop), MC p s m args c cc nL K → MEd p l e (rmd d) s m args below meth c cc K Q rt rv σ' → ∀ ls : Array Slot, lv_has ls nL (lv_args 0 (As K)) → MJ K σ s.heap s.heap [] → W p l e (rmd d) s m args below meth c s.heap [] 0 0 Q (F0 m 0 ls [])) : MetM l y cc nL rt d As σ rv σ' := by
  intro K
  refine Met.ofW (cc := cc) (maxL := nL) (ret := rt) (by rw [hy]; decide) rfl ?_
  intro p e s m args below meth c s₁ B hml hv
  obtain ⟨rfl, hP, hT, hA⟩ := hv
  have hx := B.exec
  have hb := B.bytes
  have hr := B.returns
  have hts := atoms_spec (ws := ws_ y cc nL rt) B.pre
  have hts : ∀ w ∈ lw_all, w.before _ s = true := fun w h => hts w (List.mem_cons_of_mem _ h)
  have hown : s.vm.findClass RX6 = some m.cls := by rw [← hy]; exact findClass_of_methodNamed B.named
  have hlocks := B.notSynchronized
  have hl := lv_entry (As K) (n := nL) (hlen K)
  rw [lg_entry_eq]
  refine hw K p e s m _ below meth c _ ⟨⟨hx, hb, hml, hown, hts⟩, hT⟩ ?_ _ hl ⟨hP, va_S.rf, hA⟩
  intro H locs ls pc v hJ hok hv hd
  have hq : ∀ t : State, t.heap = H → s.WarmedH t.vm → MQc K rv σ' (As K).toArray s (.returned rv) t := fun t ht hW => ⟨⟨rfl, by rw [← ht] at hJ; exact hJ.1, hT.moved hW.alike, fun q hq => hA q (by rw [ht] at hq; exact Nat.le_trans hJ.2.1.1 hq)⟩, hJ.2.1.F ht⟩
  rcases hrt with rfl | rfl | rfl | rfl
  · obtain rfl := hok
    subst hv
    exact W.vret hx hb hr hq hJ.2.1.2.2 hd
  · obtain ⟨x, rfl⟩ := hok
    subst hv
    exact W.iret hx hb hr hq hJ.2.1.2.2 hd
  · obtain ⟨x, rfl⟩ := hok
    subst hv
    exact W.zretN hx hb hr hq hJ.2.1.2.2 hd hlocks
  · obtain ⟨x, rfl⟩ := hok
    subst hv
    exact W.lret hx hb hr hq hJ.2.1.2.2 hd
