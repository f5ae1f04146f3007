/-! THROWS IN A WALK: a callee that may throw, an exception caught or passed on -/
set_option maxRecDepth 100000
def BackG (l : Launch) (R : Room) (p : Program) (e : Env) (below : List Frame) (s : State) (sargs : Array Value) (y : MethodName) (len W : Nat)
    (Pre : Pt → Array Value → Prop) (Post : Pt → Array Value → Outcome → Pt → Prop) : Prop :=
  ∀ (m : MethodId) (meth : Method) (c : Code) (A : Pt) (g : JFrame) (ig : Instr) (mk : MethodId) (a : Array Value),
    Stand p l e R s m sargs below meth c A.U A.locs A.cells A.slots → g.method = m → g.locals.size = c.maxLocals → decode c.code g.pc = .ok (ig, len) →
    2 * g.monitorRoom + (g.stack.map fun v => v.category).sum ≤ W → A.U.methodNamed? y = some mk → Pre A a →
    ∃ (o : Outcome) (B : Pt), Stand p l e R s m sargs below meth c B.U B.locs B.cells B.slots ∧ Post A a o B ∧
      Steps p.tables e below (doInvoke e (A.U.setTop g) [] mk a).1 (match o with | .returned v => B.U.setTop { g with pc := g.pc + len, stack := v.toList ++ g.stack } | .threw x => (B.U.setTop g).pushFrame (.throwing x))
def PostG (Qc : Array Value → State → Outcome → State → Prop) (mc ms : Nat) (free : Addr → Prop) : Pt → Array Value → Outcome → Pt → Prop := fun A a o B =>
  ∃ (g : JFrame) (mk : MethodId) (t : State) (L : List Loc), B.U.heap = t.heap ∧ B.U.vm = t.vm ∧ Qc a (A.U.calling g mk a) o t ∧ B.locs = A.locs ++ L ∧ (∀ q ∈ L, free q.base) ∧ B.cells = A.cells + mc ∧ B.slots = A.slots + ms
/-- what a call must know of the callee's code -/
def CodeK (s : State) (y : MethodName) (maxL : Nat) : Prop := ∀ (U : State) (mk : MethodId), s.WarmedH U.vm → U.methodNamed? y = some mk → ∃ meth c, U.vm.method? mk = some meth ∧ meth.code = some c ∧ c.maxLocals = maxL ∧ meth.locks = false
theorem CodeK.of {s : State} {sargs : Array Value} {y : MethodName} {maxL : Nat} {bytes : ByteArray} {ret : Option FieldType} (hts : ∀ w ∈ lw_all, w.before sargs s = true) (hcode : Cond.code y bytes maxL ret ∈ lw_all) : CodeK s y maxL := fun U mk hW hn => by
  obtain ⟨methY, cY, hmY, hcY, -, hlY, -, hkY, -, -⟩ := Cond.code_spec (args := #[]) hn (pay_in hts lw_self _ hcode #[] U hW)
  exact ⟨methY, cY, hmY, hcY, hlY, hkY⟩
theorem CodeK.ofW {s : State} {sargs : Array Value} {y : MethodName} {maxL : Nat} {bytes : ByteArray} {ret : Option FieldType} {hh : List (Nat × Nat × Nat × Nat)} (hts : ∀ w ∈ lw_all, w.before sargs s = true) (hcode : Cond.codeWith y bytes maxL ret hh ∈ lw_all) : CodeK s y maxL := fun U mk hW hn => by
  obtain ⟨m9, methY, cY, hn9, hmY, hcY, -, hlY, -, -, hkY, -⟩ := Cond.codeWith_spec (args := #[]) (pay_in hts lw_self _ hcode #[] U hW)
  cases hn.symm.trans hn9
  exact ⟨methY, cY, hmY, hcY, hlY, hkY⟩
section BAG
variable {l : Launch} {R : Room} {p : Program} {e : Env} {below : List Frame} {s : State} {sargs : Array Value} {y : MethodName} {len W : Nat}
theorem backG_bare {rm : Room} {Pc : Array Value → State → Prop} {Qc : Array Value → State → Outcome → State → Prop} {mc ms : Nat} {free : Addr → Prop} {maxL : Nat}
    (hM : MetB l y maxL rm Pc Qc mc ms free) (hx : p.tables.exec = Jvm.exec) (hpl : plainFor y = true) (hblind : FrameBlind Pc) (hrc : rm.cells = mc) (hrs : rm.slots = ms)
    (hframes : rm.frames + 1 ≤ R.frames) (hlocals : W + (maxL + 11) + rm.locals ≤ R.locals) (hts : ∀ w ∈ lw_all, w.before sargs s = true) (hcode : CodeK s y maxL) :
    BackG l R p e below s sargs y len W (PreOf R mc ms Pc) (PostG Qc mc ms free) := by
  intro m meth c A g ig mk a X hg hsize hdg hW hn hp
  obtain ⟨U, Ls, c0, s0⟩ := A
  dsimp only [Pt.U, Pt.locs, Pt.cells, Pt.slots] at X hn ⊢
  have hall := pay_in hts lw_self
  obtain ⟨methY, cY, hmY, hcY, hlY, hkY⟩ := hcode U mk X.warmed hn
  obtain ⟨hp1, hp2, hp3⟩ := hp
  dsimp only [Pt.U, Pt.locs, Pt.cells, Pt.slots] at hp1 hp2 hp3
  obtain ⟨Y, hinv⟩ := X.into hg hsize hdg a (R' := rm) hmY hcY hkY (State.plainMethod.of_named hpl hn hmY) hframes (by rw [hlY]; omega) (by rw [hrc]; exact hp1) (by rw [hrs]; exact hp2)
  obtain ⟨t, st, o, h1, h2, h3, hW2, L, hs, hL⟩ := hM p e (U.calling g mk a) mk a (.java g :: below) methY cY hx hn hmY hcY hlY (fun w hw => hall w hw a (U.calling g mk a) X.warmed) (hblind _ _ _ _ hp3) ((U.setTop g).pushFrame (.java (entryFrame mk a cY.maxLocals))) rfl Y
  cases o with
  | returned v =>
    obtain ⟨T', X', hW', hsame', ht⟩ := X.outOf hg hdg h2 hW2 hs
    refine ⟨.returned v, ⟨T', Ls ++ L, c0 + mc, s0 + ms⟩, X', ⟨g, mk, t, L, by rw [ht]; rfl, by rw [ht]; rfl, h3, rfl, hL, rfl, rfl⟩, ?_⟩
    dsimp only [Pt.U]
    rw [hinv [], ← ht]
    rw [hlY] at st ⊢
    exact steps_weak st
  | threw x =>
    obtain ⟨T', X', hW', hsame', ht⟩ := X.outOfThrown hg h2 hW2 hs
    refine ⟨.threw x, ⟨T', Ls ++ L, c0 + mc, s0 + ms⟩, X', ⟨g, mk, t, L, by rw [ht, Stand.throwing_heap], by rw [ht, Stand.throwing_vm], h3, rfl, hL, rfl, rfl⟩, ?_⟩
    dsimp only [Pt.U]
    rw [hinv [], ← ht]
    rw [hlY] at st ⊢
    exact steps_weak st
end BAG
/-- an exception is on its way, over the frame g -/
def WT (p : Program) (l : Launch) (e : Env) (R : Room) (s : State) (m : MethodId) (args : Array Value) (below : List Frame) (meth : Method) (c : Code) (H : Heap) (locs : List Loc) (cells slots : Nat) (Q : State → Prop) (g : JFrame) (a : Addr) : Prop :=
  ∀ T : State, T.heap = H → Stand p l e R s m args below meth c T locs cells slots → ∃ t, Steps p.tables e below ((T.setTop g).pushFrame (.throwing a)) t ∧ Q t
section WTR
variable {p : Program} {l : Launch} {e : Env} {R : Room} {s : State} {m : MethodId} {args : Array Value} {below : List Frame} {meth : Method} {c : Code} {H : Heap} {locs : List Loc} {ce sl : Nat} {Q : State → Prop}
variable {cc : ByteArray} {pc nL maxL index a : Nat} {ls : Array Slot} {rest st As : List Value} {own C owner : String} {x y : MethodName}
theorem WT.out {Qc : Array Value → State → Outcome → State → Prop} {free : Addr → Prop} (hno : ∀ z ∈ c.exceptionTable.toList, covers z pc = false) (hlocks : meth.locks = false) (hq : ∀ t : State, t.heap = H → s.WarmedH t.vm → Qc args s (.threw a) t) (hf : ∀ q ∈ locs, free q.base) :
    WT p l e R s m args below meth c H locs ce sl (MQX below Qc args s ce sl free) (F0 m pc ls rest) a := by
  intro T hT X
  obtain ⟨h1, h2, h3, h4, h5⟩ := X.leaveThrown a (g := F0 m pc ls rest) rfl rfl rfl hno hlocks
  exact ⟨_, h1, _, h2, h3, hq _ hT h4, h4, locs, h5, hf⟩
theorem hx_athrow (hx : p.tables.exec = Jvm.exec) (hb : c.code = cc) (hdg : decode cc pc = .ok (.athrow, 1)) (kk : WT p l e R s m args below meth c H locs ce sl Q (F0 m pc ls rest) a) : W p l e R s m args below meth c H locs ce sl Q (F0 m pc ls (.ref a :: rest)) := by
  subst hb
  intro T hT X
  obtain ⟨t, h1, h2⟩ := kk T hT X
  refine ⟨t, ?_, h2⟩
  have hX := X.here
  have hstack : (F0 m pc ls (.ref a :: rest)).stack = .ref a :: rest := rfl
  have hdg' : decode c.code (F0 m pc ls (.ref a :: rest)).pc = .ok (.athrow, 1) := hdg
  jvm_step hX [hx, hdg', athrow.wp_sem, hstack]
  exact h1
theorem WT.catch {pcH : Nat} (hfind : ∀ T : State, T.heap = H → s.WarmedH T.vm → Finds e ((T.setTop (F0 m pc ls rest)).pushFrame (.throwing a)) (F0 m pc ls rest) a (.found pcH)) (kk : W p l e R s m args below meth c H locs ce sl Q (F0 m pcH ls [.ref a])) : WT p l e R s m args below meth c H locs ce sl Q (F0 m pc ls rest) a := by
  intro T hT X
  obtain ⟨t, h1, h2⟩ := kk T hT X
  exact ⟨t, X.catchAt a (g := F0 m pc ls rest) rfl (hfind T hT X.warmed) h1, h2⟩
/-- a virtual call whose callee may throw -/
theorem hx_callG {Pc : Array Value → State → Prop} {Qc : Array Value → State → Outcome → State → Prop} {mc ms : Nat} {free : Addr → Prop} {b : Nat} {bytes0 : ByteArray} {rm : Room} (S : CallFix p m c cc nL s args lw_all own) (hM : MetB l y maxL rm Pc Qc mc ms free) (hpl : plainFor y = true) (hblind : FrameBlind Pc) (hrc : rm.cells = mc) (hrs : rm.slots = ms) (hR : rm.frames + 1 ≤ R.frames ∧ 8 + (maxL + 11) + rm.locals ≤ R.locals) (hcode : CodeK s y maxL) (hlink : Cond.methodLink own index x ∈ lw_all) (hsame : Cond.sameMethod x.cls owner x.name x.desc ∈ lw_all) (hdecl : va_Decl s ⟨owner, x.name, x.desc⟩) (hsel : Cond.selects C x y ∈ lw_all) (hiy : Cond.instanceMethod y ∈ lw_all)
    (hd : owner ≠ "java/lang/invoke/MethodHandle" ∧ owner ≠ "java/lang/invoke/VarHandle" ∧ (parseMethodDescriptor x.desc).map (fun d => d.parameters.length) = some As.length)
    (hrecv : ∃ cell : Cell, H[b]? = some cell ∧ cell.vm.isStatics = false ∧ s.vm.findClass C = some cell.cls) (hPc : ∀ U : State, U.heap = H → s.WarmedH U.vm → Pc (.ref b :: As : List Value).toArray U) (hl : ls.size = nL) (hst : st = As.reverse ++ .ref b :: rest) (hW : (rest.map fun v => v.category).sum ≤ 8) (hfit : ce + mc ≤ R.cells ∧ sl + ms ≤ R.slots) (hdg : decode cc pc = .ok (.invokevirtual index, 3))
    (kr : ∀ (v : Option Value) (st₀ t : State) (L : List Loc), st₀.heap = H → (∀ q ∈ L, free q.base) → Qc (.ref b :: As : List Value).toArray st₀ (.returned v) t → W p l e R s m args below meth c t.heap (locs ++ L) (ce + mc) (sl + ms) Q (F0 m (pc + 3) ls (v.toList ++ rest)))
    (kt : ∀ (a : Addr) (st₀ t : State) (L : List Loc), st₀.heap = H → (∀ q ∈ L, free q.base) → Qc (.ref b :: As : List Value).toArray st₀ (.threw a) t → WT p l e R s m args below meth c t.heap (locs ++ L) (ce + mc) (sl + ms) Q (F0 m pc ls rest) a) : W p l e R s m args below meth c H locs ce sl Q (F0 m pc ls st) := by
  obtain ⟨hx, hb, hml, ho, hts⟩ := S
  obtain ⟨cellB, hcell, hobj, hcls⟩ := hrecv
  have hK : BackG l R p e below s args y 3 8 (PreOf R mc ms Pc) (PostG Qc mc ms free) := backG_bare hM hx hpl hblind hrc hrs hR.1 hR.2 hts hcode
  intro T hT X
  obtain ⟨r0, r, hn, hrm, hstR, hsigR⟩ := hdecl
  obtain ⟨cn, ck, r1, hcn, hck, hni, hf, hn1⟩ := Cond.sameMethod_found (hts _ hsame)
  cases hn.symm.trans hn1
  obtain ⟨mk, methM, hnamed, hmethM, -, habM⟩ := Cond.instanceMethod_spec (hts _ hiy)
  obtain ⟨c2, r2, m2, q1, q2, q3, q4, kP, hkP, hkPi⟩ := Cond.selects_spec (hts _ hsel)
  cases hcls.symm.trans q1
  cases hf.symm.trans q2
  cases hnamed.symm.trans q3
  have hselP : selectMethod e.platform s.vm cellB.cls r0 = .method mk := by rw [Launch.admits_selectMethod X.admits]; exact q4
  have hlen : ∀ sig, parseMethodDescriptor x.desc = some sig → As.length = sig.parameters.length := fun sig h => by
    have h9 := hd.2.2
    rw [h] at h9
    exact (Option.some.inj h9).symm
  obtain ⟨vm₁, X₁, hstep₁⟩ := X.invokevirtualUp hx ho (hts _ hlink) (hts _ hsame) ⟨hd.1, hd.2.1⟩ hn hrm hstR (a := b) (cell := cellB) (by rw [hT]; exact hcell)
    (fun z h => by rw [h] at hobj; cases hobj) hselP hmethM habM hkP hkPi (g := F0 m pc ls st) rfl (argsL := As) (rest := rest) (hlen _ hsigR) hst (by rw [hb]; exact hdg)
  obtain ⟨o, ⟨U', l2, c2, s2⟩, X', ⟨g', mk', t, L, e1, e2, hq, h1, hL, h2, h3⟩, hsteps⟩ := hK m meth c ⟨T.setVm vm₁, locs, ce, sl⟩ (F0 m pc ls rest) (.invokevirtual index) mk (Value.ref b :: As).toArray X₁ rfl (hl.trans hml.symm) (by rw [hb]; exact hdg) (by show 2 * 0 + (rest.map fun v => v.category).sum ≤ 8; omega) (X₁.named hnamed) ⟨hfit.1, hfit.2, hPc _ hT X₁.warmed⟩
  dsimp only [Pt.U, Pt.locs, Pt.cells, Pt.slots] at X' e1 e2 h1 h2 h3 hsteps
  subst h1; subst h2; subst h3
  cases o with
  | returned v =>
    obtain ⟨t2, a1, b1⟩ := kr v _ t L (by show T.heap = H; exact hT) hL hq U' e1 X'
    exact ⟨t2, hstep₁ _ fun acts => by rw [doInvoke_state]; exact hsteps.trans a1, b1⟩
  | threw a =>
    obtain ⟨t2, a1, b1⟩ := kt a _ t L (by show T.heap = H; exact hT) hL hq U' e1 X'
    exact ⟨t2, hstep₁ _ fun acts => by rw [doInvoke_state]; exact hsteps.trans a1, b1⟩
end WTR
