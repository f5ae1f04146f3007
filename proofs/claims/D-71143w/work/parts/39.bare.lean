/-! CALLS BY THE CALLEE's OWN WALK: of a class of which no word says that it is initialised; of methods that may throw -/
set_option maxRecDepth 100000
/-- a walk's end, whatever the outcome -/
def MQX (below : List Frame) (Qc : Array Value → State → Outcome → State → Prop) (a : Array Value) (s : State) (mc ms : Nat) (free : Addr → Prop) : State → Prop := fun t =>
  ∃ o, t.status = .running ∧ Ended t below o ∧ Qc a s o t ∧ s.WarmedH t.vm ∧ ∃ L, s.sameButNew ({ t with vm := s.vm } : State) L mc ms ∧ ∀ q ∈ L, free q.base
theorem MQ.x {below : List Frame} {Qc : Array Value → State → Outcome → State → Prop} {a : Array Value} {s : State} {mc ms : Nat} {free : Addr → Prop} {t : State} (h : MQ below Qc a s mc ms free t) : MQX below Qc a s mc ms free t := by
  obtain ⟨o, h1, h2, h3, L, ⟨-, h4, h5⟩, h6⟩ := h
  exact ⟨o, h1, h2, h3, h4, L, h5, h6⟩
def MetB (l : Launch) (y : MethodName) (maxL : Nat) (rm : Room) (Pc : Array Value → State → Prop) (Qc : Array Value → State → Outcome → State → Prop) (mc ms : Nat) (free : Addr → Prop) : Prop :=
  ∀ (p : Program) (e : Env) (s : State) (m : MethodId) (args : Array Value) (below : List Frame) (meth : Method) (c : Code), p.tables.exec = Jvm.exec → s.methodNamed? y = some m → s.vm.method? m = some meth → meth.code = some c → c.maxLocals = maxL → (∀ w ∈ lw_all, w.before args s = true) → Pc args s → W p l e rm s m args below meth c s.heap [] 0 0 (MQX below Qc args s mc ms free) (entryFrame m args maxL)
theorem steps_weak {tb : Tables} {e : Env} {below : List Frame} {f : Frame} {a b : State} (h : Steps tb e (f :: below) a b) : Steps tb e below a b := by
  obtain ⟨n, h1, h2⟩ := h
  exact ⟨n, h1, fun k hk => Within.weaken (mid := [f]) (h2 k hk)⟩
section BAR
variable {l : Launch} {R : Room} {p : Program} {e : Env} {below : List Frame} {s : State} {sargs : Array Value} {y : MethodName} {len W : Nat}
/-- the callee's walk pays the premise on a call -/
theorem back_bare {rm : Room} {Pc : Array Value → State → Prop} {Qc : Array Value → State → Outcome → State → Prop} {mc ms : Nat} {free : Addr → Prop} {bytes : ByteArray} {maxL : Nat} {ret : Option FieldType}
    (hM : MetB l y maxL rm Pc Qc mc ms free) (hret : ∀ a st o t, Qc a st o t → ∃ v, o = .returned v) (hx : p.tables.exec = Jvm.exec) (hpl : plainFor y = true) (hblind : FrameBlind Pc) (hrc : rm.cells = mc) (hrs : rm.slots = ms)
    (hframes : rm.frames + 1 ≤ R.frames) (hlocals : W + (maxL + 11) + rm.locals ≤ R.locals) (hts : ∀ w ∈ lw_all, w.before sargs s = true) (hcode : Cond.code y bytes maxL ret ∈ lw_all) :
    Back l R p e below s sargs y len W (PreOf R mc ms Pc) (PostOf Qc mc ms free) := by
  intro m meth c A g ig mk a X hg hsize hdg hW hn hp
  obtain ⟨U, Ls, c0, s0⟩ := A
  dsimp only [Pt.U, Pt.locs, Pt.cells, Pt.slots] at X hn ⊢
  have hall := pay_in hts lw_self
  obtain ⟨methY, cY, hmY, hcY, -, hlY, -, hkY, -, -⟩ := Cond.code_spec hn (hall _ hcode a U X.warmed)
  obtain ⟨hp1, hp2, hp3⟩ := hp
  dsimp only [Pt.U, Pt.locs, Pt.cells, Pt.slots] at hp1 hp2 hp3
  obtain ⟨Y, hinv⟩ := X.into hg hsize hdg a (R' := rm) hmY hcY hkY (State.plainMethod.of_named hpl hn hmY) hframes (by rw [hlY]; omega) (by rw [hrc]; exact hp1) (by rw [hrs]; exact hp2)
  obtain ⟨t, st, o, h1, h2, h3, hW2, L, hs, hL⟩ := hM p e (U.calling g mk a) mk a (.java g :: below) methY cY hx hn hmY hcY hlY (fun w hw => hall w hw a (U.calling g mk a) X.warmed) (hblind _ _ _ _ hp3) ((U.setTop g).pushFrame (.java (entryFrame mk a cY.maxLocals))) rfl Y
  obtain ⟨v, rfl⟩ := hret _ _ _ _ h3
  obtain ⟨T', X', hW', hsame', ht⟩ := X.outOf hg hdg h2 hW2 hs
  refine ⟨v, ⟨T', Ls ++ L, c0 + mc, s0 + ms⟩, X', ⟨g, mk, t, L, by rw [ht]; rfl, by rw [ht]; rfl, h3, rfl, hL, rfl, rfl⟩, ?_⟩
  dsimp only [Pt.U]
  rw [hinv [], ← ht]
  rw [hlY] at st ⊢
  exact steps_weak st
end BAR
/-- a sort's method: it answers, nothing moves -/
def SoP (C : String) (b : Nat) (As : List Value) : Array Value → State → Prop := fun a st => a = (.ref b :: As : List Value).toArray ∧ ∃ (cell : Cell) (kB : Class), st.heap[b]? = some cell ∧ cell.vm.isStatics = false ∧ st.vm.findClass C = some cell.cls ∧ st.vm.classes[cell.cls]? = some kB
def SoQ (z : Int32) : Array Value → State → Outcome → State → Prop := fun _ st o t => o = .returned (some (.int z)) ∧ t.heap = st.heap
theorem SoP.blind {C : String} {b : Nat} {As : List Value} : FrameBlind (SoP C b As) := fun _ _ _ _ h => h
theorem SoQ.ret {z : Int32} : ∀ a st o t, SoQ z a st o t → ∃ v, o = .returned v := fun _ _ _ _ h => ⟨_, h.1⟩
abbrev MetS (l : Launch) (y : MethodName) (nL d : Nat) (C : String) (b : Nat) (As : List Value) (z : Int32) : Prop := MetB l y nL (rmc d 0 0) (SoP C b As) (SoQ z) 0 0 (fun _ => False)
section SOR
variable {p : Program} {l : Launch} {e : Env} {R : Room} {s : State} {m : MethodId} {args : Array Value} {below : List Frame} {meth : Method} {c : Code} {H : Heap} {locs : List Loc} {ce sl : Nat} {Q : State → Prop}
variable {cc bytes bytes0 : ByteArray} {pc nL maxL index n d b : Nat} {ls : Array Slot} {rest st As : List Value} {own C owner : String} {x y : MethodName} {rt : Option FieldType} {z : Int32}
/-- a virtual call of a sort's method -/
theorem hx_sort (S : CallFix p m c cc nL s args lw_all own) (hM : MetS l y maxL d C b As z) (hpl : plainFor y = true) (hR : d + 1 ≤ R.frames ∧ 8 + (maxL + 11) + 64 * d ≤ R.locals) (hcode : Cond.code y bytes maxL (some .int) ∈ lw_all) (hlink : Cond.methodLink own index x ∈ lw_all) (hsame : Cond.sameMethod x.cls x.cls x.name x.desc ∈ lw_all) (hix : Cond.instanceMethod x ∈ lw_all) {r0 : Option FieldType} {n0 : Nat} (hcx : Cond.code x bytes0 n0 r0 ∈ lw_all) (hsel : Cond.selects C x y ∈ lw_all) (hiy : Cond.instanceMethod y ∈ lw_all)
    (hd : x.cls ≠ "java/lang/invoke/MethodHandle" ∧ x.cls ≠ "java/lang/invoke/VarHandle" ∧ (parseMethodDescriptor x.desc).map (fun d => d.parameters.length) = some As.length)
    (hrecv : ∃ (cell : Cell) (kB : Class), H[b]? = some cell ∧ cell.vm.isStatics = false ∧ s.vm.findClass C = some cell.cls ∧ s.vm.classes[cell.cls]? = some kB) (hl : ls.size = nL) (hst : st = As.reverse ++ .ref b :: rest) (hW : (rest.map fun v => v.category).sum ≤ 8) (hfit : ce ≤ R.cells ∧ sl ≤ R.slots) (hdg : decode cc pc = .ok (.invokevirtual index, 3))
    (kk : W p l e R s m args below meth c H locs ce sl Q (F0 m (pc + 3) ls (.int z :: rest))) : W p l e R s m args below meth c H locs ce sl Q (F0 m pc ls st) := by
  obtain ⟨hx, hb, hml, ho, hts⟩ := S
  obtain ⟨cell, kB, g1, g2, g3, g4⟩ := hrecv
  have hK : Back l R p e below s args y 3 8 (PreOf R 0 0 (SoP C b As)) (PostOf (SoQ z) 0 0 (fun _ => False)) := back_bare (bytes := bytes) (ret := some .int) hM SoQ.ret hx hpl SoP.blind rfl rfl hR.1 hR.2 hts hcode
  intro T hT X
  obtain ⟨v, vm₁, ⟨U', l2, c2, s2⟩, hW₁, X', ⟨g', mk, t, L, e1, e2, hq, h1, hL, h2, h3⟩, st'⟩ := va_callVU X hx (C := C) (owner := x.cls) (x := x) (y := y) (bytes := bytes) (maxL := maxL) (ret := some .int) ho (hts _ hlink) (hts _ hsame) (va_Decl.of (x := x) (hts _ hix) (hts _ hcx)) ⟨hd.1, hd.2.1⟩ (hts _ hsel) (hts _ hiy) (hts _ hcode) hK (by rw [hT]; exact g1) g2 g3 (g := F0 m pc ls st) rfl (hl.trans hml.symm) (argsL := As) (rest := rest) (fun sig h => by have h9 := hd.2.2; rw [h] at h9; exact (Option.some.inj h9).symm) hst (by show 2 * 0 + _ ≤ 8; omega) (by rw [hb]; exact hdg)
    (fun vm₁ hW₁ => ⟨hfit.1, hfit.2, rfl, cell, by
      obtain ⟨k', hk', -⟩ := hW₁.alike.2.2 _ _ g4
      exact ⟨k', by show T.heap[b]? = _; rw [hT]; exact g1, g2, by show vm₁.findClass C = _; rw [hW₁.alike.findClass]; exact g3, hk'⟩⟩)
  dsimp only [Pt.U, Pt.locs, Pt.cells, Pt.slots] at X' e1 e2 h1 h2 h3 st'
  subst h1; subst h2; subst h3
  obtain ⟨hv, hh⟩ := hq
  cases hv
  have hL0 : L = [] := List.eq_nil_iff_forall_not_mem.mpr (fun q hq => hL q hq)
  subst hL0
  rw [List.append_nil] at X'
  obtain ⟨t2, a1, b1⟩ := kk U' (by rw [e1, hh]; exact hT) X'
  exact ⟨t2, st' t2 a1, b1⟩
/-- super.m(..) of a sort's method -/
theorem hx_sup (S : CallFix p m c cc nL s args lw_all own) (hM : MetS l y maxL d C b As z) (hpl : plainFor y = true) (hR : d + 1 ≤ R.frames ∧ 8 + (maxL + 11) + 64 * d ≤ R.locals) (hcode : Cond.code y bytes maxL (some .int) ∈ lw_all) (hlink : Cond.methodLink own index y ∈ lw_all) (hsame : Cond.sameMethod y.cls y.cls y.name y.desc ∈ lw_all) (hsup : Cond.superclass own y.cls ∈ lw_all) (hiy : Cond.instanceMethod y ∈ lw_all)
    (hd : y.name ≠ "<init>" ∧ (parseMethodDescriptor y.desc).map (fun d => d.parameters.length) = some As.length)
    (hrecv : ∃ (cell : Cell) (kB : Class), H[b]? = some cell ∧ cell.vm.isStatics = false ∧ s.vm.findClass C = some cell.cls ∧ s.vm.classes[cell.cls]? = some kB) (hl : ls.size = nL) (hst : st = As.reverse ++ .ref b :: rest) (hW : (rest.map fun v => v.category).sum ≤ 8) (hfit : ce ≤ R.cells ∧ sl ≤ R.slots) (hdg : decode cc pc = .ok (.invokespecial index, 3))
    (kk : W p l e R s m args below meth c H locs ce sl Q (F0 m (pc + 3) ls (.int z :: rest))) : W p l e R s m args below meth c H locs ce sl Q (F0 m pc ls st) := by
  obtain ⟨hx, hb, hml, ho, hts⟩ := S
  obtain ⟨cell, kB, g1, g2, g3, g4⟩ := hrecv
  have hK : Back l R p e below s args y 3 8 (PreOf R 0 0 (SoP C b As)) (PostOf (SoQ z) 0 0 (fun _ => False)) := back_bare (bytes := bytes) (ret := some .int) hM SoQ.ret hx hpl SoP.blind rfl rfl hR.1 hR.2 hts hcode
  intro T hT X
  obtain ⟨v, vm₁, ⟨U', l2, c2, s2⟩, hW₁, X', ⟨g', mk, t, L, e1, e2, hq, h1, hL, h2, h3⟩, st'⟩ := va_callSU X hx (bytes := bytes) (maxL := maxL) (ret := some .int) ho (hts _ hlink) (hts _ hsame) (hts _ hsup) (hts _ hiy) (hts _ hcode) hd.1 hK (by rw [hT]; exact g1) g2 g4 (g := F0 m pc ls st) rfl (hl.trans hml.symm) (argsL := As) (rest := rest) (fun sig h => by have h9 := hd.2; rw [h] at h9; exact (Option.some.inj h9).symm) hst (by show 2 * 0 + _ ≤ 8; omega) (by rw [hb]; exact hdg)
    (fun vm₁ hW₁ => ⟨hfit.1, hfit.2, rfl, cell, by
      obtain ⟨k', hk', -⟩ := hW₁.alike.2.2 _ _ g4
      exact ⟨k', by show T.heap[b]? = _; rw [hT]; exact g1, g2, by show vm₁.findClass C = _; rw [hW₁.alike.findClass]; exact g3, hk'⟩⟩)
  dsimp only [Pt.U, Pt.locs, Pt.cells, Pt.slots] at X' e1 e2 h1 h2 h3 st'
  subst h1; subst h2; subst h3
  obtain ⟨hv, hh⟩ := hq
  cases hv
  have hL0 : L = [] := List.eq_nil_iff_forall_not_mem.mpr (fun q hq => hL q hq)
  subst hL0
  rw [List.append_nil] at X'
  obtain ⟨t2, a1, b1⟩ := kk U' (by rw [e1, hh]; exact hT) X'
  exact ⟨t2, st' t2 a1, b1⟩
end SOR
