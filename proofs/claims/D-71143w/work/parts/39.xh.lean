/-! A METHOD BY WHAT IT DOES TO ONE HEAP; calls of such, that return or throw -/
set_option maxRecDepth 100000
def HvF (K : CK) (H0 H1 : Heap) : Prop := H0.size ≤ H1.size ∧ ∀ a, a < H0.size → ¬ cP K a → H1[a]? = H0[a]?
def HvP (K : CK) (As : List Value) (H0 : Heap) : Array Value → State → Prop := va_Pc As (fun U => U.heap = H0 ∧ CTb K U ∧ CSt K U U.heap ∧ ∀ q, U.heap.size ≤ q → cP K q)
def HvQ (K : CK) (Ψ : Outcome → Heap → Prop) : Array Value → State → Outcome → State → Prop := fun _ st o t => HvF K st.heap t.heap ∧ Ψ o t.heap
theorem HvP.blind {K : CK} {As : List Value} {H0 : Heap} : FrameBlind (HvP K As H0) := by
  intro a U g mk h
  obtain ⟨h0, h1, h2, h3, h4⟩ := h
  exact ⟨h0, h1, CTb.same (s := U) (U := U.calling g mk a) rfl h2, CSt.next (H := U.heap) (U := U.calling g mk a) h3 (State.WarmedH.refl U) (fun _ _ _ => rfl), h4⟩
abbrev MetH (l : Launch) (K : CK) (y : MethodName) (nL d mc ms : Nat) (As : List Value) (H0 : Heap) (Ψ : Outcome → Heap → Prop) : Prop := MetB l y nL (rmc d mc ms) (HvP K As H0) (HvQ K Ψ) mc ms (cP K)
/-- what stands about a walk -/
def HE (p : Program) (s : State) (m : MethodId) (args : Array Value) (c : Code) (cc : ByteArray) (nL : Nat) (own : String) (K : CK) : Prop := CallFix p m c cc nL s args lw_all own ∧ CTb K s ∧ CSt K s s.heap ∧ ∀ q, s.heap.size ≤ q → cP K q
theorem hv_S {K : CK} {H0 H H1 : Heap} {locs L : List Loc} (hS : va_S (cP K) H0 H locs) (hF : HvF K H H1) (hL : ∀ q ∈ L, cP K q.base) : va_S (cP K) H0 H1 (locs ++ L) := by
  refine ⟨Nat.le_trans hS.1 hF.1, fun a h1 h2 => ?_, fun q hq => ?_⟩
  · rw [hF.2 a (Nat.lt_of_lt_of_le h1 hS.1) h2]
    exact hS.2.1 a h1 h2
  · rcases List.mem_append.mp hq with z | z
    · exact hS.2.2 q z
    · exact hL q z
theorem hv_F {K : CK} {H0 H : Heap} {locs : List Loc} (hS : va_S (cP K) H0 H locs) : HvF K H0 H := ⟨hS.1, hS.2.1⟩
section HVR
variable {p : Program} {l : Launch} {e : Env} {R : Room} {s : State} {m : MethodId} {args : Array Value} {below : List Frame} {meth : Method} {c : Code} {H : Heap} {locs : List Loc} {ce sl : Nat} {Q : State → Prop}
variable {cc bytes : ByteArray} {pc nL maxL index d b mc ms : Nat} {ls : Array Slot} {rest st As : List Value} {own C owner : String} {x y : MethodName} {rt : Option FieldType} {K : CK} {Ψ : Outcome → Heap → Prop}
theorem HE.P (E : HE p s m args c cc nL own K) (hS : va_S (cP K) s.heap H locs) {U : State} (hU : U.heap = H) (hW : s.WarmedH U.vm) : HvP K As H As.toArray U :=
  ⟨rfl, hU, CTb.warm hW E.2.1, CSt.at E.2.2.1 hS hU hW, fun q hq => E.2.2.2 q (by rw [hU] at hq; exact Nat.le_trans hS.1 hq)⟩
/-- a virtual call, that may return or throw; the method is named through a class that may only inherit it -/
theorem hx_H (E : HE p s m args c cc nL own K) (hS : va_S (cP K) s.heap H locs) (hM : MetH l K y maxL d mc ms (.ref b :: As) H Ψ) (hpl : plainFor y = true) (hR : d + 1 ≤ R.frames ∧ 8 + (maxL + 11) + 64 * d ≤ R.locals) (hcode : CodeK s y maxL) (hlink : Cond.methodLink own index x ∈ lw_all) (hsame : Cond.sameMethod x.cls owner x.name x.desc ∈ lw_all) (hdecl : va_Decl s ⟨owner, x.name, x.desc⟩) (hsel : Cond.selects C x y ∈ lw_all) (hiy : Cond.instanceMethod y ∈ lw_all)
    (hd : owner ≠ "java/lang/invoke/MethodHandle" ∧ owner ≠ "java/lang/invoke/VarHandle" ∧ (parseMethodDescriptor x.desc).map (fun d => d.parameters.length) = some As.length)
    (hrecv : ∃ cell : Cell, H[b]? = some cell ∧ cell.vm.isStatics = false ∧ s.vm.findClass C = some cell.cls) (hl : ls.size = nL) (hst : st = As.reverse ++ .ref b :: rest) (hW : (rest.map fun v => v.category).sum ≤ 8) (hfit : ce + mc ≤ R.cells ∧ sl + ms ≤ R.slots) (hdg : decode cc pc = .ok (.invokevirtual index, 3))
    (kr : ∀ (v : Option Value) (H1 : Heap) (L : List Loc), HvF K H H1 → Ψ (.returned v) H1 → va_S (cP K) s.heap H1 (locs ++ L) → W p l e R s m args below meth c H1 (locs ++ L) (ce + mc) (sl + ms) Q (F0 m (pc + 3) ls (v.toList ++ rest)))
    (kt : ∀ (a : Addr) (H1 : Heap) (L : List Loc), HvF K H H1 → Ψ (.threw a) H1 → va_S (cP K) s.heap H1 (locs ++ L) → WT p l e R s m args below meth c H1 (locs ++ L) (ce + mc) (sl + ms) Q (F0 m pc ls rest) a) : W p l e R s m args below meth c H locs ce sl Q (F0 m pc ls st) := by
  refine hx_callG (bytes0 := cc) (C := C) (owner := owner) (x := x) E.1 hM hpl HvP.blind rfl rfl hR hcode hlink hsame hdecl hsel hiy hd hrecv (fun U hU hW => E.P hS hU hW) hl hst hW hfit hdg ?_ ?_
  · intro v st0 t L h0 hL hq
    obtain ⟨h1, h2⟩ := hq
    rw [h0] at h1
    exact kr v t.heap L h1 h2 (hv_S hS h1 hL)
  · intro a st0 t L h0 hL hq
    obtain ⟨h1, h2⟩ := hq
    rw [h0] at h1
    exact kt a t.heap L h1 h2 (hv_S hS h1 hL)
/-- a private method of the class that names it -/
theorem hx_callGP {Pc : Array Value → State → Prop} {Qc : Array Value → State → Outcome → State → Prop} {free : Addr → Prop} {rm : Room} (S : CallFix p m c cc nL s args lw_all own) (hM : MetB l y maxL rm Pc Qc mc ms free) (hpl : plainFor y = true) (hblind : FrameBlind Pc) (hrc : rm.cells = mc) (hrs : rm.slots = ms) (hR : rm.frames + 1 ≤ R.frames ∧ 8 + (maxL + 11) + rm.locals ≤ R.locals) (hcode : CodeK s y maxL) (hlink : Cond.methodLink own index y ∈ lw_all) (hsame : Cond.sameMethod y.cls y.cls y.name y.desc ∈ lw_all) (hpriv : va_Nw (.privateMethod y) s) (hdecl : va_Decl s y) (hiy : Cond.instanceMethod y ∈ lw_all)
    (hd : y.cls ≠ "java/lang/invoke/MethodHandle" ∧ y.cls ≠ "java/lang/invoke/VarHandle" ∧ (parseMethodDescriptor y.desc).map (fun d => d.parameters.length) = some As.length)
    (hrecv : ∃ cell : Cell, H[b]? = some cell ∧ cell.vm.isStatics = false) (hPc : ∀ U : State, U.heap = H → s.WarmedH U.vm → Pc (.ref b :: As : List Value).toArray U) (hl : ls.size = nL) (hst : st = As.reverse ++ .ref b :: rest) (hW : (rest.map fun v => v.category).sum ≤ 8) (hfit : ce + mc ≤ R.cells ∧ sl + ms ≤ R.slots) (hdg : decode cc pc = .ok (.invokevirtual index, 3))
    (kr : ∀ (v : Option Value) (st₀ t : State) (L : List Loc), st₀.heap = H → (∀ q ∈ L, free q.base) → Qc (.ref b :: As : List Value).toArray st₀ (.returned v) t → W p l e R s m args below meth c t.heap (locs ++ L) (ce + mc) (sl + ms) Q (F0 m (pc + 3) ls (v.toList ++ rest)))
    (kt : ∀ (a : Addr) (st₀ t : State) (L : List Loc), st₀.heap = H → (∀ q ∈ L, free q.base) → Qc (.ref b :: As : List Value).toArray st₀ (.threw a) t → WT p l e R s m args below meth c t.heap (locs ++ L) (ce + mc) (sl + ms) Q (F0 m pc ls rest) a) : W p l e R s m args below meth c H locs ce sl Q (F0 m pc ls st) := by
  obtain ⟨hx, hb, hml, ho, hts⟩ := S
  obtain ⟨cellB, hcell, hobj⟩ := hrecv
  have hK : BackG l R p e below s args y 3 8 (PreOf R mc ms Pc) (PostG Qc mc ms free) := backG_bare hM hx hpl hblind hrc hrs hR.1 hR.2 hts hcode
  intro T hT X
  obtain ⟨r0, r, hn, hrm, hstR, hsigR⟩ := hdecl
  obtain ⟨cn, ck, r1, hcn, hck, hni, hf, hn1⟩ := Cond.sameMethod_found (hts _ hsame)
  cases hn.symm.trans hn1
  obtain ⟨mk, methM, hnamed, hmethM, -, habM⟩ := Cond.instanceMethod_spec (hts _ hiy)
  cases hn.symm.trans hnamed
  cases hrm.symm.trans hmethM
  have hcls : cn = r0.cls := Option.some.inj (hcn.symm.trans (findClass_of_methodNamed hn))
  subst hcls
  have hselP : selectMethod e.platform s.vm cellB.cls r0 = .method r0 := selectMethod_private hrm (Cond.privateMethod_at hpriv _ _ hn hrm)
  have hlen : ∀ sig, parseMethodDescriptor y.desc = some sig → As.length = sig.parameters.length := fun sig h => by
    have h9 := hd.2.2
    rw [h] at h9
    exact (Option.some.inj h9).symm
  obtain ⟨vm₁, X₁, hstep₁⟩ := X.invokevirtualUp hx ho (hts _ hlink) (hts _ hsame) ⟨hd.1, hd.2.1⟩ hn hrm hstR (a := b) (cell := cellB) (by rw [hT]; exact hcell)
    (fun z h => by rw [h] at hobj; cases hobj) hselP hrm habM hck hni (g := F0 m pc ls st) rfl (argsL := As) (rest := rest) (hlen _ hsigR) hst (by rw [hb]; exact hdg)
  obtain ⟨o, ⟨U', l2, c2, s2⟩, X', ⟨g', mk', t, L, e1, e2, hq, h1, hL, h2, h3⟩, hsteps⟩ := hK m meth c ⟨T.setVm vm₁, locs, ce, sl⟩ (F0 m pc ls rest) (.invokevirtual index) r0 (Value.ref b :: As).toArray X₁ rfl (hl.trans hml.symm) (by rw [hb]; exact hdg) (by show 2 * 0 + (rest.map fun v => v.category).sum ≤ 8; omega) (X₁.named hn) ⟨hfit.1, hfit.2, hPc _ hT X₁.warmed⟩
  dsimp only [Pt.U, Pt.locs, Pt.cells, Pt.slots] at X' e1 e2 h1 h2 h3 hsteps
  subst h1; subst h2; subst h3
  cases o with
  | returned v =>
    obtain ⟨t2, a1, b1⟩ := kr v _ t L (by show T.heap = H; exact hT) hL hq U' e1 X'
    exact ⟨t2, hstep₁ _ fun acts => by rw [doInvoke_state]; exact hsteps.trans a1, b1⟩
  | threw a =>
    obtain ⟨t2, a1, b1⟩ := kt a _ t L (by show T.heap = H; exact hT) hL hq U' e1 X'
    exact ⟨t2, hstep₁ _ fun acts => by rw [doInvoke_state]; exact hsteps.trans a1, b1⟩
theorem hx_HP (E : HE p s m args c cc nL own K) (hS : va_S (cP K) s.heap H locs) (hM : MetH l K y maxL d mc ms (.ref b :: As) H Ψ) (hpl : plainFor y = true) (hR : d + 1 ≤ R.frames ∧ 8 + (maxL + 11) + 64 * d ≤ R.locals) (hcode : CodeK s y maxL) (hlink : Cond.methodLink own index y ∈ lw_all) (hsame : Cond.sameMethod y.cls y.cls y.name y.desc ∈ lw_all) (hpriv : va_Nw (.privateMethod y) s) (hdecl : va_Decl s y) (hiy : Cond.instanceMethod y ∈ lw_all)
    (hd : y.cls ≠ "java/lang/invoke/MethodHandle" ∧ y.cls ≠ "java/lang/invoke/VarHandle" ∧ (parseMethodDescriptor y.desc).map (fun d => d.parameters.length) = some As.length)
    (hrecv : ∃ cell : Cell, H[b]? = some cell ∧ cell.vm.isStatics = false) (hl : ls.size = nL) (hst : st = As.reverse ++ .ref b :: rest) (hW : (rest.map fun v => v.category).sum ≤ 8) (hfit : ce + mc ≤ R.cells ∧ sl + ms ≤ R.slots) (hdg : decode cc pc = .ok (.invokevirtual index, 3))
    (kr : ∀ (v : Option Value) (H1 : Heap) (L : List Loc), HvF K H H1 → Ψ (.returned v) H1 → va_S (cP K) s.heap H1 (locs ++ L) → W p l e R s m args below meth c H1 (locs ++ L) (ce + mc) (sl + ms) Q (F0 m (pc + 3) ls (v.toList ++ rest)))
    (kt : ∀ (a : Addr) (H1 : Heap) (L : List Loc), HvF K H H1 → Ψ (.threw a) H1 → va_S (cP K) s.heap H1 (locs ++ L) → WT p l e R s m args below meth c H1 (locs ++ L) (ce + mc) (sl + ms) Q (F0 m pc ls rest) a) : W p l e R s m args below meth c H locs ce sl Q (F0 m pc ls st) := by
  refine hx_callGP E.1 hM hpl HvP.blind rfl rfl hR hcode hlink hsame hpriv hdecl hiy hd hrecv (fun U hU hW => E.P hS hU hW) hl hst hW hfit hdg ?_ ?_
  · intro v st0 t L h0 hL hq
    obtain ⟨h1, h2⟩ := hq
    rw [h0] at h1
    exact kr v t.heap L h1 h2 (hv_S hS h1 hL)
  · intro a st0 t L h0 hL hq
    obtain ⟨h1, h2⟩ := hq
    rw [h0] at h1
    exact kt a t.heap L h1 h2 (hv_S hS h1 hL)
theorem hv_ret {Ψ : Outcome → Heap → Prop} (h : ∀ a H1, ¬ Ψ (.threw a) H1) : ∀ a st o t, HvQ K Ψ a st o t → ∃ v, o = .returned v := by
  intro a st o t hq
  cases o with
  | returned v => exact ⟨v, rfl⟩
  | threw x => exact absurd hq.2 (h x _)
/-- a virtual call of a method of the receiver's own class, that returns -/
theorem hx_HV (E : HE p s m args c cc nL own K) (hS : va_S (cP K) s.heap H locs) (hM : MetH l K y maxL d mc ms (.ref b :: As) H Ψ) (hnt : ∀ a H1, ¬ Ψ (.threw a) H1) (hpl : plainFor y = true) (hR : d + 1 ≤ R.frames ∧ 8 + (maxL + 11) + 64 * d ≤ R.locals) (hcode : Cond.code y bytes maxL rt ∈ lw_all) (hlink : Cond.methodLink own index y ∈ lw_all) (hiy : Cond.instanceMethod y ∈ lw_all) (hsel : Cond.selects C y y ∈ lw_all)
    (hd : y.cls ≠ "java/lang/invoke/MethodHandle" ∧ y.cls ≠ "java/lang/invoke/VarHandle" ∧ (parseMethodDescriptor y.desc).map (fun d => d.parameters.length) = some As.length)
    (hrecv : ∃ cell : Cell, H[b]? = some cell ∧ cell.vm.isStatics = false ∧ s.vm.findClass C = some cell.cls) (hl : ls.size = nL) (hst : st = As.reverse ++ .ref b :: rest) (hW : (rest.map fun v => v.category).sum ≤ 8) (hfit : ce + mc ≤ R.cells ∧ sl + ms ≤ R.slots) (hdg : decode cc pc = .ok (.invokevirtual index, 3))
    (kr : ∀ (v : Option Value) (H1 : Heap) (L : List Loc), HvF K H H1 → Ψ (.returned v) H1 → va_S (cP K) s.heap H1 (locs ++ L) → W p l e R s m args below meth c H1 (locs ++ L) (ce + mc) (sl + ms) Q (F0 m (pc + 3) ls (v.toList ++ rest))) : W p l e R s m args below meth c H locs ce sl Q (F0 m pc ls st) := by
  obtain ⟨hx, hb, hml, ho, hts⟩ := E.1
  obtain ⟨cell, g1, g2, g3⟩ := hrecv
  have hK : Back l R p e below s args y 3 8 (PreOf R mc ms (HvP K (.ref b :: As) H)) (PostOf (HvQ K Ψ) mc ms (cP K)) := back_bare (bytes := bytes) (ret := rt) hM (hv_ret hnt) hx hpl HvP.blind rfl rfl hR.1 hR.2 hts hcode
  intro T hT X
  obtain ⟨v', vm₁, ⟨U', l2, c2, s2⟩, hW₁, X', ⟨g', mk, t, L, e1, e2, hq, h1, hL, h2, h3⟩, st'⟩ := callV X hx (C := C) (y := y) (bytes := bytes) (maxL := maxL) (ret := rt) ho (hts _ hlink) (hts _ hiy) (hts _ hsel) (hts _ hcode) ⟨hd.1, hd.2.1⟩ hK (by rw [hT]; exact g1) g2 g3 (g := F0 m pc ls st) rfl (hl.trans hml.symm) (argsL := As) (rest := rest) (fun sig h => by have h9 := hd.2.2; rw [h] at h9; exact (Option.some.inj h9).symm) hst (by show 2 * 0 + _ ≤ 8; omega) (by rw [hb]; exact hdg)
    (fun vm₁ hW₁ => ⟨hfit.1, hfit.2, E.P (U := T.setVm vm₁) hS hT hW₁⟩)
  dsimp only [Pt.U, Pt.locs, Pt.cells, Pt.slots] at X' e1 e2 h1 h2 h3 st'
  subst h1; subst h2; subst h3
  obtain ⟨q1, q2⟩ := hq
  have q1' : HvF K H t.heap := by rw [← hT]; exact q1
  obtain ⟨t2, a1, b1⟩ := kr v' t.heap L q1' q2 (hv_S hS q1' hL) U' e1 X'
  exact ⟨t2, st' t2 a1, b1⟩
/-- a static call that returns -/
theorem hx_HS (E : HE p s m args c cc nL own K) (hS : va_S (cP K) s.heap H locs) (hM : MetH l K y maxL d mc ms As H Ψ) (hnt : ∀ a H1, ¬ Ψ (.threw a) H1) (hpl : plainFor y = true) (hR : d + 1 ≤ R.frames ∧ 8 + (maxL + 11) + 64 * d ≤ R.locals) (hcode : Cond.code y bytes maxL rt ∈ lw_all) (hlink : Cond.methodLink own index y ∈ lw_all) (hst0 : Cond.static y ∈ lw_all) (hini : Cond.initialized y.cls ∈ lw_all)
    (hd : y.cls ≠ "java/lang/invoke/MethodHandle" ∧ y.cls ≠ "java/lang/invoke/VarHandle" ∧ (parseMethodDescriptor y.desc).map (fun d => d.parameters.length) = some As.length)
    (hl : ls.size = nL) (hst : st = As.reverse ++ rest) (hW : (rest.map fun v => v.category).sum ≤ 8) (hfit : ce + mc ≤ R.cells ∧ sl + ms ≤ R.slots) (hdg : decode cc pc = .ok (.invokestatic index, 3))
    (kr : ∀ (v : Option Value) (H1 : Heap) (L : List Loc), HvF K H H1 → Ψ (.returned v) H1 → va_S (cP K) s.heap H1 (locs ++ L) → W p l e R s m args below meth c H1 (locs ++ L) (ce + mc) (sl + ms) Q (F0 m (pc + 3) ls (v.toList ++ rest))) : W p l e R s m args below meth c H locs ce sl Q (F0 m pc ls st) := by
  obtain ⟨hx, hb, hml, ho, hts⟩ := E.1
  have hK : Back l R p e below s args y 3 8 (PreOf R mc ms (HvP K As H)) (PostOf (HvQ K Ψ) mc ms (cP K)) := back_bare (bytes := bytes) (ret := rt) hM (hv_ret hnt) hx hpl HvP.blind rfl rfl hR.1 hR.2 hts hcode
  intro T hT X
  obtain ⟨v', vm₁, ⟨U', l2, c2, s2⟩, hW₁, X', ⟨g', mk, t, L, e1, e2, hq, h1, hL, h2, h3⟩, st'⟩ := callS X hx (y := y) (bytes := bytes) (maxL := maxL) (ret := rt) ho (hts _ hlink) (hts _ hst0) (hts _ hini) (hts _ hcode) ⟨hd.1, hd.2.1⟩ hK (g := F0 m pc ls st) rfl (hl.trans hml.symm) (argsL := As) (rest := rest) (fun sig h => by have h9 := hd.2.2; rw [h] at h9; exact (Option.some.inj h9).symm) hst (by show 2 * 0 + _ ≤ 8; omega) (by rw [hb]; exact hdg)
    (fun vm₁ hW₁ => ⟨hfit.1, hfit.2, E.P (U := T.setVm vm₁) hS hT hW₁⟩)
  dsimp only [Pt.U, Pt.locs, Pt.cells, Pt.slots] at X' e1 e2 h1 h2 h3 st'
  subst h1; subst h2; subst h3
  obtain ⟨q1, q2⟩ := hq
  have q1' : HvF K H t.heap := by rw [← hT]; exact q1
  obtain ⟨t2, a1, b1⟩ := kr v' t.heap L q1' q2 (hv_S hS q1' hL) U' e1 X'
  exact ⟨t2, st' t2 a1, b1⟩
/-- a constructor or a super's method that returns -/
theorem hx_HI (E : HE p s m args c cc nL own K) (hS : va_S (cP K) s.heap H locs) (hM : MetH l K y maxL d mc ms (.ref b :: As) H Ψ) (hnt : ∀ a H1, ¬ Ψ (.threw a) H1) (hpl : plainFor y = true) (hR : d + 1 ≤ R.frames ∧ 8 + (maxL + 11) + 64 * d ≤ R.locals) (hcode : Cond.code y bytes maxL none ∈ lw_all) (hlink : Cond.methodLink own index y ∈ lw_all) (hiy : Cond.instanceMethod y ∈ lw_all)
    (hd : y.name = "<init>" ∧ y.cls ≠ "java/lang/invoke/MethodHandle" ∧ y.cls ≠ "java/lang/invoke/VarHandle" ∧ (parseMethodDescriptor y.desc).map (fun d => d.parameters.length) = some As.length)
    (hl : ls.size = nL) (hst : st = As.reverse ++ .ref b :: rest) (hW : (rest.map fun v => v.category).sum ≤ 8) (hfit : ce + mc ≤ R.cells ∧ sl + ms ≤ R.slots) (hdg : decode cc pc = .ok (.invokespecial index, 3))
    (kr : ∀ (v : Option Value) (H1 : Heap) (L : List Loc), HvF K H H1 → Ψ (.returned v) H1 → va_S (cP K) s.heap H1 (locs ++ L) → W p l e R s m args below meth c H1 (locs ++ L) (ce + mc) (sl + ms) Q (F0 m (pc + 3) ls (v.toList ++ rest))) : W p l e R s m args below meth c H locs ce sl Q (F0 m pc ls st) := by
  obtain ⟨hx, hb, hml, ho, hts⟩ := E.1
  have hK : Back l R p e below s args y 3 8 (PreOf R mc ms (HvP K (.ref b :: As) H)) (PostOf (HvQ K Ψ) mc ms (cP K)) := back_bare (bytes := bytes) (ret := none) hM (hv_ret hnt) hx hpl HvP.blind rfl rfl hR.1 hR.2 hts hcode
  intro T hT X
  obtain ⟨v', vm₁, ⟨U', l2, c2, s2⟩, hW₁, X', ⟨g', mk, t, L, e1, e2, hq, h1, hL, h2, h3⟩, st'⟩ := callI X hx (y := y) (bytes := bytes) (maxL := maxL) ho hd.1 (hts _ hlink) (hts _ hiy) (hts _ hcode) ⟨hd.2.1, hd.2.2.1⟩ hK (g := F0 m pc ls st) rfl (hl.trans hml.symm) (a := b) (argsL := As) (rest := rest) (fun sig h => by have h9 := hd.2.2.2; rw [h] at h9; exact (Option.some.inj h9).symm) hst (by show 2 * 0 + _ ≤ 8; omega) (by rw [hb]; exact hdg)
    (fun vm₁ hW₁ => ⟨hfit.1, hfit.2, E.P (U := T.setVm vm₁) hS hT hW₁⟩)
  dsimp only [Pt.U, Pt.locs, Pt.cells, Pt.slots] at X' e1 e2 h1 h2 h3 st'
  subst h1; subst h2; subst h3
  obtain ⟨q1, q2⟩ := hq
  have q1' : HvF K H t.heap := by rw [← hT]; exact q1
  obtain ⟨t2, a1, b1⟩ := kr v' t.heap L q1' q2 (hv_S hS q1' hL) U' e1 X'
  exact ⟨t2, st' t2 a1, b1⟩
end HVR
/-- a method's end, by its type -/
def HEd (p : Program) (l : Launch) (e : Env) (R : Room) (s : State) (m : MethodId) (args : Array Value) (below : List Frame) (meth : Method) (c : Code) (cc : ByteArray) (K : CK) (Q : State → Prop) (rt : Option FieldType) (Ψ : Outcome → Heap → Prop) : Prop :=
  ∀ (H : Heap) (locs : List Loc) (ce sl : Nat) (ls : Array Slot) (pc : Nat) (v : Option Value), va_S (cP K) s.heap H locs → ce ≤ R.cells → sl ≤ R.slots → Ψ (.returned (v.map (mNv rt))) H → cOk rt v → decode cc pc = .ok (cIns rt, 1) → W p l e R s m args below meth c H locs ce sl Q (F0 m pc ls v.toList)
def HEt (p : Program) (l : Launch) (e : Env) (R : Room) (s : State) (m : MethodId) (args : Array Value) (below : List Frame) (meth : Method) (c : Code) (K : CK) (Q : State → Prop) (Ψ : Outcome → Heap → Prop) : Prop :=
  ∀ (H : Heap) (locs : List Loc) (ce sl : Nat) (ls : Array Slot) (pc : Nat) (rest : List Value) (a : Addr), va_S (cP K) s.heap H locs → ce ≤ R.cells → sl ≤ R.slots → Ψ (.threw a) H → (∀ z ∈ c.exceptionTable.toList, covers z pc = false) → WT p l e R s m args below meth c H locs ce sl Q (F0 m pc ls rest) a
theorem WT.widen {p : Program} {l : Launch} {e : Env} {R : Room} {s : State} {m : MethodId} {args : Array Value} {below : List Frame} {meth : Method} {c : Code} {H : Heap} {locs : List Loc} {cells slots : Nat} {Q : State → Prop} {g : JFrame} {a : Addr} {k n : Nat} (h1 : cells ≤ k) (h2 : slots ≤ n) (kk : WT p l e R s m args below meth c H locs k n Q g a) : WT p l e R s m args below meth c H locs cells slots Q g a := fun T hT X => kk T hT (stand_widen X h1 h2)
theorem W.x {p : Program} {l : Launch} {e : Env} {R : Room} {s : State} {m : MethodId} {args : Array Value} {below : List Frame} {meth : Method} {c : Code} {H : Heap} {locs : List Loc} {cells slots mc ms : Nat} {g : JFrame} {Qc : Array Value → State → Outcome → State → Prop} {free : Addr → Prop} (h : W p l e R s m args below meth c H locs cells slots (MQ below Qc args s mc ms free) g) : W p l e R s m args below meth c H locs cells slots (MQX below Qc args s mc ms free) g := fun T hT X => by
  obtain ⟨t, a1, b1⟩ := h T hT X
  exact ⟨t, a1, b1.x⟩
theorem hv_body {l : Launch} {K : CK} {y : MethodName} {cc : ByteArray} {nL d mc ms : Nat} {As : List Value} {rt : Option FieldType} {H0 : Heap} {Ψ : Outcome → Heap → Prop} {hh : List (Nat × Nat × Nat × Nat)} (hrt : cRt rt) (hlen : (lg_sl As).length ≤ nL)
    (hw : ∀ (p : Program) (e : Env) (s : State) (m : MethodId) (args : Array Value) (below : List Frame) (meth : Method) (c : Code) (Q : State → Prop), s.heap = H0 → meth.name = y.name → c.exceptionTable.toList.map (fun h => (h.startPc, h.endPc, h.handlerPc, h.catchType)) = hh → HE p s m args c cc nL y.cls K → HEd p l e (rmc d mc ms) s m args below meth c cc K Q rt Ψ → HEt p l e (rmc d mc ms) s m args below meth c K Q Ψ → ∀ ls : Array Slot, lv_has ls nL (lv_args 0 As) → W p l e (rmc d mc ms) s m args below meth c s.heap [] 0 0 Q (F0 m 0 ls []))
    {p : Program} {e : Env} {s : State} {m : MethodId} {args : Array Value} {below : List Frame} {meth : Method} {c : Code} (hx : p.tables.exec = Jvm.exec) (hnm : s.methodNamed? y = some m) (hm : s.vm.method? m = some meth) (hml : c.maxLocals = nL) (hts : ∀ w ∈ lw_all, w.before args s = true) (hP : HvP K As H0 args s) (hb : c.code = cc) (hr : meth.sig.returnType = rt) (hlk : meth.locks = false) (hex : c.exceptionTable.toList.map (fun h => (h.startPc, h.endPc, h.handlerPc, h.catchType)) = hh) :
    W p l e (rmc d mc ms) s m args below meth c s.heap [] 0 0 (MQX below (HvQ K Ψ) args s mc ms (cP K)) (entryFrame m args nL) := by
  obtain ⟨rfl, hH, hT, hSt, hA⟩ := hP
  rw [lg_entry_eq]
  refine hw p e s m _ below meth c _ hH (name_of_methodNamed hnm hm).1 hex ⟨⟨hx, hb, hml, findClass_of_methodNamed hnm, hts⟩, hT, hSt, hA⟩ ?_ ?_ _ (lv_entry As (n := nL) hlen)
  · intro H locs ce sl ls pc v hS h1 h2 hΨ hok hd
    have hq : ∀ t : State, t.heap = H → s.WarmedH t.vm → HvQ K Ψ As.toArray s (.returned (v.map (mNv rt))) t := fun t ht hW => ⟨by rw [ht]; exact hv_F hS, by rw [ht]; exact hΨ⟩
    refine W.widen (k := mc) (n := ms) h1 h2 (W.x ?_)
    rcases hrt with rfl | rfl | rfl | rfl | ⟨nm, rfl⟩ | ⟨tt, rfl⟩
    · obtain rfl := hok
      exact W.vret hx hb hr hq hS.2.2 hd hlk
    · obtain ⟨x, rfl⟩ := hok
      exact W.iret hx hb hr hq hS.2.2 hd hlk
    · obtain ⟨x, rfl⟩ := hok
      exact W.zretN hx hb hr hq hS.2.2 hd hlk
    · obtain ⟨x, rfl⟩ := hok
      exact W.lret hx hb hr hq hS.2.2 hd hlk
    · rcases hok with rfl | ⟨x, rfl⟩
      · exact W.aret hx hb hr (Or.inl ⟨_, rfl⟩) (Or.inl rfl) hq hS.2.2 hd hlk
      · exact W.aret hx hb hr (Or.inl ⟨_, rfl⟩) (Or.inr ⟨_, rfl⟩) hq hS.2.2 hd hlk
    · rcases hok with rfl | ⟨x, rfl⟩
      · exact W.aret hx hb hr (Or.inr ⟨_, rfl⟩) (Or.inl rfl) hq hS.2.2 hd hlk
      · exact W.aret hx hb hr (Or.inr ⟨_, rfl⟩) (Or.inr ⟨_, rfl⟩) hq hS.2.2 hd hlk
  · intro H locs ce sl ls pc rest a hS h1 h2 hΨ hno
    exact WT.widen (k := mc) (n := ms) h1 h2 (WT.out hno hlk (fun t ht _ => ⟨by rw [ht]; exact hv_F hS, by rw [ht]; exact hΨ⟩) hS.2.2)
/-- a walk gives the contract -/
theorem metH_w {l : Launch} {K : CK} {y : MethodName} {cc : ByteArray} {nL d mc ms : Nat} {As : List Value} {rt : Option FieldType} {H0 : Heap} {Ψ : Outcome → Heap → Prop} (hcode : Cond.code y cc nL rt ∈ lw_all) (hrt : cRt rt) (hlen : (lg_sl As).length ≤ nL)
    (hw : ∀ (p : Program) (e : Env) (s : State) (m : MethodId) (args : Array Value) (below : List Frame) (meth : Method) (c : Code) (Q : State → Prop), s.heap = H0 → meth.name = y.name → (∀ pc, ∀ z ∈ c.exceptionTable.toList, covers z pc = false) → HE p s m args c cc nL y.cls K → HEd p l e (rmc d mc ms) s m args below meth c cc K Q rt Ψ → HEt p l e (rmc d mc ms) s m args below meth c K Q Ψ → ∀ ls : Array Slot, lv_has ls nL (lv_args 0 As) → W p l e (rmc d mc ms) s m args below meth c s.heap [] 0 0 Q (F0 m 0 ls [])) : MetH l K y nL d mc ms As H0 Ψ := by
  intro p e s m args below meth c hx hnm hm hc hml hts hP
  obtain ⟨meth', c', hm', hc', hb, -, hr, hlk, hex, -⟩ := Cond.code_spec hnm (hts _ hcode)
  cases hm.symm.trans hm'
  cases hc.symm.trans hc'
  refine hv_body (hh := []) hrt hlen (fun p e s m args below meth c Q h1 h1' h2 => hw p e s m args below meth c Q h1 h1' (fun pc z hz => ?_)) hx hnm hm hml hts hP hb hr hlk ?_
  · rw [List.map_eq_nil_iff.mp h2] at hz
    cases hz
  · rw [Array.isEmpty_iff.mp hex]
    rfl
theorem metH_wW {l : Launch} {K : CK} {y : MethodName} {cc : ByteArray} {nL d mc ms : Nat} {As : List Value} {rt : Option FieldType} {H0 : Heap} {Ψ : Outcome → Heap → Prop} {hh : List (Nat × Nat × Nat × Nat)} (hcode : Cond.codeWith y cc nL rt hh ∈ lw_all) (hrt : cRt rt) (hlen : (lg_sl As).length ≤ nL)
    (hw : ∀ (p : Program) (e : Env) (s : State) (m : MethodId) (args : Array Value) (below : List Frame) (meth : Method) (c : Code) (Q : State → Prop), s.heap = H0 → meth.name = y.name → c.exceptionTable.toList.map (fun h => (h.startPc, h.endPc, h.handlerPc, h.catchType)) = hh → HE p s m args c cc nL y.cls K → HEd p l e (rmc d mc ms) s m args below meth c cc K Q rt Ψ → HEt p l e (rmc d mc ms) s m args below meth c K Q Ψ → ∀ ls : Array Slot, lv_has ls nL (lv_args 0 As) → W p l e (rmc d mc ms) s m args below meth c s.heap [] 0 0 Q (F0 m 0 ls [])) : MetH l K y nL d mc ms As H0 Ψ := by
  intro p e s m args below meth c hx hnm hm hc hml hts hP
  obtain ⟨m9, meth', c', hn9, hm', hc', hb, -, hex, hr, hlk, -⟩ := Cond.codeWith_spec (hts _ hcode)
  cases hnm.symm.trans hn9
  cases hm.symm.trans hm'
  cases hc.symm.trans hc'
  exact hv_body hrt hlen hw hx hnm hm hml hts hP hb hr hlk hex
/-- a table of one entry, the class that it names not yet looked up or looked up: the search ends there -/
theorem wt_find1 {e : Env} {u : State} {f : JFrame} {a : Addr} {meth : Method} {c : Code} {x : ExceptionTableEntry} {cT : ClassId} {cell : Cell} (hm : u.vm.method? f.method = some meth) (hc : meth.code = some c) (h1 : c.exceptionTable.toList = [x]) (hx : covers x f.pc = true) (h0 : x.catchType ≠ 0)
    (hl : u.vm.ClassLinks e.platform f.method.cls x.catchType cT) (hcell : u.heap[a]? = some cell) (hobj : ∀ k, cell.vm ≠ .statics k) (hk : ∃ k, u.vm.classes[cell.cls]? = some k) (hcl : ∃ k, u.vm.classes[cT]? = some k) (hfit : u.vm.assignable cell.cls cT = true)
    (Q : Handler → Pre) (E : CtlPost) (d : Bool) (acts : List Action) : wp (findHandler f a) Q E e d acts u ↔ Q (.found x.handlerPc) d acts (u.setVm (u.vm.noted f.method.cls x.catchType (.cls cT))) := by
  rw [Jvm.W.findHandler_eq hm hc, h1]
  have hal := (Vm.Alike.refl u.vm).noted f.method.cls x.catchType (.cls cT)
  have q1 := (resolveClass_links e.toSetting hl).op (op := VmOp.resolveClass f.method.cls x.catchType) rfl
  have q2 : ∃ k, (u.vm.noted f.method.cls x.catchType (.cls cT)).classes[cell.cls]? = some k := by
    obtain ⟨k, hk⟩ := hk
    obtain ⟨k', hk', -⟩ := hal.2.2 _ _ hk
    exact ⟨k', hk'⟩
  have q3 : ∃ k, (u.vm.noted f.method.cls x.catchType (.cls cT)).classes[cT]? = some k := by
    obtain ⟨k, hk⟩ := hcl
    obtain ⟨k', hk', -⟩ := hal.2.2 _ _ hk
    exact ⟨k', hk'⟩
  have q4 : (u.vm.noted f.method.cls x.catchType (.cls cT)).assignable cell.cls cT = true := by rw [hal.assignable]; exact hfit
  obtain ⟨k2, q2⟩ := q2
  obtain ⟨k3, q3⟩ := q3
  have hx' : (decide (x.startPc ≤ f.pc) && decide (f.pc < x.endPc)) = true := hx
  simp only [Bool.and_eq_true, decide_eq_true_eq] at hx'
  simp [findHandler.go, hx', h0, q1.1, q1.2, hcell, hobj, q2, q3, q4, VmOp.dirties, VmOp.acts]
/-- an exception caught by the class named at its entry, cold or warm -/
theorem WT.catchL {p : Program} {l : Launch} {e : Env} {R : Room} {s : State} {m : MethodId} {args : Array Value} {below : List Frame} {meth : Method} {c : Code} {H : Heap} {locs : List Loc} {ce sl : Nat} {Q : State → Prop} {cc : ByteArray} {pc nL p0 p1 pcH ct : Nat} {ls : Array Slot} {rest : List Value} {own name : String} {a : Addr} {cT : ClassId} {cell : Cell} {K : CK} (E : HE p s m args c cc nL own K) (hex : c.exceptionTable.toList.map (fun h => (h.startPc, h.endPc, h.handlerPc, h.catchType)) = [(p0, p1, pcH, ct)]) (h1 : p0 ≤ pc) (h2 : pc < p1) (h0 : ct ≠ 0)
    (hlink : Cond.classLink own ct name ∈ lw_all) (hcT : s.vm.findClass name = some cT) (hcell : H[a]? = some cell) (hobj : cell.vm.isStatics = false) (hfit : s.vm.assignable cell.cls cT = true) (kk : W p l e R s m args below meth c H locs ce sl Q (F0 m pcH ls [.ref a])) : WT p l e R s m args below meth c H locs ce sl Q (F0 m pc ls rest) a := by
  obtain ⟨x, hx1, hx2⟩ := List.map_eq_singleton_iff.mp hex
  have e0 : x.startPc = p0 := congrArg (·.1) hx2
  have e1 : x.endPc = p1 := congrArg (·.2.1) hx2
  have e2 : x.handlerPc = pcH := congrArg (·.2.2.1) hx2
  have e3 : x.catchType = ct := congrArg (·.2.2.2) hx2
  intro T hT X
  have hpl : e.platform.magicAccessors = ({} : Platform).magicAccessors := by rw [X.admits.platform]
  obtain ⟨c', hc', hcl⟩ := Cond.classLink_spec E.1.2.2.2.1 (E.1.2.2.2.2 _ hlink) e.platform hpl
  cases hcT.symm.trans hc'
  obtain ⟨dk, _, _, kt, hd, _, _, _, _, hkt, _, hopen⟩ := hcl.here
  have hal := X.warmed.alike
  obtain ⟨kt', hkt', -⟩ := hal.2.2 _ _ hkt
  have hfit' : T.vm.assignable cell.cls cT = true := by rw [hal.assignable]; exact hfit
  have hX' := X.noted (X.warmed.noted hd hopen (State.rightAt_cls hcl))
  obtain ⟨t, a1, b1⟩ := kk (T.setVm (T.vm.noted m.cls ct (.cls cT))) hT hX'
  refine ⟨t, ?_, b1⟩
  have hfind := wt_find1 (e := e) (u := (T.setTop (F0 m pc ls rest)).pushFrame (.throwing a)) (f := F0 m pc ls rest) (a := a) (meth := meth) (c := c) (x := x) (cT := cT) (cell := cell) X.method' X.code hx1 (by show (decide (x.startPc ≤ pc) && decide (pc < x.endPc)) = true; rw [e0, e1]; simp [h1, h2]) (by rw [e3]; exact h0) (by rw [e3]; exact X.warmed.classLinks hcl) (by rw [Stand.throwing_heap, hT]; exact hcell) (fun k hk => by rw [hk] at hobj; cases hobj) (Vm.classAt_of_assignable hfit' ⟨kt', hkt'⟩) ⟨kt', hkt'⟩ hfit'
  rw [e2, e3] at hfind
  obtain ⟨hgo, hw⟩ := X.here.throwing a (g := F0 m pc ls rest)
  refine Steps.head hgo hw ?_
  obtain ⟨g₀, hg⟩ := Option.isSome_iff_exists.mp X.here.top
  obtain ⟨r, hr⟩ := State.topJava?_eq_some.mp hg
  rw [stepThread_throwing (frames_entered X.here.top _)]
  have hstep : (stepThrowing e ((T.setTop (F0 m pc ls rest)).pushFrame (.throwing a)) a (.java (F0 m pc ls rest) :: T.frames.tail)).1 = (((T.setTop (F0 m pc ls rest)).pushFrame (.throwing a)).setVm (T.vm.noted m.cls ct (.cls cT))).setFrames (.java (F0 m pcH ls [.ref a]) :: T.frames.tail) := by
    simp only [stepThrowing, searchFrame, vmDo]
    generalize hq : Sem.go _ e false [] _ = res
    obtain ⟨as, rfl, -⟩ := Sem.eq_ok_of hq (a := Handler.found pcH) (s' := ((T.setTop (F0 m pc ls rest)).pushFrame (.throwing a)).setVm (T.vm.noted m.cls ct (.cls cT))) (acts' := []) (by simp [hfind]; rfl)
    rfl
  rw [hstep]
  rw [State.setTop_of_frames _ (show (T.setVm (T.vm.noted m.cls ct (.cls cT))).frames = .java g₀ :: r from hr)] at a1
  rw [hr, List.tail_cons, State.setTop_of_frames _ hr, State.pushFrame, State.setFrames_setFrames]
  have hc2 : ∀ F : List Frame, (T.setFrames F).setVm (T.vm.noted m.cls ct (.cls cT)) = (T.setVm (T.vm.noted m.cls ct (.cls cT))).setFrames F := fun F => rfl
  rw [hc2, State.setFrames_setFrames]
  exact a1
