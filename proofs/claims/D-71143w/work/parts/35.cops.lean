/-! MORE ROWS OF THE COMPONENT: receivers, fields of the three fixed objects, calls of methods with handlers -/
set_option maxRecDepth 100000
section COP
variable {p : Program} {l : Launch} {e : Env} {R : Room} {s : State} {m : MethodId} {args : Array Value} {below : List Frame} {meth : Method} {c : Code} {H H0 H1 : Heap} {locs : List Loc} {ce sl : Nat} {Q : State → Prop}
variable {cc bytes : ByteArray} {pc nL maxL index n d a ex ec ey : Nat} {ls : Array Slot} {rest st As : List Value} {G : CG} {D : Nat → Nat → Nat} {σ σ' : CM} {own C : String} {m1 m2 f1 f2 x1 x2 b1 b2 c1 c2 r1 r2 : Bool} {y : MethodName} {rt : Option FieldType} {rv : Option Value} {ws : List Cond} {hh : List (Nat × Nat × Nat × Nat)}
theorem cj_recv (C0 : CC p s m args c cc nL own G) (hJ : CJ G s R ex f1 f2 m1 m2 D σ H locs ce sl) (k i : Nat) (ha : adr G.1 D k i = a) (hk : k < 7) (hlk : lvok m2 k = true) (hl : clive σ k i = true) : ∃ cellB : Cell, H[a]? = some cellB ∧ cellB.vm.isStatics = false ∧ s.vm.findClass (oR k) = some cellB.cls := by
  obtain ⟨ρ, hW, hL⟩ := hJ.1
  subst ha
  obtain ⟨cell, q1, q2, q3, q4⟩ := hW.1 k i hk (by rw [hL.live hlk]; exact hl)
  exact ⟨cell, q1, by rw [q3]; rfl, by rw [q2]; exact (C0.2.1.1 k hk).2.1⟩
/-- an int field of a cell that always lives -/
theorem cj_g0 (C : CC p s m args c cc nL own G) (hJ : CJ G s R ex f1 f2 m1 m2 D σ H locs ce sl) {index : Nat} (k i f : Nat) (ha : adr G.1 D k i = a) (hk : k < 7) (hf : f < oN k) (hi : oInt k f = true) (hlk : lvok m2 k = true) (hv : vis m1 m2 k i f = true) (hl : clive σ k i = true)
    (hlink : (Cond.fieldLink own index (oT k f).1 (oT k f).2.1 (oT k f).2.2.1).before args s = true ∨ ∃ host, (Cond.fieldLinkNest own index (oT k f).1 (oT k f).2.1 (oT k f).2.2.1 host).before args s = true) (hdg : decode cc pc = .ok (.getfield index, 3))
    (kk : W p l e R s m args below meth c H locs ce sl Q (F0 m (pc + 3) ls (.int (σ k i f) :: rest))) : W p l e R s m args below meth c H locs ce sl Q (F0 m pc ls (.ref a :: rest)) :=
  cj_gi C hJ k i f ha hk hf hi hlk hv hlink (show cget σ k i f = some (σ k i f) by simp [cget, hl]) hdg kk
/-- an int put into a cell that always lives -/
theorem cj_p0 (C : CC p s m args c cc nL own G) (hJ : CJ G s R ex f1 f2 m1 m2 D σ H locs ce sl) {index : Nat} (k i f : Nat) (ha : adr G.1 D k i = a) (hk : k < 7) (hf : f < oN k) (hfin : (oT k f).2.2.2 = false) (hi : oInt k f = true) (hpl : plain k f = true) (hlk : lvok m2 k = true) (hv : wok m1 m2 k i f = true) (hty : oTy k f = .int) (hl : clive σ k i = true) {v : Int32}
    (hlink : (Cond.fieldLink own index (oT k f).1 (oT k f).2.1 (oT k f).2.2.1).before args s = true ∨ ∃ host, (Cond.fieldLinkNest own index (oT k f).1 (oT k f).2.1 (oT k f).2.2.1 host).before args s = true) (hx : some (cput σ k i f v) = some σ') (hdg : decode cc pc = .ok (.putfield index, 3))
    (kk : ∀ (H1 : Heap) (locs1 : List Loc), CJ G s R ex f1 f2 m1 m2 D σ' H1 locs1 ce sl → W p l e R s m args below meth c H1 locs1 ce sl Q (F0 m (pc + 3) ls rest)) : W p l e R s m args below meth c H locs ce sl Q (F0 m pc ls (.int v :: .ref a :: rest)) :=
  cj_pi C hJ k i f ha hk hf hfin hi hpl hlk hv hty hlink (by simp only [cst, hl, if_true]; exact hx) hdg kk
theorem callVW {T : State} {cells slots : Nat} (X : Stand p l e R s m args below meth c T locs cells slots) (hexec : p.tables.exec = Jvm.exec) (hown : s.vm.findClass own = some m.cls) (hlink : (Cond.methodLink own index y).before args s = true) (hinst : (Cond.instanceMethod y).before args s = true) (hsel : (Cond.selects C y y).before args s = true)
    (hcode : (Cond.codeWith y bytes maxL rt hh).before args s = true) (hy : y.cls ≠ "java/lang/invoke/MethodHandle" ∧ y.cls ≠ "java/lang/invoke/VarHandle")
    {W : Nat} {Pre : Pt → Array Value → Prop} {Post : Pt → Array Value → Option Value → Pt → Prop} (hK : Back l R p e below s args y 3 W Pre Post)
    {b : Addr} {cellB : Cell} (hcell : T.heap[b]? = some cellB) (hobj : cellB.vm.isStatics = false) (hcls : s.vm.findClass C = some cellB.cls)
    {g : JFrame} (hg : g.method = m) (hsize : g.locals.size = c.maxLocals) {argsL rest : List Value} (hlen : ∀ sig, parseMethodDescriptor y.desc = some sig → argsL.length = sig.parameters.length)
    (hstack : g.stack = argsL.reverse ++ .ref b :: rest) (hW : 2 * g.monitorRoom + (rest.map fun v => v.category).sum ≤ W) (hdg : decode c.code g.pc = .ok (.invokevirtual index, 3))
    (hpre : ∀ vm₁, s.WarmedH vm₁ → Pre ⟨T.setVm vm₁, locs, cells, slots⟩ (Value.ref b :: argsL).toArray) :
    ∃ (v : Option Value) (vm₁ : Vm) (B : Pt), s.WarmedH vm₁ ∧ Stand p l e R s m args below meth c B.U B.locs B.cells B.slots ∧ Post ⟨T.setVm vm₁, locs, cells, slots⟩ (Value.ref b :: argsL).toArray v B ∧
      ∀ target, Steps p.tables e below (B.U.setTop { g with pc := g.pc + 3, stack := v.toList ++ rest }) target → Steps p.tables e below (T.setTop g) target := by
  obtain ⟨mk, methM, hnamed, hmethM, hstM, habM⟩ := Cond.instanceMethod_spec hinst
  obtain ⟨m9, methM', cM, hn9, hmethM', -, -, -, -, -, -, hsigM⟩ := Cond.codeWith_spec hcode
  cases hnamed.symm.trans hn9
  cases hmethM.symm.trans hmethM'
  obtain ⟨c2, r2, m2, q1, q2, q3, q4, kP, hkP, hkPi⟩ := Cond.selects_spec hsel
  cases hcls.symm.trans q1
  cases (State.methodFound?_of_named hnamed hy).symm.trans q2
  cases hnamed.symm.trans q3
  have hselP : selectMethod e.platform s.vm cellB.cls mk = .method mk := by rw [Launch.admits_selectMethod X.admits]; exact q4
  obtain ⟨vm₁, X₁, hstep₁⟩ := X.invokevirtual hexec hown hlink hnamed hmethM hstM hkP hkPi hy (a := b) (cell := cellB) hcell
    (fun z h => by rw [h] at hobj; cases hobj) hselP hmethM habM hkP hkPi (g := g) hg (argsL := argsL) (rest := rest) (hlen _ hsigM) hstack hdg
  obtain ⟨v, B, X', hpost, hsteps⟩ := hK m meth c ⟨T.setVm vm₁, locs, cells, slots⟩ { g with stack := rest } (.invokevirtual index) mk (Value.ref b :: argsL).toArray X₁ hg hsize hdg hW (X₁.named hnamed) (hpre vm₁ X₁.warmed)
  exact ⟨v, vm₁, B, X₁.warmed, X', hpost, fun target h => hstep₁ _ fun acts => by rw [doInvoke_state]; exact hsteps.trans h⟩
theorem cc_VW {b : Nat} {As' : CG → List Value} {rw' : CG → Option Value} {ws' : List Cond} (C0 : CC p s m args c cc nL own G) (hJ : CJ G s R ex b1 b2 m1 m2 D σ H locs ce sl) (hM : MetC l y ws d ec f1 f2 x1 x2 r1 r2 As' σ rw' σ') (hAs : As' (G.1, m1, m2, D) = .ref b :: As) (hrv : rw' (G.1, m1, m2, D) = rv)
    (hex : ec + ey ≤ ex) (hcr : cost f1 f2 m1 m2 + cost c1 c2 (bor x1 m1) (bor x2 m2) ≤ cost b1 b2 m1 m2 ∧ cosl f1 f2 m1 m2 + cosl c1 c2 (bor x1 m1) (bor x2 m2) ≤ cosl b1 b2 m1 m2) (hr1 : r1 = true → m1 = true) (hr2 : r2 = true → m2 = true)
    (hrecv : ∃ cellB : Cell, H[b]? = some cellB ∧ cellB.vm.isStatics = false ∧ s.vm.findClass C = some cellB.cls)
    (hG : GoodIn lw_all (wsV own index C y ws)) (hw : ws = Cond.codeWith y bytes maxL rt hh :: ws') (hd : y.cls = C ∧ y.cls ≠ "java/lang/invoke/MethodHandle" ∧ y.cls ≠ "java/lang/invoke/VarHandle" ∧ (parseMethodDescriptor y.desc).map (fun d => d.parameters.length) = some n) (hR : d + 1 ≤ R.frames ∧ 8 + (maxL + 11) + 64 * d ≤ R.locals)
    (hn : As.length = n) (hl : ls.size = nL) (hst : st = As.reverse ++ .ref b :: rest) (hW : 2 * (F0 m pc ls st).monitorRoom + (rest.map fun v => v.category).sum ≤ 8) (hdg : decode cc pc = .ok (.invokevirtual index, 3))
    (kk : ∀ (D' : Nat → Nat → Nat) (H1 : Heap) (locs1 : List Loc), (m2 = true → D' = D) → CJ G s R ey c1 c2 (bor x1 m1) (bor x2 m2) D' σ' H1 locs1 (ce + (cost f1 f2 m1 m2 + ec)) (sl + (cosl f1 f2 m1 m2 + 10 * ec)) → W p l e R s m args below meth c H1 locs1 (ce + (cost f1 f2 m1 m2 + ec)) (sl + (cosl f1 f2 m1 m2 + 10 * ec)) Q (F0 m (pc + 3) ls (rv.toList ++ rest))) : W p l e R s m args below meth c H locs ce sl Q (F0 m pc ls st) := by
  subst hrv
  have hM' := hM (G.1, m1, m2, D) hr1 hr2
  rw [hAs] at hM'
  obtain ⟨hx, hb, hml, hown, hts⟩ := C0.1
  obtain ⟨hC, hd1, hd2, hd3⟩ := hd
  have ok : ∀ w ∈ wsV own index C y ws, w.before args s = true := fun w h => hts w (hG w h).1
  have hGw : GoodIn lw_all ws := fun w h => hG w (by unfold wsV; exact List.mem_append_right _ h)
  have hcw : Cond.codeWith y bytes maxL rt hh ∈ ws := by rw [hw]; exact List.mem_cons_self
  have hini : (Cond.initialized y.cls).before args s = true := by rw [hC]; exact ok (.initialized C) (by simp [wsV])
  have hK : Back l R p e below s args y 3 8 (PreOf R (cost f1 f2 m1 m2 + ec) (cosl f1 f2 m1 m2 + 10 * ec) (va_Pc (.ref b :: As) (CU m1 m2 G.1 D σ))) (PostOf (CQc G.1 D m2 (bor x1 m1) (bor x2 m2) (rw' (G.1, m1, m2, D)) σ') (cost f1 f2 m1 m2 + ec) (cosl f1 f2 m1 m2 + 10 * ec) (cP G.1)) :=
    va_backW (hh := hh) (bytes := bytes) (maxL := maxL) (ret := rt) hM' CU.blind rfl rfl hR.1 (by show 8 + (maxL + 11) + 64 * d ≤ R.locals; exact hR.2) (fun w hw a' U hW => word_at hW (hGw w hw).2 (hts w (hGw w hw).1)) hcw (fun a' U hW => word_at hW (Or.inl (by first | rfl | simp [Cond.onTables, Cond.keeps, Cond.steady])) hini)
  refine cc_go (args' := (Value.ref b :: As).toArray) hex hcr hJ ?_ kk
  obtain ⟨cellB, hcB, hoB, hclB⟩ := hrecv
  have hfit := hJ.fits hex hcr
  intro T hT X
  obtain ⟨v, vm₁, ⟨U', l2, c2', s2⟩, hW₁, X', ⟨g', mk, t, L, e1, e2, hq, h1, hL, h2, h3⟩, st'⟩ := callVW X hx (C := C) (bytes := bytes) (maxL := maxL) (rt := rt) (hh := hh) hown (ok (.methodLink own index y) (by simp [wsV])) (ok (.instanceMethod y) (by simp [wsV])) (ok (.selects C y y) (by simp [wsV])) (hts _ (hGw _ hcw).1) ⟨hd1, hd2⟩ hK (by rw [hT]; exact hcB) hoB hclB (g := F0 m pc ls st) rfl (hl.trans hml.symm) (argsL := As) (rest := rest)
    (fun sig h => by
      rw [h] at hd3
      have h4 : sig.parameters.length = n := Option.some.inj hd3
      rw [hn, h4]) hst hW (by rw [hb]; exact hdg)
    (fun vm₁ hW₁ => ⟨hfit.1, hfit.2, rfl, hJ.U C0 (T.setVm vm₁) hT hW₁⟩)
  dsimp only [Pt.U, Pt.locs, Pt.cells, Pt.slots] at X' e1 e2 h1 h2 h3 st'
  subst h1; subst h2; subst h3
  exact ⟨v, (T.setVm vm₁).calling g' mk (Value.ref b :: As).toArray, t, U', L, hT, X', hL, e1, e2, hq, st'⟩
end COP
