/-! THE COMPONENT's CONTRACTS AND CALLS -/
set_option maxRecDepth 100000
/-- a callee's cost and what is left, of what was left: definite readings x = f; f at most b, or fresh already -/
theorem cost_ok (f1 f2 b1 b2 m1 m2 : Bool) (h1 : f1 = true → b1 = true ∨ m1 = true) (h2 : f2 = true → b2 = true ∨ m2 = true) : cost f1 f2 m1 m2 + cost b1 b2 (bor f1 m1) (bor f2 m2) ≤ cost b1 b2 m1 m2 ∧ cosl f1 f2 m1 m2 + cosl b1 b2 (bor f1 m1) (bor f2 m2) ≤ cosl b1 b2 m1 m2 := by
  cases f1 <;> cases f2 <;> cases b1 <;> cases b2 <;> cases m1 <;> cases m2 <;> first | decide | (exact absurd (h1 rfl) (by decide)) | (exact absurd (h2 rfl) (by decide))
/-- a callee that may read, and may not: nothing is left -/
theorem cost_in (f1 f2 b1 b2 m1 m2 : Bool) (h1 : f1 = true → b1 = true ∨ m1 = true) (h2 : f2 = true → b2 = true ∨ m2 = true) : cost f1 f2 m1 m2 + cost false false (bor false m1) (bor false m2) ≤ cost b1 b2 m1 m2 ∧ cosl f1 f2 m1 m2 + cosl false false (bor false m1) (bor false m2) ≤ cosl b1 b2 m1 m2 := by
  cases f1 <;> cases f2 <;> cases b1 <;> cases b2 <;> cases m1 <;> cases m2 <;> first | decide | (exact absurd (h1 rfl) (by decide)) | (exact absurd (h2 rfl) (by decide))
theorem bor_up (f m : Bool) (h : m = true) : bor f m = true := by cases f <;> simp [bor, h]
def rmc (d mc ms : Nat) : Room := { frames := d, cells := mc, slots := ms, locals := 64 * d }
abbrev RM (d ex : Nat) (f1 f2 : Bool) (G : CG) : Room := rmc d (cost f1 f2 G.2.1 G.2.2.1 + ex) (cosl f1 f2 G.2.1 G.2.2.1 + 10 * ex)
/-- a method's end -/
def CQc (K : CK) (D : Nat → Nat → Nat) (m2 n1 n2 : Bool) (rv : Option Value) (σ' : CM) : Array Value → State → Outcome → State → Prop := fun _ st oc t => (oc = .returned rv ∧ ∃ D', (m2 = true → D' = D) ∧ CU n1 n2 K D' σ' t) ∧ va_F (cP K) st t
/-- the contract: f1, f2: it may read the stone, the roll; x1, x2: it does, on every road; r1, r2: they must be fresh at its start -/
def MetC (l : Launch) (y : MethodName) (ws : List Cond) (d ex : Nat) (f1 f2 x1 x2 r1 r2 : Bool) (As : CG → List Value) (σ : CM) (rv : CG → Option Value) (σ' : CM) : Prop :=
  ∀ G : CG, (r1 = true → G.2.1 = true) → (r2 = true → G.2.2.1 = true) → Met l y ws (RM d ex f1 f2 G) (va_Pc (As G) (CU G.2.1 G.2.2.1 G.1 G.2.2.2 σ)) (CQc G.1 G.2.2.2 G.2.2.1 (bor x1 G.2.1) (bor x2 G.2.2.1) (rv G) σ') (cost f1 f2 G.2.1 G.2.2.1 + ex) (cosl f1 f2 G.2.1 G.2.2.1 + 10 * ex) (cP G.1)
theorem CU.blind {m1 m2 : Bool} {K : CK} {D : Nat → Nat → Nat} {σ : CM} {av : List Value} : FrameBlind (va_Pc av (CU m1 m2 K D σ)) := by
  intro a U g mk h
  obtain ⟨h0, h1, h2, h3, h4⟩ := h
  exact ⟨h0, h1, CTb.same (s := U) (U := U.calling g mk a) rfl h2, CSt.next (H := U.heap) (U := U.calling g mk a) h3 (State.WarmedH.refl U) (fun _ _ _ => rfl), h4⟩
section CCA
variable {p : Program} {l : Launch} {e : Env} {R : Room} {s : State} {m : MethodId} {args : Array Value} {below : List Frame} {meth : Method} {c : Code} {H H0 H1 : Heap} {locs : List Loc} {ce sl : Nat} {Q : State → Prop}
variable {cc bytes : ByteArray} {pc nL maxL index n d ex ec ey : Nat} {ls : Array Slot} {rest st As : List Value} {G : CG} {D : Nat → Nat → Nat} {σ σ' : CM} {own C : String} {m1 m2 f1 f2 x1 x2 b1 b2 c1 c2 r1 r2 : Bool} {y : MethodName} {rt : Option FieldType} {rv : Option Value} {ws : List Cond}
/-- what a call asks of the world -/
theorem CJ.U (C0 : CC p s m args c cc nL own G) (h : CJ G s R ex b1 b2 m1 m2 D σ H locs ce sl) (U : State) (hU : U.heap = H) (hW : s.WarmedH U.vm) : CU m1 m2 G.1 D σ U :=
  ⟨by rw [hU]; exact h.1, CTb.warm hW C0.2.1, CSt.next C0.2.2 hW (fun a h1 h2 => by rw [hU]; exact h.2.1.2.1 a h1 h2), fun q hq => h.2.2.1 q (Nat.le_trans h.2.1.1 (by rw [← hU]; exact hq))⟩
theorem cc_go {args' : Array Value} (hex : ec + ey ≤ ex) (hcr : cost f1 f2 m1 m2 + cost c1 c2 (bor x1 m1) (bor x2 m2) ≤ cost b1 b2 m1 m2 ∧ cosl f1 f2 m1 m2 + cosl c1 c2 (bor x1 m1) (bor x2 m2) ≤ cosl b1 b2 m1 m2) (hJ : CJ G s R ex b1 b2 m1 m2 D σ H locs ce sl) (hr : va_Run p l e R s m args below meth c H locs ce sl (cost f1 f2 m1 m2 + ec) (cosl f1 f2 m1 m2 + 10 * ec) (F0 m pc ls st) rest (CQc G.1 D m2 (bor x1 m1) (bor x2 m2) rv σ' args') (cP G.1))
    (kk : ∀ (D' : Nat → Nat → Nat) (H1 : Heap) (locs1 : List Loc), (m2 = true → D' = D) → CJ G s R ey c1 c2 (bor x1 m1) (bor x2 m2) D' σ' H1 locs1 (ce + (cost f1 f2 m1 m2 + ec)) (sl + (cosl f1 f2 m1 m2 + 10 * ec)) → W p l e R s m args below meth c H1 locs1 (ce + (cost f1 f2 m1 m2 + ec)) (sl + (cosl f1 f2 m1 m2 + 10 * ec)) Q (F0 m (pc + 3) ls (rv.toList ++ rest))) : W p l e R s m args below meth c H locs ce sl Q (F0 m pc ls st) := by
  intro T hT X
  obtain ⟨v, st₀, t, T', L, h0, X', hL, e1, e2, ⟨⟨hv, D', hD, hb⟩, hz, hk⟩, st⟩ := hr T hT X
  cases hv
  rw [h0] at hz hk
  obtain ⟨-, hS, hA, g1, g2, g3, g4, g5⟩ := hJ
  obtain ⟨a1, a2⟩ := hcr
  obtain ⟨t2, a1, b1⟩ := kk D' T'.heap (locs ++ L) hD ⟨by rw [e1]; exact hb.1, ⟨Nat.le_trans hS.1 (by rw [e1]; exact hz), fun q h1 h2 => by rw [e1, hk q (Nat.lt_of_lt_of_le h1 hS.1) h2]; exact hS.2.1 q h1 h2, fun q hq => by
      rcases List.mem_append.mp hq with h | h
      · exact hS.2.2 q h
      · exact hL q h⟩, hA, fun h => bor_up _ _ (g1 h), fun h => bor_up _ _ (g2 h), fun h => (hD (g2 h)).trans (g3 h), by omega, by omega⟩ T' rfl X'
  exact ⟨t2, st t2 a1, b1⟩
/-- the room that a callee takes of mine -/
theorem CJ.fits (hJ : CJ G s R ex b1 b2 m1 m2 D σ H locs ce sl) (hex : ec + ey ≤ ex) (hcr : cost f1 f2 m1 m2 + cost c1 c2 (bor x1 m1) (bor x2 m2) ≤ cost b1 b2 m1 m2 ∧ cosl f1 f2 m1 m2 + cosl c1 c2 (bor x1 m1) (bor x2 m2) ≤ cosl b1 b2 m1 m2) : ce + (cost f1 f2 m1 m2 + ec) ≤ R.cells ∧ sl + (cosl f1 f2 m1 m2 + 10 * ec) ≤ R.slots := by
  obtain ⟨-, -, -, -, -, -, g4, g5⟩ := hJ
  obtain ⟨a1, a2⟩ := hcr
  omega
theorem cc_V {b : Nat} {As' : CG → List Value} {rw' : CG → Option Value} (C0 : CC p s m args c cc nL own G) (hJ : CJ G s R ex b1 b2 m1 m2 D σ H locs ce sl) (hM : MetC l y ws d ec f1 f2 x1 x2 r1 r2 As' σ rw' σ') (hAs : As' (G.1, m1, m2, D) = .ref b :: As) (hrv : rw' (G.1, m1, m2, D) = rv) (hex : ec + ey ≤ ex) (hcr : cost f1 f2 m1 m2 + cost c1 c2 (bor x1 m1) (bor x2 m2) ≤ cost b1 b2 m1 m2 ∧ cosl f1 f2 m1 m2 + cosl c1 c2 (bor x1 m1) (bor x2 m2) ≤ cosl b1 b2 m1 m2) (hr1 : r1 = true → m1 = true) (hr2 : r2 = true → m2 = true)
    (hrecv : ∃ cellB : Cell, H[b]? = some cellB ∧ cellB.vm.isStatics = false ∧ s.vm.findClass C = some cellB.cls)
    (cw : CallW R s args own C index y bytes maxL rt ws (rmc d (cost f1 f2 m1 m2 + ec) (cosl f1 f2 m1 m2 + 10 * ec)) (cost f1 f2 m1 m2 + ec) (cosl f1 f2 m1 m2 + 10 * ec) n) (hn : As.length = n) (hl : ls.size = nL) (hst : st = As.reverse ++ .ref b :: rest) (hW : 2 * (F0 m pc ls st).monitorRoom + (rest.map fun v => v.category).sum ≤ 8) (hdg : decode cc pc = .ok (.invokevirtual index, 3))
    (kk : ∀ (D' : Nat → Nat → Nat) (H1 : Heap) (locs1 : List Loc), (m2 = true → D' = D) → CJ G s R ey c1 c2 (bor x1 m1) (bor x2 m2) D' σ' H1 locs1 (ce + (cost f1 f2 m1 m2 + ec)) (sl + (cosl f1 f2 m1 m2 + 10 * ec)) → W p l e R s m args below meth c H1 locs1 (ce + (cost f1 f2 m1 m2 + ec)) (sl + (cosl f1 f2 m1 m2 + 10 * ec)) Q (F0 m (pc + 3) ls (rv.toList ++ rest))) : W p l e R s m args below meth c H locs ce sl Q (F0 m pc ls st) := by
  subst hrv
  have hM' := hM (G.1, m1, m2, D) hr1 hr2
  rw [hAs] at hM'
  exact cc_go (args' := (Value.ref b :: As).toArray) hex hcr hJ (va_runV (As := As) (rest := rest) C0.1 hM' cw ⟨CU.blind, hrecv, fun U hU hW => ⟨rfl, hJ.U C0 U hU hW⟩⟩ rfl hn hl hst hW hdg (hJ.fits hex hcr)) kk
theorem cc_S {As' : CG → List Value} {rw' : CG → Option Value} (C0 : CC p s m args c cc nL own G) (hJ : CJ G s R ex b1 b2 m1 m2 D σ H locs ce sl) (hM : MetC l y ws d ec f1 f2 x1 x2 r1 r2 As' σ rw' σ') (hAs : As' (G.1, m1, m2, D) = As) (hrv : rw' (G.1, m1, m2, D) = rv) (hex : ec + ey ≤ ex) (hcr : cost f1 f2 m1 m2 + cost c1 c2 (bor x1 m1) (bor x2 m2) ≤ cost b1 b2 m1 m2 ∧ cosl f1 f2 m1 m2 + cosl c1 c2 (bor x1 m1) (bor x2 m2) ≤ cosl b1 b2 m1 m2) (hr1 : r1 = true → m1 = true) (hr2 : r2 = true → m2 = true)
    (cw : CallB R s args own index y bytes maxL rt ws (rmc d (cost f1 f2 m1 m2 + ec) (cosl f1 f2 m1 m2 + 10 * ec)) (cost f1 f2 m1 m2 + ec) (cosl f1 f2 m1 m2 + 10 * ec) n ∧ (Cond.static y).before args s = true) (hn : As.length = n) (hl : ls.size = nL) (hst : st = As.reverse ++ rest) (hW : 2 * (F0 m pc ls st).monitorRoom + (rest.map fun v => v.category).sum ≤ 8) (hdg : decode cc pc = .ok (.invokestatic index, 3))
    (kk : ∀ (D' : Nat → Nat → Nat) (H1 : Heap) (locs1 : List Loc), (m2 = true → D' = D) → CJ G s R ey c1 c2 (bor x1 m1) (bor x2 m2) D' σ' H1 locs1 (ce + (cost f1 f2 m1 m2 + ec)) (sl + (cosl f1 f2 m1 m2 + 10 * ec)) → W p l e R s m args below meth c H1 locs1 (ce + (cost f1 f2 m1 m2 + ec)) (sl + (cosl f1 f2 m1 m2 + 10 * ec)) Q (F0 m (pc + 3) ls (rv.toList ++ rest))) : W p l e R s m args below meth c H locs ce sl Q (F0 m pc ls st) := by
  subst hrv
  have hM' := hM (G.1, m1, m2, D) hr1 hr2
  rw [hAs] at hM'
  exact cc_go (args' := As.toArray) hex hcr hJ (va_runS (As := As) (rest := rest) C0.1 hM' cw ⟨CU.blind, fun U hU hW => ⟨rfl, hJ.U C0 U hU hW⟩⟩ rfl hn hl hst hW hdg (hJ.fits hex hcr)) kk
end CCA

/-- the answer's shape, by its type: references too -/
def cOk (rt : Option FieldType) (v : Option Value) : Prop := match rt with
  | none => v = none
  | some .long => ∃ x, v = some (.long x)
  | some (.object _) => v = some .null ∨ ∃ a, v = some (.ref a)
  | some (.array _) => v = some .null ∨ ∃ a, v = some (.ref a)
  | _ => ∃ x, v = some (.int x)
def cIns (rt : Option FieldType) : Instr := match rt with
  | none => .return_
  | some .long => .lreturn
  | some (.object _) => .areturn
  | some (.array _) => .areturn
  | _ => .ireturn
def cRt (rt : Option FieldType) : Prop := rt = none ∨ rt = some .int ∨ rt = some .boolean ∨ rt = some .long ∨ (∃ n, rt = some (.object n)) ∨ ∃ t, rt = some (.array t)
/-- a method's end, by its type -/
def CEd (p : Program) (l : Launch) (e : Env) (R : Room) (s : State) (m : MethodId) (args : Array Value) (below : List Frame) (meth : Method) (c : Code) (cc : ByteArray) (G : CG) (Q : State → Prop) (x1 x2 : Bool) (rt : Option FieldType) (rv : Option Value) (σ' : CM) : Prop :=
  ∀ (ex : Nat) (b1 b2 m1 m2 : Bool) (D : Nat → Nat → Nat) (H : Heap) (locs : List Loc) (ce sl : Nat) (ls : Array Slot) (pc : Nat) (v : Option Value), CJ G s R ex b1 b2 m1 m2 D σ' H locs ce sl → (x1 = true → m1 = true) → (x2 = true → m2 = true) → cOk rt v → v.map (mNv rt) = rv → decode cc pc = .ok (cIns rt, 1) → W p l e R s m args below meth c H locs ce sl Q (F0 m pc ls v.toList)
theorem cw_body {l : Launch} {y : MethodName} {ws : List Cond} {cc : ByteArray} {nL d ex : Nat} {rt : Option FieldType} {own : String} {As : List Value} {σ σ' : CM} {rv : Option Value} {f1 f2 x1 x2 : Bool} {G : CG} (hy : y.cls = own) (hin : ∀ w ∈ lw_all, w ∈ ws) (hrt : cRt rt) (hlen : (lg_sl As).length ≤ nL)
    (hw : ∀ (p : Program) (e : Env) (s : State) (m : MethodId) (args : Array Value) (below : List Frame) (meth : Method) (c : Code) (Q : State → Prop), CC p s m args c cc nL own G → CEd p l e (RM d ex f1 f2 G) s m args below meth c cc G Q x1 x2 rt rv σ' → ∀ ls : Array Slot, lv_has ls nL (lv_args 0 As) → CJ G s (RM d ex f1 f2 G) ex f1 f2 G.2.1 G.2.2.1 G.2.2.2 σ s.heap [] 0 0 → W p l e (RM d ex f1 f2 G) s m args below meth c s.heap [] 0 0 Q (F0 m 0 ls []))
    {p : Program} {e : Env} {s : State} {m : MethodId} {args : Array Value} {below : List Frame} {meth : Method} {c : Code} {s₁ : State} (B : BodyLoose p l y (headSpec ws (RM d ex f1 f2 G)) cc nL rt e s m args below meth c s₁) (hml : c.maxLocals = nL) (hv : va_Pc As (CU G.2.1 G.2.2.1 G.1 G.2.2.2 σ) args s) :
    W p l e (RM d ex f1 f2 G) s m args below meth c s.heap [] 0 0 (MQ below (CQc G.1 G.2.2.2 G.2.2.1 (bor x1 G.2.1) (bor x2 G.2.2.1) rv σ') args s (cost f1 f2 G.2.1 G.2.2.1 + ex) (cosl f1 f2 G.2.1 G.2.2.1 + 10 * ex) (cP G.1)) (entryFrame m args nL) := by
  obtain ⟨rfl, hP, hT, hSt, hA⟩ := hv
  have hx := B.exec
  have hb := B.bytes
  have hr := B.returns
  have hts := atoms_spec (ws := ws) B.pre
  have hts : ∀ w ∈ lw_all, w.before _ s = true := fun w h => hts w (hin w h)
  have hown : s.vm.findClass own = some m.cls := by rw [← hy]; exact findClass_of_methodNamed B.named
  have hlocks := B.notSynchronized
  have hl := lv_entry As (n := nL) hlen
  rw [lg_entry_eq]
  refine hw p e s m _ below meth c _ ⟨⟨hx, hb, hml, hown, hts⟩, hT, hSt⟩ ?_ _ hl ⟨hP, va_S.rf, hA, fun h => h, fun h => h, fun _ => rfl, ?_, ?_⟩
  · intro ey b1 b2 m1 m2 D H locs ce sl ls pc v hJ q1 q2 hok hv hd
    obtain ⟨hW0, hS, -, g1, g2, g3, g4, g5⟩ := hJ
    have hq : ∀ t : State, t.heap = H → s.WarmedH t.vm → CQc G.1 G.2.2.2 G.2.2.1 (bor x1 G.2.1) (bor x2 G.2.2.1) rv σ' As.toArray s (.returned rv) t := fun t ht hW => by
      refine ⟨⟨rfl, D, g3, ?_, CTb.warm hW hT, CSt.next hSt hW (fun a h1 h2 => by rw [ht]; exact hS.2.1 a h1 h2), fun q hq => hA q (by rw [ht] at hq; exact Nat.le_trans hS.1 hq)⟩, hS.F ht⟩
      obtain ⟨ρ, hW1, hL⟩ := hW0
      refine ⟨ρ, by rw [ht]; exact hW1, hL.weak ?_ ?_⟩
      · cases x1 with
        | true => exact fun _ => q1 rfl
        | false => exact g1
      · cases x2 with
        | true => exact fun _ => q2 rfl
        | false => exact g2
    refine W.widen (k := cost f1 f2 G.2.1 G.2.2.1 + ex) (n := cosl f1 f2 G.2.1 G.2.2.1 + 10 * ex) (by have h : ce + (cost b1 b2 m1 m2 + ey) ≤ cost f1 f2 G.2.1 G.2.2.1 + ex := g4; omega) (by have h : sl + (cosl b1 b2 m1 m2 + 10 * ey) ≤ cosl f1 f2 G.2.1 G.2.2.1 + 10 * ex := g5; omega) ?_
    rcases hrt with rfl | rfl | rfl | rfl | ⟨nm, rfl⟩ | ⟨tt, rfl⟩
    · obtain rfl := hok
      subst hv
      exact W.vret hx hb hr hq hS.2.2 hd
    · obtain ⟨x, rfl⟩ := hok
      subst hv
      exact W.iret hx hb hr hq hS.2.2 hd
    · obtain ⟨x, rfl⟩ := hok
      subst hv
      exact W.zretN hx hb hr hq hS.2.2 hd hlocks
    · obtain ⟨x, rfl⟩ := hok
      subst hv
      exact W.lret hx hb hr hq hS.2.2 hd
    · rcases hok with rfl | ⟨x, rfl⟩
      · subst hv
        exact W.aret hx hb hr (Or.inl ⟨_, rfl⟩) (Or.inl rfl) hq hS.2.2 hd
      · subst hv
        exact W.aret hx hb hr (Or.inl ⟨_, rfl⟩) (Or.inr ⟨_, rfl⟩) hq hS.2.2 hd
    · rcases hok with rfl | ⟨x, rfl⟩
      · subst hv
        exact W.aret hx hb hr (Or.inr ⟨_, rfl⟩) (Or.inl rfl) hq hS.2.2 hd
      · subst hv
        exact W.aret hx hb hr (Or.inr ⟨_, rfl⟩) (Or.inr ⟨_, rfl⟩) hq hS.2.2 hd
  · show 0 + (cost f1 f2 G.2.1 G.2.2.1 + ex) ≤ cost f1 f2 G.2.1 G.2.2.1 + ex
    omega
  · show 0 + (cosl f1 f2 G.2.1 G.2.2.1 + 10 * ex) ≤ cosl f1 f2 G.2.1 G.2.2.1 + 10 * ex
    omega

theorem metOfWF {l : Launch} {y : MethodName} {ws ws' : List Cond} {rm : Room} {Pc : Array Value → State → Prop} {Qc : Array Value → State → Outcome → State → Prop} {mc ms : Nat} {free : Addr → Prop} {cc : ByteArray} {maxL : Nat} {ret : Option FieldType}
    (hy : plainFor y = true) (hw : ws = Cond.code y cc maxL ret :: ws')
    (body : ∀ p e s m args below meth c s₁, BodyLoose p l y (headSpec ws rm) cc maxL ret e s m args below meth c s₁ → c.maxLocals = maxL → Pc args s →
      W p l e (headSpec ws rm).room s m args below meth c s.heap [] 0 0 (MQ below Qc args s mc ms free) (entryFrame m args maxL)) : Met l y ws rm Pc Qc mc ms free := by
  refine MetFree.of_bodySF (code := cc) (maxLocals := maxL) (ret := ret) hy ?_ ?_
  · intro args s m h hn
    obtain ⟨meth, c, h1, h2, h3, h4, h5, h6, -, -⟩ := Cond.code_spec hn (atoms_spec (ws := ws) h _ (by rw [hw]; exact List.mem_cons_self))
    exact ⟨meth, c, h1, h2, h3, h4, h5, h6⟩
  · intro p e s m args below meth c s₁ B hml hP _
    have hh0 : s₁.heap = s.heap := by rw [B.state]; rfl
    obtain ⟨t, a1, o, b1, b2, b3⟩ := body p e s m args below meth c s₁ B hml hP s₁ hh0 (Stand.of_body B)
    exact ⟨t, o, a1, b1, b2, ⟨b3.1, b3.2⟩⟩
theorem met_wC {l : Launch} {y : MethodName} {cc : ByteArray} {nL d ex : Nat} {rt : Option FieldType} {own : String} {As : CG → List Value} {σ σ' : CM} {rv : CG → Option Value} {f1 f2 x1 x2 r1 r2 : Bool} (hpl : plainFor y = true) (hy : y.cls = own) (hrt : cRt rt) (hlen : ∀ G, (lg_sl (As G)).length ≤ nL)
    (hw : ∀ (G : CG) (p : Program) (e : Env) (s : State) (m : MethodId) (args : Array Value) (below : List Frame) (meth : Method) (c : Code) (Q : State → Prop), (r1 = true → G.2.1 = true) → (r2 = true → G.2.2.1 = true) → CC p s m args c cc nL own G → CEd p l e (RM d ex f1 f2 G) s m args below meth c cc G Q x1 x2 rt (rv G) σ' → ∀ ls : Array Slot, lv_has ls nL (lv_args 0 (As G)) → CJ G s (RM d ex f1 f2 G) ex f1 f2 G.2.1 G.2.2.1 G.2.2.2 σ s.heap [] 0 0 → W p l e (RM d ex f1 f2 G) s m args below meth c s.heap [] 0 0 Q (F0 m 0 ls [])) :
    MetC l y (ws_ y cc nL rt) d ex f1 f2 x1 x2 r1 r2 As σ rv σ' := fun G h1 h2 =>
  metOfWF (cc := cc) (maxL := nL) (ret := rt) hpl rfl (fun p e s m args below meth c s₁ B hml hv => cw_body hy (fun w h => List.mem_cons_of_mem _ h) hrt (hlen G) (fun p e s m args below meth c Q => hw G p e s m args below meth c Q h1 h2) B hml hv)
theorem met_wCW {l : Launch} {y : MethodName} {cc : ByteArray} {nL d ex : Nat} {rt : Option FieldType} {hh : List (Nat × Nat × Nat × Nat)} {own : String} {As : CG → List Value} {σ σ' : CM} {rv : CG → Option Value} {f1 f2 x1 x2 r1 r2 : Bool} (hpl : plainName own = true) (hy : y.cls = own) (hrt : cRt rt) (hlen : ∀ G, (lg_sl (As G)).length ≤ nL)
    (hw : ∀ (G : CG) (p : Program) (e : Env) (s : State) (m : MethodId) (args : Array Value) (below : List Frame) (meth : Method) (c : Code) (Q : State → Prop), (r1 = true → G.2.1 = true) → (r2 = true → G.2.2.1 = true) → CC p s m args c cc nL own G → CEd p l e (RM d ex f1 f2 G) s m args below meth c cc G Q x1 x2 rt (rv G) σ' → ∀ ls : Array Slot, lv_has ls nL (lv_args 0 (As G)) → CJ G s (RM d ex f1 f2 G) ex f1 f2 G.2.1 G.2.2.1 G.2.2.2 σ s.heap [] 0 0 → W p l e (RM d ex f1 f2 G) s m args below meth c s.heap [] 0 0 Q (F0 m 0 ls [])) :
    MetC l y (wsW_ y cc nL rt hh) d ex f1 f2 x1 x2 r1 r2 As σ rv σ' := fun G h1 h2 =>
  va_MetW (cc := cc) (maxL := nL) (ret := rt) (hh := hh) (by rw [hy]; exact hpl) rfl (fun p e s m args below meth c s₁ B hml hv => cw_body hy (fun w h => List.mem_cons_of_mem _ h) hrt (hlen G) (fun p e s m args below meth c Q => hw G p e s m args below meth c Q h1 h2) B hml hv)

theorem CJ.s1 {G : CG} {s : State} {R : Room} {ex : Nat} {f1 f2 m1 m2 : Bool} {D : Nat → Nat → Nat} {σ : CM} {H : Heap} {locs : List Loc} {ce sl : Nat} (h : m1 = true) (hJ : CJ G s R ex f1 f2 m1 m2 D σ H locs ce sl) : CJ G s R ex f1 f2 true m2 D σ H locs ce sl := h ▸ hJ
theorem CJ.s2 {G : CG} {s : State} {R : Room} {ex : Nat} {f1 f2 m1 m2 : Bool} {D : Nat → Nat → Nat} {σ : CM} {H : Heap} {locs : List Loc} {ce sl : Nat} (h : m2 = true) (hJ : CJ G s R ex f1 f2 m1 m2 D σ H locs ce sl) : CJ G s R ex f1 f2 m1 true D σ H locs ce sl := h ▸ hJ
