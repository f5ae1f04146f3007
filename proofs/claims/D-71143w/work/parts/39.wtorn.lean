/-! AN OBJECT BESIDE THE PICTURE: made, put into, read; Torn and its constructors -/
set_option maxRecDepth 100000
section OBR
variable {p : Program} {l : Launch} {e : Env} {R : Room} {s : State} {m : MethodId} {args : Array Value} {below : List Frame} {meth : Method} {c : Code} {H : Heap} {locs : List Loc} {ce sl : Nat} {Q : State → Prop}
variable {cc : ByteArray} {pc nL index a : Nat} {ls : Array Slot} {rest : List Value} {own C : String} {T : u_T} {N : Nat} {cT : ClassId} {iT : Nat → Nat} {V : Nat → Value} {ty : Nat → FieldType}
theorem ob_apart (hts : ∀ w ∈ lw_all, w.before args s = true) (hK : u_Kn s C T N cT iT) (hin : ∀ w ∈ u_ws C T N, w ∈ lw_all) (hty : ∀ j, j < N → parseFieldDescriptor (T j).2.2.1 = some (ty j)) (hnm : ∀ a, a < N → ∀ b, b < N → a ≠ b → (T a).2.1 ≠ (T b).2.1) : ∀ x y, x < N → y < N → x ≠ y → iT x ≠ iT y := by
  intro x y hx hy hne
  obtain ⟨hS, -⟩ := hK
  obtain ⟨_, _, _, fa, hia, ea⟩ := hS x hx
  obtain ⟨_, _, _, fb, hib, eb⟩ := hS y hy
  rw [← ea, ← eb]
  refine u_apart (u_lays hts hin hx) (u_lays hts hin hy) hia hib ?_
  rw [(State.fieldFound?_type hia (hty x hx)).1, (State.fieldFound?_type hib (hty y hy)).1]
  exact hnm x hx y hy hne
/-- a field is put -/
theorem ob_put (F : CallFix p m c cc nL s args lw_all own) (hK : u_Kn s C T N cT iT) (hin : ∀ w ∈ u_ws C T N, w ∈ lw_all) (hty : ∀ j, j < N → parseFieldDescriptor (T j).2.2.1 = some (ty j)) (hnm : ∀ a, a < N → ∀ b, b < N → a ≠ b → (T a).2.1 ≠ (T b).2.1) (hO : t_OB a cT N iT H V) (f : Nat) (hf : f < N) (hfin : (T f).2.2.2 = false) {v : Value} (hn : narrow (ty f) v = v) (hfit : fits (ty f) v = true)
    (hlink : Cond.fieldLink own index (T f).1 (T f).2.1 (T f).2.2.1 ∈ lw_all) (hdg : decode cc pc = .ok (.putfield index, 3))
    (kk : ∀ (H1 : Heap) (n : Nat), t_OB a cT N iT H1 (updV V f v) → H1.size = H.size → (∀ q, q ≠ a → H1[q]? = H[q]?) → W p l e R s m args below meth c H1 (locs ++ [⟨a, n⟩]) ce sl Q (F0 m (pc + 3) ls rest)) : W p l e R s m args below meth c H locs ce sl Q (F0 m pc ls (v :: .ref a :: rest)) := by
  obtain ⟨hx, hb, hml, hown, hts⟩ := F
  have hap := ob_apart hts hK hin hty hnm
  obtain ⟨cell, q1, q2, q3, q4⟩ := hO
  obtain ⟨hS, hfc, kC, hkC, hkind⟩ := hK
  obtain ⟨cf, kf, fi, fd, hif, hsl⟩ := hS f hf
  have hlay := hts _ (hin _ (u_in_lay hf))
  unfold u_lay at hlay
  rw [if_neg (by rw [hfin]; decide)] at hlay
  have hst := (u_facts hfc hkC (u_lays hts hin hf) hif).1
  have h6 := u_store (v := v) hfc hkC hkind hlay hif (hty f hf) hn hfit
  refine W.putK hx hb (f := fd) ⟨hown, hts _ hlink, ⟨_, _, _, hif⟩, hst⟩ (by rw [q2]; exact h6) q1 q3 (by rw [hsl]; exact k2_hasslot (q4 f hf)) rfl rfl hdg fun H' e1 e2 e3 => ?_
  rw [hsl] at e1
  exact kk H' _ ⟨_, e1, q2, q3, t_set q4 hap hf v⟩ e2 e3
/-- an object is made -/
theorem ob_new (F : CallFix p m c cc nL s args lw_all own) (hK : u_Kn s C T N cT iT) (hin : ∀ w ∈ u_ws C T N, w ∈ lw_all) (hty : ∀ j, j < N → parseFieldDescriptor (T j).2.2.1 = some (ty j)) (hcl : Cond.classLink own index C ∈ lw_all) (hinst : Cond.instantiable C N ∈ lw_all) (hini : Cond.initialized C ∈ lw_all) (hcells : ce + 1 ≤ R.cells) (hslots : sl + N ≤ R.slots) (hdg : decode cc pc = .ok (.new index, 3))
    (kk : ∀ H1 : Heap, t_OB H.size cT N iT H1 (fun k => defaultValue (ty k)) → H1.size = H.size + 1 → (∀ q, q < H.size → H1[q]? = H[q]?) → W p l e R s m args below meth c H1 locs (ce + 1) (sl + N) Q (F0 m (pc + 3) ls (.ref H.size :: rest))) : W p l e R s m args below meth c H locs ce sl Q (F0 m pc ls rest) := by
  obtain ⟨hx, hb, hml, hown, hts⟩ := F
  exact W.newcK hx hb hown (hts _ hcl) (hts _ hinst) (hts _ hini) rfl hdg hcells hslots hK.2.1 rfl fun H1 kC hkC e1 z1 o1 => kk H1 (u_born ty hts hin hK hkC e1 hty) z1 o1
end OBR
section OBF
variable {p : Program} {l : Launch} {e : Env} {R : Room} {s : State} {m : MethodId} {args : Array Value} {below : List Frame} {meth : Method} {c : Code} {H : Heap} {locs : List Loc} {ce sl : Nat} {Q : State → Prop}
variable {cc bytes : ByteArray} {pc nL maxL index a b d : Nat} {ls : Array Slot} {st As rest : List Value} {own C : String} {T : u_T} {N : Nat} {cT : ClassId} {iT : Nat → Nat} {V V' : Nat → Value} {ty : Nat → FieldType} {y : MethodName} {K : CK}
/-- a final field is put, by a constructor of its class -/
theorem ob_putF (F : CallFix p m c cc nL s args lw_all own) (hK : u_Kn s C T N cT iT) (hin : ∀ w ∈ u_ws C T N, w ∈ lw_all) (hty : ∀ j, j < N → parseFieldDescriptor (T j).2.2.1 = some (ty j)) (hnm : ∀ a, a < N → ∀ b, b < N → a ≠ b → (T a).2.1 ≠ (T b).2.1) (hO : t_OB a cT N iT H V) (f : Nat) (hf : f < N) (hfin : (T f).2.2.2 = true) (hdecl : (T f).1 = own) (hin2 : meth.name = "<init>") {v : Value} (hn : narrow (ty f) v = v) (hfit : fits (ty f) v = true)
    (hlink : Cond.fieldLink own index (T f).1 (T f).2.1 (T f).2.2.1 ∈ lw_all) (hdg : decode cc pc = .ok (.putfield index, 3))
    (kk : ∀ (H1 : Heap) (n : Nat), t_OB a cT N iT H1 (updV V f v) → H1.size = H.size → (∀ q, q ≠ a → H1[q]? = H[q]?) → W p l e R s m args below meth c H1 (locs ++ [⟨a, n⟩]) ce sl Q (F0 m (pc + 3) ls rest)) : W p l e R s m args below meth c H locs ce sl Q (F0 m pc ls (v :: .ref a :: rest)) := by
  obtain ⟨hx, hb, hml, hown, hts⟩ := F
  have hap := ob_apart hts hK hin hty hnm
  obtain ⟨cell, q1, q2, q3, q4⟩ := hO
  obtain ⟨hS, hfc, kC, hkC, hkind⟩ := hK
  obtain ⟨cf, kf, fi, fd, hif, hsl⟩ := hS f hf
  have hlay := hts _ (hin _ (u_in_lay hf))
  unfold u_lay at hlay
  rw [if_pos hfin] at hlay
  have hst := (u_facts hfc hkC (u_lays hts hin hf) hif).1
  have hcf : m.cls = cf := by
    obtain ⟨_, _, c', _, _, _, -, -, hf', -, -, -, hown2, -⟩ := Cond.laysFinal_spec hlay
    have e1 : c' = cf := by have := hif.symm.trans hf'; simp at this; exact this.1.symm
    rw [hdecl] at hown2
    rw [← e1]; exact Option.some.inj (hown.symm.trans hown2)
  have h6 := u_fits hfc hkC hkind (Or.inr hlay) hif (hty f hf) hn hfit
  refine W.putFinK hx hb hown (hts _ hlink) hif hst hcf hin2 (by rw [q2]; exact h6) q1 q3 (by rw [hsl]; exact k2_hasslot (q4 f hf)) rfl rfl hdg fun H' e1 e2 e3 => ?_
  rw [hsl] at e1
  exact kk H' _ ⟨_, e1, q2, q3, t_set q4 hap hf v⟩ e2 e3
/-- a constructor's promise: the object anew, nothing else -/
def ObP (K : CK) (C : String) (T : u_T) (N : Nat) (cT : ClassId) (iT : Nat → Nat) (b : Nat) (V : Nat → Value) (As : List Value) : Array Value → State → Prop := va_Pc (.ref b :: As) (fun U => CSt K U U.heap ∧ u_Kn U C T N cT iT ∧ t_OB b cT N iT U.heap V ∧ cP K b)
def ObQ (N : Nat) (cT : ClassId) (iT : Nat → Nat) (b : Nat) (V' : Nat → Value) : Array Value → State → Outcome → State → Prop := fun _ st o t => o = .returned none ∧ t.heap.size = st.heap.size ∧ (∀ q, q ≠ b → t.heap[q]? = st.heap[q]?) ∧ t_OB b cT N iT t.heap V'
theorem ObP.blind : FrameBlind (ObP K C T N cT iT b V As) := by
  intro a U g mk h
  obtain ⟨h0, h1, h2, h3, h4⟩ := h
  exact ⟨h0, CSt.next (H := U.heap) (U := U.calling g mk a) h1 (State.WarmedH.refl U) (fun _ _ _ => rfl), u_Kn_moved (U := U.calling g mk a) (Vm.Alike.refl _) h2, h3, h4⟩
abbrev MetI (l : Launch) (K : CK) (y : MethodName) (nL d : Nat) (C : String) (T : u_T) (N : Nat) (cT : ClassId) (iT : Nat → Nat) (b : Nat) (V : Nat → Value) (As : List Value) (V' : Nat → Value) : Prop := MetB l y nL (rmc d 0 0) (ObP K C T N cT iT b V As) (ObQ N cT iT b V') 0 0 (fun a => a = b)
theorem hx_init (S : CallFix p m c cc nL s args lw_all own) (hSt : CSt K s s.heap) (hS : va_S (cP K) s.heap H locs) (hK : u_Kn s C T N cT iT) (hO : t_OB b cT N iT H V) (hbP : cP K b) (hM : MetI l K y maxL d C T N cT iT b V As V') (hpl : plainFor y = true) (hR : d + 1 ≤ R.frames ∧ 8 + (maxL + 11) + 64 * d ≤ R.locals) (hcode : Cond.code y bytes maxL none ∈ lw_all) (hlink : Cond.methodLink own index y ∈ lw_all) (hiy : Cond.instanceMethod y ∈ lw_all)
    (hd : y.name = "<init>" ∧ y.cls ≠ "java/lang/invoke/MethodHandle" ∧ y.cls ≠ "java/lang/invoke/VarHandle" ∧ (parseMethodDescriptor y.desc).map (fun d => d.parameters.length) = some As.length)
    (hl : ls.size = nL) (hst : st = As.reverse ++ .ref b :: rest) (hW : (rest.map fun v => v.category).sum ≤ 8) (hfit : ce ≤ R.cells ∧ sl ≤ R.slots) (hdg : decode cc pc = .ok (.invokespecial index, 3))
    (kk : ∀ (H1 : Heap) (L : List Loc), H1.size = H.size → (∀ q, q ≠ b → H1[q]? = H[q]?) → t_OB b cT N iT H1 V' → (∀ q ∈ L, q.base = b) → va_S (cP K) s.heap H1 (locs ++ L) → W p l e R s m args below meth c H1 (locs ++ L) ce sl Q (F0 m (pc + 3) ls rest)) : W p l e R s m args below meth c H locs ce sl Q (F0 m pc ls st) := by
  obtain ⟨hx, hb, hml, ho, hts⟩ := S
  have hKb : Back l R p e below s args y 3 8 (PreOf R 0 0 (ObP K C T N cT iT b V As)) (PostOf (ObQ N cT iT b V') 0 0 (fun a => a = b)) := back_bare (bytes := bytes) (ret := none) hM (fun _ _ _ _ h => ⟨_, h.1⟩) hx hpl ObP.blind rfl rfl hR.1 hR.2 hts hcode
  intro T0 hT X
  obtain ⟨v', vm₁, ⟨U', l2, c2, s2⟩, hW₁, X', ⟨g', mk, t, L, e1, e2, hq, h1, hL, h2, h3⟩, st'⟩ := callI X hx (y := y) (bytes := bytes) (maxL := maxL) ho hd.1 (hts _ hlink) (hts _ hiy) (hts _ hcode) ⟨hd.2.1, hd.2.2.1⟩ hKb (g := F0 m pc ls st) rfl (hl.trans hml.symm) (a := b) (argsL := As) (rest := rest) (fun sig h => by have h9 := hd.2.2.2; rw [h] at h9; exact (Option.some.inj h9).symm) hst (by show 2 * 0 + _ ≤ 8; omega) (by rw [hb]; exact hdg)
    (fun vm₁ hW₁ => ⟨hfit.1, hfit.2, rfl, CSt.at hSt hS (U := T0.setVm vm₁) hT hW₁, u_Kn_moved (U := T0.setVm vm₁) hW₁.alike hK, by show t_OB b cT N iT T0.heap V; rw [hT]; exact hO, hbP⟩)
  dsimp only [Pt.U, Pt.locs, Pt.cells, Pt.slots] at X' e1 e2 h1 h2 h3 st'
  subst h1; subst h2; subst h3
  obtain ⟨hv, hz, hk, hob⟩ := hq
  cases hv
  have ez : t.heap.size = H.size := by rw [hz]; show T0.heap.size = _; rw [hT]
  have ek : ∀ q, q ≠ b → t.heap[q]? = H[q]? := fun q hq => by rw [hk q hq]; show T0.heap[q]? = _; rw [hT]
  obtain ⟨t2, a1, b1⟩ := kk t.heap L ez ek hob hL ⟨by rw [ez]; exact hS.1, fun q q1 q2 => by rw [ek q (fun z => q2 (z ▸ hbP))]; exact hS.2.1 q q1 q2, fun q hq => by
    rcases List.mem_append.mp hq with z | z
    · exact hS.2.2 q z
    · rw [hL q z]; exact hbP⟩ U' e1 X'
  exact ⟨t2, st' t2 a1, b1⟩
end OBF
