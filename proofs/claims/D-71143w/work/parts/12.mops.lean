/-! THE REFERENCE's STEPS, as the walker prints them: each memory step a partial function with a name for what it gives -/
set_option maxRecDepth 100000
def mld (σ : MM) (k : Nat) (i : Int32) : Option Int32 := if inb i (mLen k) = true then some (σ k i.toNatClampNeg) else none
def mst (σ : MM) (k : Nat) (i v : Int32) : Option MM := if inb i (mLen k) = true then some (mput σ k i.toNatClampNeg v) else none
def mpf (σ : MM) (k : Nat) (v : Int32) : Option MM := some (mput σ k 0 v)
def ldv (x y : Int64) : Option Int64 := if ¬ y = 0 then some (x / y) else none
def lrm (x y : Int64) : Option Int64 := if ¬ y = 0 then some (x - x / y * y) else none
theorem ip {α : Type} {c : Prop} [Decidable c] {x y : Option α} {r : α} (h : (if c then x else y) = some r) (hc : c) : x = some r := by
  rw [if_pos hc] at h; exact h
theorem im {α : Type} {c : Prop} [Decidable c] {x y : Option α} {r : α} (h : (if c then x else y) = some r) (hc : ¬ c) : y = some r := by
  rw [if_neg hc] at h; exact h
theorem lp_ind {S T : Type} {body : S → Option (S ⊕ T)} {q : T} (P : S → Prop) (hs : ∀ (n : Nat) (w : S), (∀ w', lp body n w' = some q → P w') → ∀ z, body w = some z → lpk body n q z → P w) : ∀ (n : Nat) (w : S), lp body n w = some q → P w := by
  intro n
  induction n with
  | zero => intro w h; exact lp_0 h
  | succ n ih =>
    intro w h
    obtain ⟨z, h1, h2⟩ := lp_s h
    exact hs n w ih z h1 h2
def lpo {X R Z : Type} (q : X ⊕ R) (f : X → Option Z) (g : R → Option Z) : Option Z := match q with
  | .inl x => f x
  | .inr r => g r
theorem lpo_l {X R Z : Type} {x : X} {f : X → Option Z} {g : R → Option Z} {z : Z} (h : lpo (.inl x) f g = some z) : f x = some z := h
theorem lpo_r {X R Z : Type} {r : R} {f : X → Option Z} {g : R → Option Z} {z : Z} (h : lpo (.inr r) f g = some z) : g r = some z := h
def mAr (k : Nat) : Bool := decide (k < 42) && (!mInt k && !(k == 36))
theorem bz0 : bz 0 = 0 := by decide
theorem bz1 : bz 1 = 1 := by decide
theorem mz0 : (some (Value.int 0)).map (mNv (some .boolean)) = some (.int 0) := by
  show some (Value.int (bz 0)) = _
  rw [bz0]
theorem mz1 : (some (Value.int 1)).map (mNv (some .boolean)) = some (.int 1) := by
  show some (Value.int (bz 1)) = _
  rw [bz1]
theorem mAr_s {k : Nat} (h : mAr k = true) : k < 42 ∧ mInt k = false ∧ ((k = 36) = False) := by
  simp only [mAr, Bool.and_eq_true, decide_eq_true_eq, Bool.not_eq_true', beq_eq_false_iff_ne, ne_eq] at h
  exact ⟨h.1, h.2.1, eq_false h.2.2⟩
section MO
variable {p : Program} {l : Launch} {e : Env} {R : Room} {s : State} {m : MethodId} {args : Array Value} {below : List Frame} {meth : Method} {c : Code} {H H0 : Heap} {locs : List Loc} {cells slots : Nat} {Q : State → Prop}
variable {cc : ByteArray} {pc nL : Nat} {ls : Array Slot} {rest : List Value} {K : MK} {σ σ' : MM}
theorem my_il (C : MC p s m args c cc nL K) (hJ : MJ K σ H0 H locs) (k : Nat) (ha : mAr k = true) {i x : Int32} (hx : mld σ k i = some x) (hdg : decode cc pc = .ok (.iaload, 1))
    (kk : W p l e R s m args below meth c H locs cells slots Q (F0 m (pc + 1) ls (.int x :: rest))) : W p l e R s m args below meth c H locs cells slots Q (F0 m pc ls (.int i :: .ref (kA K k) :: rest)) := by
  obtain ⟨h1, h2⟩ := og hx
  obtain ⟨hk, hi, h36⟩ := mAr_s ha
  refine mx_il C hJ k hk hi h36 h1 hdg ?_
  rw [Option.some.inj h2]
  exact kk
theorem my_zl (C : MC p s m args c cc nL K) (hJ : MJ K σ H0 H locs) {i x : Int32} (hx : mld σ 36 i = some x) (hdg : decode cc pc = .ok (.baload, 1))
    (kk : W p l e R s m args below meth c H locs cells slots Q (F0 m (pc + 1) ls (.int x :: rest))) : W p l e R s m args below meth c H locs cells slots Q (F0 m pc ls (.int i :: .ref (kA K 36) :: rest)) := by
  obtain ⟨h1, h2⟩ := og hx
  refine mx_zl C hJ h1 hdg ?_
  rw [Option.some.inj h2]
  exact kk
theorem my_is (C : MC p s m args c cc nL K) (hJ : MJ K σ H0 H locs) (k : Nat) (ha : mAr k = true) {i v : Int32} (hx : mst σ k i v = some σ') (hdg : decode cc pc = .ok (.iastore, 1))
    (kk : ∀ (H1 : Heap) (locs1 : List Loc), MJ K σ' H0 H1 locs1 → W p l e R s m args below meth c H1 locs1 cells slots Q (F0 m (pc + 1) ls rest)) : W p l e R s m args below meth c H locs cells slots Q (F0 m pc ls (.int v :: .int i :: .ref (kA K k) :: rest)) := by
  obtain ⟨h1, h2⟩ := og hx
  obtain ⟨hk, hi, h36⟩ := mAr_s ha
  exact mx_is C hJ k hk hi h36 h1 hdg (fun H1 l1 hj => kk H1 l1 (by rw [← Option.some.inj h2]; exact hj))
theorem my_zs (C : MC p s m args c cc nL K) (hJ : MJ K σ H0 H locs) {i v : Int32} (hx : mst σ 36 i (bz v) = some σ') (hdg : decode cc pc = .ok (.bastore, 1))
    (kk : ∀ (H1 : Heap) (locs1 : List Loc), MJ K σ' H0 H1 locs1 → W p l e R s m args below meth c H1 locs1 cells slots Q (F0 m (pc + 1) ls rest)) : W p l e R s m args below meth c H locs cells slots Q (F0 m pc ls (.int v :: .int i :: .ref (kA K 36) :: rest)) := by
  obtain ⟨h1, h2⟩ := og hx
  exact mx_zs C hJ h1 hdg (fun H1 l1 hj => kk H1 l1 (by rw [← Option.some.inj h2]; exact hj))
theorem my_pi (C : MC p s m args c cc nL K) (hJ : MJ K σ H0 H locs) {index : Nat} (k : Nat) (hk : k < 42) (hi : mInt k = true) (hfin : (TX6 k).2.2.2 = false) (hd : parseFieldDescriptor (TX6 k).2.2.1 = some .int) (hlink : Cond.fieldLink RX6 index (TX6 k).1 (TX6 k).2.1 (TX6 k).2.2.1 ∈ lw_all) {v : Int32} (hx : mpf σ k v = some σ') (hdg : decode cc pc = .ok (.putfield index, 3))
    (kk : ∀ (H1 : Heap) (locs1 : List Loc), MJ K σ' H0 H1 locs1 → W p l e R s m args below meth c H1 locs1 cells slots Q (F0 m (pc + 3) ls rest)) : W p l e R s m args below meth c H locs cells slots Q (F0 m pc ls (.int v :: .ref (kO K) :: rest)) :=
  mx_pi C hJ k hk hi hfin hd hlink hdg (fun H1 l1 hj => kk H1 l1 (by rw [← Option.some.inj hx]; exact hj))
theorem my_ldiv (hx : p.tables.exec = Jvm.exec) (hb : c.code = cc) {x y z : Int64} (hz : ldv x y = some z) (hdg : decode cc pc = .ok (.ldiv, 1))
    (kk : W p l e R s m args below meth c H locs cells slots Q (F0 m (pc + 1) ls (.long z :: rest))) : W p l e R s m args below meth c H locs cells slots Q (F0 m pc ls (.long y :: .long x :: rest)) := by
  obtain ⟨h1, h2⟩ := og hz
  refine lv_ldiv hx hb hdg h1 ?_
  rw [Option.some.inj h2]
  exact kk
theorem my_lrem (hx : p.tables.exec = Jvm.exec) (hb : c.code = cc) {x y z : Int64} (hz : lrm x y = some z) (hdg : decode cc pc = .ok (.lrem, 1))
    (kk : W p l e R s m args below meth c H locs cells slots Q (F0 m (pc + 1) ls (.long z :: rest))) : W p l e R s m args below meth c H locs cells slots Q (F0 m pc ls (.long y :: .long x :: rest)) := by
  obtain ⟨h1, h2⟩ := og hz
  refine lv_lrem hx hb hdg h1 ?_
  rw [Option.some.inj h2]
  exact kk
end MO
