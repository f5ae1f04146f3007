/-! THE REFERENCE's MEMORY AND ROWS: its one object and its arrays as a function: field k, place j (an int field: place 0) -/
set_option maxRecDepth 100000
abbrev MM : Type := Nat → Nat → Int32
def mput (σ : MM) (k j : Nat) (v : Int32) : MM := va_up σ k (upd (σ k) j v)
theorem mput_k (σ : MM) (k j : Nat) (v : Int32) : mput σ k j v k = upd (σ k) j v := by simp [mput, va_up]
theorem mput_n {σ : MM} {k j a : Nat} {v : Int32} (h : a ≠ k) : mput σ k j v a = σ a := by simp [mput, va_up, h]
def inb (i : Int32) (n : Nat) : Bool := decide (¬ (i < 0 ∨ n ≤ i.toNatClampNeg))
theorem inb_vp {i : Int32} {n : Nat} (h : inb i n = true) : vp_in i n := by
  unfold vp_in
  unfold inb at h
  exact of_decide_eq_true h
theorem inb_lt {i : Int32} {n : Nat} (h : inb i n = true) : i.toNatClampNeg < n := Nat.not_le.mp fun q => inb_vp h (Or.inr q)
def bz (v : Int32) : Int32 := vp_nar .boolean v
theorem og {α : Type} {c : Prop} [Decidable c] {x : Option α} {r : α} (h : (if c then x else none) = some r) : c ∧ x = some r := by
  by_cases hc : c
  · rw [if_pos hc] at h; exact ⟨hc, h⟩
  · rw [if_neg hc] at h; cases h
theorem ob {α β : Type} {x : Option α} {f : α → Option β} {r : β} (h : x.bind f = some r) : ∃ a, x = some a ∧ f a = some r := by
  cases x with
  | none => cases h
  | some a => exact ⟨a, rfl, h⟩
/-- a loop: its body goes on with a state, or comes out with a result -/
def lp {S T : Type} (body : S → Option (S ⊕ T)) : Nat → S → Option T
  | 0, _ => none
  | n + 1, s => (body s).bind fun q => match q with
    | .inl s' => lp body n s'
    | .inr r => some r
def lpk {S T : Type} (body : S → Option (S ⊕ T)) (n : Nat) (r : T) (z : S ⊕ T) : Prop := match z with
  | .inl s' => lp body n s' = some r
  | .inr x => x = r
theorem lp_s {S T : Type} {body : S → Option (S ⊕ T)} {n : Nat} {s : S} {r : T} (h : lp body (n + 1) s = some r) : ∃ z, body s = some z ∧ lpk body n r z := by
  obtain ⟨z, h1, h2⟩ := ob h
  refine ⟨z, h1, ?_⟩
  cases z with
  | inl s' => exact h2
  | inr x => exact Option.some.inj h2
theorem lp_0 {S T : Type} {body : S → Option (S ⊕ T)} {s : S} {r : T} {G : Prop} (h : lp body 0 s = some r) : G := by cases h
abbrev MK : Type := ClassId × (Nat → Nat) × ClassId × ClassId × (Nat → Nat) × (Nat → Prop) × Nat
abbrev kC (K : MK) : ClassId := K.1
abbrev kS (K : MK) : Nat → Nat := K.2.1
abbrev kI (K : MK) : ClassId := K.2.2.1
abbrev kZ (K : MK) : ClassId := K.2.2.2.1
abbrev kA (K : MK) : Nat → Nat := K.2.2.2.2.1
abbrev kP (K : MK) : Nat → Prop := K.2.2.2.2.2.1
abbrev kO (K : MK) : Nat := K.2.2.2.2.2.2
def mInt (k : Nat) : Bool := k == 2 || k == 4 || k == 8 || k == 12 || k == 16 || k == 22 || k == 31 || k == 41
def mLen (k : Nat) : Nat := match k with
  | 0 => 2 | 1 => 62 | 3 => 12 | 5 => 9 | 6 => 9 | 7 => 9 | 9 => 9 | 10 => 9 | 11 => 9 | 13 => 9 | 14 => 9 | 15 => 9 | 17 => 12
  | 18 => 8 | 19 => 8 | 20 => 8 | 21 => 8 | 23 => 240 | 24 => 160 | 25 => 160 | 26 => 160 | 27 => 20 | 28 => 20 | 29 => 20 | 30 => 2
  | 32 => 8 | 33 => 8 | 34 => 8 | 35 => 200 | 36 => 4 | 37 => 4 | 38 => 4 | 39 => 240 | 40 => 60 | _ => 0
def mV (K : MK) (σ : MM) : Nat → Value := fun k => if mInt k = true then .int (σ k 0) else .ref (kA K k)
def mCell (K : MK) (σ : MM) (k : Nat) : Cell := arrV (if k = 36 then kZ K else kI K) (mLen k) (fun j => .int (σ k j))
def MWd (K : MK) (σ : MM) (H : Heap) : Prop := t_OB (kO K) (kC K) 42 (kS K) H (mV K σ) ∧ kP K (kO K) ∧ (∀ k, k < 42 → mInt k = false → H[kA K k]? = some (mCell K σ k) ∧ kP K (kA K k) ∧ kA K k ≠ kO K) ∧ ∀ a b, a < 42 → b < 42 → mInt a = false → mInt b = false → kA K a = kA K b → a = b
def MTb (K : MK) (U : State) : Prop := u_Kn U RX6 TX6 42 (kC K) (kS K) ∧ ArrOfT U (kI K) .int ∧ ArrOfT U (kZ K) .boolean
theorem MTb.moved {K : MK} {u U : State} (hvm : u.vm.Alike U.vm) (h : MTb K u) : MTb K U := ⟨u_Kn_moved hvm h.1, arrOfT_moved hvm h.2.1, arrOfT_moved hvm h.2.2⟩
def MJ (K : MK) (σ : MM) (H0 H : Heap) (locs : List Loc) : Prop := MWd K σ H ∧ va_S (kP K) H0 H locs ∧ ∀ q, H0.size ≤ q → kP K q
def MC (p : Program) (s : State) (m : MethodId) (args : Array Value) (c : Code) (cc : ByteArray) (nL : Nat) (K : MK) : Prop := CallFix p m c cc nL s args lw_all RX6 ∧ MTb K s
def MU (K : MK) (σ : MM) (U : State) : Prop := MWd K σ U.heap ∧ MTb K U ∧ ∀ q, U.heap.size ≤ q → kP K q
/-- how a method ends -/
def MEnd (p : Program) (l : Launch) (e : Env) (R : Room) (s : State) (m : MethodId) (args : Array Value) (below : List Frame) (meth : Method) (c : Code) (cc : ByteArray) (K : MK) (Q : State → Prop) (ins : Instr) (nv : Value → Value) (rv : Option Value) (σ' : MM) : Prop :=
  ∀ (H : Heap) (locs : List Loc) (ls : Array Slot) (pc : Nat) (v : Option Value), MJ K σ' s.heap H locs → v.map nv = rv → decode cc pc = .ok (ins, 1) → W p l e R s m args below meth c H locs 0 0 Q (F0 m pc ls v.toList)
def rmd (d : Nat) : Room := { frames := d, cells := 0, slots := 0, locals := 64 * d }
section MB
variable {p : Program} {l : Launch} {e : Env} {R : Room} {s : State} {m : MethodId} {args : Array Value} {below : List Frame} {meth : Method} {c : Code} {H H0 : Heap} {locs : List Loc} {cells slots : Nat} {Q : State → Prop}
variable {cc : ByteArray} {pc nL : Nat} {ls : Array Slot} {rest : List Value} {K : MK} {σ σ' : MM}
theorem mx_get (C : MC p s m args c cc nL K) (hJ : MJ K σ H0 H locs) {index : Nat} (k : Nat) (hk : k < 42) (hlink : Cond.fieldLink RX6 index (TX6 k).1 (TX6 k).2.1 (TX6 k).2.2.1 ∈ lw_all) (hdg : decode cc pc = .ok (.getfield index, 3))
    (kk : W p l e R s m args below meth c H locs cells slots Q (F0 m (pc + 3) ls (mV K σ k :: rest))) : W p l e R s m args below meth c H locs cells slots Q (F0 m pc ls (.ref (kO K) :: rest)) := by
  obtain ⟨⟨hx, hb, hml, hown, hts⟩, hKn, -, -⟩ := C
  obtain ⟨cell, q1, q2, q3, q4⟩ := hJ.1.1
  obtain ⟨hS, hfc, kC, hkC, hkind⟩ := hKn
  obtain ⟨cf, kf, fi, f, hi, hsl⟩ := hS k hk
  refine W.getf hx hb hown (hts _ hlink) hi (u_facts hfc hkC (u_lays hts in_X6 hk) hi).1 q1 (by rw [q3]; exact fun h => by cases h) (v := mV K σ k) ?_ rfl rfl hdg kk
  rw [hsl, q4 k hk]
theorem mx_gi (C : MC p s m args c cc nL K) (hJ : MJ K σ H0 H locs) {index : Nat} (k : Nat) (hk : k < 42) (hi : mInt k = true) (hlink : Cond.fieldLink RX6 index (TX6 k).1 (TX6 k).2.1 (TX6 k).2.2.1 ∈ lw_all) (hdg : decode cc pc = .ok (.getfield index, 3))
    (kk : W p l e R s m args below meth c H locs cells slots Q (F0 m (pc + 3) ls (.int (σ k 0) :: rest))) : W p l e R s m args below meth c H locs cells slots Q (F0 m pc ls (.ref (kO K) :: rest)) := by
  have e1 : mV K σ k = .int (σ k 0) := by simp [mV, hi]
  exact mx_get C hJ k hk hlink hdg (by rw [e1]; exact kk)
theorem mx_ga (C : MC p s m args c cc nL K) (hJ : MJ K σ H0 H locs) {index : Nat} (k : Nat) (hk : k < 42) (hi : mInt k = false) (hlink : Cond.fieldLink RX6 index (TX6 k).1 (TX6 k).2.1 (TX6 k).2.2.1 ∈ lw_all) (hdg : decode cc pc = .ok (.getfield index, 3))
    (kk : W p l e R s m args below meth c H locs cells slots Q (F0 m (pc + 3) ls (.ref (kA K k) :: rest))) : W p l e R s m args below meth c H locs cells slots Q (F0 m pc ls (.ref (kO K) :: rest)) := by
  have e1 : mV K σ k = .ref (kA K k) := by simp [mV, hi]
  exact mx_get C hJ k hk hlink hdg (by rw [e1]; exact kk)
theorem mx_apart (hts : ∀ w ∈ lw_all, w.before args s = true) (hK : MTb K s) : ∀ x y, x < 42 → y < 42 → x ≠ y → (kS K) x ≠ (kS K) y := by
  intro x y hx hy hne
  obtain ⟨⟨hS, -⟩, -⟩ := hK
  obtain ⟨_, _, _, fa, hia, ea⟩ := hS x hx
  obtain ⟨_, _, _, fb, hib, eb⟩ := hS y hy
  rw [← ea, ← eb]
  refine u_apart (u_lays hts in_X6 hx) (u_lays hts in_X6 hy) hia hib ?_
  rw [(State.fieldFound?_type hia (tyX6_ok x hx)).1, (State.fieldFound?_type hib (tyX6_ok y hy)).1]
  exact nmX6 x hx y hy hne
theorem mx_pi (C : MC p s m args c cc nL K) (hJ : MJ K σ H0 H locs) {index : Nat} (k : Nat) (hk : k < 42) (hi : mInt k = true) (hfin : (TX6 k).2.2.2 = false) (hd : parseFieldDescriptor (TX6 k).2.2.1 = some .int) (hlink : Cond.fieldLink RX6 index (TX6 k).1 (TX6 k).2.1 (TX6 k).2.2.1 ∈ lw_all) {v : Int32} (hdg : decode cc pc = .ok (.putfield index, 3))
    (kk : ∀ (H1 : Heap) (locs1 : List Loc), MJ K (mput σ k 0 v) H0 H1 locs1 → W p l e R s m args below meth c H1 locs1 cells slots Q (F0 m (pc + 3) ls rest)) : W p l e R s m args below meth c H locs cells slots Q (F0 m pc ls (.int v :: .ref (kO K) :: rest)) := by
  obtain ⟨⟨hx, hb, hml, hown, hts⟩, hTb⟩ := C
  have hap := mx_apart hts hTb
  obtain ⟨hKn, -, -⟩ := hTb
  obtain ⟨⟨⟨cell, q1, q2, q3, q4⟩, hPo, hAr, hinj⟩, hS0, hA⟩ := hJ
  obtain ⟨hS, hfc, kC, hkC, hkind⟩ := hKn
  obtain ⟨cf, kf, fi, f, hif, hsl⟩ := hS k hk
  have hlay := hts _ (in_X6 _ (u_in_lay hk))
  unfold u_lay at hlay
  rw [if_neg (by rw [hfin]; decide)] at hlay
  have hst := (u_facts hfc hkC (u_lays hts in_X6 hk) hif).1
  have h6 := u_store (v := .int v) hfc hkC hkind hlay hif hd rfl rfl
  refine W.putK hx hb (f := f) ⟨hown, hts _ hlink, ⟨_, _, _, hif⟩, hst⟩ (by rw [q2]; exact h6) q1 q3 (by rw [hsl]; exact k2_hasslot (q4 k hk)) rfl rfl hdg fun H' e1 e2 e3 => ?_
  rw [hsl] at e1 ⊢
  refine kk H' _ ⟨⟨?_, hPo, fun a ha hia => ?_, hinj⟩, hS0.put e2 e3 hPo, hA⟩
  · refine t_OB.to (V := updV (mV K σ) k (.int v)) ⟨_, e1, q2, q3, t_set q4 hap hk (.int v)⟩ (fun j _ => ?_)
    by_cases hj : j = k
    · subst hj
      simp [updV, mV, hi, mput, va_up, upd]
    · simp [updV, mV, hj, mput, va_up]
  · obtain ⟨h1, h2, h3⟩ := hAr a ha hia
    have hak : a ≠ k := fun q => by rw [q, hi] at hia; cases hia
    refine ⟨?_, h2, h3⟩
    rw [e3 _ h3, h1]
    simp [mCell, mput, va_up, hak]
theorem mx_il (C : MC p s m args c cc nL K) (hJ : MJ K σ H0 H locs) (k : Nat) (hk : k < 42) (hi : mInt k = false) (h36 : (k = 36) = False) {i : Int32} (hin : inb i (mLen k) = true) (hdg : decode cc pc = .ok (.iaload, 1))
    (kk : W p l e R s m args below meth c H locs cells slots Q (F0 m (pc + 1) ls (.int (σ k i.toNatClampNeg) :: rest))) : W p l e R s m args below meth c H locs cells slots Q (F0 m pc ls (.int i :: .ref (kA K k) :: rest)) := by
  obtain ⟨⟨hx, hb, hml, hown, hts⟩, -, hI, -⟩ := C
  obtain ⟨h1, -, -⟩ := hJ.1.2.2.1 k hk hi
  simp only [mCell, h36, if_false] at h1
  exact W.iald (v := .int (σ k i.toNatClampNeg)) hx hb h1 (hI (mLen k) (fun j => .int (σ k j))) (fun q => by cases q) (by rw [arrV_size]; exact inb_vp hin) (by rw [arrV_read _ _ (inb_lt hin)]) rfl rfl hdg kk
theorem mx_wr (hJ : MJ K σ H0 H locs) {k j : Nat} (hk : k < 42) (hi : mInt k = false) {v : Int32} {H1 : Heap} (e1 : H1[kA K k]? = some ((mCell K σ k).setSlot j (.int v))) (e2 : H1.size = H.size) (e3 : ∀ q, q ≠ kA K k → H1[q]? = H[q]?) : MJ K (mput σ k j v) H0 H1 (locs ++ [⟨kA K k, j⟩]) := by
  obtain ⟨⟨hO, hPo, hAr, hinj⟩, hS0, hA⟩ := hJ
  obtain ⟨h1, h2, h3⟩ := hAr k hk hi
  refine ⟨⟨?_, hPo, fun a ha hia => ?_, hinj⟩, hS0.put e2 e3 h2, hA⟩
  · refine (hO.kept (e3 _ (Ne.symm h3))).to (fun a _ => ?_)
    by_cases hak : a = k
    · subst hak
      simp [mV, hi]
    · simp [mV, mput, va_up, hak]
  · obtain ⟨g1, g2, g3⟩ := hAr a ha hia
    refine ⟨?_, g2, g3⟩
    by_cases hak : a = k
    · subst hak
      rw [e1]
      simp only [mCell]
      rw [arrV_store]
      congr 2
      funext q
      by_cases hq : q = j
      · subst hq
        simp [updV, mput, va_up, upd]
      · simp [updV, mput, va_up, upd, hq]
    · rw [e3 _ (fun z => hak (hinj a k ha hk hia hi z)), g1]
      simp [mCell, mput, va_up, hak]
theorem mx_is (C : MC p s m args c cc nL K) (hJ : MJ K σ H0 H locs) (k : Nat) (hk : k < 42) (hi : mInt k = false) (h36 : (k = 36) = False) {i v : Int32} (hin : inb i (mLen k) = true) (hdg : decode cc pc = .ok (.iastore, 1))
    (kk : ∀ (H1 : Heap) (locs1 : List Loc), MJ K (mput σ k i.toNatClampNeg v) H0 H1 locs1 → W p l e R s m args below meth c H1 locs1 cells slots Q (F0 m (pc + 1) ls rest)) : W p l e R s m args below meth c H locs cells slots Q (F0 m pc ls (.int v :: .int i :: .ref (kA K k) :: rest)) := by
  obtain ⟨⟨hx, hb, hml, hown, hts⟩, -, hI, -⟩ := C
  obtain ⟨h1, -, -⟩ := hJ.1.2.2.1 k hk hi
  have h1' := h1
  simp only [mCell, h36, if_false] at h1
  refine W.iast hx hb h1 (hI (mLen k) (fun j => .int (σ k j))) (fun q => by cases q) (by rw [arrV_size]; exact inb_vp hin) rfl rfl hdg fun H1 e z oq => ?_
  exact kk H1 _ (mx_wr hJ hk hi (by simp only [mCell, h36, if_false]; exact e) z oq)
theorem mx_zl (C : MC p s m args c cc nL K) (hJ : MJ K σ H0 H locs) {i : Int32} (hin : inb i 4 = true) (hdg : decode cc pc = .ok (.baload, 1))
    (kk : W p l e R s m args below meth c H locs cells slots Q (F0 m (pc + 1) ls (.int (σ 36 i.toNatClampNeg) :: rest))) : W p l e R s m args below meth c H locs cells slots Q (F0 m pc ls (.int i :: .ref (kA K 36) :: rest)) := by
  obtain ⟨⟨hx, hb, hml, hown, hts⟩, -, -, hZ⟩ := C
  obtain ⟨h1, -, -⟩ := hJ.1.2.2.1 36 (by decide) rfl
  simp only [mCell, if_true] at h1
  exact W.zald (v := .int (σ 36 i.toNatClampNeg)) hx hb h1 (hZ (mLen 36) (fun j => .int (σ 36 j))) (fun q => by cases q) (by rw [arrV_size]; exact inb_vp hin) (by rw [arrV_read _ _ (show i.toNatClampNeg < mLen 36 from inb_lt hin)]) rfl rfl hdg kk
theorem mx_zs (C : MC p s m args c cc nL K) (hJ : MJ K σ H0 H locs) {i v : Int32} (hin : inb i 4 = true) (hdg : decode cc pc = .ok (.bastore, 1))
    (kk : ∀ (H1 : Heap) (locs1 : List Loc), MJ K (mput σ 36 i.toNatClampNeg (bz v)) H0 H1 locs1 → W p l e R s m args below meth c H1 locs1 cells slots Q (F0 m (pc + 1) ls rest)) : W p l e R s m args below meth c H locs cells slots Q (F0 m pc ls (.int v :: .int i :: .ref (kA K 36) :: rest)) := by
  obtain ⟨⟨hx, hb, hml, hown, hts⟩, -, -, hZ⟩ := C
  obtain ⟨h1, -, -⟩ := hJ.1.2.2.1 36 (by decide) rfl
  simp only [mCell, if_true] at h1
  refine W.zast hx hb h1 (hZ (mLen 36) (fun j => .int (σ 36 j))) (fun q => by cases q) (by rw [arrV_size]; exact inb_vp hin) rfl rfl hdg fun H1 e z oq => ?_
  exact kk H1 _ (mx_wr hJ (by decide) rfl (by simp only [mCell, if_true]; exact e) z oq)
end MB
