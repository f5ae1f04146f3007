/-! THE COMPONENT's MEMORY: kind, cell, slot; where its cells lie, what they hold -/
set_option maxRecDepth 100000
abbrev CM : Type := Nat → Nat → Nat → Int32
def cput (ρ : CM) (k i j : Nat) (v : Int32) : CM := va_up ρ k (va_up (ρ k) i (upd (ρ k i) j v))
theorem cput_at (ρ : CM) (k i j : Nat) (v : Int32) (a b c : Nat) : cput ρ k i j v a b c = if a = k ∧ b = i ∧ c = j then v else ρ a b c := by
  unfold cput va_up upd
  by_cases h1 : a = k
  · subst h1
    by_cases h2 : b = i
    · subst h2
      by_cases h3 : c = j <;> simp [h3]
    · simp [h2]
  · simp [h1]
theorem cput_ne {ρ : CM} {k i j : Nat} {v : Int32} {a b c : Nat} (h : ¬ (a = k ∧ b = i ∧ c = j)) : cput ρ k i j v a b c = ρ a b c := by
  rw [cput_at, if_neg h]
theorem cput_eq (ρ : CM) (k i j : Nat) (v : Int32) : cput ρ k i j v k i j = v := by
  rw [cput_at, if_pos ⟨rfl, rfl, rfl⟩]
/-- where things are: classes' numbers and slots, array classes, static cells, the three sorts, the empty list's array, SORT, what may be written -/
abbrev CK : Type := (Nat → ClassId) × (Nat → Nat → Nat) × (Nat → ClassId) × (Nat → Nat → Nat) × (Nat → Nat) × Nat × Nat × (Nat → Prop)
abbrev cC (K : CK) : Nat → ClassId := K.1
abbrev cI (K : CK) : Nat → Nat → Nat := K.2.1
abbrev cR (K : CK) : Nat → ClassId := K.2.2.1
abbrev cA (K : CK) : Nat → Nat → Nat := K.2.2.2.1
abbrev cSo (K : CK) : Nat → Nat := K.2.2.2.2.1
abbrev cEm (K : CK) : Nat := K.2.2.2.2.2.1
abbrev cSa (K : CK) : Nat := K.2.2.2.2.2.2.1
abbrev cP (K : CK) : Nat → Prop := K.2.2.2.2.2.2.2
def dyn (k : Nat) : Bool := k == 5 || k == 17 || k == 19 || k == 20 || k == 23
def adr (K : CK) (D : Nat → Nat → Nat) (k i : Nat) : Nat := if dyn k = true then D k i else cA K k i
def oR (k : Nat) : String := match k with
  | 0 => RX0 | 1 => RX2 | 2 => RX3 | 3 => RX4 | 4 => RX5 | 5 => RX8 | _ => RJ2
def oT (k : Nat) : u_T := match k with
  | 0 => TX0 | 1 => TX2 | 2 => TX3 | 3 => TX4 | 4 => TX5 | 5 => TX8 | _ => TJ2
def oN (k : Nat) : Nat := match k with
  | 0 => 18 | 1 => 7 | 2 => 6 | 3 => 6 | 4 => 1 | 5 => 3 | _ => 3
def oTy (k : Nat) : Nat → FieldType := match k with
  | 0 => tyX0 | 1 => tyX2 | 2 => tyX3 | 3 => tyX4 | 4 => tyX5 | 5 => tyX8 | _ => tyJ2
theorem in_o (k : Nat) : ∀ w ∈ u_ws (oR k) (oT k) (oN k), w ∈ lw_all := by
  match k with
  | 0 => exact in_X0
  | 1 => exact in_X2
  | 2 => exact in_X3
  | 3 => exact in_X4
  | 4 => exact in_X5
  | 5 => exact in_X8
  | k + 6 => exact in_J2
theorem ty_o (k : Nat) : ∀ j, j < oN k → parseFieldDescriptor (oT k j).2.2.1 = some (oTy k j) := by
  match k with
  | 0 => exact tyX0_ok
  | 1 => exact tyX2_ok
  | 2 => exact tyX3_ok
  | 3 => exact tyX4_ok
  | 4 => exact tyX5_ok
  | 5 => exact tyX8_ok
  | k + 6 => exact tyJ2_ok
theorem nm_o (k : Nat) : ∀ a, a < oN k → ∀ b, b < oN k → a ≠ b → (oT k a).2.1 ≠ (oT k b).2.1 := by
  match k with
  | 0 => exact nmX0
  | 1 => exact nmX2
  | 2 => exact nmX3
  | 3 => exact nmX4
  | 4 => exact nmX5
  | 5 => exact nmX8
  | k + 6 => exact nmJ2
/-- how many a list holds -/
def lsz (ρ : CM) (i : Nat) : Nat := (ρ 6 i 2).toNatClampNeg
def clive (ρ : CM) (k i : Nat) : Bool := match k with
  | 3 => decide (i < 168)
  | 4 => decide (i < 4)
  | 5 => decide (i < lsz ρ 3)
  | 6 => decide (i < 4)
  | 7 => decide (i < 21)
  | 11 => decide (i < 20)
  | 13 => decide (i < 10)
  | 17 => decide (i < lsz ρ 0)
  | 18 => decide (i < 8)
  | 19 => decide (i < lsz ρ 2)
  | 20 => decide (i < 4) && !decide (ρ 4 i 0 = 0)
  | 23 => decide (i < 4) && !decide (ρ 6 i 1 = 0)
  | _ => decide (i = 0) && decide (k < 24)
/-- which list 'events' is -/
def evl (x : Int32) : Nat := if x = 0 then 0 else 1
/-- what an object's field holds: a reference to a name, or an int -/
def oV (K : CK) (D : Nat → Nat → Nat) (ρ : CM) (k i : Nat) : Nat → Value := fun f => match k, f with
  | 0, 1 => .ref (cA K 1 0) | 0, 2 => .ref (cA K 2 0) | 0, 3 => .ref (cA K 6 (evl (ρ 0 i 3))) | 0, 4 => .ref (cA K 7 20) | 0, 5 => .ref (cA K 8 0) | 0, 6 => .ref (cA K 10 0)
  | 0, 7 => .ref (cA K 12 0) | 0, 12 => .ref (cA K 6 2) | 0, 13 => .ref (cA K 14 0) | 0, 15 => .ref (cA K 6 1) | 0, 16 => .ref (cA K 16 0) | 0, 17 => .ref (cA K 15 0)
  | 1, 0 => .ref (cA K 21 0) | 1, 5 => .ref (cA K 9 0)
  | 2, 0 => .ref (cA K 22 0) | 2, 5 => .ref (cA K 6 3)
  | 4, 0 => if ρ 4 i 0 = 0 then .null else .ref (D 20 i)
  | 5, 0 => .ref (cSo K (ρ 5 i 0).toNatClampNeg)
  | 6, 1 => if ρ 6 i 1 = 0 then .ref (cEm K) else .ref (D 23 i)
  | k, f => .int (ρ k i f)
/-- the j-th of a list -/
def elA (K : CK) (D : Nat → Nat → Nat) (i j : Nat) : Nat := match i with
  | 0 => D 17 j | 1 => cA K 18 j | 2 => D 19 j | _ => D 5 j
def aV (K : CK) (D : Nat → Nat → Nat) (ρ : CM) (k i : Nat) : Nat → Value := fun j => match k with
  | 7 => .ref (cA K 3 (8 * i + j)) | 8 => .ref (cA K 7 j) | 12 => .ref (cA K 11 j) | 14 => .ref (cA K 13 j) | 15 => .ref (cA K 4 j) | 16 => .ref (cA K 18 j)
  | 23 => if j < lsz ρ i then .ref (elA K D i j) else .null
  | k => .int (ρ k i j)
def aLen (ρ : CM) (k i : Nat) : Nat := match k with
  | 7 => 8 | 8 => 20 | 9 => 12 | 10 => 12 | 11 => 12 | 12 => 20 | 13 => 20 | 14 => 10 | 15 => 4 | 16 => 8 | 17 => 3 | 18 => 3 | 19 => 3
  | 20 => (ρ 4 i 1).toNatClampNeg | 21 => 12 | 22 => 31 | 23 => 10 | _ => 0
/-- an array's type by a code: 0 int, 1 byte, 2 short, 3 Louse, 4 rows of Louse, 5 rows of int, 6 Sheet, 7 Object -/
def aTy (t : Nat) : FieldType := match t with
  | 0 => .int | 1 => .byte | 2 => .short | 3 => .object "WoodliceSenate$Louse" | 4 => .array (.object "WoodliceSenate$Louse") | 5 => .array .int | 6 => .object "WoodliceSenate$Sheet" | _ => .object "java/lang/Object"
def aCd (ρ : CM) (k i : Nat) : Nat := match k with
  | 7 => 3 | 8 => 4 | 12 => 5 | 14 => 5 | 16 => 5 | 15 => 6 | 23 => 7 | 21 => 1 | 22 => 1
  | 20 => if ρ 4 i 0 = 1 then 1 else if ρ 4 i 0 = 2 then 2 else 0
  | _ => 0
def aCell (K : CK) (D : Nat → Nat → Nat) (ρ : CM) (k i : Nat) : Cell := arrV (cR K (aCd ρ k i)) (aLen ρ k i) (aV K D ρ k i)
def HWd (K : CK) (D : Nat → Nat → Nat) (ρ : CM) (H : Heap) : Prop :=
  (∀ k i, k < 7 → clive ρ k i = true → t_OB (adr K D k i) (cC K k) (oN k) (cI K k) H (oV K D ρ k i)) ∧
  (∀ k i, 7 ≤ k → clive ρ k i = true → H[adr K D k i]? = some (aCell K D ρ k i)) ∧
  (∀ k i k' i', clive ρ k i = true → clive ρ k' i' = true → adr K D k i = adr K D k' i' → k = k' ∧ i = i') ∧
  (∀ k i, clive ρ k i = true → cP K (adr K D k i))
/-- words of nest mates and casts, which don't ride in the lists -/
def cNest : List Cond := [Cond.fieldLinkNest "WoodliceSenate" 192 "WoodliceSenate$Member" "sort" "LWoodliceSenate$Sort;" "WoodliceSenate", Cond.fieldLinkNest "WoodliceSenate" 325 "WoodliceSenate$Member" "place" "I" "WoodliceSenate",
  Cond.fieldLinkNest "WoodliceSenate" 208 "WoodliceSenate$Louse" "place" "I" "WoodliceSenate", Cond.fieldLinkNest "WoodliceSenate" 204 "WoodliceSenate$Louse" "upright" "Z" "WoodliceSenate", Cond.fieldLinkNest "WoodliceSenate" 201 "WoodliceSenate$Louse" "till" "I" "WoodliceSenate",
  Cond.fieldLinkNest "WoodliceSenate" 232 "WoodliceSenate$Louse" "rolled" "Z" "WoodliceSenate", Cond.fieldLinkNest "WoodliceSenate" 235 "WoodliceSenate$Louse" "speeches" "I" "WoodliceSenate", Cond.fieldLinkNest "WoodliceSenate" 244 "WoodliceSenate$Louse" "went" "Z" "WoodliceSenate",
  Cond.fieldLinkNest "WoodliceSenate" 123 "WoodliceSenate$Sheet" "row" "Ljava/lang/Object;" "WoodliceSenate", Cond.fieldLinkNest "WoodliceSenate$Text" 59 "WoodliceSenate$Torn" "place" "I" "WoodliceSenate", Cond.fieldLinkNest "WoodliceSenate$Roll" 27 "WoodliceSenate" "SORT" "[LWoodliceSenate$Sort;" "WoodliceSenate", Cond.fieldLinkNest "WoodliceSenate$Louse" 9 "WoodliceSenate$Member" "place" "I" "WoodliceSenate", Cond.fieldLinkNest "WoodliceSenate$Louse" 18 "WoodliceSenate$Member" "upright" "Z" "WoodliceSenate",
  Cond.declares ⟨"WoodliceSenate$Text", "clear", "()V"⟩, Cond.declares ⟨"WoodliceSenate$Text", "isFull", "()Z"⟩, Cond.declares ⟨"WoodliceSenate$Text", "part", "()V"⟩, Cond.privateMethod ⟨"WoodliceSenate$Text", "reads", "()I"⟩, Cond.privateMethod ⟨"WoodliceSenate$Text", "next", "()V"⟩, Cond.castable "WoodliceSenate$Member" "java/lang/Object", Cond.castable "[I" "java/lang/Object",
  Cond.arrayOver (.object "java/lang/Object"), Cond.arrayOver (.object "WoodliceSenate$Louse"), Cond.arrayOver (.array (.object "WoodliceSenate$Louse")), Cond.arrayOver (.array .int), Cond.arrayOver (.object "WoodliceSenate$Sheet")]
def CTb (K : CK) (U : State) : Prop := (∀ k, k < 7 → u_Kn U (oR k) (oT k) (oN k) (cC K k) (cI K k)) ∧ (∀ t, t < 8 → ArrOfT U (cR K t) (aTy t) ∧ U.vm.findClass ("[" ++ (aTy t).toString) = some (cR K t)) ∧ ∀ w ∈ cNest, va_Nw w U
section CB
variable {p : Program} {l : Launch} {e : Env} {R : Room} {s : State} {m : MethodId} {args : Array Value} {below : List Frame} {meth : Method} {c : Code} {H H0 : Heap} {locs : List Loc} {cells slots : Nat} {Q : State → Prop}
variable {cc : ByteArray} {pc nL : Nat} {ls : Array Slot} {rest : List Value} {K : CK} {D : Nat → Nat → Nat} {ρ : CM} {own : String}
theorem clive_lt {k i : Nat} (h : clive ρ k i = true) : k < 24 := by
  unfold clive at h
  split at h <;> first | omega | (simp only [Bool.and_eq_true, decide_eq_true_eq] at h; exact h.2)
theorem hx_get (F : CallFix p m c cc nL s args lw_all own) (hT : CTb K s) (hW : HWd K D ρ H) {index : Nat} (k i f : Nat) (hk : k < 7) (hf : f < oN k) (hlv : clive ρ k i = true)
    (hlink : (Cond.fieldLink own index (oT k f).1 (oT k f).2.1 (oT k f).2.2.1).before args s = true) (hdg : decode cc pc = .ok (.getfield index, 3))
    (kk : W p l e R s m args below meth c H locs cells slots Q (F0 m (pc + 3) ls (oV K D ρ k i f :: rest))) : W p l e R s m args below meth c H locs cells slots Q (F0 m pc ls (.ref (adr K D k i) :: rest)) := by
  obtain ⟨hx, hb, hml, hown, hts⟩ := F
  obtain ⟨cell, q1, q2, q3, q4⟩ := hW.1 k i hk hlv
  obtain ⟨hS, hfc, kC, hkC, hkind⟩ := hT.1 k hk
  obtain ⟨cf, kf, fi, fd, hi, hsl⟩ := hS f hf
  refine W.getf hx hb hown hlink hi (u_facts hfc hkC (u_lays hts (in_o k) hf) hi).1 q1 (by rw [q3]; exact fun h => by cases h) (v := oV K D ρ k i f) ?_ rfl rfl hdg kk
  rw [hsl, q4 f hf]
theorem hx_getN (F : CallFix p m c cc nL s args lw_all own) (hT : CTb K s) (hW : HWd K D ρ H) {index : Nat} {host : String} (k i f : Nat) (hk : k < 7) (hf : f < oN k) (hlv : clive ρ k i = true)
    (hlink : (Cond.fieldLinkNest own index (oT k f).1 (oT k f).2.1 (oT k f).2.2.1 host).before args s = true) (hdg : decode cc pc = .ok (.getfield index, 3))
    (kk : W p l e R s m args below meth c H locs cells slots Q (F0 m (pc + 3) ls (oV K D ρ k i f :: rest))) : W p l e R s m args below meth c H locs cells slots Q (F0 m pc ls (.ref (adr K D k i) :: rest)) := by
  obtain ⟨hx, hb, hml, hown, hts⟩ := F
  obtain ⟨cell, q1, q2, q3, q4⟩ := hW.1 k i hk hlv
  obtain ⟨hS, hfc, kC, hkC, hkind⟩ := hT.1 k hk
  obtain ⟨cf, kf, fi, fd, hi, hsl⟩ := hS f hf
  refine va_Wgetf hx hb hown hlink hi (u_facts hfc hkC (u_lays hts (in_o k) hf) hi).1 q1 (by rw [q3]; exact fun h => by cases h) (v := oV K D ρ k i f) ?_ rfl rfl hdg kk
  rw [hsl, q4 f hf]
theorem hx_apart (hts : ∀ w ∈ lw_all, w.before args s = true) (hT : CTb K s) {k : Nat} (hk : k < 7) : ∀ x y, x < oN k → y < oN k → x ≠ y → (cI K k) x ≠ (cI K k) y := by
  intro x y hx hy hne
  obtain ⟨hS, -⟩ := hT.1 k hk
  obtain ⟨_, _, _, fa, hia, ea⟩ := hS x hx
  obtain ⟨_, _, _, fb, hib, eb⟩ := hS y hy
  rw [← ea, ← eb]
  refine u_apart (u_lays hts (in_o k) hx) (u_lays hts (in_o k) hy) hia hib ?_
  rw [(State.fieldFound?_type hia (ty_o k x hx)).1, (State.fieldFound?_type hib (ty_o k y hy)).1]
  exact nm_o k x hx y hy hne
/-- a field is put: the object's cell anew, nothing else -/
theorem hx_put (F : CallFix p m c cc nL s args lw_all own) (hT : CTb K s) (hW : HWd K D ρ H) {index : Nat} (k i f : Nat) (hk : k < 7) (hf : f < oN k) (hlv : clive ρ k i = true) (hfin : (oT k f).2.2.2 = false) {v : Value} (hn : narrow (oTy k f) v = v) (hfit : fits (oTy k f) v = true)
    (hlink : (Cond.fieldLink own index (oT k f).1 (oT k f).2.1 (oT k f).2.2.1).before args s = true ∨ ∃ host, (Cond.fieldLinkNest own index (oT k f).1 (oT k f).2.1 (oT k f).2.2.1 host).before args s = true) (hdg : decode cc pc = .ok (.putfield index, 3))
    (kk : ∀ (H1 : Heap) (n : Nat), t_OB (adr K D k i) (cC K k) (oN k) (cI K k) H1 (updV (oV K D ρ k i) f v) → H1.size = H.size → (∀ q, q ≠ adr K D k i → H1[q]? = H[q]?) → W p l e R s m args below meth c H1 (locs ++ [⟨adr K D k i, n⟩]) cells slots Q (F0 m (pc + 3) ls rest)) : W p l e R s m args below meth c H locs cells slots Q (F0 m pc ls (v :: .ref (adr K D k i) :: rest)) := by
  obtain ⟨hx, hb, hml, hown, hts⟩ := F
  have hap := hx_apart hts hT hk
  obtain ⟨cell, q1, q2, q3, q4⟩ := hW.1 k i hk hlv
  obtain ⟨hS, hfc, kC, hkC, hkind⟩ := hT.1 k hk
  obtain ⟨cf, kf, fi, fd, hif, hsl⟩ := hS f hf
  have hlay := hts _ (in_o k _ (u_in_lay hf))
  unfold u_lay at hlay
  rw [if_neg (by rw [hfin]; decide)] at hlay
  have hst := (u_facts hfc hkC (u_lays hts (in_o k) hf) hif).1
  have h6 := u_store (v := v) hfc hkC hkind hlay hif (ty_o k f hf) hn hfit
  rcases hlink with hlink | ⟨host, hlink⟩
  · refine W.putK hx hb (f := fd) ⟨hown, hlink, ⟨_, _, _, hif⟩, hst⟩ (by rw [q2]; exact h6) q1 q3 (by rw [hsl]; exact k2_hasslot (q4 f hf)) rfl rfl hdg fun H' e1 e2 e3 => ?_
    rw [hsl] at e1
    exact kk H' _ ⟨_, e1, q2, q3, t_set q4 hap hf v⟩ e2 e3
  · refine va_WputK hx hb (f := fd) hown hlink hif hst (by rw [q2]; exact h6) q1 q3 (by rw [hsl]; exact k2_hasslot (q4 f hf)) rfl rfl hdg fun H' e1 e2 e3 => ?_
    rw [hsl] at e1
    exact kk H' _ ⟨_, e1, q2, q3, t_set q4 hap hf v⟩ e2 e3
end CB
