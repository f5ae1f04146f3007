/-! THE COMPONENT's ARRAYS; logical memory over real memory -/
set_option maxRecDepth 100000
def aInt (k : Nat) : Bool := k == 9 || k == 10 || k == 11 || k == 13 || k == 17 || k == 18 || k == 19
def aRf (k : Nat) : Bool := k == 7 || k == 8 || k == 12 || k == 14 || k == 15 || k == 16
section CB3
variable {p : Program} {l : Launch} {e : Env} {R : Room} {s : State} {m : MethodId} {args : Array Value} {below : List Frame} {meth : Method} {c : Code} {H H0 H1 : Heap} {locs : List Loc} {cells slots : Nat} {Q : State → Prop}
variable {cc : ByteArray} {pc nL : Nat} {ls : Array Slot} {rest : List Value} {K : CK} {D : Nat → Nat → Nat} {ρ ρ' σ : CM} {own : String}
theorem aInt_s {k : Nat} (h : aInt k = true) (K : CK) (D : Nat → Nat → Nat) (ρ : CM) (i : Nat) : 7 ≤ k ∧ aCd ρ k i = 0 ∧ aV K D ρ k i = fun j => .int (ρ k i j) := by
  simp only [aInt, Bool.or_eq_true, beq_iff_eq] at h
  rcases h with (((((h | h) | h) | h) | h) | h) | h <;> subst h <;> exact ⟨by decide, rfl, rfl⟩
theorem hx_il (F : CallFix p m c cc nL s args lw_all own) (hT : CTb K s) (hW : HWd K D ρ H) (k i : Nat) (ha : aInt k = true) (hlv : clive ρ k i = true) {x : Int32} (hin : inb x (aLen ρ k i) = true) (hdg : decode cc pc = .ok (.iaload, 1))
    (kk : W p l e R s m args below meth c H locs cells slots Q (F0 m (pc + 1) ls (.int (ρ k i x.toNatClampNeg) :: rest))) : W p l e R s m args below meth c H locs cells slots Q (F0 m pc ls (.int x :: .ref (adr K D k i) :: rest)) := by
  obtain ⟨hx, hb, hml, hown, hts⟩ := F
  obtain ⟨h7, hc, hv⟩ := aInt_s ha K D ρ i
  have h1 := hW.2.1 k i h7 hlv
  unfold aCell at h1
  rw [hc, hv] at h1
  exact W.iald (v := .int (ρ k i x.toNatClampNeg)) hx hb h1 ((hT.2.1 0 (by decide)).1 (aLen ρ k i) (fun j => .int (ρ k i j))) (fun q => by cases q) (by rw [arrV_size]; exact inb_vp hin) (by rw [arrV_read _ _ (inb_lt hin)]) rfl rfl hdg kk
theorem hx_is (F : CallFix p m c cc nL s args lw_all own) (hT : CTb K s) (hW : HWd K D ρ H) (k i : Nat) (ha : aInt k = true) (hlv : clive ρ k i = true) {x v : Int32} (hin : inb x (aLen ρ k i) = true) (hdg : decode cc pc = .ok (.iastore, 1))
    (kk : ∀ (H1 : Heap) (n : Nat), HWd K D (cput ρ k i x.toNatClampNeg v) H1 → H1.size = H.size → (∀ q, q ≠ adr K D k i → H1[q]? = H[q]?) → W p l e R s m args below meth c H1 (locs ++ [⟨adr K D k i, n⟩]) cells slots Q (F0 m (pc + 1) ls rest)) : W p l e R s m args below meth c H locs cells slots Q (F0 m pc ls (.int v :: .int x :: .ref (adr K D k i) :: rest)) := by
  obtain ⟨hx, hb, hml, hown, hts⟩ := F
  obtain ⟨h7, hc, hv⟩ := aInt_s ha K D ρ i
  have h1 := hW.2.1 k i h7 hlv
  unfold aCell at h1
  rw [hc, hv] at h1
  refine W.iast hx hb h1 ((hT.2.1 0 (by decide)).1 (aLen ρ k i) (fun j => .int (ρ k i j))) (fun q => by cases q) (by rw [arrV_size]; exact inb_vp hin) rfl rfl hdg fun H1 e1 e2 e3 => ?_
  have hpl : plain k x.toNatClampNeg = true := by
    simp only [aInt, Bool.or_eq_true, beq_iff_eq] at ha
    rcases ha with (((((h | h) | h) | h) | h) | h) | h <;> subst h <;> rfl
  have hS := cput_same (ρ := ρ) (i := i) (v := v) hpl
  refine kk H1 _ (hW.wr hS hlv (fun a b hq j => cput_ne (fun z => hq ⟨z.1, z.2.1⟩)) e3 (fun z => by omega) (fun _ => ?_)) e2 e3
  obtain ⟨-, hc', hv'⟩ := aInt_s ha K D (cput ρ k i x.toNatClampNeg v) i
  rw [e1]
  unfold aCell
  rw [hc', hv', hS.len, arrV_store]
  congr 2
  funext q
  by_cases hq : q = x.toNatClampNeg
  · subst hq
    rw [cput_eq]
    simp [updV]
  · rw [cput_ne (fun z => hq z.2.2)]
    simp [updV, hq]
theorem hx_al (F : CallFix p m c cc nL s args lw_all own) (hT : CTb K s) (hW : HWd K D ρ H) (k i : Nat) (ha : aRf k = true) (hlv : clive ρ k i = true) {x : Int32} (hin : inb x (aLen ρ k i) = true) (hdg : decode cc pc = .ok (.aaload, 1))
    (kk : W p l e R s m args below meth c H locs cells slots Q (F0 m (pc + 1) ls (aV K D ρ k i x.toNatClampNeg :: rest))) : W p l e R s m args below meth c H locs cells slots Q (F0 m pc ls (.int x :: .ref (adr K D k i) :: rest)) := by
  obtain ⟨hx, hb, hml, hown, hts⟩ := F
  have h0 : 7 ≤ k ∧ aCd ρ k i < 8 ∧ (aTy (aCd ρ k i)).isReference = true := by
    simp only [aRf, Bool.or_eq_true, beq_iff_eq] at ha
    rcases ha with ((((h | h) | h) | h) | h) | h <;> subst h <;> exact ⟨by decide, Nat.le_of_ble_eq_true rfl, rfl⟩
  have h1 := hW.2.1 k i h0.1 hlv
  exact W.aald (v := aV K D ρ k i x.toNatClampNeg) hx hb h1 ((hT.2.1 _ h0.2.1).1 (aLen ρ k i) (aV K D ρ k i)) h0.2.2 (fun q => by cases q) (by show ¬ (x < 0 ∨ (arrV _ _ _).slots.size ≤ _); rw [arrV_size]; exact inb_vp hin) (by show (arrV _ _ _).slots[_]? = _; rw [arrV_read _ _ (inb_lt hin)]) rfl rfl hdg kk
end CB3
/-- places that only the real memory knows: at, fresh, modCount, whether a list has grown -/
def junk (k j : Nat) : Bool := (k == 1 && (j == 2 || j == 3)) || (k == 2 && (j == 2 || j == 3)) || (k == 6 && (j == 0 || j == 1))
/-- what is read out of the stone's text, out of the roll's -/
def tdS (k j : Nat) : Bool := (k == 1 && (j == 4 || j == 6)) || k == 9
def tdR (k i j : Nat) : Bool := (k == 2 && j == 4) || k == 5 || (k == 6 && i == 3 && j == 2)
def vis (m1 m2 : Bool) (k i j : Nat) : Bool := !junk k j && ((!tdS k j || m1) && (!tdR k i j || m2))
def wok (m1 m2 : Bool) (k i j : Nat) : Bool := !junk k j && ((!(k == 1 || k == 21 || k == 9) || (tdS k j && m1)) && (!(k == 2 || k == 22 || k == 5 || (k == 6 && i == 3 && j == 2)) || (tdR k i j && m2)))
/-- a list that holds something has grown; none holds more than eight -/
def LG (ρ : CM) : Prop := ∀ i, i < 4 → lsz ρ i ≤ 8 ∧ (lsz ρ i ≠ 0 → ρ 6 i 1 ≠ 0) ∧ ρ 6 i 2 = nI (lsz ρ i)
theorem LG.put {ρ : CM} {k i j : Nat} {v : Int32} (h : LG ρ) (hpl : plain k j = true) : LG (cput ρ k i j v) := by
  have hS := cput_same (ρ := ρ) (i := i) (v := v) hpl
  intro a ha
  rw [hS.lsz, hS.2.1, hS.1]
  exact h a ha
def Lz (m1 m2 : Bool) (ρ σ : CM) : Prop := (∀ k i j, junk k j = false → tdS k j = false → tdR k i j = false → ρ k i j = σ k i j) ∧
  ((ρ 1 0 3 = 1 ∧ ∀ k i j, tdS k j = true → ρ k i j = σ k i j) ∨ (m1 = false ∧ ρ 1 0 3 = 0 ∧ stoneOK (σ 1 0) (σ 9 0) (σ 21 0))) ∧
  ((ρ 2 0 3 = 1 ∧ ∀ k i j, tdR k i j = true → ρ k i j = σ k i j) ∨ (m2 = false ∧ ρ 2 0 3 = 0 ∧ rollOK (σ 2 0) (σ 6 3 2) (σ 5) (σ 22 0))) ∧ LG ρ
theorem Lz.weak {m1 m2 n1 n2 : Bool} {ρ σ : CM} (h : Lz m1 m2 ρ σ) (h1 : n1 = true → m1 = true) (h2 : n2 = true → m2 = true) : Lz n1 n2 ρ σ := by
  refine ⟨h.1, ?_, ?_, h.2.2.2⟩
  · rcases h.2.1 with a | ⟨a, b⟩
    · exact Or.inl a
    · refine Or.inr ⟨?_, b⟩
      cases n1 with
      | false => rfl
      | true => rw [h1 rfl] at a; cases a
  · rcases h.2.2.1 with a | ⟨a, b⟩
    · exact Or.inl a
    · refine Or.inr ⟨?_, b⟩
      cases n2 with
      | false => rfl
      | true => rw [h2 rfl] at a; cases a
theorem Lz.at {m1 m2 : Bool} {ρ σ : CM} (h : Lz m1 m2 ρ σ) {k i j : Nat} (hv : vis m1 m2 k i j = true) : ρ k i j = σ k i j := by
  simp only [vis, Bool.and_eq_true, Bool.not_eq_true', Bool.or_eq_true] at hv
  obtain ⟨hj, hs, hr⟩ := hv
  by_cases h1 : tdS k j = true
  · have hm : m1 = true := by
      rcases hs with z | z
      · rw [h1] at z; cases z
      · exact z
    rcases h.2.1 with ⟨-, a⟩ | ⟨a, -⟩
    · exact a k i j h1
    · rw [hm] at a; cases a
  · by_cases h2 : tdR k i j = true
    · have hm : m2 = true := by
        rcases hr with z | z
        · rw [h2] at z; cases z
        · exact z
      rcases h.2.2.1 with ⟨-, a⟩ | ⟨a, -⟩
      · exact a k i j h2
      · rw [hm] at a; cases a
    · exact h.1 k i j hj (by simpa using h1) (by simpa using h2)
theorem cput_both {ρ σ : CM} {k i j a b d : Nat} {v : Int32} (h : ρ a b d = σ a b d) : cput ρ k i j v a b d = cput σ k i j v a b d := by
  rw [cput_at, cput_at, h]
theorem Lz.put {m1 m2 : Bool} {ρ σ : CM} (h : Lz m1 m2 ρ σ) {k i j : Nat} (hv : wok m1 m2 k i j = true) (hpl : plain k j = true) (v : Int32) : Lz m1 m2 (cput ρ k i j v) (cput σ k i j v) := by
  simp only [wok, Bool.and_eq_true, Bool.not_eq_true', Bool.or_eq_true] at hv
  obtain ⟨hj, hs, hr⟩ := hv
  refine ⟨fun a b d x y z => cput_both (h.1 a b d x y z), ?_, ?_, h.2.2.2.put hpl⟩
  · have hf : cput ρ k i j v 1 0 3 = ρ 1 0 3 := cput_ne (fun z => by obtain ⟨rfl, -, rfl⟩ := z; simp [junk] at hj)
    rcases h.2.1 with ⟨a, b⟩ | ⟨a, b, q⟩
    · exact Or.inl ⟨by rw [hf]; exact a, fun x y z w => cput_both (b x y z w)⟩
    · refine Or.inr ⟨a, by rw [hf]; exact b, ?_⟩
      rcases hs with z | ⟨-, z⟩
      · simp only [Bool.or_eq_false_iff, beq_eq_false_iff_ne, ne_eq] at z
        have g : ∀ x, x = 1 ∨ x = 9 ∨ x = 21 → cput σ k i j v x 0 = σ x 0 := fun x hx => by
          funext y
          exact cput_ne (fun w => by omega)
        rw [g 1 (by omega), g 9 (by omega), g 21 (by omega)]
        exact q
      · rw [a] at z; cases z
  · have hf : cput ρ k i j v 2 0 3 = ρ 2 0 3 := cput_ne (fun z => by obtain ⟨rfl, -, rfl⟩ := z; simp [junk] at hj)
    rcases h.2.2.1 with ⟨a, b⟩ | ⟨a, b, q⟩
    · exact Or.inl ⟨by rw [hf]; exact a, fun x y z w => cput_both (b x y z w)⟩
    · refine Or.inr ⟨a, by rw [hf]; exact b, ?_⟩
      rcases hr with z | ⟨-, z⟩
      · simp only [Bool.or_eq_false_iff, beq_eq_false_iff_ne, ne_eq, Bool.and_eq_false_iff] at z
        have g : ∀ x, x = 2 ∨ x = 22 → cput σ k i j v x 0 = σ x 0 := fun x hx => by
          funext y
          exact cput_ne (fun w => by omega)
        have g5 : cput σ k i j v 5 = σ 5 := by
          funext x y
          exact cput_ne (fun w => by omega)
        rw [g 2 (by omega), g 22 (by omega), g5, cput_ne (ρ := σ) (a := 6) (b := 3) (c := 2) (fun w => by omega)]
        exact q
      · rw [a] at z; cases z
def lvok (m2 : Bool) (k : Nat) : Bool := !(k == 23) && (!(k == 5) || m2)
theorem Lz.live {m1 m2 : Bool} {ρ σ : CM} (h : Lz m1 m2 ρ σ) {k i : Nat} (hk : lvok m2 k = true) : clive ρ k i = clive σ k i := by
  simp only [lvok, Bool.and_eq_true, Bool.not_eq_true', Bool.or_eq_true, beq_eq_false_iff_ne, ne_eq] at hk
  have h0 : lsz ρ 0 = lsz σ 0 := by unfold lsz; rw [h.1 6 0 2 rfl rfl rfl]
  have h2 : lsz ρ 2 = lsz σ 2 := by unfold lsz; rw [h.1 6 2 2 rfl rfl rfl]
  have h4 : ∀ i, ρ 4 i 0 = σ 4 i 0 := fun i => h.1 4 i 0 rfl rfl rfl
  unfold clive
  split <;> first | rfl | (rw [h0]) | (rw [h2]) | (rw [h4]) | skip
  · have hm : m2 = true := by
      rcases hk.2 with z | z
      · exact absurd rfl z
      · exact z
    have h3 : lsz ρ 3 = lsz σ 3 := by unfold lsz; rw [h.at (k := 6) (i := 3) (j := 2) (by simp [vis, junk, tdS, hm])]
    rw [h3]
  · exact absurd rfl hk.1
theorem Lz.len {m1 m2 : Bool} {ρ σ : CM} (h : Lz m1 m2 ρ σ) (k i : Nat) : aLen ρ k i = aLen σ k i := by
  unfold aLen
  split <;> first | rfl | (rw [h.1 4 i 1 rfl rfl rfl])
