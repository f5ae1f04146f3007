/-! THE COMPONENT's MEMORY WRITTEN: real memory ρ and logical memory σ -/
set_option maxRecDepth 100000
section CB2
variable {p : Program} {l : Launch} {e : Env} {R : Room} {s : State} {m : MethodId} {args : Array Value} {below : List Frame} {meth : Method} {c : Code} {H H0 H1 : Heap} {locs : List Loc} {cells slots : Nat} {Q : State → Prop}
variable {cc : ByteArray} {pc nL : Nat} {ls : Array Slot} {rest : List Value} {K : CK} {D : Nat → Nat → Nat} {ρ ρ' σ : CM} {own : String}
/-- what other cells' shape hangs on -/
def SameS (ρ ρ' : CM) : Prop := (∀ i, ρ' 6 i 2 = ρ 6 i 2) ∧ (∀ i, ρ' 6 i 1 = ρ 6 i 1) ∧ (∀ i, ρ' 4 i 0 = ρ 4 i 0) ∧ ∀ i, ρ' 4 i 1 = ρ 4 i 1
theorem SameS.lsz (h : SameS ρ ρ') (i : Nat) : lsz ρ' i = lsz ρ i := by
  show (ρ' 6 i 2).toNatClampNeg = (ρ 6 i 2).toNatClampNeg
  rw [h.1 i]
theorem SameS.live (h : SameS ρ ρ') (k i : Nat) : clive ρ' k i = clive ρ k i := by
  unfold clive
  simp only [h.lsz, h.2.1, h.2.2.1]
theorem SameS.len (h : SameS ρ ρ') (k i : Nat) : aLen ρ' k i = aLen ρ k i := by
  unfold aLen
  simp only [h.2.2.2]
theorem SameS.cd (h : SameS ρ ρ') (k i : Nat) : aCd ρ' k i = aCd ρ k i := by
  unfold aCd
  simp only [h.2.2.1]
theorem oV_same {k i : Nat} (ho : ∀ j, ρ' k i j = ρ k i j) : oV K D ρ' k i = oV K D ρ k i := by
  funext f
  unfold oV
  split <;> first | rfl | (simp only [ho]) 
theorem aV_same (hs : SameS ρ ρ') {k i : Nat} (ho : ∀ j, ρ' k i j = ρ k i j) : aV K D ρ' k i = aV K D ρ k i := by
  funext f
  unfold aV
  split <;> first | rfl | (simp only [hs.lsz]) | (simp only [ho])
/-- one cell is written -/
theorem HWd.wr (hW : HWd K D ρ H) (hs : SameS ρ ρ') {k0 i0 : Nat} (hlv : clive ρ k0 i0 = true) (ho : ∀ k i, ¬ (k = k0 ∧ i = i0) → ∀ j, ρ' k i j = ρ k i j) (e3 : ∀ q, q ≠ adr K D k0 i0 → H1[q]? = H[q]?)
    (hO : k0 < 7 → t_OB (adr K D k0 i0) (cC K k0) (oN k0) (cI K k0) H1 (oV K D ρ' k0 i0)) (hA : 7 ≤ k0 → H1[adr K D k0 i0]? = some (aCell K D ρ' k0 i0)) : HWd K D ρ' H1 := by
  obtain ⟨h1, h2, h3, h4⟩ := hW
  refine ⟨fun k i hk hl => ?_, fun k i hk hl => ?_, fun k i k' i' a b => ?_, fun k i a => ?_⟩
  · rw [hs.live] at hl
    by_cases hq : k = k0 ∧ i = i0
    · obtain ⟨rfl, rfl⟩ := hq
      exact hO hk
    · rw [oV_same (ho k i hq)]
      exact (h1 k i hk hl).kept (e3 _ (fun z => hq (h3 _ _ _ _ hl hlv z)))
  · rw [hs.live] at hl
    by_cases hq : k = k0 ∧ i = i0
    · obtain ⟨rfl, rfl⟩ := hq
      exact hA hk
    · rw [e3 _ (fun z => hq (h3 _ _ _ _ hl hlv z)), h2 k i hk hl]
      unfold aCell
      rw [aV_same hs (ho k i hq), hs.len, hs.cd]
  · rw [hs.live] at a b
    exact h3 k i k' i' a b
  · rw [hs.live] at a
    exact h4 k i a
/-- an int at a place that no other cell's shape hangs on -/
def plain (k j : Nat) : Bool := !(k == 4) && !(k == 6 && (j == 1 || j == 2))
theorem cput_same {k i j : Nat} {v : Int32} (h : plain k j = true) : SameS ρ (cput ρ k i j v) := by
  simp only [plain, Bool.and_eq_true, Bool.not_eq_true', beq_eq_false_iff_ne, ne_eq, Bool.and_eq_false_iff, Bool.or_eq_false_iff] at h
  refine ⟨fun a => cput_ne ?_, fun a => cput_ne ?_, fun a => cput_ne ?_, fun a => cput_ne ?_⟩ <;> omega
/-- fields that are ints -/
def oInt (k f : Nat) : Bool := match k, f with
  | 0, 1 => false | 0, 2 => false | 0, 3 => false | 0, 4 => false | 0, 5 => false | 0, 6 => false | 0, 7 => false | 0, 12 => false | 0, 13 => false | 0, 15 => false | 0, 16 => false | 0, 17 => false
  | 1, 0 => false | 1, 5 => false | 2, 0 => false | 2, 5 => false | 4, 0 => false | 5, 0 => false | 6, 1 => false
  | _, _ => true
theorem oV_int {k f : Nat} (h : oInt k f = true) (i : Nat) : oV K D ρ k i f = .int (ρ k i f) := by
  unfold oInt at h
  unfold oV
  split at h <;> first | cases h | skip
  split <;> first | rfl | (exfalso; simp_all)
/-- an int field is put -/
theorem hx_pi (F : CallFix p m c cc nL s args lw_all own) (hT : CTb K s) (hW : HWd K D ρ H) {index : Nat} (k i f : Nat) (hk : k < 7) (hf : f < oN k) (hlv : clive ρ k i = true) (hfin : (oT k f).2.2.2 = false) (hi : oInt k f = true) (hpl : plain k f = true) {v : Int32} (hn : narrow (oTy k f) (.int v) = .int v) (hfit : fits (oTy k f) (.int v) = true)
    (hlink : (Cond.fieldLink own index (oT k f).1 (oT k f).2.1 (oT k f).2.2.1).before args s = true ∨ ∃ host, (Cond.fieldLinkNest own index (oT k f).1 (oT k f).2.1 (oT k f).2.2.1 host).before args s = true) (hdg : decode cc pc = .ok (.putfield index, 3))
    (kk : ∀ (H1 : Heap) (n : Nat), HWd K D (cput ρ k i f v) H1 → H1.size = H.size → (∀ q, q ≠ adr K D k i → H1[q]? = H[q]?) → W p l e R s m args below meth c H1 (locs ++ [⟨adr K D k i, n⟩]) cells slots Q (F0 m (pc + 3) ls rest)) : W p l e R s m args below meth c H locs cells slots Q (F0 m pc ls (.int v :: .ref (adr K D k i) :: rest)) := by
  refine hx_put F hT hW k i f hk hf hlv hfin hn hfit hlink hdg fun H1 n h1 h2 h3 => kk H1 n ?_ h2 h3
  refine hW.wr (cput_same hpl) hlv (fun a b hq j => cput_ne (fun z => hq ⟨z.1, z.2.1⟩)) h3 (fun _ => h1.to (fun j _ => ?_)) (fun z => by omega)
  by_cases hj : j = f
  · subst hj
    rw [oV_int hi, cput_eq]
    simp [updV]
  · have e1 : updV (oV K D ρ k i) f (.int v) j = oV K D ρ k i j := by simp [updV, hj]
    rw [e1]
    have e2 : ∀ q, q ≠ f → cput ρ k i f v k i q = ρ k i q := fun q hq => cput_ne (fun z => hq z.2.2)
    unfold oV
    split <;> first | rfl | skip
    all_goals first | (rw [e2 _ hj]) | skip
    all_goals first | (have hz : f ≠ 3 := fun z => by subst z; cases hi
                       simp only [e2 3 (Ne.symm hz)]) | skip
    all_goals first | (have hz : f ≠ 0 := fun z => by subst z; cases hi
                       simp only [e2 0 (Ne.symm hz)]) | skip
    all_goals first | (have hz : f ≠ 1 := fun z => by subst z; cases hi
                       simp only [e2 1 (Ne.symm hz)]) | skip
end CB2
