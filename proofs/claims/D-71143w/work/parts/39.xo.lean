/-! Lists in the picture: one is cleared, one gets one more -/
set_option maxRecDepth 100000
theorem HWd.from {K : CK} {D D' : Nat → Nat → Nat} {ρ ρ' : CM} {H H1 : Heap} (hW : HWd K D ρ H) (P : Nat → Nat → Prop)
    (old : ∀ k i, clive ρ' k i = true → ¬ P k i → clive ρ k i = true ∧ adr K D' k i = adr K D k i ∧ H1[adr K D k i]? = H[adr K D k i]? ∧ (k < 7 → oV K D' ρ' k i = oV K D ρ k i) ∧ (7 ≤ k → aCell K D' ρ' k i = aCell K D ρ k i))
    (new : ∀ k i, clive ρ' k i = true → P k i → (k < 7 → t_OB (adr K D' k i) (cC K k) (oN k) (cI K k) H1 (oV K D' ρ' k i)) ∧ (7 ≤ k → H1[adr K D' k i]? = some (aCell K D' ρ' k i)) ∧ cP K (adr K D' k i))
    (inj : ∀ k i k' i', clive ρ' k i = true → clive ρ' k' i' = true → P k i → adr K D' k i = adr K D' k' i' → k = k' ∧ i = i') : HWd K D' ρ' H1 := by
  classical
  refine ⟨fun k i hk hl => ?_, fun k i hk hl => ?_, fun k i k' i' h1 h2 h3 => ?_, fun k i hl => ?_⟩
  · by_cases hp : P k i
    · exact (new k i hl hp).1 hk
    · obtain ⟨a1, a2, a3, a4, -⟩ := old k i hl hp
      rw [a2, a4 hk]
      exact (hW.1 k i hk a1).kept a3
  · by_cases hp : P k i
    · exact (new k i hl hp).2.1 hk
    · obtain ⟨a1, a2, a3, -, a5⟩ := old k i hl hp
      rw [a2, a5 hk, a3]
      exact hW.2.1 k i hk a1
  · by_cases hp : P k i
    · exact inj k i k' i' h1 h2 hp h3
    · by_cases hp' : P k' i'
      · have := inj k' i' k i h2 h1 hp' h3.symm
        exact ⟨this.1.symm, this.2.symm⟩
      · obtain ⟨a1, a2, -⟩ := old k i h1 hp
        obtain ⟨b1, b2, -⟩ := old k' i' h2 hp'
        rw [a2, b2] at h3
        exact hW.2.2.1 k i k' i' a1 b1 h3
  · by_cases hp : P k i
    · exact (new k i hl hp).2.2
    · obtain ⟨a1, a2, -⟩ := old k i hl hp
      rw [a2]
      exact hW.2.2.2 k i a1
/-- where a list's array lies -/
def ldA (K : CK) (D : Nat → Nat → Nat) (ρ : CM) (i : Nat) : Nat := if ρ 6 i 1 = 0 then cEm K else D 23 i
theorem HWd.liO {K : CK} {D : Nat → Nat → Nat} {ρ : CM} {H : Heap} (hW : HWd K D ρ H) {i n : Nat} (hi : i < 4) (hn : ρ 6 i 2 = nI n) : LiO K (cA K 6 i) (ρ 6 i 0) (ldA K D ρ i) n H := by
  have h := hW.1 6 i (by decide) (by simp [clive, hi])
  refine h.to (fun j hj => ?_)
  have : j = 0 ∨ j = 1 ∨ j = 2 := by have : oN 6 = 3 := rfl; omega
  rcases this with rfl | rfl | rfl
  · rfl
  · show (if ρ 6 i 1 = 0 then Value.ref (cEm K) else .ref (D 23 i)) = Value.ref (if ρ 6 i 1 = 0 then cEm K else D 23 i)
    split <;> rfl
  · show Value.int (ρ 6 i 2) = .int (nI n)
    rw [hn]
theorem HWd.liA {K : CK} {D : Nat → Nat → Nat} {ρ : CM} {H : Heap} (hW : HWd K D ρ H) {i : Nat} (hi : i < 4) (hg : ρ 6 i 1 ≠ 0) : LiA K (D 23 i) (aV K D ρ 23 i) H ∧ D 23 i ≠ cA K 6 i ∧ cP K (D 23 i) := by
  have hl : clive ρ 23 i = true := by simp [clive, hi, hg]
  have hl6 : clive ρ 6 i = true := by simp [clive, hi]
  refine ⟨hW.2.1 23 i (by decide) hl, fun z => ?_, hW.2.2.2 23 i hl⟩
  have := hW.2.2.1 23 i 6 i hl hl6 z
  omega
theorem aCell_same {K : CK} {D D' : Nat → Nat → Nat} {ρ ρ' : CM} {k i : Nat} (h4 : ∀ j f, ρ' 4 j f = ρ 4 j f) (hv : aV K D' ρ' k i = aV K D ρ k i) : aCell K D' ρ' k i = aCell K D ρ k i := by
  unfold aCell
  rw [hv]
  have e1 : aLen ρ' k i = aLen ρ k i := by unfold aLen; simp only [h4]
  have e2 : aCd ρ' k i = aCd ρ k i := by unfold aCd; simp only [h4]
  rw [e1, e2]
theorem HWd.lclear {K : CK} {D : Nat → Nat → Nat} {ρ : CM} {H H1 : Heap} {i n : Nat} {o : Outcome} (hW : HWd K D ρ H) (hi : i < 4) (hn : ρ 6 i 2 = nI n) (hn8 : n ≤ 10) (hg : 0 < n → ρ 6 i 1 ≠ 0) (h : ClrR K (cA K 6 i) (ρ 6 i 0) (ldA K D ρ i) n (aV K D ρ 23 i) H o H1) : HWd K D (cput (cput ρ 6 i 0 (ρ 6 i 0 + 1)) 6 i 2 0) H1 := by
  obtain ⟨-, z1, o1, hO, hA⟩ := h
  have hlz : lsz ρ i = n := by unfold lsz; rw [hn]; exact (nI10 n (by omega)).1
  generalize hρ : cput (cput ρ 6 i 0 (ρ 6 i 0 + 1)) 6 i 2 0 = ρ'
  have hne : ∀ k j f, ¬ (k = 6 ∧ j = i ∧ (f = 0 ∨ f = 2)) → ρ' k j f = ρ k j f := by
    intro k j f hq
    rw [← hρ, cput_ne (fun z => hq ⟨z.1, z.2.1, Or.inr z.2.2⟩), cput_ne (fun z => hq ⟨z.1, z.2.1, Or.inl z.2.2⟩)]
  have h62 : ρ' 6 i 2 = 0 := by rw [← hρ, cput_eq]
  have h60 : ρ' 6 i 0 = ρ 6 i 0 + 1 := by rw [← hρ, cput_ne (fun z => by omega), cput_eq]
  have hls : ∀ j, j ≠ i → lsz ρ' j = lsz ρ j := fun j hj => by unfold lsz; rw [hne 6 j 2 (fun z => hj z.2.1)]
  have hli : lsz ρ' i = 0 := by unfold lsz; rw [h62]; rfl
  have hle : ∀ j, lsz ρ' j ≤ lsz ρ j := fun j => by
    by_cases hj : j = i
    · subst hj; rw [hli]; omega
    · rw [hls j hj]; exact Nat.le_refl _
  have hlive : ∀ k j, clive ρ' k j = true → clive ρ k j = true := by
    intro k j hl
    unfold clive at hl ⊢
    have e4 : ρ' 4 j 0 = ρ 4 j 0 := hne 4 j 0 (by omega)
    have e6 : ρ' 6 j 1 = ρ 6 j 1 := hne 6 j 1 (by omega)
    rw [e4, e6] at hl
    have l0 := hle 0
    have l2 := hle 2
    have l3 := hle 3
    split at hl <;> first | exact hl | (simp only [decide_eq_true_eq] at hl ⊢; omega)
  have hdA : ρ 6 i 1 ≠ 0 → ldA K D ρ i = D 23 i := fun z => by unfold ldA; rw [if_neg z]
  refine hW.from (fun k j => (k = 6 ∧ j = i) ∨ (k = 23 ∧ j = i)) (fun k j hl hp => ?_) (fun k j hl hp => ?_) (fun k j k' j' h1 h2 _ h3 => hW.2.2.1 k j k' j' (hlive k j h1) (hlive k' j' h2) h3)
  · have hl' := hlive k j hl
    have hl6 : clive ρ 6 i = true := by simp [clive, hi]
    refine ⟨hl', rfl, o1 _ (fun z => ?_) (fun hz z => ?_), fun hk => ?_, fun hk => ?_⟩
    · have := hW.2.2.1 k j 6 i hl' hl6 z
      exact hp (Or.inl this)
    · rw [hdA (hg hz)] at z
      have := hW.2.2.1 k j 23 i hl' (by simp [clive, hi, hg hz]) z
      exact hp (Or.inr this)
    · exact oV_same (fun f => hne k j f (fun z => hp (Or.inl ⟨z.1, z.2.1⟩)))
    · refine aCell_same (fun a b => hne 4 a b (by omega)) ?_
      funext q
      unfold aV
      split <;> first | rfl | skip
      · have hj : j ≠ i := fun z => hp (Or.inr ⟨rfl, z⟩)
        rw [hls j hj]
      · rw [hne _ _ _ (fun z => hp (Or.inl ⟨z.1, z.2.1⟩))]
  · refine ⟨fun hk => ?_, fun hk => ?_, hW.2.2.2 k j (hlive k j hl)⟩
    · rcases hp with ⟨rfl, rfl⟩ | ⟨rfl, -⟩
      · refine hO.to (fun f hf => ?_)
        have : f = 0 ∨ f = 1 ∨ f = 2 := by omega
        rcases this with rfl | rfl | rfl
        · show Value.int (ρ 6 j 0 + 1) = .int (ρ' 6 j 0)
          rw [h60]
        · show Value.ref (ldA K D ρ j) = if ρ' 6 j 1 = 0 then Value.ref (cEm K) else .ref (D 23 j)
          rw [hne 6 j 1 (by omega)]
          unfold ldA
          split <;> rfl
        · show Value.int (nI 0) = .int (ρ' 6 j 2)
          rw [h62]; rfl
      · omega
    · rcases hp with ⟨rfl, -⟩ | ⟨rfl, rfl⟩
      · omega
      · have hg1 : ρ 6 j 1 ≠ 0 := by
          have := hlive 23 j hl
          simp only [clive, Bool.and_eq_true, Bool.not_eq_true', decide_eq_false_iff_not] at this
          exact this.2
        have hN : aV K D ρ' 23 j = fun _ => .null := by
          funext q
          show (if q < lsz ρ' j then _ else _) = _
          rw [hli]
          simp
        show H1[D 23 j]? = some (arrV (cR K 7) 10 (aV K D ρ' 23 j))
        rw [hN]
        obtain ⟨g1, g2, g3⟩ := hW.liA hi hg1
        by_cases hn0 : 0 < n
        · have h1 := hA hn0
          rw [hdA hg1] at h1
          have h2 : (fun q => if q < n then Value.null else aV K D ρ 23 j q) = fun _ => .null := by
            funext q
            by_cases hq : q < n
            · rw [if_pos hq]
            · rw [if_neg hq]
              show (if q < lsz ρ j then _ else _) = _
              rw [hlz, if_neg hq]
          rw [h2] at h1
          exact h1
        · have hn0 : n = 0 := by omega
          have h2 : aV K D ρ 23 j = fun _ => .null := by
            funext q
            show (if q < lsz ρ j then _ else _) = _
            rw [hlz, hn0]
            simp
          rw [o1 _ g2 (fun z => absurd z (by omega))]
          rw [h2] at g1
          exact g1
/-- the kind of a list's elements -/
def eK (i : Nat) : Nat := match i with
  | 0 => 17 | 2 => 19 | _ => 5
def lD (D : Nat → Nat → Nat) (i n v d : Nat) : Nat → Nat → Nat := fun k j => if k = eK i ∧ j = n then v else if k = 23 ∧ j = i then d else D k j
theorem elA_lD {K : CK} {D : Nat → Nat → Nat} {i j n v d q : Nat} (hi : i = 0 ∨ i = 2 ∨ i = 3) (hj : j ≠ i) (hj4 : j < 4) : elA K (lD D i n v d) j q = elA K D j q := by
  have : j = 0 ∨ j = 1 ∨ j = 2 ∨ j = 3 := by omega
  rcases hi with rfl | rfl | rfl <;> rcases this with rfl | rfl | rfl | rfl <;> first | (exact absurd rfl hj) | rfl | (simp [elA, lD, eK])
theorem HWd.ladd {K : CK} {D : Nat → Nat → Nat} {ρ ρ' : CM} {H H1 : Heap} {i n v d : Nat} (hW : HWd K D ρ H) (hi : i = 0 ∨ i = 2 ∨ i = 3) (hn : ρ 6 i 2 = nI n) (hn8 : n < 10) (hg : 0 < n → ρ 6 i 1 ≠ 0) (h61 : ρ' 6 i 1 = 1) (h62 : ρ' 6 i 2 = nI (n + 1))
    (hag : ∀ k j f, ¬ (k = 6 ∧ j = i) → ¬ (k = eK i ∧ j = n) → ρ' k j f = ρ k j f) (hO : LiO K (cA K 6 i) (ρ' 6 i 0) d (n + 1) H1) (hA : LiA K d (updV (fun j => if j < n then .ref (elA K D i j) else .null) n (.ref v)) H1)
    (hv : NotLive K D ρ v) (hvd : v ≠ d) (hd : (ρ 6 i 1 ≠ 0 ∧ d = D 23 i) ∨ (ρ 6 i 1 = 0 ∧ NotLive K D ρ d)) (hvP : cP K v) (hdP : cP K d)
    (hE : (eK i < 7 → t_OB v (cC K (eK i)) (oN (eK i)) (cI K (eK i)) H1 (oV K (lD D i n v d) ρ' (eK i) n)) ∧ (7 ≤ eK i → H1[v]? = some (aCell K (lD D i n v d) ρ' (eK i) n)))
    (hfr : ∀ k j, clive ρ k j = true → ¬ (k = 6 ∧ j = i) → ¬ (k = 23 ∧ j = i) → H1[adr K D k j]? = H[adr K D k j]?) : HWd K (lD D i n v d) ρ' H1 := by
  have hi4 : i < 4 := by omega
  have hlz : lsz ρ i = n := by unfold lsz; rw [hn]; exact (nI10 n (by omega)).1
  have hlz' : lsz ρ' i = n + 1 := by unfold lsz; rw [h62]; exact (nI10 (n + 1) (by omega)).1
  have hek : eK i ≠ 6 ∧ eK i ≠ 23 ∧ eK i ≠ 4 ∧ dyn (eK i) = true := by rcases hi with rfl | rfl | rfl <;> decide
  have hls : ∀ j, j ≠ i → lsz ρ' j = lsz ρ j := fun j hj => by unfold lsz; rw [hag 6 j 2 (fun z => hj z.2) (fun z => hek.1 z.1.symm)]
  have h4 : ∀ a b, ρ' 4 a b = ρ 4 a b := fun a b => hag 4 a b (by omega) (fun z => hek.2.2.1 z.1.symm)
  have h6j : ∀ j, j ≠ i → ρ' 6 j 1 = ρ 6 j 1 := fun j hj => hag 6 j 1 (fun z => hj z.2) (fun z => hek.1 z.1.symm)
  have hl6 : clive ρ 6 i = true := by simp [clive, hi4]
  -- what was live but the list's array and the new one
  have hlive : ∀ k j, clive ρ' k j = true → ¬ (k = 23 ∧ j = i) → ¬ (k = eK i ∧ j = n) → clive ρ k j = true := by
    intro k j hl h1 h2
    by_cases hk : k = eK i
    · subst hk
      have h3 : j ≠ n := fun z => h2 ⟨rfl, z⟩
      rcases hi with rfl | rfl | rfl
      · simp only [eK, clive, decide_eq_true_eq] at hl ⊢
        rw [hlz'] at hl; rw [hlz]; omega
      · simp only [eK, clive, decide_eq_true_eq] at hl ⊢
        rw [hlz'] at hl; rw [hlz]; omega
      · simp only [eK, clive, decide_eq_true_eq] at hl ⊢
        rw [hlz'] at hl; rw [hlz]; omega
    · unfold clive at hl ⊢
      rw [h4] at hl
      split at hl <;> first | exact hl | skip
      · rcases hi with rfl | rfl | rfl
        · rw [hls 3 (by decide)] at hl; exact hl
        · rw [hls 3 (by decide)] at hl; exact hl
        · exact absurd rfl hk
      · rcases hi with rfl | rfl | rfl
        · exact absurd rfl hk
        · rw [hls 0 (by decide)] at hl; exact hl
        · rw [hls 0 (by decide)] at hl; exact hl
      · rcases hi with rfl | rfl | rfl
        · rw [hls 2 (by decide)] at hl; exact hl
        · exact absurd rfl hk
        · rw [hls 2 (by decide)] at hl; exact hl
      · rw [h6j j (fun z => h1 ⟨rfl, z⟩)] at hl; exact hl
  have hadr : ∀ k j, ¬ (k = 23 ∧ j = i) → ¬ (k = eK i ∧ j = n) → adr K (lD D i n v d) k j = adr K D k j := by
    intro k j h1 h2
    unfold adr lD
    rw [if_neg h2, if_neg h1]
  have hadrE : adr K (lD D i n v d) (eK i) n = v := by
    unfold adr lD
    rw [if_pos hek.2.2.2, if_pos ⟨rfl, rfl⟩]
  have hadrD : adr K (lD D i n v d) 23 i = d := by
    unfold adr lD
    rw [if_pos (by rfl : dyn 23 = true), if_neg (fun z => hek.2.1 z.1.symm), if_pos ⟨rfl, rfl⟩]
  have hdl : ∀ k j, clive ρ k j = true → ¬ (k = 23 ∧ j = i) → adr K D k j ≠ d := by
    intro k j hl h1 z
    rcases hd with ⟨g1, g2⟩ | ⟨g1, g2⟩
    · rw [g2] at z
      exact h1 (hW.2.2.1 k j 23 i hl (by simp [clive, hi4, g1]) z)
    · exact g2 k j hl z
  refine hW.from (fun k j => (k = 6 ∧ j = i) ∨ (k = 23 ∧ j = i) ∨ (k = eK i ∧ j = n)) (fun k j hl hp => ?_) (fun k j hl hp => ?_) (fun k j k' j' h1 h2 hp h3 => ?_)
  · have p1 : ¬ (k = 6 ∧ j = i) := fun z => hp (Or.inl z)
    have p2 : ¬ (k = 23 ∧ j = i) := fun z => hp (Or.inr (Or.inl z))
    have p3 : ¬ (k = eK i ∧ j = n) := fun z => hp (Or.inr (Or.inr z))
    have hl' := hlive k j hl p2 p3
    refine ⟨hl', hadr k j p2 p3, hfr k j hl' p1 p2, fun hk => ?_, fun hk => ?_⟩
    · have h0 : oV K (lD D i n v d) ρ' k j = oV K (lD D i n v d) ρ k j := oV_same (fun f => hag k j f p1 p3)
      rw [h0]
      funext f
      unfold oV
      split <;> first | rfl | skip
      · have e1 : lD D i n v d 20 j = D 20 j := by
          unfold lD
          rw [if_neg (fun z => by rcases hi with rfl | rfl | rfl <;> exact absurd z.1 (by decide)), if_neg (fun z => by omega)]
        rw [e1]
      · have e1 : lD D i n v d 23 j = D 23 j := by
          unfold lD
          rw [if_neg (fun z => hek.2.1 z.1.symm), if_neg (fun z => p1 ⟨rfl, z.2⟩)]
        rw [e1]
    · refine aCell_same h4 ?_
      funext q
      unfold aV
      split <;> first | rfl | skip
      · have hj : j ≠ i := fun z => p2 ⟨rfl, z⟩
        rw [hls j hj]
        have hjlt : j < 4 := by
          simp only [clive, Bool.and_eq_true, decide_eq_true_eq] at hl'
          exact hl'.1
        rw [elA_lD hi hj hjlt]
      · rw [hag _ _ _ p1 p3]
  · refine ⟨fun hk => ?_, fun hk => ?_, ?_⟩
    · rcases hp with ⟨rfl, rfl⟩ | ⟨rfl, -⟩ | ⟨rfl, rfl⟩
      · have ha : adr K (lD D j n v d) 6 j = cA K 6 j := rfl
        rw [ha]
        refine hO.to (fun f hf => ?_)
        have : f = 0 ∨ f = 1 ∨ f = 2 := by omega
        rcases this with rfl | rfl | rfl
        · rfl
        · show Value.ref d = if ρ' 6 j 1 = 0 then Value.ref (cEm K) else .ref (lD D j n v d 23 j)
          rw [h61, if_neg (by decide)]
          have e1 : lD D j n v d 23 j = d := by
            unfold lD
            rw [if_neg (fun z => hek.2.1 z.1.symm), if_pos ⟨rfl, rfl⟩]
          rw [e1]
        · show Value.int (nI (n + 1)) = .int (ρ' 6 j 2)
          rw [h62]
      · omega
      · rw [hadrE]
        exact hE.1 hk
    · rcases hp with ⟨rfl, -⟩ | ⟨rfl, rfl⟩ | ⟨rfl, rfl⟩
      · omega
      · rw [hadrD]
        show H1[d]? = some (arrV (cR K 7) 10 (aV K (lD D j n v d) ρ' 23 j))
        have h2 : aV K (lD D j n v d) ρ' 23 j = updV (fun q => if q < n then .ref (elA K D j q) else .null) n (.ref v) := by
          funext q
          show (if q < lsz ρ' j then Value.ref (elA K (lD D j n v d) j q) else .null) = _
          rw [hlz']
          have e1 : elA K (lD D j n v d) j q = if q = n then v else elA K D j q := by
            rcases hi with rfl | rfl | rfl
            · show lD D 0 n v d 17 q = _
              unfold lD
              by_cases hq : q = n
              · rw [if_pos ⟨rfl, hq⟩, if_pos hq]
              · rw [if_neg (fun z => hq z.2), if_neg (fun z => by omega), if_neg hq]; rfl
            · show lD D 2 n v d 19 q = _
              unfold lD
              by_cases hq : q = n
              · rw [if_pos ⟨rfl, hq⟩, if_pos hq]
              · rw [if_neg (fun z => hq z.2), if_neg (fun z => by omega), if_neg hq]; rfl
            · show lD D 3 n v d 5 q = _
              unfold lD
              by_cases hq : q = n
              · rw [if_pos ⟨rfl, hq⟩, if_pos hq]
              · rw [if_neg (fun z => hq z.2), if_neg (fun z => by omega), if_neg hq]; rfl
          rw [e1]
          by_cases hq : q = n
          · subst hq
            simp [updV]
          · have e2 : updV (fun q => if q < n then Value.ref (elA K D j q) else .null) n (.ref v) q = if q < n then Value.ref (elA K D j q) else .null := by simp [updV, hq]
            rw [e2, if_neg hq]
            by_cases h1 : q < n
            · rw [if_pos h1, if_pos (by omega)]
            · rw [if_neg h1, if_neg (by omega)]
        rw [h2]
        exact hA
      · rw [hadrE]
        exact hE.2 hk
    · rcases hp with ⟨rfl, rfl⟩ | ⟨rfl, rfl⟩ | ⟨rfl, rfl⟩
      · exact hW.2.2.2 6 j hl6
      · rw [hadrD]; exact hdP
      · rw [hadrE]; exact hvP
  · have hE0 : clive ρ' (eK i) n = true := by
      rcases hi with rfl | rfl | rfl <;> simp [eK, clive, hlz']
    -- the address of the other
    have oth : ∀ k j, clive ρ' k j = true → ¬ (k = 23 ∧ j = i) → ¬ (k = eK i ∧ j = n) → adr K (lD D i n v d) k j ≠ v ∧ adr K (lD D i n v d) k j ≠ d := by
      intro k j hl p2 p3
      have hl' := hlive k j hl p2 p3
      rw [hadr k j p2 p3]
      exact ⟨hv k j hl', hdl k j hl' p2⟩
    by_cases a2 : k = 23 ∧ j = i
    · obtain ⟨rfl, rfl⟩ := a2
      rw [hadrD] at h3
      by_cases b2 : k' = 23 ∧ j' = j
      · exact ⟨b2.1.symm, b2.2.symm⟩
      · by_cases b3 : k' = eK j ∧ j' = n
        · obtain ⟨rfl, rfl⟩ := b3
          rw [hadrE] at h3
          exact absurd h3.symm hvd
        · exact absurd h3.symm (oth k' j' h2 b2 b3).2
    · by_cases a3 : k = eK i ∧ j = n
      · obtain ⟨rfl, rfl⟩ := a3
        rw [hadrE] at h3
        by_cases b2 : k' = 23 ∧ j' = i
        · obtain ⟨rfl, rfl⟩ := b2
          rw [hadrD] at h3
          exact absurd h3 hvd
        · by_cases b3 : k' = eK i ∧ j' = j
          · exact ⟨b3.1.symm, b3.2.symm⟩
          · exact absurd h3.symm (oth k' j' h2 b2 b3).1
      · have q6 := oth k j h1 a2 a3
        by_cases b2 : k' = 23 ∧ j' = i
        · obtain ⟨rfl, rfl⟩ := b2
          rw [hadrD] at h3
          exact absurd h3 q6.2
        · by_cases b3 : k' = eK i ∧ j' = n
          · obtain ⟨rfl, rfl⟩ := b3
            rw [hadrE] at h3
            exact absurd h3 q6.1
          · rw [hadr k j a2 a3, hadr k' j' b2 b3] at h3
            exact hW.2.2.1 k j k' j' (hlive k j h1 a2 a3) (hlive k' j' h2 b2 b3) h3
