/-! The roll is read -/
set_option maxRecDepth 100000
theorem ixS1 : ∀ u, u < 256 → ixS 1 (nI u) = if (u == 112 || u == 103 || u == 111) = true then nI (sortIx u) else -1 := by decide +kernel
theorem ixS2 : ∀ u, u < 256 → ixS 2 (nI u) = if (decide (97 ≤ u) && decide (u ≤ 108)) = true then nI (u - 97) else -1 := by decide +kernel
theorem ixS3 : ∀ u, u < 256 → ixS 3 (nI u) = if (u == 100 || u == 117) = true then (if u = 117 then 1 else 0) else -1 := by decide +kernel
theorem ixS4 : ∀ u, u < 256 → ixS 4 (nI u) = if (u == 59) = true then 0 else -1 := by decide +kernel
theorem ixSn : ∀ u, u < 256 → nI (sortIx u) ≠ -1 ∧ ((decide (97 ≤ u) && decide (u ≤ 108)) = true → nI (u - 97) ≠ -1) ∧ (if u = 117 then (1 : Int32) else 0) ≠ -1 ∧ sortIx u < 3 ∧ (nI (sortIx u)).toNatClampNeg = sortIx u ∧ ¬ nI (sortIx u) < 0 := by decide +kernel
/-- what may stand at place a: which literal -/
def rF (ρ0 : CM) (j : Nat) : Bool := rOk (fun q => ubyte (ρ0 22 0 q)) j
theorem rF_u (ρ0 : CM) (a : Nat) : ∃ u, u < 256 ∧ ρ0 22 0 a &&& 255 = nI u ∧ ubyte (ρ0 22 0 a) = u ∧ (a % 4 = 0 → rF ρ0 a = (u == 112 || u == 103 || u == 111)) ∧ (a % 4 = 1 → rF ρ0 a = (decide (97 ≤ u) && decide (u ≤ 108))) ∧ (a % 4 = 2 → rF ρ0 a = (u == 100 || u == 117)) ∧ (a % 4 = 3 → rF ρ0 a = (u == 59)) := by
  obtain ⟨u, h1, h2, h3⟩ := ub_and (ρ0 22 0 a)
  refine ⟨u, h1, h2, h3, fun h => ?_, fun h => ?_, fun h => ?_, fun h => ?_⟩
  · unfold rF rOk; rw [if_pos h]; simp only [h3]
  · unfold rF rOk; rw [if_neg (by omega), if_pos h]; simp only [h3]
  · unfold rF rOk; rw [if_neg (by omega), if_neg (by omega), if_pos h]; simp only [h3]
  · unfold rF rOk; rw [if_neg (by omega), if_neg (by omega), if_neg (by omega)]; simp only [h3]
/-- the roll's text alone may have changed -/
def agR (ρ0 ρ : CM) : Prop := ∀ k i j, ¬ (k = 2 ∧ i = 0 ∧ j = 2) → ¬ (k = 6 ∧ i = 3) → k ≠ 5 → ρ k i j = ρ0 k i j
def agD (D0 D : Nat → Nat → Nat) : Prop := ∀ k i, k ≠ 5 → ¬ (k = 23 ∧ i = 3) → D k i = D0 k i
def rL (ρ : CM) (j : Nat) : Prop := ρ 6 3 2 = nI j ∧ (0 < j → ρ 6 3 1 ≠ 0)
def rM (ρ0 ρ : CM) (j : Nat) : Prop := rL ρ j ∧ ∀ q, q < j → ρ 5 q 0 = nI (sortIx (ubyte (ρ0 22 0 (4 * q)))) ∧ ρ 5 q 1 = nI (ubyte (ρ0 22 0 (4 * q + 1)) - 97) ∧ ρ 5 q 2 = (if ubyte (ρ0 22 0 (4 * q + 2)) = 117 then 1 else 0)
def rBp (D0 : Nat → Nat → Nat) (ρ0 : CM) (D : Nat → Nat → Nat) (ρ : CM) : Prop := agD D0 D ∧ agR ρ0 ρ ∧ ∃ j, j ≤ 8 ∧ rL ρ j
def rCl (D0 : Nat → Nat → Nat) (ρ0 : CM) (D : Nat → Nat → Nat) (ρ : CM) : Prop := agD D0 D ∧ agR ρ0 ρ ∧ ρ 6 3 2 = 0
def rYp (D0 : Nat → Nat → Nat) (ρ0 : CM) (n a : Nat) (D : Nat → Nat → Nat) (ρ : CM) : Prop := agD D0 D ∧ agR ρ0 ρ ∧ a ≤ n ∧ ρ 2 0 2 = nI a ∧ ∃ j, j ≤ 8 ∧ rM ρ0 ρ j ∧ ((a = 0 ∧ j = 0 ∧ n = 0) ∨ (a + 1 = 4 * j ∧ 0 < j)) ∧ ∀ q, q < a → rF ρ0 q = true
def rZp (D0 : Nat → Nat → Nat) (ρ0 : CM) (n a : Nat) (D : Nat → Nat → Nat) (ρ : CM) : Prop := agD D0 D ∧ agR ρ0 ρ ∧ a ≤ n ∧ ρ 2 0 2 = nI a ∧ 0 < n ∧ ∃ j, j < 8 ∧ rM ρ0 ρ j ∧ a = 4 * j ∧ ∀ q, q < a → rF ρ0 q = true
def rFa (ρ0 : CM) (n a : Nat) : Prop := 0 < n ∧ a ≤ n ∧ runLen (rF ρ0) n = a ∧ ¬ (a = n ∧ n % 4 = 3)
theorem rFa_of {ρ0 : CM} {n a : Nat} (hn : 0 < n) (ha : a ≤ n) (hq : ∀ q, q < a → rF ρ0 q = true) (h : a = n ∨ rF ρ0 a = false) (h3 : a = n → n % 4 ≠ 3) : rFa ρ0 n a := by
  refine ⟨hn, ha, ?_, fun z => h3 z.1 z.2⟩
  rcases h with rfl | h
  · exact runLen_all hq
  · exact runLen_stop hq h ha
theorem metH_lsize (l : Launch) (K : CK) (b : Nat) (mc : Int32) (d n : Nat) (H0 : Heap) (hO : LiO K b mc d n H0) : MetH l K yJ2_size 1 1 0 0 [.ref b] H0 (fun o H1 => o = .returned (some (.int (nI n))) ∧ H1 = H0) := by
  refine metH_w (cc := cJ2_size) q224 (Or.inr (Or.inl rfl)) (Nat.le_of_ble_eq_true rfl) (fun p e s m args below meth c Q hH hnm hno E hE hT ls hl => ?_)
  subst hH
  obtain ⟨S, hTb, hSt, hA9⟩ := E
  have S0 := S
  obtain ⟨hx, hb, hml, ho, hts⟩ := S
  have hl : lv_has ls 1 [(0, .ref b)] := hl
  refine lv_aload_n hx hb dJ2_size_0 rfl (lv_at hl 0 rfl) ?_
  refine ob_get S0 (hTb.1 6 (by decide)) in_J2 hO 2 (by decide) rfl q676 (v := .int (nI n)) rfl dJ2_size_1 ?_
  exact hE s.heap _ _ _ ls 4 (some (.int (nI n))) va_S.rf (Nat.le_refl _) (Nat.le_refl _) ⟨rfl, rfl⟩ ⟨_, rfl⟩ dJ2_size_4
theorem metH_clearR (l : Launch) (K : CK) (D0 : Nat → Nat → Nat) (ρ0 : CM) (H : Heap) (D : Nat → Nat → Nat) (ρ : CM) (hW : HWd K D ρ H) (hB : rBp D0 ρ0 D ρ) : MetH l K yX3_clear 1 2 0 0 [.ref (cA K 2 0)] H (ClearR K 2 (rCl D0 ρ0) D ρ H) := by
  refine metH_w (cc := cX3_clear) q200 (Or.inl rfl) (Nat.le_of_ble_eq_true rfl) (fun p e s m args below meth c Q hH hnm hno E hE hT ls hl => ?_)
  subst hH
  have E0 := E
  obtain ⟨S, hTb, hSt, hA⟩ := E
  have S0 := S
  obtain ⟨hx, hb, hml, ho, hts⟩ := S
  obtain ⟨hagD, hag, j, hj, hL⟩ := hB
  have hbP : cP K (cA K 6 3) := hW.2.2.2 6 3 rfl
  have hl : lv_has ls 1 [(0, .ref (cA K 2 0))] := hl
  have hO := hW.liO (i := 3) (by decide) hL.1
  have hdA : 0 < j → ldA K D ρ 3 = D 23 3 := fun z => by unfold ldA; rw [if_neg (hL.2 z)]
  refine lv_aload_n hx hb dX3_clear_0 rfl (lv_at hl 0 rfl) ?_
  refine hx_gr S0 hTb hW 2 0 5 rfl (by decide) (by decide) rfl q687 (v := .ref (cA K 6 3)) rfl dX3_clear_1 ?_
  refine hx_HV (C := RJ2) (As := []) (rest := []) E0 va_S.rf (metH_lclear l K (cA K 6 3) (ρ 6 3 0) (ldA K D ρ 3) j (aV K D ρ 23 3) s.heap hO (by omega) hbP (fun z => by rw [hdA z]; exact hW.liA (by decide) (hL.2 z))) (fun _ _ h => by cases h.1) hdH_lp.2.2.2.2.1 ⟨by decide, by decide⟩ q204 q201 q202 q203 hdH_li.2.2.2.2.1 (li_recv hTb hO) hl.1 rfl (Nat.le_of_ble_eq_true rfl) ⟨Nat.le_refl _, Nat.le_refl _⟩ dX3_clear_4 (fun v H1 L hF hq hS => ?_)
  have hq2 := hq
  obtain ⟨e0, z1, o1, -⟩ := hq
  cases e0
  have hW1 := hW.lclear (i := 3) (by decide) hL.1 (by omega) hL.2 hq2
  refine hE H1 _ _ _ ls 7 none hS (Nat.le_refl _) (Nat.le_refl _) ⟨rfl, ⟨D, _, hW1, ⟨hagD, ?_, cput_eq _ _ _ _ _⟩, ?_⟩, fun b hb hN => ?_⟩ rfl dX3_clear_7
  · intro k i j h1 h2 h3
    rw [cput_ne (fun z => h2 ⟨z.1, z.2.1⟩), cput_ne (fun z => h2 ⟨z.1, z.2.1⟩)]
    exact hag k i j h1 h2 h3
  · rw [cput_ne (fun z => by omega), cput_ne (fun z => by omega)]
  · refine o1 b (Ne.symm (hN 6 3 rfl)) (fun z => ?_)
    rw [hdA z]
    exact Ne.symm (hN 23 3 (by simp [clive, hL.2 z]))
theorem metH_fullR (l : Launch) (K : CK) (D0 : Nat → Nat → Nat) (ρ0 : CM) (n : Nat) (H : Heap) (D : Nat → Nat → Nat) (ρ : CM) (a : Nat) (hW : HWd K D ρ H) (hZ : rZp D0 ρ0 n a D ρ) : MetH l K yX3_isFull 1 2 0 0 [.ref (cA K 2 0)] H (fun o H1 => o = .returned (some (.int 0)) ∧ H1 = H) := by
  refine metH_w (cc := cX3_isFull) q220 (Or.inr (Or.inr (Or.inl rfl))) (Nat.le_of_ble_eq_true rfl) (fun p e s m args below meth c Q hH hnm hno E hE hT ls hl => ?_)
  subst hH
  have E0 := E
  obtain ⟨S, hTb, hSt, hA⟩ := E
  have S0 := S
  obtain ⟨hx, hb, hml, ho, hts⟩ := S
  obtain ⟨-, -, -, -, -, j, hj, hM, -, -⟩ := hZ
  have hl : lv_has ls 1 [(0, .ref (cA K 2 0))] := hl
  have hO := hW.liO (i := 3) (by decide) hM.1.1
  refine lv_aload_n hx hb dX3_isFull_0 rfl (lv_at hl 0 rfl) ?_
  refine hx_gr S0 hTb hW 2 0 5 rfl (by decide) (by decide) rfl q687 (v := .ref (cA K 6 3)) rfl dX3_isFull_1 ?_
  refine hx_HV (C := RJ2) (As := []) (rest := []) E0 va_S.rf (metH_lsize l K (cA K 6 3) _ _ j s.heap hO) (fun _ _ h => by cases h.1) hdH_lp.2.2.2.2.2 ⟨by decide, by decide⟩ q224 q221 q222 q223 hdH_li.2.2.2.2.2 (li_recv hTb hO) hl.1 rfl (Nat.le_of_ble_eq_true rfl) ⟨Nat.le_refl _, Nat.le_refl _⟩ dX3_isFull_4 (fun v H1 L hF hq hS => ?_)
  obtain ⟨e0, e1⟩ := hq
  cases e0
  subst e1
  refine lv_bipush hx hb dX3_isFull_7 (v := 8) (by decide) ?_
  have h8 : ∀ j, j < 8 → ¬ nI j = 8 := by decide
  refine lv_icmp_ne (tgt := 16) hx hb dX3_isFull_9 (by decide) (fun _ => ?_) (fun hc => absurd hc (h8 j hj))
  refine lv_iconst hx hb dX3_isFull_16 (v := 0) (by decide) ?_
  exact hE s.heap _ _ _ ls 17 (some (.int 0)) hS (Nat.le_refl _) (Nat.le_refl _) ⟨rfl, rfl⟩ ⟨_, rfl⟩ dX3_isFull_17
/-- one sign of the roll passes -/
theorem rP {ρ0 ρ : CM} {n a i : Nat} (hag : agR ρ0 ρ) (ha : a ≤ n) (hn : 0 < n) (hi : a % 4 + 1 = i) (h3 : a % 4 = 3 → a < n) (hq : ∀ q, q < a → rF ρ0 q = true) :
    (psX ρ 2 i a n = -1 → rFa ρ0 n a) ∧ (psX ρ 2 i a n ≠ -1 → a < n ∧ rF ρ0 a = true ∧ psX ρ 2 i a n = ixS i (nI (ubyte (ρ0 22 0 a)))) := by
  obtain ⟨u, hu, e1, e2, f0, f1, f2, f3⟩ := rF_u ρ0 a
  have hby : ρ 22 0 a = ρ0 22 0 a := hag 22 0 a (by omega) (by omega) (by omega)
  by_cases han : a = n
  · have hp : psX ρ 2 i a n = -1 := by unfold psX; rw [if_pos han]
    refine ⟨fun _ => rFa_of hn ha hq (Or.inl han) (fun _ z => ?_), fun z => absurd hp z⟩
    have := h3 (by omega)
    omega
  · have hp : psX ρ 2 i a n = ixS i (nI u) := by
      unfold psX
      rw [if_neg han]
      show ixS i (ρ 22 0 a &&& 255) = _
      rw [hby, e1]
    have hnn := ixSn u hu
    have key : (rF ρ0 a = true → ixS i (nI u) ≠ -1) ∧ (rF ρ0 a = false → ixS i (nI u) = -1) := by
      have h4 : a % 4 = 0 ∨ a % 4 = 1 ∨ a % 4 = 2 ∨ a % 4 = 3 := by omega
      rcases h4 with h | h | h | h
      · have hi1 : i = 1 := by omega
        subst hi1
        rw [f0 h, ixS1 u hu]
        exact ⟨fun z => by rw [if_pos z]; exact hnn.1, fun z => by rw [if_neg (by rw [z]; decide)]⟩
      · have hi1 : i = 2 := by omega
        subst hi1
        rw [f1 h, ixS2 u hu]
        exact ⟨fun z => by rw [if_pos z]; exact hnn.2.1 z, fun z => by rw [if_neg (by rw [z]; decide)]⟩
      · have hi1 : i = 3 := by omega
        subst hi1
        rw [f2 h, ixS3 u hu]
        exact ⟨fun z => by rw [if_pos z]; exact hnn.2.2.1, fun z => by rw [if_neg (by rw [z]; decide)]⟩
      · have hi1 : i = 4 := by omega
        subst hi1
        rw [f3 h, ixS4 u hu]
        exact ⟨fun z => by rw [if_pos z]; decide, fun z => by rw [if_neg (by rw [z]; decide)]⟩
    rw [hp]
    refine ⟨fun z => rFa_of hn ha hq (Or.inr ?_) (fun z => absurd z han), fun z => ⟨by omega, ?_, by rw [e2]⟩⟩
    · cases hr : rF ρ0 a with
      | false => rfl
      | true => exact absurd z (key.1 hr)
    · cases hr : rF ρ0 a with
      | true => rfl
      | false => exact absurd (key.2 hr) z
theorem agR_at {ρ0 ρ : CM} (h : agR ρ0 ρ) (v : Int32) : agR ρ0 (cput ρ 2 0 2 v) := fun k i j h1 h2 h3 => by
  rw [cput_ne h1]
  exact h k i j h1 h2 h3
theorem rM_at {ρ0 ρ : CM} {j : Nat} (h : rM ρ0 ρ j) (v : Int32) : rM ρ0 (cput ρ 2 0 2 v) j := by
  refine ⟨⟨by rw [cput_ne (fun z => by omega)]; exact h.1.1, fun z => by rw [cput_ne (fun z => by omega)]; exact h.1.2 z⟩, fun q hq => ?_⟩
  rw [cput_ne (fun z => by omega), cput_ne (fun z => by omega), cput_ne (fun z => by omega)]
  exact h.2 q hq
theorem metH_betwR (l : Launch) (K : CK) (D0 : Nat → Nat → Nat) (ρ0 : CM) (n : Nat) (hn : n ≤ 31) (hty : ρ0 2 0 1 = nI n) (H : Heap) (D : Nat → Nat → Nat) (ρ : CM) (a : Nat) (hW : HWd K D ρ H) (hY : rYp D0 ρ0 n a D ρ) (han : a < n) : MetH l K yX1_between 1 6 1 7 [.ref (cA K 2 0)] H (BetwR K (rBp D0 ρ0) (rZp D0 ρ0 n) (rFa ρ0 n) a) := by
  refine metH_w (cc := cX1_between) q494 (Or.inl rfl) (Nat.le_of_ble_eq_true rfl) (fun p e s m args below meth c Q hH hnm hno E hE hT ls hl => ?_)
  subst hH
  have E0 := E
  obtain ⟨S, hTb, hSt, hA⟩ := E
  obtain ⟨hx, hb, hml, ho, hts⟩ := S
  have hl : lv_has ls 1 [(0, .ref (cA K 2 0))] := hl
  obtain ⟨hagD, hag, hle, hat, j, hj, hM, hcase, hq⟩ := hY
  have haj : a + 1 = 4 * j ∧ 0 < j := by
    rcases hcase with z | z
    · omega
    · exact z
  have hty1 : ρ 2 0 1 = nI n := by rw [hag 2 0 1 (by omega) (by omega) (by omega)]; exact hty
  have hp := rP (i := 4) hag hle (by omega) (by omega) (fun _ => han) hq
  refine lv_aload_n hx hb dX1_between_0 rfl (lv_at hl 0 rfl) ?_
  refine va_ldcS hx hb ho (hSt.2.2.2.2.2.2.1 4 (by decide)) dX1_between_1 ?_
  refine hx_H (x := ⟨"WoodliceSenate$Text", "passes", "(Ljava/lang/String;)I"⟩) (owner := "WoodliceSenate$Text") (C := oR 2) (As := [.ref (cSo K (10 + 4))]) (rest := []) E0 va_S.rf (metH_passes l K D ρ 2 4 a n s.heap (Or.inr rfl) (by decide) hW hat hty1 hle (by show n ≤ 31; omega)) hdH_pl.2.2.2 ⟨by decide, by decide⟩ (CodeK.of hts q309) q496 q1768 (va_Decl.of (hts _ q308) (hts _ q309)) q1769 q308 hdH_pas (hx_recv hTb hW 2 0 rfl (by decide) rfl) hl.1 rfl (Nat.le_of_ble_eq_true rfl) ⟨Nat.le_refl _, Nat.le_refl _⟩ dX1_between_3 (fun v H1 L hF hq1 hS => ?_) (fun b H1 L hF hq1 hS => ?_)
  · rcases hq1 with ⟨h0, e0, -⟩ | ⟨h0, e0, z1, o1, hW1⟩
    · cases e0
    cases e0
    obtain ⟨h1, h2, -⟩ := hp.2 h0
    refine lv_pop hx hb dX1_between_6 rfl ?_
    refine hE H1 _ _ _ ls 7 none hS (Nat.le_refl _) (Nat.le_refl _) (Or.inl ⟨D, _, a + 1, rfl, hW1, ⟨hagD, agR_at hag _, by omega, cput_eq _ _ _ _ _, by omega, j, by omega, rM_at hM _, by omega, fun q hq9 => ?_⟩, by omega⟩) rfl dX1_between_7
    by_cases hqa : q = a
    · subst hqa; exact h2
    · exact hq q (by omega)
  · rcases hq1 with ⟨h0, e0, z1, o1, hTo⟩ | ⟨h0, e0, -⟩
    · cases e0
      exact hT H1 _ _ _ ls 3 _ _ hS (Nat.le_refl _) (Nat.le_refl _) (Or.inr ⟨D, ρ, a, s.heap.size, rfl, hW.grow o1, ⟨hagD, hag, j, hj, hM.1⟩, hTo, hW.lt _ (Nat.le_refl _), hp.1 h0⟩) (hno 3)
    · cases e0
/-- a member made -/
def mbV (so : Nat) (x u : Int32) : Nat → Value := fun j => match j with
  | 0 => .ref so | 1 => .int x | _ => .int u
theorem metH_member (l : Launch) (K : CK) (H0 : Heap) (b so : Nat) (x u : Int32) (V : Nat → Value) (hO : t_OB b (cC K 5) 3 (cI K 5) H0 V) (hbP : cP K b) (hu : bz u = u) : MetH l K yX8_init 4 1 0 0 [.ref b, .ref so, .int x, .int u] H0 (ObR H0 (cC K 5) 3 (cI K 5) b (mbV so x u)) := by
  refine metH_w (cc := cX8_init) q402 (Or.inl rfl) (Nat.le_of_ble_eq_true rfl) (fun p e s m args below meth c Q hH hnm hno E hE hT ls hl => ?_)
  subst hH
  obtain ⟨S, hTb, hSt, hA⟩ := E
  have S0 := S
  obtain ⟨hx, hb, hml, ho, hts⟩ := S
  have hK := hTb.1 5 (by decide)
  obtain ⟨u1, u2⟩ := bz_fits hu
  have hl : lv_has ls 4 [(0, .ref b), (1, .ref so), (2, .int x), (3, .int u)] := hl
  refine lv_aload_n hx hb dX8_init_0 rfl (lv_at hl 0 rfl) ?_
  refine W.objInit hx hb ho (hts _ q403) (hts _ q251) (hts _ q252) rfl (by rw [hml]; exact hl.1) rfl dX8_init_1 (Nat.le_of_ble_eq_true rfl) (Nat.le_of_ble_eq_true rfl) ?_
  show W p l e (rmc 1 0 0) s m args below meth c s.heap [] 0 0 Q (F0 m 4 ls [])
  refine lv_aload_n hx hb dX8_init_4 rfl (lv_at hl 0 rfl) ?_
  refine lv_aload_n hx hb dX8_init_5 rfl (lv_at hl 1 rfl) ?_
  refine ob_put S0 hK in_X8 tyX8_ok nmX8 hO 0 (by decide) rfl (v := .ref so) rfl rfl q404 dX8_init_6 (fun H1 n1 hO z1 o1 => ?_)
  have hS := hv_put (n := n1) (locs := []) (va_S.rf (A := cP K)) z1 o1 hbP
  refine lv_aload_n hx hb dX8_init_9 rfl (lv_at hl 0 rfl) ?_
  refine lv_iload_n hx hb dX8_init_10 rfl (lv_at hl 2 rfl) ?_
  refine ob_put S0 hK in_X8 tyX8_ok nmX8 hO 1 (by decide) rfl (v := .int x) rfl rfl q406 dX8_init_11 (fun H2 n2 hO z2 o2 => ?_)
  have hS := hv_put (n := n2) hS z2 o2 hbP
  refine lv_aload_n hx hb dX8_init_14 rfl (lv_at hl 0 rfl) ?_
  refine lv_iload_n hx hb dX8_init_15 rfl (lv_at hl 3 rfl) ?_
  refine ob_putF S0 hK in_X8 tyX8_ok nmX8 hO 2 (by decide) rfl rfl hnm (v := .int u) u1 u2 q409 dX8_init_16 (fun H3 n3 hO z3 o3 => ?_)
  have hS := hv_put (n := n3) hS z3 o3 hbP
  refine hE H3 _ 0 0 ls 19 none hS (Nat.le_refl _) (Nat.le_refl _) ⟨rfl, by omega, fun q hq => by rw [o3 q hq, o2 q hq, o1 q hq], hO.to (fun j hj => ?_)⟩ rfl dX8_init_19
  have hj : j = 0 ∨ j = 1 ∨ j = 2 := by have : oN 5 = 3 := rfl; omega
  rcases hj with rfl | rfl | rfl <;> rfl
theorem HWd.other {K : CK} {D : Nat → Nat → Nat} {ρ : CM} {H H1 : Heap} {b : Nat} (hW : HWd K D ρ H) (hb : NotLive K D ρ b) (o : ∀ q, q ≠ b → H1[q]? = H[q]?) : HWd K D ρ H1 :=
  ⟨fun k i hk hl => (hW.1 k i hk hl).kept (o _ (hb k i hl)), fun k i hk hl => by rw [o _ (hb k i hl)]; exact hW.2.1 k i hk hl, hW.2.2.1, hW.2.2.2⟩
theorem hdH_mem : (yX8_init.name = "<init>" ∧ yX8_init.cls ≠ "java/lang/invoke/MethodHandle" ∧ yX8_init.cls ≠ "java/lang/invoke/VarHandle" ∧ (parseMethodDescriptor yX8_init.desc).map (fun d => d.parameters.length) = some 3) ∧ plainFor yX8_init = true := by decide +kernel
/-- the memory behind one more member -/
def rN (ρ : CM) (j : Nat) (x0 x1 x2 : Int32) : CM := cput (cput (cput (cput (cput (cput ρ 5 j 0 x0) 5 j 1 x1) 5 j 2 x2) 6 3 0 (ρ 6 3 0 + 1)) 6 3 1 1) 6 3 2 (nI (j + 1))
theorem nI32 : ∀ a, a < 32 → nI a + 1 = nI (a + 1) := by decide +kernel
theorem metH_partR (l : Launch) (K : CK) (D0 : Nat → Nat → Nat) (ρ0 : CM) (n : Nat) (hn : n ≤ 31) (hty : ρ0 2 0 1 = nI n) (H : Heap) (D : Nat → Nat → Nat) (ρ : CM) (a : Nat) (hW : HWd K D ρ H) (hZ : rZp D0 ρ0 n a D ρ) : MetH l K yX3_part 3 6 5 34 [.ref (cA K 2 0)] H (PartR K (rBp D0 ρ0) (rYp D0 ρ0 n) (rFa ρ0 n) a) := by
  refine metH_w (cc := cX3_part) q300 (Or.inl rfl) (Nat.le_of_ble_eq_true rfl) (fun p e s m args below meth c Q hH hnm hno E hE hT ls hl => ?_)
  subst hH
  have E0 := E
  obtain ⟨S, hTb, hSt, hA⟩ := E
  have S0 := S
  obtain ⟨hx, hb, hml, ho, hts⟩ := S
  have hl : lv_has ls 3 [(0, .ref (cA K 2 0))] := hl
  obtain ⟨hagD, hag, hle, hat, hn0, j, hj, hM, haj, hq⟩ := hZ
  have hB : ∀ ρ' : CM, agR ρ0 ρ' → rL ρ' j → rBp D0 ρ0 D ρ' := fun ρ' h1 h2 => ⟨hagD, h1, j, by omega, h2⟩
  have hty1 : ∀ ρ' : CM, agR ρ0 ρ' → ρ' 2 0 1 = nI n := fun ρ' h => by rw [h 2 0 1 (by omega) (by omega) (by omega)]; exact hty
  -- the first sign
  have hp1 := rP (i := 1) hag hle hn0 (by omega) (by omega) hq
  refine va_getsN hx hb hSt.2.1 va_S.rf ho (va_Nw.use (w := Cond.fieldLinkNest "WoodliceSenate$Roll" 27 "WoodliceSenate" "SORT" "[LWoodliceSenate$Sort;" "WoodliceSenate") rfl (hTb.2.2 _ (by simp [cNest]))) (fun _ h => h) dX3_part_0 ?_
  refine lv_aload_n hx hb dX3_part_3 rfl (lv_at hl 0 rfl) ?_
  refine va_ldcS hx hb ho (hSt.2.2.2.2.2.2.1 1 (by decide)) dX3_part_4 ?_
  refine hx_H (x := ⟨"WoodliceSenate$Roll", "passes", "(Ljava/lang/String;)I"⟩) (owner := "WoodliceSenate$Text") (C := oR 2) (As := [.ref (cSo K (10 + 1))]) (rest := [.ref (cSa K)]) E0 va_S.rf (metH_passes l K D ρ 2 1 a n s.heap (Or.inr rfl) (by decide) hW hat (hty1 _ hag) hle (by show n ≤ 31; omega)) hdH_pl.2.2.2 ⟨by decide, by decide⟩ (CodeK.of hts q309) q304 q305 (va_Decl.of (hts _ q308) (hts _ q309)) q307 q308 hdH_pas (hx_recv hTb hW 2 0 rfl (by decide) rfl) hl.1 rfl (Nat.le_of_ble_eq_true rfl) ⟨Nat.le_of_ble_eq_true rfl, Nat.le_of_ble_eq_true rfl⟩ dX3_part_6 (fun v H1 L hF hq1 hS1 => ?_) (fun b H1 L hF hq1 hS1 => ?_)
  rotate_left
  · rcases hq1 with ⟨h0, e0, z1, o1, hTo⟩ | ⟨h0, e0, -⟩
    · cases e0
      exact hT H1 _ _ _ ls 6 _ _ hS1 (Nat.le_of_ble_eq_true rfl) (Nat.le_of_ble_eq_true rfl) (Or.inr ⟨D, ρ, a, s.heap.size, rfl, hW.grow o1, hB ρ hag hM.1, hTo, hW.lt _ (Nat.le_refl _), hp1.1 h0⟩) (hno 6)
    · cases e0
  rcases hq1 with ⟨h0, e0, -⟩ | ⟨h0, e0, z1, o1, hW1⟩
  · cases e0
  cases e0
  obtain ⟨g1, g2, g3⟩ := hp1.2 h0
  obtain ⟨u1, hu1, -, eu1, -⟩ := rF_u ρ0 a
  have hnn1 := ixSn u1 hu1
  have hx1 : psX ρ 2 1 a n = nI (sortIx u1) := by
    rw [g3, eu1, ixS1 u1 hu1, if_pos]
    obtain ⟨u9, hu9, -, eu9, f0, -⟩ := rF_u ρ0 a
    have : u9 = u1 := eu9.symm.trans eu1
    rw [← this, ← f0 (by omega)]
    exact g2
  have hag1 := agR_at hag (nI (a + 1))
  have hM1 := rM_at hM (nI (a + 1))
  have hq1 : ∀ q, q < a + 1 → rF ρ0 q = true := fun q hq9 => by
    by_cases hqa : q = a
    · subst hqa; exact g2
    · exact hq q (by omega)
  generalize hρ1 : cput ρ 2 0 2 (nI (a + 1)) = ρ1 at hW1 hag1 hM1
  have hat1 : ρ1 2 0 2 = nI (a + 1) := by rw [← hρ1, cput_eq]
  rw [hx1]
  obtain ⟨cellS, c1, c2, c3, c4, c5, c6, c7⟩ := hSt.2.2.1.kept hS1.2.1
  refine W.aald (v := .ref (cSo K (sortIx u1))) (ty := .object "WoodliceSenate$Sort") hx hb c1 c2 rfl c3 (fun z => by
    rcases z with z | z
    · exact hnn1.2.2.2.2.2 z
    · rw [hnn1.2.2.2.2.1] at z
      have := hnn1.2.2.2.1
      omega) (by rw [hnn1.2.2.2.2.1]; exact c6 _ hnn1.2.2.2.1) rfl rfl dX3_part_9 ?_
  show W p l e (rmc 6 5 34) s m args below meth c H1 ([] ++ L) (0 + 1) (0 + 7) Q (F0 m 10 ls [.ref (cSo K (sortIx u1))])
  refine lv_astore_n hx hb dX3_part_10 rfl hl (by decide) rfl (fun ls hl => ?_)
  have hl : lv_has ls 3 [(1, .ref (cSo K (sortIx u1))), (0, .ref (cA K 2 0))] := hl
  -- the second sign
  have hp2 := rP (i := 2) hag1 (show a + 1 ≤ n by omega) hn0 (by omega) (by omega) hq1
  refine lv_aload_n hx hb dX3_part_11 rfl (lv_at hl 1 rfl) ?_
  refine va_ldcS hx hb ho (hSt.2.2.2.2.2.2.1 2 (by decide)) dX3_part_12 ?_
  refine hx_H (x := ⟨"WoodliceSenate$Roll", "passes", "(Ljava/lang/String;)I"⟩) (owner := "WoodliceSenate$Text") (C := oR 2) (As := [.ref (cSo K (10 + 2))]) (rest := []) E0 hS1 (metH_passes l K D ρ1 2 2 (a + 1) n H1 (Or.inr rfl) (by decide) hW1 hat1 (hty1 _ hag1) (by omega) (by show n ≤ 31; omega)) hdH_pl.2.2.2 ⟨by decide, by decide⟩ (CodeK.of hts q309) q304 q305 (va_Decl.of (hts _ q308) (hts _ q309)) q307 q308 hdH_pas (hx_recv hTb hW1 2 0 rfl (by decide) rfl) hl.1 rfl (Nat.le_of_ble_eq_true rfl) ⟨Nat.le_of_ble_eq_true rfl, Nat.le_of_ble_eq_true rfl⟩ dX3_part_14 (fun v H2 L2 hF hq2 hS2 => ?_) (fun b H2 L2 hF hq2 hS2 => ?_)
  rotate_left
  · rcases hq2 with ⟨h0, e0, z2, o2, hTo⟩ | ⟨h0, e0, -⟩
    · cases e0
      exact hT H2 _ _ _ ls 14 _ _ hS2 (Nat.le_of_ble_eq_true rfl) (Nat.le_of_ble_eq_true rfl) (Or.inr ⟨D, ρ1, a + 1, H1.size, rfl, hW1.grow o2, hB ρ1 hag1 hM1.1, hTo, hW1.lt _ (Nat.le_refl _), hp2.1 h0⟩) (hno 14)
    · cases e0
  rcases hq2 with ⟨h0', e0, -⟩ | ⟨h0', e0, z2, o2, hW2⟩
  · cases e0
  cases e0
  obtain ⟨k1, k2, k3⟩ := hp2.2 h0'
  obtain ⟨u2, hu2, -, eu2, -⟩ := rF_u ρ0 (a + 1)
  have hx2 : psX ρ1 2 2 (a + 1) n = nI (u2 - 97) := by
    rw [k3, eu2, ixS2 u2 hu2, if_pos]
    obtain ⟨u9, hu9, -, eu9, -, f1, -⟩ := rF_u ρ0 (a + 1)
    have : u9 = u2 := eu9.symm.trans eu2
    rw [← this, ← f1 (by omega)]
    exact k2
  have hag2 := agR_at hag1 (nI (a + 1 + 1))
  have hM2 := rM_at hM1 (nI (a + 1 + 1))
  have hq2 : ∀ q, q < a + 1 + 1 → rF ρ0 q = true := fun q hq9 => by
    by_cases hqa : q = a + 1
    · subst hqa; exact k2
    · exact hq1 q (by omega)
  generalize hρ2 : cput ρ1 2 0 2 (nI (a + 1 + 1)) = ρ2 at hW2 hag2 hM2
  have hat2 : ρ2 2 0 2 = nI (a + 1 + 1) := by rw [← hρ2, cput_eq]
  rw [hx2]
  refine lv_istore_n hx hb dX3_part_17 rfl hl (by decide) rfl (fun ls hl => ?_)
  have hl : lv_has ls 3 [(2, .int (nI (u2 - 97))), (1, .ref (cSo K (sortIx u1))), (0, .ref (cA K 2 0))] := hl
  refine lv_aload_n hx hb dX3_part_18 rfl (lv_at hl 2 rfl) ?_
  refine hx_gr S0 hTb hW2 2 0 5 rfl (by decide) (by decide) rfl q687 (v := .ref (cA K 6 3)) rfl dX3_part_19 ?_
  refine ob_new S0 (hTb.1 5 (by decide)) in_X8 tyX8_ok q397 q398 q129 (Nat.le_of_ble_eq_true rfl) (Nat.le_of_ble_eq_true rfl) dX3_part_22 (fun H3 hO3 z3 o3 => ?_)
  have hS3 : va_S (cP K) s.heap H3 _ := hv_new hS2 z3 o3
  have hW3 := hW2.grow o3
  have hNb : NotLive K D ρ2 H2.size := hW2.lt _ (Nat.le_refl _)
  have hbP : cP K H2.size := hA _ hS2.1
  refine lv_dup hx hb dX3_part_25 rfl ?_
  refine lv_aload_n hx hb dX3_part_26 rfl (lv_at hl 1 rfl) ?_
  refine lv_iload_n hx hb dX3_part_27 rfl (lv_at hl 0 rfl) ?_
  -- the third sign
  have hp3 := rP (i := 3) hag2 (show a + 1 + 1 ≤ n by omega) hn0 (by omega) (by omega) hq2
  refine lv_aload_n hx hb dX3_part_28 rfl (lv_at hl 2 rfl) ?_
  refine va_ldcS hx hb ho (hSt.2.2.2.2.2.2.1 3 (by decide)) dX3_part_29 ?_
  refine hx_H (x := ⟨"WoodliceSenate$Roll", "passes", "(Ljava/lang/String;)I"⟩) (owner := "WoodliceSenate$Text") (C := oR 2) (As := [.ref (cSo K (10 + 3))]) (rest := [.int (nI (u2 - 97)), .ref (cSo K (sortIx u1)), .ref H2.size, .ref H2.size, .ref (cA K 6 3)]) E0 hS3 (metH_passes l K D ρ2 2 3 (a + 1 + 1) n H3 (Or.inr rfl) (by decide) hW3 hat2 (hty1 _ hag2) (by omega) (by show n ≤ 31; omega)) hdH_pl.2.2.2 ⟨by decide, by decide⟩ (CodeK.of hts q309) q304 q305 (va_Decl.of (hts _ q308) (hts _ q309)) q307 q308 hdH_pas (hx_recv hTb hW3 2 0 rfl (by decide) rfl) hl.1 rfl (Nat.le_of_ble_eq_true rfl) ⟨Nat.le_of_ble_eq_true rfl, Nat.le_of_ble_eq_true rfl⟩ dX3_part_31 (fun v H4 L4 hF hq4 hS4 => ?_) (fun b H4 L4 hF hq4 hS4 => ?_)
  rotate_left
  · rcases hq4 with ⟨h0, e0, z4, o4, hTo⟩ | ⟨h0, e0, -⟩
    · cases e0
      exact hT H4 _ _ _ ls 31 _ _ hS4 (Nat.le_of_ble_eq_true rfl) (Nat.le_of_ble_eq_true rfl) (Or.inr ⟨D, ρ2, a + 1 + 1, H3.size, rfl, hW3.grow o4, hB ρ2 hag2 hM2.1, hTo, hW3.lt _ (Nat.le_refl _), hp3.1 h0⟩) (hno 31)
    · cases e0
  rcases hq4 with ⟨h0'', e0, -⟩ | ⟨h0'', e0, z4, o4, hW4⟩
  · cases e0
  cases e0
  obtain ⟨w1, w2, w3⟩ := hp3.2 h0''
  obtain ⟨u3, hu3, -, eu3, -⟩ := rF_u ρ0 (a + 1 + 1)
  have hx3 : psX ρ2 2 3 (a + 1 + 1) n = if u3 = 117 then 1 else 0 := by
    rw [w3, eu3, ixS3 u3 hu3, if_pos]
    obtain ⟨u9, hu9, -, eu9, -, -, f2, -⟩ := rF_u ρ0 (a + 1 + 1)
    have : u9 = u3 := eu9.symm.trans eu3
    rw [← this, ← f2 (by omega)]
    exact w2
  have hag3 := agR_at hag2 (nI (a + 1 + 1 + 1))
  have hM3 := rM_at hM2 (nI (a + 1 + 1 + 1))
  have hq3 : ∀ q, q < a + 1 + 1 + 1 → rF ρ0 q = true := fun q hq9 => by
    by_cases hqa : q = a + 1 + 1
    · subst hqa; exact w2
    · exact hq2 q (by omega)
  have hNb4 : NotLive K D (cput ρ2 2 0 2 (nI (a + 1 + 1 + 1))) H2.size := fun k i hl9 => hNb k i (by rw [← (cput_same (ρ := ρ2) (i := 0) (v := nI (a + 1 + 1 + 1)) (show plain 2 2 = true from rfl)).live k i]; exact hl9)
  generalize hρ3 : cput ρ2 2 0 2 (nI (a + 1 + 1 + 1)) = ρ3 at hW4 hag3 hM3 hNb4
  have hat3 : ρ3 2 0 2 = nI (a + 1 + 1 + 1) := by rw [← hρ3, cput_eq]
  rw [hx3]
  -- upright or not
  have hne2 : H2.size ≠ cA K 2 0 := Ne.symm (hNb 2 0 rfl)
  have hO4 : t_OB H2.size (cC K 5) 3 (cI K 5) H4 (fun k => defaultValue (tyX8 k)) := hO3.kept (o4 _ hne2)
  refine lv_iconst hx hb dX3_part_34 (v := 1) (by decide) ?_
  have tail : W p l e (rmc 6 5 34) s m args below meth c H4 ([] ++ L ++ L2 ++ L4) (0 + 1 + 1 + 1 + 1) (0 + 7 + 7 + 3 + 7) Q (F0 m 43 ls [.int (if u3 = 117 then 1 else 0), .int (nI (u2 - 97)), .ref (cSo K (sortIx u1)), .ref H2.size, .ref H2.size, .ref (cA K 6 3)]) := by
    have hbu : bz (if u3 = 117 then 1 else 0) = (if u3 = 117 then 1 else 0) := by split <;> decide
    refine hx_HI (As := [.ref (cSo K (sortIx u1)), .int (nI (u2 - 97)), .int (if u3 = 117 then 1 else 0)]) (rest := [.ref H2.size, .ref (cA K 6 3)]) E0 hS4 (metH_member l K H4 H2.size (cSo K (sortIx u1)) (nI (u2 - 97)) (if u3 = 117 then 1 else 0) _ hO4 hbP hbu) ObR.nt hdH_mem.2 ⟨by decide, by decide⟩ q402 q400 q401 hdH_mem.1 hl.1 rfl (Nat.le_of_ble_eq_true rfl) ⟨Nat.le_of_ble_eq_true rfl, Nat.le_of_ble_eq_true rfl⟩ dX3_part_43 (fun v H5 L5 hF hq5 hS5 => ?_)
    obtain ⟨e0, z5, o5, hO5⟩ := hq5
    cases e0
    have hW5 := hW4.other hNb4 o5
    have hLO := hW5.liO (i := 3) (by decide) hM3.1.1
    have hlP : cP K (cA K 6 3) := hW5.2.2.2 6 3 rfl
    have hnE : ¬ cP K (cEm K) := by obtain ⟨cellE, -, -, -, -, -, -, h7⟩ := hSt.2.2.2.2.1; exact h7
    have hlz : lsz ρ3 3 = j := by unfold lsz; rw [hM3.1.1]; exact (nI10 j (by omega)).1
    have hlive23 : ρ3 6 3 1 ≠ 0 → clive ρ3 23 3 = true := fun z => by simp [clive, z]
    have hb6 : H2.size ≠ cA K 6 3 := Ne.symm (hNb4 6 3 rfl)
    have hAP : AddP K (cA K 6 3) (ldA K D ρ3 3) j (fun q => if q < j then .ref (elA K D 3 q) else .null) H2.size H5 := by
      by_cases h6 : ρ3 6 3 1 = 0
      · have hj0 : j = 0 := by
          rcases Nat.eq_zero_or_pos j with z | z
          · exact z
          · exact absurd h6 (hM3.1.2 z)
        refine Or.inl ⟨by unfold ldA; rw [if_pos h6], hj0, ?_⟩
        funext q
        rw [hj0]
        simp
      · obtain ⟨a1, a2, a3⟩ := hW5.liA (i := 3) (by decide) h6
        have e1 : ldA K D ρ3 3 = D 23 3 := by unfold ldA; rw [if_neg h6]
        rw [e1]
        refine Or.inr ⟨fun z => hnE (z ▸ a3), by omega, ?_, a2, a3⟩
        have e2 : aV K D ρ3 23 3 = fun q => if q < j then .ref (elA K D 3 q) else .null := by
          funext q
          show (if q < lsz ρ3 3 then _ else _) = _
          rw [hlz]
        rw [← e2]
        exact a1
    obtain ⟨cellB, t1, t2, t3, -⟩ := id hO5
    refine hx_HV (C := RJ2) (As := [.ref H2.size]) (rest := []) E0 hS5 (metH_add l K (cA K 6 3) (ρ3 6 3 0) (ldA K D ρ3 3) j _ H2.size "WoodliceSenate$Member" H5 hLO hlP hAP (by simp [cNest]) ⟨cellB, t1, by rw [t3]; rfl, fun s9 h9 => by rw [t2]; exact (h9.1 5 (by decide)).2.1⟩ hb6) (fun _ _ h => by cases h.1) hdH_lp.2.2.2.1 ⟨by decide, by decide⟩ q422 q419 q420 q421 hdH_li.2.2.2.1 (li_recv hTb hLO) hl.1 rfl (Nat.le_of_ble_eq_true rfl) ⟨Nat.le_of_ble_eq_true rfl, Nat.le_of_ble_eq_true rfl⟩ dX3_part_46 (fun v H6 L6 hF hq6 hS6 => ?_)
    obtain ⟨e0, hO6, hA6, z6, z6', z6'', o6⟩ := hq6
    cases e0
    refine lv_pop hx hb dX3_part_49 rfl ?_
    -- the picture anew
    have hS5z : H2.size < H5.size := (Array.getElem?_eq_some_iff.mp t1).1
    have hdcase : (ρ3 6 3 1 ≠ 0 ∧ (if ldA K D ρ3 3 = cEm K then H5.size else ldA K D ρ3 3) = D 23 3) ∨ (ρ3 6 3 1 = 0 ∧ (if ldA K D ρ3 3 = cEm K then H5.size else ldA K D ρ3 3) = H5.size) := by
      by_cases h6 : ρ3 6 3 1 = 0
      · refine Or.inr ⟨h6, ?_⟩
        have e1 : ldA K D ρ3 3 = cEm K := by unfold ldA; rw [if_pos h6]
        rw [if_pos e1]
      · refine Or.inl ⟨h6, ?_⟩
        have e1 : ldA K D ρ3 3 = D 23 3 := by unfold ldA; rw [if_neg h6]
        rw [e1, if_neg (show ¬ D 23 3 = cEm K from fun z => hnE (z ▸ (hW5.liA (i := 3) (by decide) h6).2.2))]
    generalize hd' : (if ldA K D ρ3 3 = cEm K then H5.size else ldA K D ρ3 3) = d' at hO6 hA6 hdcase
    have hρ' : ∀ k i f, ¬ (k = 6 ∧ i = 3) → ¬ (k = 5 ∧ i = j) → rN ρ3 j (nI (sortIx u1)) (nI (u2 - 97)) (if u3 = 117 then 1 else 0) k i f = ρ3 k i f := by
      intro k i f h1 h2
      unfold rN
      rw [cput_ne (fun z => h1 ⟨z.1, z.2.1⟩), cput_ne (fun z => h1 ⟨z.1, z.2.1⟩), cput_ne (fun z => h1 ⟨z.1, z.2.1⟩), cput_ne (fun z => h2 ⟨z.1, z.2.1⟩), cput_ne (fun z => h2 ⟨z.1, z.2.1⟩), cput_ne (fun z => h2 ⟨z.1, z.2.1⟩)]
    have r0 : rN ρ3 j (nI (sortIx u1)) (nI (u2 - 97)) (if u3 = 117 then 1 else 0) 5 j 0 = nI (sortIx u1) := by
      unfold rN
      rw [cput_ne (fun z => by omega), cput_ne (fun z => by omega), cput_ne (fun z => by omega), cput_ne (fun z => by omega), cput_ne (fun z => by omega), cput_eq]
    have r1 : rN ρ3 j (nI (sortIx u1)) (nI (u2 - 97)) (if u3 = 117 then 1 else 0) 5 j 1 = nI (u2 - 97) := by
      unfold rN
      rw [cput_ne (fun z => by omega), cput_ne (fun z => by omega), cput_ne (fun z => by omega), cput_ne (fun z => by omega), cput_eq]
    have r2 : rN ρ3 j (nI (sortIx u1)) (nI (u2 - 97)) (if u3 = 117 then 1 else 0) 5 j 2 = if u3 = 117 then 1 else 0 := by
      unfold rN
      rw [cput_ne (fun z => by omega), cput_ne (fun z => by omega), cput_ne (fun z => by omega), cput_eq]
    have r60 : rN ρ3 j (nI (sortIx u1)) (nI (u2 - 97)) (if u3 = 117 then 1 else 0) 6 3 0 = ρ3 6 3 0 + 1 := by
      unfold rN
      rw [cput_ne (fun z => by omega), cput_ne (fun z => by omega), cput_eq]
    have r61 : rN ρ3 j (nI (sortIx u1)) (nI (u2 - 97)) (if u3 = 117 then 1 else 0) 6 3 1 = 1 := by
      unfold rN
      rw [cput_ne (fun z => by omega), cput_eq]
    have r62 : rN ρ3 j (nI (sortIx u1)) (nI (u2 - 97)) (if u3 = 117 then 1 else 0) 6 3 2 = nI (j + 1) := by
      unfold rN
      rw [cput_eq]
    generalize hρ4 : rN ρ3 j (nI (sortIx u1)) (nI (u2 - 97)) (if u3 = 117 then 1 else 0) = ρ4 at hρ' r0 r1 r2 r60 r61 r62
    have hbd : H2.size ≠ d' := by
      rcases hdcase with ⟨x1, x2⟩ | ⟨x1, x2⟩
      · rw [x2]; exact Ne.symm (hNb4 23 3 (hlive23 x1))
      · rw [x2]; omega
    have hdP : cP K d' := by
      rcases hdcase with ⟨x1, x2⟩ | ⟨x1, x2⟩
      · rw [x2]; exact hW5.2.2.2 23 3 (hlive23 x1)
      · rw [x2]; exact hA _ hS5.1
    have hld : H2.size ≠ ldA K D ρ3 3 := by
      intro z
      by_cases h6 : ρ3 6 3 1 = 0
      · have e1 : ldA K D ρ3 3 = cEm K := by unfold ldA; rw [if_pos h6]
        rw [e1] at z
        exact hnE (z ▸ hbP)
      · have e1 : ldA K D ρ3 3 = D 23 3 := by unfold ldA; rw [if_neg h6]
        rw [e1] at z
        exact hNb4 23 3 (hlive23 h6) z.symm
    have hW6 : HWd K (lD D 3 j H2.size d') ρ4 H6 := by
      refine hW5.ladd (i := 3) (n := j) (v := H2.size) (d := d') (Or.inr (Or.inr rfl)) hM3.1.1 (by omega) hM3.1.2 r61 r62 hρ' (by rw [r60]; exact hO6) hA6 hNb4 hbd ?_ hbP hdP ⟨fun _ => ?_, fun z => absurd z (by decide)⟩ (fun k i hl9 h1 h2 => ?_)
      · rcases hdcase with ⟨x1, x2⟩ | ⟨x1, x2⟩
        · exact Or.inl ⟨x1, x2⟩
        · exact Or.inr ⟨x1, by rw [x2]; exact hW5.lt _ (Nat.le_refl _)⟩
      · refine (hO5.kept (o6 _ hS5z hb6 hld)).to (fun f hf => ?_)
        have hf : f = 0 ∨ f = 1 ∨ f = 2 := by omega
        rcases hf with rfl | rfl | rfl
        · show Value.ref (cSo K (sortIx u1)) = .ref (cSo K (ρ4 5 j 0).toNatClampNeg)
          rw [r0, hnn1.2.2.2.2.1]
        · show Value.int (nI (u2 - 97)) = .int (ρ4 5 j 1)
          rw [r1]
        · show Value.int (if u3 = 117 then 1 else 0) = .int (ρ4 5 j 2)
          rw [r2]
      · refine o6 _ ?_ (fun z => h1 (hW5.2.2.1 k i 6 3 hl9 rfl z)) (fun z => ?_)
        · refine Nat.lt_of_not_le (fun z => hW5.lt _ z k i hl9 rfl)
        · by_cases h6 : ρ3 6 3 1 = 0
          · have e1 : ldA K D ρ3 3 = cEm K := by unfold ldA; rw [if_pos h6]
            rw [e1] at z
            exact hnE (z ▸ hW5.2.2.2 k i hl9)
          · have e1 : ldA K D ρ3 3 = D 23 3 := by unfold ldA; rw [if_neg h6]
            rw [e1] at z
            exact h2 (hW5.2.2.1 k i 23 3 hl9 (hlive23 h6) z)
    refine hE H6 _ _ _ ls 50 none hS6 (Nat.le_of_ble_eq_true rfl) (Nat.le_of_ble_eq_true rfl) (Or.inl ⟨lD D 3 j H2.size d', ρ4, a + 1 + 1 + 1, rfl, hW6, ⟨?_, ?_, by omega, ?_, j + 1, by omega, ⟨⟨r62, fun _ => by rw [r61]; decide⟩, fun q hq9 => ?_⟩, Or.inr ⟨by omega, by omega⟩, hq3⟩, by omega⟩) rfl dX3_part_50
    · intro k i h1 h2
      show lD D 3 j H2.size d' k i = _
      unfold lD
      rw [if_neg (fun z => h1 z.1), if_neg h2]
      exact hagD k i h1 h2
    · intro k i f h1 h2 h3
      rw [hρ' k i f h2 (fun z => h3 z.1)]
      exact hag3 k i f h1 h2 h3
    · rw [hρ' 2 0 2 (by omega) (by omega)]
      exact hat3
    · by_cases hqj : q = j
      · subst hqj
        rw [r0, r1, r2]
        have e1 : 4 * q = a := haj.symm
        rw [e1, eu1, eu2, eu3]
        exact ⟨rfl, rfl, rfl⟩
      · rw [hρ' 5 q 0 (by omega) (fun z => hqj z.2), hρ' 5 q 1 (by omega) (fun z => hqj z.2), hρ' 5 q 2 (by omega) (fun z => hqj z.2)]
        exact hM3.2 q (by omega)
  refine lv_icmp_ne (tgt := 42) hx hb dX3_part_35 (by decide) (fun hc => ?_) (fun hc => ?_)
  · refine lv_iconst hx hb dX3_part_42 (v := 0) (by decide) ?_
    have e3 : (if u3 = 117 then (1 : Int32) else 0) = 0 := by
      split
      · rename_i h; rw [if_pos h] at hc; exact absurd rfl hc
      · rfl
    rw [e3] at tail
    exact tail
  · refine lv_iconst hx hb dX3_part_38 (v := 1) (by decide) ?_
    refine lv_goto (tgt := 43) hx hb dX3_part_39 (by decide) ?_
    rw [hc] at tail
    exact tail
theorem txI_R (l : Launch) (K : CK) (D0 : Nat → Nat → Nat) (ρ0 : CM) (n : Nat) (hn : n ≤ 31) (hty : ρ0 2 0 1 = nI n) : TxI l K 2 n 5 34 1 7 3 yX3_clear yX3_isFull yX3_part yX1_between (rBp D0 ρ0) (rCl D0 ρ0) (rZp D0 ρ0 n) (rYp D0 ρ0 n) (rFa ρ0 n) := by
  refine ⟨Or.inr rfl, hn, ?_, ?_, ?_, ?_, ?_, ?_, ?_, ?_, ?_, ?_, by decide, ?_, ?_, ?_, ?_⟩
  · intro a D ρ h
    exact ⟨h.2.2.2.1, by rw [h.2.1 2 0 1 (by omega) (by omega) (by omega)]; exact hty, h.2.2.1⟩
  · intro a D ρ h
    exact ⟨h.2.2.2.1, by rw [h.2.1 2 0 1 (by omega) (by omega) (by omega)]; exact hty, h.2.2.1⟩
  · intro D ρ h
    refine ⟨by rw [h.2.1 2 0 1 (by omega) (by omega) (by omega)]; exact hty, h.1, agR_at h.2.1 0, ?_⟩
    obtain ⟨j, hj, h1, h2⟩ := h.2.2
    exact ⟨j, hj, by rw [cput_ne (fun z => by omega)]; exact h1, fun z => by rw [cput_ne (fun z => by omega)]; exact h2 z⟩
  · intro D ρ h
    rw [h.2.1 2 0 1 (by omega) (by omega) (by omega)]; exact hty
  · intro D ρ h h2 h0
    exact ⟨h.1, h.2.1, by omega, h2, h0, 0, by omega, ⟨⟨h.2.2, fun z => absurd z (by omega)⟩, fun q hq => by omega⟩, by omega, fun q hq => by omega⟩
  · intro D ρ h h2 h0
    exact ⟨h.1, h.2.1, by omega, h2, 0, by omega, ⟨⟨h.2.2, fun z => absurd z (by omega)⟩, fun q hq => by omega⟩, Or.inl ⟨rfl, rfl, h0⟩, fun q hq => by omega⟩
  · exact ⟨q198, q199, by decide +kernel, _, _, q200⟩
  · exact ⟨q218, q219, by decide +kernel, _, _, q220⟩
  · exact ⟨q298, q299, by decide +kernel, _, _, q300⟩
  · exact ⟨q490, q488, by decide +kernel, _, _, q494⟩
  · exact fun H D ρ hW hB => metH_clearR l K D0 ρ0 H D ρ hW hB
  · exact fun H D ρ a hW hZ => metH_fullR l K D0 ρ0 n H D ρ a hW hZ
  · exact fun H D ρ a hW hZ => metH_partR l K D0 ρ0 n hn hty H D ρ a hW hZ
  · exact fun H D ρ a hW hY ha => metH_betwR l K D0 ρ0 n hn hty H D ρ a hW hY ha
