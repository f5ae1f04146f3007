/-! The stone is read -/
set_option maxRecDepth 100000
theorem runLen_all {f : Nat → Bool} {t : Nat} (h : ∀ q, q < t → f q = true) : runLen f t = t := by
  induction t with
  | zero => rfl
  | succ t ih =>
    show (if _ then _ else _) = _
    rw [if_pos ⟨ih (fun q hq => h q (by omega)), h t (by omega)⟩]
theorem runLen_stop {f : Nat → Bool} {a t : Nat} (h : ∀ q, q < a → f q = true) (ha : f a = false) (ht : a ≤ t) : runLen f t = a := by
  induction t with
  | zero => have : a = 0 := by omega
            rw [this]; rfl
  | succ t ih =>
    show (if _ then _ else _) = _
    by_cases hat : a = t + 1
    · subst hat
      rw [if_pos ⟨runLen_all (fun q hq => h q (by omega)), h t (by omega)⟩]
    · have h2 := ih (by omega)
      rw [if_neg, h2]
      intro z
      rw [h2] at z
      obtain ⟨z1, z2⟩ := z
      subst z1
      rw [ha] at z2
      cases z2
/-- the literals' closed forms -/
theorem ub_and (b : Int32) : ∃ u, u < 256 ∧ b &&& 255 = nI u ∧ ubyte b = u := by
  obtain ⟨j, hj, ej⟩ := pk_andE b (m := 255) 8 (by decide)
  refine ⟨j, hj, ej, ?_⟩
  unfold ubyte
  rw [ej]
  have : ∀ j, j < 256 → (nI j).toNatClampNeg = j := by decide +kernel
  exact this j hj
theorem ixS0 : ∀ u, u < 256 → ixS 0 (nI u) = if isDig u = true then nI (u - 48) else -1 := by decide +kernel
theorem ixS0n : ∀ u, u < 256 → isDig u = true → nI (u - 48) ≠ -1 := by decide +kernel
section RL
variable {p : Program} {l : Launch} {e : Env} {R : Room} {s : State} {m : MethodId} {args : Array Value} {below : List Frame} {meth : Method} {c : Code} {H H0 H1 : Heap} {locs : List Loc} {ce sl : Nat} {Q : State → Prop}
variable {cc : ByteArray} {pc nL a : Nat} {ls : Array Slot} {rest : List Value} {K : CK} {D : Nat → Nat → Nat} {ρ : CM} {own : String}
theorem aCd_lt (ρ : CM) (k i : Nat) : aCd ρ k i < 8 := by
  unfold aCd
  split <;> first | decide | (repeat' split) <;> decide
theorem hx_len (F : CallFix p m c cc nL s args lw_all own) (hT : CTb K s) (hW : HWd K D ρ H) (k i : Nat) (had : adr K D k i = a) (h7 : 7 ≤ k) (hlv : clive ρ k i = true) {v : Int32} (hv : Int32.ofNat (aLen ρ k i) = v) (hdg : decode cc pc = .ok (.arraylength, 1))
    (kk : W p l e R s m args below meth c H locs ce sl Q (F0 m (pc + 1) ls (.int v :: rest))) : W p l e R s m args below meth c H locs ce sl Q (F0 m pc ls (.ref a :: rest)) := by
  obtain ⟨hx, hb, hml, hown, hts⟩ := F
  subst had
  subst hv
  exact W.alen (n := Int32.ofNat (aLen ρ k i)) hx hb (hW.2.1 k i h7 hlv) ((hT.2.1 _ (aCd_lt ρ k i)).1 (aLen ρ k i) (aV K D ρ k i)) (by show (arrV _ _ _).slots.size.toInt32 = _; rw [arrV_size]) rfl rfl hdg kk
end RL
/-- the first j figures are v -/
def cfl (ρ : CM) (j : Nat) (v : Int32) : CM := cblk ρ 9 0 (fun q => if q < j then v else ρ 9 0 q)
theorem cfl_0 (ρ : CM) (v : Int32) : cfl ρ 0 v = ρ := by
  funext a b d
  unfold cfl
  by_cases h : a = 9 ∧ b = 0
  · obtain ⟨rfl, rfl⟩ := h
    rw [cblk_eq]; simp
  · rw [cblk_ne h]
theorem cfl_s (ρ : CM) (j : Nat) (v : Int32) : cput (cfl ρ j v) 9 0 j v = cfl ρ (j + 1) v := by
  funext a b d
  unfold cfl
  by_cases h : a = 9 ∧ b = 0
  · obtain ⟨rfl, rfl⟩ := h
    rw [cblk_eq]
    by_cases hd : d = j
    · subst hd
      rw [cput_eq]; simp
    · rw [cput_ne (fun z => hd z.2.2), cblk_eq]
      by_cases h1 : d < j
      · rw [if_pos h1, if_pos (by omega)]
      · rw [if_neg h1, if_neg (by omega)]
  · rw [cblk_ne h, cput_ne (fun z => h ⟨z.1, z.2.1⟩), cblk_ne h]
theorem nI12 : ∀ j, j < 13 → (nI j).toNatClampNeg = j ∧ ¬ nI j < 0 ∧ nI j + Int32.ofInt 1 = nI (j + 1) ∧ (nI j ≥ 12 → 12 ≤ j) ∧ (12 ≤ j → nI j ≥ 12) ∧ (j < 12 → ¬ nI j = 12) ∧ (j < 12 → inb (nI j) 12 = true) ∧ nI j + 1 = nI (j + 1) := by decide +kernel
theorem metH_fill (l : Launch) (K : CK) (D : Nat → Nat → Nat) (ρ : CM) (H0 : Heap) (hW : HWd K D ρ H0) : MetH l K yJ3_fill 4 1 0 0 [.ref (cA K 9 0), .int 5] H0 (fun o H1 => o = .returned none ∧ H1.size = H0.size ∧ (∀ q, q ≠ cA K 9 0 → H1[q]? = H0[q]?) ∧ HWd K D (cfl ρ 12 5) H1) := by
  refine metH_w (cc := cJ3_fill) q210 (Or.inl rfl) (Nat.le_of_ble_eq_true rfl) (fun p e s m args below meth c Q hH hnm hno E hE hT ls hl => ?_)
  subst hH
  obtain ⟨S, hTb, hSt, hA⟩ := E
  have S0 := S
  obtain ⟨hx, hb, hml, ho, hts⟩ := S
  have hbP : cP K (cA K 9 0) := hW.2.2.2 9 0 rfl
  have hl : lv_has ls 4 [(0, .ref (cA K 9 0)), (1, .int 5)] := hl
  refine lv_iconst hx hb dJ3_fill_0 (v := 0) (by decide) ?_
  refine lv_istore_n hx hb dJ3_fill_1 rfl hl (by decide) rfl (fun ls hl => ?_)
  have hl : lv_has ls 4 [(2, .int 0), (0, .ref (cA K 9 0)), (1, .int 5)] := hl
  refine lv_aload_n hx hb dJ3_fill_2 rfl (lv_at hl 1 rfl) ?_
  refine hx_len S0 hTb hW 9 0 rfl (by decide) rfl (v := 12) rfl dJ3_fill_3 ?_
  refine lv_istore_n hx hb dJ3_fill_4 rfl hl (by decide) rfl (fun ls hl => ?_)
  have hl : lv_has ls 4 [(3, .int 12), (2, .int (nI 0)), (0, .ref (cA K 9 0)), (1, .int 5)] := hl
  have loop : ∀ (r j : Nat) (ls : Array Slot) (H : Heap) (locs : List Loc), j + r = 12 → lv_has ls 4 [(3, .int 12), (2, .int (nI j)), (0, .ref (cA K 9 0)), (1, .int 5)] → HWd K D (cfl ρ j 5) H → H.size = s.heap.size → (∀ q, q ≠ cA K 9 0 → H[q]? = s.heap[q]?) → va_S (cP K) s.heap H locs → W p l e (rmc 1 0 0) s m args below meth c H locs 0 0 Q (F0 m 5 ls []) := by
    intro r
    induction r with
    | zero =>
      intro j ls H locs hj hl hW1 z1 o1 hS
      have hj : j = 12 := by omega
      subst hj
      refine lv_iload_n hx hb dJ3_fill_5 rfl (lv_at hl 1 rfl) ?_
      refine lv_iload_n hx hb dJ3_fill_6 rfl (lv_at hl 0 rfl) ?_
      refine lv_icmp_ge (tgt := 20) hx hb dJ3_fill_7 (by decide) (fun _ => ?_) (fun hc => absurd (by decide) hc)
      exact hE H _ _ _ ls 20 none hS (Nat.le_refl _) (Nat.le_refl _) ⟨rfl, z1, o1, hW1⟩ rfl dJ3_fill_20
    | succ r ih =>
      intro j ls H locs hj hl hW1 z1 o1 hS
      have hnum := nI12 j (by omega)
      refine lv_iload_n hx hb dJ3_fill_5 rfl (lv_at hl 1 rfl) ?_
      refine lv_iload_n hx hb dJ3_fill_6 rfl (lv_at hl 0 rfl) ?_
      refine lv_icmp_ge (tgt := 20) hx hb dJ3_fill_7 (by decide) (fun hc => ?_) (fun _ => ?_)
      · have := hnum.2.2.2.1 hc
        omega
      · refine lv_aload_n hx hb dJ3_fill_10 rfl (lv_at hl 2 rfl) ?_
        refine lv_iload_n hx hb dJ3_fill_11 rfl (lv_at hl 1 rfl) ?_
        refine lv_iload_n hx hb dJ3_fill_12 rfl (lv_at hl 3 rfl) ?_
        refine hx_is (D := D) S0 hTb hW1 9 0 rfl rfl (x := nI j) (hnum.2.2.2.2.2.2.1 (by omega)) dJ3_fill_13 (fun H1 n1 hW2 z2 o2 => ?_)
        rw [hnum.1, cfl_s] at hW2
        refine lv_iinc hx hb dJ3_fill_14 hl (k := 1) rfl (v := nI (j + 1)) hnum.2.2.1 (by decide) rfl (fun ls hl => ?_)
        refine lv_goto (tgt := 5) hx hb dJ3_fill_17 (by decide) ?_
        refine ih (j + 1) ls H1 _ (by omega) ?_ hW2 (z2.trans z1) (fun q hq => by rw [o2 q hq, o1 q hq]) (hv_put (n := n1) hS z2 o2 hbP)
        exact lv_sub hl [1, 0, 2, 3] rfl
  exact loop 12 0 ls s.heap [] rfl hl (by rw [cfl_0]; exact hW) rfl (fun _ _ => rfl) va_S.rf
theorem hdH_fill : (yJ3_fill.cls ≠ "java/lang/invoke/MethodHandle" ∧ yJ3_fill.cls ≠ "java/lang/invoke/VarHandle" ∧ (parseMethodDescriptor yJ3_fill.desc).map (fun d => d.parameters.length) = some 2) ∧ plainFor yJ3_fill = true := by decide +kernel
/-- the stone's text alone may have changed -/
def agS (ρ0 ρ : CM) : Prop := ∀ k i j, ¬ (k = 1 ∧ i = 0 ∧ (j = 2 ∨ j = 6)) → ¬ (k = 9 ∧ i = 0) → ρ k i j = ρ0 k i j
def sBp (D0 : Nat → Nat → Nat) (ρ0 : CM) (D : Nat → Nat → Nat) (ρ : CM) : Prop := D = D0 ∧ agS ρ0 ρ
def sCl (D0 : Nat → Nat → Nat) (ρ0 : CM) (D : Nat → Nat → Nat) (ρ : CM) : Prop := D = D0 ∧ agS ρ0 ρ ∧ ρ 1 0 6 = 0 ∧ ∀ q, q < 12 → ρ 9 0 q = 5
def sD (ρ0 : CM) (j : Nat) : Bool := isDig (ubyte (ρ0 21 0 j))
def sYp (D0 : Nat → Nat → Nat) (ρ0 : CM) (n a : Nat) (D : Nat → Nat → Nat) (ρ : CM) : Prop := D = D0 ∧ agS ρ0 ρ ∧ a ≤ n ∧ ρ 1 0 2 = nI a ∧ ρ 1 0 6 = nI a ∧ (∀ q, q < 12 → ρ 9 0 q = if q < a then nI (ubyte (ρ0 21 0 q) - 48) else 5) ∧ ∀ q, q < a → sD ρ0 q = true
def sZp (D0 : Nat → Nat → Nat) (ρ0 : CM) (n a : Nat) (D : Nat → Nat → Nat) (ρ : CM) : Prop := a < n ∧ sYp D0 ρ0 n a D ρ
def sFa (ρ0 : CM) (n a : Nat) : Prop := a < n ∧ runLen (sD ρ0) n = a
theorem metH_clearS (l : Launch) (K : CK) (D0 : Nat → Nat → Nat) (ρ0 : CM) (H : Heap) (D : Nat → Nat → Nat) (ρ : CM) (hW : HWd K D ρ H) (hB : sBp D0 ρ0 D ρ) : MetH l K yX2_clear 1 2 0 0 [.ref (cA K 1 0)] H (ClearR K 1 (sCl D0 ρ0) D ρ H) := by
  refine metH_w (cc := cX2_clear) q207 (Or.inl rfl) (Nat.le_of_ble_eq_true rfl) (fun p e s m args below meth c Q hH hnm hno E hE hT ls hl => ?_)
  subst hH
  have E0 := E
  obtain ⟨S, hTb, hSt, hA⟩ := E
  have S0 := S
  obtain ⟨hx, hb, hml, ho, hts⟩ := S
  have hbP : cP K (cA K 1 0) := hW.2.2.2 1 0 rfl
  have hl : lv_has ls 1 [(0, .ref (cA K 1 0))] := hl
  refine lv_aload_n hx hb dX2_clear_0 rfl (lv_at hl 0 rfl) ?_
  refine hx_gr S0 hTb hW 1 0 5 rfl (by decide) (by decide) rfl q634 (v := .ref (cA K 9 0)) rfl dX2_clear_1 ?_
  refine lv_iconst hx hb dX2_clear_4 (v := 5) (by decide) ?_
  refine hx_HS (As := [.ref (cA K 9 0), .int 5]) (rest := []) E0 va_S.rf (metH_fill l K D ρ s.heap hW) (fun _ _ h => by cases h.1) hdH_fill.2 ⟨by decide, by decide⟩ q210 q208 q209 q119 hdH_fill.1 hl.1 rfl (Nat.le_of_ble_eq_true rfl) ⟨Nat.le_refl _, Nat.le_refl _⟩ dX2_clear_5 (fun v H1 L hF hq hS => ?_)
  obtain ⟨e0, z1, o1, hW1⟩ := hq
  cases e0
  refine lv_aload_n hx hb dX2_clear_8 rfl (lv_at hl 0 rfl) ?_
  refine lv_iconst hx hb dX2_clear_9 (v := 0) (by decide) ?_
  refine hx_pj (D := D) S0 hTb hW1 1 0 6 rfl (by decide) (by decide) rfl rfl rfl rfl rfl rfl q636 dX2_clear_10 (fun H2 n2 hW2 z2 o2 => ?_)
  refine hE H2 _ _ _ ls 13 none (hv_put hS z2 o2 hbP) (Nat.le_refl _) (Nat.le_refl _) ⟨rfl, ⟨D, _, hW2, ⟨hB.1, ?_, cput_eq _ _ _ _ _, fun q hq => ?_⟩, ?_⟩, fun b hb hN => ?_⟩ rfl dX2_clear_13
  · intro k i j h1 h2
    rw [cput_ne (fun z => h1 ⟨z.1, z.2.1, Or.inr z.2.2⟩)]
    unfold cfl
    rw [cblk_ne h2]
    exact hB.2 k i j h1 h2
  · rw [cput_ne (fun z => by omega)]
    unfold cfl
    rw [cblk_eq, if_pos hq]
  · rw [cput_ne (fun z => by omega)]
    unfold cfl
    rw [cblk_ne (fun z => by omega)]
  · rw [o2 b (Ne.symm (hN 1 0 rfl)), o1 b (Ne.symm (hN 9 0 rfl))]
theorem metH_fullS (l : Launch) (K : CK) (D0 : Nat → Nat → Nat) (ρ0 : CM) (n : Nat) (hn : n ≤ 12) (H : Heap) (D : Nat → Nat → Nat) (ρ : CM) (a : Nat) (hW : HWd K D ρ H) (hZ : sZp D0 ρ0 n a D ρ) : MetH l K yX2_isFull 1 2 0 0 [.ref (cA K 1 0)] H (fun o H1 => o = .returned (some (.int 0)) ∧ H1 = H) := by
  refine metH_w (cc := cX2_isFull) q227 (Or.inr (Or.inr (Or.inl rfl))) (Nat.le_of_ble_eq_true rfl) (fun p e s m args below meth c Q hH hnm hno E hE hT ls hl => ?_)
  subst hH
  obtain ⟨S, hTb, hSt, hA⟩ := E
  have S0 := S
  obtain ⟨hx, hb, hml, ho, hts⟩ := S
  have hl : lv_has ls 1 [(0, .ref (cA K 1 0))] := hl
  have hnum := nI12 a (by have := hZ.1; omega)
  refine lv_aload_n hx hb dX2_isFull_0 rfl (lv_at hl 0 rfl) ?_
  refine hx_gi S0 hTb hW 1 0 6 rfl (by decide) (by decide) rfl rfl q636 hZ.2.2.2.2.2.1 dX2_isFull_1 ?_
  refine lv_bipush hx hb dX2_isFull_4 (v := 12) (by decide) ?_
  refine lv_icmp_ne (tgt := 13) hx hb dX2_isFull_6 (by decide) (fun _ => ?_) (fun hc => absurd hc (hnum.2.2.2.2.2.1 (by have := hZ.1; omega)))
  refine lv_iconst hx hb dX2_isFull_13 (v := 0) (by decide) ?_
  exact hE s.heap _ _ _ ls 14 (some (.int 0)) va_S.rf (Nat.le_refl _) (Nat.le_refl _) ⟨rfl, rfl⟩ ⟨_, rfl⟩ dX2_isFull_14
theorem metH_betwS (l : Launch) (K : CK) (D0 : Nat → Nat → Nat) (ρ0 : CM) (n : Nat) (H : Heap) (D : Nat → Nat → Nat) (ρ : CM) (a : Nat) (hW : HWd K D ρ H) (hY : sYp D0 ρ0 n a D ρ) (ha : a < n) : MetH l K yX2_between 1 6 0 0 [.ref (cA K 1 0)] H (BetwR K (sBp D0 ρ0) (sZp D0 ρ0 n) (sFa ρ0 n) a) := by
  refine metH_w (cc := cX2_between) q493 (Or.inl rfl) (Nat.le_of_ble_eq_true rfl) (fun p e s m args below meth c Q hH hnm hno E hE hT ls hl => ?_)
  subst hH
  exact hE s.heap _ _ _ ls 0 none va_S.rf (Nat.le_refl _) (Nat.le_refl _) (Or.inl ⟨D, ρ, a, rfl, hW, ⟨ha, hY⟩, Nat.le_refl _⟩) rfl dX2_between_0
theorem HWd.lt {K : CK} {D : Nat → Nat → Nat} {ρ : CM} {H : Heap} (hW : HWd K D ρ H) : ∀ b, H.size ≤ b → NotLive K D ρ b := by
  intro b hb k i hl z
  have : adr K D k i < H.size := by
    by_cases hk : k < 7
    · obtain ⟨cell, q1, -⟩ := hW.1 k i hk hl
      exact (Array.getElem?_eq_some_iff.mp q1).1
    · exact (Array.getElem?_eq_some_iff.mp (hW.2.1 k i (by omega) hl)).1
  omega
theorem hdH_pas : "WoodliceSenate$Text" ≠ "java/lang/invoke/MethodHandle" ∧ "WoodliceSenate$Text" ≠ "java/lang/invoke/VarHandle" ∧ (parseMethodDescriptor "(Ljava/lang/String;)I").map (fun d => d.parameters.length) = some 1 := by decide +kernel
theorem metH_partS (l : Launch) (K : CK) (D0 : Nat → Nat → Nat) (ρ0 : CM) (n : Nat) (hn : n ≤ 12) (hty : ρ0 1 0 1 = nI n) (H : Heap) (D : Nat → Nat → Nat) (ρ : CM) (a : Nat) (hW : HWd K D ρ H) (hZ : sZp D0 ρ0 n a D ρ) : MetH l K yX2_part 1 6 1 7 [.ref (cA K 1 0)] H (PartR K (sBp D0 ρ0) (sYp D0 ρ0 n) (sFa ρ0 n) a) := by
  refine metH_w (cc := cX2_part) q482 (Or.inl rfl) (Nat.le_of_ble_eq_true rfl) (fun p e s m args below meth c Q hH hnm hno E hE hT ls hl => ?_)
  subst hH
  have E0 := E
  obtain ⟨S, hTb, hSt, hA⟩ := E
  have S0 := S
  obtain ⟨hx, hb, hml, ho, hts⟩ := S
  have hbP : cP K (cA K 1 0) := hW.2.2.2 1 0 rfl
  have hbP9 : cP K (cA K 9 0) := hW.2.2.2 9 0 rfl
  have hl : lv_has ls 1 [(0, .ref (cA K 1 0))] := hl
  obtain ⟨han, hD, hag, hle, hat, hnn, hal, hdg⟩ := hZ
  have hnum := nI12 a (by omega)
  have hty1 : ρ 1 0 1 = nI n := by rw [hag 1 0 1 (by omega) (by omega)]; exact hty
  have hby : ρ 21 0 a = ρ0 21 0 a := hag 21 0 a (by omega) (by omega)
  obtain ⟨u, hu, eu, eb⟩ := ub_and (ρ0 21 0 a)
  have hps : psX ρ 1 0 a n = if isDig u = true then nI (u - 48) else -1 := by
    unfold psX
    rw [if_neg (by omega : ¬ a = n)]
    show ixS 0 (ρ 21 0 a &&& 255) = _
    rw [hby, eu, ixS0 u hu]
  have hsd : sD ρ0 a = isDig u := by unfold sD; rw [eb]
  refine lv_aload_n hx hb dX2_part_0 rfl (lv_at hl 0 rfl) ?_
  refine hx_gr S0 hTb hW 1 0 5 rfl (by decide) (by decide) rfl q634 (v := .ref (cA K 9 0)) rfl dX2_part_1 ?_
  refine lv_aload_n hx hb dX2_part_4 rfl (lv_at hl 0 rfl) ?_
  refine hx_gi S0 hTb hW 1 0 6 rfl (by decide) (by decide) rfl rfl q636 hnn dX2_part_5 ?_
  refine lv_aload_n hx hb dX2_part_8 rfl (lv_at hl 0 rfl) ?_
  refine va_ldcS hx hb ho (hSt.2.2.2.2.2.2.1 0 (by decide)) dX2_part_9 ?_
  refine hx_H (x := ⟨"WoodliceSenate$Stone", "passes", "(Ljava/lang/String;)I"⟩) (owner := "WoodliceSenate$Text") (C := oR 1) (As := [.ref (cSo K (10 + 0))]) (rest := [.int (nI a), .ref (cA K 9 0)]) E0 va_S.rf (metH_passes l K D ρ 1 0 a n s.heap (Or.inl rfl) (by decide) hW hat hty1 (by omega) (by show n ≤ 12; omega)) hdH_pl.2.2.2 ⟨by decide, by decide⟩ (CodeK.of hts q309) q484 q485 (va_Decl.of (hts _ q308) (hts _ q309)) q486 q308 hdH_pas (hx_recv hTb hW 1 0 rfl (by decide) rfl) hl.1 rfl (Nat.le_of_ble_eq_true rfl) ⟨Nat.le_refl _, Nat.le_refl _⟩ dX2_part_11 (fun v H1 L hF hq hS => ?_) (fun b H1 L hF hq hS => ?_)
  · rcases hq with ⟨h0, e0, -⟩ | ⟨h0, e0, z1, o1, hW1⟩
    · cases e0
    cases e0
    have hdu : isDig u = true := by
      cases hd : isDig u with
      | true => rfl
      | false => rw [hps, hd] at h0; exact absurd rfl h0
    rw [hdu, if_pos rfl] at hps
    rw [hps]
    refine hx_is (D := D) S0 hTb hW1 9 0 rfl rfl (x := nI a) (hnum.2.2.2.2.2.2.1 (by omega)) dX2_part_14 (fun H2 n2 hW2 z2 o2 => ?_)
    rw [hnum.1] at hW2
    have hS2 := hv_put (n := n2) hS z2 o2 hbP9
    refine lv_aload_n hx hb dX2_part_15 rfl (lv_at hl 0 rfl) ?_
    refine lv_dup hx hb dX2_part_16 rfl ?_
    refine hx_gi (D := D) S0 hTb hW2 1 0 6 rfl (by decide) (by decide) rfl rfl q636 (x := nI a) (by rw [cput_ne (fun z => by omega), cput_ne (fun z => by omega)]; exact hnn) dX2_part_17 ?_
    refine lv_iconst hx hb dX2_part_20 (v := 1) (by decide) ?_
    refine lv_iadd hx hb dX2_part_21 ?_
    rw [hnum.2.2.2.2.2.2.2]
    refine hx_pj (D := D) S0 hTb hW2 1 0 6 rfl (by decide) (by decide) rfl rfl rfl rfl rfl rfl q636 dX2_part_22 (fun H3 n3 hW3 z3 o3 => ?_)
    refine hE H3 _ _ _ ls 25 none (hv_put hS2 z3 o3 hbP) (Nat.le_refl _) (Nat.le_refl _) (Or.inl ⟨D, _, a + 1, rfl, hW3, ⟨hD, ?_, by omega, ?_, cput_eq _ _ _ _ _, fun q hq => ?_, fun q hq => ?_⟩, by omega⟩) rfl dX2_part_25
    · intro k i j h1 h2
      rw [cput_ne (fun z => h1 ⟨z.1, z.2.1, Or.inr z.2.2⟩), cput_ne (fun z => h2 ⟨z.1, z.2.1⟩), cput_ne (fun z => h1 ⟨z.1, z.2.1, Or.inl z.2.2⟩)]
      exact hag k i j h1 h2
    · rw [cput_ne (fun z => by omega), cput_ne (fun z => by omega), cput_eq]
    · rw [cput_ne (fun z => by omega)]
      by_cases hqa : q = a
      · subst hqa
        rw [cput_eq, if_pos (by omega), eb]
      · rw [cput_ne (fun z => hqa z.2.2), cput_ne (fun z => by omega), hal q hq]
        by_cases h1 : q < a
        · rw [if_pos h1, if_pos (by omega)]
        · rw [if_neg h1, if_neg (by omega)]
    · by_cases hqa : q = a
      · subst hqa
        rw [hsd]; exact hdu
      · exact hdg q (by omega)
  · rcases hq with ⟨h0, e0, z1, o1, hTo⟩ | ⟨h0, e0, -⟩
    · cases e0
      have hdu : isDig u = false := by
        cases hd : isDig u with
        | false => rfl
        | true =>
          rw [hps, hd, if_pos rfl] at h0
          exact absurd h0 (ixS0n u hu hd)
      exact hT H1 _ _ _ ls 11 _ _ hS (Nat.le_refl _) (Nat.le_refl _) (Or.inr ⟨D, ρ, a, s.heap.size, rfl, hW.grow o1, ⟨hD, hag⟩, hTo, hW.lt _ (Nat.le_refl _), han, runLen_stop hdg (by rw [hsd]; exact hdu) (by omega)⟩) (hno 11)
    · cases e0
theorem txI_S (l : Launch) (K : CK) (D0 : Nat → Nat → Nat) (ρ0 : CM) (n : Nat) (hn : n ≤ 12) (hty : ρ0 1 0 1 = nI n) : TxI l K 1 n 1 7 0 0 1 yX2_clear yX2_isFull yX2_part yX2_between (sBp D0 ρ0) (sCl D0 ρ0) (sZp D0 ρ0 n) (sYp D0 ρ0 n) (sFa ρ0 n) := by
  refine ⟨Or.inl rfl, by omega, ?_, ?_, ?_, ?_, ?_, ?_, ?_, ?_, ?_, ?_, by decide, ?_, ?_, ?_, ?_⟩
  · intro a D ρ h
    exact ⟨h.2.2.2.2.1, by rw [h.2.2.1 1 0 1 (by omega) (by omega)]; exact hty, by have := h.1; omega⟩
  · intro a D ρ h
    exact ⟨h.2.2.2.1, by rw [h.2.1 1 0 1 (by omega) (by omega)]; exact hty, h.2.2.1⟩
  · intro D ρ h
    refine ⟨by rw [h.2 1 0 1 (by omega) (by omega)]; exact hty, h.1, fun k i j h1 h2 => ?_⟩
    rw [cput_ne (fun z => h1 ⟨z.1, z.2.1, Or.inl z.2.2⟩)]
    exact h.2 k i j h1 h2
  · intro D ρ h
    rw [h.2.1 1 0 1 (by omega) (by omega)]; exact hty
  · intro D ρ h h2 h0
    exact ⟨h0, h.1, h.2.1, by omega, h2, h.2.2.1, fun q hq => by rw [if_neg (by omega)]; exact h.2.2.2 q hq, fun q hq => by omega⟩
  · intro D ρ h h2 h0
    exact ⟨h.1, h.2.1, by omega, h2, h.2.2.1, fun q hq => by rw [if_neg (by omega)]; exact h.2.2.2 q hq, fun q hq => by omega⟩
  · exact ⟨q205, q206, by decide +kernel, _, _, q207⟩
  · exact ⟨q225, q226, by decide +kernel, _, _, q227⟩
  · exact ⟨q480, q481, by decide +kernel, _, _, q482⟩
  · exact ⟨q491, q492, by decide +kernel, _, _, q493⟩
  · exact fun H D ρ hW hB => metH_clearS l K D0 ρ0 H D ρ hW hB
  · exact fun H D ρ a hW hZ => metH_fullS l K D0 ρ0 n hn H D ρ a hW hZ
  · exact fun H D ρ a hW hZ => metH_partS l K D0 ρ0 n hn hty H D ρ a hW hZ
  · exact fun H D ρ a hW hY ha => metH_betwS l K D0 ρ0 n H D ρ a hW hY ha
