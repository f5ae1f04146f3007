/-! Text.passes; reading from the real memory -/
set_option maxRecDepth 100000
section RB
variable {p : Program} {l : Launch} {e : Env} {R : Room} {s : State} {m : MethodId} {args : Array Value} {below : List Frame} {meth : Method} {c : Code} {H H0 H1 : Heap} {locs : List Loc} {ce sl : Nat} {Q : State → Prop}
variable {cc : ByteArray} {pc nL a : Nat} {ls : Array Slot} {rest : List Value} {K : CK} {D : Nat → Nat → Nat} {ρ : CM} {own : String}
/-- a byte is loaded -/
theorem hx_bl (F : CallFix p m c cc nL s args lw_all own) (hT : CTb K s) (hW : HWd K D ρ H) (k i : Nat) (had : adr K D k i = a) (ha : k = 21 ∨ k = 22) (hlv : clive ρ k i = true) {x : Int32} (hin : inb x (aLen ρ k i) = true) (hdg : decode cc pc = .ok (.baload, 1))
    (kk : W p l e R s m args below meth c H locs ce sl Q (F0 m (pc + 1) ls (.int (ρ k i x.toNatClampNeg) :: rest))) : W p l e R s m args below meth c H locs ce sl Q (F0 m pc ls (.int x :: .ref a :: rest)) := by
  obtain ⟨hx, hb, hml, hown, hts⟩ := F
  subst had
  have h0 : 7 ≤ k ∧ aCd ρ k i = 1 ∧ aV K D ρ k i = fun j => .int (ρ k i j) := by rcases ha with rfl | rfl <;> exact ⟨by decide, rfl, rfl⟩
  have h1 := hW.2.1 k i h0.1 hlv
  unfold aCell at h1
  rw [h0.2.1, h0.2.2] at h1
  exact W.bald (v := .int (ρ k i x.toNatClampNeg)) hx hb h1 ((hT.2.1 1 (by decide)).1 (aLen ρ k i) (fun j => .int (ρ k i j))) (fun q => by cases q) (by rw [arrV_size]; exact inb_vp hin) (by rw [arrV_read _ _ (inb_lt hin)]) rfl rfl hdg kk
/-- an int field, a reference field is got; an int field is put: over the real memory -/
theorem hx_gi (F : CallFix p m c cc nL s args lw_all own) (hT : CTb K s) (hW : HWd K D ρ H) {index : Nat} (k i f : Nat) (ha : adr K D k i = a) (hk : k < 7) (hf : f < oN k) (hlv : clive ρ k i = true) (hi : oInt k f = true) (hlink : Cond.fieldLink own index (oT k f).1 (oT k f).2.1 (oT k f).2.2.1 ∈ lw_all) {x : Int32} (hx : ρ k i f = x) (hdg : decode cc pc = .ok (.getfield index, 3))
    (kk : W p l e R s m args below meth c H locs ce sl Q (F0 m (pc + 3) ls (.int x :: rest))) : W p l e R s m args below meth c H locs ce sl Q (F0 m pc ls (.ref a :: rest)) := by
  subst ha
  refine hx_get F hT hW k i f hk hf hlv (F.2.2.2.2 _ hlink) hdg ?_
  rw [oV_int hi, hx]
  exact kk
theorem hx_gr (F : CallFix p m c cc nL s args lw_all own) (hT : CTb K s) (hW : HWd K D ρ H) {index : Nat} (k i f : Nat) (ha : adr K D k i = a) (hk : k < 7) (hf : f < oN k) (hlv : clive ρ k i = true) (hlink : Cond.fieldLink own index (oT k f).1 (oT k f).2.1 (oT k f).2.2.1 ∈ lw_all) {v : Value} (hv : oV K D ρ k i f = v) (hdg : decode cc pc = .ok (.getfield index, 3))
    (kk : W p l e R s m args below meth c H locs ce sl Q (F0 m (pc + 3) ls (v :: rest))) : W p l e R s m args below meth c H locs ce sl Q (F0 m pc ls (.ref a :: rest)) := by
  subst ha
  refine hx_get F hT hW k i f hk hf hlv (F.2.2.2.2 _ hlink) hdg ?_
  rw [hv]
  exact kk
theorem hx_pj (F : CallFix p m c cc nL s args lw_all own) (hT : CTb K s) (hW : HWd K D ρ H) {index : Nat} (k i f : Nat) (ha : adr K D k i = a) (hk : k < 7) (hf : f < oN k) (hlv : clive ρ k i = true) (hfin : (oT k f).2.2.2 = false) (hi : oInt k f = true) (hpl : plain k f = true) {v : Int32} (hn : narrow (oTy k f) (.int v) = .int v) (hfit : fits (oTy k f) (.int v) = true) (hlink : Cond.fieldLink own index (oT k f).1 (oT k f).2.1 (oT k f).2.2.1 ∈ lw_all) (hdg : decode cc pc = .ok (.putfield index, 3))
    (kk : ∀ (H1 : Heap) (n : Nat), HWd K D (cput ρ k i f v) H1 → H1.size = H.size → (∀ q, q ≠ a → H1[q]? = H[q]?) → W p l e R s m args below meth c H1 (locs ++ [⟨a, n⟩]) ce sl Q (F0 m (pc + 3) ls rest)) : W p l e R s m args below meth c H locs ce sl Q (F0 m pc ls (.int v :: .ref a :: rest)) := by
  subst ha
  exact hx_pi F hT hW k i f hk hf hlv hfin hi hpl hn hfit (Or.inl (F.2.2.2.2 _ hlink)) hdg kk
end RB
/-- cells are but made -/
theorem HWd.grow {K : CK} {D : Nat → Nat → Nat} {ρ : CM} {H H1 : Heap} (hW : HWd K D ρ H) (o : ∀ q, q < H.size → H1[q]? = H[q]?) : HWd K D ρ H1 := by
  refine ⟨fun k i hk hl => ?_, fun k i hk hl => ?_, hW.2.2.1, hW.2.2.2⟩
  · have h := hW.1 k i hk hl
    obtain ⟨cell, q1, -⟩ := id h
    exact h.kept (o _ (Array.getElem?_eq_some_iff.mp q1).1)
  · have h := hW.2.1 k i hk hl
    rw [o _ (Array.getElem?_eq_some_iff.mp h).1]
    exact h
/-- what passes answers -/
def psX (ρ : CM) (k i a n : Nat) : Int32 := if a = n then -1 else ixS i (ρ (20 + k) 0 a &&& 255)
/-- Torn lies there, made at place a -/
def TornAt (K : CK) (H1 : Heap) (b a : Nat) : Prop := ∃ V, t_OB b (cC K 7) 7 (cI K 7) H1 V ∧ V 6 = .int (nI a)
def PasR (K : CK) (D : Nat → Nat → Nat) (ρ : CM) (k i a n : Nat) (H0 : Heap) : Outcome → Heap → Prop := fun o H1 =>
  (psX ρ k i a n = -1 ∧ o = .threw H0.size ∧ H1.size = H0.size + 1 ∧ (∀ q, q < H0.size → H1[q]? = H0[q]?) ∧ TornAt K H1 H0.size a) ∨
  (psX ρ k i a n ≠ -1 ∧ o = .returned (some (.int (psX ρ k i a n))) ∧ H1.size = H0.size ∧ (∀ q, q ≠ cA K k 0 → H1[q]? = H0[q]?) ∧ HWd K D (cput ρ k 0 2 (nI (a + 1))) H1)
theorem hdH_torn : (yX7_init.name = "<init>" ∧ yX7_init.cls ≠ "java/lang/invoke/MethodHandle" ∧ yX7_init.cls ≠ "java/lang/invoke/VarHandle" ∧ (parseMethodDescriptor yX7_init.desc).map (fun d => d.parameters.length) = some 1) ∧ plainFor yX7_init = true := by decide +kernel
theorem nI31 : ∀ a, a < 32 → ∀ n, n < 32 → (nI a = nI n → a = n) ∧ nI a + 1 = nI (a + 1) ∧ (nI a).toNatClampNeg = a ∧ ¬ nI a < 0 ∧ (nI a ≥ nI n → n ≤ a) ∧ (n ≤ a → nI a ≥ nI n) := by decide +kernel
theorem metH_passes (l : Launch) (K : CK) (D : Nat → Nat → Nat) (ρ : CM) (k i a n : Nat) (H0 : Heap) (hk : k = 1 ∨ k = 2) (hi : i < 5) (hW : HWd K D ρ H0) (hat : ρ k 0 2 = nI a) (hty : ρ k 0 1 = nI n) (han : a ≤ n) (hn : n ≤ aLen ρ (20 + k) 0) : MetH l K yX1_passes 3 4 1 7 [.ref (cA K k 0), .ref (cSo K (10 + i))] H0 (PasR K D ρ k i a n H0) := by
  refine metH_w (cc := cX1_passes) q309 (Or.inr (Or.inl rfl)) (Nat.le_of_ble_eq_true rfl) (fun p e s m args below meth c Q hH hnm hno E hE hT ls hl => ?_)
  subst hH
  have E0 := E
  obtain ⟨S, hTb, hSt, hA⟩ := E
  have S0 := S
  obtain ⟨hx, hb, hml, ho, hts⟩ := S
  have hK := hSt.2.2.2.2.2.2.2.2.2.2
  have hk7 : k < 7 := by omega
  have hlen : aLen ρ (20 + k) 0 ≤ 31 := by rcases hk with rfl | rfl <;> exact Nat.le_of_ble_eq_true rfl
  have hA0 : adr K D k 0 = cA K k 0 := by rcases hk with rfl | rfl <;> rfl
  have hA1 : adr K D (20 + k) 0 = cA K (20 + k) 0 := by rcases hk with rfl | rfl <;> rfl
  have hlv : clive ρ k 0 = true := by rcases hk with rfl | rfl <;> rfl
  have hlv1 : clive ρ (20 + k) 0 = true := by rcases hk with rfl | rfl <;> rfl
  have hoN : 4 < oN k := by rcases hk with rfl | rfl <;> decide
  have hbP : cP K (cA K k 0) := by rw [← hA0]; exact hW.2.2.2 k 0 hlv
  have hi1 : oInt k 1 = true := by rcases hk with rfl | rfl <;> rfl
  have hi2 : oInt k 2 = true := by rcases hk with rfl | rfl <;> rfl
  have l1 : Cond.fieldLink "WoodliceSenate$Text" 21 (oT k 1).1 (oT k 1).2.1 (oT k 1).2.2.1 ∈ lw_all := by rcases hk with rfl | rfl <;> exact q639
  have l2 : Cond.fieldLink "WoodliceSenate$Text" 29 (oT k 2).1 (oT k 2).2.1 (oT k 2).2.2.1 ∈ lw_all := by rcases hk with rfl | rfl <;> exact q640
  have l0 : Cond.fieldLink "WoodliceSenate$Text" 9 (oT k 0).1 (oT k 0).2.1 (oT k 0).2.2.1 ∈ lw_all := by rcases hk with rfl | rfl <;> exact q638
  have hl : lv_has ls 3 [(0, .ref (cA K k 0)), (1, .ref (cSo K (10 + i)))] := hl
  have hnum := nI31 a (by omega) n (by omega)
  have tail : ∀ x : Int32, psX ρ k i a n = x → W p l e (rmc 4 1 7) s m args below meth c s.heap [] 0 0 Q (F0 m 32 ls [.int x]) := by
    intro x hxv
    refine lv_istore_n hx hb dX1_passes_32 rfl hl (by decide) rfl (fun ls hl => ?_)
    have hl : lv_has ls 3 [(2, .int x), (0, .ref (cA K k 0)), (1, .ref (cSo K (10 + i)))] := hl
    refine lv_iload_n hx hb dX1_passes_33 rfl (lv_at hl 0 rfl) ?_
    refine lv_iconst hx hb dX1_passes_34 (v := -1) (by decide) ?_
    refine lv_icmp_ne (tgt := 50) hx hb dX1_passes_35 (by decide) (fun hc => ?_) (fun hc => ?_)
    · refine lv_aload_n hx hb dX1_passes_50 rfl (lv_at hl 1 rfl) ?_
      refine lv_dup hx hb dX1_passes_51 rfl ?_
      refine hx_gi S0 hTb hW k 0 2 hA0 hk7 (by omega) hlv hi2 l2 hat dX1_passes_52 ?_
      refine lv_iconst hx hb dX1_passes_55 (v := 1) (by decide) ?_
      refine lv_iadd hx hb dX1_passes_56 ?_
      rw [hnum.2.1]
      refine hx_pj S0 hTb hW k 0 2 hA0 hk7 (by omega) hlv (by rcases hk with rfl | rfl <;> rfl) hi2 (by rcases hk with rfl | rfl <;> rfl) (by rcases hk with rfl | rfl <;> rfl) (by rcases hk with rfl | rfl <;> rfl) l2 dX1_passes_57 (fun H1 n1 hW1 z1 o1 => ?_)
      refine lv_iload_n hx hb dX1_passes_60 rfl (lv_at hl 0 rfl) ?_
      exact hE H1 _ _ _ ls 61 (some (.int x)) (hv_put (locs := []) va_S.rf z1 o1 hbP) (Nat.zero_le _) (Nat.zero_le _) (Or.inr ⟨by rw [hxv]; exact hc, by rw [hxv]; rfl, z1, o1, hW1⟩) ⟨x, rfl⟩ dX1_passes_61
    · have hc : x = -1 := hc
      refine ob_new S0 hK in_X7 tyX7_ok q194 q228 q122 (Nat.le_refl _) (Nat.le_refl _) dX1_passes_38 (fun H1 hO z1 o1 => ?_)
      have hS1 : va_S (cP K) s.heap H1 [] := hv_new va_S.rf z1 o1
      have hnP : cP K s.heap.size := hA _ (Nat.le_refl _)
      refine lv_dup hx hb dX1_passes_41 rfl ?_
      refine lv_aload_n hx hb dX1_passes_42 rfl (lv_at hl 1 rfl) ?_
      refine hx_gi S0 hTb (hW.grow o1) k 0 2 hA0 hk7 (by omega) hlv hi2 l2 hat dX1_passes_43 ?_
      refine hx_HI (As := [.int (nI a)]) (rest := [.ref s.heap.size]) E0 hS1 (metH_torn l K H1 s.heap.size _ (nI a) hO hnP) ObR.nt hdH_torn.2 ⟨by decide, by decide⟩ q271 q269 q270 hdH_torn.1 hl.1 rfl (Nat.le_of_ble_eq_true rfl) ⟨Nat.le_refl _, Nat.le_refl _⟩ dX1_passes_46 (fun v H2 L hF hq hS2 => ?_)
      obtain ⟨h0, h1, h2, h3⟩ := hq
      cases h0
      refine hx_athrow hx hb dX1_passes_49 ?_
      exact hT H2 _ _ _ ls 49 _ _ hS2 (Nat.le_refl _) (Nat.le_refl _) (Or.inl ⟨hxv.trans hc, rfl, h1.trans z1, fun q hq => by rw [h2 q (by omega), o1 q hq], _, h3, rfl⟩) (hno 49)
  refine lv_aload_n hx hb dX1_passes_0 rfl (lv_at hl 0 rfl) ?_
  refine hx_gi S0 hTb hW k 0 2 hA0 hk7 (by omega) hlv hi2 l2 hat dX1_passes_1 ?_
  refine lv_aload_n hx hb dX1_passes_4 rfl (lv_at hl 0 rfl) ?_
  refine hx_gi S0 hTb hW k 0 1 hA0 hk7 (by omega) hlv hi1 l1 hty dX1_passes_5 ?_
  refine lv_icmp_ne (tgt := 15) hx hb dX1_passes_8 (by decide) (fun hc => ?_) (fun hc => ?_)
  · have hne : a ≠ n := fun z => hc (by rw [z])
    refine lv_aload_n hx hb dX1_passes_15 rfl (lv_at hl 1 rfl) ?_
    refine lv_aload_n hx hb dX1_passes_16 rfl (lv_at hl 0 rfl) ?_
    refine hx_gr S0 hTb hW k 0 0 hA0 hk7 (by omega) hlv l0 (v := .ref (cA K (20 + k) 0)) (by rcases hk with rfl | rfl <;> rfl) dX1_passes_17 ?_
    refine lv_aload_n hx hb dX1_passes_20 rfl (lv_at hl 0 rfl) ?_
    refine hx_gi S0 hTb hW k 0 2 hA0 hk7 (by omega) hlv hi2 l2 hat dX1_passes_21 ?_
    refine hx_bl S0 hTb hW (20 + k) 0 hA1 (by omega) hlv1 (x := nI a) (by
      simp only [inb, Bool.and_eq_true, Bool.not_eq_true', decide_eq_true_eq, decide_eq_false_iff_not]
      rw [hnum.2.2.1]
      exact fun z => by
        rcases z with z | z
        · exact hnum.2.2.2.1 z
        · omega) dX1_passes_24 ?_
    rw [hnum.2.2.1]
    refine lv_sipush hx hb dX1_passes_25 (v := 255) (by decide) ?_
    refine lv_iand hx hb dX1_passes_28 ?_
    obtain ⟨j, hj, ej⟩ := pk_andE (ρ (20 + k) 0 a) (m := 255) 8 (by decide)
    have hb0 : ¬ (ρ (20 + k) 0 a &&& 255) < 0 ∧ ¬ (ρ (20 + k) 0 a &&& 255) > 255 := by
      rw [ej]
      have : ∀ j, j < 256 → ¬ nI j < 0 ∧ ¬ nI j > 255 := by decide +kernel
      exact this j hj
    refine hx_pV (C := RJ6) (As := [.int (ρ (20 + k) 0 a &&& 255)]) (rest := []) S0 hSt va_S.rf (metP_ix l K i hi _ hb0.1 hb0.2) hdP_10.2 ⟨by decide, by decide⟩ q313 q310 q311 q312 hdP_10.1 (str_recv hSt hi) hl.1 rfl (Nat.le_of_ble_eq_true rfl) ⟨Nat.zero_le _, Nat.zero_le _⟩ dX1_passes_29 ?_
    exact tail _ (by unfold psX; rw [if_neg hne])
  · have hne : a = n := hnum.1 hc
    refine lv_iconst hx hb dX1_passes_11 (v := -1) (by decide) ?_
    refine lv_goto (tgt := 32) hx hb dX1_passes_12 (by decide) ?_
    exact tail _ (by unfold psX; rw [if_pos hne])
