/-! String.indexOf over the literals -/
set_option maxRecDepth 100000
/-- the first place from k on, of r that are left -/
def ixF (f : Nat → Int32) (b : Int32) : Nat → Nat → Int32
  | 0, _ => -1
  | r + 1, k => if f k = b then nI k else ixF f b r (k + 1)
theorem nIs_ge : ∀ k, k < 13 → ∀ n, n < 13 → nI k ≥ nI n → n ≤ k := by decide
theorem nIs_nn : ∀ k, k < 13 → (nI k).toNatClampNeg = k ∧ ¬ nI k < 0 ∧ nI k + Int32.ofInt 1 = nI (k + 1) := by decide
theorem metP_ixc (l : Launch) (K : CK) (i : Nat) (hi : i < 5) (x : Int32) : MetP l K yJ7_indexOfChar 6 0 [.ref (cSo K (20 + i)), .int x, .int 0, .int (nI (strN i))] (some (.int (ixF (strF i) x.toInt8.toInt32 (strN i) 0))) := by
  refine metP_w (cc := cJ7_indexOfChar) q346 rfl (Nat.le_of_ble_eq_true rfl) (fun p e s m args below meth c Q S hSt hE ls hl => ?_)
  obtain ⟨hx, hb, hml, ho, hts⟩ := S
  have h9 := (hSt.2.2.2.2.2.1.1 i hi).2.2.2
  have hN : strN i ≤ 12 := by
    have : ∀ i, i < 5 → strN i ≤ 12 := by decide
    exact this i hi
  have hl : lv_has ls 6 [(0, .ref (cSo K (20 + i))), (1, .int x), (2, .int 0), (3, .int (nI (strN i)))] := hl
  refine lv_iload_n hx hb dJ7_indexOfChar_0 rfl (lv_at hl 1 rfl) ?_
  refine lv_i2b hx hb dJ7_indexOfChar_1 rfl ?_
  refine lv_istore hx hb dJ7_indexOfChar_2 hl (by decide) rfl (fun ls hl => ?_)
  refine lv_iload_n hx hb dJ7_indexOfChar_4 rfl (lv_at hl 3 rfl) ?_
  refine lv_istore hx hb dJ7_indexOfChar_5 hl (by decide) rfl (fun ls hl => ?_)
  have hl : lv_has ls 6 [(5, .int (nI 0)), (4, .int x.toInt8.toInt32), (0, .ref (cSo K (20 + i))), (1, .int x), (2, .int 0), (3, .int (nI (strN i)))] := hl
  have loop : ∀ (r k : Nat) (ls : Array Slot), k + r = strN i → ixF (strF i) x.toInt8.toInt32 (strN i) 0 = ixF (strF i) x.toInt8.toInt32 r k → lv_has ls 6 [(5, .int (nI k)), (4, .int x.toInt8.toInt32), (0, .ref (cSo K (20 + i))), (1, .int x), (2, .int 0), (3, .int (nI (strN i)))] → W p l e (rmc 0 0 0) s m args below meth c s.heap [] 0 0 Q (F0 m 7 ls []) := by
    intro r
    induction r with
    | zero =>
      intro k ls hk hv hl
      have hk : k = strN i := by omega
      subst hk
      rw [hv] at hE
      refine lv_iload hx hb dJ7_indexOfChar_7 (lv_at hl 0 rfl) ?_
      refine lv_iload_n hx hb dJ7_indexOfChar_9 rfl (lv_at hl 5 rfl) ?_
      refine lv_icmp_ge (tgt := 31) hx hb dJ7_indexOfChar_10 (by decide) (fun _ => ?_) (fun hc => absurd (Int32.le_refl _) hc)
      refine lv_iconst hx hb dJ7_indexOfChar_31 (v := -1) (by decide) ?_
      exact hE _ _ dJ7_indexOfChar_32
    | succ r ih =>
      intro k ls hk hv hl
      refine lv_iload hx hb dJ7_indexOfChar_7 (lv_at hl 0 rfl) ?_
      refine lv_iload_n hx hb dJ7_indexOfChar_9 rfl (lv_at hl 5 rfl) ?_
      refine lv_icmp_ge (tgt := 31) hx hb dJ7_indexOfChar_10 (by decide) (fun hc => ?_) (fun _ => ?_)
      · exfalso
        have := nIs_ge k (by omega) (strN i) (by omega) hc
        omega
      · have hk2 := nIs_nn k (by omega)
        refine lv_aload_n hx hb dJ7_indexOfChar_13 rfl (lv_at hl 2 rfl) ?_
        refine lv_iload hx hb dJ7_indexOfChar_14 (lv_at hl 0 rfl) ?_
        refine va_tb hx hb h9 va_S.rf (i := nI k) (v := .int (strF i k)) (fun z => by
          rcases z with z | z
          · exact hk2.2.1 z
          · rw [hk2.1] at z
            have : strL.getD i 0 = strN i := rfl
            omega) (by rw [hk2.1]; rfl) dJ7_indexOfChar_16 ?_
        refine lv_iload hx hb dJ7_indexOfChar_17 (lv_at hl 1 rfl) ?_
        refine lv_icmp_ne (tgt := 25) hx hb dJ7_indexOfChar_19 (by decide) (fun hc => ?_) (fun hc => ?_)
        · refine lv_iinc hx hb dJ7_indexOfChar_25 hl (k := 0) rfl (v := nI (k + 1)) hk2.2.2 (by decide) rfl (fun ls hl => ?_)
          refine lv_goto (tgt := 7) hx hb dJ7_indexOfChar_28 (by decide) ?_
          exact ih (k + 1) ls (by omega) (by rw [hv]; show (if _ then _ else _) = _; rw [if_neg hc]) hl
        · rw [hv] at hE
          have e : ixF (strF i) x.toInt8.toInt32 (r + 1) k = nI k := by
            show (if _ then _ else _) = _
            rw [if_pos hc]
          rw [e] at hE
          refine lv_iload hx hb dJ7_indexOfChar_22 (lv_at hl 0 rfl) ?_
          exact hE _ _ dJ7_indexOfChar_24
  exact loop (strN i) 0 ls (by omega) rfl hl
/-- where a sign stands in a literal -/
def ixS (i : Nat) (x : Int32) : Int32 := ixF (strF i) x.toInt8.toInt32 (strN i) 0
theorem nIs_pos : ∀ i, i < 5 → (0 : Int32) < nI (strN i) ∧ ¬ nI (strN i) > nI (strN i) := by decide
theorem metP_lix (l : Launch) (K : CK) (i : Nat) (hi : i < 5) (x : Int32) (h0 : ¬ x < 0) (h1 : ¬ x > 255) : MetP l K yJ7_indexOf 4 1 [.ref (cSo K (20 + i)), .int x, .int 0, .int (nI (strN i))] (some (.int (ixS i x))) := by
  refine metP_w (cc := cJ7_indexOf) q334 rfl (Nat.le_of_ble_eq_true rfl) (fun p e s m args below meth c Q S hSt hE ls hl => ?_)
  have S0 := S
  obtain ⟨hx, hb, hml, ho, hts⟩ := S
  have h9 := (hSt.2.2.2.2.2.1.1 i hi).2.2.2
  have hp := nIs_pos i hi
  have hl : lv_has ls 4 [(0, .ref (cSo K (20 + i))), (1, .int x), (2, .int 0), (3, .int (nI (strN i)))] := hl
  refine lv_iload_n hx hb dJ7_indexOf_0 rfl (lv_at hl 1 rfl) ?_
  refine hx_pS (As := [.int x]) (rest := []) S0 hSt va_S.rf (metP_canEncode l K x h0 h1) hdP_4.2 ⟨by decide, by decide⟩ q337 q335 q336 q124 hdP_4.1 hl.1 rfl (Nat.le_of_ble_eq_true rfl) ⟨Nat.le_refl _, Nat.le_refl _⟩ dJ7_indexOf_1 ?_
  refine lv_if_ne (tgt := 9) hx hb dJ7_indexOf_4 (by decide) (fun _ => ?_) (fun hc => absurd hc (by decide))
  refine lv_iload_n hx hb dJ7_indexOf_9 rfl (lv_at hl 2 rfl) ?_
  refine lv_iconst hx hb dJ7_indexOf_10 (v := 0) (by decide) ?_
  refine hx_pS (As := [.int 0, .int 0]) (rest := []) S0 hSt va_S.rf (metP_max0 l K) hdP_5.2 ⟨by decide, by decide⟩ q340 q338 q339 q125 hdP_5.1 hl.1 rfl (Nat.le_of_ble_eq_true rfl) ⟨Nat.le_refl _, Nat.le_refl _⟩ dJ7_indexOf_11 ?_
  refine lv_istore_n hx hb dJ7_indexOf_14 rfl hl (by decide) rfl (fun ls hl => ?_)
  have hl : lv_has ls 4 [(2, .int 0), (0, .ref (cSo K (20 + i))), (1, .int x), (3, .int (nI (strN i)))] := hl
  refine lv_iload_n hx hb dJ7_indexOf_15 rfl (lv_at hl 3 rfl) ?_
  refine lv_aload_n hx hb dJ7_indexOf_16 rfl (lv_at hl 1 rfl) ?_
  refine va_tlen hx hb h9 va_S.rf (v := nI (strN i)) rfl dJ7_indexOf_17 ?_
  refine hx_pS (As := [.int (nI (strN i)), .int (nI (strN i))]) (rest := []) S0 hSt va_S.rf (metP_minx l K _ hp.2) hdP_6.2 ⟨by decide, by decide⟩ q343 q341 q342 q125 hdP_6.1 hl.1 rfl (Nat.le_of_ble_eq_true rfl) ⟨Nat.le_refl _, Nat.le_refl _⟩ dJ7_indexOf_18 ?_
  refine lv_istore_n hx hb dJ7_indexOf_21 rfl hl (by decide) rfl (fun ls hl => ?_)
  have hl : lv_has ls 4 [(3, .int (nI (strN i))), (2, .int 0), (0, .ref (cSo K (20 + i))), (1, .int x)] := hl
  refine lv_iload_n hx hb dJ7_indexOf_22 rfl (lv_at hl 1 rfl) ?_
  refine lv_iload_n hx hb dJ7_indexOf_23 rfl (lv_at hl 0 rfl) ?_
  refine lv_icmp_lt (tgt := 29) hx hb dJ7_indexOf_24 (by decide) (fun _ => ?_) (fun hc => absurd hp.1 hc)
  refine lv_aload_n hx hb dJ7_indexOf_29 rfl (lv_at hl 2 rfl) ?_
  refine lv_iload_n hx hb dJ7_indexOf_30 rfl (lv_at hl 3 rfl) ?_
  refine lv_iload_n hx hb dJ7_indexOf_31 rfl (lv_at hl 1 rfl) ?_
  refine lv_iload_n hx hb dJ7_indexOf_32 rfl (lv_at hl 0 rfl) ?_
  refine hx_pS (As := [.ref (cSo K (20 + i)), .int x, .int 0, .int (nI (strN i))]) (rest := []) S0 hSt va_S.rf (metP_ixc l K i hi x) hdP_7.2 ⟨by decide, by decide⟩ q346 q344 q345 q124 hdP_7.1 hl.1 rfl (Nat.le_of_ble_eq_true rfl) ⟨Nat.le_refl _, Nat.le_refl _⟩ dJ7_indexOf_33 ?_
  exact hE _ _ dJ7_indexOf_36
theorem metP_ix2 (l : Launch) (K : CK) (i : Nat) (hi : i < 5) (x : Int32) (h0 : ¬ x < 0) (h1 : ¬ x > 255) : MetP l K yJ6_indexOf_2 3 2 [.ref (cSo K (10 + i)), .int x, .int 0] (some (.int (ixS i x))) := by
  refine metP_w (cc := cJ6_indexOf_2) q317 rfl (Nat.le_of_ble_eq_true rfl) (fun p e s m args below meth c Q S hSt hE ls hl => ?_)
  have S0 := S
  obtain ⟨hx, hb, hml, ho, hts⟩ := S
  have h9 := hSt.2.2.2.2.2.1.1 i hi
  have hl : lv_has ls 3 [(0, .ref (cSo K (10 + i))), (1, .int x), (2, .int 0)] := hl
  refine lv_aload_n hx hb dJ6_indexOf_2_0 rfl (lv_at hl 0 rfl) ?_
  refine hx_pV (C := RJ6) (As := []) (rest := []) S0 hSt va_S.rf (metP_isLatin1 l K i hi) hdP_1.2 ⟨by decide, by decide⟩ q321 q318 q319 q320 hdP_1.1 (str_recv hSt hi) hl.1 rfl (Nat.le_of_ble_eq_true rfl) ⟨Nat.le_refl _, Nat.le_refl _⟩ dJ6_indexOf_2_1 ?_
  refine lv_if_eq (tgt := 23) hx hb dJ6_indexOf_2_4 (by decide) (fun hc => absurd hc (by decide)) (fun _ => ?_)
  refine lv_aload_n hx hb dJ6_indexOf_2_7 rfl (lv_at hl 0 rfl) ?_
  refine vk_getf hx hb h9.2.2.1 va_S.rf ho (hts _ q1803) (fun _ h => h) dJ6_indexOf_2_8 ?_
  refine lv_iload_n hx hb dJ6_indexOf_2_11 rfl (lv_at hl 1 rfl) ?_
  refine lv_iload_n hx hb dJ6_indexOf_2_12 rfl (lv_at hl 2 rfl) ?_
  refine lv_aload_n hx hb dJ6_indexOf_2_13 rfl (lv_at hl 0 rfl) ?_
  refine hx_pV (C := RJ6) (As := []) (rest := [.int 0, .int x, .ref (cSo K (20 + i))]) S0 hSt va_S.rf (metP_length l K i hi) hdP_3.2 ⟨by decide, by decide⟩ q327 q324 q325 q326 hdP_3.1 (str_recv hSt hi) hl.1 rfl (Nat.le_of_ble_eq_true rfl) ⟨Nat.le_refl _, Nat.le_refl _⟩ dJ6_indexOf_2_14 ?_
  refine hx_pS (As := [.ref (cSo K (20 + i)), .int x, .int 0, .int (nI (strN i))]) (rest := []) S0 hSt va_S.rf (metP_lix l K i hi x h0 h1) hdP_8.2 ⟨by decide, by decide⟩ q334 q332 q333 q124 hdP_8.1 hl.1 rfl (Nat.le_of_ble_eq_true rfl) ⟨Nat.le_refl _, Nat.le_refl _⟩ dJ6_indexOf_2_17 ?_
  refine lv_goto (tgt := 36) hx hb dJ6_indexOf_2_20 (by decide) ?_
  exact hE _ _ dJ6_indexOf_2_36
theorem metP_ix (l : Launch) (K : CK) (i : Nat) (hi : i < 5) (x : Int32) (h0 : ¬ x < 0) (h1 : ¬ x > 255) : MetP l K yJ6_indexOf 2 3 [.ref (cSo K (10 + i)), .int x] (some (.int (ixS i x))) := by
  refine metP_w (cc := cJ6_indexOf) q313 rfl (Nat.le_of_ble_eq_true rfl) (fun p e s m args below meth c Q S hSt hE ls hl => ?_)
  have S0 := S
  obtain ⟨hx, hb, hml, ho, hts⟩ := S
  have hl : lv_has ls 2 [(0, .ref (cSo K (10 + i))), (1, .int x)] := hl
  refine lv_aload_n hx hb dJ6_indexOf_0 rfl (lv_at hl 0 rfl) ?_
  refine lv_iload_n hx hb dJ6_indexOf_1 rfl (lv_at hl 1 rfl) ?_
  refine lv_iconst hx hb dJ6_indexOf_2 (v := 0) (by decide) ?_
  refine hx_pV (C := RJ6) (As := [.int x, .int 0]) (rest := []) S0 hSt va_S.rf (metP_ix2 l K i hi x h0 h1) hdP_9.2 ⟨by decide, by decide⟩ q317 q314 q315 q316 hdP_9.1 (str_recv hSt hi) hl.1 rfl (Nat.le_of_ble_eq_true rfl) ⟨Nat.le_refl _, Nat.le_refl _⟩ dJ6_indexOf_3 ?_
  exact hE _ _ dJ6_indexOf_6
