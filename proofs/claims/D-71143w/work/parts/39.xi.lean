/-! Torn's constructors -/
set_option maxRecDepth 100000
theorem hv_put {P : Nat → Prop} {H0 H H1 : Heap} {locs : List Loc} {b n : Nat} (hS : va_S P H0 H locs) (z : H1.size = H.size) (o : ∀ q, q ≠ b → H1[q]? = H[q]?) (hb : P b) : va_S P H0 H1 (locs ++ [⟨b, n⟩]) := hS.put z o hb
theorem hv_new {P : Nat → Prop} {H0 H H1 : Heap} {locs : List Loc} (hS : va_S P H0 H locs) (z : H1.size = H.size + 1) (o : ∀ q, q < H.size → H1[q]? = H[q]?) : va_S P H0 H1 locs :=
  ⟨Nat.le_trans hS.1 (by omega), fun a h1 h2 => by rw [o a (Nat.lt_of_lt_of_le h1 hS.1)]; exact hS.2.1 a h1 h2, hS.2.2⟩
/-- one object anew, nothing else -/
def ObR (H0 : Heap) (cT : ClassId) (N : Nat) (iT : Nat → Nat) (b : Nat) (V' : Nat → Value) : Outcome → Heap → Prop := fun o H1 => o = .returned none ∧ H1.size = H0.size ∧ (∀ q, q ≠ b → H1[q]? = H0[q]?) ∧ t_OB b cT N iT H1 V'
theorem ObR.nt {H0 : Heap} {cT : ClassId} {N : Nat} {iT : Nat → Nat} {b : Nat} {V' : Nat → Value} : ∀ a H1, ¬ ObR H0 cT N iT b V' (.threw a) H1 := fun _ _ h => by cases h.1
def tnV (V : Nat → Value) : Nat → Value := fun j => if j < 4 then .null else V j
theorem metH_thr (l : Launch) (K : CK) (H0 : Heap) (b : Nat) (V : Nat → Value) (hO : t_OB b (cC K 7) 7 (cI K 7) H0 V) (hbP : cP K b) : MetH l K yJ4_init_2 5 1 0 0 [.ref b, .null, .null, .int 0, .int 0] H0 (ObR H0 (cC K 7) 7 (cI K 7) b (tnV V)) := by
  refine metH_w (cc := cJ4_init_2) q277 (Or.inl rfl) (Nat.le_of_ble_eq_true rfl) (fun p e s m args below meth c Q hH hnm hno E hE hT ls hl => ?_)
  subst hH
  obtain ⟨S, hTb, hSt, hA⟩ := E
  have S0 := S
  obtain ⟨hx, hb, hml, ho, hts⟩ := S
  have hK := hSt.2.2.2.2.2.2.2.2.2.2
  have hl : lv_has ls 5 [(0, .ref b), (1, .null), (2, .null), (3, .int 0), (4, .int 0)] := hl
  obtain ⟨v9, hv9, hz9⟩ := hSt.2.2.2.2.2.2.2.2.1
  obtain ⟨v10, hv10, hz10⟩ := hSt.2.2.2.2.2.2.2.2.2.1
  have n9 : narrow (tyX7 1) v9 = v9 ∧ fits (tyX7 1) v9 = true := by rcases hv9 with rfl | ⟨a, rfl⟩ <;> exact ⟨rfl, rfl⟩
  have n10 : narrow (tyX7 2) v10 = v10 ∧ fits (tyX7 2) v10 = true := by rcases hv10 with rfl | ⟨a, rfl⟩ <;> exact ⟨rfl, rfl⟩
  refine lv_aload_n hx hb dJ4_init_2_0 rfl (lv_at hl 0 rfl) ?_
  refine W.objInit hx hb ho (hts _ q250) (hts _ q251) (hts _ q252) rfl (by rw [hml]; exact hl.1) rfl dJ4_init_2_1 (Nat.le_of_ble_eq_true rfl) (Nat.le_of_ble_eq_true rfl) ?_
  show W p l e (rmc 1 0 0) s m args below meth c s.heap [] 0 0 Q (F0 m 4 ls [])
  refine lv_aload_n hx hb dJ4_init_2_4 rfl (lv_at hl 0 rfl) ?_
  refine lv_aload_n hx hb dJ4_init_2_5 rfl (lv_at hl 0 rfl) ?_
  refine ob_put S0 hK in_X7 tyX7_ok nmX7 hO 0 (by decide) rfl (v := .ref b) rfl rfl q282 dJ4_init_2_6 (fun H1 n1 hO z1 o1 => ?_)
  have hS := hv_put (n := n1) (locs := []) (va_S.rf (A := cP K)) z1 o1 hbP
  refine lv_aload_n hx hb dJ4_init_2_9 rfl (lv_at hl 0 rfl) ?_
  refine va_gets hx hb hz9 hS ho (hts _ q253) (fun _ h => h) dJ4_init_2_10 ?_
  refine ob_put S0 hK in_X7 tyX7_ok nmX7 hO 1 (by decide) rfl n9.1 n9.2 q283 dJ4_init_2_13 (fun H2 n2 hO z2 o2 => ?_)
  have hS := hv_put (n := n2) hS z2 o2 hbP
  refine lv_aload_n hx hb dJ4_init_2_16 rfl (lv_at hl 0 rfl) ?_
  refine va_gets hx hb hz10 hS ho (hts _ q255) (fun _ h => h) dJ4_init_2_17 ?_
  refine ob_put S0 hK in_X7 tyX7_ok nmX7 hO 2 (by decide) rfl n10.1 n10.2 q284 dJ4_init_2_20 (fun H3 n3 hO z3 o3 => ?_)
  have hS := hv_put (n := n3) hS z3 o3 hbP
  refine lv_iload hx hb dJ4_init_2_23 (lv_at hl 4 rfl) ?_
  refine lv_if_eq (tgt := 36) hx hb dJ4_init_2_25 (by decide) (fun _ => ?_) (fun hc => absurd rfl hc)
  refine lv_aload_n hx hb dJ4_init_2_36 rfl (lv_at hl 0 rfl) ?_
  refine lv_null hx hb dJ4_init_2_37 ?_
  refine ob_put S0 hK in_X7 tyX7_ok nmX7 hO 1 (by decide) rfl (v := .null) rfl rfl q283 dJ4_init_2_38 (fun H4 n4 hO z4 o4 => ?_)
  have hS := hv_put (n := n4) hS z4 o4 hbP
  refine lv_aload_n hx hb dJ4_init_2_41 rfl (lv_at hl 0 rfl) ?_
  refine lv_aload_nN hx hb dJ4_init_2_42 rfl (lv_at hl 1 rfl) ?_
  refine ob_put S0 hK in_X7 tyX7_ok nmX7 hO 3 (by decide) rfl (v := .null) rfl rfl q281 dJ4_init_2_43 (fun H5 n5 hO z5 o5 => ?_)
  have hS := hv_put (n := n5) hS z5 o5 hbP
  refine lv_aload_n hx hb dJ4_init_2_46 rfl (lv_at hl 0 rfl) ?_
  refine lv_aload_nN hx hb dJ4_init_2_47 rfl (lv_at hl 2 rfl) ?_
  refine ob_put S0 hK in_X7 tyX7_ok nmX7 hO 0 (by decide) rfl (v := .null) rfl rfl q282 dJ4_init_2_48 (fun H6 n6 hO z6 o6 => ?_)
  have hS := hv_put (n := n6) hS z6 o6 hbP
  refine lv_iload_n hx hb dJ4_init_2_51 rfl (lv_at hl 3 rfl) ?_
  refine lv_if_ne (tgt := 60) hx hb dJ4_init_2_52 (by decide) (fun hc => absurd rfl hc) (fun _ => ?_)
  refine lv_aload_n hx hb dJ4_init_2_55 rfl (lv_at hl 0 rfl) ?_
  refine lv_null hx hb dJ4_init_2_56 ?_
  refine ob_put S0 hK in_X7 tyX7_ok nmX7 hO 2 (by decide) rfl (v := .null) rfl rfl q284 dJ4_init_2_57 (fun H7 n7 hO z7 o7 => ?_)
  have hS := hv_put (n := n7) hS z7 o7 hbP
  refine hE H7 _ 0 0 ls 60 none hS (Nat.zero_le _) (Nat.zero_le _) ⟨rfl, by omega, fun q hq => ?_, hO.to (fun j _ => ?_)⟩ rfl dJ4_init_2_60
  · rw [o7 q hq, o6 q hq, o5 q hq, o4 q hq, o3 q hq, o2 q hq, o1 q hq]
  · have hj : j = 0 ∨ j = 1 ∨ j = 2 ∨ j = 3 ∨ (j ≠ 0 ∧ j ≠ 1 ∧ j ≠ 2 ∧ j ≠ 3 ∧ ¬ j < 4) := by omega
    rcases hj with rfl | rfl | rfl | rfl | ⟨h0, h1, h2, h3, h4⟩
    · rfl
    · rfl
    · rfl
    · rfl
    · simp [updV, tnV, h0, h1, h2, h3, h4]
theorem metH_exc (l : Launch) (K : CK) (H0 : Heap) (b : Nat) (V : Nat → Value) (hO : t_OB b (cC K 7) 7 (cI K 7) H0 V) (hbP : cP K b) : MetH l K yJ5_init 5 2 0 0 [.ref b, .null, .null, .int 0, .int 0] H0 (ObR H0 (cC K 7) 7 (cI K 7) b (tnV V)) := by
  refine metH_w (cc := cJ5_init) q274 (Or.inl rfl) (Nat.le_of_ble_eq_true rfl) (fun p e s m args below meth c Q hH hnm hno E hE hT ls hl => ?_)
  subst hH
  have E0 := E
  obtain ⟨⟨hx, hb, hml, ho, hts⟩, hTb, hSt, hA⟩ := E
  have hl : lv_has ls 5 [(0, .ref b), (1, .null), (2, .null), (3, .int 0), (4, .int 0)] := hl
  refine lv_aload_n hx hb dJ5_init_0 rfl (lv_at hl 0 rfl) ?_
  refine lv_aload_nN hx hb dJ5_init_1 rfl (lv_at hl 1 rfl) ?_
  refine lv_aload_nN hx hb dJ5_init_2 rfl (lv_at hl 2 rfl) ?_
  refine lv_iload_n hx hb dJ5_init_3 rfl (lv_at hl 3 rfl) ?_
  refine lv_iload hx hb dJ5_init_4 (lv_at hl 4 rfl) ?_
  refine hx_HI (As := [.null, .null, .int 0, .int 0]) (rest := []) E0 va_S.rf (metH_thr l K s.heap b V hO hbP) ObR.nt (by decide +kernel) ⟨by decide, by decide⟩ q277 q275 q276 (by decide +kernel) hl.1 rfl (Nat.le_of_ble_eq_true rfl) ⟨Nat.le_refl _, Nat.le_refl _⟩ dJ5_init_6 (fun v H1 L hF hq hS => ?_)
  obtain ⟨h0, h1, h2, h3⟩ := hq
  cases h0
  exact hE H1 _ _ _ ls 9 none hS (Nat.le_refl _) (Nat.le_refl _) ⟨rfl, h1, h2, h3⟩ rfl dJ5_init_9
/-- Torn, made at a place -/
def toV (V : Nat → Value) (x : Int32) : Nat → Value := updV (tnV V) 6 (.int x)
theorem metH_torn (l : Launch) (K : CK) (H0 : Heap) (b : Nat) (V : Nat → Value) (x : Int32) (hO : t_OB b (cC K 7) 7 (cI K 7) H0 V) (hbP : cP K b) : MetH l K yX7_init 2 3 0 0 [.ref b, .int x] H0 (ObR H0 (cC K 7) 7 (cI K 7) b (toV V x)) := by
  refine metH_w (cc := cX7_init) q271 (Or.inl rfl) (Nat.le_of_ble_eq_true rfl) (fun p e s m args below meth c Q hH hnm hno E hE hT ls hl => ?_)
  subst hH
  have E0 := E
  obtain ⟨S, hTb, hSt, hA⟩ := E
  have S0 := S
  obtain ⟨hx, hb, hml, ho, hts⟩ := S
  have hK := hSt.2.2.2.2.2.2.2.2.2.2
  have hl : lv_has ls 2 [(0, .ref b), (1, .int x)] := hl
  refine lv_aload_n hx hb dX7_init_0 rfl (lv_at hl 0 rfl) ?_
  refine lv_null hx hb dX7_init_1 ?_
  refine lv_null hx hb dX7_init_2 ?_
  refine lv_iconst hx hb dX7_init_3 (v := 0) (by decide) ?_
  refine lv_iconst hx hb dX7_init_4 (v := 0) (by decide) ?_
  refine hx_HI (As := [.null, .null, .int 0, .int 0]) (rest := []) E0 va_S.rf (metH_exc l K s.heap b V hO hbP) ObR.nt (by decide +kernel) ⟨by decide, by decide⟩ q274 q272 q273 (by decide +kernel) hl.1 rfl (Nat.le_of_ble_eq_true rfl) ⟨Nat.le_refl _, Nat.le_refl _⟩ dX7_init_5 (fun v H1 L hF hq hS => ?_)
  obtain ⟨h0, h1, h2, h3⟩ := hq
  cases h0
  refine lv_aload_n hx hb dX7_init_8 rfl (lv_at hl 0 rfl) ?_
  refine lv_iload_n hx hb dX7_init_9 rfl (lv_at hl 1 rfl) ?_
  refine ob_putF S0 hK in_X7 tyX7_ok nmX7 h3 6 (by decide) rfl rfl hnm (v := .int x) rfl rfl q278 dX7_init_10 (fun H2 n2 hO2 z2 o2 => ?_)
  have hS2 := hv_put (n := n2) hS z2 o2 hbP
  exact hE H2 _ _ _ ls 13 none hS2 (Nat.le_refl _) (Nat.le_refl _) ⟨rfl, by omega, fun q hq => by rw [o2 q hq, h2 q hq], hO2⟩ rfl dX7_init_13
