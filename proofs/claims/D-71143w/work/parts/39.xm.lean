/-! Lists: the object and its array, nothing else -/
set_option maxRecDepth 100000
section OBG
variable {p : Program} {l : Launch} {e : Env} {R : Room} {s : State} {m : MethodId} {args : Array Value} {below : List Frame} {meth : Method} {c : Code} {H : Heap} {locs : List Loc} {ce sl : Nat} {Q : State → Prop}
variable {cc : ByteArray} {pc nL index a : Nat} {ls : Array Slot} {rest : List Value} {own C ref : String} {T : u_T} {N : Nat} {cT : ClassId} {iT : Nat → Nat} {V : Nat → Value} {ty : Nat → FieldType} {K : CK}
/-- the field is found through a class that may only inherit it -/
def FdAs (s : State) (ref : String) (T : u_T) (f : Nat) : Prop := s.fieldFound? ref (T f).2.1 (T f).2.2.1 = s.fieldFound? (T f).1 (T f).2.1 (T f).2.2.1
theorem FdAs.of {f : Nat} (hts : ∀ w ∈ lw_all, w.before args s = true) (h : Cond.sameField ref (T f).1 (T f).2.1 (T f).2.2.1 ∈ lw_all) : FdAs s ref T f := by
  have h1 := hts _ h
  unfold FdAs
  cases hr : s.fieldFound? ref (T f).2.1 (T f).2.2.1 with
  | none =>
    exfalso
    have h2 : (Cond.sameField ref (T f).1 (T f).2.1 (T f).2.2.1).holds args s none s [] = true := h1
    simp [Cond.holds, Cond.value, hr] at h2
  | some x =>
    obtain ⟨c0, k0, i0, f0⟩ := x
    exact (Cond.sameField_spec hr h1).symm
theorem ob_get (F : CallFix p m c cc nL s args lw_all own) (hK : u_Kn s C T N cT iT) (hin : ∀ w ∈ u_ws C T N, w ∈ lw_all) (hO : t_OB a cT N iT H V) (f : Nat) (hf : f < N) (hre : FdAs s ref T f) (hlink : Cond.fieldLink own index ref (T f).2.1 (T f).2.2.1 ∈ lw_all) {v : Value} (hv : V f = v) (hdg : decode cc pc = .ok (.getfield index, 3))
    (kk : W p l e R s m args below meth c H locs ce sl Q (F0 m (pc + 3) ls (v :: rest))) : W p l e R s m args below meth c H locs ce sl Q (F0 m pc ls (.ref a :: rest)) := by
  obtain ⟨hx, hb, hml, hown, hts⟩ := F
  subst hv
  obtain ⟨cell, q1, q2, q3, q4⟩ := hO
  obtain ⟨hS, hfc, kC, hkC, hkind⟩ := hK
  obtain ⟨cf, kf, fi, fd, hi, hsl⟩ := hS f hf
  exact W.getf hx hb hown (hts _ hlink) (by rw [hre]; exact hi) (u_facts hfc hkC (u_lays hts hin hf) hi).1 q1 (by rw [q3]; exact fun h => by cases h) (v := V f) (by rw [hsl, q4 f hf]) rfl rfl hdg kk
theorem ob_putR (F : CallFix p m c cc nL s args lw_all own) (hK : u_Kn s C T N cT iT) (hin : ∀ w ∈ u_ws C T N, w ∈ lw_all) (hty : ∀ j, j < N → parseFieldDescriptor (T j).2.2.1 = some (ty j)) (hnm : ∀ a, a < N → ∀ b, b < N → a ≠ b → (T a).2.1 ≠ (T b).2.1) (hO : t_OB a cT N iT H V) (f : Nat) (hf : f < N) (hfin : (T f).2.2.2 = false) {v : Value} (hn : narrow (ty f) v = v) (hfit : fits (ty f) v = true) (hre : FdAs s ref T f)
    (hlink : Cond.fieldLink own index ref (T f).2.1 (T f).2.2.1 ∈ lw_all) (hdg : decode cc pc = .ok (.putfield index, 3))
    (kk : ∀ (H1 : Heap) (n : Nat), t_OB a cT N iT H1 (updV V f v) → H1.size = H.size → (∀ q, q ≠ a → H1[q]? = H[q]?) → W p l e R s m args below meth c H1 (locs ++ [⟨a, n⟩]) ce sl Q (F0 m (pc + 3) ls rest)) : W p l e R s m args below meth c H locs ce sl Q (F0 m pc ls (v :: .ref a :: rest)) := by
  obtain ⟨hx, hb, hml, hown, hts⟩ := F
  have hap := ob_apart hts hK hin hty hnm
  obtain ⟨cell, q1, q2, q3, q4⟩ := hO
  obtain ⟨hS, hfc, kC, hkC, hkind⟩ := hK
  obtain ⟨cf, kf, fi, fd, hif, hsl⟩ := hS f hf
  have hlay := hts _ (hin _ (u_in_lay hf))
  unfold u_lay at hlay
  rw [if_neg (by rw [hfin]; decide)] at hlay
  have hst := (u_facts hfc hkC (u_lays hts hin hf) hif).1
  have h6 := u_store (v := v) hfc hkC hkind hlay hif (hty f hf) hn hfit
  refine W.putK hx hb (f := fd) ⟨hown, hts _ hlink, ⟨_, _, _, by rw [hre]; exact hif⟩, hst⟩ (by rw [q2]; exact h6) q1 q3 (by rw [hsl]; exact k2_hasslot (q4 f hf)) rfl rfl hdg fun H' e1 e2 e3 => ?_
  rw [hsl] at e1
  exact kk H' _ ⟨_, e1, q2, q3, t_set q4 hap hf v⟩ e2 e3
/-- a reference to an object of class E is stored in an array of Objects; null is -/
theorem hx_aO (F : CallFix p m c cc nL s args lw_all own) (hT : CTb K s) {d v n : Nat} {f : Nat → Value} (hd : H[d]? = some (arrV (cR K 7) n f)) {E : String} (hcast : va_Nw (.castable E "java/lang/Object") s) (hv : ∃ cv : Cell, H[v]? = some cv ∧ cv.vm.isStatics = false ∧ s.vm.findClass E = some cv.cls) {x : Int32} (hin : inb x n = true) (hdg : decode cc pc = .ok (.aastore, 1))
    (kk : ∀ (H1 : Heap) (q : Nat), H1[d]? = some (arrV (cR K 7) n (updV f x.toNatClampNeg (.ref v))) → H1.size = H.size → (∀ q, q ≠ d → H1[q]? = H[q]?) → W p l e R s m args below meth c H1 (locs ++ [⟨d, q⟩]) ce sl Q (F0 m (pc + 1) ls rest)) : W p l e R s m args below meth c H locs ce sl Q (F0 m pc ls (.ref v :: .int x :: .ref d :: rest)) := by
  obtain ⟨hx, hb, hml, hown, hts⟩ := F
  obtain ⟨cv, g1, g2, g3⟩ := hv
  obtain ⟨comp, cA, kA, w1, w2, w3, w4, w5⟩ := Cond.arrayOver_spec (args := #[]) (s := s) (n := "java/lang/Object") (hT.2.2 (.arrayOver (.object "java/lang/Object")) (by simp [cNest]))
  cases ((hT.2.1 7 (by decide)).2).symm.trans w5
  obtain ⟨kc, hkc, -⟩ := Vm.findClass_spec w1
  obtain ⟨kv, hkv, -⟩ := Vm.findClass_spec g3
  refine W.aast hx hb hd (fun q h => by cases h) (fun h => by cases h) (t := .object "java/lang/Object") w3 w4 rfl hkc ⟨?_, ?_⟩ g1 (fun q h => by rw [h] at g2; cases g2) hkv (vb_asgC hcast _ _ w1 g3) rfl rfl hdg fun H1 e1 e2 e3 => ?_
  · exact fun z => (inb_vp hin) (Or.inl z)
  · show _ < (arrV _ _ _).slots.size
    rw [arrV_size]
    exact inb_lt hin
  · exact kk H1 _ (by rw [e1, arrV_store]) e2 e3
theorem hx_aN (F : CallFix p m c cc nL s args lw_all own) (hT : CTb K s) {d n : Nat} {f : Nat → Value} (hd : H[d]? = some (arrV (cR K 7) n f)) {x : Int32} (hin : inb x n = true) (hdg : decode cc pc = .ok (.aastore, 1))
    (kk : ∀ (H1 : Heap) (q : Nat), H1[d]? = some (arrV (cR K 7) n (updV f x.toNatClampNeg .null)) → H1.size = H.size → (∀ q, q ≠ d → H1[q]? = H[q]?) → W p l e R s m args below meth c H1 (locs ++ [⟨d, q⟩]) ce sl Q (F0 m (pc + 1) ls rest)) : W p l e R s m args below meth c H locs ce sl Q (F0 m pc ls (.null :: .int x :: .ref d :: rest)) := by
  obtain ⟨hx, hb, hml, hown, hts⟩ := F
  refine va_WaastN (C := "java/lang/Object") hx hb hd ((hT.2.1 7 (by decide)).1 n f) (fun h => by cases h) (by show ¬ (x < 0 ∨ (arrV _ _ _).slots.size ≤ _); rw [arrV_size]; exact inb_vp hin) rfl rfl hdg fun H1 e1 e2 e3 => ?_
  exact kk H1 _ (by rw [e1, arrV_store]) e2 e3
end OBG
def liV (mc : Int32) (d n : Nat) : Nat → Value := fun j => match j with
  | 0 => .int mc | 1 => .ref d | _ => .int (nI n)
/-- a list: its object; its array -/
def LiO (K : CK) (b : Nat) (mc : Int32) (d n : Nat) (H : Heap) : Prop := t_OB b (cC K 6) 3 (cI K 6) H (liV mc d n)
def LiA (K : CK) (d : Nat) (f : Nat → Value) (H : Heap) : Prop := H[d]? = some (arrV (cR K 7) 10 f)
theorem li_0 (mc x : Int32) (d n : Nat) : ∀ j, j < 3 → updV (liV mc d n) 0 (.int x) j = liV x d n j := by
  intro j hj
  have : j = 0 ∨ j = 1 ∨ j = 2 := by omega
  rcases this with rfl | rfl | rfl <;> rfl
theorem li_1 (mc : Int32) (d d' n : Nat) : ∀ j, j < 3 → updV (liV mc d n) 1 (.ref d') j = liV mc d' n j := by
  intro j hj
  have : j = 0 ∨ j = 1 ∨ j = 2 := by omega
  rcases this with rfl | rfl | rfl <;> rfl
theorem li_2 (mc : Int32) (d n n' : Nat) : ∀ j, j < 3 → updV (liV mc d n) 2 (.int (nI n')) j = liV mc d n' j := by
  intro j hj
  have : j = 0 ∨ j = 1 ∨ j = 2 := by omega
  rcases this with rfl | rfl | rfl <;> rfl
theorem nI10 : ∀ j, j < 11 → (nI j).toNatClampNeg = j ∧ ¬ nI j < 0 ∧ nI j + Int32.ofInt 1 = nI (j + 1) ∧ nI j + 1 = nI (j + 1) ∧ (j < 10 → inb (nI j) 10 = true) ∧ (j < 10 → ¬ nI j = 10) ∧ ∀ n, n < 11 → (nI j ≥ nI n → n ≤ j) ∧ (n ≤ j → nI j ≥ nI n) := by decide +kernel
def ClrR (K : CK) (b : Nat) (mc : Int32) (d n : Nat) (f : Nat → Value) (H0 : Heap) : Outcome → Heap → Prop := fun o H1 => o = .returned none ∧ H1.size = H0.size ∧ (∀ q, q ≠ b → (0 < n → q ≠ d) → H1[q]? = H0[q]?) ∧ LiO K b (mc + 1) d 0 H1 ∧ (0 < n → LiA K d (fun j => if j < n then .null else f j) H1)
theorem metH_lclear (l : Launch) (K : CK) (b : Nat) (mc : Int32) (d n : Nat) (f : Nat → Value) (H0 : Heap) (hO : LiO K b mc d n H0) (hn : n ≤ 10) (hbP : cP K b) (hA : 0 < n → LiA K d f H0 ∧ d ≠ b ∧ cP K d) : MetH l K yJ2_clear 4 1 0 0 [.ref b] H0 (ClrR K b mc d n f H0) := by
  refine metH_w (cc := cJ2_clear) q204 (Or.inl rfl) (Nat.le_of_ble_eq_true rfl) (fun p e s m args below meth c Q hH hnm hno E hE hT ls hl => ?_)
  subst hH
  obtain ⟨S, hTb, hSt, hA9⟩ := E
  have S0 := S
  obtain ⟨hx, hb, hml, ho, hts⟩ := S
  have hK := hTb.1 6 (by decide)
  have hf0 : FdAs s "java/util/ArrayList" TJ2 0 := FdAs.of hts q679
  have hl : lv_has ls 4 [(0, .ref b)] := hl
  refine lv_aload_n hx hb dJ2_clear_0 rfl (lv_at hl 0 rfl) ?_
  refine lv_dup hx hb dJ2_clear_1 rfl ?_
  refine ob_get S0 hK in_J2 hO 0 (by decide) hf0 q678 (v := .int mc) rfl dJ2_clear_2 ?_
  refine lv_iconst hx hb dJ2_clear_5 (v := 1) (by decide) ?_
  refine lv_iadd hx hb dJ2_clear_6 ?_
  refine ob_putR S0 hK in_J2 tyJ2_ok nmJ2 hO 0 (by decide) rfl (v := .int (mc + 1)) rfl rfl hf0 q678 dJ2_clear_7 (fun H1 n1 hO1 z1 o1 => ?_)
  have hO1 : LiO K b (mc + 1) d n H1 := hO1.to (li_0 _ _ _ _)
  have hS1 := hv_put (n := n1) (locs := []) (va_S.rf (A := cP K)) z1 o1 hbP
  refine lv_aload_n hx hb dJ2_clear_10 rfl (lv_at hl 0 rfl) ?_
  refine ob_get S0 hK in_J2 hO1 1 (by decide) rfl q675 (v := .ref d) rfl dJ2_clear_11 ?_
  refine lv_astore_n hx hb dJ2_clear_14 rfl hl (by decide) rfl (fun ls hl => ?_)
  have hl : lv_has ls 4 [(1, .ref d), (0, .ref b)] := hl
  refine lv_aload_n hx hb dJ2_clear_15 rfl (lv_at hl 1 rfl) ?_
  refine ob_get S0 hK in_J2 hO1 2 (by decide) rfl q676 (v := .int (nI n)) rfl dJ2_clear_16 ?_
  refine lv_istore_n hx hb dJ2_clear_19 rfl hl (by decide) rfl (fun ls hl => ?_)
  have hl : lv_has ls 4 [(2, .int (nI n)), (1, .ref d), (0, .ref b)] := hl
  refine lv_aload_n hx hb dJ2_clear_20 rfl (lv_at hl 2 rfl) ?_
  refine lv_iconst hx hb dJ2_clear_21 (v := 0) (by decide) ?_
  refine lv_dup_x1 hx hb dJ2_clear_22 rfl rfl ?_
  refine ob_putR S0 hK in_J2 tyJ2_ok nmJ2 hO1 2 (by decide) rfl (v := .int 0) rfl rfl rfl q676 dJ2_clear_23 (fun H2 n2 hO2 z2 o2 => ?_)
  have hO2 : LiO K b (mc + 1) d 0 H2 := hO2.to (li_2 _ _ _ 0)
  have hS2 := hv_put (n := n2) hS1 z2 o2 hbP
  refine lv_istore_n hx hb dJ2_clear_26 rfl hl (by decide) rfl (fun ls hl => ?_)
  have hl : lv_has ls 4 [(3, .int (nI 0)), (2, .int (nI n)), (1, .ref d), (0, .ref b)] := hl
  have loop : ∀ (r j : Nat) (ls : Array Slot) (H : Heap) (locs : List Loc), j + r = n → lv_has ls 4 [(3, .int (nI j)), (2, .int (nI n)), (1, .ref d), (0, .ref b)] → LiO K b (mc + 1) d 0 H → (0 < n → LiA K d (fun q => if q < j then .null else f q) H) → H.size = s.heap.size → (∀ q, q ≠ b → (0 < n → q ≠ d) → H[q]? = s.heap[q]?) → va_S (cP K) s.heap H locs → W p l e (rmc 1 0 0) s m args below meth c H locs 0 0 Q (F0 m 27 ls []) := by
    intro r
    induction r with
    | zero =>
      intro j ls H locs hj hl hO3 hA3 z3 o3 hS
      have hj : j = n := by omega
      subst hj
      refine lv_iload_n hx hb dJ2_clear_27 rfl (lv_at hl 0 rfl) ?_
      refine lv_iload_n hx hb dJ2_clear_28 rfl (lv_at hl 1 rfl) ?_
      refine lv_icmp_ge (tgt := 42) hx hb dJ2_clear_29 (by decide) (fun _ => ?_) (fun hc => absurd (Int32.le_refl _) hc)
      exact hE H _ _ _ ls 42 none hS (Nat.le_refl _) (Nat.le_refl _) ⟨rfl, z3, o3, hO3, hA3⟩ rfl dJ2_clear_42
    | succ r ih =>
      intro j ls H locs hj hl hO3 hA3 z3 o3 hS
      have hnum := nI10 j (by omega)
      have hn0 : 0 < n := by omega
      refine lv_iload_n hx hb dJ2_clear_27 rfl (lv_at hl 0 rfl) ?_
      refine lv_iload_n hx hb dJ2_clear_28 rfl (lv_at hl 1 rfl) ?_
      refine lv_icmp_ge (tgt := 42) hx hb dJ2_clear_29 (by decide) (fun hc => ?_) (fun _ => ?_)
      · have := (hnum.2.2.2.2.2.2 n (by omega)).1 hc
        omega
      · refine lv_aload_n hx hb dJ2_clear_32 rfl (lv_at hl 2 rfl) ?_
        refine lv_iload_n hx hb dJ2_clear_33 rfl (lv_at hl 0 rfl) ?_
        refine lv_null hx hb dJ2_clear_34 ?_
        refine hx_aN S0 hTb (hA3 hn0) (x := nI j) (hnum.2.2.2.2.1 (by omega)) dJ2_clear_35 (fun H4 n4 hA4 z4 o4 => ?_)
        rw [hnum.1] at hA4
        refine lv_iinc hx hb dJ2_clear_36 hl (k := 0) rfl (v := nI (j + 1)) hnum.2.2.1 (by decide) rfl (fun ls hl => ?_)
        refine lv_goto (tgt := 27) hx hb dJ2_clear_39 (by decide) ?_
        refine ih (j + 1) ls H4 _ (by omega) hl (hO3.kept (o4 b (Ne.symm (hA hn0).2.1))) (fun _ => ?_) (z4.trans z3) (fun q h1 h2 => by rw [o4 q (h2 hn0), o3 q h1 h2]) (hv_put (n := n4) hS z4 o4 (hA hn0).2.2)
        show H4[d]? = _
        rw [hA4]
        congr 2
        funext q
        by_cases hq : q = j
        · subst hq
          simp [updV]
        · have e1 : updV (fun q => if q < j then Value.null else f q) j .null q = if q < j then .null else f q := by simp [updV, hq]
          rw [e1]
          by_cases h1 : q < j
          · rw [if_pos h1, if_pos (by omega)]
          · rw [if_neg h1, if_neg (by omega)]
  refine loop n 0 ls H2 _ (by omega) hl hO2 (fun h => ?_) (z2.trans z1) (fun q h1 h2 => by rw [o2 q h1, o1 q h1]) hS2
  show H2[d]? = _
  rw [o2 d (hA h).2.1, o1 d (hA h).2.1, (hA h).1]
  congr 2
