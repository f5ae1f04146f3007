/-! next, reads, read: over what a text's own clear, isFull, part, between do -/
set_option maxRecDepth 100000
theorem hx_recv {K : CK} {D : Nat → Nat → Nat} {ρ : CM} {H : Heap} {s : State} {a : Nat} (hT : CTb K s) (hW : HWd K D ρ H) (k i : Nat) (ha : adr K D k i = a) (hk : k < 7) (hlv : clive ρ k i = true) : ∃ cell : Cell, H[a]? = some cell ∧ cell.vm.isStatics = false ∧ s.vm.findClass (oR k) = some cell.cls := by
  subst ha
  obtain ⟨cell, q1, q2, q3, -⟩ := hW.1 k i hk hlv
  exact ⟨cell, q1, by rw [q3]; rfl, by rw [q2]; exact (hT.1 k hk).2.1⟩
/-- no live cell -/
def NotLive (K : CK) (D : Nat → Nat → Nat) (ρ : CM) (b : Nat) : Prop := ∀ k i, clive ρ k i = true → adr K D k i ≠ b
/-- a text gave up at place a -/
def Gave (K : CK) (Bp : (Nat → Nat → Nat) → CM → Prop) (Fa : Nat → Prop) : Outcome → Heap → Prop := fun o H1 => ∃ (D : Nat → Nat → Nat) (ρ : CM) (a b : Nat), o = .threw b ∧ HWd K D ρ H1 ∧ Bp D ρ ∧ TornAt K H1 b a ∧ NotLive K D ρ b ∧ Fa a
def PartR (K : CK) (Bp : (Nat → Nat → Nat) → CM → Prop) (Yp : Nat → (Nat → Nat → Nat) → CM → Prop) (Fa : Nat → Prop) (a0 : Nat) : Outcome → Heap → Prop := fun o H1 => (∃ (D : Nat → Nat → Nat) (ρ : CM) (a : Nat), o = .returned none ∧ HWd K D ρ H1 ∧ Yp a D ρ ∧ a0 < a) ∨ Gave K Bp Fa o H1
def BetwR (K : CK) (Bp : (Nat → Nat → Nat) → CM → Prop) (Zp : Nat → (Nat → Nat → Nat) → CM → Prop) (Fa : Nat → Prop) (a0 : Nat) : Outcome → Heap → Prop := fun o H1 => (∃ (D : Nat → Nat → Nat) (ρ : CM) (a : Nat), o = .returned none ∧ HWd K D ρ H1 ∧ Zp a D ρ ∧ a0 ≤ a) ∨ Gave K Bp Fa o H1
def ClearR (K : CK) (k : Nat) (Cl : (Nat → Nat → Nat) → CM → Prop) (D0 : Nat → Nat → Nat) (ρ0 : CM) (H0 : Heap) : Outcome → Heap → Prop := fun o H1 => o = .returned none ∧ (∃ (D : Nat → Nat → Nat) (ρ : CM), HWd K D ρ H1 ∧ Cl D ρ ∧ ρ k 0 2 = ρ0 k 0 2) ∧ ∀ b, b < H0.size → NotLive K D0 ρ0 b → H1[b]? = H0[b]?
/-- the words of a call in Text: the method named x, the one selected y -/
def TxW (k : Nat) (x y : MethodName) (nL : Nat) : Prop := Cond.selects (oR k) x y ∈ lw_all ∧ Cond.instanceMethod y ∈ lw_all ∧ plainFor y = true ∧ ∃ (bytes : ByteArray) (rt : Option FieldType), Cond.code y bytes nL rt ∈ lw_all
theorem TxW.code {k nL : Nat} {x y : MethodName} (h : TxW k x y nL) {s : State} {args : Array Value} (hts : ∀ w ∈ lw_all, w.before args s = true) : CodeK s y nL := by
  obtain ⟨-, -, -, bytes, rt, h⟩ := h
  exact CodeK.of hts h
abbrev xClear : MethodName := ⟨"WoodliceSenate$Text", "clear", "()V"⟩
abbrev xFull : MethodName := ⟨"WoodliceSenate$Text", "isFull", "()Z"⟩
abbrev xPart : MethodName := ⟨"WoodliceSenate$Text", "part", "()V"⟩
abbrev xBetw : MethodName := ⟨"WoodliceSenate$Text", "between", "()V"⟩
theorem hdH_V : "WoodliceSenate$Text" ≠ "java/lang/invoke/MethodHandle" ∧ "WoodliceSenate$Text" ≠ "java/lang/invoke/VarHandle" ∧ (parseMethodDescriptor "()V").map (fun d => d.parameters.length) = some 0 := by decide +kernel
theorem hdH_Z : "WoodliceSenate$Text" ≠ "java/lang/invoke/MethodHandle" ∧ "WoodliceSenate$Text" ≠ "java/lang/invoke/VarHandle" ∧ (parseMethodDescriptor "()Z").map (fun d => d.parameters.length) = some 0 := by decide +kernel
theorem hdH_I : "WoodliceSenate$Text" ≠ "java/lang/invoke/MethodHandle" ∧ "WoodliceSenate$Text" ≠ "java/lang/invoke/VarHandle" ∧ (parseMethodDescriptor "()I").map (fun d => d.parameters.length) = some 0 := by decide +kernel
theorem hdH_pl : plainFor yX1_next = true ∧ plainFor yX1_reads = true ∧ plainFor yX1_read = true ∧ plainFor yX1_passes = true := by decide +kernel
/-- a text by what its own methods do: n signs are typed; Bp: nothing but the text has changed; Cl: cleared; Zp a: read up to a, a part is due; Yp a: read up to a, a part is done; Fa a: the text fails at a -/
def TxI (l : Launch) (K : CK) (k n cp sp cb sb nLp : Nat) (yC yF yP yB : MethodName) (Bp Cl : (Nat → Nat → Nat) → CM → Prop) (Zp Yp : Nat → (Nat → Nat → Nat) → CM → Prop) (Fa : Nat → Prop) : Prop :=
  (k = 1 ∨ k = 2) ∧
  (n ≤ 31) ∧
  (∀ a D ρ, Zp a D ρ → ρ k 0 2 = nI a ∧ ρ k 0 1 = nI n ∧ a ≤ n) ∧
  (∀ a D ρ, Yp a D ρ → ρ k 0 2 = nI a ∧ ρ k 0 1 = nI n ∧ a ≤ n) ∧
  (∀ D ρ, Bp D ρ → ρ k 0 1 = nI n ∧ Bp D (cput ρ k 0 2 0)) ∧
  (∀ D ρ, Cl D ρ → ρ k 0 1 = nI n) ∧
  (∀ D ρ, Cl D ρ → ρ k 0 2 = 0 → 0 < n → Zp 0 D ρ) ∧
  (∀ D ρ, Cl D ρ → ρ k 0 2 = 0 → n = 0 → Yp 0 D ρ) ∧
  (TxW k xClear yC 1) ∧
  (TxW k xFull yF 1) ∧
  (TxW k xPart yP nLp) ∧
  (TxW k xBetw yB 1) ∧
  (nLp ≤ 8) ∧
  (∀ H D ρ, HWd K D ρ H → Bp D ρ → MetH l K yC 1 2 0 0 [.ref (cA K k 0)] H (ClearR K k Cl D ρ H)) ∧
  (∀ H D ρ a, HWd K D ρ H → Zp a D ρ → MetH l K yF 1 2 0 0 [.ref (cA K k 0)] H (fun o H1 => o = .returned (some (.int 0)) ∧ H1 = H)) ∧
  (∀ H D ρ a, HWd K D ρ H → Zp a D ρ → MetH l K yP nLp 6 cp sp [.ref (cA K k 0)] H (PartR K Bp Yp Fa a)) ∧
  (∀ H D ρ a, HWd K D ρ H → Yp a D ρ → a < n → MetH l K yB 1 6 cb sb [.ref (cA K k 0)] H (BetwR K Bp Zp Fa a))
theorem va_Decl.ofW {args : Array Value} {s : State} {x : MethodName} {b : ByteArray} {m : Nat} {ret : Option FieldType} {hh : List (Nat × Nat × Nat × Nat)} (hi : (Cond.instanceMethod x).before args s = true) (hc : (Cond.codeWith x b m ret hh).before args s = true) : va_Decl s x := by
  obtain ⟨r0, r, hn, hrm, hst, -⟩ := Cond.instanceMethod_spec hi
  obtain ⟨m9, r', c0, hn9, hrm', -, -, -, -, -, -, hsig⟩ := Cond.codeWith_spec hc
  cases hn.symm.trans hn9
  cases hrm.symm.trans hrm'
  exact ⟨r0, r, hn, hrm, hst, hsig⟩
section TXI
variable {l : Launch} {K : CK} {k n cp sp cb sb nLp : Nat} {yC yF yP yB : MethodName} {Bp Cl : (Nat → Nat → Nat) → CM → Prop} {Zp Yp : Nat → (Nat → Nat → Nat) → CM → Prop} {Fa : Nat → Prop}
theorem TxI.hk (h : TxI l K k n cp sp cb sb nLp yC yF yP yB Bp Cl Zp Yp Fa) : k = 1 ∨ k = 2 := h.1
theorem TxI.hn (h : TxI l K k n cp sp cb sb nLp yC yF yP yB Bp Cl Zp Yp Fa) : n ≤ 31 := h.2.1
theorem TxI.zz (h : TxI l K k n cp sp cb sb nLp yC yF yP yB Bp Cl Zp Yp Fa) : ∀ a D ρ, Zp a D ρ → ρ k 0 2 = nI a ∧ ρ k 0 1 = nI n ∧ a ≤ n := h.2.2.1
theorem TxI.yy (h : TxI l K k n cp sp cb sb nLp yC yF yP yB Bp Cl Zp Yp Fa) : ∀ a D ρ, Yp a D ρ → ρ k 0 2 = nI a ∧ ρ k 0 1 = nI n ∧ a ≤ n := h.2.2.2.1
theorem TxI.bp (h : TxI l K k n cp sp cb sb nLp yC yF yP yB Bp Cl Zp Yp Fa) : ∀ D ρ, Bp D ρ → ρ k 0 1 = nI n ∧ Bp D (cput ρ k 0 2 0) := h.2.2.2.2.1
theorem TxI.c1 (h : TxI l K k n cp sp cb sb nLp yC yF yP yB Bp Cl Zp Yp Fa) : ∀ D ρ, Cl D ρ → ρ k 0 1 = nI n := h.2.2.2.2.2.1
theorem TxI.cz (h : TxI l K k n cp sp cb sb nLp yC yF yP yB Bp Cl Zp Yp Fa) : ∀ D ρ, Cl D ρ → ρ k 0 2 = 0 → 0 < n → Zp 0 D ρ := h.2.2.2.2.2.2.1
theorem TxI.cy (h : TxI l K k n cp sp cb sb nLp yC yF yP yB Bp Cl Zp Yp Fa) : ∀ D ρ, Cl D ρ → ρ k 0 2 = 0 → n = 0 → Yp 0 D ρ := h.2.2.2.2.2.2.2.1
theorem TxI.wC (h : TxI l K k n cp sp cb sb nLp yC yF yP yB Bp Cl Zp Yp Fa) : TxW k xClear yC 1 := h.2.2.2.2.2.2.2.2.1
theorem TxI.wF (h : TxI l K k n cp sp cb sb nLp yC yF yP yB Bp Cl Zp Yp Fa) : TxW k xFull yF 1 := h.2.2.2.2.2.2.2.2.2.1
theorem TxI.wP (h : TxI l K k n cp sp cb sb nLp yC yF yP yB Bp Cl Zp Yp Fa) : TxW k xPart yP nLp := h.2.2.2.2.2.2.2.2.2.2.1
theorem TxI.wB (h : TxI l K k n cp sp cb sb nLp yC yF yP yB Bp Cl Zp Yp Fa) : TxW k xBetw yB 1 := h.2.2.2.2.2.2.2.2.2.2.2.1
theorem TxI.small (h : TxI l K k n cp sp cb sb nLp yC yF yP yB Bp Cl Zp Yp Fa) : nLp ≤ 8 := h.2.2.2.2.2.2.2.2.2.2.2.2.1
theorem TxI.mC (h : TxI l K k n cp sp cb sb nLp yC yF yP yB Bp Cl Zp Yp Fa) : ∀ H D ρ, HWd K D ρ H → Bp D ρ → MetH l K yC 1 2 0 0 [.ref (cA K k 0)] H (ClearR K k Cl D ρ H) := h.2.2.2.2.2.2.2.2.2.2.2.2.2.1
theorem TxI.mF (h : TxI l K k n cp sp cb sb nLp yC yF yP yB Bp Cl Zp Yp Fa) : ∀ H D ρ a, HWd K D ρ H → Zp a D ρ → MetH l K yF 1 2 0 0 [.ref (cA K k 0)] H (fun o H1 => o = .returned (some (.int 0)) ∧ H1 = H) := h.2.2.2.2.2.2.2.2.2.2.2.2.2.2.1
theorem TxI.mP (h : TxI l K k n cp sp cb sb nLp yC yF yP yB Bp Cl Zp Yp Fa) : ∀ H D ρ a, HWd K D ρ H → Zp a D ρ → MetH l K yP nLp 6 cp sp [.ref (cA K k 0)] H (PartR K Bp Yp Fa a) := h.2.2.2.2.2.2.2.2.2.2.2.2.2.2.2.1
theorem TxI.mB (h : TxI l K k n cp sp cb sb nLp yC yF yP yB Bp Cl Zp Yp Fa) : ∀ H D ρ a, HWd K D ρ H → Yp a D ρ → a < n → MetH l K yB 1 6 cb sb [.ref (cA K k 0)] H (BetwR K Bp Zp Fa a) := h.2.2.2.2.2.2.2.2.2.2.2.2.2.2.2.2
theorem k12 {k : Nat} (hk : k = 1 ∨ k = 2) (K : CK) (D : Nat → Nat → Nat) (ρ : CM) : k < 7 ∧ adr K D k 0 = cA K k 0 ∧ clive ρ k 0 = true ∧ 4 < oN k ∧ (∀ f, 1 ≤ f → f ≤ 4 → oInt k f = true ∧ (oT k f).2.2.2 = false ∧ plain k f = true) := by
  rcases hk with rfl | rfl
  · refine ⟨by decide, rfl, rfl, by decide, fun f h1 h2 => ?_⟩
    have : f = 1 ∨ f = 2 ∨ f = 3 ∨ f = 4 := by omega
    rcases this with rfl | rfl | rfl | rfl <;> exact ⟨rfl, rfl, rfl⟩
  · refine ⟨by decide, rfl, rfl, by decide, fun f h1 h2 => ?_⟩
    have : f = 1 ∨ f = 2 ∨ f = 3 ∨ f = 4 := by omega
    rcases this with rfl | rfl | rfl | rfl <;> exact ⟨rfl, rfl, rfl⟩
theorem metH_next (T : TxI l K k n cp sp cb sb nLp yC yF yP yB Bp Cl Zp Yp Fa) (H : Heap) (D : Nat → Nat → Nat) (ρ : CM) (a : Nat) (hW : HWd K D ρ H) (hZ : Zp a D ρ) : MetH l K yX1_next 1 7 cp sp [.ref (cA K k 0)] H (PartR K Bp Yp Fa a) := by
  refine metH_w (cc := cX1_next) q214 (Or.inl rfl) (Nat.le_of_ble_eq_true rfl) (fun p e s m args below meth c Q hH hnm hno E hE hT ls hl => ?_)
  subst hH
  have E0 := E
  obtain ⟨S, hTb, hSt, hA⟩ := E
  obtain ⟨hx, hb, hml, ho, hts⟩ := S
  obtain ⟨hk7, hA0, hlv, hoN, hf⟩ := k12 T.hk K D ρ
  have hl : lv_has ls 1 [(0, .ref (cA K k 0))] := hl
  have hsm := T.small
  refine lv_aload_n hx hb dX1_next_0 rfl (lv_at hl 0 rfl) ?_
  refine hx_H (x := xFull) (owner := "WoodliceSenate$Text") (C := oR k) (As := []) (rest := []) E0 va_S.rf (T.mF s.heap D ρ a hW hZ) T.wF.2.2.1 ⟨Nat.le_of_ble_eq_true rfl, Nat.le_of_ble_eq_true rfl⟩ (T.wF.code hts) q215 q217 (va_Decl.abs (hTb.2.2 _ (by simp [cNest]))) T.wF.1 T.wF.2.1 hdH_Z (hx_recv hTb hW k 0 hA0 hk7 hlv) hl.1 rfl (Nat.le_of_ble_eq_true rfl) ⟨Nat.zero_le _, Nat.zero_le _⟩ dX1_next_1 (fun v H1 L hF hq hS => ?_) (fun a H1 L hF hq hS => by cases hq.1)
  obtain ⟨h0, h1⟩ := hq
  cases h0
  subst h1
  refine lv_if_eq (tgt := 19) hx hb dX1_next_4 (by decide) (fun _ => ?_) (fun hc => absurd rfl hc)
  refine lv_aload_n hx hb dX1_next_19 rfl (lv_at hl 0 rfl) ?_
  refine hx_H (x := xPart) (owner := "WoodliceSenate$Text") (C := oR k) (As := []) (rest := []) E0 hS (T.mP s.heap D ρ a hW hZ) T.wP.2.2.1 ⟨Nat.le_of_ble_eq_true rfl, by show 8 + (nLp + 11) + 64 * 6 ≤ 64 * 7; omega⟩ (T.wP.code hts) q295 q297 (va_Decl.abs (hTb.2.2 _ (by simp [cNest]))) T.wP.1 T.wP.2.1 hdH_V (hx_recv hTb hW k 0 hA0 hk7 hlv) hl.1 rfl (Nat.le_of_ble_eq_true rfl) ⟨by show 0 + 0 + cp ≤ cp; omega, by show 0 + 0 + sp ≤ sp; omega⟩ dX1_next_20 (fun v H1 L hF hq hS => ?_) (fun b H1 L hF hq hS => ?_)
  · rcases hq with ⟨D1, ρ1, a1, h0, h1⟩ | ⟨D1, ρ1, a1, b1, h0, h1⟩
    · cases h0
      exact hE H1 _ _ _ ls 23 none hS (by show 0 + 0 + cp ≤ cp; omega) (by show 0 + 0 + sp ≤ sp; omega) (Or.inl ⟨D1, ρ1, a1, rfl, h1⟩) rfl dX1_next_23
    · cases h0
  · exact hT H1 _ _ _ ls 20 _ b hS (by show 0 + 0 + cp ≤ cp; omega) (by show 0 + 0 + sp ≤ sp; omega) (by
      rcases hq with ⟨D1, ρ1, a1, h0, h1⟩ | h
      · cases h0
      · exact Or.inr h) (hno 20)
/-- how reads ends -/
def ReadsR (K : CK) (n : Nat) (Cl : (Nat → Nat → Nat) → CM → Prop) (Yp : Nat → (Nat → Nat → Nat) → CM → Prop) (Fa : Nat → Prop) : Outcome → Heap → Prop := fun o H1 =>
  (∃ (D : Nat → Nat → Nat) (ρ : CM), o = .returned (some (.int (-1))) ∧ HWd K D ρ H1 ∧ Yp n D ρ) ∨ ∃ (D : Nat → Nat → Nat) (ρ : CM) (a : Nat), o = .returned (some (.int (nI a))) ∧ HWd K D ρ H1 ∧ Cl D ρ ∧ Fa a
theorem nI31z : ∀ n, n < 32 → (nI n ≤ 0 → n = 0) ∧ (¬ nI n ≤ 0 → 0 < n) := by decide +kernel
theorem metH_reads (T : TxI l K k n cp sp cb sb nLp yC yF yP yB Bp Cl Zp Yp Fa) (H : Heap) (D : Nat → Nat → Nat) (ρ : CM) (hW : HWd K D ρ H) (hB : Bp D ρ) : MetH l K yX1_reads 2 8 (32 * (cp + cb)) (32 * (sp + sb)) [.ref (cA K k 0)] H (ReadsR K n Cl Yp Fa) := by
  refine metH_wW (cc := cX1_reads) q193 (Or.inr (Or.inl rfl)) (Nat.le_of_ble_eq_true rfl) (fun p e s m args below meth c Q hH hnm hex E hE hT ls hl => ?_)
  subst hH
  have E0 := E
  obtain ⟨S, hTb, hSt, hA⟩ := E
  have S0 := S
  obtain ⟨hx, hb, hml, ho, hts⟩ := S
  have hK := hSt.2.2.2.2.2.2.2.2.2.2
  have hl : lv_has ls 2 [(0, .ref (cA K k 0))] := hl
  have hk := T.hk
  have hn := T.hn
  have l1 : Cond.fieldLink "WoodliceSenate$Text" 21 (oT k 1).1 (oT k 1).2.1 (oT k 1).2.2.1 ∈ lw_all := by rcases hk with rfl | rfl <;> exact q639
  have l2 : Cond.fieldLink "WoodliceSenate$Text" 29 (oT k 2).1 (oT k 2).2.1 (oT k 2).2.2.1 ∈ lw_all := by rcases hk with rfl | rfl <;> exact q640
  have hcells : (rmc 8 (32 * (cp + cb)) (32 * (sp + sb))).cells = 32 * (cp + cb) := rfl
  have hslots : (rmc 8 (32 * (cp + cb)) (32 * (sp + sb))).slots = 32 * (sp + sb) := rfl
  -- the handler
  have hand : ∀ (b pc : Nat) (H : Heap) (locs : List Loc) (ce sl : Nat) (rest : List Value), va_S (cP K) s.heap H locs → ce ≤ 32 * (cp + cb) → sl ≤ 32 * (sp + sb) → 9 ≤ pc → pc < 43 → Gave K Bp Fa (.threw b) H → WT p l e (rmc 8 (32 * (cp + cb)) (32 * (sp + sb))) s m args below meth c H locs ce sl Q (F0 m pc ls rest) b := by
    intro b pc H locs ce sl rest hS h1 h2 h3 h4 hq
    obtain ⟨D1, ρ1, a1, b1, e0, hW1, hB1, ⟨V, hO, hV⟩, hN, hF⟩ := hq
    cases e0
    obtain ⟨cell, g1, g2, g3, g4⟩ := id hO
    obtain ⟨hk7, hA0, hlv, hoN, hf⟩ := k12 T.hk K D1 ρ1
    refine WT.catchL E0 hex h3 h4 (by decide) q194 (cT := cC K 7) hK.2.1 g1 (by rw [g3]; rfl) (by rw [g2]; exact Vm.assignable_self _ _) ?_
    refine lv_astore_n hx hb dX1_reads_44 rfl hl (by decide) rfl (fun ls hl => ?_)
    have hl : lv_has ls 2 [(1, .ref b), (0, .ref (cA K k 0))] := hl
    refine lv_aload_n hx hb dX1_reads_45 rfl (lv_at hl 1 rfl) ?_
    refine hx_H (x := xClear) (owner := "WoodliceSenate$Text") (C := oR k) (As := []) (rest := []) E0 hS (T.mC H D1 ρ1 hW1 hB1) T.wC.2.2.1 ⟨Nat.le_of_ble_eq_true rfl, Nat.le_of_ble_eq_true rfl⟩ (T.wC.code hts) q195 q197 (va_Decl.abs (hTb.2.2 _ (by simp [cNest]))) T.wC.1 T.wC.2.1 hdH_V (hx_recv hTb hW1 k 0 hA0 hk7 hlv) hl.1 rfl (Nat.le_of_ble_eq_true rfl) ⟨by rw [hcells]; omega, by rw [hslots]; omega⟩ dX1_reads_46 (fun v H2 L hF2 hq hS2 => ?_) (fun a H1 L hF hq hS => by cases hq.1)
    obtain ⟨e1, ⟨D2, ρ2, hW2, hC2, -⟩, hkeep⟩ := hq
    cases e1
    refine lv_aload_n hx hb dX1_reads_49 rfl (lv_at hl 0 rfl) ?_
    have hcell2 : H2[b]? = some cell := by rw [hkeep b (Array.getElem?_eq_some_iff.mp g1).1 hN]; exact g1
    obtain ⟨cf, kf, fi, fd, hif, hsl⟩ := hK.1 6 (by decide)
    obtain ⟨kC, hkC, -⟩ := hK.2.2
    refine va_Wgetf hx hb ho (va_Nw.use (w := Cond.fieldLinkNest "WoodliceSenate$Text" 59 "WoodliceSenate$Torn" "place" "I" "WoodliceSenate") rfl (hTb.2.2 _ (by simp [cNest]))) hif (u_facts hK.2.1 hkC (u_lays hts in_X7 (by decide : 6 < 7)) hif).1 hcell2 (by rw [g3]; exact fun h => by cases h) (v := .int (nI a1)) (by rw [hsl, g4 6 (by decide), hV]) rfl rfl dX1_reads_50 ?_
    exact hE H2 _ _ _ ls 53 (some (.int (nI a1))) hS2 (by rw [hcells]; omega) (by rw [hslots]; omega) (Or.inr ⟨D2, ρ2, a1, rfl, hW2, hC2, hF⟩) ⟨_, rfl⟩ dX1_reads_53
  -- the loop
  have loop : ∀ (r : Nat) (a : Nat) (D : Nat → Nat → Nat) (ρ : CM) (H : Heap) (locs : List Loc) (ce sl : Nat), a + r = n → HWd K D ρ H → Yp a D ρ → va_S (cP K) s.heap H locs → ce + r * (cp + cb) ≤ 32 * (cp + cb) → sl + r * (sp + sb) ≤ 32 * (sp + sb) → W p l e (rmc 8 (32 * (cp + cb)) (32 * (sp + sb))) s m args below meth c H locs ce sl Q (F0 m 20 ls []) := by
    intro r
    induction r using Nat.strongRecOn with
    | _ r ih =>
      intro a D ρ H locs ce sl har hW hY hS hce hsl
      obtain ⟨hk7, hA0, hlv, hoN, hf⟩ := k12 T.hk K D ρ
      obtain ⟨y1, y2, y3⟩ := T.yy a D ρ hY
      have hnum := nI31 a (by omega) n (by omega)
      refine lv_aload_n hx hb dX1_reads_20 rfl (lv_at hl 0 rfl) ?_
      refine hx_gi S0 hTb hW k 0 2 hA0 hk7 (by omega) hlv (hf 2 (by decide) (by decide)).1 l2 y1 dX1_reads_21 ?_
      refine lv_aload_n hx hb dX1_reads_24 rfl (lv_at hl 0 rfl) ?_
      refine hx_gi S0 hTb hW k 0 1 hA0 hk7 (by omega) hlv (hf 1 (by decide) (by decide)).1 l1 y2 dX1_reads_25 ?_
      refine lv_icmp_ge (tgt := 42) hx hb dX1_reads_28 (by decide) (fun hc => ?_) (fun hc => ?_)
      · have ha : a = n := by have := hnum.2.2.2.2.1 hc; omega
        subst ha
        refine lv_iconst hx hb dX1_reads_42 (v := -1) (by decide) ?_
        exact hE H _ _ _ ls 43 (some (.int (-1))) hS (by rw [hcells]; omega) (by rw [hslots]; omega) (Or.inl ⟨D, ρ, rfl, hW, hY⟩) ⟨_, rfl⟩ dX1_reads_43
      · have ha : a < n := by
          refine Nat.lt_of_not_le (fun z => hc (hnum.2.2.2.2.2 z))
        have hr : 1 ≤ r := by omega
        have hr1 : cp + cb + (r - 1) * (cp + cb) = r * (cp + cb) := by
          obtain ⟨r', rfl⟩ : ∃ r', r = r' + 1 := ⟨r - 1, by omega⟩
          rw [Nat.add_sub_cancel, Nat.succ_mul]; omega
        have hr2 : sp + sb + (r - 1) * (sp + sb) = r * (sp + sb) := by
          obtain ⟨r', rfl⟩ : ∃ r', r = r' + 1 := ⟨r - 1, by omega⟩
          rw [Nat.add_sub_cancel, Nat.succ_mul]; omega
        have hm1 : ∀ j, j ≤ r - 1 → j * (cp + cb) ≤ (r - 1) * (cp + cb) := fun j hj => Nat.mul_le_mul_right _ hj
        have hm2 : ∀ j, j ≤ r - 1 → j * (sp + sb) ≤ (r - 1) * (sp + sb) := fun j hj => Nat.mul_le_mul_right _ hj
        refine lv_aload_n hx hb dX1_reads_31 rfl (lv_at hl 0 rfl) ?_
        refine hx_H (x := xBetw) (owner := "WoodliceSenate$Text") (C := oR k) (As := []) (rest := []) E0 hS (T.mB H D ρ a hW hY ha) T.wB.2.2.1 ⟨Nat.le_of_ble_eq_true rfl, Nat.le_of_ble_eq_true rfl⟩ (T.wB.code hts) q487 q489 (va_Decl.of (hts _ q488) (hts _ q494)) T.wB.1 T.wB.2.1 hdH_V (hx_recv hTb hW k 0 hA0 hk7 hlv) hl.1 rfl (Nat.le_of_ble_eq_true rfl) ⟨by rw [hcells]; omega, by rw [hslots]; omega⟩ dX1_reads_32 (fun v H2 L hF2 hq hS2 => ?_) (fun b H2 L hF hq hS2 => ?_)
        · rcases hq with ⟨D2, ρ2, a2, e2, hW2, hZ2, hle⟩ | ⟨D2, ρ2, a2, b2, e2, -⟩
          · cases e2
            obtain ⟨z1, z2, z3⟩ := T.zz a2 D2 ρ2 hZ2
            obtain ⟨-, hA0, hlv, -, -⟩ := k12 T.hk K D2 ρ2
            refine lv_aload_n hx hb dX1_reads_35 rfl (lv_at hl 0 rfl) ?_
            refine hx_HP (As := []) (rest := []) E0 hS2 (metH_next T H2 D2 ρ2 a2 hW2 hZ2) hdH_pl.1 ⟨Nat.le_of_ble_eq_true rfl, Nat.le_of_ble_eq_true rfl⟩ (CodeK.of hts q214) q211 q1766 (hTb.2.2 _ (by simp [cNest, yX1_next, RX1])) (va_Decl.of (hts _ q213) (hts _ q214)) q213 hdH_V (by obtain ⟨cell, x1, x2, -⟩ := hx_recv hTb hW2 k 0 hA0 hk7 hlv; exact ⟨cell, x1, x2⟩) hl.1 rfl (Nat.le_of_ble_eq_true rfl) ⟨by rw [hcells]; omega, by rw [hslots]; omega⟩ dX1_reads_36 (fun v H3 L hF3 hq hS3 => ?_) (fun b H3 L hF hq hS3 => ?_)
            · rcases hq with ⟨D3, ρ3, a3, e3, hW3, hY3, hlt⟩ | ⟨D3, ρ3, a3, b3, e3, -⟩
              · cases e3
                obtain ⟨w1, w2, w3⟩ := T.yy a3 D3 ρ3 hY3
                refine lv_goto (tgt := 20) hx hb dX1_reads_39 (by decide) ?_
                have hj1 := hm1 (n - a3) (by omega)
                have hj2 := hm2 (n - a3) (by omega)
                exact ih (n - a3) (by omega) a3 D3 ρ3 H3 _ _ _ (by omega) hW3 hY3 hS3 (by omega) (by omega)
              · cases e3
            · rcases hq with ⟨D3, ρ3, a3, e3, -⟩ | hq
              · cases e3
              · exact hand b 36 H3 _ _ _ _ hS3 (by omega) (by omega) (by decide) (by decide) hq
          · cases e2
        · rcases hq with ⟨D2, ρ2, a2, e2, -⟩ | hq
          · cases e2
          · exact hand b 32 H2 _ _ _ _ hS2 (by omega) (by omega) (by decide) (by decide) hq
  obtain ⟨hk7, hA0, hlv, hoN, hf⟩ := k12 T.hk K D ρ
  have hbP : cP K (cA K k 0) := by rw [← hA0]; exact hW.2.2.2 k 0 hlv
  refine lv_aload_n hx hb dX1_reads_0 rfl (lv_at hl 0 rfl) ?_
  refine lv_iconst hx hb dX1_reads_1 (v := 0) (by decide) ?_
  refine hx_pj S0 hTb hW k 0 2 hA0 hk7 (by omega) hlv (hf 2 (by decide) (by decide)).2.1 (hf 2 (by decide) (by decide)).1 (hf 2 (by decide) (by decide)).2.2 (by rcases hk with rfl | rfl <;> rfl) (by rcases hk with rfl | rfl <;> rfl) l2 dX1_reads_2 (fun H1 n1 hW1 z1 o1 => ?_)
  have hS1 := hv_put (n := n1) (locs := []) (va_S.rf (A := cP K)) z1 o1 hbP
  have hB1 := (T.bp D ρ hB).2
  obtain ⟨-, hA1, hlv1, -, -⟩ := k12 T.hk K D (cput ρ k 0 2 0)
  refine lv_aload_n hx hb dX1_reads_5 rfl (lv_at hl 0 rfl) ?_
  refine hx_H (x := xClear) (owner := "WoodliceSenate$Text") (C := oR k) (As := []) (rest := []) E0 hS1 (T.mC H1 D _ hW1 hB1) T.wC.2.2.1 ⟨Nat.le_of_ble_eq_true rfl, Nat.le_of_ble_eq_true rfl⟩ (T.wC.code hts) q195 q197 (va_Decl.abs (hTb.2.2 _ (by simp [cNest]))) T.wC.1 T.wC.2.1 hdH_V (hx_recv hTb hW1 k 0 hA1 hk7 hlv1) hl.1 rfl (Nat.le_of_ble_eq_true rfl) ⟨by rw [hcells]; omega, by rw [hslots]; omega⟩ dX1_reads_6 (fun v H2 L hF2 hq hS2 => ?_) (fun a H1 L hF hq hS => by cases hq.1)
  obtain ⟨e1, ⟨D2, ρ2, hW2, hC2, hat⟩, -⟩ := hq
  cases e1
  rw [cput_eq] at hat
  have hty := T.c1 D2 ρ2 hC2
  obtain ⟨-, hA2, hlv2, -, -⟩ := k12 T.hk K D2 ρ2
  have hnz := nI31z n (by omega)
  refine lv_aload_n hx hb dX1_reads_9 rfl (lv_at hl 0 rfl) ?_
  refine hx_gi S0 hTb hW2 k 0 1 hA2 hk7 (by omega) hlv2 (hf 1 (by decide) (by decide)).1 l1 hty dX1_reads_10 ?_
  refine lv_if_le (tgt := 20) hx hb dX1_reads_13 (by decide) (fun hc => ?_) (fun hc => ?_)
  · have hn0 := hnz.1 hc
    have hmul : n * (cp + cb) ≤ 32 * (cp + cb) := Nat.mul_le_mul_right _ (by omega)
    have hmul2 : n * (sp + sb) ≤ 32 * (sp + sb) := Nat.mul_le_mul_right _ (by omega)
    exact loop n 0 D2 ρ2 H2 _ _ _ (by omega) hW2 (T.cy D2 ρ2 hC2 hat hn0) hS2 (by omega) (by omega)
  · have hn0 := hnz.2 hc
    refine lv_aload_n hx hb dX1_reads_16 rfl (lv_at hl 0 rfl) ?_
    refine hx_HP (As := []) (rest := []) E0 hS2 (metH_next T H2 D2 ρ2 0 hW2 (T.cz D2 ρ2 hC2 hat hn0)) hdH_pl.1 ⟨Nat.le_of_ble_eq_true rfl, Nat.le_of_ble_eq_true rfl⟩ (CodeK.of hts q214) q211 q1766 (hTb.2.2 _ (by simp [cNest, yX1_next, RX1])) (va_Decl.of (hts _ q213) (hts _ q214)) q213 hdH_V (by obtain ⟨cell, x1, x2, -⟩ := hx_recv hTb hW2 k 0 hA2 hk7 hlv2; exact ⟨cell, x1, x2⟩) hl.1 rfl (Nat.le_of_ble_eq_true rfl) ⟨by rw [hcells]; omega, by rw [hslots]; omega⟩ dX1_reads_17 (fun v H3 L hF3 hq hS3 => ?_) (fun b H3 L hF hq hS3 => ?_)
    · rcases hq with ⟨D3, ρ3, a3, e3, hW3, hY3, hlt⟩ | ⟨D3, ρ3, a3, b3, e3, -⟩
      · cases e3
        obtain ⟨w1, w2, w3⟩ := T.yy a3 D3 ρ3 hY3
        have hj1 : (n - a3) * (cp + cb) ≤ 31 * (cp + cb) := Nat.mul_le_mul_right _ (by omega)
        have hj2 : (n - a3) * (sp + sb) ≤ 31 * (sp + sb) := Nat.mul_le_mul_right _ (by omega)
        exact loop (n - a3) a3 D3 ρ3 H3 _ _ _ (by omega) hW3 hY3 hS3 (by omega) (by omega)
      · cases e3
    · rcases hq with ⟨D3, ρ3, a3, e3, -⟩ | hq
      · cases e3
      · exact hand b 17 H3 _ _ _ _ hS3 (by omega) (by omega) (by decide) (by decide) hq
/-- how read ends where the text was fresh: nothing but the mark anew -/
theorem metH_read1 (l : Launch) (K : CK) (k : Nat) (H : Heap) (D : Nat → Nat → Nat) (ρ : CM) (hk : k = 1 ∨ k = 2) (hW : HWd K D ρ H) (hfr : ρ k 0 3 = 1) : MetH l K yX1_read 1 9 0 0 [.ref (cA K k 0)] H (fun o H1 => o = .returned (some (.int (ρ k 0 4))) ∧ HWd K D (cput ρ k 0 3 1) H1) := by
  refine metH_w (cc := cX1_read) q189 (Or.inr (Or.inl rfl)) (Nat.le_of_ble_eq_true rfl) (fun p e s m args below meth c Q hH hnm hno E hE hT ls hl => ?_)
  subst hH
  obtain ⟨S, hTb, hSt, hA⟩ := E
  have S0 := S
  obtain ⟨hx, hb, hml, ho, hts⟩ := S
  have hl : lv_has ls 1 [(0, .ref (cA K k 0))] := hl
  obtain ⟨hk7, hA0, hlv, hoN, hf⟩ := k12 hk K D ρ
  have hbP : cP K (cA K k 0) := by rw [← hA0]; exact hW.2.2.2 k 0 hlv
  have l3 : Cond.fieldLink "WoodliceSenate$Text" 25 (oT k 3).1 (oT k 3).2.1 (oT k 3).2.2.1 ∈ lw_all := by rcases hk with rfl | rfl <;> exact q641
  have l4 : Cond.fieldLink "WoodliceSenate$Text" 66 (oT k 4).1 (oT k 4).2.1 (oT k 4).2.2.1 ∈ lw_all := by rcases hk with rfl | rfl <;> exact q642
  refine lv_aload_n hx hb dX1_read_0 rfl (lv_at hl 0 rfl) ?_
  refine hx_gi S0 hTb hW k 0 3 hA0 hk7 (by omega) hlv (hf 3 (by decide) (by decide)).1 l3 hfr dX1_read_1 ?_
  refine lv_if_ne (tgt := 15) hx hb dX1_read_4 (by decide) (fun _ => ?_) (fun hc => absurd hc (by decide))
  refine lv_aload_n hx hb dX1_read_15 rfl (lv_at hl 0 rfl) ?_
  refine lv_iconst hx hb dX1_read_16 (v := 1) (by decide) ?_
  refine hx_pj S0 hTb hW k 0 3 hA0 hk7 (by omega) hlv (hf 3 (by decide) (by decide)).2.1 (hf 3 (by decide) (by decide)).1 (hf 3 (by decide) (by decide)).2.2 (by rcases hk with rfl | rfl <;> rfl) (by rcases hk with rfl | rfl <;> rfl) l3 dX1_read_17 (fun H1 n1 hW1 z1 o1 => ?_)
  obtain ⟨-, hA1, hlv1, -, -⟩ := k12 hk K D (cput ρ k 0 3 1)
  refine lv_aload_n hx hb dX1_read_20 rfl (lv_at hl 0 rfl) ?_
  refine hx_gi S0 hTb hW1 k 0 4 hA1 hk7 (by omega) hlv1 (hf 4 (by decide) (by decide)).1 l4 (x := ρ k 0 4) (cput_ne (fun z => by omega)) dX1_read_21 ?_
  exact hE H1 _ _ _ ls 24 (some (.int (ρ k 0 4))) (hv_put (locs := []) va_S.rf z1 o1 hbP) (Nat.zero_le _) (Nat.zero_le _) ⟨rfl, hW1⟩ ⟨_, rfl⟩ dX1_read_24
def ReadR (K : CK) (k n : Nat) (Cl : (Nat → Nat → Nat) → CM → Prop) (Yp : Nat → (Nat → Nat → Nat) → CM → Prop) (Fa : Nat → Prop) : Outcome → Heap → Prop := fun o H1 =>
  (∃ (D : Nat → Nat → Nat) (ρ : CM), o = .returned (some (.int (-1))) ∧ HWd K D (cput (cput ρ k 0 4 (-1)) k 0 3 1) H1 ∧ Yp n D ρ) ∨ ∃ (D : Nat → Nat → Nat) (ρ : CM) (a : Nat), o = .returned (some (.int (nI a))) ∧ HWd K D (cput (cput ρ k 0 4 (nI a)) k 0 3 1) H1 ∧ Cl D ρ ∧ Fa a
theorem metH_read0 (T : TxI l K k n cp sp cb sb nLp yC yF yP yB Bp Cl Zp Yp Fa) (H : Heap) (D : Nat → Nat → Nat) (ρ : CM) (hW : HWd K D ρ H) (hB : Bp D ρ) (hfr : ρ k 0 3 = 0) : MetH l K yX1_read 1 9 (32 * (cp + cb)) (32 * (sp + sb)) [.ref (cA K k 0)] H (ReadR K k n Cl Yp Fa) := by
  refine metH_w (cc := cX1_read) q189 (Or.inr (Or.inl rfl)) (Nat.le_of_ble_eq_true rfl) (fun p e s m args below meth c Q hH hnm hno E hE hT ls hl => ?_)
  subst hH
  have E0 := E
  obtain ⟨S, hTb, hSt, hA⟩ := E
  have S0 := S
  obtain ⟨hx, hb, hml, ho, hts⟩ := S
  have hl : lv_has ls 1 [(0, .ref (cA K k 0))] := hl
  have hk := T.hk
  obtain ⟨hk7, hA0, hlv, hoN, hf⟩ := k12 hk K D ρ
  have hbP : cP K (cA K k 0) := by rw [← hA0]; exact hW.2.2.2 k 0 hlv
  have l3 : Cond.fieldLink "WoodliceSenate$Text" 25 (oT k 3).1 (oT k 3).2.1 (oT k 3).2.2.1 ∈ lw_all := by rcases hk with rfl | rfl <;> exact q641
  have l4 : Cond.fieldLink "WoodliceSenate$Text" 66 (oT k 4).1 (oT k 4).2.1 (oT k 4).2.2.1 ∈ lw_all := by rcases hk with rfl | rfl <;> exact q642
  have hcells : (rmc 9 (32 * (cp + cb)) (32 * (sp + sb))).cells = 32 * (cp + cb) := rfl
  have hslots : (rmc 9 (32 * (cp + cb)) (32 * (sp + sb))).slots = 32 * (sp + sb) := rfl
  have tail : ∀ (v : Int32) (D : Nat → Nat → Nat) (ρ : CM) (H : Heap) (locs : List Loc) (ce sl : Nat), HWd K D ρ H → va_S (cP K) s.heap H locs → ce ≤ 32 * (cp + cb) → sl ≤ 32 * (sp + sb) → (∀ H1, HWd K D (cput (cput ρ k 0 4 v) k 0 3 1) H1 → ReadR K k n Cl Yp Fa (.returned (some (.int v))) H1) → W p l e (rmc 9 (32 * (cp + cb)) (32 * (sp + sb))) s m args below meth c H locs ce sl Q (F0 m 12 ls [.int v, .ref (cA K k 0)]) := by
    intro v D ρ H locs ce sl hW hS hce hsl hR
    obtain ⟨hk7, hA0, hlv, hoN, hf⟩ := k12 hk K D ρ
    refine hx_pj S0 hTb hW k 0 4 hA0 hk7 (by omega) hlv (hf 4 (by decide) (by decide)).2.1 (hf 4 (by decide) (by decide)).1 (hf 4 (by decide) (by decide)).2.2 (by rcases hk with rfl | rfl <;> rfl) (by rcases hk with rfl | rfl <;> rfl) l4 dX1_read_12 (fun H1 n1 hW1 z1 o1 => ?_)
    have hS1 := hv_put (n := n1) hS z1 o1 hbP
    obtain ⟨-, hA1, hlv1, -, -⟩ := k12 hk K D (cput ρ k 0 4 v)
    refine lv_aload_n hx hb dX1_read_15 rfl (lv_at hl 0 rfl) ?_
    refine lv_iconst hx hb dX1_read_16 (v := 1) (by decide) ?_
    refine hx_pj S0 hTb hW1 k 0 3 hA1 hk7 (by omega) hlv1 (hf 3 (by decide) (by decide)).2.1 (hf 3 (by decide) (by decide)).1 (hf 3 (by decide) (by decide)).2.2 (by rcases hk with rfl | rfl <;> rfl) (by rcases hk with rfl | rfl <;> rfl) l3 dX1_read_17 (fun H2 n2 hW2 z2 o2 => ?_)
    have hS2 := hv_put (n := n2) hS1 z2 o2 hbP
    obtain ⟨-, hA2, hlv2, -, -⟩ := k12 hk K D (cput (cput ρ k 0 4 v) k 0 3 1)
    refine lv_aload_n hx hb dX1_read_20 rfl (lv_at hl 0 rfl) ?_
    refine hx_gi S0 hTb hW2 k 0 4 hA2 hk7 (by omega) hlv2 (hf 4 (by decide) (by decide)).1 l4 (x := v) (by rw [cput_ne (fun z => by omega), cput_eq]) dX1_read_21 ?_
    exact hE H2 _ _ _ ls 24 (some (.int v)) hS2 (by rw [hcells]; omega) (by rw [hslots]; omega) (hR H2 hW2) ⟨_, rfl⟩ dX1_read_24
  refine lv_aload_n hx hb dX1_read_0 rfl (lv_at hl 0 rfl) ?_
  refine hx_gi S0 hTb hW k 0 3 hA0 hk7 (by omega) hlv (hf 3 (by decide) (by decide)).1 l3 hfr dX1_read_1 ?_
  refine lv_if_ne (tgt := 15) hx hb dX1_read_4 (by decide) (fun hc => absurd rfl hc) (fun _ => ?_)
  refine lv_aload_n hx hb dX1_read_7 rfl (lv_at hl 0 rfl) ?_
  refine lv_aload_n hx hb dX1_read_8 rfl (lv_at hl 0 rfl) ?_
  refine hx_HP (As := []) (rest := [.ref (cA K k 0)]) E0 va_S.rf (metH_reads T s.heap D ρ hW hB) hdH_pl.2.1 ⟨Nat.le_of_ble_eq_true rfl, Nat.le_of_ble_eq_true rfl⟩ (CodeK.ofW hts q193) q190 q1765 (hTb.2.2 _ (by simp [cNest, yX1_reads, RX1])) (va_Decl.ofW (hts _ q192) (hts _ q193)) q192 hdH_I (by obtain ⟨cell, x1, x2, -⟩ := hx_recv hTb hW k 0 hA0 hk7 hlv; exact ⟨cell, x1, x2⟩) hl.1 rfl (Nat.le_of_ble_eq_true rfl) ⟨by rw [hcells]; omega, by rw [hslots]; omega⟩ dX1_read_9 (fun v H1 L hF1 hq hS1 => ?_) (fun b H1 L hF1 hq hS1 => by
    rcases hq with ⟨D1, ρ1, e1, -⟩ | ⟨D1, ρ1, a1, e1, -⟩ <;> cases e1)
  rcases hq with ⟨D1, ρ1, e1, hW1, hY1⟩ | ⟨D1, ρ1, a1, e1, hW1, hC1, hFa⟩
  · cases e1
    exact tail (-1) D1 ρ1 H1 _ _ _ hW1 hS1 (by omega) (by omega) (fun H2 h2 => Or.inl ⟨D1, ρ1, rfl, h2, hY1⟩)
  · cases e1
    exact tail (nI a1) D1 ρ1 H1 _ _ _ hW1 hS1 (by omega) (by omega) (fun H2 h2 => Or.inr ⟨D1, ρ1, a1, rfl, h2, hC1, hFa⟩)
end TXI
