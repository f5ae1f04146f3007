/-! THE COMPONENT's WORLD IN A WALK: logical memory, modes, credit -/
set_option maxRecDepth 100000
def sortN (c : Nat) : String := match c with
  | 0 => RX10 | 1 => RX11 | _ => RX9
/-- the five literals: 0 "0123456789", 1 "pgo", 2 "abcdefghijkl", 3 "du", 4 ";": lengths, bytes, where they are named -/
def strL : List Nat := [10, 3, 12, 2, 1]
def strB : List (List Int32) := [[48, 49, 50, 51, 52, 53, 54, 55, 56, 57], [112, 103, 111], [97, 98, 99, 100, 101, 102, 103, 104, 105, 106, 107, 108], [100, 117], [59]]
def strO (i : Nat) : String := match i with
  | 0 => RX2 | 4 => RX1 | _ => RX3
def strE (i : Nat) : Nat := match i with
  | 0 => 25 | 1 => 31 | 2 => 37 | 3 => 41 | _ => 15
def strT (i : Nat) : String := match i with
  | 0 => "0123456789" | 1 => "pgo" | 2 => "abcdefghijkl" | 3 => "du" | _ => ";"
/-- some reference or null stands there -/
def vzR (C n d : String) (K : CK) (U : State) (H : Heap) : Prop := ∃ v : Value, (v = .null ∨ ∃ a, v = .ref a) ∧ va_Z C n d v (cP K) U H
/-- what stands still: the three sorts, the static SORT and its array, the empty list's array; the literals; statics of the JDK -/
def CSt (K : CK) (U : State) (H : Heap) : Prop := (∀ c, c < 3 → va_O (sortN c) (cSo K c) (cP K) U H) ∧ va_Z "WoodliceSenate" "SORT" "[LWoodliceSenate$Sort;" (.ref (cSa K)) (cP K) U H ∧ va_T (.object "WoodliceSenate$Sort") (cSa K) 3 (fun j => .ref (cSo K j)) (cP K) U H ∧
  va_Z "java/util/ArrayList" "DEFAULTCAPACITY_EMPTY_ELEMENTDATA" "[Ljava/lang/Object;" (.ref (cEm K)) (cP K) U H ∧ va_T (.object "java/lang/Object") (cEm K) 0 (fun _ => .null) (cP K) U H ∧
  vk_S 5 strL strB (fun i => cSo K (10 + i)) (fun i => cSo K (20 + i)) (cP K) U H ∧ (∀ i, i < 5 → vk_R (strO i) (strE i) (strT i) (cSo K (10 + i)) U) ∧ va_Z "java/lang/String" "COMPACT_STRINGS" "Z" (.int 1) (cP K) U H ∧
  vzR "java/lang/Throwable" "UNASSIGNED_STACK" "[Ljava/lang/StackTraceElement;" K U H ∧ vzR "java/lang/Throwable" "SUPPRESSED_SENTINEL" "Ljava/util/List;" K U H ∧ u_Kn U RX7 TX7 7 (cC K 7) (cI K 7)
theorem vzR.next {C n d : String} {K : CK} {u U : State} {H H1 : Heap} (h : vzR C n d K u H) (hvm : u.vm.Alike U.vm) (hq : ∀ a : Nat, a < H.size → ¬ cP K a → H1[a]? = H[a]?) : vzR C n d K U H1 := by
  obtain ⟨v, h1, h2⟩ := h
  exact ⟨v, h1, (h2.moved hvm).kept hq⟩
theorem CSt.next {K : CK} {u U : State} {H H1 : Heap} (h : CSt K u H) (hW : u.WarmedH U.vm) (hq : ∀ a : Nat, a < H.size → ¬ cP K a → H1[a]? = H[a]?) : CSt K U H1 := by
  have hvm := hW.alike
  obtain ⟨h1, h2, h3, h4, h5, h6, h7, h8, h9, h10, h11⟩ := h
  exact ⟨fun c hc => ((h1 c hc).moved hvm).kept hq, (h2.moved hvm).kept hq, (h3.moved hvm).kept hq, (h4.moved hvm).kept hq, (h5.moved hvm).kept hq, (h6.moved hvm).kept hq, fun i hi => (h7 i hi).warm hW, (h8.moved hvm).kept hq, h9.next hvm hq, h10.next hvm hq, u_Kn_moved hvm h11⟩
theorem cNest_warm {s U : State} (hW : s.WarmedH U.vm) (h : ∀ w ∈ cNest, va_Nw w s) : ∀ w ∈ cNest, va_Nw w U := by
  intro w hw
  have h1 := h w hw
  simp only [cNest, List.mem_cons, List.not_mem_nil, or_false] at hw
  rcases hw with e | e | e | e | e | e | e | e | e | e | e | e | e | e | e | e | e | e | e | e | e | e | e | e | e <;> (subst e; first | exact va_Nw.warmF hW h1 | exact va_Nw.warmD hW h1 | exact Cond.privateMethod_warm hW h1 | exact va_Nw.warmC hW h1 | exact (Cond.arrayOver_setVmC (args := #[]) (s := s) (vm' := U.vm) hW.alike _).trans h1)
theorem cNest_same {s U : State} (hv : U.vm = s.vm) (h : ∀ w ∈ cNest, va_Nw w s) : ∀ w ∈ cNest, va_Nw w U := by
  intro w hw
  have h1 := h w hw
  simp only [cNest, List.mem_cons, List.not_mem_nil, or_false] at hw
  rcases hw with e | e | e | e | e | e | e | e | e | e | e | e | e | e | e | e | e | e | e | e | e | e | e | e | e <;> (subst e; first | exact va_tabs rfl hv.symm h1 | exact (Cond.arrayOver_setVmC (args := #[]) (s := s) (vm' := U.vm) (by rw [hv]; exact Vm.Alike.refl _) _).trans h1)
theorem CTb.warm {K : CK} {s U : State} (hW : s.WarmedH U.vm) (h : CTb K s) : CTb K U :=
  ⟨fun k hk => u_Kn_moved hW.alike (h.1 k hk), fun t ht => ⟨arrOfT_moved hW.alike (h.2.1 t ht).1, by rw [hW.alike.findClass]; exact (h.2.1 t ht).2⟩, cNest_warm hW h.2.2⟩
theorem CTb.same {K : CK} {s U : State} (hv : U.vm = s.vm) (h : CTb K s) : CTb K U := by
  have ha : s.vm.Alike U.vm := by rw [hv]; exact Vm.Alike.refl _
  exact ⟨fun k hk => u_Kn_moved ha (h.1 k hk), fun t ht => ⟨arrOfT_moved ha (h.2.1 t ht).1, by rw [ha.findClass]; exact (h.2.1 t ht).2⟩, cNest_same hv h.2.2⟩
/-- what reading the stone, the roll may cost -/
def qS (b : Bool) : Nat := if b = true then 0 else 32
def qR (b : Bool) : Nat := if b = true then 0 else 192
def tS (b : Bool) : Nat := if b = true then 0 else 224
def tR (b : Bool) : Nat := if b = true then 0 else 1312
def CWd (m1 m2 : Bool) (K : CK) (D : Nat → Nat → Nat) (σ : CM) (H : Heap) : Prop := ∃ ρ, HWd K D ρ H ∧ Lz m1 m2 ρ σ
/-- the walk's constants: where things are, the modes and the dynamic addresses at the entry -/
abbrev CG : Type := CK × Bool × Bool × (Nat → Nat → Nat)
abbrev gA (G : CG) : Nat → Nat → Nat := cA G.1
def bor (f m : Bool) : Bool := match f with
  | true => true
  | false => m
def cost (f1 f2 m1 m2 : Bool) : Nat := (match f1 with | true => qS m1 | false => 0) + (match f2 with | true => qR m2 | false => 0)
def cosl (f1 f2 m1 m2 : Bool) : Nat := (match f1 with | true => tS m1 | false => 0) + (match f2 with | true => tR m2 | false => 0)
/-- f1, f2: the method may read the stone, the roll -/
def CJ (G : CG) (s : State) (R : Room) (ex : Nat) (f1 f2 m1 m2 : Bool) (D : Nat → Nat → Nat) (σ : CM) (H : Heap) (locs : List Loc) (ce sl : Nat) : Prop :=
  CWd m1 m2 G.1 D σ H ∧ va_S (cP G.1) s.heap H locs ∧ (∀ q, s.heap.size ≤ q → cP G.1 q) ∧ (G.2.1 = true → m1 = true) ∧ (G.2.2.1 = true → m2 = true) ∧ (G.2.2.1 = true → D = G.2.2.2) ∧ ce + (cost f1 f2 m1 m2 + ex) ≤ R.cells ∧ sl + (cosl f1 f2 m1 m2 + 10 * ex) ≤ R.slots
def CC (p : Program) (s : State) (m : MethodId) (args : Array Value) (c : Code) (cc : ByteArray) (nL : Nat) (own : String) (G : CG) : Prop := CallFix p m c cc nL s args lw_all own ∧ CTb G.1 s ∧ CSt G.1 s s.heap
def CU (m1 m2 : Bool) (K : CK) (D : Nat → Nat → Nat) (σ : CM) (U : State) : Prop := CWd m1 m2 K D σ U.heap ∧ CTb K U ∧ CSt K U U.heap ∧ ∀ q, U.heap.size ≤ q → cP K q
/-- steps on the logical memory -/
def cget (σ : CM) (k i j : Nat) : Option Int32 := if clive σ k i = true then some (σ k i j) else none
def cst (σ : CM) (k i j : Nat) (v : Int32) : Option CM := if clive σ k i = true then some (cput σ k i j v) else none
def csz (σ : CM) (k i j : Nat) (v : Int32) : Option CM := if clive σ k i = true ∧ bz v = v then some (cput σ k i j v) else none
def cld (σ : CM) (k i : Nat) (x : Int32) : Option Int32 := if clive σ k i = true ∧ inb x (aLen σ k i) = true then some (σ k i x.toNatClampNeg) else none
def cas (σ : CM) (k i : Nat) (x v : Int32) : Option CM := if clive σ k i = true ∧ inb x (aLen σ k i) = true then some (cput σ k i x.toNatClampNeg v) else none
def cix (σ : CM) (k i : Nat) (x : Int32) : Option Nat := if clive σ k i = true ∧ inb x (aLen σ k i) = true then some x.toNatClampNeg else none
theorem ad_s {K : CK} {D : Nat → Nat → Nat} {k i : Nat} (h : dyn k = false) : adr K D k i = cA K k i := by simp [adr, h]
theorem ad_d {K : CK} {D : Nat → Nat → Nat} {k i : Nat} (h : dyn k = true) : adr K D k i = D k i := by simp [adr, h]
section CJR
variable {p : Program} {l : Launch} {e : Env} {R : Room} {s : State} {m : MethodId} {args : Array Value} {below : List Frame} {meth : Method} {c : Code} {H H0 H1 : Heap} {locs : List Loc} {ce sl : Nat} {Q : State → Prop}
variable {cc : ByteArray} {pc nL a : Nat} {ls : Array Slot} {rest : List Value} {G : CG} {D : Nat → Nat → Nat} {σ σ' : CM} {own : String} {f1 f2 m1 m2 : Bool} {ex : Nat}
/-- an int field is got -/
theorem cj_gi (C : CC p s m args c cc nL own G) (hJ : CJ G s R ex f1 f2 m1 m2 D σ H locs ce sl) {index : Nat} (k i f : Nat) (ha : adr G.1 D k i = a) (hk : k < 7) (hf : f < oN k) (hi : oInt k f = true) (hlk : lvok m2 k = true) (hv : vis m1 m2 k i f = true)
    (hlink : (Cond.fieldLink own index (oT k f).1 (oT k f).2.1 (oT k f).2.2.1).before args s = true ∨ ∃ host, (Cond.fieldLinkNest own index (oT k f).1 (oT k f).2.1 (oT k f).2.2.1 host).before args s = true) {x : Int32} (hx : cget σ k i f = some x) (hdg : decode cc pc = .ok (.getfield index, 3))
    (kk : W p l e R s m args below meth c H locs ce sl Q (F0 m (pc + 3) ls (.int x :: rest))) : W p l e R s m args below meth c H locs ce sl Q (F0 m pc ls (.ref a :: rest)) := by
  obtain ⟨h1, h2⟩ := og hx
  obtain ⟨ρ, hW, hL⟩ := hJ.1
  have e1 : oV G.1 D ρ k i f = .int x := by rw [oV_int hi, hL.at hv, Option.some.inj h2]
  subst ha
  rcases hlink with hl | ⟨host, hl⟩
  · exact hx_get C.1 C.2.1 hW k i f hk hf (by rw [hL.live hlk]; exact h1) hl hdg (by rw [e1]; exact kk)
  · exact hx_getN C.1 C.2.1 hW k i f hk hf (by rw [hL.live hlk]; exact h1) hl hdg (by rw [e1]; exact kk)
/-- a reference field is got: v is what the picture says, whatever the real memory -/
theorem cj_gr (C : CC p s m args c cc nL own G) (hJ : CJ G s R ex f1 f2 m1 m2 D σ H locs ce sl) {index : Nat} (k i f : Nat) (ha : adr G.1 D k i = a) (hk : k < 7) (hf : f < oN k) (hlk : lvok m2 k = true) (hl : clive σ k i = true)
    (hlink : (Cond.fieldLink own index (oT k f).1 (oT k f).2.1 (oT k f).2.2.1).before args s = true ∨ ∃ host, (Cond.fieldLinkNest own index (oT k f).1 (oT k f).2.1 (oT k f).2.2.1 host).before args s = true) {v : Value} (hv : ∀ ρ, Lz m1 m2 ρ σ → oV G.1 D ρ k i f = v) (hdg : decode cc pc = .ok (.getfield index, 3))
    (kk : W p l e R s m args below meth c H locs ce sl Q (F0 m (pc + 3) ls (v :: rest))) : W p l e R s m args below meth c H locs ce sl Q (F0 m pc ls (.ref a :: rest)) := by
  obtain ⟨ρ, hW, hL⟩ := hJ.1
  have e1 := hv ρ hL
  subst ha
  rcases hlink with hl2 | ⟨host, hl2⟩
  · exact hx_get C.1 C.2.1 hW k i f hk hf (by rw [hL.live hlk]; exact hl) hl2 hdg (by rw [e1]; exact kk)
  · exact hx_getN C.1 C.2.1 hW k i f hk hf (by rw [hL.live hlk]; exact hl) hl2 hdg (by rw [e1]; exact kk)
theorem CJ.wr (hJ : CJ G s R ex f1 f2 m1 m2 D σ H locs ce sl) {q n : Nat} (hq : cP G.1 q) (h1 : CWd m1 m2 G.1 D σ' H1) (z : H1.size = H.size) (oq : ∀ x, x ≠ q → H1[x]? = H[x]?) : CJ G s R ex f1 f2 m1 m2 D σ' H1 (locs ++ [⟨q, n⟩]) ce sl :=
  ⟨h1, hJ.2.1.put z oq hq, hJ.2.2⟩
theorem cj_put (C : CC p s m args c cc nL own G) (hJ : CJ G s R ex f1 f2 m1 m2 D σ H locs ce sl) {index : Nat} (k i f : Nat) (ha : adr G.1 D k i = a) (hk : k < 7) (hf : f < oN k) (hfin : (oT k f).2.2.2 = false) (hi : oInt k f = true) (hpl : plain k f = true) (hlk : lvok m2 k = true) (hv : wok m1 m2 k i f = true) {v : Int32} (hn : narrow (oTy k f) (.int v) = .int v) (hfit : fits (oTy k f) (.int v) = true)
    (hlink : (Cond.fieldLink own index (oT k f).1 (oT k f).2.1 (oT k f).2.2.1).before args s = true ∨ ∃ host, (Cond.fieldLinkNest own index (oT k f).1 (oT k f).2.1 (oT k f).2.2.1 host).before args s = true) (hlv : clive σ k i = true) (hdg : decode cc pc = .ok (.putfield index, 3))
    (kk : ∀ (H1 : Heap) (locs1 : List Loc), CJ G s R ex f1 f2 m1 m2 D (cput σ k i f v) H1 locs1 ce sl → W p l e R s m args below meth c H1 locs1 ce sl Q (F0 m (pc + 3) ls rest)) : W p l e R s m args below meth c H locs ce sl Q (F0 m pc ls (.int v :: .ref a :: rest)) := by
  obtain ⟨ρ, hW, hL⟩ := hJ.1
  subst ha
  have hl := (hL.live hlk).trans hlv
  exact hx_pi C.1 C.2.1 hW k i f hk hf hl hfin hi hpl hn hfit hlink hdg (fun H1 n h1 h2 h3 => kk H1 _ (hJ.wr (hW.2.2.2 k i hl) ⟨_, h1, hL.put hv hpl v⟩ h2 h3))
theorem cj_pi (C : CC p s m args c cc nL own G) (hJ : CJ G s R ex f1 f2 m1 m2 D σ H locs ce sl) {index : Nat} (k i f : Nat) (ha : adr G.1 D k i = a) (hk : k < 7) (hf : f < oN k) (hfin : (oT k f).2.2.2 = false) (hi : oInt k f = true) (hpl : plain k f = true) (hlk : lvok m2 k = true) (hv : wok m1 m2 k i f = true) (hty : oTy k f = .int) {v : Int32}
    (hlink : (Cond.fieldLink own index (oT k f).1 (oT k f).2.1 (oT k f).2.2.1).before args s = true ∨ ∃ host, (Cond.fieldLinkNest own index (oT k f).1 (oT k f).2.1 (oT k f).2.2.1 host).before args s = true) (hx : cst σ k i f v = some σ') (hdg : decode cc pc = .ok (.putfield index, 3))
    (kk : ∀ (H1 : Heap) (locs1 : List Loc), CJ G s R ex f1 f2 m1 m2 D σ' H1 locs1 ce sl → W p l e R s m args below meth c H1 locs1 ce sl Q (F0 m (pc + 3) ls rest)) : W p l e R s m args below meth c H locs ce sl Q (F0 m pc ls (.int v :: .ref a :: rest)) := by
  obtain ⟨h1, h2⟩ := og hx
  exact cj_put C hJ k i f ha hk hf hfin hi hpl hlk hv (by rw [hty]; rfl) (by rw [hty]; rfl) hlink h1 hdg (fun H1 l1 hj => kk H1 l1 (by rw [← Option.some.inj h2]; exact hj))
theorem bz_fits {v : Int32} (h : bz v = v) : narrow .boolean (.int v) = .int v ∧ fits .boolean (.int v) = true := by
  have h1 : narrow .boolean (.int v) = .int v := by
    have : narrow .boolean (.int v) = .int (bz v) := rfl
    rw [this, h]
  refine ⟨h1, ?_⟩
  have h2 : v = 0 ∨ v = 1 := by
    have h3 : bz v = v &&& 1 := rfl
    obtain ⟨j, hj, e⟩ := pk_andE v (m := 1) 1 (by decide)
    rw [← h3, h] at e
    have h4 : j = 0 ∨ j = 1 := by omega
    rcases h4 with z | z
    · exact Or.inl (by rw [e, z]; decide)
    · exact Or.inr (by rw [e, z]; decide)
  rcases h2 with rfl | rfl <;> rfl
theorem cj_pz (C : CC p s m args c cc nL own G) (hJ : CJ G s R ex f1 f2 m1 m2 D σ H locs ce sl) {index : Nat} (k i f : Nat) (ha : adr G.1 D k i = a) (hk : k < 7) (hf : f < oN k) (hfin : (oT k f).2.2.2 = false) (hi : oInt k f = true) (hpl : plain k f = true) (hlk : lvok m2 k = true) (hv : wok m1 m2 k i f = true) (hty : oTy k f = .boolean) {v : Int32}
    (hlink : (Cond.fieldLink own index (oT k f).1 (oT k f).2.1 (oT k f).2.2.1).before args s = true ∨ ∃ host, (Cond.fieldLinkNest own index (oT k f).1 (oT k f).2.1 (oT k f).2.2.1 host).before args s = true) (hx : csz σ k i f v = some σ') (hdg : decode cc pc = .ok (.putfield index, 3))
    (kk : ∀ (H1 : Heap) (locs1 : List Loc), CJ G s R ex f1 f2 m1 m2 D σ' H1 locs1 ce sl → W p l e R s m args below meth c H1 locs1 ce sl Q (F0 m (pc + 3) ls rest)) : W p l e R s m args below meth c H locs ce sl Q (F0 m pc ls (.int v :: .ref a :: rest)) := by
  obtain ⟨h1, h2⟩ := og hx
  obtain ⟨n1, n2⟩ := bz_fits h1.2
  exact cj_put C hJ k i f ha hk hf hfin hi hpl hlk hv (by rw [hty]; exact n1) (by rw [hty]; exact n2) hlink h1.1 hdg (fun H1 l1 hj => kk H1 l1 (by rw [← Option.some.inj h2]; exact hj))
theorem cj_il (C : CC p s m args c cc nL own G) (hJ : CJ G s R ex f1 f2 m1 m2 D σ H locs ce sl) (k i : Nat) (ha : adr G.1 D k i = a) (hai : aInt k = true) (hlk : lvok m2 k = true) (hv : vis m1 m2 k i 0 = true) {x y : Int32} (hx : cld σ k i x = some y) (hdg : decode cc pc = .ok (.iaload, 1))
    (kk : W p l e R s m args below meth c H locs ce sl Q (F0 m (pc + 1) ls (.int y :: rest))) : W p l e R s m args below meth c H locs ce sl Q (F0 m pc ls (.int x :: .ref a :: rest)) := by
  obtain ⟨⟨h1, h2⟩, h3⟩ := og hx
  obtain ⟨ρ, hW, hL⟩ := hJ.1
  subst ha
  refine hx_il C.1 C.2.1 hW k i hai (by rw [hL.live hlk]; exact h1) (by rw [hL.len]; exact h2) hdg ?_
  have hv' : vis m1 m2 k i x.toNatClampNeg = true := by
    simp only [aInt, Bool.or_eq_true, beq_iff_eq] at hai
    rcases hai with (((((h | h) | h) | h) | h) | h) | h <;> subst h <;> exact hv
  rw [hL.at hv', Option.some.inj h3]
  exact kk
theorem cj_is (C : CC p s m args c cc nL own G) (hJ : CJ G s R ex f1 f2 m1 m2 D σ H locs ce sl) (k i : Nat) (ha : adr G.1 D k i = a) (hai : aInt k = true) (hlk : lvok m2 k = true) (hv : wok m1 m2 k i 0 = true) {x v : Int32} (hx : cas σ k i x v = some σ') (hdg : decode cc pc = .ok (.iastore, 1))
    (kk : ∀ (H1 : Heap) (locs1 : List Loc), CJ G s R ex f1 f2 m1 m2 D σ' H1 locs1 ce sl → W p l e R s m args below meth c H1 locs1 ce sl Q (F0 m (pc + 1) ls rest)) : W p l e R s m args below meth c H locs ce sl Q (F0 m pc ls (.int v :: .int x :: .ref a :: rest)) := by
  obtain ⟨⟨h1, h2⟩, h3⟩ := og hx
  obtain ⟨ρ, hW, hL⟩ := hJ.1
  subst ha
  have hl := (hL.live hlk).trans h1
  have hpl : plain k x.toNatClampNeg = true := by
    simp only [aInt, Bool.or_eq_true, beq_iff_eq] at hai
    rcases hai with (((((h | h) | h) | h) | h) | h) | h <;> subst h <;> rfl
  have hv' : wok m1 m2 k i x.toNatClampNeg = true := by
    simp only [aInt, Bool.or_eq_true, beq_iff_eq] at hai
    rcases hai with (((((h | h) | h) | h) | h) | h) | h <;> subst h <;> exact hv
  exact hx_is C.1 C.2.1 hW k i hai hl (by rw [hL.len]; exact h2) hdg (fun H1 n g1 g2 g3 => kk H1 _ (hJ.wr (hW.2.2.2 k i hl) (by rw [← Option.some.inj h3]; exact ⟨_, g1, hL.put hv' hpl v⟩) g2 g3))
theorem cj_al (C : CC p s m args c cc nL own G) (hJ : CJ G s R ex f1 f2 m1 m2 D σ H locs ce sl) (k i : Nat) (ha : adr G.1 D k i = a) (hai : aRf k = true) (hlk : lvok m2 k = true) {x : Int32} {y : Nat} (hx : cix σ k i x = some y) {v : Value} (hv : aV G.1 D σ k i y = v) (hdg : decode cc pc = .ok (.aaload, 1))
    (kk : W p l e R s m args below meth c H locs ce sl Q (F0 m (pc + 1) ls (v :: rest))) : W p l e R s m args below meth c H locs ce sl Q (F0 m pc ls (.int x :: .ref a :: rest)) := by
  obtain ⟨⟨h1, h2⟩, h3⟩ := og hx
  obtain ⟨ρ, hW, hL⟩ := hJ.1
  subst ha
  refine hx_al C.1 C.2.1 hW k i hai (by rw [hL.live hlk]; exact h1) (by rw [hL.len]; exact h2) hdg ?_
  have e1 : aV G.1 D ρ k i x.toNatClampNeg = v := by
    rw [← hv, ← Option.some.inj h3]
    simp only [aRf, Bool.or_eq_true, beq_iff_eq] at hai
    rcases hai with ((((h | h) | h) | h) | h) | h <;> subst h <;> rfl
  rw [e1]
  exact kk
end CJR
