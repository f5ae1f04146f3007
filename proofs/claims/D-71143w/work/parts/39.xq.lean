/-! Readings, as rows -/
set_option maxRecDepth 100000
theorem arrV_ext {cI : ClassId} {N : Nat} {f g : Nat → Value} (h : ∀ j, j < N → f j = g j) : arrV cI N f = arrV cI N g := by
  unfold arrV
  congr 1
  exact congrArg Array.ofFn (funext fun j => h j.val j.isLt)
/-- what no cell holds may be chosen -/
theorem HWd.ext {K : CK} {D : Nat → Nat → Nat} {ρ ρ' : CM} {H : Heap} (hW : HWd K D ρ H) (hs : SameS ρ ρ') (ho : ∀ k i f, k < 7 → clive ρ k i = true → f < oN k → ρ' k i f = ρ k i f) (ha : ∀ k i j, 7 ≤ k → clive ρ k i = true → j < aLen ρ k i → ρ' k i j = ρ k i j) : HWd K D ρ' H := by
  refine ⟨fun k i hk hl => ?_, fun k i hk hl => ?_, fun k i k' i' h1 h2 => ?_, fun k i hl => ?_⟩
  · rw [hs.live] at hl
    refine (hW.1 k i hk hl).to (fun f hf => ?_)
    have e1 := ho k i f hk hl hf
    unfold oV
    split <;> first | rfl | (simp only [e1])
  · rw [hs.live] at hl
    rw [hW.2.1 k i hk hl]
    unfold aCell
    rw [hs.len, hs.cd]
    refine congrArg some (arrV_ext (fun j hj => ?_))
    have e1 := ha k i j hk hl hj
    unfold aV
    split <;> first | rfl | (simp only [hs.lsz]) | (simp only [e1])
  · rw [hs.live] at h1 h2
    exact hW.2.2.1 k i k' i' h1 h2
  · rw [hs.live] at hl
    exact hW.2.2.2 k i hl
theorem nn_of {x : Int32} (h0 : 0 ≤ x) : ¬ x < 0 := fun h => by
  have a := Int32.le_iff_toInt_le.mp h0
  have b := Int32.lt_iff_toInt_lt.mp h
  omega
theorem rdS_n {σ : CM} {x : Int32} (h : rdS σ = some x) : ∃ n, n ≤ 12 ∧ σ 1 0 1 = nI n ∧ (σ 1 0 1).toNatClampNeg = n ∧ x = σ 1 0 4 := by
  obtain ⟨⟨h1, h2⟩, h3⟩ := og h
  obtain ⟨n, hn, e⟩ := nI_of2 (n := 12) (M := 12) rfl (nn_of h1) h2
  exact ⟨n, hn, e, by rw [e]; exact (nI12 n (by omega)).1, (Option.some.inj h3).symm⟩
theorem rdR_n {σ : CM} {x : Int32} (h : rdR σ = some x) : ∃ n, n ≤ 31 ∧ σ 2 0 1 = nI n ∧ (σ 2 0 1).toNatClampNeg = n ∧ x = σ 2 0 4 := by
  obtain ⟨⟨h1, h2⟩, h3⟩ := og h
  obtain ⟨n, hn, e⟩ := nI_of2 (n := 31) (M := 31) rfl (nn_of h1) h2
  exact ⟨n, hn, e, by rw [e]; exact (nI31 n (by omega) n (by omega)).2.2.1, (Option.some.inj h3).symm⟩
/-- the real memory behind the stone's reading -/
def rS (σ ρ : CM) : CM := fun k i j => if tdS k j = true then σ k i j else if k = 1 ∧ i = 0 ∧ j = 3 then 1 else ρ k i j
theorem rS_fin {K : CK} {D : Nat → Nat → Nat} {ρ ρ1 σ : CM} {H1 : Heap} {m1 m2 : Bool} {v : Int32} (hW : HWd K D (cput (cput ρ1 1 0 4 v) 1 0 3 1) H1) (hag : agS ρ ρ1) (hL : Lz m1 m2 ρ σ) (h4 : σ 1 0 4 = v) (h6 : σ 1 0 6 = ρ1 1 0 6) (h9 : ∀ q, q < 12 → σ 9 0 q = ρ1 9 0 q) : HWd K D (rS σ ρ1) H1 ∧ Lz true m2 (rS σ ρ1) σ := by
  have hn : ∀ k i j, tdS k j = false → ¬ (k = 1 ∧ i = 0 ∧ j = 3) → rS σ ρ1 k i j = ρ1 k i j := fun k i j a b => by
    unfold rS; rw [if_neg (by rw [a]; decide), if_neg b]
  have ht : ∀ k i j, tdS k j = true → rS σ ρ1 k i j = σ k i j := fun k i j a => by unfold rS; rw [if_pos a]
  have h3 : rS σ ρ1 1 0 3 = 1 := rfl
  have hag2 : ∀ k i j, tdS k j = false → ¬ (k = 1 ∧ i = 0 ∧ (j = 2 ∨ j = 3)) → rS σ ρ1 k i j = ρ k i j := fun k i j a b => by
    rw [hn k i j a (fun z => b ⟨z.1, z.2.1, Or.inr z.2.2⟩)]
    refine hag k i j (fun z => ?_) (fun z => ?_)
    · rcases z.2.2 with w | w
      · exact b ⟨z.1, z.2.1, Or.inl w⟩
      · rw [z.1, w] at a; cases a
    · rw [z.1] at a; simp [tdS] at a
  refine ⟨hW.ext ⟨fun i => ?_, fun i => ?_, fun i => ?_, fun i => ?_⟩ (fun k i f hk hl hf => ?_) (fun k i j hk hl hj => ?_), ?_⟩
  · rw [hn 6 i 2 rfl (by omega), cput_ne (by omega), cput_ne (by omega)]
  · rw [hn 6 i 1 rfl (by omega), cput_ne (by omega), cput_ne (by omega)]
  · rw [hn 4 i 0 rfl (by omega), cput_ne (by omega), cput_ne (by omega)]
  · rw [hn 4 i 1 rfl (by omega), cput_ne (by omega), cput_ne (by omega)]
  · by_cases ha : tdS k f = true
    · have h1 : k = 1 ∧ (f = 4 ∨ f = 6) := by
        simp only [tdS, Bool.or_eq_true, Bool.and_eq_true, beq_iff_eq] at ha
        omega
      obtain ⟨rfl, h1⟩ := h1
      have hi : i = 0 := by simpa [clive] using hl
      subst hi
      rw [ht _ _ _ ha]
      rcases h1 with rfl | rfl
      · rw [cput_ne (by omega), cput_eq, h4]
      · rw [cput_ne (by omega), cput_ne (by omega), h6]
    · have ha : tdS k f = false := by simpa using ha
      by_cases h1 : k = 1 ∧ i = 0 ∧ f = 3
      · obtain ⟨rfl, rfl, rfl⟩ := h1
        rw [h3, cput_eq]
      · rw [hn k i f ha h1, cput_ne h1, cput_ne (fun z => by rw [z.1, z.2.2] at ha; cases ha)]
  · by_cases ha : tdS k j = true
    · have h1 : k = 9 := by
        simp only [tdS, Bool.or_eq_true, Bool.and_eq_true, beq_iff_eq] at ha
        omega
      subst h1
      have hi : i = 0 := by simpa [clive] using hl
      subst hi
      have hj : j < 12 := hj
      rw [ht _ _ _ ha, cput_ne (by omega), cput_ne (by omega), h9 j hj]
    · have ha : tdS k j = false := by simpa using ha
      rw [hn k i j ha (by omega), cput_ne (by omega), cput_ne (by omega)]
  · refine ⟨fun k i j a b c => ?_, Or.inl ⟨h3, fun k i j a => ht k i j a⟩, ?_, fun i hi => ?_⟩
    · rw [hag2 k i j b (fun z => by obtain ⟨rfl, -, z⟩ := z; rcases z with rfl | rfl <;> simp [junk] at a)]
      exact hL.1 k i j a b c
    · have e3 : rS σ ρ1 2 0 3 = ρ 2 0 3 := hag2 2 0 3 rfl (by omega)
      rw [e3]
      rcases hL.2.2.1 with ⟨a, b⟩ | a
      · refine Or.inl ⟨a, fun k i j c => ?_⟩
        have c' : k ≠ 1 ∧ k ≠ 9 := by
          simp only [tdR, Bool.or_eq_true, Bool.and_eq_true, beq_iff_eq] at c
          omega
        rw [hag2 k i j (by simp [tdS, c'.1, c'.2]) (fun z => c'.1 z.1)]
        exact b k i j c
      · exact Or.inr a
    · have e1 : ∀ f, rS σ ρ1 6 i f = ρ 6 i f := fun f => hag2 6 i f rfl (by omega)
      have := hL.2.2.2 i hi
      unfold lsz at this ⊢
      rw [e1, e1]
      exact this
/-- the real memory behind the roll's reading -/
def rR (σ ρ : CM) : CM := fun k i j => if tdR k i j = true ∨ (k = 6 ∧ 3 ≤ j) then σ k i j else if k = 2 ∧ i = 0 ∧ j = 3 then 1 else ρ k i j
theorem rR_fin {K : CK} {D : Nat → Nat → Nat} {ρ ρ1 σ : CM} {H1 : Heap} {m1 m2 : Bool} {v : Int32} {j0 : Nat} (hW : HWd K D (cput (cput ρ1 2 0 4 v) 2 0 3 1) H1) (hag : agR ρ ρ1) (hL : Lz m1 m2 ρ σ) (h4 : σ 2 0 4 = v) (hj0 : j0 ≤ 8) (hrl : rL ρ1 j0) (h6 : σ 6 3 2 = nI j0) (h5 : ∀ q f, q < j0 → f < 3 → σ 5 q f = ρ1 5 q f) : HWd K D (rR σ ρ1) H1 ∧ Lz m1 true (rR σ ρ1) σ := by
  have hn : ∀ k i j, tdR k i j = false → ¬ (k = 6 ∧ 3 ≤ j) → ¬ (k = 2 ∧ i = 0 ∧ j = 3) → rR σ ρ1 k i j = ρ1 k i j := fun k i j a a' b => by
    unfold rR; rw [if_neg (fun z => by exact z.elim (fun z => by rw [a] at z; cases z) a'), if_neg b]
  have ht : ∀ k i j, tdR k i j = true → rR σ ρ1 k i j = σ k i j := fun k i j a => by unfold rR; rw [if_pos (Or.inl a)]
  have h3 : rR σ ρ1 2 0 3 = 1 := rfl
  have hag2 : ∀ k i j, tdR k i j = false → ¬ (k = 6 ∧ 3 ≤ j) → ¬ (k = 2 ∧ i = 0 ∧ (j = 2 ∨ j = 3)) → ¬ (k = 6 ∧ i = 3) → rR σ ρ1 k i j = ρ k i j := fun k i j a a' b c => by
    rw [hn k i j a a' (fun z => b ⟨z.1, z.2.1, Or.inr z.2.2⟩)]
    refine hag k i j (fun z => b ⟨z.1, z.2.1, Or.inl z.2.2⟩) c (fun z => ?_)
    rw [z] at a; simp [tdR] at a
  have hs2 : ∀ i, rR σ ρ1 6 i 2 = cput (cput ρ1 2 0 4 v) 2 0 3 1 6 i 2 := fun i => by
    rw [cput_ne (by omega), cput_ne (by omega)]
    by_cases hi : i = 3
    · subst hi
      rw [ht 6 3 2 rfl, h6, hrl.1]
    · exact hn 6 i 2 (by simp [tdR, hi]) (by omega) (by omega)
  have hs1 : ∀ i, rR σ ρ1 6 i 1 = ρ1 6 i 1 := fun i => hn 6 i 1 (by simp [tdR]) (by omega) (by omega)
  have hlz3 : lsz ρ1 3 = j0 := by unfold lsz; rw [hrl.1]; exact (nI10 j0 (by omega)).1
  refine ⟨hW.ext ⟨hs2, fun i => ?_, fun i => ?_, fun i => ?_⟩ (fun k i f hk hl hf => ?_) (fun k i j hk hl hj => ?_), ?_⟩
  · rw [hs1, cput_ne (by omega), cput_ne (by omega)]
  · rw [hn 4 i 0 rfl (by omega) (by omega), cput_ne (by omega), cput_ne (by omega)]
  · rw [hn 4 i 1 rfl (by omega) (by omega), cput_ne (by omega), cput_ne (by omega)]
  · by_cases ha : tdR k i f = true
    · have h1 : (k = 2 ∧ f = 4) ∨ k = 5 ∨ (k = 6 ∧ i = 3 ∧ f = 2) := by
        simp only [tdR, Bool.or_eq_true, Bool.and_eq_true, beq_iff_eq] at ha
        omega
      rcases h1 with ⟨rfl, rfl⟩ | rfl | ⟨rfl, rfl, rfl⟩
      · have hi : i = 0 := by simpa [clive] using hl
        subst hi
        rw [ht _ _ _ ha, cput_ne (by omega), cput_eq, h4]
      · have hi : i < j0 := by
          have e1 : lsz (cput (cput ρ1 2 0 4 v) 2 0 3 1) 3 = j0 := by
            unfold lsz
            rw [cput_ne (by omega), cput_ne (by omega)]
            exact hlz3
          simp only [clive, decide_eq_true_eq] at hl
          rw [e1] at hl
          exact hl
        rw [ht _ _ _ ha, cput_ne (by omega), cput_ne (by omega)]
        exact h5 i f hi hf
      · exact hs2 3
    · have ha : tdR k i f = false := by simpa using ha
      by_cases h1 : k = 2 ∧ i = 0 ∧ f = 3
      · obtain ⟨rfl, rfl, rfl⟩ := h1
        rw [h3, cput_eq]
      · rw [hn k i f ha (fun z => by obtain ⟨rfl, z⟩ := z; have : oN 6 = 3 := rfl; omega) h1, cput_ne h1, cput_ne (fun z => by rw [z.1, z.2.2] at ha; simp [tdR] at ha)]
  · have ha : tdR k i j = false := by
      simp only [tdR, Bool.or_eq_false_iff, Bool.and_eq_false_iff, beq_eq_false_iff_ne]
      omega
    rw [hn k i j ha (by omega) (by omega), cput_ne (by omega), cput_ne (by omega)]
  · refine ⟨fun k i j a b c => ?_, ?_, Or.inl ⟨h3, fun k i j a => ht k i j a⟩, fun i hi => ?_⟩
    · by_cases h6 : k = 6 ∧ 3 ≤ j
      · unfold rR; rw [if_pos (Or.inr h6)]
      · rw [hag2 k i j c h6 (fun z => by obtain ⟨rfl, -, z⟩ := z; rcases z with rfl | rfl <;> simp [junk] at a) (fun z => by
          obtain ⟨rfl, rfl⟩ := z
          have hj : j = 0 ∨ j = 1 ∨ j = 2 := by omega
          rcases hj with rfl | rfl | rfl
          · cases a
          · cases a
          · cases c)]
        exact hL.1 k i j a b c
    · have e3 : rR σ ρ1 1 0 3 = ρ 1 0 3 := hag2 1 0 3 rfl (by omega) (by omega) (by omega)
      rw [e3]
      rcases hL.2.1 with ⟨a, b⟩ | a
      · refine Or.inl ⟨a, fun k i j c => ?_⟩
        have c' : k ≠ 2 ∧ k ≠ 5 ∧ k ≠ 6 := by
          simp only [tdS, Bool.or_eq_true, Bool.and_eq_true, beq_iff_eq] at c
          omega
        rw [hag2 k i j (by simp [tdR, c'.1, c'.2.1, c'.2.2]) (fun z => c'.2.2 z.1) (fun z => c'.1 z.1) (fun z => c'.2.2 z.1)]
        exact b k i j c
      · exact Or.inr a
    · by_cases h : i = 3
      · subst h
        have e2 : rR σ ρ1 6 3 2 = nI j0 := by rw [ht 6 3 2 rfl]; exact h6
        have e1 : lsz (rR σ ρ1) 3 = j0 := by unfold lsz; rw [e2]; exact (nI10 j0 (by omega)).1
        rw [e1, hs1, e2]
        exact ⟨hj0, fun z => hrl.2 (by omega), rfl⟩
      · have e1 : ∀ f, f = 1 ∨ f = 2 → rR σ ρ1 6 i f = ρ 6 i f := fun f hf => hag2 6 i f (by simp [tdR, h]) (by omega) (by omega) (fun z => h z.2)
        have := hL.2.2.2 i hi
        unfold lsz at this ⊢
        rw [e1 1 (Or.inl rfl), e1 2 (Or.inr rfl)]
        exact this
section RDR
variable {p : Program} {l : Launch} {e : Env} {R : Room} {s : State} {m : MethodId} {args : Array Value} {below : List Frame} {meth : Method} {c : Code} {H H0 H1 : Heap} {locs : List Loc} {ce sl : Nat} {Q : State → Prop}
variable {cc : ByteArray} {pc nL index ex : Nat} {ls : Array Slot} {rest : List Value} {G : CG} {K : CK} {D : Nat → Nat → Nat} {σ ρ : CM} {own C9 : String} {m1 m2 b1 b2 : Bool}
theorem cput_self {ρ : CM} {k i j : Nat} {v : Int32} (h : ρ k i j = v) : cput ρ k i j v = ρ := by
  funext a b d
  rw [cput_at]
  split
  · rename_i z
    obtain ⟨rfl, rfl, rfl⟩ := z
    exact h.symm
  · rfl
theorem rd_S (E : HE p s m args c cc nL own K) (hS : va_S (cP K) s.heap H locs) (hW : HWd K D ρ H) (hL : Lz m1 m2 ρ σ) (hlink : Cond.methodLink own index ⟨C9, "read", "()I"⟩ ∈ lw_all) (hsame : Cond.sameMethod C9 "WoodliceSenate$Text" "read" "()I" ∈ lw_all) (hsel : Cond.selects (oR 1) ⟨C9, "read", "()I"⟩ yX1_read ∈ lw_all) (hR : 16 ≤ R.frames ∧ 1024 ≤ R.locals) (hl : ls.size = nL) (hWd : (rest.map fun v => v.category).sum ≤ 8) {x : Int32} (hx : rdS σ = some x) (hc0 : ce ≤ R.cells ∧ sl ≤ R.slots) (hcost : m1 = false → ce + 32 ≤ R.cells ∧ sl + 224 ≤ R.slots) (hdg : decode cc pc = .ok (.invokevirtual index, 3))
    (kk : ∀ (ρ' : CM) (H1 : Heap) (L : List Loc) (ce1 sl1 : Nat), HWd K D ρ' H1 → Lz true m2 ρ' σ → va_S (cP K) s.heap H1 (locs ++ L) → ((ce1 = ce ∧ sl1 = sl) ∨ (m1 = false ∧ ce1 = ce + 32 ∧ sl1 = sl + 224)) → W p l e R s m args below meth c H1 (locs ++ L) ce1 sl1 Q (F0 m (pc + 3) ls (.int x :: rest))) : W p l e R s m args below meth c H locs ce sl Q (F0 m pc ls (.ref (cA K 1 0) :: rest)) := by
  obtain ⟨n, hn, hty, hcl, hxv⟩ := rdS_n hx
  have hts := E.1.2.2.2.2
  have hd : va_Decl s ⟨"WoodliceSenate$Text", "read", "()I"⟩ := va_Decl.of (hts _ q185) (hts _ q189)
  have ht1 : ρ 1 0 1 = nI n := by rw [hL.1 1 0 1 rfl rfl rfl]; exact hty
  rcases hL.2.1 with ⟨g1, g2⟩ | ⟨g0, g1, g2⟩
  · refine hx_H (x := ⟨C9, "read", "()I"⟩) (owner := "WoodliceSenate$Text") (C := oR 1) (As := []) (rest := rest) E hS (metH_read1 l K 1 H D ρ (Or.inl rfl) hW g1) hdH_pl.2.2.1 ⟨by omega, by omega⟩ (CodeK.of hts q189) hlink hsame hd hsel q185 hdH_I (hx_recv E.2.1 hW 1 0 rfl (by decide) rfl) hl rfl hWd ⟨hc0.1, hc0.2⟩ hdg (fun v H1 L hF hq hS1 => ?_) (fun a H1 L hF hq hS1 => by cases hq.1)
    obtain ⟨e0, hW1⟩ := hq
    cases e0
    rw [cput_self g1] at hW1
    rw [hxv, ← g2 1 0 4 rfl] at kk
    exact kk ρ H1 L _ _ hW1 ⟨hL.1, Or.inl ⟨g1, g2⟩, hL.2.2⟩ hS1 (Or.inl ⟨rfl, rfl⟩)
  · obtain ⟨c1, c2⟩ := hcost g0
    have hsD : ∀ j, sD ρ j = isDig (ubyte (σ 21 0 j)) := fun j => by unfold sD; rw [hL.1 21 0 j rfl rfl rfl]
    have hfd : (fun j => isDig (ubyte (σ 21 0 j))) = sD ρ := (funext hsD).symm
    unfold stoneOK at g2
    rw [hcl, hfd] at g2
    refine hx_H (x := ⟨C9, "read", "()I"⟩) (owner := "WoodliceSenate$Text") (C := oR 1) (As := []) (rest := rest) E hS (metH_read0 (txI_S l K D ρ n hn ht1) H D ρ hW ⟨rfl, fun _ _ _ _ _ => rfl⟩ g1) hdH_pl.2.2.1 ⟨by omega, by omega⟩ (CodeK.of hts q189) hlink hsame hd hsel q185 hdH_I (hx_recv E.2.1 hW 1 0 rfl (by decide) rfl) hl rfl hWd ⟨c1, c2⟩ hdg (fun v H1 L hF hq hS1 => ?_) (fun a H1 L hF hq hS1 => by rcases hq with ⟨D1, ρ1, e1, -⟩ | ⟨D1, ρ1, a1, e1, -⟩ <;> cases e1)
    rcases hq with ⟨D1, ρ1, e1, hW1, hY⟩ | ⟨D1, ρ1, a1, e1, hW1, hC, hFa⟩
    · cases e1
      obtain ⟨rfl, hag, -, -, h6, h9, hdg9⟩ := hY
      rw [if_pos (runLen_all hdg9)] at g2
      obtain ⟨w1, w2, w3⟩ := g2
      have hfin := rS_fin hW1 hag hL w1 (by rw [w2, h6]; exact hty) (fun q hq => by rw [w3 q hq, h9 q hq, hL.1 21 0 q rfl rfl rfl])
      rw [hxv, w1] at kk
      exact kk _ H1 L _ _ hfin.1 hfin.2 hS1 (Or.inr ⟨g0, rfl, rfl⟩)
    · cases e1
      obtain ⟨rfl, hag, h6, h9⟩ := hC
      rw [hFa.2, if_neg (by have := hFa.1; omega)] at g2
      obtain ⟨w1, w2, w3⟩ := g2
      have hfin := rS_fin hW1 hag hL w1 (by rw [w2, h6]) (fun q hq => by rw [w3 q hq, h9 q hq])
      rw [hxv, w1] at kk
      exact kk _ H1 L _ _ hfin.1 hfin.2 hS1 (Or.inr ⟨g0, rfl, rfl⟩)
theorem rd_R (E : HE p s m args c cc nL own K) (hS : va_S (cP K) s.heap H locs) (hW : HWd K D ρ H) (hL : Lz m1 m2 ρ σ) (hlink : Cond.methodLink own index ⟨C9, "read", "()I"⟩ ∈ lw_all) (hsame : Cond.sameMethod C9 "WoodliceSenate$Text" "read" "()I" ∈ lw_all) (hsel : Cond.selects (oR 2) ⟨C9, "read", "()I"⟩ yX1_read ∈ lw_all) (hR : 16 ≤ R.frames ∧ 1024 ≤ R.locals) (hl : ls.size = nL) (hWd : (rest.map fun v => v.category).sum ≤ 8) {x : Int32} (hx : rdR σ = some x) (hc0 : ce ≤ R.cells ∧ sl ≤ R.slots) (hcost : m2 = false → ce + 192 ≤ R.cells ∧ sl + 1312 ≤ R.slots) (hdg : decode cc pc = .ok (.invokevirtual index, 3))
    (kk : ∀ (D1 : Nat → Nat → Nat) (ρ' : CM) (H1 : Heap) (L : List Loc) (ce1 sl1 : Nat), (m2 = true → D1 = D) → HWd K D1 ρ' H1 → Lz m1 true ρ' σ → va_S (cP K) s.heap H1 (locs ++ L) → ((ce1 = ce ∧ sl1 = sl) ∨ (m2 = false ∧ ce1 = ce + 192 ∧ sl1 = sl + 1312)) → W p l e R s m args below meth c H1 (locs ++ L) ce1 sl1 Q (F0 m (pc + 3) ls (.int x :: rest))) : W p l e R s m args below meth c H locs ce sl Q (F0 m pc ls (.ref (cA K 2 0) :: rest)) := by
  obtain ⟨n, hn, hty, hcl, hxv⟩ := rdR_n hx
  have hts := E.1.2.2.2.2
  have hd : va_Decl s ⟨"WoodliceSenate$Text", "read", "()I"⟩ := va_Decl.of (hts _ q185) (hts _ q189)
  have ht1 : ρ 2 0 1 = nI n := by rw [hL.1 2 0 1 rfl rfl rfl]; exact hty
  rcases hL.2.2.1 with ⟨g1, g2⟩ | ⟨g0, g1, g2⟩
  · refine hx_H (x := ⟨C9, "read", "()I"⟩) (owner := "WoodliceSenate$Text") (C := oR 2) (As := []) (rest := rest) E hS (metH_read1 l K 2 H D ρ (Or.inr rfl) hW g1) hdH_pl.2.2.1 ⟨by omega, by omega⟩ (CodeK.of hts q189) hlink hsame hd hsel q185 hdH_I (hx_recv E.2.1 hW 2 0 rfl (by decide) rfl) hl rfl hWd ⟨hc0.1, hc0.2⟩ hdg (fun v H1 L hF hq hS1 => ?_) (fun a H1 L hF hq hS1 => by cases hq.1)
    obtain ⟨e0, hW1⟩ := hq
    cases e0
    rw [cput_self g1] at hW1
    rw [hxv, ← g2 2 0 4 rfl] at kk
    exact kk D ρ H1 L _ _ (fun _ => rfl) hW1 ⟨hL.1, hL.2.1, Or.inl ⟨g1, g2⟩, hL.2.2.2⟩ hS1 (Or.inl ⟨rfl, rfl⟩)
  · obtain ⟨c1, c2⟩ := hcost g0
    have hfd : rOk (fun j => ubyte (σ 22 0 j)) = rF ρ := by
      funext j
      unfold rF
      have : (fun q => ubyte (ρ 22 0 q)) = fun j => ubyte (σ 22 0 j) := funext fun q => by rw [hL.1 22 0 q rfl rfl rfl]
      rw [this]
    have hbb : ∀ q, σ 22 0 q = ρ 22 0 q := fun q => (hL.1 22 0 q rfl rfl rfl).symm
    unfold rollOK at g2
    rw [hcl, hfd] at g2
    have hlg := hL.2.2.2 3 (by decide)
    refine hx_H (x := ⟨C9, "read", "()I"⟩) (owner := "WoodliceSenate$Text") (C := oR 2) (As := []) (rest := rest) E hS (metH_read0 (txI_R l K D ρ n hn ht1) H D ρ hW ⟨fun _ _ _ _ => rfl, fun _ _ _ _ _ _ => rfl, lsz ρ 3, hlg.1, hlg.2.2, fun z => hlg.2.1 (by omega)⟩ g1) hdH_pl.2.2.1 ⟨by omega, by omega⟩ (CodeK.of hts q189) hlink hsame hd hsel q185 hdH_I (hx_recv E.2.1 hW 2 0 rfl (by decide) rfl) hl rfl hWd ⟨c1, c2⟩ hdg (fun v H1 L hF hq hS1 => ?_) (fun a H1 L hF hq hS1 => by rcases hq with ⟨D1, ρ1, e1, -⟩ | ⟨D1, ρ1, a1, e1, -⟩ <;> cases e1)
    rcases hq with ⟨D1, ρ1, e1, hW1, hY⟩ | ⟨D1, ρ1, a1, e1, hW1, hC, hFa⟩
    · cases e1
      obtain ⟨hagD, hag, -, -, j, hj8, hM, hcase, hq9⟩ := hY
      have hjn : (n + 1) / 4 = j ∧ (n = 0 ∨ n % 4 = 3) := by omega
      rw [if_pos ⟨runLen_all hq9, hjn.2⟩, hjn.1] at g2
      obtain ⟨w1, w2, w3⟩ := g2
      have hfin := rR_fin hW1 hag hL w1 hj8 hM.1 w2 (fun q f h1 h2 => by
        obtain ⟨a0, a1, a2⟩ := w3 q h1
        obtain ⟨b0, b1, b2⟩ := hM.2 q h1
        have hf : f = 0 ∨ f = 1 ∨ f = 2 := by omega
        rcases hf with rfl | rfl | rfl
        · rw [a0, b0, hbb]
        · rw [a1, b1, hbb]
        · rw [a2, b2, hbb])
      rw [hxv, w1] at kk
      exact kk D1 _ H1 L _ _ (fun z => by rw [g0] at z; cases z) hfin.1 hfin.2 hS1 (Or.inr ⟨g0, rfl, rfl⟩)
    · cases e1
      obtain ⟨hagD, hag, h6⟩ := hC
      obtain ⟨f1, f2, f3, f4⟩ := hFa
      rw [f3, if_neg (fun z => z.2.elim (fun w => by omega) (fun w => f4 ⟨z.1, w⟩))] at g2
      obtain ⟨w1, w2⟩ := g2
      have hfin := rR_fin (j0 := 0) hW1 hag hL w1 (by omega) ⟨h6, fun z => absurd z (by omega)⟩ w2 (fun q f h1 h2 => by omega)
      rw [hxv, w1] at kk
      exact kk D1 _ H1 L _ _ (fun z => by rw [g0] at z; cases z) hfin.1 hfin.2 hS1 (Or.inr ⟨g0, rfl, rfl⟩)
theorem CC.E (C0 : CC p s m args c cc nL own G) (hJ : CJ G s R ex b1 b2 m1 m2 D σ H locs ce sl) : HE p s m args c cc nL own G.1 := ⟨C0.1, C0.2.1, C0.2.2, hJ.2.2.1⟩
theorem cost_f (hJ : CJ G s R ex b1 b2 m1 m2 D σ H locs ce sl) : ce ≤ R.cells ∧ sl ≤ R.slots ∧ (b1 = true → m1 = false → ce + 32 + ex ≤ R.cells ∧ sl + 224 + 10 * ex ≤ R.slots) ∧ (b2 = true → m2 = false → ce + 192 + ex ≤ R.cells ∧ sl + 1312 + 10 * ex ≤ R.slots) := by
  obtain ⟨-, -, -, -, -, -, g4, g5⟩ := hJ
  refine ⟨by omega, by omega, fun h1 h2 => ?_, fun h1 h2 => ?_⟩
  · subst h1; subst h2
    have e1 : 32 ≤ cost true b2 false m2 := Nat.le_add_right 32 _
    have e2 : 224 ≤ cosl true b2 false m2 := Nat.le_add_right 224 _
    omega
  · subst h1; subst h2
    have e1 : 192 ≤ cost b1 true m1 false := Nat.le_add_left 192 _
    have e2 : 1312 ≤ cosl b1 true m1 false := Nat.le_add_left 1312 _
    omega
theorem cj_readS (C0 : CC p s m args c cc nL own G) (hJ : CJ G s R ex b1 b2 m1 m2 D σ H locs ce sl) (hc : b1 = true ∨ m1 = true) (hlink : Cond.methodLink own index ⟨"WoodliceSenate$Stone", "read", "()I"⟩ ∈ lw_all) (hR : 16 ≤ R.frames ∧ 1024 ≤ R.locals) (hl : ls.size = nL) (hW : (rest.map fun v => v.category).sum ≤ 8) {x : Int32} (hx : rdS σ = some x) (hdg : decode cc pc = .ok (.invokevirtual index, 3))
    (kk : ∀ (H1 : Heap) (locs1 : List Loc) (ce1 sl1 : Nat), CJ G s R ex b1 b2 true m2 D σ H1 locs1 ce1 sl1 → W p l e R s m args below meth c H1 locs1 ce1 sl1 Q (F0 m (pc + 3) ls (.int x :: rest))) : W p l e R s m args below meth c H locs ce sl Q (F0 m pc ls (.ref (gA G 1 0) :: rest)) := by
  obtain ⟨ρ, hW0, hL⟩ := hJ.1
  obtain ⟨k1, k2, k3, k4⟩ := cost_f hJ
  refine rd_S (C9 := "WoodliceSenate$Stone") (CC.E C0 hJ) hJ.2.1 hW0 hL hlink q510 q512 hR hl hW hx ⟨k1, k2⟩ (fun z => ?_) hdg (fun ρ' H1 L ce1 sl1 hW1 hL1 hS1 hcs => ?_)
  · have := k3 (hc.elim id (fun w => by rw [z] at w; cases w)) z
    omega
  · obtain ⟨-, -, hA, g1, g2, g3, g4, g5⟩ := hJ
    refine kk H1 _ ce1 sl1 ⟨⟨ρ', hW1, hL1⟩, hS1, hA, fun _ => rfl, g2, g3, ?_, ?_⟩
    · rcases hcs with ⟨h1, -⟩ | ⟨h0, h1, -⟩
      · have : cost b1 b2 true m2 ≤ cost b1 b2 m1 m2 := by
          cases b1 <;> cases m1 <;> simp [cost, qS]
        omega
      · subst h0
        have hb : b1 = true := hc.elim id (fun w => by cases w)
        subst hb
        have : cost true b2 false m2 = 32 + cost true b2 true m2 := by simp [cost, qS]
        omega
    · rcases hcs with ⟨-, h1⟩ | ⟨h0, -, h1⟩
      · have : cosl b1 b2 true m2 ≤ cosl b1 b2 m1 m2 := by
          cases b1 <;> cases m1 <;> simp [cosl, tS]
        omega
      · subst h0
        have hb : b1 = true := hc.elim id (fun w => by cases w)
        subst hb
        have : cosl true b2 false m2 = 224 + cosl true b2 true m2 := by simp [cosl, tS]
        omega
theorem cj_readR (C0 : CC p s m args c cc nL own G) (hJ : CJ G s R ex b1 b2 m1 m2 D σ H locs ce sl) (hc : b2 = true ∨ m2 = true) (hlink : Cond.methodLink own index ⟨"WoodliceSenate$Roll", "read", "()I"⟩ ∈ lw_all) (hR : 16 ≤ R.frames ∧ 1024 ≤ R.locals) (hl : ls.size = nL) (hW : (rest.map fun v => v.category).sum ≤ 8) {x : Int32} (hx : rdR σ = some x) (hdg : decode cc pc = .ok (.invokevirtual index, 3))
    (kk : ∀ (D1 : Nat → Nat → Nat) (H1 : Heap) (locs1 : List Loc) (ce1 sl1 : Nat), (m2 = true → D1 = D) → CJ G s R ex b1 b2 m1 true D1 σ H1 locs1 ce1 sl1 → W p l e R s m args below meth c H1 locs1 ce1 sl1 Q (F0 m (pc + 3) ls (.int x :: rest))) : W p l e R s m args below meth c H locs ce sl Q (F0 m pc ls (.ref (gA G 2 0) :: rest)) := by
  obtain ⟨ρ, hW0, hL⟩ := hJ.1
  obtain ⟨k1, k2, k3, k4⟩ := cost_f hJ
  refine rd_R (C9 := "WoodliceSenate$Roll") (CC.E C0 hJ) hJ.2.1 hW0 hL hlink q526 q527 hR hl hW hx ⟨k1, k2⟩ (fun z => ?_) hdg (fun D1 ρ' H1 L ce1 sl1 hD1 hW1 hL1 hS1 hcs => ?_)
  · have := k4 (hc.elim id (fun w => by rw [z] at w; cases w)) z
    omega
  · obtain ⟨-, -, hA, g1, g2, g3, g4, g5⟩ := hJ
    refine kk D1 H1 _ ce1 sl1 hD1 ⟨⟨ρ', hW1, hL1⟩, hS1, hA, g1, fun _ => rfl, fun z => (hD1 (g2 z)).trans (g3 z), ?_, ?_⟩
    · rcases hcs with ⟨h1, -⟩ | ⟨h0, h1, -⟩
      · have : cost b1 b2 m1 true ≤ cost b1 b2 m1 m2 := by
          cases b2 <;> cases m2 <;> simp [cost, qR]
        omega
      · subst h0
        have hb : b2 = true := hc.elim id (fun w => by cases w)
        subst hb
        have : cost b1 true m1 false = 192 + cost b1 true m1 true := by simp [cost, qR]; omega
        omega
    · rcases hcs with ⟨-, h1⟩ | ⟨h0, -, h1⟩
      · have : cosl b1 b2 m1 true ≤ cosl b1 b2 m1 m2 := by
          cases b2 <;> cases m2 <;> simp [cosl, tR]
        omega
      · subst h0
        have hb : b2 = true := hc.elim id (fun w => by cases w)
        subst hb
        have : cosl b1 true m1 false = 1312 + cosl b1 true m1 true := by simp [cosl, tR]; omega
        omega
theorem cj_readRt (C0 : CC p s m args c cc nL own G) (hJ : CJ G s R ex b1 b2 m1 true D σ H locs ce sl) (hc : b2 = true ∨ true = true) (hlink : Cond.methodLink own index ⟨"WoodliceSenate$Roll", "read", "()I"⟩ ∈ lw_all) (hR : 16 ≤ R.frames ∧ 1024 ≤ R.locals) (hl : ls.size = nL) (hW : (rest.map fun v => v.category).sum ≤ 8) {x : Int32} (hx : rdR σ = some x) (hdg : decode cc pc = .ok (.invokevirtual index, 3))
    (kk : ∀ (H1 : Heap) (locs1 : List Loc) (ce1 sl1 : Nat), CJ G s R ex b1 b2 m1 true D σ H1 locs1 ce1 sl1 → W p l e R s m args below meth c H1 locs1 ce1 sl1 Q (F0 m (pc + 3) ls (.int x :: rest))) : W p l e R s m args below meth c H locs ce sl Q (F0 m pc ls (.ref (gA G 2 0) :: rest)) :=
  cj_readR C0 hJ hc hlink hR hl hW hx hdg (fun D1 H1 l1 c1 s1 hD hj => kk H1 l1 c1 s1 (by rw [hD rfl] at hj; exact hj))
theorem cj_tread (C0 : CC p s m args c cc nL own G) (hJ : CJ G s R ex b1 b2 m1 m2 D σ H locs ce sl) (hc1 : b1 = true ∨ m1 = true) (hc2 : b2 = true ∨ m2 = true) (hlink : Cond.methodLink own index ⟨"WoodliceSenate$Text", "read", "()I"⟩ ∈ lw_all) (hR : 16 ≤ R.frames ∧ 1024 ≤ R.locals) (hl : ls.size = nL) (hW : (rest.map fun v => v.category).sum ≤ 8) {t x : Int32} (hx : rdT σ t = some x) (hdg : decode cc pc = .ok (.invokevirtual index, 3))
    (kk : ∀ (D1 : Nat → Nat → Nat) (H1 : Heap) (locs1 : List Loc) (ce1 sl1 : Nat), CJ G s R ex false false m1 m2 D1 σ H1 locs1 ce1 sl1 → W p l e R s m args below meth c H1 locs1 ce1 sl1 Q (F0 m (pc + 3) ls (.int x :: rest))) : W p l e R s m args below meth c H locs ce sl Q (F0 m pc ls (.ref (gA G (txK t) 0) :: rest)) := by
  obtain ⟨ρ, hW0, hL⟩ := hJ.1
  obtain ⟨k1, k2, k3, k4⟩ := cost_f hJ
  have hJ0 := hJ
  obtain ⟨-, -, hA, g1, g2, g3, g4, g5⟩ := hJ0
  by_cases ht : t = 0
  · have e1 : txK t = 1 := by unfold txK; rw [if_pos ht]
    have e2 : rdS σ = some x := by unfold rdT at hx; rw [if_pos ht] at hx; exact hx
    rw [e1]
    refine rd_S (C9 := "WoodliceSenate$Text") (CC.E C0 hJ) hJ.2.1 hW0 hL hlink q186 q188 hR hl hW e2 ⟨k1, k2⟩ (fun z => ?_) hdg (fun ρ' H1 L ce1 sl1 hW1 hL1 hS1 hcs => ?_)
    · have := k3 (hc1.elim id (fun w => by rw [z] at w; cases w)) z
      omega
    · refine kk D H1 _ ce1 sl1 ⟨⟨ρ', hW1, hL1.weak (fun _ => rfl) id⟩, hS1, hA, g1, g2, g3, ?_, ?_⟩
      · show ce1 + (0 + ex) ≤ _
        rcases hcs with ⟨h1, -⟩ | ⟨h0, h1, -⟩
        · omega
        · have := k3 (hc1.elim id (fun w => by rw [h0] at w; cases w)) h0
          omega
      · show sl1 + (0 + 10 * ex) ≤ _
        rcases hcs with ⟨-, h1⟩ | ⟨h0, -, h1⟩
        · omega
        · have := k3 (hc1.elim id (fun w => by rw [h0] at w; cases w)) h0
          omega
  · have e1 : txK t = 2 := by unfold txK; rw [if_neg ht]
    have e2 : rdR σ = some x := by unfold rdT at hx; rw [if_neg ht] at hx; exact hx
    rw [e1]
    refine rd_R (C9 := "WoodliceSenate$Text") (CC.E C0 hJ) hJ.2.1 hW0 hL hlink q186 q187 hR hl hW e2 ⟨k1, k2⟩ (fun z => ?_) hdg (fun D1 ρ' H1 L ce1 sl1 hD1 hW1 hL1 hS1 hcs => ?_)
    · have := k4 (hc2.elim id (fun w => by rw [z] at w; cases w)) z
      omega
    · refine kk D1 H1 _ ce1 sl1 ⟨⟨ρ', hW1, hL1.weak id (fun _ => rfl)⟩, hS1, hA, g1, g2, fun z => (hD1 (g2 z)).trans (g3 z), ?_, ?_⟩
      · show ce1 + (0 + ex) ≤ _
        rcases hcs with ⟨h1, -⟩ | ⟨h0, h1, -⟩
        · omega
        · have := k4 (hc2.elim id (fun w => by rw [h0] at w; cases w)) h0
          omega
      · show sl1 + (0 + 10 * ex) ≤ _
        rcases hcs with ⟨-, h1⟩ | ⟨h0, -, h1⟩
        · omega
        · have := k4 (hc2.elim id (fun w => by rw [h0] at w; cases w)) h0
          omega
theorem cj_treadF (C0 : CC p s m args c cc nL own G) (hJ : CJ G s R ex b1 b2 true true D σ H locs ce sl) (hlink : Cond.methodLink own index ⟨"WoodliceSenate$Text", "read", "()I"⟩ ∈ lw_all) (hR : 16 ≤ R.frames ∧ 1024 ≤ R.locals) (hl : ls.size = nL) (hW : (rest.map fun v => v.category).sum ≤ 8) {t x : Int32} (hx : rdT σ t = some x) (hdg : decode cc pc = .ok (.invokevirtual index, 3))
    (kk : ∀ (H1 : Heap) (locs1 : List Loc) (ce1 sl1 : Nat), CJ G s R ex b1 b2 true true D σ H1 locs1 ce1 sl1 → W p l e R s m args below meth c H1 locs1 ce1 sl1 Q (F0 m (pc + 3) ls (.int x :: rest))) : W p l e R s m args below meth c H locs ce sl Q (F0 m pc ls (.ref (gA G (txK t) 0) :: rest)) := by
  obtain ⟨ρ, hW0, hL⟩ := hJ.1
  obtain ⟨k1, k2, k3, k4⟩ := cost_f hJ
  have hJ0 := hJ
  obtain ⟨-, -, hA, g1, g2, g3, g4, g5⟩ := hJ0
  by_cases ht : t = 0
  · have e1 : txK t = 1 := by unfold txK; rw [if_pos ht]
    have e2 : rdS σ = some x := by unfold rdT at hx; rw [if_pos ht] at hx; exact hx
    rw [e1]
    refine rd_S (C9 := "WoodliceSenate$Text") (CC.E C0 hJ) hJ.2.1 hW0 hL hlink q186 q188 hR hl hW e2 ⟨k1, k2⟩ (fun z => by cases z) hdg (fun ρ' H1 L ce1 sl1 hW1 hL1 hS1 hcs => ?_)
    rcases hcs with ⟨rfl, rfl⟩ | ⟨h0, -⟩
    · exact kk H1 _ _ _ ⟨⟨ρ', hW1, hL1⟩, hS1, hA, g1, g2, g3, g4, g5⟩
    · cases h0
  · have e1 : txK t = 2 := by unfold txK; rw [if_neg ht]
    have e2 : rdR σ = some x := by unfold rdT at hx; rw [if_neg ht] at hx; exact hx
    rw [e1]
    refine rd_R (C9 := "WoodliceSenate$Text") (CC.E C0 hJ) hJ.2.1 hW0 hL hlink q186 q187 hR hl hW e2 ⟨k1, k2⟩ (fun z => by cases z) hdg (fun D1 ρ' H1 L ce1 sl1 hD1 hW1 hL1 hS1 hcs => ?_)
    rcases hcs with ⟨rfl, rfl⟩ | ⟨h0, -⟩
    · have hD := hD1 rfl
      subst hD
      exact kk H1 _ _ _ ⟨⟨ρ', hW1, hL1⟩, hS1, hA, g1, g2, g3, g4, g5⟩
    · cases h0
end RDR
