/-! MORE LEAVES BY HAND: the two texts by number, SORT, the greatest common divisor (statements; some proofs still owed) -/
set_option maxRecDepth 100000
def rdT (σ : CM) (t : Int32) : Option Int32 := if t = 0 then rdS σ else rdR σ
def txL (σ : CM) (t : Int32) : Int32 := if t = 0 then σ 1 0 1 else σ 2 0 1
def txK (t : Int32) : Nat := if t = 0 then 1 else 2
def sok (x : Int32) : Option Unit := if inb x 3 = true then some () else none
theorem sok_lt {x : Int32} {u : Unit} (h : sok x = some u) : x.toNatClampNeg < 3 := inb_lt (og h).1
theorem sok_in {x : Int32} {u : Unit} (h : sok x = some u) : inb x 3 = true := (og h).1
/-- Euclid, at most n steps -/
def dvs : Nat → Int64 → Int64 → Option Int64
  | 0, _, _ => none
  | n + 1, a, b => if lg_cmp b 0 = 0 then some a else (lrm a b).bind fun r => dvs n b r
/-- an inherited method: what such a call asks -/
theorem lw_U {own : String} {idx : Nat} {C owner : String} {x y : MethodName} {b : ByteArray} {L : Nat} {r : Option FieldType} (h1 : Cond.methodLink own idx x ∈ lw_all) (h2 : Cond.sameMethod x.cls owner x.name x.desc ∈ lw_all) (h3 : Cond.selects C x y ∈ lw_all) (h4 : Cond.instanceMethod y ∈ lw_all) (h5 : Cond.initialized y.cls ∈ lw_all) (h6 : Cond.code y b L r ∈ lw_all) : GoodIn lw_all (va_wsU own idx C owner x y (ws_ y b L r)) := by
  refine lw_app ?_ (lw_meth h6)
  intro w hw
  simp only [List.mem_cons, List.not_mem_nil, or_false] at hw
  rcases hw with e | e | e | e | e
  · rw [e]; exact h1
  · rw [e]; exact h2
  · rw [e]; exact h3
  · rw [e]; exact h4
  · rw [e]; exact h5
section CCU
variable {p : Program} {l : Launch} {e : Env} {R : Room} {s : State} {m : MethodId} {args : Array Value} {below : List Frame} {meth : Method} {c : Code} {H H0 H1 : Heap} {locs : List Loc} {ce sl : Nat} {Q : State → Prop}
variable {cc bytes : ByteArray} {pc nL maxL index n d a ex ec ey : Nat} {ls : Array Slot} {rest st As : List Value} {G : CG} {D : Nat → Nat → Nat} {σ σ' : CM} {own C owner : String} {m1 m2 f1 f2 x1 x2 b1 b2 c1 c2 r1 r2 : Bool} {x y : MethodName} {rt : Option FieldType} {rv : Option Value} {ws : List Cond}
theorem cc_U {b : Nat} {As' : CG → List Value} {rw' : CG → Option Value} (C0 : CC p s m args c cc nL own G) (hJ : CJ G s R ex b1 b2 m1 m2 D σ H locs ce sl) (hM : MetC l y ws d ec f1 f2 x1 x2 r1 r2 As' σ rw' σ') (hAs : As' (G.1, m1, m2, D) = .ref b :: As) (hrv : rw' (G.1, m1, m2, D) = rv) (hex : ec + ey ≤ ex) (hcr : cost f1 f2 m1 m2 + cost c1 c2 (bor x1 m1) (bor x2 m2) ≤ cost b1 b2 m1 m2 ∧ cosl f1 f2 m1 m2 + cosl c1 c2 (bor x1 m1) (bor x2 m2) ≤ cosl b1 b2 m1 m2) (hr1 : r1 = true → m1 = true) (hr2 : r2 = true → m2 = true)
    (hrecv : ∃ cellB : Cell, H[b]? = some cellB ∧ cellB.vm.isStatics = false ∧ s.vm.findClass C = some cellB.cls)
    (cw : va_CU R s args own C owner index x y bytes maxL rt ws (rmc d (cost f1 f2 m1 m2 + ec) (cosl f1 f2 m1 m2 + 10 * ec)) (cost f1 f2 m1 m2 + ec) (cosl f1 f2 m1 m2 + 10 * ec) n) (hn : As.length = n) (hl : ls.size = nL) (hst : st = As.reverse ++ .ref b :: rest) (hW : 2 * (F0 m pc ls st).monitorRoom + (rest.map fun v => v.category).sum ≤ 8) (hdg : decode cc pc = .ok (.invokevirtual index, 3))
    (kk : ∀ (D' : Nat → Nat → Nat) (H1 : Heap) (locs1 : List Loc), (m2 = true → D' = D) → CJ G s R ey c1 c2 (bor x1 m1) (bor x2 m2) D' σ' H1 locs1 (ce + (cost f1 f2 m1 m2 + ec)) (sl + (cosl f1 f2 m1 m2 + 10 * ec)) → W p l e R s m args below meth c H1 locs1 (ce + (cost f1 f2 m1 m2 + ec)) (sl + (cosl f1 f2 m1 m2 + 10 * ec)) Q (F0 m (pc + 3) ls (rv.toList ++ rest))) : W p l e R s m args below meth c H locs ce sl Q (F0 m pc ls st) := by
  subst hrv
  have hM' := hM (G.1, m1, m2, D) hr1 hr2
  rw [hAs] at hM'
  exact cc_go (args' := (Value.ref b :: As).toArray) hex hcr hJ (va_runU (As := As) (rest := rest) C0.1 hM' cw ⟨CU.blind, hrecv, fun U hU hW => ⟨rfl, hJ.U C0 U hU hW⟩⟩ rfl hn hl hst hW hdg (hJ.fits hex hcr)) kk
end CCU
theorem metC_text (l : Launch) (σ : CM) (t : Int32) : MetC l yX0_text (ws_ yX0_text cX0_text 2 (some (.object "WoodliceSenate$Text"))) 1 0 false false false false false false (fun G => [.ref (cA G.1 0 0), .int t]) σ (fun G => some (.ref (cA G.1 (txK t) 0))) σ := by
  refine met_wC (own := RX0) (by decide +kernel) rfl (by simp [cRt]) (fun _ => Nat.le_of_ble_eq_true rfl) (fun G p e s m args below meth c Q hr1 hr2 C hE ls hl hJ => ?_)
  have hx := C.1.1
  have hb := C.1.2.1
  have hts := C.1.2.2.2.2
  have hl : lv_has ls 2 [(0, .ref (gA G 0 0)), (1, .int t)] := hl
  refine lv_iload_n hx hb dX0_text_0 rfl (lv_at hl 1 rfl) ?_
  refine lv_if_ne (tgt := 11) hx hb dX0_text_1 (by decide) (fun hc => ?_) (fun hc => ?_)
  · refine lv_aload_n hx hb dX0_text_11 rfl (lv_at hl 0 rfl) ?_
    refine cj_gr (v := .ref (gA G 2 0)) C hJ 0 0 2 (ad_s rfl) (by decide) (by decide) rfl rfl (Or.inl (hts _ q752)) (fun _ _ => rfl) dX0_text_12 ?_
    have e1 : txK t = 2 := by simp [txK, hc]
    exact hE _ _ _ _ _ _ _ _ _ _ _ _ (some (.ref (gA G 2 0))) hJ (fun h => by cases h) (fun h => by cases h) (Or.inr ⟨_, rfl⟩) (by rw [e1]; rfl) dX0_text_15
  · refine lv_aload_n hx hb dX0_text_4 rfl (lv_at hl 0 rfl) ?_
    refine cj_gr (v := .ref (gA G 1 0)) C hJ 0 0 1 (ad_s rfl) (by decide) (by decide) rfl rfl (Or.inl (hts _ q751)) (fun _ _ => rfl) dX0_text_5 ?_
    refine lv_goto (tgt := 15) hx hb dX0_text_8 (by decide) ?_
    have e1 : txK t = 1 := by simp [txK, hc]
    exact hE _ _ _ _ _ _ _ _ _ _ _ _ (some (.ref (gA G 1 0))) hJ (fun h => by cases h) (fun h => by cases h) (Or.inr ⟨_, rfl⟩) (by rw [e1]; rfl) dX0_text_15
theorem hdC_text : yX0_text.cls = RX0 ∧ yX0_text.cls ≠ "java/lang/invoke/MethodHandle" ∧ yX0_text.cls ≠ "java/lang/invoke/VarHandle" ∧ (parseMethodDescriptor yX0_text.desc).map (fun d => d.parameters.length) = some 1 := by decide +kernel
theorem metC_len (l : Launch) (σ : CM) (k : Nat) (hk : k = 1 ∨ k = 2) : MetC l yX1_length (ws_ yX1_length cX1_length 1 (some .int)) 1 0 false false false false false false (fun G => [.ref (cA G.1 k 0)]) σ (fun _ => some (.int (σ k 0 1))) σ := by
  refine met_wC (own := RX1) (by decide +kernel) rfl (by simp [cRt]) (fun _ => Nat.le_of_ble_eq_true rfl) (fun G p e s m args below meth c Q hr1 hr2 C hE ls hl hJ => ?_)
  have hx := C.1.1
  have hb := C.1.2.1
  have hts := C.1.2.2.2.2
  have hl : lv_has ls 1 [(0, .ref (gA G k 0))] := hl
  refine lv_aload_n hx hb dX1_length_0 rfl (lv_at hl 0 rfl) ?_
  rcases hk with rfl | rfl
  · refine cj_g0 C hJ 1 0 1 (ad_s rfl) (by decide) (by decide) rfl rfl rfl rfl (Or.inl (hts _ q639)) dX1_length_1 ?_
    exact hE _ _ _ _ _ _ _ _ _ _ _ _ (some (.int (σ 1 0 1))) hJ (fun h => by cases h) (fun h => by cases h) ⟨_, rfl⟩ rfl dX1_length_4
  · refine cj_g0 C hJ 2 0 1 (ad_s rfl) (by decide) (by decide) rfl rfl rfl rfl (Or.inl (hts _ q639)) dX1_length_1 ?_
    exact hE _ _ _ _ _ _ _ _ _ _ _ _ (some (.int (σ 2 0 1))) hJ (fun h => by cases h) (fun h => by cases h) ⟨_, rfl⟩ rfl dX1_length_4
section CL2
variable {p : Program} {l : Launch} {e : Env} {R : Room} {s : State} {m : MethodId} {args : Array Value} {below : List Frame} {meth : Method} {c : Code} {H H0 H1 : Heap} {locs : List Loc} {ce sl : Nat} {Q : State → Prop}
variable {cc bytes : ByteArray} {pc nL maxL index n d a ex : Nat} {ls : Array Slot} {rest st As : List Value} {G : CG} {D : Nat → Nat → Nat} {σ σ' : CM} {own C : String} {m1 m2 f1 f2 x1 x2 b1 b2 c1 c2 r1 r2 : Bool} {y : MethodName} {rt : Option FieldType} {rv : Option Value} {ws : List Cond}
theorem cj_text (C0 : CC p s m args c cc nL own G) (hJ : CJ G s R ex b1 b2 m1 m2 D σ H locs ce sl) (hlink : Cond.methodLink own index ⟨"WoodliceSenate", "text", "(I)LWoodliceSenate$Text;"⟩ ∈ lw_all) (hR : 2 ≤ R.frames ∧ 128 ≤ R.locals) (hl : ls.size = nL) (hW : (rest.map fun v => v.category).sum ≤ 8) {t : Int32} (hdg : decode cc pc = .ok (.invokevirtual index, 3))
    (kk : ∀ (D1 : Nat → Nat → Nat) (H1 : Heap) (locs1 : List Loc), (m2 = true → D1 = D) → CJ G s R ex b1 b2 m1 m2 D1 σ H1 locs1 ce sl → W p l e R s m args below meth c H1 locs1 ce sl Q (F0 m (pc + 3) ls (.ref (gA G (txK t) 0) :: rest))) : W p l e R s m args below meth c H locs ce sl Q (F0 m pc ls (.int t :: .ref (gA G 0 0) :: rest)) :=
  cc_V (As := [.int t]) (rest := rest) (f1 := false) (f2 := false) (x1 := false) (x2 := false) (c1 := b1) (c2 := b2) (ec := 0) (ey := ex) (d := 1) C0 hJ (metC_text l σ t) rfl rfl (by omega) (cost_ok false false b1 b2 m1 m2 (fun h => by cases h) (fun h => by cases h)) (fun h => by cases h) (fun h => by cases h) (cj_recv C0 hJ 0 0 (ad_s rfl) (by decide) rfl rfl) (cwV 1 C0.1.2.2.2.2 (lw_V hlink q151 qs0 q109 q153) rfl rfl rfl hdC_text ⟨hR.1, by show 8 + (2 + 11) + 64 * 1 ≤ R.locals; omega⟩) rfl hl rfl (lv_room hW) hdg (fun D1 H1 l1 hD hj => kk D1 H1 l1 hD hj)
theorem cj_textT (C0 : CC p s m args c cc nL own G) (hJ : CJ G s R ex b1 b2 m1 true D σ H locs ce sl) (hlink : Cond.methodLink own index ⟨"WoodliceSenate", "text", "(I)LWoodliceSenate$Text;"⟩ ∈ lw_all) (hR : 2 ≤ R.frames ∧ 128 ≤ R.locals) (hl : ls.size = nL) (hW : (rest.map fun v => v.category).sum ≤ 8) {t : Int32} (hdg : decode cc pc = .ok (.invokevirtual index, 3))
    (kk : ∀ (H1 : Heap) (locs1 : List Loc), CJ G s R ex b1 b2 m1 true D σ H1 locs1 ce sl → W p l e R s m args below meth c H1 locs1 ce sl Q (F0 m (pc + 3) ls (.ref (gA G (txK t) 0) :: rest))) : W p l e R s m args below meth c H locs ce sl Q (F0 m pc ls (.int t :: .ref (gA G 0 0) :: rest)) :=
  cj_text C0 hJ hlink hR hl hW hdg (fun D1 H1 l1 hD hj => kk H1 l1 (by rw [hD rfl] at hj; exact hj))
theorem cj_tlen (C0 : CC p s m args c cc nL own G) (hJ : CJ G s R ex b1 b2 m1 m2 D σ H locs ce sl) (hlink : Cond.methodLink own index ⟨"WoodliceSenate$Text", "length", "()I"⟩ ∈ lw_all) (hR : 2 ≤ R.frames ∧ 128 ≤ R.locals) (hl : ls.size = nL) (hW : (rest.map fun v => v.category).sum ≤ 8) {t : Int32} (hdg : decode cc pc = .ok (.invokevirtual index, 3))
    (kk : ∀ (D1 : Nat → Nat → Nat) (H1 : Heap) (locs1 : List Loc), (m2 = true → D1 = D) → CJ G s R ex b1 b2 m1 m2 D1 σ H1 locs1 ce sl → W p l e R s m args below meth c H1 locs1 ce sl Q (F0 m (pc + 3) ls (.int (txL σ t) :: rest))) : W p l e R s m args below meth c H locs ce sl Q (F0 m pc ls (.ref (gA G (txK t) 0) :: rest)) := by
  by_cases ht : t = 0
  · have e1 : txK t = 1 := by simp [txK, ht]
    have e2 : txL σ t = σ 1 0 1 := by simp [txL, ht]
    rw [e1]
    refine cc_U (As := []) (rest := rest) (f1 := false) (f2 := false) (x1 := false) (x2 := false) (c1 := b1) (c2 := b2) (ec := 0) (ey := ex) (d := 1) C0 hJ (metC_len l σ 1 (Or.inl rfl)) rfl rfl (by omega) (cost_ok false false b1 b2 m1 m2 (fun h => by cases h) (fun h => by cases h)) (fun h => by cases h) (fun h => by cases h) (cj_recv C0 hJ 1 0 (ad_s rfl) (by decide) rfl rfl) (va_cwU 0 C0.1.2.2.2.2 (lw_U hlink q1193 q1195 q1192 q110 q1196) rfl rfl rfl rfl (by decide +kernel) ⟨hR.1, by show 8 + (1 + 11) + 64 * 1 ≤ R.locals; omega⟩) rfl hl rfl (lv_room hW) hdg (fun D1 H1 l1 hD hj => ?_)
    have h9 := kk D1 H1 l1 hD hj
    rw [e2] at h9
    exact h9
  · have e1 : txK t = 2 := by simp [txK, ht]
    have e2 : txL σ t = σ 2 0 1 := by simp [txL, ht]
    rw [e1]
    refine cc_U (As := []) (rest := rest) (f1 := false) (f2 := false) (x1 := false) (x2 := false) (c1 := b1) (c2 := b2) (ec := 0) (ey := ex) (d := 1) C0 hJ (metC_len l σ 2 (Or.inr rfl)) rfl rfl (by omega) (cost_ok false false b1 b2 m1 m2 (fun h => by cases h) (fun h => by cases h)) (fun h => by cases h) (fun h => by cases h) (cj_recv C0 hJ 2 0 (ad_s rfl) (by decide) rfl rfl) (va_cwU 0 C0.1.2.2.2.2 (lw_U hlink q1193 q1194 q1192 q110 q1196) rfl rfl rfl rfl (by decide +kernel) ⟨hR.1, by show 8 + (1 + 11) + 64 * 1 ≤ R.locals; omega⟩) rfl hl rfl (lv_room hW) hdg (fun D1 H1 l1 hD hj => ?_)
    have h9 := kk D1 H1 l1 hD hj
    rw [e2] at h9
    exact h9
theorem cj_tlenT (C0 : CC p s m args c cc nL own G) (hJ : CJ G s R ex b1 b2 m1 true D σ H locs ce sl) (hlink : Cond.methodLink own index ⟨"WoodliceSenate$Text", "length", "()I"⟩ ∈ lw_all) (hR : 2 ≤ R.frames ∧ 128 ≤ R.locals) (hl : ls.size = nL) (hW : (rest.map fun v => v.category).sum ≤ 8) {t : Int32} (hdg : decode cc pc = .ok (.invokevirtual index, 3))
    (kk : ∀ (H1 : Heap) (locs1 : List Loc), CJ G s R ex b1 b2 m1 true D σ H1 locs1 ce sl → W p l e R s m args below meth c H1 locs1 ce sl Q (F0 m (pc + 3) ls (.int (txL σ t) :: rest))) : W p l e R s m args below meth c H locs ce sl Q (F0 m pc ls (.ref (gA G (txK t) 0) :: rest)) :=
  cj_tlen C0 hJ hlink hR hl hW hdg (fun D1 H1 l1 hD hj => kk H1 l1 (by rw [hD rfl] at hj; exact hj))
theorem cj_gS (C0 : CC p s m args c cc nL own G) (hJ : CJ G s R ex b1 b2 m1 m2 D σ H locs ce sl) (hlink : Cond.fieldLink own index "WoodliceSenate" "SORT" "[LWoodliceSenate$Sort;" ∈ lw_all) (hdg : decode cc pc = .ok (.getstatic index, 3))
    (kk : W p l e R s m args below meth c H locs ce sl Q (F0 m (pc + 3) ls (.ref (cSa G.1) :: rest))) : W p l e R s m args below meth c H locs ce sl Q (F0 m pc ls rest) :=
  va_gets C0.1.1 C0.1.2.1 C0.2.2.2.1 hJ.2.1 C0.1.2.2.2.1 (C0.1.2.2.2.2 _ hlink) (fun _ h => h) hdg kk
theorem cj_aS (C0 : CC p s m args c cc nL own G) (hJ : CJ G s R ex b1 b2 m1 m2 D σ H locs ce sl) {x : Int32} {u : Unit} (hx : sok x = some u) (hdg : decode cc pc = .ok (.aaload, 1))
    (kk : W p l e R s m args below meth c H locs ce sl Q (F0 m (pc + 1) ls (.ref (cSo G.1 x.toNatClampNeg) :: rest))) : W p l e R s m args below meth c H locs ce sl Q (F0 m pc ls (.int x :: .ref (cSa G.1) :: rest)) := by
  have hT := C0.2.2.2.2.1
  obtain ⟨cell, q1, q2, q3, q4, q5, q6, q7⟩ := hT.kept hJ.2.1.2.1
  have h3 := sok_lt hx
  exact W.aald (v := .ref (cSo G.1 x.toNatClampNeg)) (ty := .object "WoodliceSenate$Sort") C0.1.1 C0.1.2.1 q1 q2 rfl q3 (fun z => by
    rcases z with z | z
    · exact inb_vp (sok_in hx) (Or.inl z)
    · omega) (q6 _ h3) rfl rfl hdg kk
end CL2
def C_divisor (σ : CM) (v0 v2 : Int64) : Option Int64 := dvs 100 v0 v2
theorem hdC_divisor : yX0_divisor.cls ≠ "java/lang/invoke/MethodHandle" ∧ yX0_divisor.cls ≠ "java/lang/invoke/VarHandle" ∧ (parseMethodDescriptor yX0_divisor.desc).map (fun d => d.parameters.length) = some 2 := by decide +kernel
set_option maxHeartbeats 4000000 in
theorem met_dvs (l : Launch) (σ : CM) : ∀ (n : Nat) (v0 v2 res : Int64), dvs n v0 v2 = some res → MetC l yX0_divisor (ws_ yX0_divisor cX0_divisor 4 (some .long)) n 0 false false false false false false (fun _ => [.long v0, .long v2]) σ (fun _ => some (.long res)) σ := by
  intro n
  induction n with
  | zero => intro v0 v2 res h; cases h
  | succ n ih =>
    intro v0 v2 res h
    refine met_wC (own := RX0) (by decide +kernel) rfl (by simp [cRt]) (fun _ => Nat.le_of_ble_eq_true rfl) (fun G p e s m args below meth c Q hr1 hr2 C hE ls hl hJ => ?_)
    have hx := C.1.1
    have hb := C.1.2.1
    have hts := C.1.2.2.2.2
    have hl : lv_has ls 4 [(0, .long v0), (2, .long v2)] := hl
    refine lv_lload_n hx hb dX0_divisor_0 rfl (lv_at hl 1 rfl) ?_
    refine lv_lconst (v := (0 : Int64)) hx hb dX0_divisor_1 rfl ?_
    refine W.lcmp hx hb dX0_divisor_2 ?_
    refine lv_if_ne (tgt := 10) hx hb dX0_divisor_3 (by decide) (fun hc => ?_) (fun hc => ?_)
    · have h := im (show (if lg_cmp v2 0 = 0 then some v0 else (lrm v0 v2).bind fun r => dvs n v2 r) = some res from h) hc
      obtain ⟨x1, hx1, h⟩ := ob h
      refine lv_lload_n hx hb dX0_divisor_10 rfl (lv_at hl 1 rfl) ?_
      refine lv_lload_n hx hb dX0_divisor_11 rfl (lv_at hl 0 rfl) ?_
      refine lv_lload_n hx hb dX0_divisor_12 rfl (lv_at hl 1 rfl) ?_
      refine my_lrem hx hb hx1 dX0_divisor_13 ?_
      refine cc_S (As := [.long v2, .long x1]) (rest := []) C hJ (ih v2 x1 res h) rfl rfl (show 0 + 0 ≤ 0 from Nat.le_refl _) (cost_ok false false false false _ _ (fun h => by cases h) (fun h => by cases h)) (fun h => by cases h) (fun h => by cases h) (va_cwS 2 hts (lw_S q1062 q1063 q109 q1064) rfl rfl rfl hdC_divisor ⟨Nat.le_refl _, by show 8 + (4 + 11) + 64 * n ≤ 64 * (n + 1); omega⟩) rfl hl.1 rfl (lv_room (Nat.le_of_ble_eq_true rfl)) dX0_divisor_14 (fun D H locs _ hJ => ?_)
      exact hE _ _ _ _ _ _ _ _ _ _ _ _ (some (.long res)) hJ (fun h => by cases h) (fun h => by cases h) ⟨_, rfl⟩ rfl dX0_divisor_17
    · have h := ip (show (if lg_cmp v2 0 = 0 then some v0 else (lrm v0 v2).bind fun r => dvs n v2 r) = some res from h) hc
      refine lv_lload_n hx hb dX0_divisor_6 rfl (lv_at hl 0 rfl) ?_
      refine lv_goto (tgt := 17) hx hb dX0_divisor_7 (by decide) ?_
      have h := Option.some.inj h
      subst h
      exact hE _ _ _ _ _ _ _ _ _ _ _ _ (some (.long v0)) hJ (fun h => by cases h) (fun h => by cases h) ⟨_, rfl⟩ rfl dX0_divisor_17
theorem metC_divisor (l : Launch) (σ : CM) (v0 v2 res : Int64) (h : C_divisor σ v0 v2 = some res) : MetC l yX0_divisor (ws_ yX0_divisor cX0_divisor 4 (some .long)) 100 0 false false false false false false (fun _ => [.long v0, .long v2]) σ (fun _ => some (.long res)) σ := met_dvs l σ 100 v0 v2 res h
