/-! CALLS WHERE THE ROLL IS FRESH: the dynamic cells stay where they are -/
set_option maxRecDepth 100000
theorem bor_t (f : Bool) : bor f true = true := by cases f <;> rfl
theorem evq {m1 m2 : Bool} {K : CK} {D : Nat → Nat → Nat} {ρ σ : CM} (hL : Lz m1 m2 ρ σ) : oV K D ρ 0 0 3 = .ref (cA K 6 (evl (σ 0 0 3))) := by
  show Value.ref (cA K 6 (evl (ρ 0 0 3))) = _
  rw [hL.1 0 0 3 rfl rfl rfl]
def irm (x y : Int32) : Option Int32 := if ¬ y = 0 then some (x - x / y * y) else none
section CMO
variable {p : Program} {l : Launch} {e : Env} {R : Room} {s : State} {m : MethodId} {args : Array Value} {below : List Frame} {meth : Method} {c : Code} {H H0 H1 : Heap} {locs : List Loc} {ce sl : Nat} {Q : State → Prop}
variable {cc bytes : ByteArray} {pc nL maxL index n d a ex ec ey : Nat} {ls : Array Slot} {rest st As : List Value} {G : CG} {D : Nat → Nat → Nat} {σ σ' : CM} {own C : String} {m1 f1 f2 x1 x2 b1 b2 c1 c2 r1 r2 : Bool} {y : MethodName} {rt : Option FieldType} {rv : Option Value} {ws : List Cond} {hh : List (Nat × Nat × Nat × Nat)}
theorem my_irem {cells slots : Nat} (hx : p.tables.exec = Jvm.exec) (hb : c.code = cc) {x y z : Int32} (hz : irm x y = some z) (hdg : decode cc pc = .ok (.irem, 1))
    (kk : W p l e R s m args below meth c H locs cells slots Q (F0 m (pc + 1) ls (.int z :: rest))) : W p l e R s m args below meth c H locs cells slots Q (F0 m pc ls (.int y :: .int x :: rest)) := by
  obtain ⟨h1, h2⟩ := og hz
  refine lv_irem hx hb hdg h1 ?_
  rw [Option.some.inj h2]
  exact kk
theorem cc_Vt {b : Nat} {As' : CG → List Value} {rw' : CG → Option Value} (C0 : CC p s m args c cc nL own G) (hJ : CJ G s R ex b1 b2 m1 true D σ H locs ce sl) (hM : MetC l y ws d ec f1 f2 x1 x2 r1 r2 As' σ rw' σ') (hAs : As' (G.1, m1, true, D) = .ref b :: As) (hrv : rw' (G.1, m1, true, D) = rv) (hex : ec + ey ≤ ex) (hcr : cost f1 f2 m1 true + cost c1 c2 (bor x1 m1) (bor x2 true) ≤ cost b1 b2 m1 true ∧ cosl f1 f2 m1 true + cosl c1 c2 (bor x1 m1) (bor x2 true) ≤ cosl b1 b2 m1 true) (hr1 : r1 = true → m1 = true) (hr2 : r2 = true → true = true)
    (hrecv : ∃ cellB : Cell, H[b]? = some cellB ∧ cellB.vm.isStatics = false ∧ s.vm.findClass C = some cellB.cls)
    (cw : CallW R s args own C index y bytes maxL rt ws (rmc d (cost f1 f2 m1 true + ec) (cosl f1 f2 m1 true + 10 * ec)) (cost f1 f2 m1 true + ec) (cosl f1 f2 m1 true + 10 * ec) n) (hn : As.length = n) (hl : ls.size = nL) (hst : st = As.reverse ++ .ref b :: rest) (hW : 2 * (F0 m pc ls st).monitorRoom + (rest.map fun v => v.category).sum ≤ 8) (hdg : decode cc pc = .ok (.invokevirtual index, 3))
    (kk : ∀ (H1 : Heap) (locs1 : List Loc), CJ G s R ey c1 c2 (bor x1 m1) true D σ' H1 locs1 (ce + (cost f1 f2 m1 true + ec)) (sl + (cosl f1 f2 m1 true + 10 * ec)) → W p l e R s m args below meth c H1 locs1 (ce + (cost f1 f2 m1 true + ec)) (sl + (cosl f1 f2 m1 true + 10 * ec)) Q (F0 m (pc + 3) ls (rv.toList ++ rest))) : W p l e R s m args below meth c H locs ce sl Q (F0 m pc ls st) :=
  cc_V C0 hJ hM hAs hrv hex hcr hr1 hr2 hrecv cw hn hl hst hW hdg (fun D' H1 l1 hD hj => kk H1 l1 (by rw [hD rfl, bor_t] at hj; exact hj))
theorem cc_St {As' : CG → List Value} {rw' : CG → Option Value} (C0 : CC p s m args c cc nL own G) (hJ : CJ G s R ex b1 b2 m1 true D σ H locs ce sl) (hM : MetC l y ws d ec f1 f2 x1 x2 r1 r2 As' σ rw' σ') (hAs : As' (G.1, m1, true, D) = As) (hrv : rw' (G.1, m1, true, D) = rv) (hex : ec + ey ≤ ex) (hcr : cost f1 f2 m1 true + cost c1 c2 (bor x1 m1) (bor x2 true) ≤ cost b1 b2 m1 true ∧ cosl f1 f2 m1 true + cosl c1 c2 (bor x1 m1) (bor x2 true) ≤ cosl b1 b2 m1 true) (hr1 : r1 = true → m1 = true) (hr2 : r2 = true → true = true)
    (cw : CallB R s args own index y bytes maxL rt ws (rmc d (cost f1 f2 m1 true + ec) (cosl f1 f2 m1 true + 10 * ec)) (cost f1 f2 m1 true + ec) (cosl f1 f2 m1 true + 10 * ec) n ∧ (Cond.static y).before args s = true) (hn : As.length = n) (hl : ls.size = nL) (hst : st = As.reverse ++ rest) (hW : 2 * (F0 m pc ls st).monitorRoom + (rest.map fun v => v.category).sum ≤ 8) (hdg : decode cc pc = .ok (.invokestatic index, 3))
    (kk : ∀ (H1 : Heap) (locs1 : List Loc), CJ G s R ey c1 c2 (bor x1 m1) true D σ' H1 locs1 (ce + (cost f1 f2 m1 true + ec)) (sl + (cosl f1 f2 m1 true + 10 * ec)) → W p l e R s m args below meth c H1 locs1 (ce + (cost f1 f2 m1 true + ec)) (sl + (cosl f1 f2 m1 true + 10 * ec)) Q (F0 m (pc + 3) ls (rv.toList ++ rest))) : W p l e R s m args below meth c H locs ce sl Q (F0 m pc ls st) :=
  cc_S C0 hJ hM hAs hrv hex hcr hr1 hr2 cw hn hl hst hW hdg (fun D' H1 l1 hD hj => kk H1 l1 (by rw [hD rfl, bor_t] at hj; exact hj))
theorem cc_VWt {b : Nat} {As' : CG → List Value} {rw' : CG → Option Value} {ws' : List Cond} (C0 : CC p s m args c cc nL own G) (hJ : CJ G s R ex b1 b2 m1 true D σ H locs ce sl) (hM : MetC l y ws d ec f1 f2 x1 x2 r1 r2 As' σ rw' σ') (hAs : As' (G.1, m1, true, D) = .ref b :: As) (hrv : rw' (G.1, m1, true, D) = rv)
    (hex : ec + ey ≤ ex) (hcr : cost f1 f2 m1 true + cost c1 c2 (bor x1 m1) (bor x2 true) ≤ cost b1 b2 m1 true ∧ cosl f1 f2 m1 true + cosl c1 c2 (bor x1 m1) (bor x2 true) ≤ cosl b1 b2 m1 true) (hr1 : r1 = true → m1 = true) (hr2 : r2 = true → true = true)
    (hrecv : ∃ cellB : Cell, H[b]? = some cellB ∧ cellB.vm.isStatics = false ∧ s.vm.findClass C = some cellB.cls)
    (hG : GoodIn lw_all (wsV own index C y ws)) (hw : ws = Cond.codeWith y bytes maxL rt hh :: ws') (hd : y.cls = C ∧ y.cls ≠ "java/lang/invoke/MethodHandle" ∧ y.cls ≠ "java/lang/invoke/VarHandle" ∧ (parseMethodDescriptor y.desc).map (fun d => d.parameters.length) = some n) (hR : d + 1 ≤ R.frames ∧ 8 + (maxL + 11) + 64 * d ≤ R.locals)
    (hn : As.length = n) (hl : ls.size = nL) (hst : st = As.reverse ++ .ref b :: rest) (hW : 2 * (F0 m pc ls st).monitorRoom + (rest.map fun v => v.category).sum ≤ 8) (hdg : decode cc pc = .ok (.invokevirtual index, 3))
    (kk : ∀ (H1 : Heap) (locs1 : List Loc), CJ G s R ey c1 c2 (bor x1 m1) true D σ' H1 locs1 (ce + (cost f1 f2 m1 true + ec)) (sl + (cosl f1 f2 m1 true + 10 * ec)) → W p l e R s m args below meth c H1 locs1 (ce + (cost f1 f2 m1 true + ec)) (sl + (cosl f1 f2 m1 true + 10 * ec)) Q (F0 m (pc + 3) ls (rv.toList ++ rest))) : W p l e R s m args below meth c H locs ce sl Q (F0 m pc ls st) :=
  cc_VW C0 hJ hM hAs hrv hex hcr hr1 hr2 hrecv hG hw hd hR hn hl hst hW hdg (fun D' H1 l1 hD hj => kk H1 l1 (by rw [hD rfl, bor_t] at hj; exact hj))
end CMO
