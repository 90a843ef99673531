theorem hd_X0_peak : yX0_peak.cls = RX0 ∧ yX0_peak.cls ≠ "java/lang/invoke/MethodHandle" ∧ yX0_peak.cls ≠ "java/lang/invoke/VarHandle" ∧ (parseMethodDescriptor yX0_peak.desc).map (fun d => d.parameters.length) = some 4 := by decide +kernel
def f_X0_peak (p1 p2 : Int32) (i3 : Nat) (w : j_St) : Option (Int32 × j_St) := jch (f_X1_peak p1 p2 w) (fun _ w1 => some (1, w1)) fun v w1 => jbd 0 1 fun a => jlt (jsl w1 38 i3 a v.toInt64) fun w2 => some (0, w2)
abbrev rm_X0_peak : Room := { frames := 7, cells := 1, slots := 6, locals := 140 }
set_option maxRecDepth 100000 in
set_option maxHeartbeats 4000000 in
theorem mt_X0_peak {g : j_G} {B : j_B} {p1 p2 : Int32} {i3 : Nat} {w w' : j_St} (b0 : B.2.1 0 0 ∧ B.2.2 0 0) (b3 : B.2.1 38 i3 ∧ B.2.2 38 i3) {r : Int32} (h : f_X0_peak p1 p2 i3 w = some (r, w')) : j_MAW g yX0_peak cX0_peak 5 (some .int) [(0, 10, 13, 13)] rm_X0_peak B [.ref (B.1 0 0), .int p1, .int p2, .ref (B.1 38 i3)] w w' ((fun r _ => jri r) r) ((fun _ _ _ => True) r w') := by
  refine j_metAW (rv := (fun r _ => jri r)) (PB := (fun _ _ _ => True)) (by decide) (Nat.le_of_ble_eq_true rfl) (fun x hx htab => ?_) h
  unfold f_X0_peak
  refine J.sub (lv' := [(0, .ref (B.1 0 0)), (1, .int p1), (2, .int p2), (3, .ref (B.1 38 i3))]) [0, 1, 2, 3] rfl ?_
  refine J.aload_n hx dX0_peak_0 rfl 3 rfl ?_
  refine J.iconst (v := 0) hx dX0_peak_1 (by decide) ?_
  refine J.aload_n hx dX0_peak_2 rfl 0 rfl ?_
  refine J.iload_n hx dX0_peak_3 rfl 1 rfl ?_
  refine J.iload_n hx dX0_peak_4 rfl 2 rfl ?_
  refine J.callHN (z := ⟨0, 10, 13, 13⟩) (mc := 1) (ms := 6) hx (fun r z1 z => j_runVNX (κ := 0) (As := [.int p1, .int p2]) hx rfl rfl b0.1 (mt_X1_peak b0 z) (lw_V q1615 q1616 q1617 q120 q1618) hd_X1_peak rfl ⟨Nat.le_of_ble_eq_true rfl, Nat.le_of_ble_eq_true rfl⟩ (Nat.le_of_ble_eq_true rfl) dX0_peak_5) ⟨Nat.le_of_ble_eq_true rfl, Nat.le_of_ble_eq_true rfl⟩ (htab.trans rfl) (by decide) (by decide) q1614 (fun n w1 q e1 => ?_) fun v w1 e1 => ?_
  · refine J.astore (lv' := [(4, .ref q), (0, .ref (B.1 0 0)), (1, .int p1), (2, .int p2), (3, .ref (B.1 38 i3))]) hx dX0_peak_13 (by decide) rfl ?_
    refine J.iconst (v := 1) hx dX0_peak_15 (by decide) ?_
    exact J.iretA hx j_ext.rf trivial rfl (Nat.le_of_ble_eq_true rfl) (Nat.le_of_ble_eq_true rfl) dX0_peak_16
  · refine J.i2l hx dX0_peak_8 ?_
    refine J.last (κ := 38) hx rfl rfl rfl b3.1 dX0_peak_9 fun w2 => ?_
    refine J.goto (tgt := 17) hx dX0_peak_10 (by decide) ?_
    refine J.iconst (v := 0) hx dX0_peak_17 (by decide) ?_
    exact J.iretA hx j_ext.rf trivial rfl (Nat.le_of_ble_eq_true rfl) (Nat.le_of_ble_eq_true rfl) dX0_peak_18
