theorem hd_X8_starts : yX8_starts.cls = RX8 ∧ yX8_starts.cls ≠ "java/lang/invoke/MethodHandle" ∧ yX8_starts.cls ≠ "java/lang/invoke/VarHandle" ∧ (parseMethodDescriptor yX8_starts.desc).map (fun d => d.parameters.length) = some 1 := by decide +kernel
def f_X8_starts (i0 : Nat) (i1 : Nat) (w : j_St) : Option (Unit × j_St) := jcb (f_X7_becomes (2 * i0 + 1) (2 * i1 + 2) w) fun _ w4 => jlt (jgi w4 6 i1 4) fun v6 => jlt (jsi w4 5 i0 2 v6) fun w7 => jlt (jsi w7 5 i0 3 0) fun w8 => some ((), w8)
abbrev rm_X8_starts : Room := { frames := 2, cells := 0, slots := 0, locals := 81 }
set_option maxRecDepth 100000 in
set_option maxHeartbeats 4000000 in
theorem mt_X8_starts {g : j_G} {B : j_B} {i0 : Nat} {i1 : Nat} {w w' : j_St} (a0 : B.2.1 5 i0 ∧ B.2.2 5 i0) (b1 : B.2.1 6 i1 ∧ B.2.2 6 i1) {r : Unit} (h : f_X8_starts i0 i1 w = some (r, w')) : j_M g yX8_starts cX8_starts 2 none rm_X8_starts B [.ref (B.1 5 i0), .ref (B.1 6 i1)] w w' (jrv r) := by
  refine j_met (rv := jrv) (by decide) (Nat.le_of_ble_eq_true rfl) (fun x hx => ?_) h
  unfold f_X8_starts
  refine J.sub (lv' := [(0, .ref (B.1 5 i0)), (1, .ref (B.1 6 i1))]) [0, 1] rfl ?_
  refine J.aload_n hx dX8_starts_0 rfl 0 rfl ?_
  refine J.getc (κ' := 4) (i' := (2 * i0 + 1)) (κ := 5) (k := 0) hx rfl rfl rfl rfl rfl in_X8 (by decide) (Or.inl q338) a0.2 dX8_starts_1 fun h1 => ?_
  refine J.aload_n hx dX8_starts_4 rfl 1 rfl ?_
  refine J.getc (κ' := 4) (i' := (2 * i1 + 2)) (κ := 6) (k := 0) hx rfl rfl rfl rfl rfl in_X11 (by decide) (Or.inr ⟨_, j_nl q472 rfl⟩) b1.2 dX8_starts_5 fun h2 => ?_
  refine J.callv hx (fun r z1 z => j_callV (κ := 4) hx rfl rfl h1.1 (mt_X7_becomes h1 h2 z) (lw_V q954 q955 q956 q127 q957) hd_X7_becomes rfl ⟨Nat.le_of_ble_eq_true rfl, Nat.le_of_ble_eq_true rfl⟩ (Nat.le_of_ble_eq_true rfl) dX8_starts_8) ⟨⟨rfl, rfl⟩, (Nat.le_of_ble_eq_true rfl), (Nat.le_of_ble_eq_true rfl)⟩ fun _ w4 e5 => ?_
  refine J.aload_n hx dX8_starts_11 rfl 0 rfl ?_
  refine J.aload_n hx dX8_starts_12 rfl 1 rfl ?_
  refine J.geti (κ := 6) (k := 4) hx rfl rfl rfl in_X11 (by decide) (Or.inr ⟨_, j_nl q485 rfl⟩) b1.1 dX8_starts_13 fun v6 => ?_
  refine J.puti (κ := 5) (k := 2) hx rfl rfl rfl in_X8 tyX8_ok nmX8 (by decide) (Or.inl q342) rfl rfl a0.1 ⟨rfl, rfl⟩ dX8_starts_16 fun w7 => ?_
  refine J.aload_n hx dX8_starts_19 rfl 0 rfl ?_
  refine J.iconst (v := 0) hx dX8_starts_20 (by decide) ?_
  refine J.puti (κ := 5) (k := 3) hx rfl rfl rfl in_X8 tyX8_ok nmX8 (by decide) (Or.inl q344) rfl rfl a0.1 ⟨rfl, rfl⟩ dX8_starts_21 fun w8 => ?_
  exact J.vret hx rfl (Nat.le_of_ble_eq_true rfl) (Nat.le_of_ble_eq_true rfl) dX8_starts_24
theorem hd_X8_sees : yX8_sees.cls = RX8 ∧ yX8_sees.cls ≠ "java/lang/invoke/MethodHandle" ∧ yX8_sees.cls ≠ "java/lang/invoke/VarHandle" ∧ (parseMethodDescriptor yX8_sees.desc).map (fun d => d.parameters.length) = some 1 := by decide +kernel
def f_X8_sees (i0 : Nat) (i1 : Nat) (w : j_St) : Option (Unit × j_St) := jcb (f_X7_becomes (2 * i0 + 1) (2 * i1 + 1) w) fun _ w4 => jlt (jgi w4 5 i1 2) fun v6 => jlt (jsi w4 5 i0 2 v6) fun w7 => some ((), w7)
abbrev rm_X8_sees : Room := { frames := 2, cells := 0, slots := 0, locals := 81 }
set_option maxRecDepth 100000 in
set_option maxHeartbeats 4000000 in
theorem mt_X8_sees {g : j_G} {B : j_B} {i0 : Nat} {i1 : Nat} {w w' : j_St} (a0 : B.2.1 5 i0 ∧ B.2.2 5 i0) (b1 : B.2.1 5 i1 ∧ B.2.2 5 i1) {r : Unit} (h : f_X8_sees i0 i1 w = some (r, w')) : j_M g yX8_sees cX8_sees 2 none rm_X8_sees B [.ref (B.1 5 i0), .ref (B.1 5 i1)] w w' (jrv r) := by
  refine j_met (rv := jrv) (by decide) (Nat.le_of_ble_eq_true rfl) (fun x hx => ?_) h
  unfold f_X8_sees
  refine J.sub (lv' := [(0, .ref (B.1 5 i0)), (1, .ref (B.1 5 i1))]) [0, 1] rfl ?_
  refine J.aload_n hx dX8_sees_0 rfl 0 rfl ?_
  refine J.getc (κ' := 4) (i' := (2 * i0 + 1)) (κ := 5) (k := 0) hx rfl rfl rfl rfl rfl in_X8 (by decide) (Or.inl q338) a0.2 dX8_sees_1 fun h1 => ?_
  refine J.aload_n hx dX8_sees_4 rfl 1 rfl ?_
  refine J.getc (κ' := 4) (i' := (2 * i1 + 1)) (κ := 5) (k := 0) hx rfl rfl rfl rfl rfl in_X8 (by decide) (Or.inl q338) b1.2 dX8_sees_5 fun h2 => ?_
  refine J.callv hx (fun r z1 z => j_callV (κ := 4) hx rfl rfl h1.1 (mt_X7_becomes h1 h2 z) (lw_V q954 q955 q956 q127 q957) hd_X7_becomes rfl ⟨Nat.le_of_ble_eq_true rfl, Nat.le_of_ble_eq_true rfl⟩ (Nat.le_of_ble_eq_true rfl) dX8_sees_8) ⟨⟨rfl, rfl⟩, (Nat.le_of_ble_eq_true rfl), (Nat.le_of_ble_eq_true rfl)⟩ fun _ w4 e5 => ?_
  refine J.aload_n hx dX8_sees_11 rfl 0 rfl ?_
  refine J.aload_n hx dX8_sees_12 rfl 1 rfl ?_
  refine J.geti (κ := 5) (k := 2) hx rfl rfl rfl in_X8 (by decide) (Or.inl q342) b1.1 dX8_sees_13 fun v6 => ?_
  refine J.puti (κ := 5) (k := 2) hx rfl rfl rfl in_X8 tyX8_ok nmX8 (by decide) (Or.inl q342) rfl rfl a0.1 ⟨rfl, rfl⟩ dX8_sees_16 fun w7 => ?_
  exact J.vret hx rfl (Nat.le_of_ble_eq_true rfl) (Nat.le_of_ble_eq_true rfl) dX8_sees_19
theorem hd_X8_becomes : yX8_becomes.cls = RX8 ∧ yX8_becomes.cls ≠ "java/lang/invoke/MethodHandle" ∧ yX8_becomes.cls ≠ "java/lang/invoke/VarHandle" ∧ (parseMethodDescriptor yX8_becomes.desc).map (fun d => d.parameters.length) = some 1 := by decide +kernel
def f_X8_becomes (i0 : Nat) (i1 : Nat) (w : j_St) : Option (Unit × j_St) := jcb (f_X8_sees i0 i1 w) fun _ w2 => jlt (jgi w2 5 i1 3) fun v6 => if 0 ≤ (0 : Int32).toInt ∧ 0 ≤ (0 : Int32).toInt ∧ 0 ≤ (3 * v6).toInt ∧ (0 : Int32).toInt + (3 * v6).toInt ≤ (180 : Int) ∧ (0 : Int32).toInt + (3 * v6).toInt ≤ (180 : Int) then jlt (jcp w2 33 i1 (0 : Int32).toInt.toNat 33 i0 (0 : Int32).toInt.toNat (3 * v6).toInt.toNat) fun w7 => jlt (jgi w7 5 i1 3) fun v8 => jlt (jsi w7 5 i0 3 v8) fun w9 => some ((), w9) else none
abbrev rm_X8_becomes : Room := { frames := 3, cells := 0, slots := 0, locals := 102 }
set_option maxRecDepth 100000 in
set_option maxHeartbeats 4000000 in
theorem mt_X8_becomes {g : j_G} {B : j_B} {i0 : Nat} {i1 : Nat} {w w' : j_St} (a0 : B.2.1 5 i0 ∧ B.2.2 5 i0) (b1 : B.2.1 5 i1 ∧ B.2.2 5 i1) {r : Unit} (h : f_X8_becomes i0 i1 w = some (r, w')) : j_M g yX8_becomes cX8_becomes 2 none rm_X8_becomes B [.ref (B.1 5 i0), .ref (B.1 5 i1)] w w' (jrv r) := by
  refine j_met (rv := jrv) (by decide) (Nat.le_of_ble_eq_true rfl) (fun x hx => ?_) h
  unfold f_X8_becomes
  refine J.sub (lv' := [(0, .ref (B.1 5 i0)), (1, .ref (B.1 5 i1))]) [0, 1] rfl ?_
  refine J.aload_n hx dX8_becomes_0 rfl 0 rfl ?_
  refine J.aload_n hx dX8_becomes_1 rfl 1 rfl ?_
  refine J.callv hx (fun r z1 z => j_callV (κ := 5) hx rfl rfl a0.1 (mt_X8_sees a0 b1 z) (lw_V q975 q976 q977 q128 q978) hd_X8_sees rfl ⟨Nat.le_of_ble_eq_true rfl, Nat.le_of_ble_eq_true rfl⟩ (Nat.le_of_ble_eq_true rfl) dX8_becomes_2) ⟨⟨rfl, rfl⟩, (Nat.le_of_ble_eq_true rfl), (Nat.le_of_ble_eq_true rfl)⟩ fun _ w2 e3 => ?_
  refine J.aload_n hx dX8_becomes_5 rfl 1 rfl ?_
  refine J.getc (κ' := 33) (i' := i1) (κ := 5) (k := 1) hx rfl rfl rfl rfl rfl in_X8 (by decide) (Or.inl q340) b1.2 dX8_becomes_6 fun h4 => ?_
  refine J.iconst (v := 0) hx dX8_becomes_9 (by decide) ?_
  refine J.aload_n hx dX8_becomes_10 rfl 0 rfl ?_
  refine J.getc (κ' := 33) (i' := i0) (κ := 5) (k := 1) hx rfl rfl rfl rfl rfl in_X8 (by decide) (Or.inl q340) a0.2 dX8_becomes_11 fun h5 => ?_
  refine J.iconst (v := 0) hx dX8_becomes_14 (by decide) ?_
  refine J.iconst (v := 3) hx dX8_becomes_15 (by decide) ?_
  refine J.aload_n hx dX8_becomes_16 rfl 1 rfl ?_
  refine J.geti (κ := 5) (k := 3) hx rfl rfl rfl in_X8 (by decide) (Or.inl q344) b1.1 dX8_becomes_17 fun v6 => ?_
  refine J.imul hx dX8_becomes_20 ?_
  refine J.acopy (κ := 33) (κ' := 33) hx rfl rfl rfl rfl rfl h4.1 h5.1 q979 q588 q587 q138 (Nat.le_of_ble_eq_true rfl) (Nat.le_of_ble_eq_true rfl) (Nat.le_of_ble_eq_true rfl) dX8_becomes_21 fun w7 => ?_
  refine J.aload_n hx dX8_becomes_24 rfl 0 rfl ?_
  refine J.aload_n hx dX8_becomes_25 rfl 1 rfl ?_
  refine J.geti (κ := 5) (k := 3) hx rfl rfl rfl in_X8 (by decide) (Or.inl q344) b1.1 dX8_becomes_26 fun v8 => ?_
  refine J.puti (κ := 5) (k := 3) hx rfl rfl rfl in_X8 tyX8_ok nmX8 (by decide) (Or.inl q344) rfl rfl a0.1 ⟨rfl, rfl⟩ dX8_becomes_29 fun w9 => ?_
  exact J.vret hx rfl (Nat.le_of_ble_eq_true rfl) (Nat.le_of_ble_eq_true rfl) dX8_becomes_32
theorem hd_X8_kept : yX8_kept.cls = RX8 ∧ yX8_kept.cls ≠ "java/lang/invoke/MethodHandle" ∧ yX8_kept.cls ≠ "java/lang/invoke/VarHandle" ∧ (parseMethodDescriptor yX8_kept.desc).map (fun d => d.parameters.length) = some 0 := by decide +kernel
def f_X8_kept (i0 : Nat) (w : j_St) : Option (Int32 × j_St) := jlt (jgi w 5 i0 2) fun v4 => jcb (f_X5_of 0 (2 * i0 + 1) v4 w) fun _ w6 => jlt (jgi w6 2 0 6) fun v8 => some (v8, w6)
abbrev rm_X8_kept : Room := { frames := 4, cells := 0, slots := 0, locals := 97 }
set_option maxRecDepth 100000 in
set_option maxHeartbeats 4000000 in
theorem mt_X8_kept {g : j_G} {B : j_B} {i0 : Nat} {w w' : j_St} (a0 : B.2.1 5 i0 ∧ B.2.2 5 i0) {r : Int32} (h : f_X8_kept i0 w = some (r, w')) : j_M g yX8_kept cX8_kept 1 (some FieldType.int) rm_X8_kept B [.ref (B.1 5 i0)] w w' (jri r) := by
  refine j_met (rv := jri) (by decide) (Nat.le_of_ble_eq_true rfl) (fun x hx => ?_) h
  unfold f_X8_kept
  refine J.sub (lv' := [(0, .ref (B.1 5 i0))]) [0] rfl ?_
  refine J.aload_n hx dX8_kept_0 rfl 0 rfl ?_
  refine J.getc (κ' := 0) (i' := 0) (κ := 5) (k := 5) hx rfl rfl rfl rfl rfl in_X8 (by decide) (Or.inl q348) a0.2 dX8_kept_1 fun h1 => ?_
  refine J.getc (κ' := 2) (i' := 0) (κ := 0) (k := 10) hx rfl rfl rfl rfl rfl in_X1 (by decide) (Or.inr ⟨_, j_nl q377 rfl⟩) h1.2 dX8_kept_4 fun h2 => ?_
  refine J.aload_n hx dX8_kept_7 rfl 0 rfl ?_
  refine J.getc (κ' := 4) (i' := (2 * i0 + 1)) (κ := 5) (k := 0) hx rfl rfl rfl rfl rfl in_X8 (by decide) (Or.inl q338) a0.2 dX8_kept_8 fun h3 => ?_
  refine J.aload_n hx dX8_kept_11 rfl 0 rfl ?_
  refine J.geti (κ := 5) (k := 2) hx rfl rfl rfl in_X8 (by decide) (Or.inl q342) a0.1 dX8_kept_12 fun v4 => ?_
  refine J.callt hx (fun r z1 z => j_callV (κ := 2) hx rfl rfl h2.1 (mt_X5_of h2 h3 z) (lw_V q1002 q1003 q1004 q125 q1005) hd_X5_of rfl ⟨Nat.le_of_ble_eq_true rfl, Nat.le_of_ble_eq_true rfl⟩ (Nat.le_of_ble_eq_true rfl) dX8_kept_15) ⟨⟨rfl, rfl⟩, (Nat.le_of_ble_eq_true rfl), (Nat.le_of_ble_eq_true rfl)⟩ fun _ w6 e7 => ?_
  refine J.geti (κ := 2) (k := 6) hx rfl rfl rfl in_X5 (by decide) (Or.inr ⟨_, j_nl q284 rfl⟩) h2.1 dX8_kept_18 fun v8 => ?_
  exact J.iret hx rfl (Nat.le_of_ble_eq_true rfl) (Nat.le_of_ble_eq_true rfl) dX8_kept_21
theorem hd_X8_done : yX8_done.cls = RX8 ∧ yX8_done.cls ≠ "java/lang/invoke/MethodHandle" ∧ yX8_done.cls ≠ "java/lang/invoke/VarHandle" ∧ (parseMethodDescriptor yX8_done.desc).map (fun d => d.parameters.length) = some 1 := by decide +kernel
def f_X8_done (i0 : Nat) (p1 : Int32) (w : j_St) : Option (Int32 × j_St) := jlt (jsi w 5 i0 4 p1) fun w1 => some ((-1), w1)
abbrev rm_X8_done : Room := { frames := 0, cells := 0, slots := 0, locals := 0 }
set_option maxRecDepth 100000 in
set_option maxHeartbeats 4000000 in
theorem mt_X8_done {g : j_G} {B : j_B} {i0 : Nat} {p1 : Int32} {w w' : j_St} (a0 : B.2.1 5 i0 ∧ B.2.2 5 i0) {r : Int32} (h : f_X8_done i0 p1 w = some (r, w')) : j_M g yX8_done cX8_done 2 (some FieldType.int) rm_X8_done B [.ref (B.1 5 i0), .int p1] w w' (jri r) := by
  refine j_met (rv := jri) (by decide) (Nat.le_of_ble_eq_true rfl) (fun x hx => ?_) h
  unfold f_X8_done
  refine J.sub (lv' := [(0, .ref (B.1 5 i0)), (1, .int p1)]) [0, 1] rfl ?_
  refine J.aload_n hx dX8_done_0 rfl 0 rfl ?_
  refine J.iload_n hx dX8_done_1 rfl 1 rfl ?_
  refine J.puti (κ := 5) (k := 4) hx rfl rfl rfl in_X8 tyX8_ok nmX8 (by decide) (Or.inl q346) rfl rfl a0.1 ⟨rfl, rfl⟩ dX8_done_2 fun w1 => ?_
  refine J.iconst (v := (-1)) hx dX8_done_5 (by decide) ?_
  exact J.iret hx rfl (Nat.le_of_ble_eq_true rfl) (Nat.le_of_ble_eq_true rfl) dX8_done_6
theorem hd_X8_filters : yX8_filters.cls = RX8 ∧ yX8_filters.cls ≠ "java/lang/invoke/MethodHandle" ∧ yX8_filters.cls ≠ "java/lang/invoke/VarHandle" ∧ (parseMethodDescriptor yX8_filters.desc).map (fun d => d.parameters.length) = some 1 := by decide +kernel
def f_X8_filters_L16 (i0 : Nat) (i1 : Nat) (k86 : j_St → Option (Int32 × j_St)) : Nat → Int32 → j_St → Option (Int32 × j_St)
  | 0, _, _ => none
  | n16 + 1, v7, w8 => jlt (jgi w8 4 (2 * i0 + 1) 1) fun v10 => if v10 ≤ v7 then k86 w8 else jcb (f_X7_near 0 (v7 - 1) w8) fun v15 w16 => jbd v7 48 fun a21 => jlt (jgi w16 32 0 a21) fun v22 => jcb (f_X7_near 0 (v7 + 1) w16) fun v25 w26 => jcb (f_Filt_of i1 v15 v22 v25 w26) fun v28 w29 => jbd v7 48 fun a32 => jlt (jsi w29 32 (2 * i0 + 1) a32 v28) fun w31 => jlt (v7 + 1) fun v33 => f_X8_filters_L16 i0 i1 k86 n16 v33 w31
def f_X8_filters (i0 : Nat) (i1 : Nat) (w : j_St) : Option (Int32 × j_St) := jcb (f_X7_becomes 0 (2 * i0 + 1) w) fun _ w5 => f_X8_filters_L16 i0 i1 (fun (w34 : j_St) => jcb (f_X8_kept i0 w34) fun v35 w36 => jcb (f_X8_done i0 v35 w36) fun v38 w39 => some (v38, w39)) jFU 0 w5
abbrev rm_X8_filters : Room := { frames := 5, cells := 0, slots := 0, locals := 117 }
set_option maxRecDepth 100000 in
set_option maxHeartbeats 4000000 in
theorem mt_X8_filters {g : j_G} {B : j_B} {i0 : Nat} {i1 : Nat} {w w' : j_St} (a0 : B.2.1 5 i0 ∧ B.2.2 5 i0) (b1 : B.2.1 12 i1 ∧ B.2.2 12 i1) {r : Int32} (h : f_X8_filters i0 i1 w = some (r, w')) : j_M g yX8_filters cX8_filters 3 (some FieldType.int) rm_X8_filters B [.ref (B.1 5 i0), .ref (B.1 12 i1)] w w' (jri r) := by
  refine j_met (rv := jri) (by decide) (Nat.le_of_ble_eq_true rfl) (fun x hx => ?_) h
  unfold f_X8_filters
  refine J.sub (lv' := [(0, .ref (B.1 5 i0)), (1, .ref (B.1 12 i1))]) [0, 1] rfl ?_
  refine J.fact (j_xb a0) fun a9 => ?_
  refine J.aload_n hx dX8_filters_0 rfl 0 rfl ?_
  refine J.getc (κ' := 0) (i' := 0) (κ := 5) (k := 5) hx rfl rfl rfl rfl rfl in_X8 (by decide) (Or.inl q348) a0.2 dX8_filters_1 fun h1 => ?_
  refine J.getc (κ' := 4) (i' := 0) (κ := 0) (k := 12) hx rfl rfl rfl rfl rfl in_X1 (by decide) (Or.inr ⟨_, j_nl q380 rfl⟩) h1.2 dX8_filters_4 fun h2 => ?_
  refine J.aload_n hx dX8_filters_7 rfl 0 rfl ?_
  refine J.getc (κ' := 4) (i' := (2 * i0 + 1)) (κ := 5) (k := 0) hx rfl rfl rfl rfl rfl in_X8 (by decide) (Or.inl q338) a0.2 dX8_filters_8 fun h3 => ?_
  refine J.callv hx (fun r z1 z => j_callV (κ := 4) hx rfl rfl h2.1 (mt_X7_becomes h2 h3 z) (lw_V q954 q955 q956 q127 q957) hd_X7_becomes rfl ⟨Nat.le_of_ble_eq_true rfl, Nat.le_of_ble_eq_true rfl⟩ (Nat.le_of_ble_eq_true rfl) dX8_filters_11) ⟨⟨rfl, rfl⟩, (Nat.le_of_ble_eq_true rfl), (Nat.le_of_ble_eq_true rfl)⟩ fun _ w5 e6 => ?_
  refine J.iconst (v := 0) hx dX8_filters_14 (by decide) ?_
  refine J.istore_n (lv' := [(2, .int 0), (0, .ref (B.1 5 i0)), (1, .ref (B.1 12 i1))]) hx dX8_filters_15 rfl (by decide) rfl ?_
  have hL16 : ∀ (k86 : j_St → Option (Int32 × j_St)) (hk86 : ∀  (w34 : j_St), J g x 3 B (j_Q g x B rm_X8_filters jri) 0 0 (k86 w34) 86 [(0, .ref (B.1 5 i0))] [] w34) (n16 : Nat) (v7 : Int32) (w8 : j_St), J g x 3 B (j_Q g x B rm_X8_filters jri) 0 0 (f_X8_filters_L16 i0 i1 k86 n16 v7 w8) 16 [(0, .ref (B.1 5 i0)), (1, .ref (B.1 12 i1)), (2, .int v7)] [] w8 := by
    intro k86 hk86 n16
    induction n16 with
    | zero =>
      intro v7 w8
      rw [f_X8_filters_L16]
      exact J.nne
    | succ n16 ih =>
      intro v7 w8
      rw [f_X8_filters_L16]
      refine J.iload_n hx dX8_filters_16 rfl 2 rfl ?_
      refine J.aload_n hx dX8_filters_17 rfl 0 rfl ?_
      refine J.getc (κ' := 4) (i' := (2 * i0 + 1)) (κ := 5) (k := 0) hx rfl rfl rfl rfl rfl in_X8 (by decide) (Or.inl q338) a0.2 dX8_filters_18 fun h9 => ?_
      refine J.geti (κ := 4) (k := 1) hx rfl rfl rfl in_X7 (by decide) (Or.inr ⟨_, j_nl q322 rfl⟩) h9.1 dX8_filters_21 fun v10 => ?_
      refine J.icmp_ge (tgt := 86) hx dX8_filters_24 (by decide) ?_ ?_
      · exact J.sub [0] rfl (hk86 w8)
      · refine J.aload_n hx dX8_filters_27 rfl 0 rfl ?_
        refine J.getc (κ' := 4) (i' := (2 * i0 + 1)) (κ := 5) (k := 0) hx rfl rfl rfl rfl rfl in_X8 (by decide) (Or.inl q338) a0.2 dX8_filters_28 fun h11 => ?_
        refine J.getc (κ' := 32) (i' := (2 * i0 + 1)) (κ := 4) (k := 0) hx rfl rfl rfl rfl rfl in_X7 (by decide) (Or.inr ⟨_, j_nl q318 rfl⟩) h11.2 dX8_filters_31 fun h12 => ?_
        refine J.iload_n hx dX8_filters_34 rfl 2 rfl ?_
        refine J.aload_n hx dX8_filters_35 rfl 1 rfl ?_
        refine J.aload_n hx dX8_filters_36 rfl 0 rfl ?_
        refine J.getc (κ' := 0) (i' := 0) (κ := 5) (k := 5) hx rfl rfl rfl rfl rfl in_X8 (by decide) (Or.inl q348) a0.2 dX8_filters_37 fun h13 => ?_
        refine J.getc (κ' := 4) (i' := 0) (κ := 0) (k := 12) hx rfl rfl rfl rfl rfl in_X1 (by decide) (Or.inr ⟨_, j_nl q380 rfl⟩) h13.2 dX8_filters_40 fun h14 => ?_
        refine J.iload_n hx dX8_filters_43 rfl 2 rfl ?_
        refine J.iconst (v := 1) hx dX8_filters_44 (by decide) ?_
        refine J.isub hx dX8_filters_45 ?_
        refine J.calli hx (fun r z1 z => j_callV (κ := 4) hx rfl rfl h14.1 (mt_X7_near h14 z) (lw_V q988 q989 q990 q127 q991) hd_X7_near rfl ⟨Nat.le_of_ble_eq_true rfl, Nat.le_of_ble_eq_true rfl⟩ (Nat.le_of_ble_eq_true rfl) dX8_filters_46) ⟨⟨rfl, rfl⟩, (Nat.le_of_ble_eq_true rfl), (Nat.le_of_ble_eq_true rfl)⟩ fun v15 w16 e17 => ?_
        refine J.aload_n hx dX8_filters_49 rfl 0 rfl ?_
        refine J.getc (κ' := 0) (i' := 0) (κ := 5) (k := 5) hx rfl rfl rfl rfl rfl in_X8 (by decide) (Or.inl q348) a0.2 dX8_filters_50 fun h18 => ?_
        refine J.getc (κ' := 4) (i' := 0) (κ := 0) (k := 12) hx rfl rfl rfl rfl rfl in_X1 (by decide) (Or.inr ⟨_, j_nl q380 rfl⟩) h18.2 dX8_filters_53 fun h19 => ?_
        refine J.getc (κ' := 32) (i' := 0) (κ := 4) (k := 0) hx rfl rfl rfl rfl rfl in_X7 (by decide) (Or.inr ⟨_, j_nl q318 rfl⟩) h19.2 dX8_filters_56 fun h20 => ?_
        refine J.iload_n hx dX8_filters_59 rfl 2 rfl ?_
        refine J.iald (κ := 32) hx rfl rfl h20.1 dX8_filters_60 fun v22 => ?_
        refine J.aload_n hx dX8_filters_61 rfl 0 rfl ?_
        refine J.getc (κ' := 0) (i' := 0) (κ := 5) (k := 5) hx rfl rfl rfl rfl rfl in_X8 (by decide) (Or.inl q348) a0.2 dX8_filters_62 fun h23 => ?_
        refine J.getc (κ' := 4) (i' := 0) (κ := 0) (k := 12) hx rfl rfl rfl rfl rfl in_X1 (by decide) (Or.inr ⟨_, j_nl q380 rfl⟩) h23.2 dX8_filters_65 fun h24 => ?_
        refine J.iload_n hx dX8_filters_68 rfl 2 rfl ?_
        refine J.iconst (v := 1) hx dX8_filters_69 (by decide) ?_
        refine J.iadd hx dX8_filters_70 ?_
        refine J.calli hx (fun r z1 z => j_callV (κ := 4) hx rfl rfl h24.1 (mt_X7_near h24 z) (lw_V q988 q989 q990 q127 q991) hd_X7_near rfl ⟨Nat.le_of_ble_eq_true rfl, Nat.le_of_ble_eq_true rfl⟩ (Nat.le_of_ble_eq_true rfl) dX8_filters_71) ⟨⟨rfl, rfl⟩, (Nat.le_of_ble_eq_true rfl), (Nat.le_of_ble_eq_true rfl)⟩ fun v25 w26 e27 => ?_
        refine J.calli hx (fun r z1 z => j_callFilt hx a9 b1 z q995 ⟨Nat.le_of_ble_eq_true rfl, Nat.le_of_ble_eq_true rfl⟩ (Nat.le_of_ble_eq_true rfl) dX8_filters_74) ⟨⟨rfl, rfl⟩, Nat.le_of_ble_eq_true rfl, Nat.le_of_ble_eq_true rfl⟩ fun v28 w29 e30 => ?_
        refine J.iast (κ := 32) hx rfl rfl rfl h12.1 dX8_filters_79 fun w31 => ?_
        refine J.nmx fun v33 ev33 => ?_
        refine J.iinc (p := 2) (v := v33) (lv' := [(2, .int v33), (0, .ref (B.1 5 i0)), (1, .ref (B.1 12 i1))]) hx dX8_filters_80 rfl (by rw [ev33]; rfl) (by decide) rfl ?_
        refine J.goto (tgt := 16) hx dX8_filters_83 (by decide) ?_
        exact J.sub [1, 2, 0] rfl (ih v33 w31)
  refine J.sub [1, 2, 0] rfl (hL16 _ ?_ jFU 0 w5)
  · intro w34
    refine J.aload_n hx dX8_filters_86 rfl 0 rfl ?_
    refine J.aload_n hx dX8_filters_87 rfl 0 rfl ?_
    refine J.calli hx (fun r z1 z => j_callV (κ := 5) hx rfl rfl a0.1 (mt_X8_kept a0 z) (lw_V q998 q999 q1000 q128 q1001) hd_X8_kept rfl ⟨Nat.le_of_ble_eq_true rfl, Nat.le_of_ble_eq_true rfl⟩ (Nat.le_of_ble_eq_true rfl) dX8_filters_88) ⟨⟨rfl, rfl⟩, (Nat.le_of_ble_eq_true rfl), (Nat.le_of_ble_eq_true rfl)⟩ fun v35 w36 e37 => ?_
    refine J.calli hx (fun r z1 z => j_callV (κ := 5) hx rfl rfl a0.1 (mt_X8_done a0 z) (lw_V q1078 q1080 qs20 q128 q1081) hd_X8_done rfl ⟨Nat.le_of_ble_eq_true rfl, Nat.le_of_ble_eq_true rfl⟩ (Nat.le_of_ble_eq_true rfl) dX8_filters_91) ⟨⟨rfl, rfl⟩, (Nat.le_of_ble_eq_true rfl), (Nat.le_of_ble_eq_true rfl)⟩ fun v38 w39 e40 => ?_
    exact J.iret hx rfl (Nat.le_of_ble_eq_true rfl) (Nat.le_of_ble_eq_true rfl) dX8_filters_94
theorem hd_X8_lowers : yX8_lowers.cls = RX8 ∧ yX8_lowers.cls ≠ "java/lang/invoke/MethodHandle" ∧ yX8_lowers.cls ≠ "java/lang/invoke/VarHandle" ∧ (parseMethodDescriptor yX8_lowers.desc).map (fun d => d.parameters.length) = some 2 := by decide +kernel
def f_X8_lowers (i0 : Nat) (p1 : Int32) (p2 : Int32) (w : j_St) : Option (Unit × j_St) := jbd p1 48 fun a5 => jlt (jgi w 32 (2 * i0 + 1) a5) fun v6 => jbd p1 48 fun a8 => jlt (jsi w 32 (2 * i0 + 1) a8 (jmin v6 p2)) fun w7 => some ((), w7)
abbrev rm_X8_lowers : Room := { frames := 1, cells := 0, slots := 0, locals := 21 }
set_option maxRecDepth 100000 in
set_option maxHeartbeats 4000000 in
theorem mt_X8_lowers {g : j_G} {B : j_B} {i0 : Nat} {p1 : Int32} {p2 : Int32} {w w' : j_St} (a0 : B.2.1 5 i0 ∧ B.2.2 5 i0) {r : Unit} (h : f_X8_lowers i0 p1 p2 w = some (r, w')) : j_M g yX8_lowers cX8_lowers 3 none rm_X8_lowers B [.ref (B.1 5 i0), .int p1, .int p2] w w' (jrv r) := by
  refine j_met (rv := jrv) (by decide) (Nat.le_of_ble_eq_true rfl) (fun x hx => ?_) h
  unfold f_X8_lowers
  refine J.sub (lv' := [(0, .ref (B.1 5 i0)), (1, .int p1), (2, .int p2)]) [0, 1, 2] rfl ?_
  refine J.aload_n hx dX8_lowers_0 rfl 0 rfl ?_
  refine J.getc (κ' := 4) (i' := (2 * i0 + 1)) (κ := 5) (k := 0) hx rfl rfl rfl rfl rfl in_X8 (by decide) (Or.inl q338) a0.2 dX8_lowers_1 fun h1 => ?_
  refine J.getc (κ' := 32) (i' := (2 * i0 + 1)) (κ := 4) (k := 0) hx rfl rfl rfl rfl rfl in_X7 (by decide) (Or.inr ⟨_, j_nl q318 rfl⟩) h1.2 dX8_lowers_4 fun h2 => ?_
  refine J.iload_n hx dX8_lowers_7 rfl 1 rfl ?_
  refine J.aload_n hx dX8_lowers_8 rfl 0 rfl ?_
  refine J.getc (κ' := 4) (i' := (2 * i0 + 1)) (κ := 5) (k := 0) hx rfl rfl rfl rfl rfl in_X8 (by decide) (Or.inl q338) a0.2 dX8_lowers_9 fun h3 => ?_
  refine J.getc (κ' := 32) (i' := (2 * i0 + 1)) (κ := 4) (k := 0) hx rfl rfl rfl rfl rfl in_X7 (by decide) (Or.inr ⟨_, j_nl q318 rfl⟩) h3.2 dX8_lowers_12 fun h4 => ?_
  refine J.iload_n hx dX8_lowers_15 rfl 1 rfl ?_
  refine J.iald (κ := 32) hx rfl rfl h4.1 dX8_lowers_16 fun v6 => ?_
  refine J.iload_n hx dX8_lowers_17 rfl 2 rfl ?_
  refine J.mmin hx q1094 q192 q123 q193 ⟨Nat.le_of_ble_eq_true rfl, Nat.le_of_ble_eq_true rfl⟩ (Nat.le_of_ble_eq_true rfl) (Nat.le_of_ble_eq_true rfl) (Nat.le_of_ble_eq_true rfl) dX8_lowers_18 ?_
  refine J.iast (κ := 32) hx rfl rfl rfl h2.1 dX8_lowers_21 fun w7 => ?_
  exact J.vret hx rfl (Nat.le_of_ble_eq_true rfl) (Nat.le_of_ble_eq_true rfl) dX8_lowers_22
theorem hd_X8_flattens_2 : yX8_flattens_2.cls = RX8 ∧ yX8_flattens_2.cls ≠ "java/lang/invoke/MethodHandle" ∧ yX8_flattens_2.cls ≠ "java/lang/invoke/VarHandle" ∧ (parseMethodDescriptor yX8_flattens_2.desc).map (fun d => d.parameters.length) = some 1 := by decide +kernel
def f_X8_flattens_2_L5 (i0 : Nat) (y1 : Nat) (k43 : j_St → Option (Unit × j_St)) : Nat → Int32 → j_St → Option (Unit × j_St)
  | 0, _, _ => none
  | n5 + 1, v4, w5 => if v4 < 0 then k43 w5 else jbd v4 48 fun a9 => jlt (jgi w5 32 0 a9) fun v10 => jlt (jgi w5 3 y1 3) fun v11 => if v10 ≤ v11 then k43 w5 else jlt (jgi w5 3 y1 3) fun v12 => jcb (f_X8_lowers i0 v4 v12 w5) fun _ w14 => jlt (v4 + (-1)) fun v16 => f_X8_flattens_2_L5 i0 y1 k43 n5 v16 w14
def f_X8_flattens_2_L50 (i0 : Nat) (y1 : Nat)  : Nat → Int32 → j_St → Option (Unit × j_St)
  | 0, _, _ => none
  | n50 + 1, v20, w21 => jlt (jgi w21 4 0 1) fun v24 => if v24 ≤ v20 then some ((), w21) else jbd v20 48 fun a28 => jlt (jgi w21 32 0 a28) fun v29 => jlt (jgi w21 3 y1 3) fun v30 => if v29 ≤ v30 then some ((), w21) else jlt (jgi w21 3 y1 3) fun v31 => jcb (f_X8_lowers i0 v20 v31 w21) fun _ w33 => jlt (v20 + 1) fun v35 => f_X8_flattens_2_L50 i0 y1 n50 v35 w33
def f_X8_flattens_2 (i0 : Nat) (q1 : Option Nat) (w : j_St) : Option (Unit × j_St) := job q1 fun y1 => jlt (jgi w 3 y1 0) fun v3 => f_X8_flattens_2_L5 i0 y1 (fun (w17 : j_St) => jlt (jgi w17 3 y1 0) fun v18 => jlt (v18 + 1) fun v19 => f_X8_flattens_2_L50 i0 y1 jFU v19 w17) jFU v3 w
abbrev rm_X8_flattens_2 : Room := { frames := 2, cells := 0, slots := 0, locals := 43 }
set_option maxRecDepth 100000 in
set_option maxHeartbeats 4000000 in
theorem mt_X8_flattens_2 {g : j_G} {B : j_B} {i0 : Nat} {q1 : Option Nat} {w w' : j_St} (a0 : B.2.1 5 i0 ∧ B.2.2 5 i0) (b1 : ∀ q, q1 = some q → B.2.1 3 q ∧ B.2.2 3 q) {r : Unit} (h : f_X8_flattens_2 i0 q1 w = some (r, w')) : j_M g yX8_flattens_2 cX8_flattens_2 3 none rm_X8_flattens_2 B [.ref (B.1 5 i0), va_re (B.1 3) q1] w w' (jrv r) := by
  refine j_met (rv := jrv) (by decide) (by simp [lg_sl, va_re_cat, jct_i, jct_l, jct_r, jct_n]) (fun x hx => ?_) h
  unfold f_X8_flattens_2
  rw [show lv_args 0 [.ref (B.1 5 i0), va_re (B.1 3) q1] = [(0, .ref (B.1 5 i0)), (1, va_re (B.1 3) q1)] from by simp [lv_args, va_re_cat, jct_i, jct_l, jct_r, jct_n]]
  refine J.sub (lv' := [(0, .ref (B.1 5 i0)), (1, va_re (B.1 3) q1)]) [0, 1] rfl ?_
  refine J.aload_nq hx dX8_flattens_2_0 rfl 1 rfl ?_
  refine J.obU fun y1 e2 => ?_
  subst e2
  refine J.geti (κ := 3) (k := 0) hx rfl rfl rfl in_X6 (by decide) (Or.inr ⟨_, j_nl q238 rfl⟩) (b1 y1 rfl).1 dX8_flattens_2_1 fun v3 => ?_
  refine J.istore_n (lv' := [(2, .int v3), (0, .ref (B.1 5 i0)), (1, .ref (B.1 3 y1))]) hx dX8_flattens_2_4 rfl (by decide) rfl ?_
  have hL5 : ∀ (k43 : j_St → Option (Unit × j_St)) (hk43 : ∀  (w17 : j_St), J g x 3 B (j_Q g x B rm_X8_flattens_2 jrv) 0 0 (k43 w17) 43 [(0, .ref (B.1 5 i0)), (1, .ref (B.1 3 y1))] [] w17) (n5 : Nat) (v4 : Int32) (w5 : j_St), J g x 3 B (j_Q g x B rm_X8_flattens_2 jrv) 0 0 (f_X8_flattens_2_L5 i0 y1 k43 n5 v4 w5) 5 [(0, .ref (B.1 5 i0)), (1, .ref (B.1 3 y1)), (2, .int v4)] [] w5 := by
    intro k43 hk43 n5
    induction n5 with
    | zero =>
      intro v4 w5
      rw [f_X8_flattens_2_L5]
      exact J.nne
    | succ n5 ih =>
      intro v4 w5
      rw [f_X8_flattens_2_L5]
      refine J.iload_n hx dX8_flattens_2_5 rfl 2 rfl ?_
      refine J.if_lt (tgt := 43) hx dX8_flattens_2_6 (by decide) ?_ ?_
      · exact J.sub [0, 1] rfl (hk43 w5)
      · refine J.aload_n hx dX8_flattens_2_9 rfl 0 rfl ?_
        refine J.getc (κ' := 0) (i' := 0) (κ := 5) (k := 5) hx rfl rfl rfl rfl rfl in_X8 (by decide) (Or.inl q348) a0.2 dX8_flattens_2_10 fun h6 => ?_
        refine J.getc (κ' := 4) (i' := 0) (κ := 0) (k := 12) hx rfl rfl rfl rfl rfl in_X1 (by decide) (Or.inr ⟨_, j_nl q380 rfl⟩) h6.2 dX8_flattens_2_13 fun h7 => ?_
        refine J.getc (κ' := 32) (i' := 0) (κ := 4) (k := 0) hx rfl rfl rfl rfl rfl in_X7 (by decide) (Or.inr ⟨_, j_nl q318 rfl⟩) h7.2 dX8_flattens_2_16 fun h8 => ?_
        refine J.iload_n hx dX8_flattens_2_19 rfl 2 rfl ?_
        refine J.iald (κ := 32) hx rfl rfl h8.1 dX8_flattens_2_20 fun v10 => ?_
        refine J.aload_n hx dX8_flattens_2_21 rfl 1 rfl ?_
        refine J.geti (κ := 3) (k := 3) hx rfl rfl rfl in_X6 (by decide) (Or.inr ⟨_, j_nl q247 rfl⟩) (b1 y1 rfl).1 dX8_flattens_2_22 fun v11 => ?_
        refine J.icmp_le (tgt := 43) hx dX8_flattens_2_25 (by decide) ?_ ?_
        · exact J.sub [0, 1] rfl (hk43 w5)
        · refine J.aload_n hx dX8_flattens_2_28 rfl 0 rfl ?_
          refine J.iload_n hx dX8_flattens_2_29 rfl 2 rfl ?_
          refine J.aload_n hx dX8_flattens_2_30 rfl 1 rfl ?_
          refine J.geti (κ := 3) (k := 3) hx rfl rfl rfl in_X6 (by decide) (Or.inr ⟨_, j_nl q247 rfl⟩) (b1 y1 rfl).1 dX8_flattens_2_31 fun v12 => ?_
          refine J.callv hx (fun r z1 z => j_callV (κ := 5) hx rfl rfl a0.1 (mt_X8_lowers a0 z) (lw_V q1090 q1092 qs22 q128 q1093) hd_X8_lowers rfl ⟨Nat.le_of_ble_eq_true rfl, Nat.le_of_ble_eq_true rfl⟩ (Nat.le_of_ble_eq_true rfl) dX8_flattens_2_34) ⟨⟨rfl, rfl⟩, (Nat.le_of_ble_eq_true rfl), (Nat.le_of_ble_eq_true rfl)⟩ fun _ w14 e15 => ?_
          refine J.nmx fun v16 ev16 => ?_
          refine J.iinc (p := 2) (v := v16) (lv' := [(2, .int v16), (0, .ref (B.1 5 i0)), (1, .ref (B.1 3 y1))]) hx dX8_flattens_2_37 rfl (by rw [ev16]; rfl) (by decide) rfl ?_
          refine J.goto (tgt := 5) hx dX8_flattens_2_40 (by decide) ?_
          exact J.sub [1, 2, 0] rfl (ih v16 w14)
  refine J.sub [1, 2, 0] rfl (hL5 _ ?_ jFU v3 w)
  · intro w17
    refine J.aload_n hx dX8_flattens_2_43 rfl 1 rfl ?_
    refine J.geti (κ := 3) (k := 0) hx rfl rfl rfl in_X6 (by decide) (Or.inr ⟨_, j_nl q238 rfl⟩) (b1 y1 rfl).1 dX8_flattens_2_44 fun v18 => ?_
    refine J.iconst (v := 1) hx dX8_flattens_2_47 (by decide) ?_
    refine J.iadd hx dX8_flattens_2_48 ?_
    refine J.nmi fun v19 => ?_
    refine J.istore_n (lv' := [(2, .int v19), (0, .ref (B.1 5 i0)), (1, .ref (B.1 3 y1))]) hx dX8_flattens_2_49 rfl (by decide) rfl ?_
    have hL50 : ∀ (n50 : Nat) (v20 : Int32) (w21 : j_St), J g x 3 B (j_Q g x B rm_X8_flattens_2 jrv) 0 0 (f_X8_flattens_2_L50 i0 y1 n50 v20 w21) 50 [(0, .ref (B.1 5 i0)), (1, .ref (B.1 3 y1)), (2, .int v20)] [] w21 := by
      intro n50
      induction n50 with
      | zero =>
        intro v20 w21
        rw [f_X8_flattens_2_L50]
        exact J.nne
      | succ n50 ih =>
        intro v20 w21
        rw [f_X8_flattens_2_L50]
        refine J.iload_n hx dX8_flattens_2_50 rfl 2 rfl ?_
        refine J.aload_n hx dX8_flattens_2_51 rfl 0 rfl ?_
        refine J.getc (κ' := 0) (i' := 0) (κ := 5) (k := 5) hx rfl rfl rfl rfl rfl in_X8 (by decide) (Or.inl q348) a0.2 dX8_flattens_2_52 fun h22 => ?_
        refine J.getc (κ' := 4) (i' := 0) (κ := 0) (k := 12) hx rfl rfl rfl rfl rfl in_X1 (by decide) (Or.inr ⟨_, j_nl q380 rfl⟩) h22.2 dX8_flattens_2_55 fun h23 => ?_
        refine J.geti (κ := 4) (k := 1) hx rfl rfl rfl in_X7 (by decide) (Or.inr ⟨_, j_nl q322 rfl⟩) h23.1 dX8_flattens_2_58 fun v24 => ?_
        refine J.icmp_ge (tgt := 98) hx dX8_flattens_2_61 (by decide) ?_ ?_
        · exact J.vret hx rfl (Nat.le_of_ble_eq_true rfl) (Nat.le_of_ble_eq_true rfl) dX8_flattens_2_98
        · refine J.aload_n hx dX8_flattens_2_64 rfl 0 rfl ?_
          refine J.getc (κ' := 0) (i' := 0) (κ := 5) (k := 5) hx rfl rfl rfl rfl rfl in_X8 (by decide) (Or.inl q348) a0.2 dX8_flattens_2_65 fun h25 => ?_
          refine J.getc (κ' := 4) (i' := 0) (κ := 0) (k := 12) hx rfl rfl rfl rfl rfl in_X1 (by decide) (Or.inr ⟨_, j_nl q380 rfl⟩) h25.2 dX8_flattens_2_68 fun h26 => ?_
          refine J.getc (κ' := 32) (i' := 0) (κ := 4) (k := 0) hx rfl rfl rfl rfl rfl in_X7 (by decide) (Or.inr ⟨_, j_nl q318 rfl⟩) h26.2 dX8_flattens_2_71 fun h27 => ?_
          refine J.iload_n hx dX8_flattens_2_74 rfl 2 rfl ?_
          refine J.iald (κ := 32) hx rfl rfl h27.1 dX8_flattens_2_75 fun v29 => ?_
          refine J.aload_n hx dX8_flattens_2_76 rfl 1 rfl ?_
          refine J.geti (κ := 3) (k := 3) hx rfl rfl rfl in_X6 (by decide) (Or.inr ⟨_, j_nl q247 rfl⟩) (b1 y1 rfl).1 dX8_flattens_2_77 fun v30 => ?_
          refine J.icmp_le (tgt := 98) hx dX8_flattens_2_80 (by decide) ?_ ?_
          · exact J.vret hx rfl (Nat.le_of_ble_eq_true rfl) (Nat.le_of_ble_eq_true rfl) dX8_flattens_2_98
          · refine J.aload_n hx dX8_flattens_2_83 rfl 0 rfl ?_
            refine J.iload_n hx dX8_flattens_2_84 rfl 2 rfl ?_
            refine J.aload_n hx dX8_flattens_2_85 rfl 1 rfl ?_
            refine J.geti (κ := 3) (k := 3) hx rfl rfl rfl in_X6 (by decide) (Or.inr ⟨_, j_nl q247 rfl⟩) (b1 y1 rfl).1 dX8_flattens_2_86 fun v31 => ?_
            refine J.callv hx (fun r z1 z => j_callV (κ := 5) hx rfl rfl a0.1 (mt_X8_lowers a0 z) (lw_V q1090 q1092 qs22 q128 q1093) hd_X8_lowers rfl ⟨Nat.le_of_ble_eq_true rfl, Nat.le_of_ble_eq_true rfl⟩ (Nat.le_of_ble_eq_true rfl) dX8_flattens_2_89) ⟨⟨rfl, rfl⟩, (Nat.le_of_ble_eq_true rfl), (Nat.le_of_ble_eq_true rfl)⟩ fun _ w33 e34 => ?_
            refine J.nmx fun v35 ev35 => ?_
            refine J.iinc (p := 2) (v := v35) (lv' := [(2, .int v35), (0, .ref (B.1 5 i0)), (1, .ref (B.1 3 y1))]) hx dX8_flattens_2_92 rfl (by rw [ev35]; rfl) (by decide) rfl ?_
            refine J.goto (tgt := 50) hx dX8_flattens_2_95 (by decide) ?_
            exact J.sub [1, 2, 0] rfl (ih v35 w33)
    refine J.sub [1, 2, 0] rfl (hL50 jFU v19 w17)
theorem hd_X8_less : yX8_less.cls = RX8 ∧ yX8_less.cls ≠ "java/lang/invoke/MethodHandle" ∧ yX8_less.cls ≠ "java/lang/invoke/VarHandle" ∧ (parseMethodDescriptor yX8_less.desc).map (fun d => d.parameters.length) = some 0 := by decide +kernel
def f_X8_less_L4 (i0 : Nat)  : Nat → Int32 → Int32 → j_St → Option (Int32 × j_St)
  | 0, _, _, _ => none
  | n4 + 1, v1, v2, w3 => jlt (jgi w3 4 (2 * i0 + 1) 1) fun v5 => if v5 ≤ v2 then some (v1, w3) else jbd v2 48 fun a8 => jlt (jgi w3 32 (2 * i0 + 1) a8) fun v9 => jbd v2 48 fun a13 => jlt (jgi w3 32 0 a13) fun v14 => jlt (fun (v15 : Int32) (w16 : j_St) => jlt (v1 + v15) fun v17 => jlt (v2 + 1) fun v18 => f_X8_less_L4 i0 n4 v17 v18 w16) fun K45 => if v14 ≤ v9 then K45 0 w3 else K45 1 w3
def f_X8_less (i0 : Nat) (w : j_St) : Option (Int32 × j_St) := f_X8_less_L4 i0 jFU 0 0 w
abbrev rm_X8_less : Room := { frames := 0, cells := 0, slots := 0, locals := 0 }
set_option maxRecDepth 100000 in
set_option maxHeartbeats 4000000 in
theorem mt_X8_less {g : j_G} {B : j_B} {i0 : Nat} {w w' : j_St} (a0 : B.2.1 5 i0 ∧ B.2.2 5 i0) {r : Int32} (h : f_X8_less i0 w = some (r, w')) : j_M g yX8_less cX8_less 3 (some FieldType.int) rm_X8_less B [.ref (B.1 5 i0)] w w' (jri r) := by
  refine j_met (rv := jri) (by decide) (Nat.le_of_ble_eq_true rfl) (fun x hx => ?_) h
  unfold f_X8_less
  refine J.sub (lv' := [(0, .ref (B.1 5 i0))]) [0] rfl ?_
  refine J.iconst (v := 0) hx dX8_less_0 (by decide) ?_
  refine J.istore_n (lv' := [(1, .int 0), (0, .ref (B.1 5 i0))]) hx dX8_less_1 rfl (by decide) rfl ?_
  refine J.iconst (v := 0) hx dX8_less_2 (by decide) ?_
  refine J.istore_n (lv' := [(2, .int 0), (1, .int 0), (0, .ref (B.1 5 i0))]) hx dX8_less_3 rfl (by decide) rfl ?_
  have hL4 : ∀ (n4 : Nat) (v1 : Int32) (v2 : Int32) (w3 : j_St), J g x 3 B (j_Q g x B rm_X8_less jri) 0 0 (f_X8_less_L4 i0 n4 v1 v2 w3) 4 [(0, .ref (B.1 5 i0)), (1, .int v1), (2, .int v2)] [] w3 := by
    intro n4
    induction n4 with
    | zero =>
      intro v1 v2 w3
      rw [f_X8_less_L4]
      exact J.nne
    | succ n4 ih =>
      intro v1 v2 w3
      rw [f_X8_less_L4]
      refine J.iload_n hx dX8_less_4 rfl 2 rfl ?_
      refine J.aload_n hx dX8_less_5 rfl 0 rfl ?_
      refine J.getc (κ' := 4) (i' := (2 * i0 + 1)) (κ := 5) (k := 0) hx rfl rfl rfl rfl rfl in_X8 (by decide) (Or.inl q338) a0.2 dX8_less_6 fun h4 => ?_
      refine J.geti (κ := 4) (k := 1) hx rfl rfl rfl in_X7 (by decide) (Or.inr ⟨_, j_nl q322 rfl⟩) h4.1 dX8_less_9 fun v5 => ?_
      refine J.icmp_ge (tgt := 53) hx dX8_less_12 (by decide) ?_ ?_
      · refine J.iload_n hx dX8_less_53 rfl 1 rfl ?_
        exact J.iret hx rfl (Nat.le_of_ble_eq_true rfl) (Nat.le_of_ble_eq_true rfl) dX8_less_54
      · refine J.iload_n hx dX8_less_15 rfl 1 rfl ?_
        refine J.aload_n hx dX8_less_16 rfl 0 rfl ?_
        refine J.getc (κ' := 4) (i' := (2 * i0 + 1)) (κ := 5) (k := 0) hx rfl rfl rfl rfl rfl in_X8 (by decide) (Or.inl q338) a0.2 dX8_less_17 fun h6 => ?_
        refine J.getc (κ' := 32) (i' := (2 * i0 + 1)) (κ := 4) (k := 0) hx rfl rfl rfl rfl rfl in_X7 (by decide) (Or.inr ⟨_, j_nl q318 rfl⟩) h6.2 dX8_less_20 fun h7 => ?_
        refine J.iload_n hx dX8_less_23 rfl 2 rfl ?_
        refine J.iald (κ := 32) hx rfl rfl h7.1 dX8_less_24 fun v9 => ?_
        refine J.aload_n hx dX8_less_25 rfl 0 rfl ?_
        refine J.getc (κ' := 0) (i' := 0) (κ := 5) (k := 5) hx rfl rfl rfl rfl rfl in_X8 (by decide) (Or.inl q348) a0.2 dX8_less_26 fun h10 => ?_
        refine J.getc (κ' := 4) (i' := 0) (κ := 0) (k := 12) hx rfl rfl rfl rfl rfl in_X1 (by decide) (Or.inr ⟨_, j_nl q380 rfl⟩) h10.2 dX8_less_29 fun h11 => ?_
        refine J.getc (κ' := 32) (i' := 0) (κ := 4) (k := 0) hx rfl rfl rfl rfl rfl in_X7 (by decide) (Or.inr ⟨_, j_nl q318 rfl⟩) h11.2 dX8_less_32 fun h12 => ?_
        refine J.iload_n hx dX8_less_35 rfl 2 rfl ?_
        refine J.iald (κ := 32) hx rfl rfl h12.1 dX8_less_36 fun v14 => ?_
        refine J.fn (fun (K45 : Int32 → j_St → Option (Int32 × j_St)) => ∀ (v15 : Int32) (w16 : j_St), J g x 3 B (j_Q g x B rm_X8_less jri) 0 0 (K45 v15 w16) 45 [(0, .ref (B.1 5 i0)), (2, .int v2)] [.int v15, .int v1] w16) ?_ ?_
        · intro v15 w16
          refine J.iadd hx dX8_less_45 ?_
          refine J.nmi fun v17 => ?_
          refine J.istore_n (lv' := [(1, .int v17), (0, .ref (B.1 5 i0)), (2, .int v2)]) hx dX8_less_46 rfl (by decide) rfl ?_
          refine J.nmx fun v18 ev18 => ?_
          refine J.iinc (p := 2) (v := v18) (lv' := [(2, .int v18), (1, .int v17), (0, .ref (B.1 5 i0))]) hx dX8_less_47 rfl (by rw [ev18]; rfl) (by decide) rfl ?_
          refine J.goto (tgt := 4) hx dX8_less_50 (by decide) ?_
          exact J.sub [2, 1, 0] rfl (ih v17 v18 w16)
        · intro K45 hK45
          refine J.icmp_ge (tgt := 44) hx dX8_less_37 (by decide) ?_ ?_
          · refine J.iconst (v := 0) hx dX8_less_44 (by decide) ?_
            exact J.sub [0, 2] rfl (hK45 0 w3)
          · refine J.iconst (v := 1) hx dX8_less_40 (by decide) ?_
            refine J.goto (tgt := 45) hx dX8_less_41 (by decide) ?_
            exact J.sub [0, 2] rfl (hK45 1 w3)
  refine J.sub [2, 1, 0] rfl (hL4 jFU 0 0 w)
theorem hd_X8_flattens : yX8_flattens.cls = RX8 ∧ yX8_flattens.cls ≠ "java/lang/invoke/MethodHandle" ∧ yX8_flattens.cls ≠ "java/lang/invoke/VarHandle" ∧ (parseMethodDescriptor yX8_flattens.desc).map (fun d => d.parameters.length) = some 0 := by decide +kernel
def f_X8_flattens_L38 (i0 : Nat) (k74 : j_St → Option (Int32 × j_St)) : Nat → Int32 → j_St → Option (Int32 × j_St)
  | 0, _, _ => none
  | n38 + 1, v15, w16 => jlt (jgi w16 2 0 5) fun v17 => if v17 ≤ v15 then k74 w16 else jbd v15 48 fun a19 => jlt (jgr w16 27 0 a19) fun v20 => job v20 fun y22 => jlt (jgi w16 3 y22 6) fun v24 => jlt (fun (w32 : j_St) => jlt (v15 + 1) fun v33 => f_X8_flattens_L38 i0 k74 n38 v33 w32) fun K68 => if v24 = 0 then jbd v15 48 fun a26 => jlt (jgr w16 27 0 a26) fun v27 => jcb (f_X8_flattens_2 i0 v27 w16) fun _ w30 => K68 w30 else K68 w16
def f_X8_flattens (i0 : Nat) (w : j_St) : Option (Int32 × j_St) := jcb (f_X7_becomes 0 (2 * i0 + 1) w) fun _ w5 => jlt (jgi w5 5 i0 2) fun v11 => jcb (f_X5_of 0 0 v11 w5) fun _ w13 => f_X8_flattens_L38 i0 (fun (w34 : j_St) => jcb (f_X8_less i0 w34) fun v35 w36 => jcb (f_X8_done i0 v35 w36) fun v38 w39 => some (v38, w39)) jFU 0 w13
abbrev rm_X8_flattens : Room := { frames := 4, cells := 0, slots := 0, locals := 97 }
set_option maxRecDepth 100000 in
set_option maxHeartbeats 4000000 in
theorem mt_X8_flattens {g : j_G} {B : j_B} {i0 : Nat} {w w' : j_St} (a0 : B.2.1 5 i0 ∧ B.2.2 5 i0) {r : Int32} (h : f_X8_flattens i0 w = some (r, w')) : j_M g yX8_flattens cX8_flattens 3 (some FieldType.int) rm_X8_flattens B [.ref (B.1 5 i0)] w w' (jri r) := by
  refine j_met (rv := jri) (by decide) (Nat.le_of_ble_eq_true rfl) (fun x hx => ?_) h
  unfold f_X8_flattens
  refine J.sub (lv' := [(0, .ref (B.1 5 i0))]) [0] rfl ?_
  refine J.aload_n hx dX8_flattens_0 rfl 0 rfl ?_
  refine J.getc (κ' := 0) (i' := 0) (κ := 5) (k := 5) hx rfl rfl rfl rfl rfl in_X8 (by decide) (Or.inl q348) a0.2 dX8_flattens_1 fun h1 => ?_
  refine J.getc (κ' := 4) (i' := 0) (κ := 0) (k := 12) hx rfl rfl rfl rfl rfl in_X1 (by decide) (Or.inr ⟨_, j_nl q380 rfl⟩) h1.2 dX8_flattens_4 fun h2 => ?_
  refine J.aload_n hx dX8_flattens_7 rfl 0 rfl ?_
  refine J.getc (κ' := 4) (i' := (2 * i0 + 1)) (κ := 5) (k := 0) hx rfl rfl rfl rfl rfl in_X8 (by decide) (Or.inl q338) a0.2 dX8_flattens_8 fun h3 => ?_
  refine J.callv hx (fun r z1 z => j_callV (κ := 4) hx rfl rfl h2.1 (mt_X7_becomes h2 h3 z) (lw_V q954 q955 q956 q127 q957) hd_X7_becomes rfl ⟨Nat.le_of_ble_eq_true rfl, Nat.le_of_ble_eq_true rfl⟩ (Nat.le_of_ble_eq_true rfl) dX8_flattens_11) ⟨⟨rfl, rfl⟩, (Nat.le_of_ble_eq_true rfl), (Nat.le_of_ble_eq_true rfl)⟩ fun _ w5 e6 => ?_
  refine J.aload_n hx dX8_flattens_14 rfl 0 rfl ?_
  refine J.getc (κ' := 0) (i' := 0) (κ := 5) (k := 5) hx rfl rfl rfl rfl rfl in_X8 (by decide) (Or.inl q348) a0.2 dX8_flattens_15 fun h7 => ?_
  refine J.getc (κ' := 2) (i' := 0) (κ := 0) (k := 10) hx rfl rfl rfl rfl rfl in_X1 (by decide) (Or.inr ⟨_, j_nl q377 rfl⟩) h7.2 dX8_flattens_18 fun h8 => ?_
  refine J.aload_n hx dX8_flattens_21 rfl 0 rfl ?_
  refine J.getc (κ' := 0) (i' := 0) (κ := 5) (k := 5) hx rfl rfl rfl rfl rfl in_X8 (by decide) (Or.inl q348) a0.2 dX8_flattens_22 fun h9 => ?_
  refine J.getc (κ' := 4) (i' := 0) (κ := 0) (k := 12) hx rfl rfl rfl rfl rfl in_X1 (by decide) (Or.inr ⟨_, j_nl q380 rfl⟩) h9.2 dX8_flattens_25 fun h10 => ?_
  refine J.aload_n hx dX8_flattens_28 rfl 0 rfl ?_
  refine J.geti (κ := 5) (k := 2) hx rfl rfl rfl in_X8 (by decide) (Or.inl q342) a0.1 dX8_flattens_29 fun v11 => ?_
  refine J.callt hx (fun r z1 z => j_callV (κ := 2) hx rfl rfl h8.1 (mt_X5_of h8 h10 z) (lw_V q1002 q1003 q1004 q125 q1005) hd_X5_of rfl ⟨Nat.le_of_ble_eq_true rfl, Nat.le_of_ble_eq_true rfl⟩ (Nat.le_of_ble_eq_true rfl) dX8_flattens_32) ⟨⟨rfl, rfl⟩, (Nat.le_of_ble_eq_true rfl), (Nat.le_of_ble_eq_true rfl)⟩ fun _ w13 e14 => ?_
  refine J.astore_n (lv' := [(1, .ref (B.1 2 0)), (0, .ref (B.1 5 i0))]) hx dX8_flattens_35 rfl (by decide) rfl ?_
  refine J.iconst (v := 0) hx dX8_flattens_36 (by decide) ?_
  refine J.istore_n (lv' := [(2, .int 0), (1, .ref (B.1 2 0)), (0, .ref (B.1 5 i0))]) hx dX8_flattens_37 rfl (by decide) rfl ?_
  have hL38 : ∀ (k74 : j_St → Option (Int32 × j_St)) (hk74 : ∀  (w34 : j_St), J g x 3 B (j_Q g x B rm_X8_flattens jri) 0 0 (k74 w34) 74 [(0, .ref (B.1 5 i0))] [] w34) (n38 : Nat) (v15 : Int32) (w16 : j_St), J g x 3 B (j_Q g x B rm_X8_flattens jri) 0 0 (f_X8_flattens_L38 i0 k74 n38 v15 w16) 38 [(0, .ref (B.1 5 i0)), (1, .ref (B.1 2 0)), (2, .int v15)] [] w16 := by
    intro k74 hk74 n38
    induction n38 with
    | zero =>
      intro v15 w16
      rw [f_X8_flattens_L38]
      exact J.nne
    | succ n38 ih =>
      intro v15 w16
      rw [f_X8_flattens_L38]
      refine J.iload_n hx dX8_flattens_38 rfl 2 rfl ?_
      refine J.aload_n hx dX8_flattens_39 rfl 1 rfl ?_
      refine J.geti (κ := 2) (k := 5) hx rfl rfl rfl in_X5 (by decide) (Or.inr ⟨_, j_nl q282 rfl⟩) h8.1 dX8_flattens_40 fun v17 => ?_
      refine J.icmp_ge (tgt := 74) hx dX8_flattens_43 (by decide) ?_ ?_
      · exact J.sub [0] rfl (hk74 w16)
      · refine J.aload_n hx dX8_flattens_46 rfl 1 rfl ?_
        refine J.getc (κ' := 27) (i' := 0) (κ := 2) (k := 1) hx rfl rfl rfl rfl rfl in_X5 (by decide) (Or.inr ⟨_, j_nl q276 rfl⟩) h8.2 dX8_flattens_47 fun h18 => ?_
        refine J.iload_n hx dX8_flattens_50 rfl 2 rfl ?_
        refine J.aald (κ' := 3) (κ := 27) hx rfl rfl (by decide) rfl rfl h18.1 dX8_flattens_51 fun v20 h21 => ?_
        refine J.obU fun y22 e23 => ?_
        subst e23
        refine J.geti (κ := 3) (k := 6) hx rfl rfl rfl in_X6 (by decide) (Or.inr ⟨_, j_nl q255 rfl⟩) (h21 y22 rfl).1 dX8_flattens_52 fun v24 => ?_
        refine J.fn (fun (K68 : j_St → Option (Int32 × j_St)) => ∀  (w32 : j_St), J g x 3 B (j_Q g x B rm_X8_flattens jri) 0 0 (K68 w32) 68 [(0, .ref (B.1 5 i0)), (1, .ref (B.1 2 0)), (2, .int v15)] [] w32) ?_ ?_
        · intro w32
          refine J.nmx fun v33 ev33 => ?_
          refine J.iinc (p := 2) (v := v33) (lv' := [(2, .int v33), (0, .ref (B.1 5 i0)), (1, .ref (B.1 2 0))]) hx dX8_flattens_68 rfl (by rw [ev33]; rfl) (by decide) rfl ?_
          refine J.goto (tgt := 38) hx dX8_flattens_71 (by decide) ?_
          exact J.sub [1, 2, 0] rfl (ih v33 w32)
        · intro K68 hK68
          refine J.if_ne (tgt := 68) hx dX8_flattens_55 (by decide) ?_ ?_
          · refine J.aload_n hx dX8_flattens_58 rfl 0 rfl ?_
            refine J.aload_n hx dX8_flattens_59 rfl 1 rfl ?_
            refine J.getc (κ' := 27) (i' := 0) (κ := 2) (k := 1) hx rfl rfl rfl rfl rfl in_X5 (by decide) (Or.inr ⟨_, j_nl q276 rfl⟩) h8.2 dX8_flattens_60 fun h25 => ?_
            refine J.iload_n hx dX8_flattens_63 rfl 2 rfl ?_
            refine J.aald (κ' := 3) (κ := 27) hx rfl rfl (by decide) rfl rfl h25.1 dX8_flattens_64 fun v27 h28 => ?_
            refine J.callv hx (fun r z1 z => j_callV (κ := 5) hx rfl rfl a0.1 (mt_X8_flattens_2 a0 h28 z) (lw_V q1086 q1088 qs21 q128 q1089) hd_X8_flattens_2 rfl ⟨Nat.le_of_ble_eq_true rfl, Nat.le_of_ble_eq_true rfl⟩ (Nat.le_of_ble_eq_true rfl) dX8_flattens_65) ⟨⟨rfl, rfl⟩, (Nat.le_of_ble_eq_true rfl), (Nat.le_of_ble_eq_true rfl)⟩ fun _ w30 e31 => ?_
            exact J.sub [0, 1, 2] rfl (hK68 w30)
          · exact J.sub [0, 1, 2] rfl (hK68 w16)
  refine J.sub [2, 1, 0] rfl (hL38 _ ?_ jFU 0 w13)
  · intro w34
    refine J.aload_n hx dX8_flattens_74 rfl 0 rfl ?_
    refine J.aload_n hx dX8_flattens_75 rfl 0 rfl ?_
    refine J.calli hx (fun r z1 z => j_callV (κ := 5) hx rfl rfl a0.1 (mt_X8_less a0 z) (lw_V q1095 q1097 qs23 q128 q1098) hd_X8_less rfl ⟨Nat.le_of_ble_eq_true rfl, Nat.le_of_ble_eq_true rfl⟩ (Nat.le_of_ble_eq_true rfl) dX8_flattens_76) ⟨⟨rfl, rfl⟩, (Nat.le_of_ble_eq_true rfl), (Nat.le_of_ble_eq_true rfl)⟩ fun v35 w36 e37 => ?_
    refine J.calli hx (fun r z1 z => j_callV (κ := 5) hx rfl rfl a0.1 (mt_X8_done a0 z) (lw_V q1078 q1080 qs20 q128 q1081) hd_X8_done rfl ⟨Nat.le_of_ble_eq_true rfl, Nat.le_of_ble_eq_true rfl⟩ (Nat.le_of_ble_eq_true rfl) dX8_flattens_79) ⟨⟨rfl, rfl⟩, (Nat.le_of_ble_eq_true rfl), (Nat.le_of_ble_eq_true rfl)⟩ fun v38 w39 e40 => ?_
    exact J.iret hx rfl (Nat.le_of_ble_eq_true rfl) (Nat.le_of_ble_eq_true rfl) dX8_flattens_82
theorem hd_X8_turns : yX8_turns.cls = RX8 ∧ yX8_turns.cls ≠ "java/lang/invoke/MethodHandle" ∧ yX8_turns.cls ≠ "java/lang/invoke/VarHandle" ∧ (parseMethodDescriptor yX8_turns.desc).map (fun d => d.parameters.length) = some 0 := by decide +kernel
def f_X8_turns_L16 (i0 : Nat) (k64 : j_St → Option (Int32 × j_St)) : Nat → Int32 → j_St → Option (Int32 × j_St)
  | 0, _, _ => none
  | n16 + 1, v7, w8 => jlt (jgi w8 4 (2 * i0 + 1) 1) fun v10 => if v10 ≤ v7 then k64 w8 else jlt (jgi w8 4 (2 * i0 + 1) 1) fun v17 => jbd ((v17 - 1) - v7) 48 fun a18 => jlt (jgi w8 32 0 a18) fun v19 => jbd v7 48 fun a21 => jlt (jsi w8 32 (2 * i0 + 1) a21 v19) fun w20 => jlt (v7 + 1) fun v22 => f_X8_turns_L16 i0 k64 n16 v22 w20
def f_X8_turns (i0 : Nat) (w : j_St) : Option (Int32 × j_St) := jcb (f_X7_becomes 0 (2 * i0 + 1) w) fun _ w5 => f_X8_turns_L16 i0 (fun (w23 : j_St) => jbd 0 48 fun a26 => jlt (jgi w23 32 (2 * i0 + 1) a26) fun v27 => jcb (f_X8_done i0 v27 w23) fun v28 w29 => some (v28, w29)) jFU 0 w5
abbrev rm_X8_turns : Room := { frames := 2, cells := 0, slots := 0, locals := 81 }
set_option maxRecDepth 100000 in
set_option maxHeartbeats 4000000 in
theorem mt_X8_turns {g : j_G} {B : j_B} {i0 : Nat} {w w' : j_St} (a0 : B.2.1 5 i0 ∧ B.2.2 5 i0) {r : Int32} (h : f_X8_turns i0 w = some (r, w')) : j_M g yX8_turns cX8_turns 2 (some FieldType.int) rm_X8_turns B [.ref (B.1 5 i0)] w w' (jri r) := by
  refine j_met (rv := jri) (by decide) (Nat.le_of_ble_eq_true rfl) (fun x hx => ?_) h
  unfold f_X8_turns
  refine J.sub (lv' := [(0, .ref (B.1 5 i0))]) [0] rfl ?_
  refine J.aload_n hx dX8_turns_0 rfl 0 rfl ?_
  refine J.getc (κ' := 0) (i' := 0) (κ := 5) (k := 5) hx rfl rfl rfl rfl rfl in_X8 (by decide) (Or.inl q348) a0.2 dX8_turns_1 fun h1 => ?_
  refine J.getc (κ' := 4) (i' := 0) (κ := 0) (k := 12) hx rfl rfl rfl rfl rfl in_X1 (by decide) (Or.inr ⟨_, j_nl q380 rfl⟩) h1.2 dX8_turns_4 fun h2 => ?_
  refine J.aload_n hx dX8_turns_7 rfl 0 rfl ?_
  refine J.getc (κ' := 4) (i' := (2 * i0 + 1)) (κ := 5) (k := 0) hx rfl rfl rfl rfl rfl in_X8 (by decide) (Or.inl q338) a0.2 dX8_turns_8 fun h3 => ?_
  refine J.callv hx (fun r z1 z => j_callV (κ := 4) hx rfl rfl h2.1 (mt_X7_becomes h2 h3 z) (lw_V q954 q955 q956 q127 q957) hd_X7_becomes rfl ⟨Nat.le_of_ble_eq_true rfl, Nat.le_of_ble_eq_true rfl⟩ (Nat.le_of_ble_eq_true rfl) dX8_turns_11) ⟨⟨rfl, rfl⟩, (Nat.le_of_ble_eq_true rfl), (Nat.le_of_ble_eq_true rfl)⟩ fun _ w5 e6 => ?_
  refine J.iconst (v := 0) hx dX8_turns_14 (by decide) ?_
  refine J.istore_n (lv' := [(1, .int 0), (0, .ref (B.1 5 i0))]) hx dX8_turns_15 rfl (by decide) rfl ?_
  have hL16 : ∀ (k64 : j_St → Option (Int32 × j_St)) (hk64 : ∀  (w23 : j_St), J g x 2 B (j_Q g x B rm_X8_turns jri) 0 0 (k64 w23) 64 [(0, .ref (B.1 5 i0))] [] w23) (n16 : Nat) (v7 : Int32) (w8 : j_St), J g x 2 B (j_Q g x B rm_X8_turns jri) 0 0 (f_X8_turns_L16 i0 k64 n16 v7 w8) 16 [(0, .ref (B.1 5 i0)), (1, .int v7)] [] w8 := by
    intro k64 hk64 n16
    induction n16 with
    | zero =>
      intro v7 w8
      rw [f_X8_turns_L16]
      exact J.nne
    | succ n16 ih =>
      intro v7 w8
      rw [f_X8_turns_L16]
      refine J.iload_n hx dX8_turns_16 rfl 1 rfl ?_
      refine J.aload_n hx dX8_turns_17 rfl 0 rfl ?_
      refine J.getc (κ' := 4) (i' := (2 * i0 + 1)) (κ := 5) (k := 0) hx rfl rfl rfl rfl rfl in_X8 (by decide) (Or.inl q338) a0.2 dX8_turns_18 fun h9 => ?_
      refine J.geti (κ := 4) (k := 1) hx rfl rfl rfl in_X7 (by decide) (Or.inr ⟨_, j_nl q322 rfl⟩) h9.1 dX8_turns_21 fun v10 => ?_
      refine J.icmp_ge (tgt := 64) hx dX8_turns_24 (by decide) ?_ ?_
      · exact J.sub [0] rfl (hk64 w8)
      · refine J.aload_n hx dX8_turns_27 rfl 0 rfl ?_
        refine J.getc (κ' := 4) (i' := (2 * i0 + 1)) (κ := 5) (k := 0) hx rfl rfl rfl rfl rfl in_X8 (by decide) (Or.inl q338) a0.2 dX8_turns_28 fun h11 => ?_
        refine J.getc (κ' := 32) (i' := (2 * i0 + 1)) (κ := 4) (k := 0) hx rfl rfl rfl rfl rfl in_X7 (by decide) (Or.inr ⟨_, j_nl q318 rfl⟩) h11.2 dX8_turns_31 fun h12 => ?_
        refine J.iload_n hx dX8_turns_34 rfl 1 rfl ?_
        refine J.aload_n hx dX8_turns_35 rfl 0 rfl ?_
        refine J.getc (κ' := 0) (i' := 0) (κ := 5) (k := 5) hx rfl rfl rfl rfl rfl in_X8 (by decide) (Or.inl q348) a0.2 dX8_turns_36 fun h13 => ?_
        refine J.getc (κ' := 4) (i' := 0) (κ := 0) (k := 12) hx rfl rfl rfl rfl rfl in_X1 (by decide) (Or.inr ⟨_, j_nl q380 rfl⟩) h13.2 dX8_turns_39 fun h14 => ?_
        refine J.getc (κ' := 32) (i' := 0) (κ := 4) (k := 0) hx rfl rfl rfl rfl rfl in_X7 (by decide) (Or.inr ⟨_, j_nl q318 rfl⟩) h14.2 dX8_turns_42 fun h15 => ?_
        refine J.aload_n hx dX8_turns_45 rfl 0 rfl ?_
        refine J.getc (κ' := 4) (i' := (2 * i0 + 1)) (κ := 5) (k := 0) hx rfl rfl rfl rfl rfl in_X8 (by decide) (Or.inl q338) a0.2 dX8_turns_46 fun h16 => ?_
        refine J.geti (κ := 4) (k := 1) hx rfl rfl rfl in_X7 (by decide) (Or.inr ⟨_, j_nl q322 rfl⟩) h16.1 dX8_turns_49 fun v17 => ?_
        refine J.iconst (v := 1) hx dX8_turns_52 (by decide) ?_
        refine J.isub hx dX8_turns_53 ?_
        refine J.iload_n hx dX8_turns_54 rfl 1 rfl ?_
        refine J.isub hx dX8_turns_55 ?_
        refine J.iald (κ := 32) hx rfl rfl h15.1 dX8_turns_56 fun v19 => ?_
        refine J.iast (κ := 32) hx rfl rfl rfl h12.1 dX8_turns_57 fun w20 => ?_
        refine J.nmx fun v22 ev22 => ?_
        refine J.iinc (p := 1) (v := v22) (lv' := [(1, .int v22), (0, .ref (B.1 5 i0))]) hx dX8_turns_58 rfl (by rw [ev22]; rfl) (by decide) rfl ?_
        refine J.goto (tgt := 16) hx dX8_turns_61 (by decide) ?_
        exact J.sub [1, 0] rfl (ih v22 w20)
  refine J.sub [1, 0] rfl (hL16 _ ?_ jFU 0 w5)
  · intro w23
    refine J.aload_n hx dX8_turns_64 rfl 0 rfl ?_
    refine J.aload_n hx dX8_turns_65 rfl 0 rfl ?_
    refine J.getc (κ' := 4) (i' := (2 * i0 + 1)) (κ := 5) (k := 0) hx rfl rfl rfl rfl rfl in_X8 (by decide) (Or.inl q338) a0.2 dX8_turns_66 fun h24 => ?_
    refine J.getc (κ' := 32) (i' := (2 * i0 + 1)) (κ := 4) (k := 0) hx rfl rfl rfl rfl rfl in_X7 (by decide) (Or.inr ⟨_, j_nl q318 rfl⟩) h24.2 dX8_turns_69 fun h25 => ?_
    refine J.iconst (v := 0) hx dX8_turns_72 (by decide) ?_
    refine J.iald (κ := 32) hx rfl rfl h25.1 dX8_turns_73 fun v27 => ?_
    refine J.calli hx (fun r z1 z => j_callV (κ := 5) hx rfl rfl a0.1 (mt_X8_done a0 z) (lw_V q1078 q1080 qs20 q128 q1081) hd_X8_done rfl ⟨Nat.le_of_ble_eq_true rfl, Nat.le_of_ble_eq_true rfl⟩ (Nat.le_of_ble_eq_true rfl) dX8_turns_74) ⟨⟨rfl, rfl⟩, (Nat.le_of_ble_eq_true rfl), (Nat.le_of_ble_eq_true rfl)⟩ fun v28 w29 e30 => ?_
    exact J.iret hx rfl (Nat.le_of_ble_eq_true rfl) (Nat.le_of_ble_eq_true rfl) dX8_turns_77
theorem hd_X8_changes : yX8_changes.cls = RX8 ∧ yX8_changes.cls ≠ "java/lang/invoke/MethodHandle" ∧ yX8_changes.cls ≠ "java/lang/invoke/VarHandle" ∧ (parseMethodDescriptor yX8_changes.desc).map (fun d => d.parameters.length) = some 3 := by decide +kernel
def f_X8_changes_L17 (i0 : Nat) (i1 : Nat) (p2 : Int32) (p3 : Int32)  : Nat → Int32 → j_St → Option (Unit × j_St)
  | 0, _, _ => none
  | n17 + 1, v7, w8 => jlt (jgi w8 4 (2 * i0 + 1) 1) fun v10 => if v10 ≤ v7 then some ((), w8) else jbd v7 48 fun a16 => jlt (jgi w8 32 0 a16) fun v17 => jcb (f_Chg_of i1 v17 p2 p3 w8) fun v18 w19 => jbd v7 48 fun a22 => jlt (jsi w19 32 (2 * i0 + 1) a22 v18) fun w21 => jlt (v7 + 1) fun v23 => f_X8_changes_L17 i0 i1 p2 p3 n17 v23 w21
def f_X8_changes (i0 : Nat) (i1 : Nat) (p2 : Int32) (p3 : Int32) (w : j_St) : Option (Unit × j_St) := jcb (f_X7_becomes 0 (2 * i0 + 1) w) fun _ w5 => f_X8_changes_L17 i0 i1 p2 p3 jFU 0 w5
abbrev rm_X8_changes : Room := { frames := 4, cells := 0, slots := 0, locals := 81 }
set_option maxRecDepth 100000 in
set_option maxHeartbeats 4000000 in
theorem mt_X8_changes {g : j_G} {B : j_B} {i0 : Nat} {i1 : Nat} {p2 : Int32} {p3 : Int32} {w w' : j_St} (a0 : B.2.1 5 i0 ∧ B.2.2 5 i0) (b1 : B.2.1 13 i1 ∧ B.2.2 13 i1) {r : Unit} (h : f_X8_changes i0 i1 p2 p3 w = some (r, w')) : j_M g yX8_changes cX8_changes 5 none rm_X8_changes B [.ref (B.1 5 i0), .ref (B.1 13 i1), .int p2, .int p3] w w' (jrv r) := by
  refine j_met (rv := jrv) (by decide) (Nat.le_of_ble_eq_true rfl) (fun x hx => ?_) h
  unfold f_X8_changes
  refine J.sub (lv' := [(0, .ref (B.1 5 i0)), (1, .ref (B.1 13 i1)), (2, .int p2), (3, .int p3)]) [0, 1, 2, 3] rfl ?_
  refine J.fact (j_xb a0) fun a9 => ?_
  refine J.aload_n hx dX8_changes_0 rfl 0 rfl ?_
  refine J.getc (κ' := 0) (i' := 0) (κ := 5) (k := 5) hx rfl rfl rfl rfl rfl in_X8 (by decide) (Or.inl q348) a0.2 dX8_changes_1 fun h1 => ?_
  refine J.getc (κ' := 4) (i' := 0) (κ := 0) (k := 12) hx rfl rfl rfl rfl rfl in_X1 (by decide) (Or.inr ⟨_, j_nl q380 rfl⟩) h1.2 dX8_changes_4 fun h2 => ?_
  refine J.aload_n hx dX8_changes_7 rfl 0 rfl ?_
  refine J.getc (κ' := 4) (i' := (2 * i0 + 1)) (κ := 5) (k := 0) hx rfl rfl rfl rfl rfl in_X8 (by decide) (Or.inl q338) a0.2 dX8_changes_8 fun h3 => ?_
  refine J.callv hx (fun r z1 z => j_callV (κ := 4) hx rfl rfl h2.1 (mt_X7_becomes h2 h3 z) (lw_V q954 q955 q956 q127 q957) hd_X7_becomes rfl ⟨Nat.le_of_ble_eq_true rfl, Nat.le_of_ble_eq_true rfl⟩ (Nat.le_of_ble_eq_true rfl) dX8_changes_11) ⟨⟨rfl, rfl⟩, (Nat.le_of_ble_eq_true rfl), (Nat.le_of_ble_eq_true rfl)⟩ fun _ w5 e6 => ?_
  refine J.iconst (v := 0) hx dX8_changes_14 (by decide) ?_
  refine J.istore (lv' := [(4, .int 0), (0, .ref (B.1 5 i0)), (1, .ref (B.1 13 i1)), (2, .int p2), (3, .int p3)]) hx dX8_changes_15 (by decide) rfl ?_
  have hL17 : ∀ (n17 : Nat) (v7 : Int32) (w8 : j_St), J g x 5 B (j_Q g x B rm_X8_changes jrv) 0 0 (f_X8_changes_L17 i0 i1 p2 p3 n17 v7 w8) 17 [(0, .ref (B.1 5 i0)), (1, .ref (B.1 13 i1)), (2, .int p2), (3, .int p3), (4, .int v7)] [] w8 := by
    intro n17
    induction n17 with
    | zero =>
      intro v7 w8
      rw [f_X8_changes_L17]
      exact J.nne
    | succ n17 ih =>
      intro v7 w8
      rw [f_X8_changes_L17]
      refine J.iload hx dX8_changes_17 4 rfl ?_
      refine J.aload_n hx dX8_changes_19 rfl 0 rfl ?_
      refine J.getc (κ' := 4) (i' := (2 * i0 + 1)) (κ := 5) (k := 0) hx rfl rfl rfl rfl rfl in_X8 (by decide) (Or.inl q338) a0.2 dX8_changes_20 fun h9 => ?_
      refine J.geti (κ := 4) (k := 1) hx rfl rfl rfl in_X7 (by decide) (Or.inr ⟨_, j_nl q322 rfl⟩) h9.1 dX8_changes_23 fun v10 => ?_
      refine J.icmp_ge (tgt := 66) hx dX8_changes_26 (by decide) ?_ ?_
      · exact J.vret hx rfl (Nat.le_of_ble_eq_true rfl) (Nat.le_of_ble_eq_true rfl) dX8_changes_66
      · refine J.aload_n hx dX8_changes_29 rfl 0 rfl ?_
        refine J.getc (κ' := 4) (i' := (2 * i0 + 1)) (κ := 5) (k := 0) hx rfl rfl rfl rfl rfl in_X8 (by decide) (Or.inl q338) a0.2 dX8_changes_30 fun h11 => ?_
        refine J.getc (κ' := 32) (i' := (2 * i0 + 1)) (κ := 4) (k := 0) hx rfl rfl rfl rfl rfl in_X7 (by decide) (Or.inr ⟨_, j_nl q318 rfl⟩) h11.2 dX8_changes_33 fun h12 => ?_
        refine J.iload hx dX8_changes_36 4 rfl ?_
        refine J.aload_n hx dX8_changes_38 rfl 1 rfl ?_
        refine J.aload_n hx dX8_changes_39 rfl 0 rfl ?_
        refine J.getc (κ' := 0) (i' := 0) (κ := 5) (k := 5) hx rfl rfl rfl rfl rfl in_X8 (by decide) (Or.inl q348) a0.2 dX8_changes_40 fun h13 => ?_
        refine J.getc (κ' := 4) (i' := 0) (κ := 0) (k := 12) hx rfl rfl rfl rfl rfl in_X1 (by decide) (Or.inr ⟨_, j_nl q380 rfl⟩) h13.2 dX8_changes_43 fun h14 => ?_
        refine J.getc (κ' := 32) (i' := 0) (κ := 4) (k := 0) hx rfl rfl rfl rfl rfl in_X7 (by decide) (Or.inr ⟨_, j_nl q318 rfl⟩) h14.2 dX8_changes_46 fun h15 => ?_
        refine J.iload hx dX8_changes_49 4 rfl ?_
        refine J.iald (κ := 32) hx rfl rfl h15.1 dX8_changes_51 fun v17 => ?_
        refine J.iload_n hx dX8_changes_52 rfl 2 rfl ?_
        refine J.iload_n hx dX8_changes_53 rfl 3 rfl ?_
        refine J.calli hx (fun r z1 z => j_callChg hx a9 b1 z q1114 ⟨Nat.le_of_ble_eq_true rfl, Nat.le_of_ble_eq_true rfl⟩ (Nat.le_of_ble_eq_true rfl) dX8_changes_54) ⟨⟨rfl, rfl⟩, Nat.le_of_ble_eq_true rfl, Nat.le_of_ble_eq_true rfl⟩ fun v18 w19 e20 => ?_
        refine J.iast (κ := 32) hx rfl rfl rfl h12.1 dX8_changes_59 fun w21 => ?_
        refine J.nmx fun v23 ev23 => ?_
        refine J.iinc (p := 4) (v := v23) (lv' := [(4, .int v23), (0, .ref (B.1 5 i0)), (1, .ref (B.1 13 i1)), (2, .int p2), (3, .int p3)]) hx dX8_changes_60 rfl (by rw [ev23]; rfl) (by decide) rfl ?_
        refine J.goto (tgt := 17) hx dX8_changes_63 (by decide) ?_
        exact J.sub [1, 2, 3, 4, 0] rfl (ih v23 w21)
  refine J.sub [1, 2, 3, 4, 0] rfl (hL17 jFU 0 w5)
theorem hd_X8_clips : yX8_clips.cls = RX8 ∧ yX8_clips.cls ≠ "java/lang/invoke/MethodHandle" ∧ yX8_clips.cls ≠ "java/lang/invoke/VarHandle" ∧ (parseMethodDescriptor yX8_clips.desc).map (fun d => d.parameters.length) = some 1 := by decide +kernel
def f_X8_clips (i0 : Nat) (p1 : Int32) (w : j_St) : Option (Int32 × j_St) := jcb (f_X1_isIn p1.toInt64 0 999 w) fun v1 w2 => if v1 = 0 then some (1, w2) else jbd 0 3 fun a6 => jlt (3 * 0 + a6) fun v9 => jcb (f_X8_changes i0 v9 p1 1 w2) fun _ w12 => jcb (f_X8_less i0 w12) fun v14 w15 => jcb (f_X8_done i0 v14 w15) fun v17 w18 => some (v17, w18)
abbrev rm_X8_clips : Room := { frames := 5, cells := 0, slots := 0, locals := 105 }
set_option maxRecDepth 100000 in
set_option maxHeartbeats 4000000 in
theorem mt_X8_clips {g : j_G} {B : j_B} {i0 : Nat} {p1 : Int32} {w w' : j_St} (a0 : B.2.1 5 i0 ∧ B.2.2 5 i0) {r : Int32} (h : f_X8_clips i0 p1 w = some (r, w')) : j_M g yX8_clips cX8_clips 2 (some FieldType.int) rm_X8_clips B [.ref (B.1 5 i0), .int p1] w w' (jri r) := by
  refine j_met (rv := jri) (by decide) (Nat.le_of_ble_eq_true rfl) (fun x hx => ?_) h
  unfold f_X8_clips
  refine J.sub (lv' := [(0, .ref (B.1 5 i0)), (1, .int p1)]) [0, 1] rfl ?_
  refine J.iload_n hx dX8_clips_0 rfl 1 rfl ?_
  refine J.i2l hx dX8_clips_1 ?_
  refine J.lconst (v := 0) hx dX8_clips_2 (by decide) ?_
  refine J.ldc2 (v := 999) hx q1107 dX8_clips_3 ?_
  refine J.calli hx (fun r z1 z => j_callSN hx (mt_X1_isIn z) (lw_meth q443) (j_nl q1108 rfl) q442 q120 hd_X1_isIn.2 rfl ⟨Nat.le_of_ble_eq_true rfl, Nat.le_of_ble_eq_true rfl⟩ (Nat.le_of_ble_eq_true rfl) dX8_clips_6) ⟨⟨rfl, rfl⟩, (Nat.le_of_ble_eq_true rfl), (Nat.le_of_ble_eq_true rfl)⟩ fun v1 w2 e3 => ?_
  refine J.if_ne (tgt := 14) hx dX8_clips_9 (by decide) ?_ ?_
  · refine J.iconst (v := 1) hx dX8_clips_12 (by decide) ?_
    exact J.iret hx rfl (Nat.le_of_ble_eq_true rfl) (Nat.le_of_ble_eq_true rfl) dX8_clips_13
  · refine J.aload_n hx dX8_clips_14 rfl 0 rfl ?_
    refine J.aload_n hx dX8_clips_15 rfl 0 rfl ?_
    refine J.getc (κ' := 0) (i' := 0) (κ := 5) (k := 5) hx rfl rfl rfl rfl rfl in_X8 (by decide) (Or.inl q348) a0.2 dX8_clips_16 fun h4 => ?_
    refine J.getc (κ' := 25) (i' := 0) (κ := 0) (k := 1) hx rfl rfl rfl rfl rfl in_X1 (by decide) (Or.inr ⟨_, j_nl q366 rfl⟩) h4.2 dX8_clips_19 fun h5 => ?_
    refine J.iconst (v := 0) hx dX8_clips_22 (by decide) ?_
    refine J.aaldcn (κ' := 11) (m9 := 3) (κ := 25) hx rfl rfl rfl rfl (by decide) rfl rfl h5.2 dX8_clips_23 fun v9 h7 => ?_
    refine J.getc (κ' := 13) (i' := v9) (κ := 11) (k := 0) hx rfl rfl rfl rfl rfl in_X4 (by decide) (Or.inr ⟨_, j_nl q208 rfl⟩) h7.2 dX8_clips_24 fun h10 => ?_
    refine J.iload_n hx dX8_clips_27 rfl 1 rfl ?_
    refine J.iconst (v := 1) hx dX8_clips_28 (by decide) ?_
    refine J.callv hx (fun r z1 z => j_callV (κ := 5) hx rfl rfl a0.1 (mt_X8_changes a0 h10 z) (lw_V q1109 q1111 qs24 q128 q1112) hd_X8_changes rfl ⟨Nat.le_of_ble_eq_true rfl, Nat.le_of_ble_eq_true rfl⟩ (Nat.le_of_ble_eq_true rfl) dX8_clips_29) ⟨⟨rfl, rfl⟩, (Nat.le_of_ble_eq_true rfl), (Nat.le_of_ble_eq_true rfl)⟩ fun _ w12 e13 => ?_
    refine J.aload_n hx dX8_clips_32 rfl 0 rfl ?_
    refine J.aload_n hx dX8_clips_33 rfl 0 rfl ?_
    refine J.calli hx (fun r z1 z => j_callV (κ := 5) hx rfl rfl a0.1 (mt_X8_less a0 z) (lw_V q1095 q1097 qs23 q128 q1098) hd_X8_less rfl ⟨Nat.le_of_ble_eq_true rfl, Nat.le_of_ble_eq_true rfl⟩ (Nat.le_of_ble_eq_true rfl) dX8_clips_34) ⟨⟨rfl, rfl⟩, (Nat.le_of_ble_eq_true rfl), (Nat.le_of_ble_eq_true rfl)⟩ fun v14 w15 e16 => ?_
    refine J.calli hx (fun r z1 z => j_callV (κ := 5) hx rfl rfl a0.1 (mt_X8_done a0 z) (lw_V q1078 q1080 qs20 q128 q1081) hd_X8_done rfl ⟨Nat.le_of_ble_eq_true rfl, Nat.le_of_ble_eq_true rfl⟩ (Nat.le_of_ble_eq_true rfl) dX8_clips_37) ⟨⟨rfl, rfl⟩, (Nat.le_of_ble_eq_true rfl), (Nat.le_of_ble_eq_true rfl)⟩ fun v17 w18 e19 => ?_
    exact J.iret hx rfl (Nat.le_of_ble_eq_true rfl) (Nat.le_of_ble_eq_true rfl) dX8_clips_40
theorem hd_X8_lifts : yX8_lifts.cls = RX8 ∧ yX8_lifts.cls ≠ "java/lang/invoke/MethodHandle" ∧ yX8_lifts.cls ≠ "java/lang/invoke/VarHandle" ∧ (parseMethodDescriptor yX8_lifts.desc).map (fun d => d.parameters.length) = some 1 := by decide +kernel
def f_X8_lifts (i0 : Nat) (p1 : Int32) (w : j_St) : Option (Int32 × j_St) := jcb (f_X1_isIn p1.toInt64 (-999) 999 w) fun v1 w2 => if v1 = 0 then some (1, w2) else jbd 1 3 fun a6 => jlt (3 * 0 + a6) fun v9 => jcb (f_X8_changes i0 v9 p1 1 w2) fun _ w12 => jcb (f_X3_least_k4 (2 * i0 + 1) w12) fun v15 w16 => jcb (f_X8_done i0 v15 w16) fun v18 w19 => some (v18, w19)
abbrev rm_X8_lifts : Room := { frames := 5, cells := 0, slots := 0, locals := 105 }
set_option maxRecDepth 100000 in
set_option maxHeartbeats 4000000 in
theorem mt_X8_lifts {g : j_G} {B : j_B} {i0 : Nat} {p1 : Int32} {w w' : j_St} (a0 : B.2.1 5 i0 ∧ B.2.2 5 i0) {r : Int32} (h : f_X8_lifts i0 p1 w = some (r, w')) : j_M g yX8_lifts cX8_lifts 2 (some FieldType.int) rm_X8_lifts B [.ref (B.1 5 i0), .int p1] w w' (jri r) := by
  refine j_met (rv := jri) (by decide) (Nat.le_of_ble_eq_true rfl) (fun x hx => ?_) h
  unfold f_X8_lifts
  refine J.sub (lv' := [(0, .ref (B.1 5 i0)), (1, .int p1)]) [0, 1] rfl ?_
  refine J.iload_n hx dX8_lifts_0 rfl 1 rfl ?_
  refine J.i2l hx dX8_lifts_1 ?_
  refine J.ldc2 (v := (-999)) hx q1121 dX8_lifts_2 ?_
  refine J.ldc2 (v := 999) hx q1107 dX8_lifts_5 ?_
  refine J.calli hx (fun r z1 z => j_callSN hx (mt_X1_isIn z) (lw_meth q443) (j_nl q1108 rfl) q442 q120 hd_X1_isIn.2 rfl ⟨Nat.le_of_ble_eq_true rfl, Nat.le_of_ble_eq_true rfl⟩ (Nat.le_of_ble_eq_true rfl) dX8_lifts_8) ⟨⟨rfl, rfl⟩, (Nat.le_of_ble_eq_true rfl), (Nat.le_of_ble_eq_true rfl)⟩ fun v1 w2 e3 => ?_
  refine J.if_ne (tgt := 16) hx dX8_lifts_11 (by decide) ?_ ?_
  · refine J.iconst (v := 1) hx dX8_lifts_14 (by decide) ?_
    exact J.iret hx rfl (Nat.le_of_ble_eq_true rfl) (Nat.le_of_ble_eq_true rfl) dX8_lifts_15
  · refine J.aload_n hx dX8_lifts_16 rfl 0 rfl ?_
    refine J.aload_n hx dX8_lifts_17 rfl 0 rfl ?_
    refine J.getc (κ' := 0) (i' := 0) (κ := 5) (k := 5) hx rfl rfl rfl rfl rfl in_X8 (by decide) (Or.inl q348) a0.2 dX8_lifts_18 fun h4 => ?_
    refine J.getc (κ' := 25) (i' := 0) (κ := 0) (k := 1) hx rfl rfl rfl rfl rfl in_X1 (by decide) (Or.inr ⟨_, j_nl q366 rfl⟩) h4.2 dX8_lifts_21 fun h5 => ?_
    refine J.iconst (v := 1) hx dX8_lifts_24 (by decide) ?_
    refine J.aaldcn (κ' := 11) (m9 := 3) (κ := 25) hx rfl rfl rfl rfl (by decide) rfl rfl h5.2 dX8_lifts_25 fun v9 h7 => ?_
    refine J.getc (κ' := 13) (i' := v9) (κ := 11) (k := 0) hx rfl rfl rfl rfl rfl in_X4 (by decide) (Or.inr ⟨_, j_nl q208 rfl⟩) h7.2 dX8_lifts_26 fun h10 => ?_
    refine J.iload_n hx dX8_lifts_29 rfl 1 rfl ?_
    refine J.iconst (v := 1) hx dX8_lifts_30 (by decide) ?_
    refine J.callv hx (fun r z1 z => j_callV (κ := 5) hx rfl rfl a0.1 (mt_X8_changes a0 h10 z) (lw_V q1109 q1111 qs24 q128 q1112) hd_X8_changes rfl ⟨Nat.le_of_ble_eq_true rfl, Nat.le_of_ble_eq_true rfl⟩ (Nat.le_of_ble_eq_true rfl) dX8_lifts_31) ⟨⟨rfl, rfl⟩, (Nat.le_of_ble_eq_true rfl), (Nat.le_of_ble_eq_true rfl)⟩ fun _ w12 e13 => ?_
    refine J.aload_n hx dX8_lifts_34 rfl 0 rfl ?_
    refine J.aload_n hx dX8_lifts_35 rfl 0 rfl ?_
    refine J.getc (κ' := 4) (i' := (2 * i0 + 1)) (κ := 5) (k := 0) hx rfl rfl rfl rfl rfl in_X8 (by decide) (Or.inl q338) a0.2 dX8_lifts_36 fun h14 => ?_
    refine J.calli hx (fun r z1 z => j_callD (κ := 4) (nm := "least") (ds := "()I") hx rfl rfl h14.1 (mt_X3_least_k4 h14 z) (lw_meth q1034) (List.mem_of_getElem? (i := 2) rfl) (List.mem_of_getElem? (i := 1) rfl) (List.mem_of_getElem? (i := 0) rfl) q1032 q122 hd_X3_least.2.2.2 rfl ⟨Nat.le_of_ble_eq_true rfl, Nat.le_of_ble_eq_true rfl⟩ (Nat.le_of_ble_eq_true rfl) dX8_lifts_39) ⟨⟨rfl, rfl⟩, (Nat.le_of_ble_eq_true rfl), (Nat.le_of_ble_eq_true rfl)⟩ fun v15 w16 e17 => ?_
    refine J.calli hx (fun r z1 z => j_callV (κ := 5) hx rfl rfl a0.1 (mt_X8_done a0 z) (lw_V q1078 q1080 qs20 q128 q1081) hd_X8_done rfl ⟨Nat.le_of_ble_eq_true rfl, Nat.le_of_ble_eq_true rfl⟩ (Nat.le_of_ble_eq_true rfl) dX8_lifts_42) ⟨⟨rfl, rfl⟩, (Nat.le_of_ble_eq_true rfl), (Nat.le_of_ble_eq_true rfl)⟩ fun v18 w19 e20 => ?_
    exact J.iret hx rfl (Nat.le_of_ble_eq_true rfl) (Nat.le_of_ble_eq_true rfl) dX8_lifts_45
theorem hd_X8_scales : yX8_scales.cls = RX8 ∧ yX8_scales.cls ≠ "java/lang/invoke/MethodHandle" ∧ yX8_scales.cls ≠ "java/lang/invoke/VarHandle" ∧ (parseMethodDescriptor yX8_scales.desc).map (fun d => d.parameters.length) = some 2 := by decide +kernel
def f_X8_scales (i0 : Nat) (p1 : Int32) (p2 : Int32) (w : j_St) : Option (Int32 × j_St) := jcb (f_X1_isIn p1.toInt64 0 99 w) fun v1 w2 => if v1 = 0 then some (1, w2) else jcb (f_X1_isIn p2.toInt64 1 99 w2) fun v4 w5 => if v4 = 0 then some (1, w5) else jbd 2 3 fun a9 => jlt (3 * 0 + a9) fun v12 => jcb (f_X8_changes i0 v12 p1 p2 w5) fun _ w15 => jcb (f_X3_greatest_k4 (2 * i0 + 1) w15) fun v18 w19 => jcb (f_X8_done i0 v18 w19) fun v21 w22 => some (v21, w22)
abbrev rm_X8_scales : Room := { frames := 5, cells := 0, slots := 0, locals := 105 }
set_option maxRecDepth 100000 in
set_option maxHeartbeats 4000000 in
theorem mt_X8_scales {g : j_G} {B : j_B} {i0 : Nat} {p1 : Int32} {p2 : Int32} {w w' : j_St} (a0 : B.2.1 5 i0 ∧ B.2.2 5 i0) {r : Int32} (h : f_X8_scales i0 p1 p2 w = some (r, w')) : j_M g yX8_scales cX8_scales 3 (some FieldType.int) rm_X8_scales B [.ref (B.1 5 i0), .int p1, .int p2] w w' (jri r) := by
  refine j_met (rv := jri) (by decide) (Nat.le_of_ble_eq_true rfl) (fun x hx => ?_) h
  unfold f_X8_scales
  refine J.sub (lv' := [(0, .ref (B.1 5 i0)), (1, .int p1), (2, .int p2)]) [0, 1, 2] rfl ?_
  refine J.iload_n hx dX8_scales_0 rfl 1 rfl ?_
  refine J.i2l hx dX8_scales_1 ?_
  refine J.lconst (v := 0) hx dX8_scales_2 (by decide) ?_
  refine J.ldc2 (v := 99) hx q1126 dX8_scales_3 ?_
  refine J.calli hx (fun r z1 z => j_callSN hx (mt_X1_isIn z) (lw_meth q443) (j_nl q1108 rfl) q442 q120 hd_X1_isIn.2 rfl ⟨Nat.le_of_ble_eq_true rfl, Nat.le_of_ble_eq_true rfl⟩ (Nat.le_of_ble_eq_true rfl) dX8_scales_6) ⟨⟨rfl, rfl⟩, (Nat.le_of_ble_eq_true rfl), (Nat.le_of_ble_eq_true rfl)⟩ fun v1 w2 e3 => ?_
  refine J.if_eq (tgt := 24) hx dX8_scales_9 (by decide) ?_ ?_
  · refine J.iconst (v := 1) hx dX8_scales_24 (by decide) ?_
    exact J.iret hx rfl (Nat.le_of_ble_eq_true rfl) (Nat.le_of_ble_eq_true rfl) dX8_scales_25
  · refine J.iload_n hx dX8_scales_12 rfl 2 rfl ?_
    refine J.i2l hx dX8_scales_13 ?_
    refine J.lconst (v := 1) hx dX8_scales_14 (by decide) ?_
    refine J.ldc2 (v := 99) hx q1126 dX8_scales_15 ?_
    refine J.calli hx (fun r z1 z => j_callSN hx (mt_X1_isIn z) (lw_meth q443) (j_nl q1108 rfl) q442 q120 hd_X1_isIn.2 rfl ⟨Nat.le_of_ble_eq_true rfl, Nat.le_of_ble_eq_true rfl⟩ (Nat.le_of_ble_eq_true rfl) dX8_scales_18) ⟨⟨rfl, rfl⟩, (Nat.le_of_ble_eq_true rfl), (Nat.le_of_ble_eq_true rfl)⟩ fun v4 w5 e6 => ?_
    refine J.if_ne (tgt := 26) hx dX8_scales_21 (by decide) ?_ ?_
    · refine J.iconst (v := 1) hx dX8_scales_24 (by decide) ?_
      exact J.iret hx rfl (Nat.le_of_ble_eq_true rfl) (Nat.le_of_ble_eq_true rfl) dX8_scales_25
    · refine J.aload_n hx dX8_scales_26 rfl 0 rfl ?_
      refine J.aload_n hx dX8_scales_27 rfl 0 rfl ?_
      refine J.getc (κ' := 0) (i' := 0) (κ := 5) (k := 5) hx rfl rfl rfl rfl rfl in_X8 (by decide) (Or.inl q348) a0.2 dX8_scales_28 fun h7 => ?_
      refine J.getc (κ' := 25) (i' := 0) (κ := 0) (k := 1) hx rfl rfl rfl rfl rfl in_X1 (by decide) (Or.inr ⟨_, j_nl q366 rfl⟩) h7.2 dX8_scales_31 fun h8 => ?_
      refine J.iconst (v := 2) hx dX8_scales_34 (by decide) ?_
      refine J.aaldcn (κ' := 11) (m9 := 3) (κ := 25) hx rfl rfl rfl rfl (by decide) rfl rfl h8.2 dX8_scales_35 fun v12 h10 => ?_
      refine J.getc (κ' := 13) (i' := v12) (κ := 11) (k := 0) hx rfl rfl rfl rfl rfl in_X4 (by decide) (Or.inr ⟨_, j_nl q208 rfl⟩) h10.2 dX8_scales_36 fun h13 => ?_
      refine J.iload_n hx dX8_scales_39 rfl 1 rfl ?_
      refine J.iload_n hx dX8_scales_40 rfl 2 rfl ?_
      refine J.callv hx (fun r z1 z => j_callV (κ := 5) hx rfl rfl a0.1 (mt_X8_changes a0 h13 z) (lw_V q1109 q1111 qs24 q128 q1112) hd_X8_changes rfl ⟨Nat.le_of_ble_eq_true rfl, Nat.le_of_ble_eq_true rfl⟩ (Nat.le_of_ble_eq_true rfl) dX8_scales_41) ⟨⟨rfl, rfl⟩, (Nat.le_of_ble_eq_true rfl), (Nat.le_of_ble_eq_true rfl)⟩ fun _ w15 e16 => ?_
      refine J.aload_n hx dX8_scales_44 rfl 0 rfl ?_
      refine J.aload_n hx dX8_scales_45 rfl 0 rfl ?_
      refine J.getc (κ' := 4) (i' := (2 * i0 + 1)) (κ := 5) (k := 0) hx rfl rfl rfl rfl rfl in_X8 (by decide) (Or.inl q338) a0.2 dX8_scales_46 fun h17 => ?_
      refine J.calli hx (fun r z1 z => j_callD (κ := 4) (nm := "greatest") (ds := "()I") hx rfl rfl h17.1 (mt_X3_greatest_k4 h17 z) (lw_meth q1131) (List.mem_of_getElem? (i := 3) rfl) (List.mem_of_getElem? (i := 4) rfl) (List.mem_of_getElem? (i := 1) rfl) q1129 q122 hd_X3_greatest.2.2.2 rfl ⟨Nat.le_of_ble_eq_true rfl, Nat.le_of_ble_eq_true rfl⟩ (Nat.le_of_ble_eq_true rfl) dX8_scales_49) ⟨⟨rfl, rfl⟩, (Nat.le_of_ble_eq_true rfl), (Nat.le_of_ble_eq_true rfl)⟩ fun v18 w19 e20 => ?_
      refine J.calli hx (fun r z1 z => j_callV (κ := 5) hx rfl rfl a0.1 (mt_X8_done a0 z) (lw_V q1078 q1080 qs20 q128 q1081) hd_X8_done rfl ⟨Nat.le_of_ble_eq_true rfl, Nat.le_of_ble_eq_true rfl⟩ (Nat.le_of_ble_eq_true rfl) dX8_scales_52) ⟨⟨rfl, rfl⟩, (Nat.le_of_ble_eq_true rfl), (Nat.le_of_ble_eq_true rfl)⟩ fun v21 w22 e23 => ?_
      exact J.iret hx rfl (Nat.le_of_ble_eq_true rfl) (Nat.le_of_ble_eq_true rfl) dX8_scales_55
theorem hd_X8_isPlace : yX8_isPlace.cls = RX8 ∧ yX8_isPlace.cls ≠ "java/lang/invoke/MethodHandle" ∧ yX8_isPlace.cls ≠ "java/lang/invoke/VarHandle" ∧ (parseMethodDescriptor yX8_isPlace.desc).map (fun d => d.parameters.length) = some 1 := by decide +kernel
def f_X8_isPlace (i0 : Nat) (p1 : Int32) (w : j_St) : Option (Int32 × j_St) := jlt (jgi w 4 (2 * i0 + 1) 1) fun v2 => jcb (f_X1_isIn p1.toInt64 0 ((v2 - 1).toInt64) w) fun v3 w4 => if v3 = 0 ∨ v3 = 1 then some (v3, w4) else none
abbrev rm_X8_isPlace : Room := { frames := 1, cells := 0, slots := 0, locals := 25 }
set_option maxRecDepth 100000 in
set_option maxHeartbeats 4000000 in
theorem mt_X8_isPlace {g : j_G} {B : j_B} {i0 : Nat} {p1 : Int32} {w w' : j_St} (a0 : B.2.1 5 i0 ∧ B.2.2 5 i0) {r : Int32} (h : f_X8_isPlace i0 p1 w = some (r, w')) : j_M g yX8_isPlace cX8_isPlace 2 (some FieldType.boolean) rm_X8_isPlace B [.ref (B.1 5 i0), .int p1] w w' (jri r) := by
  refine j_met (rv := jri) (by decide) (Nat.le_of_ble_eq_true rfl) (fun x hx => ?_) h
  unfold f_X8_isPlace
  refine J.sub (lv' := [(0, .ref (B.1 5 i0)), (1, .int p1)]) [0, 1] rfl ?_
  refine J.iload_n hx dX8_isPlace_0 rfl 1 rfl ?_
  refine J.i2l hx dX8_isPlace_1 ?_
  refine J.lconst (v := 0) hx dX8_isPlace_2 (by decide) ?_
  refine J.aload_n hx dX8_isPlace_3 rfl 0 rfl ?_
  refine J.getc (κ' := 4) (i' := (2 * i0 + 1)) (κ := 5) (k := 0) hx rfl rfl rfl rfl rfl in_X8 (by decide) (Or.inl q338) a0.2 dX8_isPlace_4 fun h1 => ?_
  refine J.geti (κ := 4) (k := 1) hx rfl rfl rfl in_X7 (by decide) (Or.inr ⟨_, j_nl q322 rfl⟩) h1.1 dX8_isPlace_7 fun v2 => ?_
  refine J.iconst (v := 1) hx dX8_isPlace_10 (by decide) ?_
  refine J.isub hx dX8_isPlace_11 ?_
  refine J.i2l hx dX8_isPlace_12 ?_
  refine J.calli hx (fun r z1 z => j_callSN hx (mt_X1_isIn z) (lw_meth q443) (j_nl q1108 rfl) q442 q120 hd_X1_isIn.2 rfl ⟨Nat.le_of_ble_eq_true rfl, Nat.le_of_ble_eq_true rfl⟩ (Nat.le_of_ble_eq_true rfl) dX8_isPlace_13) ⟨⟨rfl, rfl⟩, (Nat.le_of_ble_eq_true rfl), (Nat.le_of_ble_eq_true rfl)⟩ fun v3 w4 e5 => ?_
  exact J.zretc hx rfl (Nat.le_of_ble_eq_true rfl) (Nat.le_of_ble_eq_true rfl) dX8_isPlace_16
theorem hd_X8_sets : yX8_sets.cls = RX8 ∧ yX8_sets.cls ≠ "java/lang/invoke/MethodHandle" ∧ yX8_sets.cls ≠ "java/lang/invoke/VarHandle" ∧ (parseMethodDescriptor yX8_sets.desc).map (fun d => d.parameters.length) = some 2 := by decide +kernel
def f_X8_sets (i0 : Nat) (p1 : Int32) (p2 : Int32) (w : j_St) : Option (Int32 × j_St) := jcb (f_X8_isPlace i0 p1 w) fun v1 w2 => if v1 = 0 then some (0, w2) else jcb (f_X1_isIn p2.toInt64 0 999 w2) fun v4 w5 => if v4 = 0 then some (1, w5) else jbd p1 48 fun a9 => jlt (jgi w5 32 (2 * i0 + 1) a9) fun v10 => jbd p1 48 fun a14 => jlt (jsi w5 32 (2 * i0 + 1) a14 p2) fun w13 => jcb (f_X8_done i0 v10 w13) fun v15 w16 => some (v15, w16)
abbrev rm_X8_sets : Room := { frames := 2, cells := 0, slots := 0, locals := 46 }
set_option maxRecDepth 100000 in
set_option maxHeartbeats 4000000 in
theorem mt_X8_sets {g : j_G} {B : j_B} {i0 : Nat} {p1 : Int32} {p2 : Int32} {w w' : j_St} (a0 : B.2.1 5 i0 ∧ B.2.2 5 i0) {r : Int32} (h : f_X8_sets i0 p1 p2 w = some (r, w')) : j_M g yX8_sets cX8_sets 4 (some FieldType.int) rm_X8_sets B [.ref (B.1 5 i0), .int p1, .int p2] w w' (jri r) := by
  refine j_met (rv := jri) (by decide) (Nat.le_of_ble_eq_true rfl) (fun x hx => ?_) h
  unfold f_X8_sets
  refine J.sub (lv' := [(0, .ref (B.1 5 i0)), (1, .int p1), (2, .int p2)]) [0, 1, 2] rfl ?_
  refine J.aload_n hx dX8_sets_0 rfl 0 rfl ?_
  refine J.iload_n hx dX8_sets_1 rfl 1 rfl ?_
  refine J.calli hx (fun r z1 z => j_callV (κ := 5) hx rfl rfl a0.1 (mt_X8_isPlace a0 z) (lw_V q1136 q1137 q1138 q128 q1139) hd_X8_isPlace rfl ⟨Nat.le_of_ble_eq_true rfl, Nat.le_of_ble_eq_true rfl⟩ (Nat.le_of_ble_eq_true rfl) dX8_sets_2) ⟨⟨rfl, rfl⟩, (Nat.le_of_ble_eq_true rfl), (Nat.le_of_ble_eq_true rfl)⟩ fun v1 w2 e3 => ?_
  refine J.if_ne (tgt := 10) hx dX8_sets_5 (by decide) ?_ ?_
  · refine J.iconst (v := 0) hx dX8_sets_8 (by decide) ?_
    exact J.iret hx rfl (Nat.le_of_ble_eq_true rfl) (Nat.le_of_ble_eq_true rfl) dX8_sets_9
  · refine J.iload_n hx dX8_sets_10 rfl 2 rfl ?_
    refine J.i2l hx dX8_sets_11 ?_
    refine J.lconst (v := 0) hx dX8_sets_12 (by decide) ?_
    refine J.ldc2 (v := 999) hx q1107 dX8_sets_13 ?_
    refine J.calli hx (fun r z1 z => j_callSN hx (mt_X1_isIn z) (lw_meth q443) (j_nl q1108 rfl) q442 q120 hd_X1_isIn.2 rfl ⟨Nat.le_of_ble_eq_true rfl, Nat.le_of_ble_eq_true rfl⟩ (Nat.le_of_ble_eq_true rfl) dX8_sets_16) ⟨⟨rfl, rfl⟩, (Nat.le_of_ble_eq_true rfl), (Nat.le_of_ble_eq_true rfl)⟩ fun v4 w5 e6 => ?_
    refine J.if_ne (tgt := 24) hx dX8_sets_19 (by decide) ?_ ?_
    · refine J.iconst (v := 1) hx dX8_sets_22 (by decide) ?_
      exact J.iret hx rfl (Nat.le_of_ble_eq_true rfl) (Nat.le_of_ble_eq_true rfl) dX8_sets_23
    · refine J.aload_n hx dX8_sets_24 rfl 0 rfl ?_
      refine J.getc (κ' := 4) (i' := (2 * i0 + 1)) (κ := 5) (k := 0) hx rfl rfl rfl rfl rfl in_X8 (by decide) (Or.inl q338) a0.2 dX8_sets_25 fun h7 => ?_
      refine J.getc (κ' := 32) (i' := (2 * i0 + 1)) (κ := 4) (k := 0) hx rfl rfl rfl rfl rfl in_X7 (by decide) (Or.inr ⟨_, j_nl q318 rfl⟩) h7.2 dX8_sets_28 fun h8 => ?_
      refine J.iload_n hx dX8_sets_31 rfl 1 rfl ?_
      refine J.iald (κ := 32) hx rfl rfl h8.1 dX8_sets_32 fun v10 => ?_
      refine J.istore_n (lv' := [(3, .int v10), (0, .ref (B.1 5 i0)), (1, .int p1), (2, .int p2)]) hx dX8_sets_33 rfl (by decide) rfl ?_
      refine J.aload_n hx dX8_sets_34 rfl 1 rfl ?_
      refine J.getc (κ' := 4) (i' := (2 * i0 + 1)) (κ := 5) (k := 0) hx rfl rfl rfl rfl rfl in_X8 (by decide) (Or.inl q338) a0.2 dX8_sets_35 fun h11 => ?_
      refine J.getc (κ' := 32) (i' := (2 * i0 + 1)) (κ := 4) (k := 0) hx rfl rfl rfl rfl rfl in_X7 (by decide) (Or.inr ⟨_, j_nl q318 rfl⟩) h11.2 dX8_sets_38 fun h12 => ?_
      refine J.iload_n hx dX8_sets_41 rfl 2 rfl ?_
      refine J.iload_n hx dX8_sets_42 rfl 3 rfl ?_
      refine J.iast (κ := 32) hx rfl rfl rfl h12.1 dX8_sets_43 fun w13 => ?_
      refine J.aload_n hx dX8_sets_44 rfl 1 rfl ?_
      refine J.iload_n hx dX8_sets_45 rfl 0 rfl ?_
      refine J.calli hx (fun r z1 z => j_callV (κ := 5) hx rfl rfl a0.1 (mt_X8_done a0 z) (lw_V q1078 q1080 qs20 q128 q1081) hd_X8_done rfl ⟨Nat.le_of_ble_eq_true rfl, Nat.le_of_ble_eq_true rfl⟩ (Nat.le_of_ble_eq_true rfl) dX8_sets_46) ⟨⟨rfl, rfl⟩, (Nat.le_of_ble_eq_true rfl), (Nat.le_of_ble_eq_true rfl)⟩ fun v15 w16 e17 => ?_
      exact J.iret hx rfl (Nat.le_of_ble_eq_true rfl) (Nat.le_of_ble_eq_true rfl) dX8_sets_49
theorem hd_X8_hushes : yX8_hushes.cls = RX8 ∧ yX8_hushes.cls ≠ "java/lang/invoke/MethodHandle" ∧ yX8_hushes.cls ≠ "java/lang/invoke/VarHandle" ∧ (parseMethodDescriptor yX8_hushes.desc).map (fun d => d.parameters.length) = some 1 := by decide +kernel
def f_X8_hushes (i0 : Nat) (p1 : Int32) (w : j_St) : Option (Int32 × j_St) := jcb (f_X1_isIn p1.toInt64 0 999 w) fun v1 w2 => if v1 = 0 then some (1, w2) else jlt (jgi w2 5 i0 2) fun v4 => jlt (jsi w2 5 i0 2 p1) fun w5 => jcb (f_X8_done i0 v4 w5) fun v6 w7 => some (v6, w7)
abbrev rm_X8_hushes : Room := { frames := 1, cells := 0, slots := 0, locals := 25 }
set_option maxRecDepth 100000 in
set_option maxHeartbeats 4000000 in
theorem mt_X8_hushes {g : j_G} {B : j_B} {i0 : Nat} {p1 : Int32} {w w' : j_St} (a0 : B.2.1 5 i0 ∧ B.2.2 5 i0) {r : Int32} (h : f_X8_hushes i0 p1 w = some (r, w')) : j_M g yX8_hushes cX8_hushes 3 (some FieldType.int) rm_X8_hushes B [.ref (B.1 5 i0), .int p1] w w' (jri r) := by
  refine j_met (rv := jri) (by decide) (Nat.le_of_ble_eq_true rfl) (fun x hx => ?_) h
  unfold f_X8_hushes
  refine J.sub (lv' := [(0, .ref (B.1 5 i0)), (1, .int p1)]) [0, 1] rfl ?_
  refine J.iload_n hx dX8_hushes_0 rfl 1 rfl ?_
  refine J.i2l hx dX8_hushes_1 ?_
  refine J.lconst (v := 0) hx dX8_hushes_2 (by decide) ?_
  refine J.ldc2 (v := 999) hx q1107 dX8_hushes_3 ?_
  refine J.calli hx (fun r z1 z => j_callSN hx (mt_X1_isIn z) (lw_meth q443) (j_nl q1108 rfl) q442 q120 hd_X1_isIn.2 rfl ⟨Nat.le_of_ble_eq_true rfl, Nat.le_of_ble_eq_true rfl⟩ (Nat.le_of_ble_eq_true rfl) dX8_hushes_6) ⟨⟨rfl, rfl⟩, (Nat.le_of_ble_eq_true rfl), (Nat.le_of_ble_eq_true rfl)⟩ fun v1 w2 e3 => ?_
  refine J.if_ne (tgt := 14) hx dX8_hushes_9 (by decide) ?_ ?_
  · refine J.iconst (v := 1) hx dX8_hushes_12 (by decide) ?_
    exact J.iret hx rfl (Nat.le_of_ble_eq_true rfl) (Nat.le_of_ble_eq_true rfl) dX8_hushes_13
  · refine J.aload_n hx dX8_hushes_14 rfl 0 rfl ?_
    refine J.geti (κ := 5) (k := 2) hx rfl rfl rfl in_X8 (by decide) (Or.inl q342) a0.1 dX8_hushes_15 fun v4 => ?_
    refine J.istore_n (lv' := [(2, .int v4), (0, .ref (B.1 5 i0)), (1, .int p1)]) hx dX8_hushes_18 rfl (by decide) rfl ?_
    refine J.aload_n hx dX8_hushes_19 rfl 1 rfl ?_
    refine J.iload_n hx dX8_hushes_20 rfl 2 rfl ?_
    refine J.puti (κ := 5) (k := 2) hx rfl rfl rfl in_X8 tyX8_ok nmX8 (by decide) (Or.inl q342) rfl rfl a0.1 ⟨rfl, rfl⟩ dX8_hushes_21 fun w5 => ?_
    refine J.aload_n hx dX8_hushes_24 rfl 1 rfl ?_
    refine J.iload_n hx dX8_hushes_25 rfl 0 rfl ?_
    refine J.calli hx (fun r z1 z => j_callV (κ := 5) hx rfl rfl a0.1 (mt_X8_done a0 z) (lw_V q1078 q1080 qs20 q128 q1081) hd_X8_done rfl ⟨Nat.le_of_ble_eq_true rfl, Nat.le_of_ble_eq_true rfl⟩ (Nat.le_of_ble_eq_true rfl) dX8_hushes_26) ⟨⟨rfl, rfl⟩, (Nat.le_of_ble_eq_true rfl), (Nat.le_of_ble_eq_true rfl)⟩ fun v6 w7 e8 => ?_
    exact J.iret hx rfl (Nat.le_of_ble_eq_true rfl) (Nat.le_of_ble_eq_true rfl) dX8_hushes_29
theorem hd_X8_cuts : yX8_cuts.cls = RX8 ∧ yX8_cuts.cls ≠ "java/lang/invoke/MethodHandle" ∧ yX8_cuts.cls ≠ "java/lang/invoke/VarHandle" ∧ (parseMethodDescriptor yX8_cuts.desc).map (fun d => d.parameters.length) = some 2 := by decide +kernel
def f_X8_cuts_L55 (i0 : Nat) (p1 : Int32) (p2 : Int32) (k87 : j_St → Option (Int32 × j_St)) : Nat → Int32 → j_St → Option (Int32 × j_St)
  | 0, _, _ => none
  | n55 + 1, v17, w18 => if p1 + p2 ≤ v17 then k87 w18 else jbd v17 48 fun a23 => jlt (jgi w18 32 0 a23) fun v24 => jcb (f_X7_add (2 * i0 + 1) v24 w18) fun _ w26 => jlt (v17 + 1) fun v28 => f_X8_cuts_L55 i0 p1 p2 k87 n55 v28 w26
def f_X8_cuts (i0 : Nat) (p1 : Int32) (p2 : Int32) (w : j_St) : Option (Int32 × j_St) := jcb (f_X8_isPlace i0 p1 w) fun v1 w2 => if v1 = 0 then some (0, w2) else jlt (jgi w2 4 (2 * i0 + 1) 1) fun v5 => jcb (f_X1_isIn p2.toInt64 1 ((v5 - p1).toInt64) w2) fun v6 w7 => if v6 = 0 then some (1, w7) else jcb (f_X7_becomes 0 (2 * i0 + 1) w7) fun _ w13 => jlt (jsi w13 4 (2 * i0 + 1) 1 0) fun w16 => f_X8_cuts_L55 i0 p1 p2 (fun (w29 : j_St) => jlt (jgi w29 4 0 1) fun v32 => jcb (f_X8_done i0 (v32 - p2) w29) fun v33 w34 => some (v33, w34)) jFU p1 w16
abbrev rm_X8_cuts : Room := { frames := 2, cells := 0, slots := 0, locals := 81 }
set_option maxRecDepth 100000 in
set_option maxHeartbeats 4000000 in
theorem mt_X8_cuts {g : j_G} {B : j_B} {i0 : Nat} {p1 : Int32} {p2 : Int32} {w w' : j_St} (a0 : B.2.1 5 i0 ∧ B.2.2 5 i0) {r : Int32} (h : f_X8_cuts i0 p1 p2 w = some (r, w')) : j_M g yX8_cuts cX8_cuts 4 (some FieldType.int) rm_X8_cuts B [.ref (B.1 5 i0), .int p1, .int p2] w w' (jri r) := by
  refine j_met (rv := jri) (by decide) (Nat.le_of_ble_eq_true rfl) (fun x hx => ?_) h
  unfold f_X8_cuts
  refine J.sub (lv' := [(0, .ref (B.1 5 i0)), (1, .int p1), (2, .int p2)]) [0, 1, 2] rfl ?_
  refine J.aload_n hx dX8_cuts_0 rfl 0 rfl ?_
  refine J.iload_n hx dX8_cuts_1 rfl 1 rfl ?_
  refine J.calli hx (fun r z1 z => j_callV (κ := 5) hx rfl rfl a0.1 (mt_X8_isPlace a0 z) (lw_V q1136 q1137 q1138 q128 q1139) hd_X8_isPlace rfl ⟨Nat.le_of_ble_eq_true rfl, Nat.le_of_ble_eq_true rfl⟩ (Nat.le_of_ble_eq_true rfl) dX8_cuts_2) ⟨⟨rfl, rfl⟩, (Nat.le_of_ble_eq_true rfl), (Nat.le_of_ble_eq_true rfl)⟩ fun v1 w2 e3 => ?_
  refine J.if_ne (tgt := 10) hx dX8_cuts_5 (by decide) ?_ ?_
  · refine J.iconst (v := 0) hx dX8_cuts_8 (by decide) ?_
    exact J.iret hx rfl (Nat.le_of_ble_eq_true rfl) (Nat.le_of_ble_eq_true rfl) dX8_cuts_9
  · refine J.iload_n hx dX8_cuts_10 rfl 2 rfl ?_
    refine J.i2l hx dX8_cuts_11 ?_
    refine J.lconst (v := 1) hx dX8_cuts_12 (by decide) ?_
    refine J.aload_n hx dX8_cuts_13 rfl 0 rfl ?_
    refine J.getc (κ' := 4) (i' := (2 * i0 + 1)) (κ := 5) (k := 0) hx rfl rfl rfl rfl rfl in_X8 (by decide) (Or.inl q338) a0.2 dX8_cuts_14 fun h4 => ?_
    refine J.geti (κ := 4) (k := 1) hx rfl rfl rfl in_X7 (by decide) (Or.inr ⟨_, j_nl q322 rfl⟩) h4.1 dX8_cuts_17 fun v5 => ?_
    refine J.iload_n hx dX8_cuts_20 rfl 1 rfl ?_
    refine J.isub hx dX8_cuts_21 ?_
    refine J.i2l hx dX8_cuts_22 ?_
    refine J.calli hx (fun r z1 z => j_callSN hx (mt_X1_isIn z) (lw_meth q443) (j_nl q1108 rfl) q442 q120 hd_X1_isIn.2 rfl ⟨Nat.le_of_ble_eq_true rfl, Nat.le_of_ble_eq_true rfl⟩ (Nat.le_of_ble_eq_true rfl) dX8_cuts_23) ⟨⟨rfl, rfl⟩, (Nat.le_of_ble_eq_true rfl), (Nat.le_of_ble_eq_true rfl)⟩ fun v6 w7 e8 => ?_
    refine J.if_ne (tgt := 31) hx dX8_cuts_26 (by decide) ?_ ?_
    · refine J.iconst (v := 1) hx dX8_cuts_29 (by decide) ?_
      exact J.iret hx rfl (Nat.le_of_ble_eq_true rfl) (Nat.le_of_ble_eq_true rfl) dX8_cuts_30
    · refine J.aload_n hx dX8_cuts_31 rfl 0 rfl ?_
      refine J.getc (κ' := 0) (i' := 0) (κ := 5) (k := 5) hx rfl rfl rfl rfl rfl in_X8 (by decide) (Or.inl q348) a0.2 dX8_cuts_32 fun h9 => ?_
      refine J.getc (κ' := 4) (i' := 0) (κ := 0) (k := 12) hx rfl rfl rfl rfl rfl in_X1 (by decide) (Or.inr ⟨_, j_nl q380 rfl⟩) h9.2 dX8_cuts_35 fun h10 => ?_
      refine J.aload_n hx dX8_cuts_38 rfl 0 rfl ?_
      refine J.getc (κ' := 4) (i' := (2 * i0 + 1)) (κ := 5) (k := 0) hx rfl rfl rfl rfl rfl in_X8 (by decide) (Or.inl q338) a0.2 dX8_cuts_39 fun h11 => ?_
      refine J.callv hx (fun r z1 z => j_callV (κ := 4) hx rfl rfl h10.1 (mt_X7_becomes h10 h11 z) (lw_V q954 q955 q956 q127 q957) hd_X7_becomes rfl ⟨Nat.le_of_ble_eq_true rfl, Nat.le_of_ble_eq_true rfl⟩ (Nat.le_of_ble_eq_true rfl) dX8_cuts_42) ⟨⟨rfl, rfl⟩, (Nat.le_of_ble_eq_true rfl), (Nat.le_of_ble_eq_true rfl)⟩ fun _ w13 e14 => ?_
      refine J.aload_n hx dX8_cuts_45 rfl 0 rfl ?_
      refine J.getc (κ' := 4) (i' := (2 * i0 + 1)) (κ := 5) (k := 0) hx rfl rfl rfl rfl rfl in_X8 (by decide) (Or.inl q338) a0.2 dX8_cuts_46 fun h15 => ?_
      refine J.iconst (v := 0) hx dX8_cuts_49 (by decide) ?_
      refine J.puti (κ := 4) (k := 1) hx rfl rfl rfl in_X7 tyX7_ok nmX7 (by decide) (Or.inr ⟨_, j_nl q322 rfl⟩) rfl rfl h15.1 ⟨rfl, rfl⟩ dX8_cuts_50 fun w16 => ?_
      refine J.iload_n hx dX8_cuts_53 rfl 1 rfl ?_
      refine J.istore_n (lv' := [(3, .int p1), (0, .ref (B.1 5 i0)), (1, .int p1), (2, .int p2)]) hx dX8_cuts_54 rfl (by decide) rfl ?_
      have hL55 : ∀ (k87 : j_St → Option (Int32 × j_St)) (hk87 : ∀  (w29 : j_St), J g x 4 B (j_Q g x B rm_X8_cuts jri) 0 0 (k87 w29) 87 [(0, .ref (B.1 5 i0)), (2, .int p2)] [] w29) (n55 : Nat) (v17 : Int32) (w18 : j_St), J g x 4 B (j_Q g x B rm_X8_cuts jri) 0 0 (f_X8_cuts_L55 i0 p1 p2 k87 n55 v17 w18) 55 [(0, .ref (B.1 5 i0)), (1, .int p1), (2, .int p2), (3, .int v17)] [] w18 := by
        intro k87 hk87 n55
        induction n55 with
        | zero =>
          intro v17 w18
          rw [f_X8_cuts_L55]
          exact J.nne
        | succ n55 ih =>
          intro v17 w18
          rw [f_X8_cuts_L55]
          refine J.iload_n hx dX8_cuts_55 rfl 3 rfl ?_
          refine J.iload_n hx dX8_cuts_56 rfl 1 rfl ?_
          refine J.iload_n hx dX8_cuts_57 rfl 2 rfl ?_
          refine J.iadd hx dX8_cuts_58 ?_
          refine J.icmp_ge (tgt := 87) hx dX8_cuts_59 (by decide) ?_ ?_
          · exact J.sub [0, 2] rfl (hk87 w18)
          · refine J.aload_n hx dX8_cuts_62 rfl 0 rfl ?_
            refine J.getc (κ' := 4) (i' := (2 * i0 + 1)) (κ := 5) (k := 0) hx rfl rfl rfl rfl rfl in_X8 (by decide) (Or.inl q338) a0.2 dX8_cuts_63 fun h19 => ?_
            refine J.aload_n hx dX8_cuts_66 rfl 0 rfl ?_
            refine J.getc (κ' := 0) (i' := 0) (κ := 5) (k := 5) hx rfl rfl rfl rfl rfl in_X8 (by decide) (Or.inl q348) a0.2 dX8_cuts_67 fun h20 => ?_
            refine J.getc (κ' := 4) (i' := 0) (κ := 0) (k := 12) hx rfl rfl rfl rfl rfl in_X1 (by decide) (Or.inr ⟨_, j_nl q380 rfl⟩) h20.2 dX8_cuts_70 fun h21 => ?_
            refine J.getc (κ' := 32) (i' := 0) (κ := 4) (k := 0) hx rfl rfl rfl rfl rfl in_X7 (by decide) (Or.inr ⟨_, j_nl q318 rfl⟩) h21.2 dX8_cuts_73 fun h22 => ?_
            refine J.iload_n hx dX8_cuts_76 rfl 3 rfl ?_
            refine J.iald (κ := 32) hx rfl rfl h22.1 dX8_cuts_77 fun v24 => ?_
            refine J.callv hx (fun r z1 z => j_callV (κ := 4) hx rfl rfl h19.1 (mt_X7_add h19 z) (lw_V q1148 q861 q862 q127 q863) hd_X7_add rfl ⟨Nat.le_of_ble_eq_true rfl, Nat.le_of_ble_eq_true rfl⟩ (Nat.le_of_ble_eq_true rfl) dX8_cuts_78) ⟨⟨rfl, rfl⟩, (Nat.le_of_ble_eq_true rfl), (Nat.le_of_ble_eq_true rfl)⟩ fun _ w26 e27 => ?_
            refine J.nmx fun v28 ev28 => ?_
            refine J.iinc (p := 3) (v := v28) (lv' := [(3, .int v28), (0, .ref (B.1 5 i0)), (1, .int p1), (2, .int p2)]) hx dX8_cuts_81 rfl (by rw [ev28]; rfl) (by decide) rfl ?_
            refine J.goto (tgt := 55) hx dX8_cuts_84 (by decide) ?_
            exact J.sub [1, 2, 3, 0] rfl (ih v28 w26)
      refine J.sub [1, 2, 3, 0] rfl (hL55 _ ?_ jFU p1 w16)
      · intro w29
        refine J.aload_n hx dX8_cuts_87 rfl 0 rfl ?_
        refine J.aload_n hx dX8_cuts_88 rfl 0 rfl ?_
        refine J.getc (κ' := 0) (i' := 0) (κ := 5) (k := 5) hx rfl rfl rfl rfl rfl in_X8 (by decide) (Or.inl q348) a0.2 dX8_cuts_89 fun h30 => ?_
        refine J.getc (κ' := 4) (i' := 0) (κ := 0) (k := 12) hx rfl rfl rfl rfl rfl in_X1 (by decide) (Or.inr ⟨_, j_nl q380 rfl⟩) h30.2 dX8_cuts_92 fun h31 => ?_
        refine J.geti (κ := 4) (k := 1) hx rfl rfl rfl in_X7 (by decide) (Or.inr ⟨_, j_nl q322 rfl⟩) h31.1 dX8_cuts_95 fun v32 => ?_
        refine J.iload_n hx dX8_cuts_98 rfl 1 rfl ?_
        refine J.isub hx dX8_cuts_99 ?_
        refine J.calli hx (fun r z1 z => j_callV (κ := 5) hx rfl rfl a0.1 (mt_X8_done a0 z) (lw_V q1078 q1080 qs20 q128 q1081) hd_X8_done rfl ⟨Nat.le_of_ble_eq_true rfl, Nat.le_of_ble_eq_true rfl⟩ (Nat.le_of_ble_eq_true rfl) dX8_cuts_100) ⟨⟨rfl, rfl⟩, (Nat.le_of_ble_eq_true rfl), (Nat.le_of_ble_eq_true rfl)⟩ fun v33 w34 e35 => ?_
        exact J.iret hx rfl (Nat.le_of_ble_eq_true rfl) (Nat.le_of_ble_eq_true rfl) dX8_cuts_103
theorem hd_X8_deed : yX8_deed.cls = RX8 ∧ yX8_deed.cls ≠ "java/lang/invoke/MethodHandle" ∧ yX8_deed.cls ≠ "java/lang/invoke/VarHandle" ∧ (parseMethodDescriptor yX8_deed.desc).map (fun d => d.parameters.length) = some 3 := by decide +kernel
def f_X8_deed (i0 : Nat) (p1 : Int32) (p2 : Int32) (p3 : Int32) (w : j_St) : Option (Int32 × j_St) := if p1 = 0 then jbd p1 2 fun a3 => jlt (2 * 0 + a3) fun v6 => jcb (f_X8_filters i0 v6 w) fun v8 w9 => some (v8, w9) else if p1 = 1 then jbd p1 2 fun a13 => jlt (2 * 0 + a13) fun v16 => jcb (f_X8_filters i0 v16 w) fun v18 w19 => some (v18, w19) else if p1 = 2 then jcb (f_X8_flattens i0 w) fun v21 w22 => some (v21, w22) else if p1 = 3 then jcb (f_X8_turns i0 w) fun v24 w25 => some (v24, w25) else if p1 = 4 then jcb (f_X8_clips i0 p2 w) fun v27 w28 => some (v27, w28) else if p1 = 5 then jcb (f_X8_lifts i0 p2 w) fun v30 w31 => some (v30, w31) else if p1 = 6 then jcb (f_X8_scales i0 p2 p3 w) fun v33 w34 => some (v33, w34) else if p1 = 7 then jcb (f_X8_sets i0 p2 p3 w) fun v36 w37 => some (v36, w37) else if p1 = 8 then jcb (f_X8_hushes i0 p2 w) fun v39 w40 => some (v39, w40) else jcb (f_X8_cuts i0 p2 p3 w) fun v42 w43 => some (v42, w43)
abbrev rm_X8_deed : Room := { frames := 6, cells := 0, slots := 0, locals := 139 }
set_option maxRecDepth 100000 in
set_option maxHeartbeats 4000000 in
theorem mt_X8_deed {g : j_G} {B : j_B} {i0 : Nat} {p1 : Int32} {p2 : Int32} {p3 : Int32} {w w' : j_St} (a0 : B.2.1 5 i0 ∧ B.2.2 5 i0) {r : Int32} (h : f_X8_deed i0 p1 p2 p3 w = some (r, w')) : j_M g yX8_deed cX8_deed 4 (some FieldType.int) rm_X8_deed B [.ref (B.1 5 i0), .int p1, .int p2, .int p3] w w' (jri r) := by
  refine j_met (rv := jri) (by decide) (Nat.le_of_ble_eq_true rfl) (fun x hx => ?_) h
  unfold f_X8_deed
  refine J.sub (lv' := [(0, .ref (B.1 5 i0)), (1, .int p1), (2, .int p2), (3, .int p3)]) [0, 1, 2, 3] rfl ?_
  refine J.iload_n hx dX8_deed_0 rfl 1 rfl ?_
  refine J.ite (fun e0 => ?_) (fun n0 => ?_)
  · refine J.tsw (off := 51) (tgt := 52) hx dX8_deed_1 (by rw [e0]; decide) (by rw [e0]; decide) (by rw [e0]; rfl) (by decide) ?_
    refine J.aload_n hx dX8_deed_52 rfl 0 rfl ?_
    refine J.aload_n hx dX8_deed_53 rfl 0 rfl ?_
    refine J.getc (κ' := 0) (i' := 0) (κ := 5) (k := 5) hx rfl rfl rfl rfl rfl in_X8 (by decide) (Or.inl q348) a0.2 dX8_deed_54 fun h1 => ?_
    refine J.getc (κ' := 24) (i' := 0) (κ := 0) (k := 0) hx rfl rfl rfl rfl rfl in_X1 (by decide) (Or.inr ⟨_, j_nl q364 rfl⟩) h1.2 dX8_deed_57 fun h2 => ?_
    refine J.iload_n hx dX8_deed_60 rfl 1 rfl ?_
    refine J.aaldcn (κ' := 10) (m9 := 2) (κ := 24) hx rfl rfl rfl rfl (by decide) rfl rfl h2.2 dX8_deed_61 fun v6 h4 => ?_
    refine J.getc (κ' := 12) (i' := v6) (κ := 10) (k := 0) hx rfl rfl rfl rfl rfl in_X2 (by decide) (Or.inr ⟨_, j_nl q182 rfl⟩) h4.2 dX8_deed_62 fun h7 => ?_
    refine J.calli hx (fun r z1 z => j_callV (κ := 5) hx rfl rfl a0.1 (mt_X8_filters a0 h7 z) (lw_V q984 q985 q986 q128 q987) hd_X8_filters rfl ⟨Nat.le_of_ble_eq_true rfl, Nat.le_of_ble_eq_true rfl⟩ (Nat.le_of_ble_eq_true rfl) dX8_deed_65) ⟨⟨rfl, rfl⟩, (Nat.le_of_ble_eq_true rfl), (Nat.le_of_ble_eq_true rfl)⟩ fun v8 w9 e10 => ?_
    refine J.goto (tgt := 133) hx dX8_deed_68 (by decide) ?_
    exact J.iret hx rfl (Nat.le_of_ble_eq_true rfl) (Nat.le_of_ble_eq_true rfl) dX8_deed_133
  · refine J.ite (fun e1 => ?_) (fun n1 => ?_)
    · refine J.tsw (off := 51) (tgt := 52) hx dX8_deed_1 (by rw [e1]; decide) (by rw [e1]; decide) (by rw [e1]; rfl) (by decide) ?_
      refine J.aload_n hx dX8_deed_52 rfl 0 rfl ?_
      refine J.aload_n hx dX8_deed_53 rfl 0 rfl ?_
      refine J.getc (κ' := 0) (i' := 0) (κ := 5) (k := 5) hx rfl rfl rfl rfl rfl in_X8 (by decide) (Or.inl q348) a0.2 dX8_deed_54 fun h11 => ?_
      refine J.getc (κ' := 24) (i' := 0) (κ := 0) (k := 0) hx rfl rfl rfl rfl rfl in_X1 (by decide) (Or.inr ⟨_, j_nl q364 rfl⟩) h11.2 dX8_deed_57 fun h12 => ?_
      refine J.iload_n hx dX8_deed_60 rfl 1 rfl ?_
      refine J.aaldcn (κ' := 10) (m9 := 2) (κ := 24) hx rfl rfl rfl rfl (by decide) rfl rfl h12.2 dX8_deed_61 fun v16 h14 => ?_
      refine J.getc (κ' := 12) (i' := v16) (κ := 10) (k := 0) hx rfl rfl rfl rfl rfl in_X2 (by decide) (Or.inr ⟨_, j_nl q182 rfl⟩) h14.2 dX8_deed_62 fun h17 => ?_
      refine J.calli hx (fun r z1 z => j_callV (κ := 5) hx rfl rfl a0.1 (mt_X8_filters a0 h17 z) (lw_V q984 q985 q986 q128 q987) hd_X8_filters rfl ⟨Nat.le_of_ble_eq_true rfl, Nat.le_of_ble_eq_true rfl⟩ (Nat.le_of_ble_eq_true rfl) dX8_deed_65) ⟨⟨rfl, rfl⟩, (Nat.le_of_ble_eq_true rfl), (Nat.le_of_ble_eq_true rfl)⟩ fun v18 w19 e20 => ?_
      refine J.goto (tgt := 133) hx dX8_deed_68 (by decide) ?_
      exact J.iret hx rfl (Nat.le_of_ble_eq_true rfl) (Nat.le_of_ble_eq_true rfl) dX8_deed_133
    · refine J.ite (fun e2 => ?_) (fun n2 => ?_)
      · refine J.tsw (off := 70) (tgt := 71) hx dX8_deed_1 (by rw [e2]; decide) (by rw [e2]; decide) (by rw [e2]; rfl) (by decide) ?_
        refine J.aload_n hx dX8_deed_71 rfl 0 rfl ?_
        refine J.calli hx (fun r z1 z => j_callV (κ := 5) hx rfl rfl a0.1 (mt_X8_flattens a0 z) (lw_V q1082 q1083 q1084 q128 q1085) hd_X8_flattens rfl ⟨Nat.le_of_ble_eq_true rfl, Nat.le_of_ble_eq_true rfl⟩ (Nat.le_of_ble_eq_true rfl) dX8_deed_72) ⟨⟨rfl, rfl⟩, (Nat.le_of_ble_eq_true rfl), (Nat.le_of_ble_eq_true rfl)⟩ fun v21 w22 e23 => ?_
        refine J.goto (tgt := 133) hx dX8_deed_75 (by decide) ?_
        exact J.iret hx rfl (Nat.le_of_ble_eq_true rfl) (Nat.le_of_ble_eq_true rfl) dX8_deed_133
      · refine J.ite (fun e3 => ?_) (fun n3 => ?_)
        · refine J.tsw (off := 77) (tgt := 78) hx dX8_deed_1 (by rw [e3]; decide) (by rw [e3]; decide) (by rw [e3]; rfl) (by decide) ?_
          refine J.aload_n hx dX8_deed_78 rfl 0 rfl ?_
          refine J.calli hx (fun r z1 z => j_callV (κ := 5) hx rfl rfl a0.1 (mt_X8_turns a0 z) (lw_V q1099 q1100 q1101 q128 q1102) hd_X8_turns rfl ⟨Nat.le_of_ble_eq_true rfl, Nat.le_of_ble_eq_true rfl⟩ (Nat.le_of_ble_eq_true rfl) dX8_deed_79) ⟨⟨rfl, rfl⟩, (Nat.le_of_ble_eq_true rfl), (Nat.le_of_ble_eq_true rfl)⟩ fun v24 w25 e26 => ?_
          refine J.goto (tgt := 133) hx dX8_deed_82 (by decide) ?_
          exact J.iret hx rfl (Nat.le_of_ble_eq_true rfl) (Nat.le_of_ble_eq_true rfl) dX8_deed_133
        · refine J.ite (fun e4 => ?_) (fun n4 => ?_)
          · refine J.tsw (off := 84) (tgt := 85) hx dX8_deed_1 (by rw [e4]; decide) (by rw [e4]; decide) (by rw [e4]; rfl) (by decide) ?_
            refine J.aload_n hx dX8_deed_85 rfl 0 rfl ?_
            refine J.iload_n hx dX8_deed_86 rfl 2 rfl ?_
            refine J.calli hx (fun r z1 z => j_callV (κ := 5) hx rfl rfl a0.1 (mt_X8_clips a0 z) (lw_V q1103 q1104 q1105 q128 q1106) hd_X8_clips rfl ⟨Nat.le_of_ble_eq_true rfl, Nat.le_of_ble_eq_true rfl⟩ (Nat.le_of_ble_eq_true rfl) dX8_deed_87) ⟨⟨rfl, rfl⟩, (Nat.le_of_ble_eq_true rfl), (Nat.le_of_ble_eq_true rfl)⟩ fun v27 w28 e29 => ?_
            refine J.goto (tgt := 133) hx dX8_deed_90 (by decide) ?_
            exact J.iret hx rfl (Nat.le_of_ble_eq_true rfl) (Nat.le_of_ble_eq_true rfl) dX8_deed_133
          · refine J.ite (fun e5 => ?_) (fun n5 => ?_)
            · refine J.tsw (off := 92) (tgt := 93) hx dX8_deed_1 (by rw [e5]; decide) (by rw [e5]; decide) (by rw [e5]; rfl) (by decide) ?_
              refine J.aload_n hx dX8_deed_93 rfl 0 rfl ?_
              refine J.iload_n hx dX8_deed_94 rfl 2 rfl ?_
              refine J.calli hx (fun r z1 z => j_callV (κ := 5) hx rfl rfl a0.1 (mt_X8_lifts a0 z) (lw_V q1117 q1118 q1119 q128 q1120) hd_X8_lifts rfl ⟨Nat.le_of_ble_eq_true rfl, Nat.le_of_ble_eq_true rfl⟩ (Nat.le_of_ble_eq_true rfl) dX8_deed_95) ⟨⟨rfl, rfl⟩, (Nat.le_of_ble_eq_true rfl), (Nat.le_of_ble_eq_true rfl)⟩ fun v30 w31 e32 => ?_
              refine J.goto (tgt := 133) hx dX8_deed_98 (by decide) ?_
              exact J.iret hx rfl (Nat.le_of_ble_eq_true rfl) (Nat.le_of_ble_eq_true rfl) dX8_deed_133
            · refine J.ite (fun e6 => ?_) (fun n6 => ?_)
              · refine J.tsw (off := 100) (tgt := 101) hx dX8_deed_1 (by rw [e6]; decide) (by rw [e6]; decide) (by rw [e6]; rfl) (by decide) ?_
                refine J.aload_n hx dX8_deed_101 rfl 0 rfl ?_
                refine J.iload_n hx dX8_deed_102 rfl 2 rfl ?_
                refine J.iload_n hx dX8_deed_103 rfl 3 rfl ?_
                refine J.calli hx (fun r z1 z => j_callV (κ := 5) hx rfl rfl a0.1 (mt_X8_scales a0 z) (lw_V q1122 q1123 q1124 q128 q1125) hd_X8_scales rfl ⟨Nat.le_of_ble_eq_true rfl, Nat.le_of_ble_eq_true rfl⟩ (Nat.le_of_ble_eq_true rfl) dX8_deed_104) ⟨⟨rfl, rfl⟩, (Nat.le_of_ble_eq_true rfl), (Nat.le_of_ble_eq_true rfl)⟩ fun v33 w34 e35 => ?_
                refine J.goto (tgt := 133) hx dX8_deed_107 (by decide) ?_
                exact J.iret hx rfl (Nat.le_of_ble_eq_true rfl) (Nat.le_of_ble_eq_true rfl) dX8_deed_133
              · refine J.ite (fun e7 => ?_) (fun n7 => ?_)
                · refine J.tsw (off := 109) (tgt := 110) hx dX8_deed_1 (by rw [e7]; decide) (by rw [e7]; decide) (by rw [e7]; rfl) (by decide) ?_
                  refine J.aload_n hx dX8_deed_110 rfl 0 rfl ?_
                  refine J.iload_n hx dX8_deed_111 rfl 2 rfl ?_
                  refine J.iload_n hx dX8_deed_112 rfl 3 rfl ?_
                  refine J.calli hx (fun r z1 z => j_callV (κ := 5) hx rfl rfl a0.1 (mt_X8_sets a0 z) (lw_V q1132 q1133 q1134 q128 q1135) hd_X8_sets rfl ⟨Nat.le_of_ble_eq_true rfl, Nat.le_of_ble_eq_true rfl⟩ (Nat.le_of_ble_eq_true rfl) dX8_deed_113) ⟨⟨rfl, rfl⟩, (Nat.le_of_ble_eq_true rfl), (Nat.le_of_ble_eq_true rfl)⟩ fun v36 w37 e38 => ?_
                  refine J.goto (tgt := 133) hx dX8_deed_116 (by decide) ?_
                  exact J.iret hx rfl (Nat.le_of_ble_eq_true rfl) (Nat.le_of_ble_eq_true rfl) dX8_deed_133
                · refine J.ite (fun e8 => ?_) (fun n8 => ?_)
                  · refine J.tsw (off := 118) (tgt := 119) hx dX8_deed_1 (by rw [e8]; decide) (by rw [e8]; decide) (by rw [e8]; rfl) (by decide) ?_
                    refine J.aload_n hx dX8_deed_119 rfl 0 rfl ?_
                    refine J.iload_n hx dX8_deed_120 rfl 2 rfl ?_
                    refine J.calli hx (fun r z1 z => j_callV (κ := 5) hx rfl rfl a0.1 (mt_X8_hushes a0 z) (lw_V q1140 q1141 q1142 q128 q1143) hd_X8_hushes rfl ⟨Nat.le_of_ble_eq_true rfl, Nat.le_of_ble_eq_true rfl⟩ (Nat.le_of_ble_eq_true rfl) dX8_deed_121) ⟨⟨rfl, rfl⟩, (Nat.le_of_ble_eq_true rfl), (Nat.le_of_ble_eq_true rfl)⟩ fun v39 w40 e41 => ?_
                    refine J.goto (tgt := 133) hx dX8_deed_124 (by decide) ?_
                    exact J.iret hx rfl (Nat.le_of_ble_eq_true rfl) (Nat.le_of_ble_eq_true rfl) dX8_deed_133
                  · have z0 := j_neT n0 (a := 0) (by decide)
                    have z1 := j_neT n1 (a := 1) (by decide)
                    have z2 := j_neT n2 (a := 2) (by decide)
                    have z3 := j_neT n3 (a := 3) (by decide)
                    have z4 := j_neT n4 (a := 4) (by decide)
                    have z5 := j_neT n5 (a := 5) (by decide)
                    have z6 := j_neT n6 (a := 6) (by decide)
                    have z7 := j_neT n7 (a := 7) (by decide)
                    have z8 := j_neT n8 (a := 8) (by decide)
                    refine J.tswD (tgt := 127) hx dX8_deed_1 (by omega) (by decide) ?_
                    refine J.aload_n hx dX8_deed_127 rfl 0 rfl ?_
                    refine J.iload_n hx dX8_deed_128 rfl 2 rfl ?_
                    refine J.iload_n hx dX8_deed_129 rfl 3 rfl ?_
                    refine J.calli hx (fun r z1 z => j_callV (κ := 5) hx rfl rfl a0.1 (mt_X8_cuts a0 z) (lw_V q1144 q1145 q1146 q128 q1147) hd_X8_cuts rfl ⟨Nat.le_of_ble_eq_true rfl, Nat.le_of_ble_eq_true rfl⟩ (Nat.le_of_ble_eq_true rfl) dX8_deed_130) ⟨⟨rfl, rfl⟩, (Nat.le_of_ble_eq_true rfl), (Nat.le_of_ble_eq_true rfl)⟩ fun v42 w43 e44 => ?_
                    exact J.iret hx rfl (Nat.le_of_ble_eq_true rfl) (Nat.le_of_ble_eq_true rfl) dX8_deed_133
theorem hd_X8_notes : yX8_notes.cls = RX8 ∧ yX8_notes.cls ≠ "java/lang/invoke/MethodHandle" ∧ yX8_notes.cls ≠ "java/lang/invoke/VarHandle" ∧ (parseMethodDescriptor yX8_notes.desc).map (fun d => d.parameters.length) = some 3 := by decide +kernel
def f_X8_notes (i0 : Nat) (p1 : Int32) (p2 : Int32) (p3 : Int32) (w : j_St) : Option (Unit × j_St) := jlt (jgi w 5 i0 3) fun v1 => jlt (fun (w7 : j_St) => jlt (jgi w7 5 i0 3) fun v9 => jbd (3 * v9) 180 fun a11 => jlt (jsi w7 33 i0 a11 p1) fun w10 => jlt (jgi w10 5 i0 3) fun v13 => jbd ((3 * v13) + 1) 180 fun a15 => jlt (jsi w10 33 i0 a15 p2) fun w14 => jlt (jgi w14 5 i0 3) fun v17 => jbd ((3 * v17) + 2) 180 fun a19 => jlt (jsi w14 33 i0 a19 p3) fun w18 => jlt (jgi w18 5 i0 3) fun v20 => jlt (jsi w18 5 i0 3 (v20 + 1)) fun w21 => some ((), w21)) fun K35 => if v1 = 60 then if 0 ≤ (3 : Int32).toInt ∧ 0 ≤ (0 : Int32).toInt ∧ 0 ≤ (177 : Int32).toInt ∧ (3 : Int32).toInt + (177 : Int32).toInt ≤ (180 : Int) ∧ (0 : Int32).toInt + (177 : Int32).toInt ≤ (180 : Int) then jlt (jcp w 33 i0 (3 : Int32).toInt.toNat 33 i0 (0 : Int32).toInt.toNat (177 : Int32).toInt.toNat) fun w4 => jlt (jgi w4 5 i0 3) fun v5 => jlt (jsi w4 5 i0 3 (v5 - 1)) fun w6 => K35 w6 else none else K35 w
abbrev rm_X8_notes : Room := { frames := 1, cells := 0, slots := 0, locals := 60 }
set_option maxRecDepth 100000 in
set_option maxHeartbeats 4000000 in
theorem mt_X8_notes {g : j_G} {B : j_B} {i0 : Nat} {p1 : Int32} {p2 : Int32} {p3 : Int32} {w w' : j_St} (a0 : B.2.1 5 i0 ∧ B.2.2 5 i0) {r : Unit} (h : f_X8_notes i0 p1 p2 p3 w = some (r, w')) : j_M g yX8_notes cX8_notes 4 none rm_X8_notes B [.ref (B.1 5 i0), .int p1, .int p2, .int p3] w w' (jrv r) := by
  refine j_met (rv := jrv) (by decide) (Nat.le_of_ble_eq_true rfl) (fun x hx => ?_) h
  unfold f_X8_notes
  refine J.sub (lv' := [(0, .ref (B.1 5 i0)), (1, .int p1), (2, .int p2), (3, .int p3)]) [0, 1, 2, 3] rfl ?_
  refine J.aload_n hx dX8_notes_0 rfl 0 rfl ?_
  refine J.geti (κ := 5) (k := 3) hx rfl rfl rfl in_X8 (by decide) (Or.inl q344) a0.1 dX8_notes_1 fun v1 => ?_
  refine J.bipush (v := 60) hx dX8_notes_4 (by decide) ?_
  refine J.fn (fun (K35 : j_St → Option (Unit × j_St)) => ∀  (w7 : j_St), J g x 4 B (j_Q g x B rm_X8_notes jrv) 0 0 (K35 w7) 35 [(0, .ref (B.1 5 i0)), (1, .int p1), (2, .int p2), (3, .int p3)] [] w7) ?_ ?_
  · intro w7
    refine J.aload_n hx dX8_notes_35 rfl 0 rfl ?_
    refine J.getc (κ' := 33) (i' := i0) (κ := 5) (k := 1) hx rfl rfl rfl rfl rfl in_X8 (by decide) (Or.inl q340) a0.2 dX8_notes_36 fun h8 => ?_
    refine J.iconst (v := 3) hx dX8_notes_39 (by decide) ?_
    refine J.aload_n hx dX8_notes_40 rfl 0 rfl ?_
    refine J.geti (κ := 5) (k := 3) hx rfl rfl rfl in_X8 (by decide) (Or.inl q344) a0.1 dX8_notes_41 fun v9 => ?_
    refine J.imul hx dX8_notes_44 ?_
    refine J.iload_n hx dX8_notes_45 rfl 1 rfl ?_
    refine J.iast (κ := 33) hx rfl rfl rfl h8.1 dX8_notes_46 fun w10 => ?_
    refine J.aload_n hx dX8_notes_47 rfl 0 rfl ?_
    refine J.getc (κ' := 33) (i' := i0) (κ := 5) (k := 1) hx rfl rfl rfl rfl rfl in_X8 (by decide) (Or.inl q340) a0.2 dX8_notes_48 fun h12 => ?_
    refine J.iconst (v := 3) hx dX8_notes_51 (by decide) ?_
    refine J.aload_n hx dX8_notes_52 rfl 0 rfl ?_
    refine J.geti (κ := 5) (k := 3) hx rfl rfl rfl in_X8 (by decide) (Or.inl q344) a0.1 dX8_notes_53 fun v13 => ?_
    refine J.imul hx dX8_notes_56 ?_
    refine J.iconst (v := 1) hx dX8_notes_57 (by decide) ?_
    refine J.iadd hx dX8_notes_58 ?_
    refine J.iload_n hx dX8_notes_59 rfl 2 rfl ?_
    refine J.iast (κ := 33) hx rfl rfl rfl h12.1 dX8_notes_60 fun w14 => ?_
    refine J.aload_n hx dX8_notes_61 rfl 0 rfl ?_
    refine J.getc (κ' := 33) (i' := i0) (κ := 5) (k := 1) hx rfl rfl rfl rfl rfl in_X8 (by decide) (Or.inl q340) a0.2 dX8_notes_62 fun h16 => ?_
    refine J.iconst (v := 3) hx dX8_notes_65 (by decide) ?_
    refine J.aload_n hx dX8_notes_66 rfl 0 rfl ?_
    refine J.geti (κ := 5) (k := 3) hx rfl rfl rfl in_X8 (by decide) (Or.inl q344) a0.1 dX8_notes_67 fun v17 => ?_
    refine J.imul hx dX8_notes_70 ?_
    refine J.iconst (v := 2) hx dX8_notes_71 (by decide) ?_
    refine J.iadd hx dX8_notes_72 ?_
    refine J.iload_n hx dX8_notes_73 rfl 3 rfl ?_
    refine J.iast (κ := 33) hx rfl rfl rfl h16.1 dX8_notes_74 fun w18 => ?_
    refine J.aload_n hx dX8_notes_75 rfl 0 rfl ?_
    refine J.dup hx dX8_notes_76 rfl ?_
    refine J.geti (κ := 5) (k := 3) hx rfl rfl rfl in_X8 (by decide) (Or.inl q344) a0.1 dX8_notes_77 fun v20 => ?_
    refine J.iconst (v := 1) hx dX8_notes_80 (by decide) ?_
    refine J.iadd hx dX8_notes_81 ?_
    refine J.puti (κ := 5) (k := 3) hx rfl rfl rfl in_X8 tyX8_ok nmX8 (by decide) (Or.inl q344) rfl rfl a0.1 ⟨rfl, rfl⟩ dX8_notes_82 fun w21 => ?_
    exact J.vret hx rfl (Nat.le_of_ble_eq_true rfl) (Nat.le_of_ble_eq_true rfl) dX8_notes_85
  · intro K35 hK35
    refine J.icmp_ne (tgt := 35) hx dX8_notes_6 (by decide) ?_ ?_
    · refine J.aload_n hx dX8_notes_9 rfl 0 rfl ?_
      refine J.getc (κ' := 33) (i' := i0) (κ := 5) (k := 1) hx rfl rfl rfl rfl rfl in_X8 (by decide) (Or.inl q340) a0.2 dX8_notes_10 fun h2 => ?_
      refine J.iconst (v := 3) hx dX8_notes_13 (by decide) ?_
      refine J.aload_n hx dX8_notes_14 rfl 0 rfl ?_
      refine J.getc (κ' := 33) (i' := i0) (κ := 5) (k := 1) hx rfl rfl rfl rfl rfl in_X8 (by decide) (Or.inl q340) a0.2 dX8_notes_15 fun h3 => ?_
      refine J.iconst (v := 0) hx dX8_notes_18 (by decide) ?_
      refine J.sipush (v := 177) hx dX8_notes_19 (by decide) ?_
      refine J.acopy (κ := 33) (κ' := 33) hx rfl rfl rfl rfl rfl h2.1 h3.1 q979 q588 q587 q138 (Nat.le_of_ble_eq_true rfl) (Nat.le_of_ble_eq_true rfl) (Nat.le_of_ble_eq_true rfl) dX8_notes_22 fun w4 => ?_
      refine J.aload_n hx dX8_notes_25 rfl 0 rfl ?_
      refine J.dup hx dX8_notes_26 rfl ?_
      refine J.geti (κ := 5) (k := 3) hx rfl rfl rfl in_X8 (by decide) (Or.inl q344) a0.1 dX8_notes_27 fun v5 => ?_
      refine J.iconst (v := 1) hx dX8_notes_30 (by decide) ?_
      refine J.isub hx dX8_notes_31 ?_
      refine J.puti (κ := 5) (k := 3) hx rfl rfl rfl in_X8 tyX8_ok nmX8 (by decide) (Or.inl q344) rfl rfl a0.1 ⟨rfl, rfl⟩ dX8_notes_32 fun w6 => ?_
      exact J.sub [0, 1, 2, 3] rfl (hK35 w6)
    · exact J.sub [0, 1, 2, 3] rfl (hK35 w)
