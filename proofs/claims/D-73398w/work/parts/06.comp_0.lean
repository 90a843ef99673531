theorem hd_X6_begins : yX6_begins.cls = RX6 ∧ yX6_begins.cls ≠ "java/lang/invoke/MethodHandle" ∧ yX6_begins.cls ≠ "java/lang/invoke/VarHandle" ∧ (parseMethodDescriptor yX6_begins.desc).map (fun d => d.parameters.length) = some 3 := by decide +kernel
def f_X6_begins (i0 : Nat) (p1 : Int32) (p2 : Int32) (p3 : Int32) (w : j_St) : Option (Unit × j_St) := jlt (jsi w 3 i0 0 p1) fun w1 => jlt (jsi w1 3 i0 1 p2) fun w2 => jlt (jsi w2 3 i0 4 p3) fun w3 => jlt (jsi w3 3 i0 2 (-1)) fun w4 => jlt (jsr w4 3 i0 5 none) fun w5 => some ((), w5)
abbrev rm_X6_begins : Room := { frames := 0, cells := 0, slots := 0, locals := 0 }
set_option maxRecDepth 100000 in
set_option maxHeartbeats 4000000 in
theorem mt_X6_begins {g : j_G} {B : j_B} {i0 : Nat} {p1 : Int32} {p2 : Int32} {p3 : Int32} {w w' : j_St} (a0 : B.2.1 3 i0 ∧ B.2.2 3 i0) {r : Unit} (h : f_X6_begins i0 p1 p2 p3 w = some (r, w')) : j_M g yX6_begins cX6_begins 4 (some (FieldType.object "TracePeaks$Peak")) rm_X6_begins B [.ref (B.1 3 i0), .int p1, .int p2, .int p3] w w' ((fun _ : Unit => some (.ref (B.1 3 i0))) r) := by
  refine j_met (rv := (fun _ : Unit => some (.ref (B.1 3 i0)))) (by decide) (Nat.le_of_ble_eq_true rfl) (fun x hx => ?_) h
  unfold f_X6_begins
  refine J.sub (lv' := [(0, .ref (B.1 3 i0)), (1, .int p1), (2, .int p2), (3, .int p3)]) [0, 1, 2, 3] rfl ?_
  refine J.aload_n hx dX6_begins_0 rfl 0 rfl ?_
  refine J.iload_n hx dX6_begins_1 rfl 1 rfl ?_
  refine J.puti (κ := 3) (k := 0) hx rfl rfl rfl in_X6 tyX6_ok nmX6 (by decide) (Or.inl q236) rfl rfl a0.1 ⟨rfl, rfl⟩ dX6_begins_2 fun w1 => ?_
  refine J.aload_n hx dX6_begins_5 rfl 0 rfl ?_
  refine J.iload_n hx dX6_begins_6 rfl 2 rfl ?_
  refine J.puti (κ := 3) (k := 1) hx rfl rfl rfl in_X6 tyX6_ok nmX6 (by decide) (Or.inl q240) rfl rfl a0.1 ⟨rfl, rfl⟩ dX6_begins_7 fun w2 => ?_
  refine J.aload_n hx dX6_begins_10 rfl 0 rfl ?_
  refine J.iload_n hx dX6_begins_11 rfl 3 rfl ?_
  refine J.puti (κ := 3) (k := 4) hx rfl rfl rfl in_X6 tyX6_ok nmX6 (by decide) (Or.inl q249) rfl rfl a0.1 ⟨rfl, rfl⟩ dX6_begins_12 fun w3 => ?_
  refine J.aload_n hx dX6_begins_15 rfl 0 rfl ?_
  refine J.iconst (v := (-1)) hx dX6_begins_16 (by decide) ?_
  refine J.puti (κ := 3) (k := 2) hx rfl rfl rfl in_X6 tyX6_ok nmX6 (by decide) (Or.inl q243) rfl rfl a0.1 ⟨rfl, rfl⟩ dX6_begins_17 fun w4 => ?_
  refine J.aload_n hx dX6_begins_20 rfl 0 rfl ?_
  refine J.null (ad := fun _ => 0) hx dX6_begins_21 ?_
  refine J.putr (κ' := 3) (v := none) (κ := 3) (k := 5) hx rfl rfl rfl rfl in_X6 tyX6_ok nmX6 (by decide) (Or.inl q251) rfl rfl a0.1 (fun _ => ⟨rfl, rfl, rfl, rfl⟩) j_nn dX6_begins_22 fun w5 => ?_
  refine J.aload_n hx dX6_begins_25 rfl 0 rfl ?_
  exact J.thisret hx rfl (Or.inl ⟨_, rfl⟩) (Nat.le_of_ble_eq_true rfl) (Nat.le_of_ble_eq_true rfl) dX6_begins_26
theorem hd_X6_dies : yX6_dies.cls = RX6 ∧ yX6_dies.cls ≠ "java/lang/invoke/MethodHandle" ∧ yX6_dies.cls ≠ "java/lang/invoke/VarHandle" ∧ (parseMethodDescriptor yX6_dies.desc).map (fun d => d.parameters.length) = some 3 := by decide +kernel
def f_X6_dies (i0 : Nat) (p1 : Int32) (p2 : Int32) (q3 : Option Nat) (w : j_St) : Option (Unit × j_St) := jlt (jsi w 3 i0 2 p1) fun w1 => jlt (jsi w1 3 i0 3 p2) fun w2 => jlt (jsr w2 3 i0 5 q3) fun w3 => some ((), w3)
abbrev rm_X6_dies : Room := { frames := 0, cells := 0, slots := 0, locals := 0 }
set_option maxRecDepth 100000 in
set_option maxHeartbeats 4000000 in
theorem mt_X6_dies {g : j_G} {B : j_B} {i0 : Nat} {p1 : Int32} {p2 : Int32} {q3 : Option Nat} {w w' : j_St} (a0 : B.2.1 3 i0 ∧ B.2.2 3 i0) (b3 : ∀ q, q3 = some q → B.2.1 3 q ∧ B.2.2 3 q) {r : Unit} (h : f_X6_dies i0 p1 p2 q3 w = some (r, w')) : j_M g yX6_dies cX6_dies 4 none rm_X6_dies B [.ref (B.1 3 i0), .int p1, .int p2, va_re (B.1 3) q3] w w' (jrv r) := by
  refine j_met (rv := jrv) (by decide) (by simp [lg_sl, va_re_cat, jct_i, jct_l, jct_r, jct_n]) (fun x hx => ?_) h
  unfold f_X6_dies
  rw [show lv_args 0 [.ref (B.1 3 i0), .int p1, .int p2, va_re (B.1 3) q3] = [(0, .ref (B.1 3 i0)), (1, .int p1), (2, .int p2), (3, va_re (B.1 3) q3)] from by simp [lv_args, va_re_cat, jct_i, jct_l, jct_r, jct_n]]
  refine J.sub (lv' := [(0, .ref (B.1 3 i0)), (1, .int p1), (2, .int p2), (3, va_re (B.1 3) q3)]) [0, 1, 2, 3] rfl ?_
  refine J.aload_n hx dX6_dies_0 rfl 0 rfl ?_
  refine J.iload_n hx dX6_dies_1 rfl 1 rfl ?_
  refine J.puti (κ := 3) (k := 2) hx rfl rfl rfl in_X6 tyX6_ok nmX6 (by decide) (Or.inl q243) rfl rfl a0.1 ⟨rfl, rfl⟩ dX6_dies_2 fun w1 => ?_
  refine J.aload_n hx dX6_dies_5 rfl 0 rfl ?_
  refine J.iload_n hx dX6_dies_6 rfl 2 rfl ?_
  refine J.puti (κ := 3) (k := 3) hx rfl rfl rfl in_X6 tyX6_ok nmX6 (by decide) (Or.inl q245) rfl rfl a0.1 ⟨rfl, rfl⟩ dX6_dies_7 fun w2 => ?_
  refine J.aload_n hx dX6_dies_10 rfl 0 rfl ?_
  refine J.aload_nq hx dX6_dies_11 rfl 3 rfl ?_
  refine J.putr (κ' := 3) (v := q3) (κ := 3) (k := 5) hx rfl rfl rfl rfl in_X6 tyX6_ok nmX6 (by decide) (Or.inl q251) rfl rfl a0.1 (fun _ => ⟨rfl, rfl, rfl, rfl⟩) b3 dX6_dies_12 fun w3 => ?_
  exact J.vret hx rfl (Nat.le_of_ble_eq_true rfl) (Nat.le_of_ble_eq_true rfl) dX6_dies_15
theorem hd_X6_persistence : yX6_persistence.cls = RX6 ∧ yX6_persistence.cls ≠ "java/lang/invoke/MethodHandle" ∧ yX6_persistence.cls ≠ "java/lang/invoke/VarHandle" ∧ (parseMethodDescriptor yX6_persistence.desc).map (fun d => d.parameters.length) = some 0 := by decide +kernel
def f_X6_persistence (i0 : Nat) (w : j_St) : Option (Int32 × j_St) := jlt (jgi w 3 i0 1) fun v1 => jlt (jgi w 3 i0 3) fun v2 => some (v1 - v2, w)
abbrev rm_X6_persistence : Room := { frames := 0, cells := 0, slots := 0, locals := 0 }
set_option maxRecDepth 100000 in
set_option maxHeartbeats 4000000 in
theorem mt_X6_persistence {g : j_G} {B : j_B} {i0 : Nat} {w w' : j_St} (a0 : B.2.1 3 i0 ∧ B.2.2 3 i0) {r : Int32} (h : f_X6_persistence i0 w = some (r, w')) : j_M g yX6_persistence cX6_persistence 1 (some FieldType.int) rm_X6_persistence B [.ref (B.1 3 i0)] w w' (jri r) := by
  refine j_met (rv := jri) (by decide) (Nat.le_of_ble_eq_true rfl) (fun x hx => ?_) h
  unfold f_X6_persistence
  refine J.sub (lv' := [(0, .ref (B.1 3 i0))]) [0] rfl ?_
  refine J.aload_n hx dX6_persistence_0 rfl 0 rfl ?_
  refine J.geti (κ := 3) (k := 1) hx rfl rfl rfl in_X6 (by decide) (Or.inl q240) a0.1 dX6_persistence_1 fun v1 => ?_
  refine J.aload_n hx dX6_persistence_4 rfl 0 rfl ?_
  refine J.geti (κ := 3) (k := 3) hx rfl rfl rfl in_X6 (by decide) (Or.inl q245) a0.1 dX6_persistence_5 fun v2 => ?_
  refine J.isub hx dX6_persistence_8 ?_
  exact J.iret hx rfl (Nat.le_of_ble_eq_true rfl) (Nat.le_of_ble_eq_true rfl) dX6_persistence_9
theorem hd_X6_isAhead : yX6_isAhead.cls = RX6 ∧ yX6_isAhead.cls ≠ "java/lang/invoke/MethodHandle" ∧ yX6_isAhead.cls ≠ "java/lang/invoke/VarHandle" ∧ (parseMethodDescriptor yX6_isAhead.desc).map (fun d => d.parameters.length) = some 1 := by decide +kernel
def f_X6_isAhead (i0 : Nat) (q1 : Option Nat) (w : j_St) : Option (Int32 × j_St) := jlt (jgi w 3 i0 2) fun v1 => jlt (fun (w19 : j_St) => jlt (jgi w19 3 i0 2) fun v20 => if v20 = (-1) then some (1, w19) else some (0, w19)) fun K16 => if v1 = (-1) then K16 w else job q1 fun y2 => jlt (jgi w 3 y2 2) fun v4 => if v4 = (-1) then K16 w else jcb (f_X6_persistence i0 w) fun v5 w6 => jcb (f_X6_persistence y2 w6) fun v8 w9 => if v5 = v8 then jlt (jgi w9 3 i0 0) fun v11 => jlt (jgi w9 3 y2 0) fun v12 => if v12 ≤ v11 then some (0, w9) else some (1, w9) else jcb (f_X6_persistence i0 w9) fun v13 w14 => jcb (f_X6_persistence y2 w14) fun v16 w17 => if v13 ≤ v16 then some (0, w17) else some (1, w17)
abbrev rm_X6_isAhead : Room := { frames := 1, cells := 0, slots := 0, locals := 20 }
set_option maxRecDepth 100000 in
set_option maxHeartbeats 4000000 in
theorem mt_X6_isAhead {g : j_G} {B : j_B} {i0 : Nat} {q1 : Option Nat} {w w' : j_St} (a0 : B.2.1 3 i0 ∧ B.2.2 3 i0) (b1 : ∀ q, q1 = some q → B.2.1 3 q ∧ B.2.2 3 q) {r : Int32} (h : f_X6_isAhead i0 q1 w = some (r, w')) : j_M g yX6_isAhead cX6_isAhead 2 (some FieldType.boolean) rm_X6_isAhead B [.ref (B.1 3 i0), va_re (B.1 3) q1] w w' (jri r) := by
  refine j_met (rv := jri) (by decide) (by simp [lg_sl, va_re_cat, jct_i, jct_l, jct_r, jct_n]) (fun x hx => ?_) h
  unfold f_X6_isAhead
  rw [show lv_args 0 [.ref (B.1 3 i0), va_re (B.1 3) q1] = [(0, .ref (B.1 3 i0)), (1, va_re (B.1 3) q1)] from by simp [lv_args, va_re_cat, jct_i, jct_l, jct_r, jct_n]]
  refine J.sub (lv' := [(0, .ref (B.1 3 i0)), (1, va_re (B.1 3) q1)]) [0, 1] rfl ?_
  refine J.aload_n hx dX6_isAhead_0 rfl 0 rfl ?_
  refine J.geti (κ := 3) (k := 2) hx rfl rfl rfl in_X6 (by decide) (Or.inl q243) a0.1 dX6_isAhead_1 fun v1 => ?_
  refine J.iconst (v := (-1)) hx dX6_isAhead_4 (by decide) ?_
  refine J.fn (fun (K16 : j_St → Option (Int32 × j_St)) => ∀  (w19 : j_St), J g x 2 B (j_Q g x B rm_X6_isAhead jri) 0 0 (K16 w19) 16 [(0, .ref (B.1 3 i0))] [] w19) ?_ ?_
  · intro w19
    refine J.aload_n hx dX6_isAhead_16 rfl 0 rfl ?_
    refine J.geti (κ := 3) (k := 2) hx rfl rfl rfl in_X6 (by decide) (Or.inl q243) a0.1 dX6_isAhead_17 fun v20 => ?_
    refine J.iconst (v := (-1)) hx dX6_isAhead_20 (by decide) ?_
    refine J.icmp_ne (tgt := 28) hx dX6_isAhead_21 (by decide) ?_ ?_
    · refine J.iconst (v := 1) hx dX6_isAhead_24 (by decide) ?_
      refine J.goto (tgt := 29) hx dX6_isAhead_25 (by decide) ?_
      exact J.zret hx rfl rfl (Nat.le_of_ble_eq_true rfl) (Nat.le_of_ble_eq_true rfl) dX6_isAhead_29
    · refine J.iconst (v := 0) hx dX6_isAhead_28 (by decide) ?_
      exact J.zret hx rfl rfl (Nat.le_of_ble_eq_true rfl) (Nat.le_of_ble_eq_true rfl) dX6_isAhead_29
  · intro K16 hK16
    refine J.icmp_eq (tgt := 16) hx dX6_isAhead_5 (by decide) ?_ ?_
    · exact J.sub [0] rfl (hK16 w)
    · refine J.aload_nq hx dX6_isAhead_8 rfl 1 rfl ?_
      refine J.obU fun y2 e3 => ?_
      subst e3
      refine J.geti (κ := 3) (k := 2) hx rfl rfl rfl in_X6 (by decide) (Or.inl q243) (b1 y2 rfl).1 dX6_isAhead_9 fun v4 => ?_
      refine J.iconst (v := (-1)) hx dX6_isAhead_12 (by decide) ?_
      refine J.icmp_ne (tgt := 30) hx dX6_isAhead_13 (by decide) ?_ ?_
      · exact J.sub [0] rfl (hK16 w)
      · refine J.aload_n hx dX6_isAhead_30 rfl 0 rfl ?_
        refine J.calli hx (fun r z1 z => j_callV (κ := 3) hx rfl rfl a0.1 (mt_X6_persistence a0 z) (lw_V q1073 q1046 q1047 q126 q1048) hd_X6_persistence rfl ⟨Nat.le_of_ble_eq_true rfl, Nat.le_of_ble_eq_true rfl⟩ (Nat.le_of_ble_eq_true rfl) dX6_isAhead_31) ⟨⟨rfl, rfl⟩, (Nat.le_of_ble_eq_true rfl), (Nat.le_of_ble_eq_true rfl)⟩ fun v5 w6 e7 => ?_
        refine J.aload_n hx dX6_isAhead_34 rfl 1 rfl ?_
        refine J.calli hx (fun r z1 z => j_callV (κ := 3) hx rfl rfl (b1 y2 rfl).1 (mt_X6_persistence (b1 y2 rfl) z) (lw_V q1073 q1046 q1047 q126 q1048) hd_X6_persistence rfl ⟨Nat.le_of_ble_eq_true rfl, Nat.le_of_ble_eq_true rfl⟩ (Nat.le_of_ble_eq_true rfl) dX6_isAhead_35) ⟨⟨rfl, rfl⟩, (Nat.le_of_ble_eq_true rfl), (Nat.le_of_ble_eq_true rfl)⟩ fun v8 w9 e10 => ?_
        refine J.icmp_eq (tgt := 60) hx dX6_isAhead_38 (by decide) ?_ ?_
        · refine J.aload_n hx dX6_isAhead_60 rfl 0 rfl ?_
          refine J.geti (κ := 3) (k := 0) hx rfl rfl rfl in_X6 (by decide) (Or.inl q236) a0.1 dX6_isAhead_61 fun v11 => ?_
          refine J.aload_n hx dX6_isAhead_64 rfl 1 rfl ?_
          refine J.geti (κ := 3) (k := 0) hx rfl rfl rfl in_X6 (by decide) (Or.inl q236) (b1 y2 rfl).1 dX6_isAhead_65 fun v12 => ?_
          refine J.icmp_ge (tgt := 75) hx dX6_isAhead_68 (by decide) ?_ ?_
          · refine J.iconst (v := 0) hx dX6_isAhead_75 (by decide) ?_
            exact J.zret hx rfl rfl (Nat.le_of_ble_eq_true rfl) (Nat.le_of_ble_eq_true rfl) dX6_isAhead_76
          · refine J.iconst (v := 1) hx dX6_isAhead_71 (by decide) ?_
            refine J.goto (tgt := 76) hx dX6_isAhead_72 (by decide) ?_
            exact J.zret hx rfl rfl (Nat.le_of_ble_eq_true rfl) (Nat.le_of_ble_eq_true rfl) dX6_isAhead_76
        · refine J.aload_n hx dX6_isAhead_41 rfl 0 rfl ?_
          refine J.calli hx (fun r z1 z => j_callV (κ := 3) hx rfl rfl a0.1 (mt_X6_persistence a0 z) (lw_V q1073 q1046 q1047 q126 q1048) hd_X6_persistence rfl ⟨Nat.le_of_ble_eq_true rfl, Nat.le_of_ble_eq_true rfl⟩ (Nat.le_of_ble_eq_true rfl) dX6_isAhead_42) ⟨⟨rfl, rfl⟩, (Nat.le_of_ble_eq_true rfl), (Nat.le_of_ble_eq_true rfl)⟩ fun v13 w14 e15 => ?_
          refine J.aload_n hx dX6_isAhead_45 rfl 1 rfl ?_
          refine J.calli hx (fun r z1 z => j_callV (κ := 3) hx rfl rfl (b1 y2 rfl).1 (mt_X6_persistence (b1 y2 rfl) z) (lw_V q1073 q1046 q1047 q126 q1048) hd_X6_persistence rfl ⟨Nat.le_of_ble_eq_true rfl, Nat.le_of_ble_eq_true rfl⟩ (Nat.le_of_ble_eq_true rfl) dX6_isAhead_46) ⟨⟨rfl, rfl⟩, (Nat.le_of_ble_eq_true rfl), (Nat.le_of_ble_eq_true rfl)⟩ fun v16 w17 e18 => ?_
          refine J.icmp_le (tgt := 56) hx dX6_isAhead_49 (by decide) ?_ ?_
          · refine J.iconst (v := 0) hx dX6_isAhead_56 (by decide) ?_
            refine J.goto (tgt := 76) hx dX6_isAhead_57 (by decide) ?_
            exact J.zret hx rfl rfl (Nat.le_of_ble_eq_true rfl) (Nat.le_of_ble_eq_true rfl) dX6_isAhead_76
          · refine J.iconst (v := 1) hx dX6_isAhead_52 (by decide) ?_
            refine J.goto (tgt := 76) hx dX6_isAhead_53 (by decide) ?_
            exact J.zret hx rfl rfl (Nat.le_of_ble_eq_true rfl) (Nat.le_of_ble_eq_true rfl) dX6_isAhead_76
theorem hd_X7_add : yX7_add.cls = RX7 ∧ yX7_add.cls ≠ "java/lang/invoke/MethodHandle" ∧ yX7_add.cls ≠ "java/lang/invoke/VarHandle" ∧ (parseMethodDescriptor yX7_add.desc).map (fun d => d.parameters.length) = some 1 := by decide +kernel
def f_X7_add (i0 : Nat) (p1 : Int32) (w : j_St) : Option (Unit × j_St) := jlt (jgi w 4 i0 1) fun v2 => jbd v2 48 fun a4 => jlt (jsi w 32 i0 a4 p1) fun w3 => jlt (jgi w3 4 i0 1) fun v5 => jlt (jsi w3 4 i0 1 (v5 + 1)) fun w6 => some ((), w6)
abbrev rm_X7_add : Room := { frames := 0, cells := 0, slots := 0, locals := 0 }
set_option maxRecDepth 100000 in
set_option maxHeartbeats 4000000 in
theorem mt_X7_add {g : j_G} {B : j_B} {i0 : Nat} {p1 : Int32} {w w' : j_St} (a0 : B.2.1 4 i0 ∧ B.2.2 4 i0) {r : Unit} (h : f_X7_add i0 p1 w = some (r, w')) : j_M g yX7_add cX7_add 2 none rm_X7_add B [.ref (B.1 4 i0), .int p1] w w' (jrv r) := by
  refine j_met (rv := jrv) (by decide) (Nat.le_of_ble_eq_true rfl) (fun x hx => ?_) h
  unfold f_X7_add
  refine J.sub (lv' := [(0, .ref (B.1 4 i0)), (1, .int p1)]) [0, 1] rfl ?_
  refine J.aload_n hx dX7_add_0 rfl 0 rfl ?_
  refine J.getc (κ' := 32) (i' := i0) (κ := 4) (k := 0) hx rfl rfl rfl rfl rfl in_X7 (by decide) (Or.inl q316) a0.2 dX7_add_1 fun h1 => ?_
  refine J.aload_n hx dX7_add_4 rfl 0 rfl ?_
  refine J.geti (κ := 4) (k := 1) hx rfl rfl rfl in_X7 (by decide) (Or.inl q320) a0.1 dX7_add_5 fun v2 => ?_
  refine J.iload_n hx dX7_add_8 rfl 1 rfl ?_
  refine J.iast (κ := 32) hx rfl rfl rfl h1.1 dX7_add_9 fun w3 => ?_
  refine J.aload_n hx dX7_add_10 rfl 0 rfl ?_
  refine J.dup hx dX7_add_11 rfl ?_
  refine J.geti (κ := 4) (k := 1) hx rfl rfl rfl in_X7 (by decide) (Or.inl q320) a0.1 dX7_add_12 fun v5 => ?_
  refine J.iconst (v := 1) hx dX7_add_15 (by decide) ?_
  refine J.iadd hx dX7_add_16 ?_
  refine J.puti (κ := 4) (k := 1) hx rfl rfl rfl in_X7 tyX7_ok nmX7 (by decide) (Or.inl q320) rfl rfl a0.1 ⟨rfl, rfl⟩ dX7_add_17 fun w6 => ?_
  exact J.vret hx rfl (Nat.le_of_ble_eq_true rfl) (Nat.le_of_ble_eq_true rfl) dX7_add_20
theorem hd_X7_becomes : yX7_becomes.cls = RX7 ∧ yX7_becomes.cls ≠ "java/lang/invoke/MethodHandle" ∧ yX7_becomes.cls ≠ "java/lang/invoke/VarHandle" ∧ (parseMethodDescriptor yX7_becomes.desc).map (fun d => d.parameters.length) = some 1 := by decide +kernel
def f_X7_becomes (i0 : Nat) (i1 : Nat) (w : j_St) : Option (Unit × j_St) := jlt (jgi w 4 i1 1) fun v3 => if 0 ≤ (0 : Int32).toInt ∧ 0 ≤ (0 : Int32).toInt ∧ 0 ≤ v3.toInt ∧ (0 : Int32).toInt + v3.toInt ≤ (48 : Int) ∧ (0 : Int32).toInt + v3.toInt ≤ (48 : Int) then jlt (jcp w 32 i1 (0 : Int32).toInt.toNat 32 i0 (0 : Int32).toInt.toNat v3.toInt.toNat) fun w4 => jlt (jgi w4 4 i1 1) fun v5 => jlt (jsi w4 4 i0 1 v5) fun w6 => some ((), w6) else none
abbrev rm_X7_becomes : Room := { frames := 1, cells := 0, slots := 0, locals := 60 }
set_option maxRecDepth 100000 in
set_option maxHeartbeats 4000000 in
theorem mt_X7_becomes {g : j_G} {B : j_B} {i0 : Nat} {i1 : Nat} {w w' : j_St} (a0 : B.2.1 4 i0 ∧ B.2.2 4 i0) (b1 : B.2.1 4 i1 ∧ B.2.2 4 i1) {r : Unit} (h : f_X7_becomes i0 i1 w = some (r, w')) : j_M g yX7_becomes cX7_becomes 2 none rm_X7_becomes B [.ref (B.1 4 i0), .ref (B.1 4 i1)] w w' (jrv r) := by
  refine j_met (rv := jrv) (by decide) (Nat.le_of_ble_eq_true rfl) (fun x hx => ?_) h
  unfold f_X7_becomes
  refine J.sub (lv' := [(0, .ref (B.1 4 i0)), (1, .ref (B.1 4 i1))]) [0, 1] rfl ?_
  refine J.aload_n hx dX7_becomes_0 rfl 1 rfl ?_
  refine J.getc (κ' := 32) (i' := i1) (κ := 4) (k := 0) hx rfl rfl rfl rfl rfl in_X7 (by decide) (Or.inl q316) b1.2 dX7_becomes_1 fun h1 => ?_
  refine J.iconst (v := 0) hx dX7_becomes_4 (by decide) ?_
  refine J.aload_n hx dX7_becomes_5 rfl 0 rfl ?_
  refine J.getc (κ' := 32) (i' := i0) (κ := 4) (k := 0) hx rfl rfl rfl rfl rfl in_X7 (by decide) (Or.inl q316) a0.2 dX7_becomes_6 fun h2 => ?_
  refine J.iconst (v := 0) hx dX7_becomes_9 (by decide) ?_
  refine J.aload_n hx dX7_becomes_10 rfl 1 rfl ?_
  refine J.geti (κ := 4) (k := 1) hx rfl rfl rfl in_X7 (by decide) (Or.inl q320) b1.1 dX7_becomes_11 fun v3 => ?_
  refine J.acopy (κ := 32) (κ' := 32) hx rfl rfl rfl rfl rfl h1.1 h2.1 q958 q588 q587 q138 (Nat.le_of_ble_eq_true rfl) (Nat.le_of_ble_eq_true rfl) (Nat.le_of_ble_eq_true rfl) dX7_becomes_14 fun w4 => ?_
  refine J.aload_n hx dX7_becomes_17 rfl 0 rfl ?_
  refine J.aload_n hx dX7_becomes_18 rfl 1 rfl ?_
  refine J.geti (κ := 4) (k := 1) hx rfl rfl rfl in_X7 (by decide) (Or.inl q320) b1.1 dX7_becomes_19 fun v5 => ?_
  refine J.puti (κ := 4) (k := 1) hx rfl rfl rfl in_X7 tyX7_ok nmX7 (by decide) (Or.inl q320) rfl rfl a0.1 ⟨rfl, rfl⟩ dX7_becomes_22 fun w6 => ?_
  exact J.vret hx rfl (Nat.le_of_ble_eq_true rfl) (Nat.le_of_ble_eq_true rfl) dX7_becomes_25
theorem hd_X7_near : yX7_near.cls = RX7 ∧ yX7_near.cls ≠ "java/lang/invoke/MethodHandle" ∧ yX7_near.cls ≠ "java/lang/invoke/VarHandle" ∧ (parseMethodDescriptor yX7_near.desc).map (fun d => d.parameters.length) = some 1 := by decide +kernel
def f_X7_near (i0 : Nat) (p1 : Int32) (w : j_St) : Option (Int32 × j_St) := jlt (jgi w 4 i0 1) fun v2 => jbd (jmax 0 (jmin (v2 - 1) p1)) 48 fun a3 => jlt (jgi w 32 i0 a3) fun v4 => some (v4, w)
abbrev rm_X7_near : Room := { frames := 1, cells := 0, slots := 0, locals := 21 }
set_option maxRecDepth 100000 in
set_option maxHeartbeats 4000000 in
theorem mt_X7_near {g : j_G} {B : j_B} {i0 : Nat} {p1 : Int32} {w w' : j_St} (a0 : B.2.1 4 i0 ∧ B.2.2 4 i0) {r : Int32} (h : f_X7_near i0 p1 w = some (r, w')) : j_M g yX7_near cX7_near 2 (some FieldType.int) rm_X7_near B [.ref (B.1 4 i0), .int p1] w w' (jri r) := by
  refine j_met (rv := jri) (by decide) (Nat.le_of_ble_eq_true rfl) (fun x hx => ?_) h
  unfold f_X7_near
  refine J.sub (lv' := [(0, .ref (B.1 4 i0)), (1, .int p1)]) [0, 1] rfl ?_
  refine J.aload_n hx dX7_near_0 rfl 0 rfl ?_
  refine J.getc (κ' := 32) (i' := i0) (κ := 4) (k := 0) hx rfl rfl rfl rfl rfl in_X7 (by decide) (Or.inl q316) a0.2 dX7_near_1 fun h1 => ?_
  refine J.iconst (v := 0) hx dX7_near_4 (by decide) ?_
  refine J.aload_n hx dX7_near_5 rfl 0 rfl ?_
  refine J.geti (κ := 4) (k := 1) hx rfl rfl rfl in_X7 (by decide) (Or.inl q320) a0.1 dX7_near_6 fun v2 => ?_
  refine J.iconst (v := 1) hx dX7_near_9 (by decide) ?_
  refine J.isub hx dX7_near_10 ?_
  refine J.iload_n hx dX7_near_11 rfl 1 rfl ?_
  refine J.mmin hx q992 q192 q123 q193 ⟨Nat.le_of_ble_eq_true rfl, Nat.le_of_ble_eq_true rfl⟩ (Nat.le_of_ble_eq_true rfl) (Nat.le_of_ble_eq_true rfl) (Nat.le_of_ble_eq_true rfl) dX7_near_12 ?_
  refine J.mmax hx q993 q195 q123 q196 ⟨Nat.le_of_ble_eq_true rfl, Nat.le_of_ble_eq_true rfl⟩ (Nat.le_of_ble_eq_true rfl) (Nat.le_of_ble_eq_true rfl) (Nat.le_of_ble_eq_true rfl) dX7_near_15 ?_
  refine J.iald (κ := 32) hx rfl rfl h1.1 dX7_near_18 fun v4 => ?_
  exact J.iret hx rfl (Nat.le_of_ble_eq_true rfl) (Nat.le_of_ble_eq_true rfl) dX7_near_19
theorem hd_X7_at : yX7_at.cls = RX7 ∧ yX7_at.cls ≠ "java/lang/invoke/MethodHandle" ∧ yX7_at.cls ≠ "java/lang/invoke/VarHandle" ∧ (parseMethodDescriptor yX7_at.desc).map (fun d => d.parameters.length) = some 1 := by decide +kernel
def f_X7_at (i0 : Nat) (p1 : Int32) (w : j_St) : Option (Int32 × j_St) := jbd p1 48 fun a2 => jlt (jgi w 32 i0 a2) fun v3 => some (v3, w)
abbrev rm_X7_at : Room := { frames := 0, cells := 0, slots := 0, locals := 0 }
set_option maxRecDepth 100000 in
set_option maxHeartbeats 4000000 in
theorem mt_X7_at {g : j_G} {B : j_B} {i0 : Nat} {p1 : Int32} {w w' : j_St} (a0 : B.2.1 4 i0 ∧ B.2.2 4 i0) {r : Int32} (h : f_X7_at i0 p1 w = some (r, w')) : j_M g yX7_at cX7_at 2 (some FieldType.int) rm_X7_at B [.ref (B.1 4 i0), .int p1] w w' (jri r) := by
  refine j_met (rv := jri) (by decide) (Nat.le_of_ble_eq_true rfl) (fun x hx => ?_) h
  unfold f_X7_at
  refine J.sub (lv' := [(0, .ref (B.1 4 i0)), (1, .int p1)]) [0, 1] rfl ?_
  refine J.aload_n hx dX7_at_0 rfl 0 rfl ?_
  refine J.getc (κ' := 32) (i' := i0) (κ := 4) (k := 0) hx rfl rfl rfl rfl rfl in_X7 (by decide) (Or.inl q316) a0.2 dX7_at_1 fun h1 => ?_
  refine J.iload_n hx dX7_at_4 rfl 1 rfl ?_
  refine J.iald (κ := 32) hx rfl rfl h1.1 dX7_at_5 fun v3 => ?_
  exact J.iret hx rfl (Nat.le_of_ble_eq_true rfl) (Nat.le_of_ble_eq_true rfl) dX7_at_6
theorem hd_X7_many : yX7_many.cls = RX7 ∧ yX7_many.cls ≠ "java/lang/invoke/MethodHandle" ∧ yX7_many.cls ≠ "java/lang/invoke/VarHandle" ∧ (parseMethodDescriptor yX7_many.desc).map (fun d => d.parameters.length) = some 0 := by decide +kernel
def f_X7_many (i0 : Nat) (w : j_St) : Option (Int32 × j_St) := jlt (jgi w 4 i0 1) fun v1 => some (v1, w)
abbrev rm_X7_many : Room := { frames := 0, cells := 0, slots := 0, locals := 0 }
set_option maxRecDepth 100000 in
set_option maxHeartbeats 4000000 in
theorem mt_X7_many {g : j_G} {B : j_B} {i0 : Nat} {w w' : j_St} (a0 : B.2.1 4 i0 ∧ B.2.2 4 i0) {r : Int32} (h : f_X7_many i0 w = some (r, w')) : j_M g yX7_many cX7_many 1 (some FieldType.int) rm_X7_many B [.ref (B.1 4 i0)] w w' (jri r) := by
  refine j_met (rv := jri) (by decide) (Nat.le_of_ble_eq_true rfl) (fun x hx => ?_) h
  unfold f_X7_many
  refine J.sub (lv' := [(0, .ref (B.1 4 i0))]) [0] rfl ?_
  refine J.aload_n hx dX7_many_0 rfl 0 rfl ?_
  refine J.geti (κ := 4) (k := 1) hx rfl rfl rfl in_X7 (by decide) (Or.inl q320) a0.1 dX7_many_1 fun v1 => ?_
  exact J.iret hx rfl (Nat.le_of_ble_eq_true rfl) (Nat.le_of_ble_eq_true rfl) dX7_many_4
theorem hd_X7_lowest : yX7_lowest.cls = RX7 ∧ yX7_lowest.cls ≠ "java/lang/invoke/MethodHandle" ∧ yX7_lowest.cls ≠ "java/lang/invoke/VarHandle" ∧ (parseMethodDescriptor yX7_lowest.desc).map (fun d => d.parameters.length) = some 2 := by decide +kernel
def f_X7_lowest_L9 (i0 : Nat) (p2 : Int32)  : Nat → Int32 → Int32 → j_St → Option (Int32 × j_St)
  | 0, _, _, _ => none
  | n9 + 1, v3, v4, w5 => if p2 ≤ v4 then some (v3, w5) else jbd v4 48 fun a7 => jlt (jgi w5 32 i0 a7) fun v8 => jbd v3 48 fun a10 => jlt (jgi w5 32 i0 a10) fun v11 => jlt (fun (v12 : Int32) (w13 : j_St) => jlt (v4 + 1) fun v14 => f_X7_lowest_L9 i0 p2 n9 v12 v14 w13) fun K34 => if v11 ≤ v8 then K34 v3 w5 else K34 v4 w5
def f_X7_lowest (i0 : Nat) (p1 : Int32) (p2 : Int32) (w : j_St) : Option (Int32 × j_St) := jlt (p1 + 1) fun v1 => jlt (p1 + 2) fun v2 => f_X7_lowest_L9 i0 p2 jFU v1 v2 w
abbrev rm_X7_lowest : Room := { frames := 0, cells := 0, slots := 0, locals := 0 }
set_option maxRecDepth 100000 in
set_option maxHeartbeats 4000000 in
theorem mt_X7_lowest {g : j_G} {B : j_B} {i0 : Nat} {p1 : Int32} {p2 : Int32} {w w' : j_St} (a0 : B.2.1 4 i0 ∧ B.2.2 4 i0) {r : Int32} (h : f_X7_lowest i0 p1 p2 w = some (r, w')) : j_M g yX7_lowest cX7_lowest 5 (some FieldType.int) rm_X7_lowest B [.ref (B.1 4 i0), .int p1, .int p2] w w' (jri r) := by
  refine j_met (rv := jri) (by decide) (Nat.le_of_ble_eq_true rfl) (fun x hx => ?_) h
  unfold f_X7_lowest
  refine J.sub (lv' := [(0, .ref (B.1 4 i0)), (1, .int p1), (2, .int p2)]) [0, 1, 2] rfl ?_
  refine J.iload_n hx dX7_lowest_0 rfl 1 rfl ?_
  refine J.iconst (v := 1) hx dX7_lowest_1 (by decide) ?_
  refine J.iadd hx dX7_lowest_2 ?_
  refine J.nmi fun v1 => ?_
  refine J.istore_n (lv' := [(3, .int v1), (0, .ref (B.1 4 i0)), (1, .int p1), (2, .int p2)]) hx dX7_lowest_3 rfl (by decide) rfl ?_
  refine J.iload_n hx dX7_lowest_4 rfl 2 rfl ?_
  refine J.iconst (v := 2) hx dX7_lowest_5 (by decide) ?_
  refine J.iadd hx dX7_lowest_6 ?_
  refine J.nmi fun v2 => ?_
  refine J.istore (lv' := [(4, .int v2), (3, .int v1), (0, .ref (B.1 4 i0)), (1, .int p1), (2, .int p2)]) hx dX7_lowest_7 (by decide) rfl ?_
  have hL9 : ∀ (n9 : Nat) (v3 : Int32) (v4 : Int32) (w5 : j_St), J g x 5 B (j_Q g x B rm_X7_lowest jri) 0 0 (f_X7_lowest_L9 i0 p2 n9 v3 v4 w5) 9 [(0, .ref (B.1 4 i0)), (2, .int p2), (3, .int v3), (4, .int v4)] [] w5 := by
    intro n9
    induction n9 with
    | zero =>
      intro v3 v4 w5
      rw [f_X7_lowest_L9]
      exact J.nne
    | succ n9 ih =>
      intro v3 v4 w5
      rw [f_X7_lowest_L9]
      refine J.iload hx dX7_lowest_9 3 rfl ?_
      refine J.iload_n hx dX7_lowest_11 rfl 1 rfl ?_
      refine J.icmp_ge (tgt := 40) hx dX7_lowest_12 (by decide) ?_ ?_
      · refine J.iload_n hx dX7_lowest_40 rfl 2 rfl ?_
        exact J.iret hx rfl (Nat.le_of_ble_eq_true rfl) (Nat.le_of_ble_eq_true rfl) dX7_lowest_41
      · refine J.aload_n hx dX7_lowest_15 rfl 0 rfl ?_
        refine J.getc (κ' := 32) (i' := i0) (κ := 4) (k := 0) hx rfl rfl rfl rfl rfl in_X7 (by decide) (Or.inl q316) a0.2 dX7_lowest_16 fun h6 => ?_
        refine J.iload hx dX7_lowest_19 3 rfl ?_
        refine J.iald (κ := 32) hx rfl rfl h6.1 dX7_lowest_21 fun v8 => ?_
        refine J.aload_n hx dX7_lowest_22 rfl 0 rfl ?_
        refine J.getc (κ' := 32) (i' := i0) (κ := 4) (k := 0) hx rfl rfl rfl rfl rfl in_X7 (by decide) (Or.inl q316) a0.2 dX7_lowest_23 fun h9 => ?_
        refine J.iload_n hx dX7_lowest_26 rfl 2 rfl ?_
        refine J.iald (κ := 32) hx rfl rfl h9.1 dX7_lowest_27 fun v11 => ?_
        refine J.fn (fun (K34 : Int32 → j_St → Option (Int32 × j_St)) => ∀ (v12 : Int32) (w13 : j_St), J g x 5 B (j_Q g x B rm_X7_lowest jri) 0 0 (K34 v12 w13) 34 [(0, .ref (B.1 4 i0)), (2, .int p2), (3, .int v12), (4, .int v4)] [] w13) ?_ ?_
        · intro v12 w13
          refine J.nmx fun v14 ev14 => ?_
          refine J.iinc (p := 3) (v := v14) (lv' := [(4, .int v14), (0, .ref (B.1 4 i0)), (2, .int p2), (3, .int v12)]) hx dX7_lowest_34 rfl (by rw [ev14]; rfl) (by decide) rfl ?_
          refine J.goto (tgt := 9) hx dX7_lowest_37 (by decide) ?_
          exact J.sub [1, 2, 3, 0] rfl (ih v12 v14 w13)
        · intro K34 hK34
          refine J.icmp_ge (tgt := 34) hx dX7_lowest_28 (by decide) ?_ ?_
          · exact J.sub [0, 1, 2, 3] rfl (hK34 v3 w5)
          · refine J.iload hx dX7_lowest_31 3 rfl ?_
            refine J.istore_n (lv' := [(3, .int v4), (0, .ref (B.1 4 i0)), (2, .int p2), (4, .int v4)]) hx dX7_lowest_33 rfl (by decide) rfl ?_
            exact J.sub [1, 2, 0, 3] rfl (hK34 v4 w5)
  refine J.sub [2, 4, 1, 0] rfl (hL9 jFU v1 v2 w)
theorem hd_X5_at : yX5_at.cls = RX5 ∧ yX5_at.cls ≠ "java/lang/invoke/MethodHandle" ∧ yX5_at.cls ≠ "java/lang/invoke/VarHandle" ∧ (parseMethodDescriptor yX5_at.desc).map (fun d => d.parameters.length) = some 1 := by decide +kernel
def f_X5_at (i0 : Nat) (p1 : Int32) (w : j_St) : Option (Int32 × j_St) := jbd p1 48 fun a2 => jlt (jgr w 27 i0 a2) fun v3 => job v3 fun y5 => jcb (f_X6_persistence y5 w) fun v7 w8 => some (v7, w8)
abbrev rm_X5_at : Room := { frames := 1, cells := 0, slots := 0, locals := 20 }
set_option maxRecDepth 100000 in
set_option maxHeartbeats 4000000 in
theorem mt_X5_at {g : j_G} {B : j_B} {i0 : Nat} {p1 : Int32} {w w' : j_St} (a0 : B.2.1 2 i0 ∧ B.2.2 2 i0) {r : Int32} (h : f_X5_at i0 p1 w = some (r, w')) : j_M g yX5_at cX5_at 2 (some FieldType.int) rm_X5_at B [.ref (B.1 2 i0), .int p1] w w' (jri r) := by
  refine j_met (rv := jri) (by decide) (Nat.le_of_ble_eq_true rfl) (fun x hx => ?_) h
  unfold f_X5_at
  refine J.sub (lv' := [(0, .ref (B.1 2 i0)), (1, .int p1)]) [0, 1] rfl ?_
  refine J.aload_n hx dX5_at_0 rfl 0 rfl ?_
  refine J.getc (κ' := 27) (i' := i0) (κ := 2) (k := 1) hx rfl rfl rfl rfl rfl in_X5 (by decide) (Or.inl q275) a0.2 dX5_at_1 fun h1 => ?_
  refine J.iload_n hx dX5_at_4 rfl 1 rfl ?_
  refine J.aald (κ' := 3) (κ := 27) hx rfl rfl (by decide) rfl rfl h1.1 dX5_at_5 fun v3 h4 => ?_
  refine J.obU fun y5 e6 => ?_
  subst e6
  refine J.calli hx (fun r z1 z => j_callV (κ := 3) hx rfl rfl (h4 y5 rfl).1 (mt_X6_persistence (h4 y5 rfl) z) (lw_V q1045 q1046 q1047 q126 q1048) hd_X6_persistence rfl ⟨Nat.le_of_ble_eq_true rfl, Nat.le_of_ble_eq_true rfl⟩ (Nat.le_of_ble_eq_true rfl) dX5_at_6) ⟨⟨rfl, rfl⟩, (Nat.le_of_ble_eq_true rfl), (Nat.le_of_ble_eq_true rfl)⟩ fun v7 w8 e9 => ?_
  exact J.iret hx rfl (Nat.le_of_ble_eq_true rfl) (Nat.le_of_ble_eq_true rfl) dX5_at_9
theorem hd_X5_many : yX5_many.cls = RX5 ∧ yX5_many.cls ≠ "java/lang/invoke/MethodHandle" ∧ yX5_many.cls ≠ "java/lang/invoke/VarHandle" ∧ (parseMethodDescriptor yX5_many.desc).map (fun d => d.parameters.length) = some 0 := by decide +kernel
def f_X5_many (i0 : Nat) (w : j_St) : Option (Int32 × j_St) := jlt (jgi w 2 i0 5) fun v1 => some (v1, w)
abbrev rm_X5_many : Room := { frames := 0, cells := 0, slots := 0, locals := 0 }
set_option maxRecDepth 100000 in
set_option maxHeartbeats 4000000 in
theorem mt_X5_many {g : j_G} {B : j_B} {i0 : Nat} {w w' : j_St} (a0 : B.2.1 2 i0 ∧ B.2.2 2 i0) {r : Int32} (h : f_X5_many i0 w = some (r, w')) : j_M g yX5_many cX5_many 1 (some FieldType.int) rm_X5_many B [.ref (B.1 2 i0)] w w' (jri r) := by
  refine j_met (rv := jri) (by decide) (Nat.le_of_ble_eq_true rfl) (fun x hx => ?_) h
  unfold f_X5_many
  refine J.sub (lv' := [(0, .ref (B.1 2 i0))]) [0] rfl ?_
  refine J.aload_n hx dX5_many_0 rfl 0 rfl ?_
  refine J.geti (κ := 2) (k := 5) hx rfl rfl rfl in_X5 (by decide) (Or.inl q281) a0.1 dX5_many_1 fun v1 => ?_
  exact J.iret hx rfl (Nat.le_of_ble_eq_true rfl) (Nat.le_of_ble_eq_true rfl) dX5_many_4
theorem hd_X3_middle : yX3_middle.cls = RX3 ∧ yX3_middle.cls ≠ "java/lang/invoke/MethodHandle" ∧ yX3_middle.cls ≠ "java/lang/invoke/VarHandle" ∧ (parseMethodDescriptor yX3_middle.desc).map (fun d => d.parameters.length) = some 3 := by decide +kernel
def f_X3_middle (p0 : Int32) (p1 : Int32) (p2 : Int32) (w : j_St) : Option (Int32 × j_St) := some (jmax (jmin p0 p1) (jmin (jmax p0 p1) p2), w)
abbrev rm_X3_middle : Room := { frames := 1, cells := 0, slots := 0, locals := 21 }
set_option maxRecDepth 100000 in
set_option maxHeartbeats 4000000 in
theorem mt_X3_middle {g : j_G} {B : j_B} {p0 : Int32} {p1 : Int32} {p2 : Int32} {w w' : j_St}  {r : Int32} (h : f_X3_middle p0 p1 p2 w = some (r, w')) : j_M g yX3_middle cX3_middle 3 (some FieldType.int) rm_X3_middle B [.int p0, .int p1, .int p2] w w' (jri r) := by
  refine j_met (rv := jri) (by decide) (Nat.le_of_ble_eq_true rfl) (fun x hx => ?_) h
  unfold f_X3_middle
  refine J.sub (lv' := [(0, .int p0), (1, .int p1), (2, .int p2)]) [0, 1, 2] rfl ?_
  refine J.iload_n hx dX3_middle_0 rfl 0 rfl ?_
  refine J.iload_n hx dX3_middle_1 rfl 1 rfl ?_
  refine J.mmin hx q191 q192 q123 q193 ⟨Nat.le_of_ble_eq_true rfl, Nat.le_of_ble_eq_true rfl⟩ (Nat.le_of_ble_eq_true rfl) (Nat.le_of_ble_eq_true rfl) (Nat.le_of_ble_eq_true rfl) dX3_middle_2 ?_
  refine J.iload_n hx dX3_middle_5 rfl 0 rfl ?_
  refine J.iload_n hx dX3_middle_6 rfl 1 rfl ?_
  refine J.mmax hx q194 q195 q123 q196 ⟨Nat.le_of_ble_eq_true rfl, Nat.le_of_ble_eq_true rfl⟩ (Nat.le_of_ble_eq_true rfl) (Nat.le_of_ble_eq_true rfl) (Nat.le_of_ble_eq_true rfl) dX3_middle_7 ?_
  refine J.iload_n hx dX3_middle_10 rfl 2 rfl ?_
  refine J.mmin hx q191 q192 q123 q193 ⟨Nat.le_of_ble_eq_true rfl, Nat.le_of_ble_eq_true rfl⟩ (Nat.le_of_ble_eq_true rfl) (Nat.le_of_ble_eq_true rfl) (Nat.le_of_ble_eq_true rfl) dX3_middle_11 ?_
  refine J.mmax hx q194 q195 q123 q196 ⟨Nat.le_of_ble_eq_true rfl, Nat.le_of_ble_eq_true rfl⟩ (Nat.le_of_ble_eq_true rfl) (Nat.le_of_ble_eq_true rfl) (Nat.le_of_ble_eq_true rfl) dX3_middle_14 ?_
  exact J.iret hx rfl (Nat.le_of_ble_eq_true rfl) (Nat.le_of_ble_eq_true rfl) dX3_middle_17
theorem hd_X3_least : yX3_least.cls = RX3 ∧ yX3_least.cls ≠ "java/lang/invoke/MethodHandle" ∧ yX3_least.cls ≠ "java/lang/invoke/VarHandle" ∧ (parseMethodDescriptor yX3_least.desc).map (fun d => d.parameters.length) = some 0 := by decide +kernel
def f_X3_least_k4_L10 (i0 : Nat)  : Nat → Int32 → Int32 → j_St → Option (Int32 × j_St)
  | 0, _, _, _ => none
  | n10 + 1, v4, v5, w6 => jcb (f_X7_many i0 w6) fun v7 w8 => if v7 ≤ v5 then some (v4, w8) else jcb (f_X7_at i0 v5 w8) fun v10 w11 => jlt (jmin v4 v10) fun v13 => jlt (v5 + 1) fun v14 => f_X3_least_k4_L10 i0 n10 v13 v14 w11
def f_X3_least_k4 (i0 : Nat) (w : j_St) : Option (Int32 × j_St) := jcb (f_X7_at i0 0 w) fun v1 w2 => f_X3_least_k4_L10 i0 jFU v1 1 w2
abbrev rm_X3_least_k4 : Room := { frames := 1, cells := 0, slots := 0, locals := 21 }
set_option maxRecDepth 100000 in
set_option maxHeartbeats 4000000 in
theorem mt_X3_least_k4 {g : j_G} {B : j_B} {i0 : Nat} {w w' : j_St} (a0 : B.2.1 4 i0 ∧ B.2.2 4 i0) {r : Int32} (h : f_X3_least_k4 i0 w = some (r, w')) : j_M g yX3_least cX3_least 3 (some FieldType.int) rm_X3_least_k4 B [.ref (B.1 4 i0)] w w' (jri r) := by
  refine j_met (rv := jri) (by decide) (Nat.le_of_ble_eq_true rfl) (fun x hx => ?_) h
  unfold f_X3_least_k4
  refine J.sub (lv' := [(0, .ref (B.1 4 i0))]) [0] rfl ?_
  refine J.aload_n hx dX3_least_0 rfl 0 rfl ?_
  refine J.iconst (v := 0) hx dX3_least_1 (by decide) ?_
  refine J.calli hx (fun r z1 z => j_callF (n := 1) (κ := 4) hx rfl rfl a0.1 (mt_X7_at a0 z) (j_wF q1036 q1050 q1052 q127 q1054) (List.mem_of_getElem? (i := 0) rfl) (by decide +kernel) rfl ⟨Nat.le_of_ble_eq_true rfl, Nat.le_of_ble_eq_true rfl⟩ (Nat.le_of_ble_eq_true rfl) dX3_least_2) ⟨⟨rfl, rfl⟩, (Nat.le_of_ble_eq_true rfl), (Nat.le_of_ble_eq_true rfl)⟩ fun v1 w2 e3 => ?_
  refine J.istore_n (lv' := [(1, .int v1), (0, .ref (B.1 4 i0))]) hx dX3_least_7 rfl (by decide) rfl ?_
  refine J.iconst (v := 1) hx dX3_least_8 (by decide) ?_
  refine J.istore_n (lv' := [(2, .int 1), (1, .int v1), (0, .ref (B.1 4 i0))]) hx dX3_least_9 rfl (by decide) rfl ?_
  have hL10 : ∀ (n10 : Nat) (v4 : Int32) (v5 : Int32) (w6 : j_St), J g x 3 B (j_Q g x B rm_X3_least_k4 jri) 0 0 (f_X3_least_k4_L10 i0 n10 v4 v5 w6) 10 [(0, .ref (B.1 4 i0)), (1, .int v4), (2, .int v5)] [] w6 := by
    intro n10
    induction n10 with
    | zero =>
      intro v4 v5 w6
      rw [f_X3_least_k4_L10]
      exact J.nne
    | succ n10 ih =>
      intro v4 v5 w6
      rw [f_X3_least_k4_L10]
      refine J.iload_n hx dX3_least_10 rfl 2 rfl ?_
      refine J.aload_n hx dX3_least_11 rfl 0 rfl ?_
      refine J.calli hx (fun r z1 z => j_callF (n := 0) (κ := 4) hx rfl rfl a0.1 (mt_X7_many a0 z) (j_wF q1056 q1064 q1066 q127 q1068) (List.mem_of_getElem? (i := 1) rfl) (by decide +kernel) rfl ⟨Nat.le_of_ble_eq_true rfl, Nat.le_of_ble_eq_true rfl⟩ (Nat.le_of_ble_eq_true rfl) dX3_least_12) ⟨⟨rfl, rfl⟩, (Nat.le_of_ble_eq_true rfl), (Nat.le_of_ble_eq_true rfl)⟩ fun v7 w8 e9 => ?_
      refine J.icmp_ge (tgt := 38) hx dX3_least_17 (by decide) ?_ ?_
      · refine J.iload_n hx dX3_least_38 rfl 1 rfl ?_
        exact J.iret hx rfl (Nat.le_of_ble_eq_true rfl) (Nat.le_of_ble_eq_true rfl) dX3_least_39
      · refine J.iload_n hx dX3_least_20 rfl 1 rfl ?_
        refine J.aload_n hx dX3_least_21 rfl 0 rfl ?_
        refine J.iload_n hx dX3_least_22 rfl 2 rfl ?_
        refine J.calli hx (fun r z1 z => j_callF (n := 1) (κ := 4) hx rfl rfl a0.1 (mt_X7_at a0 z) (j_wF q1036 q1050 q1052 q127 q1054) (List.mem_of_getElem? (i := 0) rfl) (by decide +kernel) rfl ⟨Nat.le_of_ble_eq_true rfl, Nat.le_of_ble_eq_true rfl⟩ (Nat.le_of_ble_eq_true rfl) dX3_least_23) ⟨⟨rfl, rfl⟩, (Nat.le_of_ble_eq_true rfl), (Nat.le_of_ble_eq_true rfl)⟩ fun v10 w11 e12 => ?_
        refine J.mmin hx q191 q192 q123 q193 ⟨Nat.le_of_ble_eq_true rfl, Nat.le_of_ble_eq_true rfl⟩ (Nat.le_of_ble_eq_true rfl) (Nat.le_of_ble_eq_true rfl) (Nat.le_of_ble_eq_true rfl) dX3_least_28 ?_
        refine J.nmi fun v13 => ?_
        refine J.istore_n (lv' := [(1, .int v13), (0, .ref (B.1 4 i0)), (2, .int v5)]) hx dX3_least_31 rfl (by decide) rfl ?_
        refine J.nmx fun v14 ev14 => ?_
        refine J.iinc (p := 2) (v := v14) (lv' := [(2, .int v14), (1, .int v13), (0, .ref (B.1 4 i0))]) hx dX3_least_32 rfl (by rw [ev14]; rfl) (by decide) rfl ?_
        refine J.goto (tgt := 10) hx dX3_least_35 (by decide) ?_
        exact J.sub [2, 1, 0] rfl (ih v13 v14 w11)
  refine J.sub [2, 1, 0] rfl (hL10 jFU v1 1 w2)
theorem hd_X3_greatest : yX3_greatest.cls = RX3 ∧ yX3_greatest.cls ≠ "java/lang/invoke/MethodHandle" ∧ yX3_greatest.cls ≠ "java/lang/invoke/VarHandle" ∧ (parseMethodDescriptor yX3_greatest.desc).map (fun d => d.parameters.length) = some 0 := by decide +kernel
def f_X3_greatest_k4_L10 (i0 : Nat)  : Nat → Int32 → Int32 → j_St → Option (Int32 × j_St)
  | 0, _, _, _ => none
  | n10 + 1, v4, v5, w6 => jcb (f_X7_many i0 w6) fun v7 w8 => if v7 ≤ v5 then some (v4, w8) else jcb (f_X7_at i0 v5 w8) fun v10 w11 => jlt (jmax v4 v10) fun v13 => jlt (v5 + 1) fun v14 => f_X3_greatest_k4_L10 i0 n10 v13 v14 w11
def f_X3_greatest_k4 (i0 : Nat) (w : j_St) : Option (Int32 × j_St) := jcb (f_X7_at i0 0 w) fun v1 w2 => f_X3_greatest_k4_L10 i0 jFU v1 1 w2
abbrev rm_X3_greatest_k4 : Room := { frames := 1, cells := 0, slots := 0, locals := 21 }
set_option maxRecDepth 100000 in
set_option maxHeartbeats 4000000 in
theorem mt_X3_greatest_k4 {g : j_G} {B : j_B} {i0 : Nat} {w w' : j_St} (a0 : B.2.1 4 i0 ∧ B.2.2 4 i0) {r : Int32} (h : f_X3_greatest_k4 i0 w = some (r, w')) : j_M g yX3_greatest cX3_greatest 3 (some FieldType.int) rm_X3_greatest_k4 B [.ref (B.1 4 i0)] w w' (jri r) := by
  refine j_met (rv := jri) (by decide) (Nat.le_of_ble_eq_true rfl) (fun x hx => ?_) h
  unfold f_X3_greatest_k4
  refine J.sub (lv' := [(0, .ref (B.1 4 i0))]) [0] rfl ?_
  refine J.aload_n hx dX3_greatest_0 rfl 0 rfl ?_
  refine J.iconst (v := 0) hx dX3_greatest_1 (by decide) ?_
  refine J.calli hx (fun r z1 z => j_callF (n := 1) (κ := 4) hx rfl rfl a0.1 (mt_X7_at a0 z) (j_wF q1036 q1050 q1052 q127 q1054) (List.mem_of_getElem? (i := 0) rfl) (by decide +kernel) rfl ⟨Nat.le_of_ble_eq_true rfl, Nat.le_of_ble_eq_true rfl⟩ (Nat.le_of_ble_eq_true rfl) dX3_greatest_2) ⟨⟨rfl, rfl⟩, (Nat.le_of_ble_eq_true rfl), (Nat.le_of_ble_eq_true rfl)⟩ fun v1 w2 e3 => ?_
  refine J.istore_n (lv' := [(1, .int v1), (0, .ref (B.1 4 i0))]) hx dX3_greatest_7 rfl (by decide) rfl ?_
  refine J.iconst (v := 1) hx dX3_greatest_8 (by decide) ?_
  refine J.istore_n (lv' := [(2, .int 1), (1, .int v1), (0, .ref (B.1 4 i0))]) hx dX3_greatest_9 rfl (by decide) rfl ?_
  have hL10 : ∀ (n10 : Nat) (v4 : Int32) (v5 : Int32) (w6 : j_St), J g x 3 B (j_Q g x B rm_X3_greatest_k4 jri) 0 0 (f_X3_greatest_k4_L10 i0 n10 v4 v5 w6) 10 [(0, .ref (B.1 4 i0)), (1, .int v4), (2, .int v5)] [] w6 := by
    intro n10
    induction n10 with
    | zero =>
      intro v4 v5 w6
      rw [f_X3_greatest_k4_L10]
      exact J.nne
    | succ n10 ih =>
      intro v4 v5 w6
      rw [f_X3_greatest_k4_L10]
      refine J.iload_n hx dX3_greatest_10 rfl 2 rfl ?_
      refine J.aload_n hx dX3_greatest_11 rfl 0 rfl ?_
      refine J.calli hx (fun r z1 z => j_callF (n := 0) (κ := 4) hx rfl rfl a0.1 (mt_X7_many a0 z) (j_wF q1056 q1064 q1066 q127 q1068) (List.mem_of_getElem? (i := 1) rfl) (by decide +kernel) rfl ⟨Nat.le_of_ble_eq_true rfl, Nat.le_of_ble_eq_true rfl⟩ (Nat.le_of_ble_eq_true rfl) dX3_greatest_12) ⟨⟨rfl, rfl⟩, (Nat.le_of_ble_eq_true rfl), (Nat.le_of_ble_eq_true rfl)⟩ fun v7 w8 e9 => ?_
      refine J.icmp_ge (tgt := 38) hx dX3_greatest_17 (by decide) ?_ ?_
      · refine J.iload_n hx dX3_greatest_38 rfl 1 rfl ?_
        exact J.iret hx rfl (Nat.le_of_ble_eq_true rfl) (Nat.le_of_ble_eq_true rfl) dX3_greatest_39
      · refine J.iload_n hx dX3_greatest_20 rfl 1 rfl ?_
        refine J.aload_n hx dX3_greatest_21 rfl 0 rfl ?_
        refine J.iload_n hx dX3_greatest_22 rfl 2 rfl ?_
        refine J.calli hx (fun r z1 z => j_callF (n := 1) (κ := 4) hx rfl rfl a0.1 (mt_X7_at a0 z) (j_wF q1036 q1050 q1052 q127 q1054) (List.mem_of_getElem? (i := 0) rfl) (by decide +kernel) rfl ⟨Nat.le_of_ble_eq_true rfl, Nat.le_of_ble_eq_true rfl⟩ (Nat.le_of_ble_eq_true rfl) dX3_greatest_23) ⟨⟨rfl, rfl⟩, (Nat.le_of_ble_eq_true rfl), (Nat.le_of_ble_eq_true rfl)⟩ fun v10 w11 e12 => ?_
        refine J.mmax hx q194 q195 q123 q196 ⟨Nat.le_of_ble_eq_true rfl, Nat.le_of_ble_eq_true rfl⟩ (Nat.le_of_ble_eq_true rfl) (Nat.le_of_ble_eq_true rfl) (Nat.le_of_ble_eq_true rfl) dX3_greatest_28 ?_
        refine J.nmi fun v13 => ?_
        refine J.istore_n (lv' := [(1, .int v13), (0, .ref (B.1 4 i0)), (2, .int v5)]) hx dX3_greatest_31 rfl (by decide) rfl ?_
        refine J.nmx fun v14 ev14 => ?_
        refine J.iinc (p := 2) (v := v14) (lv' := [(2, .int v14), (1, .int v13), (0, .ref (B.1 4 i0))]) hx dX3_greatest_32 rfl (by rw [ev14]; rfl) (by decide) rfl ?_
        refine J.goto (tgt := 10) hx dX3_greatest_35 (by decide) ?_
        exact J.sub [2, 1, 0] rfl (ih v13 v14 w11)
  refine J.sub [2, 1, 0] rfl (hL10 jFU v1 1 w2)
theorem hd_X3_sum : yX3_sum.cls = RX3 ∧ yX3_sum.cls ≠ "java/lang/invoke/MethodHandle" ∧ yX3_sum.cls ≠ "java/lang/invoke/VarHandle" ∧ (parseMethodDescriptor yX3_sum.desc).map (fun d => d.parameters.length) = some 0 := by decide +kernel
def f_X3_sum_k4_L4 (i0 : Nat)  : Nat → Int32 → Int32 → j_St → Option (Int32 × j_St)
  | 0, _, _, _ => none
  | n4 + 1, v1, v2, w3 => jcb (f_X7_many i0 w3) fun v4 w5 => if v4 ≤ v2 then some (v1, w5) else jcb (f_X7_at i0 v2 w5) fun v7 w8 => jlt (v1 + v7) fun v10 => jlt (v2 + 1) fun v11 => f_X3_sum_k4_L4 i0 n4 v10 v11 w8
def f_X3_sum_k4 (i0 : Nat) (w : j_St) : Option (Int32 × j_St) := f_X3_sum_k4_L4 i0 jFU 0 0 w
abbrev rm_X3_sum_k4 : Room := { frames := 1, cells := 0, slots := 0, locals := 21 }
set_option maxRecDepth 100000 in
set_option maxHeartbeats 4000000 in
theorem mt_X3_sum_k4 {g : j_G} {B : j_B} {i0 : Nat} {w w' : j_St} (a0 : B.2.1 4 i0 ∧ B.2.2 4 i0) {r : Int32} (h : f_X3_sum_k4 i0 w = some (r, w')) : j_M g yX3_sum cX3_sum 3 (some FieldType.int) rm_X3_sum_k4 B [.ref (B.1 4 i0)] w w' (jri r) := by
  refine j_met (rv := jri) (by decide) (Nat.le_of_ble_eq_true rfl) (fun x hx => ?_) h
  unfold f_X3_sum_k4
  refine J.sub (lv' := [(0, .ref (B.1 4 i0))]) [0] rfl ?_
  refine J.iconst (v := 0) hx dX3_sum_0 (by decide) ?_
  refine J.istore_n (lv' := [(1, .int 0), (0, .ref (B.1 4 i0))]) hx dX3_sum_1 rfl (by decide) rfl ?_
  refine J.iconst (v := 0) hx dX3_sum_2 (by decide) ?_
  refine J.istore_n (lv' := [(2, .int 0), (1, .int 0), (0, .ref (B.1 4 i0))]) hx dX3_sum_3 rfl (by decide) rfl ?_
  have hL4 : ∀ (n4 : Nat) (v1 : Int32) (v2 : Int32) (w3 : j_St), J g x 3 B (j_Q g x B rm_X3_sum_k4 jri) 0 0 (f_X3_sum_k4_L4 i0 n4 v1 v2 w3) 4 [(0, .ref (B.1 4 i0)), (1, .int v1), (2, .int v2)] [] w3 := by
    intro n4
    induction n4 with
    | zero =>
      intro v1 v2 w3
      rw [f_X3_sum_k4_L4]
      exact J.nne
    | succ n4 ih =>
      intro v1 v2 w3
      rw [f_X3_sum_k4_L4]
      refine J.iload_n hx dX3_sum_4 rfl 2 rfl ?_
      refine J.aload_n hx dX3_sum_5 rfl 0 rfl ?_
      refine J.calli hx (fun r z1 z => j_callF (n := 0) (κ := 4) hx rfl rfl a0.1 (mt_X7_many a0 z) (j_wF q1056 q1064 q1066 q127 q1068) (List.mem_of_getElem? (i := 1) rfl) (by decide +kernel) rfl ⟨Nat.le_of_ble_eq_true rfl, Nat.le_of_ble_eq_true rfl⟩ (Nat.le_of_ble_eq_true rfl) dX3_sum_6) ⟨⟨rfl, rfl⟩, (Nat.le_of_ble_eq_true rfl), (Nat.le_of_ble_eq_true rfl)⟩ fun v4 w5 e6 => ?_
      refine J.icmp_ge (tgt := 30) hx dX3_sum_11 (by decide) ?_ ?_
      · refine J.iload_n hx dX3_sum_30 rfl 1 rfl ?_
        exact J.iret hx rfl (Nat.le_of_ble_eq_true rfl) (Nat.le_of_ble_eq_true rfl) dX3_sum_31
      · refine J.iload_n hx dX3_sum_14 rfl 1 rfl ?_
        refine J.aload_n hx dX3_sum_15 rfl 0 rfl ?_
        refine J.iload_n hx dX3_sum_16 rfl 2 rfl ?_
        refine J.calli hx (fun r z1 z => j_callF (n := 1) (κ := 4) hx rfl rfl a0.1 (mt_X7_at a0 z) (j_wF q1036 q1050 q1052 q127 q1054) (List.mem_of_getElem? (i := 0) rfl) (by decide +kernel) rfl ⟨Nat.le_of_ble_eq_true rfl, Nat.le_of_ble_eq_true rfl⟩ (Nat.le_of_ble_eq_true rfl) dX3_sum_17) ⟨⟨rfl, rfl⟩, (Nat.le_of_ble_eq_true rfl), (Nat.le_of_ble_eq_true rfl)⟩ fun v7 w8 e9 => ?_
        refine J.iadd hx dX3_sum_22 ?_
        refine J.nmi fun v10 => ?_
        refine J.istore_n (lv' := [(1, .int v10), (0, .ref (B.1 4 i0)), (2, .int v2)]) hx dX3_sum_23 rfl (by decide) rfl ?_
        refine J.nmx fun v11 ev11 => ?_
        refine J.iinc (p := 2) (v := v11) (lv' := [(2, .int v11), (1, .int v10), (0, .ref (B.1 4 i0))]) hx dX3_sum_24 rfl (by rw [ev11]; rfl) (by decide) rfl ?_
        refine J.goto (tgt := 4) hx dX3_sum_27 (by decide) ?_
        exact J.sub [2, 1, 0] rfl (ih v10 v11 w8)
  refine J.sub [2, 1, 0] rfl (hL4 jFU 0 0 w)
def f_X3_sum_k2_L4 (i0 : Nat)  : Nat → Int32 → Int32 → j_St → Option (Int32 × j_St)
  | 0, _, _, _ => none
  | n4 + 1, v1, v2, w3 => jcb (f_X5_many i0 w3) fun v4 w5 => if v4 ≤ v2 then some (v1, w5) else jcb (f_X5_at i0 v2 w5) fun v7 w8 => jlt (v1 + v7) fun v10 => jlt (v2 + 1) fun v11 => f_X3_sum_k2_L4 i0 n4 v10 v11 w8
def f_X3_sum_k2 (i0 : Nat) (w : j_St) : Option (Int32 × j_St) := f_X3_sum_k2_L4 i0 jFU 0 0 w
abbrev rm_X3_sum_k2 : Room := { frames := 2, cells := 0, slots := 0, locals := 41 }
set_option maxRecDepth 100000 in
set_option maxHeartbeats 4000000 in
theorem mt_X3_sum_k2 {g : j_G} {B : j_B} {i0 : Nat} {w w' : j_St} (a0 : B.2.1 2 i0 ∧ B.2.2 2 i0) {r : Int32} (h : f_X3_sum_k2 i0 w = some (r, w')) : j_M g yX3_sum cX3_sum 3 (some FieldType.int) rm_X3_sum_k2 B [.ref (B.1 2 i0)] w w' (jri r) := by
  refine j_met (rv := jri) (by decide) (Nat.le_of_ble_eq_true rfl) (fun x hx => ?_) h
  unfold f_X3_sum_k2
  refine J.sub (lv' := [(0, .ref (B.1 2 i0))]) [0] rfl ?_
  refine J.iconst (v := 0) hx dX3_sum_0 (by decide) ?_
  refine J.istore_n (lv' := [(1, .int 0), (0, .ref (B.1 2 i0))]) hx dX3_sum_1 rfl (by decide) rfl ?_
  refine J.iconst (v := 0) hx dX3_sum_2 (by decide) ?_
  refine J.istore_n (lv' := [(2, .int 0), (1, .int 0), (0, .ref (B.1 2 i0))]) hx dX3_sum_3 rfl (by decide) rfl ?_
  have hL4 : ∀ (n4 : Nat) (v1 : Int32) (v2 : Int32) (w3 : j_St), J g x 3 B (j_Q g x B rm_X3_sum_k2 jri) 0 0 (f_X3_sum_k2_L4 i0 n4 v1 v2 w3) 4 [(0, .ref (B.1 2 i0)), (1, .int v1), (2, .int v2)] [] w3 := by
    intro n4
    induction n4 with
    | zero =>
      intro v1 v2 w3
      rw [f_X3_sum_k2_L4]
      exact J.nne
    | succ n4 ih =>
      intro v1 v2 w3
      rw [f_X3_sum_k2_L4]
      refine J.iload_n hx dX3_sum_4 rfl 2 rfl ?_
      refine J.aload_n hx dX3_sum_5 rfl 0 rfl ?_
      refine J.calli hx (fun r z1 z => j_callF (n := 0) (κ := 2) hx rfl rfl a0.1 (mt_X5_many a0 z) (j_wF q1056 q1059 q1061 q125 q1063) (List.mem_of_getElem? (i := 3) rfl) (by decide +kernel) rfl ⟨Nat.le_of_ble_eq_true rfl, Nat.le_of_ble_eq_true rfl⟩ (Nat.le_of_ble_eq_true rfl) dX3_sum_6) ⟨⟨rfl, rfl⟩, (Nat.le_of_ble_eq_true rfl), (Nat.le_of_ble_eq_true rfl)⟩ fun v4 w5 e6 => ?_
      refine J.icmp_ge (tgt := 30) hx dX3_sum_11 (by decide) ?_ ?_
      · refine J.iload_n hx dX3_sum_30 rfl 1 rfl ?_
        exact J.iret hx rfl (Nat.le_of_ble_eq_true rfl) (Nat.le_of_ble_eq_true rfl) dX3_sum_31
      · refine J.iload_n hx dX3_sum_14 rfl 1 rfl ?_
        refine J.aload_n hx dX3_sum_15 rfl 0 rfl ?_
        refine J.iload_n hx dX3_sum_16 rfl 2 rfl ?_
        refine J.calli hx (fun r z1 z => j_callF (n := 1) (κ := 2) hx rfl rfl a0.1 (mt_X5_at a0 z) (j_wF q1036 q1040 q1042 q125 q1044) (List.mem_of_getElem? (i := 2) rfl) (by decide +kernel) rfl ⟨Nat.le_of_ble_eq_true rfl, Nat.le_of_ble_eq_true rfl⟩ (Nat.le_of_ble_eq_true rfl) dX3_sum_17) ⟨⟨rfl, rfl⟩, (Nat.le_of_ble_eq_true rfl), (Nat.le_of_ble_eq_true rfl)⟩ fun v7 w8 e9 => ?_
        refine J.iadd hx dX3_sum_22 ?_
        refine J.nmi fun v10 => ?_
        refine J.istore_n (lv' := [(1, .int v10), (0, .ref (B.1 2 i0)), (2, .int v2)]) hx dX3_sum_23 rfl (by decide) rfl ?_
        refine J.nmx fun v11 ev11 => ?_
        refine J.iinc (p := 2) (v := v11) (lv' := [(2, .int v11), (1, .int v10), (0, .ref (B.1 2 i0))]) hx dX3_sum_24 rfl (by rw [ev11]; rfl) (by decide) rfl ?_
        refine J.goto (tgt := 4) hx dX3_sum_27 (by decide) ?_
        exact J.sub [2, 1, 0] rfl (ih v10 v11 w8)
  refine J.sub [2, 1, 0] rfl (hL4 jFU 0 0 w)
theorem hd_X3_run : yX3_run.cls = RX3 ∧ yX3_run.cls ≠ "java/lang/invoke/MethodHandle" ∧ yX3_run.cls ≠ "java/lang/invoke/VarHandle" ∧ (parseMethodDescriptor yX3_run.desc).map (fun d => d.parameters.length) = some 2 := by decide +kernel
def f_X3_run_k4_L7 (i0 : Nat) (p2 : Int32) (k33 : Int32 → j_St → Option (Int32 × j_St)) : Nat → Int32 → Int32 → j_St → Option (Int32 × j_St)
  | 0, _, _, _ => none
  | n7 + 1, v2, v3, w4 => if v3 < 0 then k33 v2 w4 else jcb (f_X7_at i0 v3 w4) fun v5 w6 => if v5 < p2 then k33 v2 w6 else jlt (v2 + 1) fun v8 => jlt (v3 + (-1)) fun v9 => f_X3_run_k4_L7 i0 p2 k33 n7 v8 v9 w6
def f_X3_run_k4_L38 (i0 : Nat) (p2 : Int32)  : Nat → Int32 → Int32 → j_St → Option (Int32 × j_St)
  | 0, _, _, _ => none
  | n38 + 1, v13, v14, w15 => jcb (f_X7_many i0 w15) fun v16 w17 => if v16 ≤ v14 then some (v13, w17) else jcb (f_X7_at i0 v14 w17) fun v19 w20 => if v19 < p2 then some (v13, w20) else jlt (v13 + 1) fun v22 => jlt (v14 + 1) fun v23 => f_X3_run_k4_L38 i0 p2 n38 v22 v23 w20
def f_X3_run_k4 (i0 : Nat) (p1 : Int32) (p2 : Int32) (w : j_St) : Option (Int32 × j_St) := jlt (p1 - 1) fun v1 => f_X3_run_k4_L7 i0 p2 (fun (v10 : Int32) (w11 : j_St) => jlt (p1 + 1) fun v12 => f_X3_run_k4_L38 i0 p2 jFU v10 v12 w11) jFU 1 v1 w
abbrev rm_X3_run_k4 : Room := { frames := 1, cells := 0, slots := 0, locals := 21 }
set_option maxRecDepth 100000 in
set_option maxHeartbeats 4000000 in
theorem mt_X3_run_k4 {g : j_G} {B : j_B} {i0 : Nat} {p1 : Int32} {p2 : Int32} {w w' : j_St} (a0 : B.2.1 4 i0 ∧ B.2.2 4 i0) {r : Int32} (h : f_X3_run_k4 i0 p1 p2 w = some (r, w')) : j_M g yX3_run cX3_run 5 (some FieldType.int) rm_X3_run_k4 B [.ref (B.1 4 i0), .int p1, .int p2] w w' (jri r) := by
  refine j_met (rv := jri) (by decide) (Nat.le_of_ble_eq_true rfl) (fun x hx => ?_) h
  unfold f_X3_run_k4
  refine J.sub (lv' := [(0, .ref (B.1 4 i0)), (1, .int p1), (2, .int p2)]) [0, 1, 2] rfl ?_
  refine J.iconst (v := 1) hx dX3_run_0 (by decide) ?_
  refine J.istore_n (lv' := [(3, .int 1), (0, .ref (B.1 4 i0)), (1, .int p1), (2, .int p2)]) hx dX3_run_1 rfl (by decide) rfl ?_
  refine J.iload_n hx dX3_run_2 rfl 2 rfl ?_
  refine J.iconst (v := 1) hx dX3_run_3 (by decide) ?_
  refine J.isub hx dX3_run_4 ?_
  refine J.nmi fun v1 => ?_
  refine J.istore (lv' := [(4, .int v1), (3, .int 1), (0, .ref (B.1 4 i0)), (1, .int p1), (2, .int p2)]) hx dX3_run_5 (by decide) rfl ?_
  have hL7 : ∀ (k33 : Int32 → j_St → Option (Int32 × j_St)) (hk33 : ∀ (v10 : Int32) (w11 : j_St), J g x 5 B (j_Q g x B rm_X3_run_k4 jri) 0 0 (k33 v10 w11) 33 [(0, .ref (B.1 4 i0)), (1, .int p1), (2, .int p2), (3, .int v10)] [] w11) (n7 : Nat) (v2 : Int32) (v3 : Int32) (w4 : j_St), J g x 5 B (j_Q g x B rm_X3_run_k4 jri) 0 0 (f_X3_run_k4_L7 i0 p2 k33 n7 v2 v3 w4) 7 [(0, .ref (B.1 4 i0)), (1, .int p1), (2, .int p2), (3, .int v2), (4, .int v3)] [] w4 := by
    intro k33 hk33 n7
    induction n7 with
    | zero =>
      intro v2 v3 w4
      rw [f_X3_run_k4_L7]
      exact J.nne
    | succ n7 ih =>
      intro v2 v3 w4
      rw [f_X3_run_k4_L7]
      refine J.iload hx dX3_run_7 4 rfl ?_
      refine J.if_lt (tgt := 33) hx dX3_run_9 (by decide) ?_ ?_
      · exact J.sub [0, 1, 2, 3] rfl (hk33 v2 w4)
      · refine J.aload_n hx dX3_run_12 rfl 0 rfl ?_
        refine J.iload hx dX3_run_13 4 rfl ?_
        refine J.calli hx (fun r z1 z => j_callF (n := 1) (κ := 4) hx rfl rfl a0.1 (mt_X7_at a0 z) (j_wF q1036 q1050 q1052 q127 q1054) (List.mem_of_getElem? (i := 0) rfl) (by decide +kernel) rfl ⟨Nat.le_of_ble_eq_true rfl, Nat.le_of_ble_eq_true rfl⟩ (Nat.le_of_ble_eq_true rfl) dX3_run_15) ⟨⟨rfl, rfl⟩, (Nat.le_of_ble_eq_true rfl), (Nat.le_of_ble_eq_true rfl)⟩ fun v5 w6 e7 => ?_
        refine J.iload_n hx dX3_run_20 rfl 2 rfl ?_
        refine J.icmp_lt (tgt := 33) hx dX3_run_21 (by decide) ?_ ?_
        · exact J.sub [0, 1, 2, 3] rfl (hk33 v2 w6)
        · refine J.nmx fun v8 ev8 => ?_
          refine J.iinc (p := 3) (v := v8) (lv' := [(3, .int v8), (0, .ref (B.1 4 i0)), (1, .int p1), (2, .int p2), (4, .int v3)]) hx dX3_run_24 rfl (by rw [ev8]; rfl) (by decide) rfl ?_
          refine J.nmx fun v9 ev9 => ?_
          refine J.iinc (p := 4) (v := v9) (lv' := [(4, .int v9), (3, .int v8), (0, .ref (B.1 4 i0)), (1, .int p1), (2, .int p2)]) hx dX3_run_27 rfl (by rw [ev9]; rfl) (by decide) rfl ?_
          refine J.goto (tgt := 7) hx dX3_run_30 (by decide) ?_
          exact J.sub [2, 3, 4, 1, 0] rfl (ih v8 v9 w6)
  refine J.sub [2, 3, 4, 1, 0] rfl (hL7 _ ?_ jFU 1 v1 w)
  · intro v10 w11
    refine J.iload_n hx dX3_run_33 rfl 1 rfl ?_
    refine J.iconst (v := 1) hx dX3_run_34 (by decide) ?_
    refine J.iadd hx dX3_run_35 ?_
    refine J.nmi fun v12 => ?_
    refine J.istore (lv' := [(4, .int v12), (0, .ref (B.1 4 i0)), (1, .int p1), (2, .int p2), (3, .int v10)]) hx dX3_run_36 (by decide) rfl ?_
    have hL38 : ∀ (n38 : Nat) (v13 : Int32) (v14 : Int32) (w15 : j_St), J g x 5 B (j_Q g x B rm_X3_run_k4 jri) 0 0 (f_X3_run_k4_L38 i0 p2 n38 v13 v14 w15) 38 [(0, .ref (B.1 4 i0)), (2, .int p2), (3, .int v13), (4, .int v14)] [] w15 := by
      intro n38
      induction n38 with
      | zero =>
        intro v13 v14 w15
        rw [f_X3_run_k4_L38]
        exact J.nne
      | succ n38 ih =>
        intro v13 v14 w15
        rw [f_X3_run_k4_L38]
        refine J.iload hx dX3_run_38 3 rfl ?_
        refine J.aload_n hx dX3_run_40 rfl 0 rfl ?_
        refine J.calli hx (fun r z1 z => j_callF (n := 0) (κ := 4) hx rfl rfl a0.1 (mt_X7_many a0 z) (j_wF q1056 q1064 q1066 q127 q1068) (List.mem_of_getElem? (i := 1) rfl) (by decide +kernel) rfl ⟨Nat.le_of_ble_eq_true rfl, Nat.le_of_ble_eq_true rfl⟩ (Nat.le_of_ble_eq_true rfl) dX3_run_41) ⟨⟨rfl, rfl⟩, (Nat.le_of_ble_eq_true rfl), (Nat.le_of_ble_eq_true rfl)⟩ fun v16 w17 e18 => ?_
        refine J.icmp_ge (tgt := 70) hx dX3_run_46 (by decide) ?_ ?_
        · refine J.iload_n hx dX3_run_70 rfl 2 rfl ?_
          exact J.iret hx rfl (Nat.le_of_ble_eq_true rfl) (Nat.le_of_ble_eq_true rfl) dX3_run_71
        · refine J.aload_n hx dX3_run_49 rfl 0 rfl ?_
          refine J.iload hx dX3_run_50 3 rfl ?_
          refine J.calli hx (fun r z1 z => j_callF (n := 1) (κ := 4) hx rfl rfl a0.1 (mt_X7_at a0 z) (j_wF q1036 q1050 q1052 q127 q1054) (List.mem_of_getElem? (i := 0) rfl) (by decide +kernel) rfl ⟨Nat.le_of_ble_eq_true rfl, Nat.le_of_ble_eq_true rfl⟩ (Nat.le_of_ble_eq_true rfl) dX3_run_52) ⟨⟨rfl, rfl⟩, (Nat.le_of_ble_eq_true rfl), (Nat.le_of_ble_eq_true rfl)⟩ fun v19 w20 e21 => ?_
          refine J.iload_n hx dX3_run_57 rfl 1 rfl ?_
          refine J.icmp_lt (tgt := 70) hx dX3_run_58 (by decide) ?_ ?_
          · refine J.iload_n hx dX3_run_70 rfl 2 rfl ?_
            exact J.iret hx rfl (Nat.le_of_ble_eq_true rfl) (Nat.le_of_ble_eq_true rfl) dX3_run_71
          · refine J.nmx fun v22 ev22 => ?_
            refine J.iinc (p := 2) (v := v22) (lv' := [(3, .int v22), (0, .ref (B.1 4 i0)), (2, .int p2), (4, .int v14)]) hx dX3_run_61 rfl (by rw [ev22]; rfl) (by decide) rfl ?_
            refine J.nmx fun v23 ev23 => ?_
            refine J.iinc (p := 3) (v := v23) (lv' := [(4, .int v23), (3, .int v22), (0, .ref (B.1 4 i0)), (2, .int p2)]) hx dX3_run_64 rfl (by rw [ev23]; rfl) (by decide) rfl ?_
            refine J.goto (tgt := 38) hx dX3_run_67 (by decide) ?_
            exact J.sub [2, 3, 1, 0] rfl (ih v22 v23 w20)
    refine J.sub [1, 3, 4, 0] rfl (hL38 jFU v10 v12 w11)
theorem hd_X3_apart : yX3_apart.cls = RX3 ∧ yX3_apart.cls ≠ "java/lang/invoke/MethodHandle" ∧ yX3_apart.cls ≠ "java/lang/invoke/VarHandle" ∧ (parseMethodDescriptor yX3_apart.desc).map (fun d => d.parameters.length) = some 2 := by decide +kernel
def f_X3_apart_L4 (i0 : Nat) (i1 : Nat)  : Nat → Int32 → Int32 → j_St → Option (Int32 × j_St)
  | 0, _, _, _ => none
  | n4 + 1, v1, v2, w3 => jcb (f_X5_many i0 w3) fun v4 w5 => jcb (f_X5_many i1 w5) fun v7 w8 => if jmax v4 v7 ≤ v2 then some (v1, w8) else jcb (f_X5_many i0 w8) fun v10 w11 => jlt (fun (v16 : Int32) (w17 : j_St) => jcb (f_X5_many i1 w17) fun v18 w19 => jlt (fun (v24 : Int32) (w25 : j_St) => jlt (v1 + (jabs (v16 - v24))) fun v26 => jlt (v2 + 1) fun v27 => f_X3_apart_L4 i0 i1 n4 v26 v27 w25) fun K66 => if v18 ≤ v2 then K66 0 w19 else jcb (f_X5_at i1 v2 w19) fun v21 w22 => K66 v21 w22) fun K45 => if v10 ≤ v2 then K45 0 w11 else jcb (f_X5_at i0 v2 w11) fun v13 w14 => K45 v13 w14
def f_X3_apart (i0 : Nat) (i1 : Nat) (w : j_St) : Option (Int32 × j_St) := f_X3_apart_L4 i0 i1 jFU 0 0 w
abbrev rm_X3_apart : Room := { frames := 2, cells := 0, slots := 0, locals := 41 }
set_option maxRecDepth 100000 in
set_option maxHeartbeats 4000000 in
theorem mt_X3_apart {g : j_G} {B : j_B} {i0 : Nat} {i1 : Nat} {w w' : j_St} (b0 : B.2.1 2 i0 ∧ B.2.2 2 i0) (b1 : B.2.1 2 i1 ∧ B.2.2 2 i1) {r : Int32} (h : f_X3_apart i0 i1 w = some (r, w')) : j_M g yX3_apart cX3_apart 4 (some FieldType.int) rm_X3_apart B [.ref (B.1 2 i0), .ref (B.1 2 i1)] w w' (jri r) := by
  refine j_met (rv := jri) (by decide) (Nat.le_of_ble_eq_true rfl) (fun x hx => ?_) h
  unfold f_X3_apart
  refine J.sub (lv' := [(0, .ref (B.1 2 i0)), (1, .ref (B.1 2 i1))]) [0, 1] rfl ?_
  refine J.iconst (v := 0) hx dX3_apart_0 (by decide) ?_
  refine J.istore_n (lv' := [(2, .int 0), (0, .ref (B.1 2 i0)), (1, .ref (B.1 2 i1))]) hx dX3_apart_1 rfl (by decide) rfl ?_
  refine J.iconst (v := 0) hx dX3_apart_2 (by decide) ?_
  refine J.istore_n (lv' := [(3, .int 0), (2, .int 0), (0, .ref (B.1 2 i0)), (1, .ref (B.1 2 i1))]) hx dX3_apart_3 rfl (by decide) rfl ?_
  have hL4 : ∀ (n4 : Nat) (v1 : Int32) (v2 : Int32) (w3 : j_St), J g x 4 B (j_Q g x B rm_X3_apart jri) 0 0 (f_X3_apart_L4 i0 i1 n4 v1 v2 w3) 4 [(0, .ref (B.1 2 i0)), (1, .ref (B.1 2 i1)), (2, .int v1), (3, .int v2)] [] w3 := by
    intro n4
    induction n4 with
    | zero =>
      intro v1 v2 w3
      rw [f_X3_apart_L4]
      exact J.nne
    | succ n4 ih =>
      intro v1 v2 w3
      rw [f_X3_apart_L4]
      refine J.iload_n hx dX3_apart_4 rfl 3 rfl ?_
      refine J.aload_n hx dX3_apart_5 rfl 0 rfl ?_
      refine J.calli hx (fun r z1 z => j_callF (n := 0) (κ := 2) hx rfl rfl b0.1 (mt_X5_many b0 z) (j_wF q1056 q1059 q1061 q125 q1063) (List.mem_of_getElem? (i := 3) rfl) (by decide +kernel) rfl ⟨Nat.le_of_ble_eq_true rfl, Nat.le_of_ble_eq_true rfl⟩ (Nat.le_of_ble_eq_true rfl) dX3_apart_6) ⟨⟨rfl, rfl⟩, (Nat.le_of_ble_eq_true rfl), (Nat.le_of_ble_eq_true rfl)⟩ fun v4 w5 e6 => ?_
      refine J.aload_n hx dX3_apart_11 rfl 1 rfl ?_
      refine J.calli hx (fun r z1 z => j_callF (n := 0) (κ := 2) hx rfl rfl b1.1 (mt_X5_many b1 z) (j_wF q1056 q1059 q1061 q125 q1063) (List.mem_of_getElem? (i := 3) rfl) (by decide +kernel) rfl ⟨Nat.le_of_ble_eq_true rfl, Nat.le_of_ble_eq_true rfl⟩ (Nat.le_of_ble_eq_true rfl) dX3_apart_12) ⟨⟨rfl, rfl⟩, (Nat.le_of_ble_eq_true rfl), (Nat.le_of_ble_eq_true rfl)⟩ fun v7 w8 e9 => ?_
      refine J.mmax hx q194 q195 q123 q196 ⟨Nat.le_of_ble_eq_true rfl, Nat.le_of_ble_eq_true rfl⟩ (Nat.le_of_ble_eq_true rfl) (Nat.le_of_ble_eq_true rfl) (Nat.le_of_ble_eq_true rfl) dX3_apart_17 ?_
      refine J.icmp_ge (tgt := 78) hx dX3_apart_20 (by decide) ?_ ?_
      · refine J.iload_n hx dX3_apart_78 rfl 2 rfl ?_
        exact J.iret hx rfl (Nat.le_of_ble_eq_true rfl) (Nat.le_of_ble_eq_true rfl) dX3_apart_79
      · refine J.iload_n hx dX3_apart_23 rfl 2 rfl ?_
        refine J.iload_n hx dX3_apart_24 rfl 3 rfl ?_
        refine J.aload_n hx dX3_apart_25 rfl 0 rfl ?_
        refine J.calli hx (fun r z1 z => j_callF (n := 0) (κ := 2) hx rfl rfl b0.1 (mt_X5_many b0 z) (j_wF q1056 q1059 q1061 q125 q1063) (List.mem_of_getElem? (i := 3) rfl) (by decide +kernel) rfl ⟨Nat.le_of_ble_eq_true rfl, Nat.le_of_ble_eq_true rfl⟩ (Nat.le_of_ble_eq_true rfl) dX3_apart_26) ⟨⟨rfl, rfl⟩, (Nat.le_of_ble_eq_true rfl), (Nat.le_of_ble_eq_true rfl)⟩ fun v10 w11 e12 => ?_
        refine J.fn (fun (K45 : Int32 → j_St → Option (Int32 × j_St)) => ∀ (v16 : Int32) (w17 : j_St), J g x 4 B (j_Q g x B rm_X3_apart jri) 0 0 (K45 v16 w17) 45 [(0, .ref (B.1 2 i0)), (1, .ref (B.1 2 i1)), (3, .int v2)] [.int v16, .int v1] w17) ?_ ?_
        · intro v16 w17
          refine J.iload_n hx dX3_apart_45 rfl 2 rfl ?_
          refine J.aload_n hx dX3_apart_46 rfl 1 rfl ?_
          refine J.calli hx (fun r z1 z => j_callF (n := 0) (κ := 2) hx rfl rfl b1.1 (mt_X5_many b1 z) (j_wF q1056 q1059 q1061 q125 q1063) (List.mem_of_getElem? (i := 3) rfl) (by decide +kernel) rfl ⟨Nat.le_of_ble_eq_true rfl, Nat.le_of_ble_eq_true rfl⟩ (Nat.le_of_ble_eq_true rfl) dX3_apart_47) ⟨⟨rfl, rfl⟩, (Nat.le_of_ble_eq_true rfl), (Nat.le_of_ble_eq_true rfl)⟩ fun v18 w19 e20 => ?_
          refine J.fn (fun (K66 : Int32 → j_St → Option (Int32 × j_St)) => ∀ (v24 : Int32) (w25 : j_St), J g x 4 B (j_Q g x B rm_X3_apart jri) 0 0 (K66 v24 w25) 66 [(0, .ref (B.1 2 i0)), (1, .ref (B.1 2 i1)), (3, .int v2)] [.int v24, .int v16, .int v1] w25) ?_ ?_
          · intro v24 w25
            refine J.isub hx dX3_apart_66 ?_
            refine J.mabs hx q1327 q1302 q123 q1303 ⟨Nat.le_of_ble_eq_true rfl, Nat.le_of_ble_eq_true rfl⟩ (Nat.le_of_ble_eq_true rfl) (Nat.le_of_ble_eq_true rfl) (Nat.le_of_ble_eq_true rfl) dX3_apart_67 ?_
            refine J.iadd hx dX3_apart_70 ?_
            refine J.nmi fun v26 => ?_
            refine J.istore_n (lv' := [(2, .int v26), (0, .ref (B.1 2 i0)), (1, .ref (B.1 2 i1)), (3, .int v2)]) hx dX3_apart_71 rfl (by decide) rfl ?_
            refine J.nmx fun v27 ev27 => ?_
            refine J.iinc (p := 3) (v := v27) (lv' := [(3, .int v27), (2, .int v26), (0, .ref (B.1 2 i0)), (1, .ref (B.1 2 i1))]) hx dX3_apart_72 rfl (by rw [ev27]; rfl) (by decide) rfl ?_
            refine J.goto (tgt := 4) hx dX3_apart_75 (by decide) ?_
            exact J.sub [2, 3, 1, 0] rfl (ih v26 v27 w25)
          · intro K66 hK66
            refine J.icmp_ge (tgt := 65) hx dX3_apart_52 (by decide) ?_ ?_
            · refine J.iconst (v := 0) hx dX3_apart_65 (by decide) ?_
              exact J.sub [0, 1, 2] rfl (hK66 0 w19)
            · refine J.aload_n hx dX3_apart_55 rfl 1 rfl ?_
              refine J.iload_n hx dX3_apart_56 rfl 2 rfl ?_
              refine J.calli hx (fun r z1 z => j_callF (n := 1) (κ := 2) hx rfl rfl b1.1 (mt_X5_at b1 z) (j_wF q1036 q1040 q1042 q125 q1044) (List.mem_of_getElem? (i := 2) rfl) (by decide +kernel) rfl ⟨Nat.le_of_ble_eq_true rfl, Nat.le_of_ble_eq_true rfl⟩ (Nat.le_of_ble_eq_true rfl) dX3_apart_57) ⟨⟨rfl, rfl⟩, (Nat.le_of_ble_eq_true rfl), (Nat.le_of_ble_eq_true rfl)⟩ fun v21 w22 e23 => ?_
              refine J.goto (tgt := 66) hx dX3_apart_62 (by decide) ?_
              exact J.sub [0, 1, 2] rfl (hK66 v21 w22)
        · intro K45 hK45
          refine J.icmp_ge (tgt := 44) hx dX3_apart_31 (by decide) ?_ ?_
          · refine J.iconst (v := 0) hx dX3_apart_44 (by decide) ?_
            exact J.sub [0, 1, 3] rfl (hK45 0 w11)
          · refine J.aload_n hx dX3_apart_34 rfl 0 rfl ?_
            refine J.iload_n hx dX3_apart_35 rfl 3 rfl ?_
            refine J.calli hx (fun r z1 z => j_callF (n := 1) (κ := 2) hx rfl rfl b0.1 (mt_X5_at b0 z) (j_wF q1036 q1040 q1042 q125 q1044) (List.mem_of_getElem? (i := 2) rfl) (by decide +kernel) rfl ⟨Nat.le_of_ble_eq_true rfl, Nat.le_of_ble_eq_true rfl⟩ (Nat.le_of_ble_eq_true rfl) dX3_apart_36) ⟨⟨rfl, rfl⟩, (Nat.le_of_ble_eq_true rfl), (Nat.le_of_ble_eq_true rfl)⟩ fun v13 w14 e15 => ?_
            refine J.goto (tgt := 45) hx dX3_apart_41 (by decide) ?_
            exact J.sub [0, 1, 3] rfl (hK45 v13 w14)
  refine J.sub [2, 3, 1, 0] rfl (hL4 jFU 0 0 w)
theorem hd_X5_beside : yX5_beside.cls = RX5 ∧ yX5_beside.cls ≠ "java/lang/invoke/MethodHandle" ∧ yX5_beside.cls ≠ "java/lang/invoke/VarHandle" ∧ (parseMethodDescriptor yX5_beside.desc).map (fun d => d.parameters.length) = some 1 := by decide +kernel
def f_X5_beside (i0 : Nat) (p1 : Int32) (w : j_St) : Option (Option Nat × j_St) := if p1 < 0 then some (none, w) else jlt (jgr w 2 i0 4) fun v1 => job v1 fun y3 => jlt (jgi w 4 y3 1) fun v5 => if v5 ≤ p1 then some (none, w) else jbd p1 48 fun a7 => jlt (jgr w 28 i0 a7) fun v8 => some (v8, w)
abbrev rm_X5_beside : Room := { frames := 0, cells := 0, slots := 0, locals := 0 }
set_option maxRecDepth 100000 in
set_option maxHeartbeats 4000000 in
theorem mt_X5_beside {g : j_G} {B : j_B} {i0 : Nat} {p1 : Int32} {w w' : j_St} (a0 : B.2.1 2 i0 ∧ B.2.2 2 i0) {r : Option Nat} (h : f_X5_beside i0 p1 w = some (r, w')) : j_M g yX5_beside cX5_beside 2 (some (FieldType.object "TracePeaks$Peak")) rm_X5_beside B [.ref (B.1 2 i0), .int p1] w w' ((jro_ B 3) r) := by
  refine j_met (rv := (jro_ B 3)) (by decide) (Nat.le_of_ble_eq_true rfl) (fun x hx => ?_) h
  unfold f_X5_beside
  refine J.sub (lv' := [(0, .ref (B.1 2 i0)), (1, .int p1)]) [0, 1] rfl ?_
  refine J.iload_n hx dX5_beside_0 rfl 1 rfl ?_
  refine J.if_lt (tgt := 24) hx dX5_beside_1 (by decide) ?_ ?_
  · refine J.null (ad := fun _ => 0) hx dX5_beside_24 ?_
    exact J.aretq (κ := 3) (q := none) hx rfl (Or.inl ⟨_, rfl⟩) (Nat.le_of_ble_eq_true rfl) (Nat.le_of_ble_eq_true rfl) dX5_beside_25
  · refine J.iload_n hx dX5_beside_4 rfl 1 rfl ?_
    refine J.aload_n hx dX5_beside_5 rfl 0 rfl ?_
    refine J.getr (κ' := 4) (κ := 2) (k := 4) hx rfl rfl rfl rfl in_X5 (by decide) (Or.inl q280) a0.1 dX5_beside_6 fun v1 h2 => ?_
    refine J.obU fun y3 e4 => ?_
    subst e4
    refine J.geti (κ := 4) (k := 1) hx rfl rfl rfl in_X7 (by decide) (Or.inr ⟨_, j_nl q321 rfl⟩) (h2 y3 rfl).1 dX5_beside_9 fun v5 => ?_
    refine J.icmp_ge (tgt := 24) hx dX5_beside_12 (by decide) ?_ ?_
    · refine J.null (ad := fun _ => 0) hx dX5_beside_24 ?_
      exact J.aretq (κ := 3) (q := none) hx rfl (Or.inl ⟨_, rfl⟩) (Nat.le_of_ble_eq_true rfl) (Nat.le_of_ble_eq_true rfl) dX5_beside_25
    · refine J.aload_n hx dX5_beside_15 rfl 0 rfl ?_
      refine J.getc (κ' := 28) (i' := i0) (κ := 2) (k := 2) hx rfl rfl rfl rfl rfl in_X5 (by decide) (Or.inl q278) a0.2 dX5_beside_16 fun h6 => ?_
      refine J.iload_n hx dX5_beside_19 rfl 1 rfl ?_
      refine J.aald (κ' := 3) (κ := 28) hx rfl rfl (by decide) rfl rfl h6.1 dX5_beside_20 fun v8 h9 => ?_
      refine J.goto (tgt := 25) hx dX5_beside_21 (by decide) ?_
      exact J.aretq (κ := 3) (q := v8) hx rfl (Or.inl ⟨_, rfl⟩) (Nat.le_of_ble_eq_true rfl) (Nat.le_of_ble_eq_true rfl) dX5_beside_25
theorem mq_X5_beside {g : j_G} {B : j_B} {i0 : Nat} {p1 : Int32} {w w1 : j_St} {r : Option Nat} (a0 : B.2.1 2 i0 ∧ B.2.2 2 i0) (h : f_X5_beside i0 p1 w = some (r, w1)) : ∀ H, j_R g B w1 H → ∀ q, r = some q → B.2.1 3 q ∧ B.2.2 3 q := by
  intro H hR q hq
  have key : r = none ∨ ∃ a, r = jgr w1 28 i0 a ∧ a < 48 := by
    unfold f_X5_beside at h
    split at h
    · cases h; exact Or.inl rfl
    · obtain ⟨y, -, h⟩ := job_some h
      rw [jlt_eq] at h
      split at h
      · cases h; exact Or.inl rfl
      · obtain ⟨hb, h⟩ := jbd_some h
        cases h
        exact Or.inr ⟨_, rfl, by omega⟩
  rcases key with rfl | ⟨a, rfl, -⟩
  · cases hq
  · have h1 : B.2.1 28 i0 := (hR.2.2.2.2.2.2.2.1 2 i0 2 a0.2 rfl).2 |> hR.2.2.2.2.2.2.2.2.1 28 i0
    exact ⟨hR.2.2.2.2.2.1 28 i0 a q h1 hq, hR.2.2.2.2.2.2.1 28 i0 a q h1 hq rfl⟩

theorem hd_X5_joins : yX5_joins.cls = RX5 ∧ yX5_joins.cls ≠ "java/lang/invoke/MethodHandle" ∧ yX5_joins.cls ≠ "java/lang/invoke/VarHandle" ∧ (parseMethodDescriptor yX5_joins.desc).map (fun d => d.parameters.length) = some 3 := by decide +kernel
def f_X5_joins_L64 (i0 : Nat) (v7 : Nat) (v12 : Nat)  : Nat → Int32 → j_St → Option (Unit × j_St)
  | 0, _, _ => none
  | n64 + 1, v28, w29 => jlt (jgr w29 2 i0 4) fun v30 => job v30 fun y32 => jlt (jgi w29 4 y32 1) fun v34 => if v34 ≤ v28 then some ((), w29) else jbd v28 48 fun a36 => jlt (jgr w29 28 i0 a36) fun v37 => jlt (fun (w42 : j_St) => jlt (v28 + 1) fun v43 => f_X5_joins_L64 i0 v7 v12 n64 v43 w42) fun K97 => if v37 = (some v12) then jbd v28 48 fun a41 => jlt (jsr w29 28 i0 a41 (some v7)) fun w40 => K97 w40 else K97 w29
def f_X5_joins (i0 : Nat) (p1 : Int32) (q2 : Option Nat) (q3 : Option Nat) (w : j_St) : Option (Unit × j_St) := job q2 fun y1 => jlt (jgi w 3 y1 4) fun v3 => job q3 fun y4 => jlt (jgi w 3 y4 4) fun v6 => jlt (fun (v7 : Nat) (w9 : j_St) => jlt (jgi w9 3 y1 4) fun v10 => jlt (jgi w9 3 y4 4) fun v11 => jlt (fun (v12 : Nat) (w14 : j_St) => jlt (jgr w14 2 i0 4) fun v15 => job v15 fun y17 => jbd p1 48 fun a20 => jlt (jgi w14 32 y17 a20) fun v21 => jcb (f_X6_dies v12 p1 v21 (some v7) w14) fun _ w23 => jbd p1 48 fun a27 => jlt (jsr w23 28 i0 a27 (some v7)) fun w26 => f_X5_joins_L64 i0 v7 v12 jFU 0 w26) fun K34 => if v11 ≤ v10 then K34 y1 w9 else K34 y4 w9) fun K16 => if v6 ≤ v3 then K16 y4 w else K16 y1 w
abbrev rm_X5_joins : Room := { frames := 1, cells := 0, slots := 0, locals := 23 }
set_option maxRecDepth 100000 in
set_option maxHeartbeats 4000000 in
theorem mt_X5_joins {g : j_G} {B : j_B} {i0 : Nat} {p1 : Int32} {q2 : Option Nat} {q3 : Option Nat} {w w' : j_St} (a0 : B.2.1 2 i0 ∧ B.2.2 2 i0) (b2 : ∀ q, q2 = some q → B.2.1 3 q ∧ B.2.2 3 q) (b3 : ∀ q, q3 = some q → B.2.1 3 q ∧ B.2.2 3 q) {r : Unit} (h : f_X5_joins i0 p1 q2 q3 w = some (r, w')) : j_M g yX5_joins cX5_joins 7 none rm_X5_joins B [.ref (B.1 2 i0), .int p1, va_re (B.1 3) q2, va_re (B.1 3) q3] w w' (jrv r) := by
  refine j_met (rv := jrv) (by decide) (by simp [lg_sl, va_re_cat, jct_i, jct_l, jct_r, jct_n]) (fun x hx => ?_) h
  unfold f_X5_joins
  rw [show lv_args 0 [.ref (B.1 2 i0), .int p1, va_re (B.1 3) q2, va_re (B.1 3) q3] = [(0, .ref (B.1 2 i0)), (1, .int p1), (2, va_re (B.1 3) q2), (3, va_re (B.1 3) q3)] from by simp [lv_args, va_re_cat, jct_i, jct_l, jct_r, jct_n]]
  refine J.sub (lv' := [(0, .ref (B.1 2 i0)), (1, .int p1), (2, va_re (B.1 3) q2), (3, va_re (B.1 3) q3)]) [0, 1, 2, 3] rfl ?_
  refine J.aload_nq hx dX5_joins_0 rfl 2 rfl ?_
  refine J.obU fun y1 e2 => ?_
  subst e2
  refine J.geti (κ := 3) (k := 4) hx rfl rfl rfl in_X6 (by decide) (Or.inr ⟨_, j_nl q250 rfl⟩) (b2 y1 rfl).1 dX5_joins_1 fun v3 => ?_
  refine J.aload_nq hx dX5_joins_4 rfl 3 rfl ?_
  refine J.obU fun y4 e5 => ?_
  subst e5
  refine J.geti (κ := 3) (k := 4) hx rfl rfl rfl in_X6 (by decide) (Or.inr ⟨_, j_nl q250 rfl⟩) (b3 y4 rfl).1 dX5_joins_5 fun v6 => ?_
  refine J.fn (fun (K16 : Nat → j_St → Option (Unit × j_St)) => ∀ (v7 : Nat) (h8 : B.2.1 3 v7 ∧ B.2.2 3 v7) (w9 : j_St), J g x 7 B (j_Q g x B rm_X5_joins jrv) 0 0 (K16 v7 w9) 16 [(0, .ref (B.1 2 i0)), (1, .int p1), (2, .ref (B.1 3 y1)), (3, .ref (B.1 3 y4))] [.ref (B.1 3 v7)] w9) ?_ ?_
  · intro v7 h8 w9
    refine J.astore (lv' := [(4, .ref (B.1 3 v7)), (0, .ref (B.1 2 i0)), (1, .int p1), (2, .ref (B.1 3 y1)), (3, .ref (B.1 3 y4))]) hx dX5_joins_16 (by decide) rfl ?_
    refine J.aload_n hx dX5_joins_18 rfl 3 rfl ?_
    refine J.geti (κ := 3) (k := 4) hx rfl rfl rfl in_X6 (by decide) (Or.inr ⟨_, j_nl q250 rfl⟩) (b2 y1 rfl).1 dX5_joins_19 fun v10 => ?_
    refine J.aload_n hx dX5_joins_22 rfl 4 rfl ?_
    refine J.geti (κ := 3) (k := 4) hx rfl rfl rfl in_X6 (by decide) (Or.inr ⟨_, j_nl q250 rfl⟩) (b3 y4 rfl).1 dX5_joins_23 fun v11 => ?_
    refine J.fn (fun (K34 : Nat → j_St → Option (Unit × j_St)) => ∀ (v12 : Nat) (h13 : B.2.1 3 v12 ∧ B.2.2 3 v12) (w14 : j_St), J g x 7 B (j_Q g x B rm_X5_joins jrv) 0 0 (K34 v12 w14) 34 [(0, .ref (B.1 2 i0)), (1, .int p1), (4, .ref (B.1 3 v7))] [.ref (B.1 3 v12)] w14) ?_ ?_
    · intro v12 h13 w14
      refine J.astore (lv' := [(5, .ref (B.1 3 v12)), (0, .ref (B.1 2 i0)), (1, .int p1), (4, .ref (B.1 3 v7))]) hx dX5_joins_34 (by decide) rfl ?_
      refine J.aload hx dX5_joins_36 0 rfl ?_
      refine J.iload_n hx dX5_joins_38 rfl 2 rfl ?_
      refine J.aload_n hx dX5_joins_39 rfl 1 rfl ?_
      refine J.getr (κ' := 4) (κ := 2) (k := 4) hx rfl rfl rfl rfl in_X5 (by decide) (Or.inl q280) a0.1 dX5_joins_40 fun v15 h16 => ?_
      refine J.obU fun y17 e18 => ?_
      subst e18
      refine J.getc (κ' := 32) (i' := y17) (κ := 4) (k := 0) hx rfl rfl rfl rfl rfl in_X7 (by decide) (Or.inr ⟨_, j_nl q317 rfl⟩) (h16 y17 rfl).2 dX5_joins_43 fun h19 => ?_
      refine J.iload_n hx dX5_joins_46 rfl 2 rfl ?_
      refine J.iald (κ := 32) hx rfl rfl h19.1 dX5_joins_47 fun v21 => ?_
      refine J.aload hx dX5_joins_48 3 rfl ?_
      refine J.callv hx (fun r z1 z => j_callV (κ := 3) hx rfl rfl h13.1 (mt_X6_dies h13 (j_sm h8) z) (lw_V q1022 q1023 q1024 q126 q1025) hd_X6_dies rfl ⟨Nat.le_of_ble_eq_true rfl, Nat.le_of_ble_eq_true rfl⟩ (Nat.le_of_ble_eq_true rfl) dX5_joins_50) ⟨⟨rfl, rfl⟩, (Nat.le_of_ble_eq_true rfl), (Nat.le_of_ble_eq_true rfl)⟩ fun _ w23 e24 => ?_
      refine J.aload_n hx dX5_joins_53 rfl 1 rfl ?_
      refine J.getc (κ' := 28) (i' := i0) (κ := 2) (k := 2) hx rfl rfl rfl rfl rfl in_X5 (by decide) (Or.inl q278) a0.2 dX5_joins_54 fun h25 => ?_
      refine J.iload_n hx dX5_joins_57 rfl 2 rfl ?_
      refine J.aload hx dX5_joins_58 3 rfl ?_
      refine J.aast (κ' := 3) (v := (some v7)) (κ := 28) hx rfl rfl (by decide) rfl rfl rfl rfl rfl h25.1 (j_sm h8) dX5_joins_60 fun w26 => ?_
      refine J.iconst (v := 0) hx dX5_joins_61 (by decide) ?_
      refine J.istore (lv' := [(6, .int 0), (5, .ref (B.1 3 v12)), (0, .ref (B.1 2 i0)), (1, .int p1), (4, .ref (B.1 3 v7))]) hx dX5_joins_62 (by decide) rfl ?_
      have hL64 : ∀ (n64 : Nat) (v28 : Int32) (w29 : j_St), J g x 7 B (j_Q g x B rm_X5_joins jrv) 0 0 (f_X5_joins_L64 i0 v7 v12 n64 v28 w29) 64 [(0, .ref (B.1 2 i0)), (4, .ref (B.1 3 v7)), (5, .ref (B.1 3 v12)), (6, .int v28)] [] w29 := by
        intro n64
        induction n64 with
        | zero =>
          intro v28 w29
          rw [f_X5_joins_L64]
          exact J.nne
        | succ n64 ih =>
          intro v28 w29
          rw [f_X5_joins_L64]
          refine J.iload hx dX5_joins_64 3 rfl ?_
          refine J.aload_n hx dX5_joins_66 rfl 0 rfl ?_
          refine J.getr (κ' := 4) (κ := 2) (k := 4) hx rfl rfl rfl rfl in_X5 (by decide) (Or.inl q280) a0.1 dX5_joins_67 fun v30 h31 => ?_
          refine J.obU fun y32 e33 => ?_
          subst e33
          refine J.geti (κ := 4) (k := 1) hx rfl rfl rfl in_X7 (by decide) (Or.inr ⟨_, j_nl q321 rfl⟩) (h31 y32 rfl).1 dX5_joins_70 fun v34 => ?_
          refine J.icmp_ge (tgt := 103) hx dX5_joins_73 (by decide) ?_ ?_
          · exact J.vret hx rfl (Nat.le_of_ble_eq_true rfl) (Nat.le_of_ble_eq_true rfl) dX5_joins_103
          · refine J.aload_n hx dX5_joins_76 rfl 0 rfl ?_
            refine J.getc (κ' := 28) (i' := i0) (κ := 2) (k := 2) hx rfl rfl rfl rfl rfl in_X5 (by decide) (Or.inl q278) a0.2 dX5_joins_77 fun h35 => ?_
            refine J.iload hx dX5_joins_80 3 rfl ?_
            refine J.aald (κ' := 3) (κ := 28) hx rfl rfl (by decide) rfl rfl h35.1 dX5_joins_82 fun v37 h38 => ?_
            refine J.aload hx dX5_joins_83 2 rfl ?_
            refine J.fn (fun (K97 : j_St → Option (Unit × j_St)) => ∀  (w42 : j_St), J g x 7 B (j_Q g x B rm_X5_joins jrv) 0 0 (K97 w42) 97 [(0, .ref (B.1 2 i0)), (4, .ref (B.1 3 v7)), (5, .ref (B.1 3 v12)), (6, .int v28)] [] w42) ?_ ?_
            · intro w42
              refine J.nmx fun v43 ev43 => ?_
              refine J.iinc (p := 3) (v := v43) (lv' := [(6, .int v43), (0, .ref (B.1 2 i0)), (4, .ref (B.1 3 v7)), (5, .ref (B.1 3 v12))]) hx dX5_joins_97 rfl (by rw [ev43]; rfl) (by decide) rfl ?_
              refine J.goto (tgt := 64) hx dX5_joins_100 (by decide) ?_
              exact J.sub [1, 2, 3, 0] rfl (ih v43 w42)
            · intro K97 hK97
              refine J.acmp_ne (κ := 3) (a := v37) (b := (some v12)) (tgt := 97) hx dX5_joins_85 (by decide) (fun q h => (h38 q h).1) (fun q h => ((j_sm h13) q h).1) ?_ ?_
              · refine J.aload_n hx dX5_joins_88 rfl 0 rfl ?_
                refine J.getc (κ' := 28) (i' := i0) (κ := 2) (k := 2) hx rfl rfl rfl rfl rfl in_X5 (by decide) (Or.inl q278) a0.2 dX5_joins_89 fun h39 => ?_
                refine J.iload hx dX5_joins_92 3 rfl ?_
                refine J.aload hx dX5_joins_94 1 rfl ?_
                refine J.aast (κ' := 3) (v := (some v7)) (κ := 28) hx rfl rfl (by decide) rfl rfl rfl rfl rfl h39.1 (j_sm h8) dX5_joins_96 fun w40 => ?_
                exact J.sub [0, 1, 2, 3] rfl (hK97 w40)
              · exact J.sub [0, 1, 2, 3] rfl (hK97 w29)
      refine J.sub [2, 4, 1, 0] rfl (hL64 jFU 0 w26)
    · intro K34 hK34
      refine J.icmp_ge (tgt := 33) hx dX5_joins_26 (by decide) ?_ ?_
      · refine J.aload_n hx dX5_joins_33 rfl 3 rfl ?_
        exact J.sub [1, 2, 0] rfl (hK34 y1 (b2 y1 rfl) w9)
      · refine J.aload_n hx dX5_joins_29 rfl 4 rfl ?_
        refine J.goto (tgt := 34) hx dX5_joins_30 (by decide) ?_
        exact J.sub [1, 2, 0] rfl (hK34 y4 (b3 y4 rfl) w9)
  · intro K16 hK16
    refine J.icmp_ge (tgt := 15) hx dX5_joins_8 (by decide) ?_ ?_
    · refine J.aload_n hx dX5_joins_15 rfl 3 rfl ?_
      exact J.sub [0, 1, 2, 3] rfl (hK16 y4 (b3 y4 rfl) w)
    · refine J.aload_n hx dX5_joins_11 rfl 2 rfl ?_
      refine J.goto (tgt := 16) hx dX5_joins_12 (by decide) ?_
      exact J.sub [0, 1, 2, 3] rfl (hK16 y1 (b2 y1 rfl) w)
theorem hd_X5_comes : yX5_comes.cls = RX5 ∧ yX5_comes.cls ≠ "java/lang/invoke/MethodHandle" ∧ yX5_comes.cls ≠ "java/lang/invoke/VarHandle" ∧ (parseMethodDescriptor yX5_comes.desc).map (fun d => d.parameters.length) = some 2 := by decide +kernel
def f_X5_comes (i0 : Nat) (p1 : Int32) (p2 : Int32) (w : j_St) : Option (Unit × j_St) := jcb (f_X5_beside i0 (p1 - 1) w) fun v1 w2 => jcb (f_X5_beside i0 (p1 + 1) w2) fun v6 w7 => jlt (fun (w36 : j_St) => jlt (fun (w44 : j_St) => jlt (fun (v48 : Option Nat) (w50 : j_St) => jbd p1 48 fun a52 => jlt (jsr w50 28 i0 a52 v48) fun w51 => some ((), w51)) fun K98 => jcs v1 (K98 v6 w44) fun y46 => K98 (some y46) w44) fun K83 => jcs v1 (K83 w36) fun y37 => jcs v6 (K83 w36) fun y39 => if (some y37) = (some y39) then K83 w36 else jcb (f_X5_joins i0 p1 (some y37) (some y39) w36) fun _ w42 => some ((), w42)) fun K68 => jcs v1 (jcs v6 (jlt (jgi w7 2 i0 5) fun v17 => jbd v17 48 fun a18 => jlt (48 * i0 + a18) fun v21 => jlt (jgr w7 2 i0 4) fun v22 => job v22 fun y24 => jbd p1 48 fun a27 => jlt (jgi w7 32 y24 a27) fun v28 => jcb (f_X6_begins v21 p1 v28 p2 w7) fun _ w30 => jbd p1 48 fun a33 => jlt (jsr w30 28 i0 a33 (some v21)) fun w32 => jlt (jgi w32 2 i0 5) fun v34 => jlt (jsi w32 2 i0 5 (v34 + 1)) fun w35 => some ((), w35)) fun y13 => K68 w7) fun y11 => K68 w7
abbrev rm_X5_comes : Room := { frames := 2, cells := 0, slots := 0, locals := 49 }
set_option maxRecDepth 100000 in
set_option maxHeartbeats 4000000 in
theorem mt_X5_comes {g : j_G} {B : j_B} {i0 : Nat} {p1 : Int32} {p2 : Int32} {w w' : j_St} (a0 : B.2.1 2 i0 ∧ B.2.2 2 i0) {r : Unit} (h : f_X5_comes i0 p1 p2 w = some (r, w')) : j_M g yX5_comes cX5_comes 5 none rm_X5_comes B [.ref (B.1 2 i0), .int p1, .int p2] w w' (jrv r) := by
  refine j_met (rv := jrv) (by decide) (Nat.le_of_ble_eq_true rfl) (fun x hx => ?_) h
  unfold f_X5_comes
  refine J.sub (lv' := [(0, .ref (B.1 2 i0)), (1, .int p1), (2, .int p2)]) [0, 1, 2] rfl ?_
  refine J.aload_n hx dX5_comes_0 rfl 0 rfl ?_
  refine J.iload_n hx dX5_comes_1 rfl 1 rfl ?_
  refine J.iconst (v := 1) hx dX5_comes_2 (by decide) ?_
  refine J.isub hx dX5_comes_3 ?_
  refine J.callq hx (fun r z1 z => j_callV (κ := 2) hx rfl rfl a0.1 (mt_X5_beside a0 z) (lw_V q1010 q1012 qs16 q125 q1013) hd_X5_beside rfl ⟨Nat.le_of_ble_eq_true rfl, Nat.le_of_ble_eq_true rfl⟩ (Nat.le_of_ble_eq_true rfl) dX5_comes_4) ⟨⟨rfl, rfl⟩, (Nat.le_of_ble_eq_true rfl), (Nat.le_of_ble_eq_true rfl)⟩ fun v1 w2 e3 => ?_
  refine J.fact (mq_X5_beside a0 e3) fun h5 => ?_
  refine J.astore_nq (lv' := [(3, va_re (B.1 3) v1), (0, .ref (B.1 2 i0)), (1, .int p1), (2, .int p2)]) hx dX5_comes_7 rfl (by decide) rfl ?_
  refine J.aload_n hx dX5_comes_8 rfl 1 rfl ?_
  refine J.iload_n hx dX5_comes_9 rfl 2 rfl ?_
  refine J.iconst (v := 1) hx dX5_comes_10 (by decide) ?_
  refine J.iadd hx dX5_comes_11 ?_
  refine J.callq hx (fun r z1 z => j_callV (κ := 2) hx rfl rfl a0.1 (mt_X5_beside a0 z) (lw_V q1010 q1012 qs16 q125 q1013) hd_X5_beside rfl ⟨Nat.le_of_ble_eq_true rfl, Nat.le_of_ble_eq_true rfl⟩ (Nat.le_of_ble_eq_true rfl) dX5_comes_12) ⟨⟨rfl, rfl⟩, (Nat.le_of_ble_eq_true rfl), (Nat.le_of_ble_eq_true rfl)⟩ fun v6 w7 e8 => ?_
  refine J.fact (mq_X5_beside a0 e8) fun h10 => ?_
  refine J.astoreq (lv' := [(4, va_re (B.1 3) v6), (3, va_re (B.1 3) v1), (0, .ref (B.1 2 i0)), (1, .int p1), (2, .int p2)]) hx dX5_comes_15 (by decide) (by simp [va_re_cat, jct_i, jct_l, jct_r, jct_n]) ?_
  refine J.aload_nq hx dX5_comes_17 rfl 1 rfl ?_
  refine J.fn (fun (K68 : j_St → Option (Unit × j_St)) => ∀  (w36 : j_St), J g x 5 B (j_Q g x B rm_X5_comes jrv) 0 0 (K68 w36) 68 [(0, .ref (B.1 2 i0)), (1, .int p1), (3, va_re (B.1 3) v1), (4, va_re (B.1 3) v6)] [] w36) ?_ ?_
  · intro w36
    refine J.aload_nq hx dX5_comes_68 rfl 2 rfl ?_
    refine J.fn (fun (K83 : j_St → Option (Unit × j_St)) => ∀  (w44 : j_St), J g x 5 B (j_Q g x B rm_X5_comes jrv) 0 0 (K83 w44) 83 [(0, .ref (B.1 2 i0)), (1, .int p1), (3, va_re (B.1 3) v1), (4, va_re (B.1 3) v6)] [] w44) ?_ ?_
    · intro w44
      refine J.aload_n hx dX5_comes_83 rfl 0 rfl ?_
      refine J.getc (κ' := 28) (i' := i0) (κ := 2) (k := 2) hx rfl rfl rfl rfl rfl in_X5 (by decide) (Or.inl q278) a0.2 dX5_comes_84 fun h45 => ?_
      refine J.iload_n hx dX5_comes_87 rfl 1 rfl ?_
      refine J.aload_nq hx dX5_comes_88 rfl 2 rfl ?_
      refine J.fn (fun (K98 : Option Nat → j_St → Option (Unit × j_St)) => ∀ (v48 : Option Nat) (h49 : ∀ q, v48 = some q → B.2.1 3 q ∧ B.2.2 3 q) (w50 : j_St), J g x 5 B (j_Q g x B rm_X5_comes jrv) 0 0 (K98 v48 w50) 98 [] [va_re (B.1 3) v48, .int p1, .ref (B.1 28 i0)] w50) ?_ ?_
      · intro v48 h49 w50
        refine J.aast (κ' := 3) (v := v48) (κ := 28) hx rfl rfl (by decide) rfl rfl rfl rfl rfl h45.1 h49 dX5_comes_98 fun w51 => ?_
        refine J.goto (tgt := 110) hx dX5_comes_99 (by decide) ?_
        exact J.vret hx rfl (Nat.le_of_ble_eq_true rfl) (Nat.le_of_ble_eq_true rfl) dX5_comes_110
      · intro K98 hK98
        refine J.ifnonnull (tgt := 97) hx dX5_comes_89 (by decide) (fun e47n => ?_) (fun y46 e47 => ?_)
        · subst e47n
          refine J.aloadq hx dX5_comes_92 3 rfl ?_
          refine J.goto (tgt := 98) hx dX5_comes_94 (by decide) ?_
          exact J.sub [] rfl (hK98 v6 h10 w44)
        · subst e47
          refine J.aload_n hx dX5_comes_97 rfl 2 rfl ?_
          exact J.sub [] rfl (hK98 (some y46) (j_sm (h5 y46 rfl)) w44)
    · intro K83 hK83
      refine J.ifnull (tgt := 83) hx dX5_comes_69 (by decide) (fun e38n => ?_) (fun y37 e38 => ?_)
      · subst e38n
        exact J.sub [0, 1, 2, 3] rfl (hK83 w36)
      · subst e38
        refine J.aloadq hx dX5_comes_72 3 rfl ?_
        refine J.ifnull (tgt := 83) hx dX5_comes_74 (by decide) (fun e40n => ?_) (fun y39 e40 => ?_)
        · subst e40n
          exact J.sub [0, 1, 2, 3] rfl (hK83 w36)
        · subst e40
          refine J.aload_n hx dX5_comes_77 rfl 2 rfl ?_
          refine J.aload hx dX5_comes_78 3 rfl ?_
          refine J.acmp_ne (κ := 3) (a := (some y37)) (b := (some y39)) (tgt := 102) hx dX5_comes_80 (by decide) (fun q h => ((j_sm (h5 y37 rfl)) q h).1) (fun q h => ((j_sm (h10 y39 rfl)) q h).1) ?_ ?_
          · exact J.sub [0, 1, 2, 3] rfl (hK83 w36)
          · refine J.aload_n hx dX5_comes_102 rfl 0 rfl ?_
            refine J.iload_n hx dX5_comes_103 rfl 1 rfl ?_
            refine J.aload_n hx dX5_comes_104 rfl 2 rfl ?_
            refine J.aload hx dX5_comes_105 3 rfl ?_
            refine J.callv hx (fun r z1 z => j_callV (κ := 2) hx rfl rfl a0.1 (mt_X5_joins a0 (j_sm (h5 y37 rfl)) (j_sm (h10 y39 rfl)) z) (lw_V q1018 q1020 qs17 q125 q1021) hd_X5_joins rfl ⟨Nat.le_of_ble_eq_true rfl, Nat.le_of_ble_eq_true rfl⟩ (Nat.le_of_ble_eq_true rfl) dX5_comes_107) ⟨⟨rfl, rfl⟩, (Nat.le_of_ble_eq_true rfl), (Nat.le_of_ble_eq_true rfl)⟩ fun _ w42 e43 => ?_
            exact J.vret hx rfl (Nat.le_of_ble_eq_true rfl) (Nat.le_of_ble_eq_true rfl) dX5_comes_110
  · intro K68 hK68
    refine J.ifnonnull (tgt := 68) hx dX5_comes_18 (by decide) (fun e12n => ?_) (fun y11 e12 => ?_)
    · subst e12n
      refine J.aloadq hx dX5_comes_21 0 rfl ?_
      refine J.ifnonnull (tgt := 68) hx dX5_comes_23 (by decide) (fun e14n => ?_) (fun y13 e14 => ?_)
      · subst e14n
        refine J.aload_n hx dX5_comes_26 rfl 2 rfl ?_
        refine J.getc (κ' := 28) (i' := i0) (κ := 2) (k := 2) hx rfl rfl rfl rfl rfl in_X5 (by decide) (Or.inl q278) a0.2 dX5_comes_27 fun h15 => ?_
        refine J.iload_n hx dX5_comes_30 rfl 3 rfl ?_
        refine J.aload_n hx dX5_comes_31 rfl 2 rfl ?_
        refine J.getc (κ' := 26) (i' := i0) (κ := 2) (k := 0) hx rfl rfl rfl rfl rfl in_X5 (by decide) (Or.inl q274) a0.2 dX5_comes_32 fun h16 => ?_
        refine J.aload_n hx dX5_comes_35 rfl 2 rfl ?_
        refine J.geti (κ := 2) (k := 5) hx rfl rfl rfl in_X5 (by decide) (Or.inl q281) a0.1 dX5_comes_36 fun v17 => ?_
        refine J.aaldcn (κ' := 3) (m9 := 48) (κ := 26) hx rfl rfl rfl rfl (by decide) rfl rfl h16.2 dX5_comes_39 fun v21 h19 => ?_
        refine J.iload_n hx dX5_comes_40 rfl 3 rfl ?_
        refine J.aload_n hx dX5_comes_41 rfl 2 rfl ?_
        refine J.getr (κ' := 4) (κ := 2) (k := 4) hx rfl rfl rfl rfl in_X5 (by decide) (Or.inl q280) a0.1 dX5_comes_42 fun v22 h23 => ?_
        refine J.obU fun y24 e25 => ?_
        subst e25
        refine J.getc (κ' := 32) (i' := y24) (κ := 4) (k := 0) hx rfl rfl rfl rfl rfl in_X7 (by decide) (Or.inr ⟨_, j_nl q317 rfl⟩) (h23 y24 rfl).2 dX5_comes_45 fun h26 => ?_
        refine J.iload_n hx dX5_comes_48 rfl 3 rfl ?_
        refine J.iald (κ := 32) hx rfl rfl h26.1 dX5_comes_49 fun v28 => ?_
        refine J.iload_n hx dX5_comes_50 rfl 4 rfl ?_
        refine J.callt hx (fun r z1 z => j_callV (κ := 3) hx rfl rfl h19.1 (mt_X6_begins h19 z) (lw_V q1014 q1015 q1016 q126 q1017) hd_X6_begins rfl ⟨Nat.le_of_ble_eq_true rfl, Nat.le_of_ble_eq_true rfl⟩ (Nat.le_of_ble_eq_true rfl) dX5_comes_51) ⟨⟨rfl, rfl⟩, (Nat.le_of_ble_eq_true rfl), (Nat.le_of_ble_eq_true rfl)⟩ fun _ w30 e31 => ?_
        refine J.aast (κ' := 3) (v := (some v21)) (κ := 28) hx rfl rfl (by decide) rfl rfl rfl rfl rfl h15.1 (j_sm h19) dX5_comes_54 fun w32 => ?_
        refine J.aload_n hx dX5_comes_55 rfl 2 rfl ?_
        refine J.dup hx dX5_comes_56 rfl ?_
        refine J.geti (κ := 2) (k := 5) hx rfl rfl rfl in_X5 (by decide) (Or.inl q281) a0.1 dX5_comes_57 fun v34 => ?_
        refine J.iconst (v := 1) hx dX5_comes_60 (by decide) ?_
        refine J.iadd hx dX5_comes_61 ?_
        refine J.puti (κ := 2) (k := 5) hx rfl rfl rfl in_X5 tyX5_ok nmX5 (by decide) (Or.inl q281) rfl rfl a0.1 ⟨rfl, rfl⟩ dX5_comes_62 fun w35 => ?_
        refine J.goto (tgt := 110) hx dX5_comes_65 (by decide) ?_
        exact J.vret hx rfl (Nat.le_of_ble_eq_true rfl) (Nat.le_of_ble_eq_true rfl) dX5_comes_110
      · subst e14
        exact J.sub [2, 3, 1, 0] rfl (hK68 w7)
    · subst e12
      exact J.sub [2, 3, 1, 0] rfl (hK68 w7)
theorem hd_X5_ends : yX5_ends.cls = RX5 ∧ yX5_ends.cls ≠ "java/lang/invoke/MethodHandle" ∧ yX5_ends.cls ≠ "java/lang/invoke/VarHandle" ∧ (parseMethodDescriptor yX5_ends.desc).map (fun d => d.parameters.length) = some 0 := by decide +kernel
def f_X5_ends_L37 (i0 : Nat) (v8 : Nat) (k76 : Int32 → j_St → Option (Unit × j_St)) : Nat → Int32 → j_St → Option (Unit × j_St)
  | 0, _, _ => none
  | n37 + 1, v22, w23 => if v22 ≤ 0 then k76 v22 w23 else jbd (v22 - 1) 48 fun a25 => jlt (jgr w23 27 i0 a25) fun v26 => jcb (f_X6_isAhead v8 v26 w23) fun v28 w29 => if v28 = 0 then k76 v22 w29 else jbd (v22 - 1) 48 fun a33 => jlt (jgr w29 27 i0 a33) fun v34 => jbd v22 48 fun a37 => jlt (jsr w29 27 i0 a37 v34) fun w36 => jlt (v22 + (-1)) fun v38 => f_X5_ends_L37 i0 v8 k76 n37 v38 w36
def f_X5_ends_L2 (i0 : Nat)  : Nat → Int32 → j_St → Option (Unit × j_St)
  | 0, _, _ => none
  | n2 + 1, v1, w2 => jlt (jgi w2 2 i0 5) fun v3 => if v3 ≤ v1 then some ((), w2) else jbd v1 48 fun a5 => jlt (48 * i0 + a5) fun v8 => jlt (jgr w2 3 v8 5) fun v9 => jlt (fun (w21 : j_St) => f_X5_ends_L37 i0 v8 (fun (v39 : Int32) (w40 : j_St) => jbd v39 48 fun a43 => jlt (jsr w40 27 i0 a43 (some v8)) fun w42 => jlt (v1 + 1) fun v44 => f_X5_ends_L2 i0 n2 v44 w42) jFU v1 w21) fun K35 => jcs v9 (jlt (jgr w2 2 i0 4) fun v13 => job v13 fun y15 => jcb (f_X3_least_k4 y15 w2) fun v17 w18 => jlt (jsi w18 3 v8 3 v17) fun w20 => K35 w20) fun y11 => K35 w2
def f_X5_ends (i0 : Nat) (w : j_St) : Option (Unit × j_St) := f_X5_ends_L2 i0 jFU 0 w
abbrev rm_X5_ends : Room := { frames := 2, cells := 0, slots := 0, locals := 43 }
set_option maxRecDepth 100000 in
set_option maxHeartbeats 4000000 in
theorem mt_X5_ends {g : j_G} {B : j_B} {i0 : Nat} {w w' : j_St} (a0 : B.2.1 2 i0 ∧ B.2.2 2 i0) {r : Unit} (h : f_X5_ends i0 w = some (r, w')) : j_M g yX5_ends cX5_ends 4 none rm_X5_ends B [.ref (B.1 2 i0)] w w' (jrv r) := by
  refine j_met (rv := jrv) (by decide) (Nat.le_of_ble_eq_true rfl) (fun x hx => ?_) h
  unfold f_X5_ends
  refine J.sub (lv' := [(0, .ref (B.1 2 i0))]) [0] rfl ?_
  refine J.iconst (v := 0) hx dX5_ends_0 (by decide) ?_
  refine J.istore_n (lv' := [(1, .int 0), (0, .ref (B.1 2 i0))]) hx dX5_ends_1 rfl (by decide) rfl ?_
  have hL2 : ∀ (n2 : Nat) (v1 : Int32) (w2 : j_St), J g x 4 B (j_Q g x B rm_X5_ends jrv) 0 0 (f_X5_ends_L2 i0 n2 v1 w2) 2 [(0, .ref (B.1 2 i0)), (1, .int v1)] [] w2 := by
    intro n2
    induction n2 with
    | zero =>
      intro v1 w2
      rw [f_X5_ends_L2]
      exact J.nne
    | succ n2 ih =>
      intro v1 w2
      rw [f_X5_ends_L2]
      refine J.iload_n hx dX5_ends_2 rfl 1 rfl ?_
      refine J.aload_n hx dX5_ends_3 rfl 0 rfl ?_
      refine J.geti (κ := 2) (k := 5) hx rfl rfl rfl in_X5 (by decide) (Or.inl q281) a0.1 dX5_ends_4 fun v3 => ?_
      refine J.icmp_ge (tgt := 89) hx dX5_ends_7 (by decide) ?_ ?_
      · exact J.vret hx rfl (Nat.le_of_ble_eq_true rfl) (Nat.le_of_ble_eq_true rfl) dX5_ends_89
      · refine J.aload_n hx dX5_ends_10 rfl 0 rfl ?_
        refine J.getc (κ' := 26) (i' := i0) (κ := 2) (k := 0) hx rfl rfl rfl rfl rfl in_X5 (by decide) (Or.inl q274) a0.2 dX5_ends_11 fun h4 => ?_
        refine J.iload_n hx dX5_ends_14 rfl 1 rfl ?_
        refine J.aaldcn (κ' := 3) (m9 := 48) (κ := 26) hx rfl rfl rfl rfl (by decide) rfl rfl h4.2 dX5_ends_15 fun v8 h6 => ?_
        refine J.astore_n (lv' := [(2, .ref (B.1 3 v8)), (0, .ref (B.1 2 i0)), (1, .int v1)]) hx dX5_ends_16 rfl (by decide) rfl ?_
        refine J.aload_n hx dX5_ends_17 rfl 0 rfl ?_
        refine J.getr (κ' := 3) (κ := 3) (k := 5) hx rfl rfl rfl rfl in_X6 (by decide) (Or.inr ⟨_, j_nl q252 rfl⟩) h6.1 dX5_ends_18 fun v9 h10 => ?_
        refine J.fn (fun (K35 : j_St → Option (Unit × j_St)) => ∀  (w21 : j_St), J g x 4 B (j_Q g x B rm_X5_ends jrv) 0 0 (K35 w21) 35 [(0, .ref (B.1 2 i0)), (1, .int v1), (2, .ref (B.1 3 v8))] [] w21) ?_ ?_
        · intro w21
          refine J.iload_n hx dX5_ends_35 rfl 1 rfl ?_
          refine J.istore_n (lv' := [(3, .int v1), (0, .ref (B.1 2 i0)), (1, .int v1), (2, .ref (B.1 3 v8))]) hx dX5_ends_36 rfl (by decide) rfl ?_
          have hL37 : ∀ (k76 : Int32 → j_St → Option (Unit × j_St)) (hk76 : ∀ (v39 : Int32) (w40 : j_St), J g x 4 B (j_Q g x B rm_X5_ends jrv) 0 0 (k76 v39 w40) 76 [(0, .ref (B.1 2 i0)), (1, .int v1), (2, .ref (B.1 3 v8)), (3, .int v39)] [] w40) (n37 : Nat) (v22 : Int32) (w23 : j_St), J g x 4 B (j_Q g x B rm_X5_ends jrv) 0 0 (f_X5_ends_L37 i0 v8 k76 n37 v22 w23) 37 [(0, .ref (B.1 2 i0)), (1, .int v1), (2, .ref (B.1 3 v8)), (3, .int v22)] [] w23 := by
            intro k76 hk76 n37
            induction n37 with
            | zero =>
              intro v22 w23
              rw [f_X5_ends_L37]
              exact J.nne
            | succ n37 ih =>
              intro v22 w23
              rw [f_X5_ends_L37]
              refine J.iload_n hx dX5_ends_37 rfl 3 rfl ?_
              refine J.if_le (tgt := 76) hx dX5_ends_38 (by decide) ?_ ?_
              · exact J.sub [0, 1, 2, 3] rfl (hk76 v22 w23)
              · refine J.aload_n hx dX5_ends_41 rfl 2 rfl ?_
                refine J.aload_n hx dX5_ends_42 rfl 0 rfl ?_
                refine J.getc (κ' := 27) (i' := i0) (κ := 2) (k := 1) hx rfl rfl rfl rfl rfl in_X5 (by decide) (Or.inl q275) a0.2 dX5_ends_43 fun h24 => ?_
                refine J.iload_n hx dX5_ends_46 rfl 3 rfl ?_
                refine J.iconst (v := 1) hx dX5_ends_47 (by decide) ?_
                refine J.isub hx dX5_ends_48 ?_
                refine J.aald (κ' := 3) (κ := 27) hx rfl rfl (by decide) rfl rfl h24.1 dX5_ends_49 fun v26 h27 => ?_
                refine J.calli hx (fun r z1 z => j_callV (κ := 3) hx rfl rfl h6.1 (mt_X6_isAhead h6 h27 z) (lw_V q1069 q1070 q1071 q126 q1072) hd_X6_isAhead rfl ⟨Nat.le_of_ble_eq_true rfl, Nat.le_of_ble_eq_true rfl⟩ (Nat.le_of_ble_eq_true rfl) dX5_ends_50) ⟨⟨rfl, rfl⟩, (Nat.le_of_ble_eq_true rfl), (Nat.le_of_ble_eq_true rfl)⟩ fun v28 w29 e30 => ?_
                refine J.if_eq (tgt := 76) hx dX5_ends_53 (by decide) ?_ ?_
                · exact J.sub [0, 1, 2, 3] rfl (hk76 v22 w29)
                · refine J.aload_n hx dX5_ends_56 rfl 0 rfl ?_
                  refine J.getc (κ' := 27) (i' := i0) (κ := 2) (k := 1) hx rfl rfl rfl rfl rfl in_X5 (by decide) (Or.inl q275) a0.2 dX5_ends_57 fun h31 => ?_
                  refine J.iload_n hx dX5_ends_60 rfl 3 rfl ?_
                  refine J.aload_n hx dX5_ends_61 rfl 0 rfl ?_
                  refine J.getc (κ' := 27) (i' := i0) (κ := 2) (k := 1) hx rfl rfl rfl rfl rfl in_X5 (by decide) (Or.inl q275) a0.2 dX5_ends_62 fun h32 => ?_
                  refine J.iload_n hx dX5_ends_65 rfl 3 rfl ?_
                  refine J.iconst (v := 1) hx dX5_ends_66 (by decide) ?_
                  refine J.isub hx dX5_ends_67 ?_
                  refine J.aald (κ' := 3) (κ := 27) hx rfl rfl (by decide) rfl rfl h32.1 dX5_ends_68 fun v34 h35 => ?_
                  refine J.aast (κ' := 3) (v := v34) (κ := 27) hx rfl rfl (by decide) rfl rfl rfl rfl rfl h31.1 h35 dX5_ends_69 fun w36 => ?_
                  refine J.nmx fun v38 ev38 => ?_
                  refine J.iinc (p := 3) (v := v38) (lv' := [(3, .int v38), (0, .ref (B.1 2 i0)), (1, .int v1), (2, .ref (B.1 3 v8))]) hx dX5_ends_70 rfl (by rw [ev38]; rfl) (by decide) rfl ?_
                  refine J.goto (tgt := 37) hx dX5_ends_73 (by decide) ?_
                  exact J.sub [1, 2, 3, 0] rfl (ih v38 w36)
          refine J.sub [1, 2, 3, 0] rfl (hL37 _ ?_ jFU v1 w21)
          · intro v39 w40
            refine J.aload_n hx dX5_ends_76 rfl 0 rfl ?_
            refine J.getc (κ' := 27) (i' := i0) (κ := 2) (k := 1) hx rfl rfl rfl rfl rfl in_X5 (by decide) (Or.inl q275) a0.2 dX5_ends_77 fun h41 => ?_
            refine J.iload_n hx dX5_ends_80 rfl 3 rfl ?_
            refine J.aload_n hx dX5_ends_81 rfl 2 rfl ?_
            refine J.aast (κ' := 3) (v := (some v8)) (κ := 27) hx rfl rfl (by decide) rfl rfl rfl rfl rfl h41.1 (j_sm h6) dX5_ends_82 fun w42 => ?_
            refine J.nmx fun v44 ev44 => ?_
            refine J.iinc (p := 1) (v := v44) (lv' := [(1, .int v44), (0, .ref (B.1 2 i0)), (2, .ref (B.1 3 v8)), (3, .int v39)]) hx dX5_ends_83 rfl (by rw [ev44]; rfl) (by decide) rfl ?_
            refine J.goto (tgt := 2) hx dX5_ends_86 (by decide) ?_
            exact J.sub [1, 0] rfl (ih v44 w42)
        · intro K35 hK35
          refine J.ifnonnull (tgt := 35) hx dX5_ends_21 (by decide) (fun e12n => ?_) (fun y11 e12 => ?_)
          · subst e12n
            refine J.aload_n hx dX5_ends_24 rfl 0 rfl ?_
            refine J.aload_n hx dX5_ends_25 rfl 1 rfl ?_
            refine J.getr (κ' := 4) (κ := 2) (k := 4) hx rfl rfl rfl rfl in_X5 (by decide) (Or.inl q280) a0.1 dX5_ends_26 fun v13 h14 => ?_
            refine J.obU fun y15 e16 => ?_
            subst e16
            refine J.calli hx (fun r z1 z => j_callD (κ := 4) (nm := "least") (ds := "()I") hx rfl rfl (h14 y15 rfl).1 (mt_X3_least_k4 (h14 y15 rfl) z) (lw_meth q1034) (List.mem_of_getElem? (i := 0) rfl) (List.mem_of_getElem? (i := 1) rfl) (List.mem_of_getElem? (i := 0) rfl) q1032 q122 hd_X3_least.2.2.2 rfl ⟨Nat.le_of_ble_eq_true rfl, Nat.le_of_ble_eq_true rfl⟩ (Nat.le_of_ble_eq_true rfl) dX5_ends_29) ⟨⟨rfl, rfl⟩, (Nat.le_of_ble_eq_true rfl), (Nat.le_of_ble_eq_true rfl)⟩ fun v17 w18 e19 => ?_
            refine J.puti (κ := 3) (k := 3) hx rfl rfl rfl in_X6 tyX6_ok nmX6 (by decide) (Or.inr ⟨_, j_nl q246 rfl⟩) rfl rfl h6.1 ⟨rfl, rfl⟩ dX5_ends_32 fun w20 => ?_
            exact J.sub [1, 2, 0] rfl (hK35 w20)
          · subst e12
            exact J.sub [1, 2, 0] rfl (hK35 w2)
  refine J.sub [1, 0] rfl (hL2 jFU 0 w)
theorem hd_X5_keeps : yX5_keeps.cls = RX5 ∧ yX5_keeps.cls ≠ "java/lang/invoke/MethodHandle" ∧ yX5_keeps.cls ≠ "java/lang/invoke/VarHandle" ∧ (parseMethodDescriptor yX5_keeps.desc).map (fun d => d.parameters.length) = some 1 := by decide +kernel
def f_X5_keeps_L7 (i0 : Nat) (p1 : Int32)  : Nat → Int32 → j_St → Option (Unit × j_St)
  | 0, _, _ => none
  | n7 + 1, v2, w3 => jlt (jgi w3 2 i0 5) fun v4 => if v4 ≤ v2 then some ((), w3) else jbd v2 48 fun a6 => jlt (jgr w3 27 i0 a6) fun v7 => jlt (fun (v19 : Int32) (w20 : j_St) => job v7 fun y21 => if v19 = 0 ∨ v19 = 1 then jlt (jsi w20 3 y21 6 v19) fun w23 => jlt (jgi w23 2 i0 6) fun v24 => jbd v2 48 fun a26 => jlt (jgr w23 27 i0 a26) fun v27 => job v27 fun y29 => jlt (jgi w23 3 y29 6) fun v31 => jlt (fun (v32 : Int32) (w33 : j_St) => jlt (jsi w33 2 i0 6 (v24 + v32)) fun w34 => jlt (v2 + 1) fun v35 => f_X5_keeps_L7 i0 p1 n7 v35 w34) fun K68 => if v31 = 0 then K68 0 w23 else K68 1 w23 else none) fun K43 => jlt (fun (w18 : j_St) => K43 1 w18) fun K38 => if v2 = 0 then K38 w3 else jbd v2 48 fun a10 => jlt (jgr w3 27 i0 a10) fun v11 => job v11 fun y13 => jcb (f_X6_persistence y13 w3) fun v15 w16 => if v15 ≤ p1 then K43 0 w16 else K38 w16
def f_X5_keeps (i0 : Nat) (p1 : Int32) (w : j_St) : Option (Unit × j_St) := jlt (jsi w 2 i0 6 0) fun w1 => f_X5_keeps_L7 i0 p1 jFU 0 w1
abbrev rm_X5_keeps : Room := { frames := 1, cells := 0, slots := 0, locals := 20 }
set_option maxRecDepth 100000 in
set_option maxHeartbeats 4000000 in
theorem mt_X5_keeps {g : j_G} {B : j_B} {i0 : Nat} {p1 : Int32} {w w' : j_St} (a0 : B.2.1 2 i0 ∧ B.2.2 2 i0) {r : Unit} (h : f_X5_keeps i0 p1 w = some (r, w')) : j_M g yX5_keeps cX5_keeps 3 none rm_X5_keeps B [.ref (B.1 2 i0), .int p1] w w' (jrv r) := by
  refine j_met (rv := jrv) (by decide) (Nat.le_of_ble_eq_true rfl) (fun x hx => ?_) h
  unfold f_X5_keeps
  refine J.sub (lv' := [(0, .ref (B.1 2 i0)), (1, .int p1)]) [0, 1] rfl ?_
  refine J.aload_n hx dX5_keeps_0 rfl 0 rfl ?_
  refine J.iconst (v := 0) hx dX5_keeps_1 (by decide) ?_
  refine J.puti (κ := 2) (k := 6) hx rfl rfl rfl in_X5 tyX5_ok nmX5 (by decide) (Or.inl q285) rfl rfl a0.1 ⟨rfl, rfl⟩ dX5_keeps_2 fun w1 => ?_
  refine J.iconst (v := 0) hx dX5_keeps_5 (by decide) ?_
  refine J.istore_n (lv' := [(2, .int 0), (0, .ref (B.1 2 i0)), (1, .int p1)]) hx dX5_keeps_6 rfl (by decide) rfl ?_
  have hL7 : ∀ (n7 : Nat) (v2 : Int32) (w3 : j_St), J g x 3 B (j_Q g x B rm_X5_keeps jrv) 0 0 (f_X5_keeps_L7 i0 p1 n7 v2 w3) 7 [(0, .ref (B.1 2 i0)), (1, .int p1), (2, .int v2)] [] w3 := by
    intro n7
    induction n7 with
    | zero =>
      intro v2 w3
      rw [f_X5_keeps_L7]
      exact J.nne
    | succ n7 ih =>
      intro v2 w3
      rw [f_X5_keeps_L7]
      refine J.iload_n hx dX5_keeps_7 rfl 2 rfl ?_
      refine J.aload_n hx dX5_keeps_8 rfl 0 rfl ?_
      refine J.geti (κ := 2) (k := 5) hx rfl rfl rfl in_X5 (by decide) (Or.inl q281) a0.1 dX5_keeps_9 fun v4 => ?_
      refine J.icmp_ge (tgt := 78) hx dX5_keeps_12 (by decide) ?_ ?_
      · exact J.vret hx rfl (Nat.le_of_ble_eq_true rfl) (Nat.le_of_ble_eq_true rfl) dX5_keeps_78
      · refine J.aload_n hx dX5_keeps_15 rfl 0 rfl ?_
        refine J.getc (κ' := 27) (i' := i0) (κ := 2) (k := 1) hx rfl rfl rfl rfl rfl in_X5 (by decide) (Or.inl q275) a0.2 dX5_keeps_16 fun h5 => ?_
        refine J.iload_n hx dX5_keeps_19 rfl 2 rfl ?_
        refine J.aald (κ' := 3) (κ := 27) hx rfl rfl (by decide) rfl rfl h5.1 dX5_keeps_20 fun v7 h8 => ?_
        refine J.iload_n hx dX5_keeps_21 rfl 2 rfl ?_
        refine J.fn (fun (K43 : Int32 → j_St → Option (Unit × j_St)) => ∀ (v19 : Int32) (w20 : j_St), J g x 3 B (j_Q g x B rm_X5_keeps jrv) 0 0 (K43 v19 w20) 43 [(0, .ref (B.1 2 i0)), (1, .int p1), (2, .int v2)] [.int v19, va_re (B.1 3) v7] w20) ?_ ?_
        · intro v19 w20
          refine J.obU fun y21 e22 => ?_
          subst e22
          refine J.putz (κ := 3) (k := 6) hx rfl rfl rfl in_X6 tyX6_ok nmX6 (by decide) (Or.inr ⟨_, j_nl q254 rfl⟩) rfl rfl (h8 y21 rfl).1 rfl dX5_keeps_43 fun w23 => ?_
          refine J.aload_n hx dX5_keeps_46 rfl 0 rfl ?_
          refine J.dup hx dX5_keeps_47 rfl ?_
          refine J.geti (κ := 2) (k := 6) hx rfl rfl rfl in_X5 (by decide) (Or.inl q285) a0.1 dX5_keeps_48 fun v24 => ?_
          refine J.aload_n hx dX5_keeps_51 rfl 0 rfl ?_
          refine J.getc (κ' := 27) (i' := i0) (κ := 2) (k := 1) hx rfl rfl rfl rfl rfl in_X5 (by decide) (Or.inl q275) a0.2 dX5_keeps_52 fun h25 => ?_
          refine J.iload_n hx dX5_keeps_55 rfl 2 rfl ?_
          refine J.aald (κ' := 3) (κ := 27) hx rfl rfl (by decide) rfl rfl h25.1 dX5_keeps_56 fun v27 h28 => ?_
          refine J.obU fun y29 e30 => ?_
          subst e30
          refine J.geti (κ := 3) (k := 6) hx rfl rfl rfl in_X6 (by decide) (Or.inr ⟨_, j_nl q254 rfl⟩) (h28 y29 rfl).1 dX5_keeps_57 fun v31 => ?_
          refine J.fn (fun (K68 : Int32 → j_St → Option (Unit × j_St)) => ∀ (v32 : Int32) (w33 : j_St), J g x 3 B (j_Q g x B rm_X5_keeps jrv) 0 0 (K68 v32 w33) 68 [(0, .ref (B.1 2 i0)), (1, .int p1), (2, .int v2)] [.int v32, .int v24, .ref (B.1 2 i0)] w33) ?_ ?_
          · intro v32 w33
            refine J.iadd hx dX5_keeps_68 ?_
            refine J.puti (κ := 2) (k := 6) hx rfl rfl rfl in_X5 tyX5_ok nmX5 (by decide) (Or.inl q285) rfl rfl a0.1 ⟨rfl, rfl⟩ dX5_keeps_69 fun w34 => ?_
            refine J.nmx fun v35 ev35 => ?_
            refine J.iinc (p := 2) (v := v35) (lv' := [(2, .int v35), (0, .ref (B.1 2 i0)), (1, .int p1)]) hx dX5_keeps_72 rfl (by rw [ev35]; rfl) (by decide) rfl ?_
            refine J.goto (tgt := 7) hx dX5_keeps_75 (by decide) ?_
            exact J.sub [1, 2, 0] rfl (ih v35 w34)
          · intro K68 hK68
            refine J.if_eq (tgt := 67) hx dX5_keeps_60 (by decide) ?_ ?_
            · refine J.iconst (v := 0) hx dX5_keeps_67 (by decide) ?_
              exact J.sub [0, 1, 2] rfl (hK68 0 w23)
            · refine J.iconst (v := 1) hx dX5_keeps_63 (by decide) ?_
              refine J.goto (tgt := 68) hx dX5_keeps_64 (by decide) ?_
              exact J.sub [0, 1, 2] rfl (hK68 1 w23)
        · intro K43 hK43
          refine J.fn (fun (K38 : j_St → Option (Unit × j_St)) => ∀  (w18 : j_St), J g x 3 B (j_Q g x B rm_X5_keeps jrv) 0 0 (K38 w18) 38 [(0, .ref (B.1 2 i0)), (1, .int p1), (2, .int v2)] [va_re (B.1 3) v7] w18) ?_ ?_
          · intro w18
            refine J.iconst (v := 1) hx dX5_keeps_38 (by decide) ?_
            refine J.goto (tgt := 43) hx dX5_keeps_39 (by decide) ?_
            exact J.sub [0, 1, 2] rfl (hK43 1 w18)
          · intro K38 hK38
            refine J.if_eq (tgt := 38) hx dX5_keeps_22 (by decide) ?_ ?_
            · exact J.sub [0, 1, 2] rfl (hK38 w3)
            · refine J.aload_n hx dX5_keeps_25 rfl 0 rfl ?_
              refine J.getc (κ' := 27) (i' := i0) (κ := 2) (k := 1) hx rfl rfl rfl rfl rfl in_X5 (by decide) (Or.inl q275) a0.2 dX5_keeps_26 fun h9 => ?_
              refine J.iload_n hx dX5_keeps_29 rfl 2 rfl ?_
              refine J.aald (κ' := 3) (κ := 27) hx rfl rfl (by decide) rfl rfl h9.1 dX5_keeps_30 fun v11 h12 => ?_
              refine J.obU fun y13 e14 => ?_
              subst e14
              refine J.calli hx (fun r z1 z => j_callV (κ := 3) hx rfl rfl (h12 y13 rfl).1 (mt_X6_persistence (h12 y13 rfl) z) (lw_V q1045 q1046 q1047 q126 q1048) hd_X6_persistence rfl ⟨Nat.le_of_ble_eq_true rfl, Nat.le_of_ble_eq_true rfl⟩ (by simp [va_re_cat, jct_i, jct_l, jct_r, jct_n]) dX5_keeps_31) ⟨⟨rfl, rfl⟩, (Nat.le_of_ble_eq_true rfl), (Nat.le_of_ble_eq_true rfl)⟩ fun v15 w16 e17 => ?_
              refine J.iload_n hx dX5_keeps_34 rfl 1 rfl ?_
              refine J.icmp_le (tgt := 42) hx dX5_keeps_35 (by decide) ?_ ?_
              · refine J.iconst (v := 0) hx dX5_keeps_42 (by decide) ?_
                exact J.sub [0, 1, 2] rfl (hK43 0 w16)
              · exact J.sub [0, 1, 2] rfl (hK38 w16)
  refine J.sub [1, 2, 0] rfl (hL7 jFU 0 w1)
theorem hd_X5_of : yX5_of.cls = RX5 ∧ yX5_of.cls ≠ "java/lang/invoke/MethodHandle" ∧ yX5_of.cls ≠ "java/lang/invoke/VarHandle" ∧ (parseMethodDescriptor yX5_of.desc).map (fun d => d.parameters.length) = some 2 := by decide +kernel
def f_X5_of_L30 (i0 : Nat) (i1 : Nat) (v3 : Int32) (k80 : Int32 → j_St → Option (Unit × j_St)) : Nat → Int32 → j_St → Option (Unit × j_St)
  | 0, _, _ => none
  | n30 + 1, v9, w10 => if v9 ≤ 0 then k80 v9 w10 else jbd (v9 - 1) 48 fun a13 => jlt (jgi w10 29 i0 a13) fun v14 => jbd v14 48 fun a15 => jlt (jgi w10 32 i1 a15) fun v16 => jbd v3 48 fun a18 => jlt (jgi w10 32 i1 a18) fun v19 => if v19 ≤ v16 then k80 v9 w10 else jbd (v9 - 1) 48 fun a22 => jlt (jgi w10 29 i0 a22) fun v23 => jbd v9 48 fun a25 => jlt (jsi w10 29 i0 a25 v23) fun w24 => jlt (v9 + (-1)) fun v26 => f_X5_of_L30 i0 i1 v3 k80 n30 v26 w24
def f_X5_of_L12 (i0 : Nat) (i1 : Nat) (k94 : j_St → Option (Unit × j_St)) : Nat → Int32 → j_St → Option (Unit × j_St)
  | 0, _, _ => none
  | n12 + 1, v3, w4 => jlt (jgi w4 4 i1 1) fun v5 => if v5 ≤ v3 then k94 w4 else jbd v3 48 fun a8 => jlt (jsr w4 28 i0 a8 none) fun w7 => f_X5_of_L30 i0 i1 v3 (fun (v27 : Int32) (w28 : j_St) => jbd v27 48 fun a31 => jlt (jsi w28 29 i0 a31 v3) fun w30 => jlt (v3 + 1) fun v32 => f_X5_of_L12 i0 i1 k94 n12 v32 w30) jFU v3 w7
def f_X5_of_L96 (i0 : Nat) (i1 : Nat) (k121 : j_St → Option (Unit × j_St)) : Nat → Int32 → j_St → Option (Unit × j_St)
  | 0, _, _ => none
  | n96 + 1, v34, w35 => jlt (jgi w35 4 i1 1) fun v36 => if v36 ≤ v34 then k121 w35 else jbd v34 48 fun a38 => jlt (jgi w35 29 i0 a38) fun v39 => jcb (f_X5_comes i0 v39 v34 w35) fun _ w41 => jlt (v34 + 1) fun v43 => f_X5_of_L96 i0 i1 k121 n96 v43 w41
def f_X5_of (i0 : Nat) (i1 : Nat) (p2 : Int32) (w : j_St) : Option (Unit × j_St) := jlt (jsr w 2 i0 4 (some i1)) fun w1 => jlt (jsi w1 2 i0 5 0) fun w2 => f_X5_of_L12 i0 i1 (fun (w33 : j_St) => f_X5_of_L96 i0 i1 (fun (w44 : j_St) => jcb (f_X5_ends i0 w44) fun _ w46 => jcb (f_X5_keeps i0 p2 w46) fun _ w49 => some ((), w49)) jFU 0 w33) jFU 0 w2
abbrev rm_X5_of : Room := { frames := 3, cells := 0, slots := 0, locals := 73 }
set_option maxRecDepth 100000 in
set_option maxHeartbeats 4000000 in
theorem mt_X5_of {g : j_G} {B : j_B} {i0 : Nat} {i1 : Nat} {p2 : Int32} {w w' : j_St} (a0 : B.2.1 2 i0 ∧ B.2.2 2 i0) (b1 : B.2.1 4 i1 ∧ B.2.2 4 i1) {r : Unit} (h : f_X5_of i0 i1 p2 w = some (r, w')) : j_M g yX5_of cX5_of 5 (some (FieldType.object "TracePeaks$Peaks")) rm_X5_of B [.ref (B.1 2 i0), .ref (B.1 4 i1), .int p2] w w' ((fun _ : Unit => some (.ref (B.1 2 i0))) r) := by
  refine j_met (rv := (fun _ : Unit => some (.ref (B.1 2 i0)))) (by decide) (Nat.le_of_ble_eq_true rfl) (fun x hx => ?_) h
  unfold f_X5_of
  refine J.sub (lv' := [(0, .ref (B.1 2 i0)), (1, .ref (B.1 4 i1)), (2, .int p2)]) [0, 1, 2] rfl ?_
  refine J.aload_n hx dX5_of_0 rfl 0 rfl ?_
  refine J.aload_n hx dX5_of_1 rfl 1 rfl ?_
  refine J.putr (κ' := 4) (v := (some i1)) (κ := 2) (k := 4) hx rfl rfl rfl rfl in_X5 tyX5_ok nmX5 (by decide) (Or.inl q280) rfl rfl a0.1 (fun _ => ⟨rfl, rfl, rfl, rfl⟩) (j_sm b1) dX5_of_2 fun w1 => ?_
  refine J.aload_n hx dX5_of_5 rfl 0 rfl ?_
  refine J.iconst (v := 0) hx dX5_of_6 (by decide) ?_
  refine J.puti (κ := 2) (k := 5) hx rfl rfl rfl in_X5 tyX5_ok nmX5 (by decide) (Or.inl q281) rfl rfl a0.1 ⟨rfl, rfl⟩ dX5_of_7 fun w2 => ?_
  refine J.iconst (v := 0) hx dX5_of_10 (by decide) ?_
  refine J.istore_n (lv' := [(3, .int 0), (0, .ref (B.1 2 i0)), (1, .ref (B.1 4 i1)), (2, .int p2)]) hx dX5_of_11 rfl (by decide) rfl ?_
  have hL12 : ∀ (k94 : j_St → Option (Unit × j_St)) (hk94 : ∀  (w33 : j_St), J g x 5 B (j_Q g x B rm_X5_of (fun _ : Unit => some (.ref (B.1 2 i0)))) 0 0 (k94 w33) 94 [(0, .ref (B.1 2 i0)), (1, .ref (B.1 4 i1)), (2, .int p2)] [] w33) (n12 : Nat) (v3 : Int32) (w4 : j_St), J g x 5 B (j_Q g x B rm_X5_of (fun _ : Unit => some (.ref (B.1 2 i0)))) 0 0 (f_X5_of_L12 i0 i1 k94 n12 v3 w4) 12 [(0, .ref (B.1 2 i0)), (1, .ref (B.1 4 i1)), (2, .int p2), (3, .int v3)] [] w4 := by
    intro k94 hk94 n12
    induction n12 with
    | zero =>
      intro v3 w4
      rw [f_X5_of_L12]
      exact J.nne
    | succ n12 ih =>
      intro v3 w4
      rw [f_X5_of_L12]
      refine J.iload_n hx dX5_of_12 rfl 3 rfl ?_
      refine J.aload_n hx dX5_of_13 rfl 1 rfl ?_
      refine J.geti (κ := 4) (k := 1) hx rfl rfl rfl in_X7 (by decide) (Or.inr ⟨_, j_nl q321 rfl⟩) b1.1 dX5_of_14 fun v5 => ?_
      refine J.icmp_ge (tgt := 94) hx dX5_of_17 (by decide) ?_ ?_
      · exact J.sub [0, 1, 2] rfl (hk94 w4)
      · refine J.aload_n hx dX5_of_20 rfl 0 rfl ?_
        refine J.getc (κ' := 28) (i' := i0) (κ := 2) (k := 2) hx rfl rfl rfl rfl rfl in_X5 (by decide) (Or.inl q278) a0.2 dX5_of_21 fun h6 => ?_
        refine J.iload_n hx dX5_of_24 rfl 3 rfl ?_
        refine J.null (ad := fun _ => 0) hx dX5_of_25 ?_
        refine J.aast (κ' := 3) (v := none) (κ := 28) hx rfl rfl (by decide) rfl rfl rfl rfl rfl h6.1 j_nn dX5_of_26 fun w7 => ?_
        refine J.iload_n hx dX5_of_27 rfl 3 rfl ?_
        refine J.istore (lv' := [(4, .int v3), (0, .ref (B.1 2 i0)), (1, .ref (B.1 4 i1)), (2, .int p2), (3, .int v3)]) hx dX5_of_28 (by decide) rfl ?_
        have hL30 : ∀ (k80 : Int32 → j_St → Option (Unit × j_St)) (hk80 : ∀ (v27 : Int32) (w28 : j_St), J g x 5 B (j_Q g x B rm_X5_of (fun _ : Unit => some (.ref (B.1 2 i0)))) 0 0 (k80 v27 w28) 80 [(0, .ref (B.1 2 i0)), (1, .ref (B.1 4 i1)), (2, .int p2), (3, .int v3), (4, .int v27)] [] w28) (n30 : Nat) (v9 : Int32) (w10 : j_St), J g x 5 B (j_Q g x B rm_X5_of (fun _ : Unit => some (.ref (B.1 2 i0)))) 0 0 (f_X5_of_L30 i0 i1 v3 k80 n30 v9 w10) 30 [(0, .ref (B.1 2 i0)), (1, .ref (B.1 4 i1)), (2, .int p2), (3, .int v3), (4, .int v9)] [] w10 := by
          intro k80 hk80 n30
          induction n30 with
          | zero =>
            intro v9 w10
            rw [f_X5_of_L30]
            exact J.nne
          | succ n30 ih =>
            intro v9 w10
            rw [f_X5_of_L30]
            refine J.iload hx dX5_of_30 4 rfl ?_
            refine J.if_le (tgt := 80) hx dX5_of_32 (by decide) ?_ ?_
            · exact J.sub [0, 1, 2, 3, 4] rfl (hk80 v9 w10)
            · refine J.aload_n hx dX5_of_35 rfl 1 rfl ?_
              refine J.getc (κ' := 32) (i' := i1) (κ := 4) (k := 0) hx rfl rfl rfl rfl rfl in_X7 (by decide) (Or.inr ⟨_, j_nl q317 rfl⟩) b1.2 dX5_of_36 fun h11 => ?_
              refine J.aload_n hx dX5_of_39 rfl 0 rfl ?_
              refine J.getc (κ' := 29) (i' := i0) (κ := 2) (k := 3) hx rfl rfl rfl rfl rfl in_X5 (by decide) (Or.inl q279) a0.2 dX5_of_40 fun h12 => ?_
              refine J.iload hx dX5_of_43 4 rfl ?_
              refine J.iconst (v := 1) hx dX5_of_45 (by decide) ?_
              refine J.isub hx dX5_of_46 ?_
              refine J.iald (κ := 29) hx rfl rfl h12.1 dX5_of_47 fun v14 => ?_
              refine J.iald (κ := 32) hx rfl rfl h11.1 dX5_of_48 fun v16 => ?_
              refine J.aload_n hx dX5_of_49 rfl 1 rfl ?_
              refine J.getc (κ' := 32) (i' := i1) (κ := 4) (k := 0) hx rfl rfl rfl rfl rfl in_X7 (by decide) (Or.inr ⟨_, j_nl q317 rfl⟩) b1.2 dX5_of_50 fun h17 => ?_
              refine J.iload_n hx dX5_of_53 rfl 3 rfl ?_
              refine J.iald (κ := 32) hx rfl rfl h17.1 dX5_of_54 fun v19 => ?_
              refine J.icmp_ge (tgt := 80) hx dX5_of_55 (by decide) ?_ ?_
              · exact J.sub [0, 1, 2, 3, 4] rfl (hk80 v9 w10)
              · refine J.aload_n hx dX5_of_58 rfl 0 rfl ?_
                refine J.getc (κ' := 29) (i' := i0) (κ := 2) (k := 3) hx rfl rfl rfl rfl rfl in_X5 (by decide) (Or.inl q279) a0.2 dX5_of_59 fun h20 => ?_
                refine J.iload hx dX5_of_62 4 rfl ?_
                refine J.aload_n hx dX5_of_64 rfl 0 rfl ?_
                refine J.getc (κ' := 29) (i' := i0) (κ := 2) (k := 3) hx rfl rfl rfl rfl rfl in_X5 (by decide) (Or.inl q279) a0.2 dX5_of_65 fun h21 => ?_
                refine J.iload hx dX5_of_68 4 rfl ?_
                refine J.iconst (v := 1) hx dX5_of_70 (by decide) ?_
                refine J.isub hx dX5_of_71 ?_
                refine J.iald (κ := 29) hx rfl rfl h21.1 dX5_of_72 fun v23 => ?_
                refine J.iast (κ := 29) hx rfl rfl rfl h20.1 dX5_of_73 fun w24 => ?_
                refine J.nmx fun v26 ev26 => ?_
                refine J.iinc (p := 4) (v := v26) (lv' := [(4, .int v26), (0, .ref (B.1 2 i0)), (1, .ref (B.1 4 i1)), (2, .int p2), (3, .int v3)]) hx dX5_of_74 rfl (by rw [ev26]; rfl) (by decide) rfl ?_
                refine J.goto (tgt := 30) hx dX5_of_77 (by decide) ?_
                exact J.sub [1, 2, 3, 4, 0] rfl (ih v26 w24)
        refine J.sub [1, 2, 3, 4, 0] rfl (hL30 _ ?_ jFU v3 w7)
        · intro v27 w28
          refine J.aload_n hx dX5_of_80 rfl 0 rfl ?_
          refine J.getc (κ' := 29) (i' := i0) (κ := 2) (k := 3) hx rfl rfl rfl rfl rfl in_X5 (by decide) (Or.inl q279) a0.2 dX5_of_81 fun h29 => ?_
          refine J.iload hx dX5_of_84 4 rfl ?_
          refine J.iload_n hx dX5_of_86 rfl 3 rfl ?_
          refine J.iast (κ := 29) hx rfl rfl rfl h29.1 dX5_of_87 fun w30 => ?_
          refine J.nmx fun v32 ev32 => ?_
          refine J.iinc (p := 3) (v := v32) (lv' := [(3, .int v32), (0, .ref (B.1 2 i0)), (1, .ref (B.1 4 i1)), (2, .int p2), (4, .int v27)]) hx dX5_of_88 rfl (by rw [ev32]; rfl) (by decide) rfl ?_
          refine J.goto (tgt := 12) hx dX5_of_91 (by decide) ?_
          exact J.sub [1, 2, 3, 0] rfl (ih v32 w30)
  refine J.sub [1, 2, 3, 0] rfl (hL12 _ ?_ jFU 0 w2)
  · intro w33
    refine J.iconst (v := 0) hx dX5_of_94 (by decide) ?_
    refine J.istore_n (lv' := [(3, .int 0), (0, .ref (B.1 2 i0)), (1, .ref (B.1 4 i1)), (2, .int p2)]) hx dX5_of_95 rfl (by decide) rfl ?_
    have hL96 : ∀ (k121 : j_St → Option (Unit × j_St)) (hk121 : ∀  (w44 : j_St), J g x 5 B (j_Q g x B rm_X5_of (fun _ : Unit => some (.ref (B.1 2 i0)))) 0 0 (k121 w44) 121 [(0, .ref (B.1 2 i0)), (2, .int p2)] [] w44) (n96 : Nat) (v34 : Int32) (w35 : j_St), J g x 5 B (j_Q g x B rm_X5_of (fun _ : Unit => some (.ref (B.1 2 i0)))) 0 0 (f_X5_of_L96 i0 i1 k121 n96 v34 w35) 96 [(0, .ref (B.1 2 i0)), (1, .ref (B.1 4 i1)), (2, .int p2), (3, .int v34)] [] w35 := by
      intro k121 hk121 n96
      induction n96 with
      | zero =>
        intro v34 w35
        rw [f_X5_of_L96]
        exact J.nne
      | succ n96 ih =>
        intro v34 w35
        rw [f_X5_of_L96]
        refine J.iload_n hx dX5_of_96 rfl 3 rfl ?_
        refine J.aload_n hx dX5_of_97 rfl 1 rfl ?_
        refine J.geti (κ := 4) (k := 1) hx rfl rfl rfl in_X7 (by decide) (Or.inr ⟨_, j_nl q321 rfl⟩) b1.1 dX5_of_98 fun v36 => ?_
        refine J.icmp_ge (tgt := 121) hx dX5_of_101 (by decide) ?_ ?_
        · exact J.sub [0, 2] rfl (hk121 w35)
        · refine J.aload_n hx dX5_of_104 rfl 0 rfl ?_
          refine J.aload_n hx dX5_of_105 rfl 0 rfl ?_
          refine J.getc (κ' := 29) (i' := i0) (κ := 2) (k := 3) hx rfl rfl rfl rfl rfl in_X5 (by decide) (Or.inl q279) a0.2 dX5_of_106 fun h37 => ?_
          refine J.iload_n hx dX5_of_109 rfl 3 rfl ?_
          refine J.iald (κ := 29) hx rfl rfl h37.1 dX5_of_110 fun v39 => ?_
          refine J.iload_n hx dX5_of_111 rfl 3 rfl ?_
          refine J.callv hx (fun r z1 z => j_callV (κ := 2) hx rfl rfl a0.1 (mt_X5_comes a0 z) (lw_V q1006 q1008 qs15 q125 q1009) hd_X5_comes rfl ⟨Nat.le_of_ble_eq_true rfl, Nat.le_of_ble_eq_true rfl⟩ (Nat.le_of_ble_eq_true rfl) dX5_of_112) ⟨⟨rfl, rfl⟩, (Nat.le_of_ble_eq_true rfl), (Nat.le_of_ble_eq_true rfl)⟩ fun _ w41 e42 => ?_
          refine J.nmx fun v43 ev43 => ?_
          refine J.iinc (p := 3) (v := v43) (lv' := [(3, .int v43), (0, .ref (B.1 2 i0)), (1, .ref (B.1 4 i1)), (2, .int p2)]) hx dX5_of_115 rfl (by rw [ev43]; rfl) (by decide) rfl ?_
          refine J.goto (tgt := 96) hx dX5_of_118 (by decide) ?_
          exact J.sub [1, 2, 3, 0] rfl (ih v43 w41)
    refine J.sub [1, 2, 3, 0] rfl (hL96 _ ?_ jFU 0 w33)
    · intro w44
      refine J.aload_n hx dX5_of_121 rfl 0 rfl ?_
      refine J.callv hx (fun r z1 z => j_callV (κ := 2) hx rfl rfl a0.1 (mt_X5_ends a0 z) (lw_V q1026 q1028 qs18 q125 q1029) hd_X5_ends rfl ⟨Nat.le_of_ble_eq_true rfl, Nat.le_of_ble_eq_true rfl⟩ (Nat.le_of_ble_eq_true rfl) dX5_of_122) ⟨⟨rfl, rfl⟩, (Nat.le_of_ble_eq_true rfl), (Nat.le_of_ble_eq_true rfl)⟩ fun _ w46 e47 => ?_
      refine J.aload_n hx dX5_of_125 rfl 0 rfl ?_
      refine J.iload_n hx dX5_of_126 rfl 1 rfl ?_
      refine J.callv hx (fun r z1 z => j_callV (κ := 2) hx rfl rfl a0.1 (mt_X5_keeps a0 z) (lw_V q1074 q1076 qs19 q125 q1077) hd_X5_keeps rfl ⟨Nat.le_of_ble_eq_true rfl, Nat.le_of_ble_eq_true rfl⟩ (Nat.le_of_ble_eq_true rfl) dX5_of_127) ⟨⟨rfl, rfl⟩, (Nat.le_of_ble_eq_true rfl), (Nat.le_of_ble_eq_true rfl)⟩ fun _ w49 e50 => ?_
      refine J.aload_n hx dX5_of_130 rfl 0 rfl ?_
      exact J.thisret hx rfl (Or.inl ⟨_, rfl⟩) (Nat.le_of_ble_eq_true rfl) (Nat.le_of_ble_eq_true rfl) dX5_of_131
theorem hd_X5_numberAt : yX5_numberAt.cls = RX5 ∧ yX5_numberAt.cls ≠ "java/lang/invoke/MethodHandle" ∧ yX5_numberAt.cls ≠ "java/lang/invoke/VarHandle" ∧ (parseMethodDescriptor yX5_numberAt.desc).map (fun d => d.parameters.length) = some 1 := by decide +kernel
def f_X5_numberAt_L2 (i0 : Nat) (p1 : Int32)  : Nat → Int32 → j_St → Option (Int32 × j_St)
  | 0, _, _ => none
  | n2 + 1, v1, w2 => jlt (jgi w2 2 i0 5) fun v3 => if v3 ≤ v1 then some ((-1), w2) else jbd v1 48 fun a5 => jlt (jgr w2 27 i0 a5) fun v6 => job v6 fun y8 => jlt (jgi w2 3 y8 0) fun v10 => if v10 = p1 then some (v1, w2) else jlt (v1 + 1) fun v11 => f_X5_numberAt_L2 i0 p1 n2 v11 w2
def f_X5_numberAt (i0 : Nat) (p1 : Int32) (w : j_St) : Option (Int32 × j_St) := f_X5_numberAt_L2 i0 p1 jFU 0 w
abbrev rm_X5_numberAt : Room := { frames := 0, cells := 0, slots := 0, locals := 0 }
set_option maxRecDepth 100000 in
set_option maxHeartbeats 4000000 in
theorem mt_X5_numberAt {g : j_G} {B : j_B} {i0 : Nat} {p1 : Int32} {w w' : j_St} (a0 : B.2.1 2 i0 ∧ B.2.2 2 i0) {r : Int32} (h : f_X5_numberAt i0 p1 w = some (r, w')) : j_M g yX5_numberAt cX5_numberAt 3 (some FieldType.int) rm_X5_numberAt B [.ref (B.1 2 i0), .int p1] w w' (jri r) := by
  refine j_met (rv := jri) (by decide) (Nat.le_of_ble_eq_true rfl) (fun x hx => ?_) h
  unfold f_X5_numberAt
  refine J.sub (lv' := [(0, .ref (B.1 2 i0)), (1, .int p1)]) [0, 1] rfl ?_
  refine J.iconst (v := 0) hx dX5_numberAt_0 (by decide) ?_
  refine J.istore_n (lv' := [(2, .int 0), (0, .ref (B.1 2 i0)), (1, .int p1)]) hx dX5_numberAt_1 rfl (by decide) rfl ?_
  have hL2 : ∀ (n2 : Nat) (v1 : Int32) (w2 : j_St), J g x 3 B (j_Q g x B rm_X5_numberAt jri) 0 0 (f_X5_numberAt_L2 i0 p1 n2 v1 w2) 2 [(0, .ref (B.1 2 i0)), (1, .int p1), (2, .int v1)] [] w2 := by
    intro n2
    induction n2 with
    | zero =>
      intro v1 w2
      rw [f_X5_numberAt_L2]
      exact J.nne
    | succ n2 ih =>
      intro v1 w2
      rw [f_X5_numberAt_L2]
      refine J.iload_n hx dX5_numberAt_2 rfl 2 rfl ?_
      refine J.aload_n hx dX5_numberAt_3 rfl 0 rfl ?_
      refine J.geti (κ := 2) (k := 5) hx rfl rfl rfl in_X5 (by decide) (Or.inl q281) a0.1 dX5_numberAt_4 fun v3 => ?_
      refine J.icmp_ge (tgt := 31) hx dX5_numberAt_7 (by decide) ?_ ?_
      · refine J.iconst (v := (-1)) hx dX5_numberAt_31 (by decide) ?_
        exact J.iret hx rfl (Nat.le_of_ble_eq_true rfl) (Nat.le_of_ble_eq_true rfl) dX5_numberAt_32
      · refine J.aload_n hx dX5_numberAt_10 rfl 0 rfl ?_
        refine J.getc (κ' := 27) (i' := i0) (κ := 2) (k := 1) hx rfl rfl rfl rfl rfl in_X5 (by decide) (Or.inl q275) a0.2 dX5_numberAt_11 fun h4 => ?_
        refine J.iload_n hx dX5_numberAt_14 rfl 2 rfl ?_
        refine J.aald (κ' := 3) (κ := 27) hx rfl rfl (by decide) rfl rfl h4.1 dX5_numberAt_15 fun v6 h7 => ?_
        refine J.obU fun y8 e9 => ?_
        subst e9
        refine J.geti (κ := 3) (k := 0) hx rfl rfl rfl in_X6 (by decide) (Or.inr ⟨_, j_nl q237 rfl⟩) (h7 y8 rfl).1 dX5_numberAt_16 fun v10 => ?_
        refine J.iload_n hx dX5_numberAt_19 rfl 1 rfl ?_
        refine J.icmp_ne (tgt := 25) hx dX5_numberAt_20 (by decide) ?_ ?_
        · refine J.iload_n hx dX5_numberAt_23 rfl 2 rfl ?_
          exact J.iret hx rfl (Nat.le_of_ble_eq_true rfl) (Nat.le_of_ble_eq_true rfl) dX5_numberAt_24
        · refine J.nmx fun v11 ev11 => ?_
          refine J.iinc (p := 2) (v := v11) (lv' := [(2, .int v11), (0, .ref (B.1 2 i0)), (1, .int p1)]) hx dX5_numberAt_25 rfl (by rw [ev11]; rfl) (by decide) rfl ?_
          refine J.goto (tgt := 2) hx dX5_numberAt_28 (by decide) ?_
          exact J.sub [1, 2, 0] rfl (ih v11 w2)
  refine J.sub [1, 2, 0] rfl (hL2 jFU 0 w)
theorem hd_X5_neighbor : yX5_neighbor.cls = RX5 ∧ yX5_neighbor.cls ≠ "java/lang/invoke/MethodHandle" ∧ yX5_neighbor.cls ≠ "java/lang/invoke/VarHandle" ∧ (parseMethodDescriptor yX5_neighbor.desc).map (fun d => d.parameters.length) = some 2 := by decide +kernel
def f_X5_neighbor_L7 (i0 : Nat) (p2 : Int32) (k48 : Int32 → j_St → Option (Option Nat × j_St)) : Nat → Int32 → j_St → Option (Option Nat × j_St)
  | 0, _, _ => none
  | n7 + 1, v5, w6 => if v5 < 0 then some (none, w6) else jlt (jgr w6 2 i0 4) fun v7 => job v7 fun y9 => jlt (jgi w6 4 y9 1) fun v11 => if v11 ≤ v5 then some (none, w6) else jcb (f_X5_numberAt i0 v5 w6) fun v12 w13 => jlt (fun (w22 : j_St) => jlt (v5 + p2) fun v23 => f_X5_neighbor_L7 i0 p2 k48 n7 v23 w22) fun K56 => if v12 = (-1) then K56 w13 else jbd v12 48 fun a16 => jlt (jgr w13 27 i0 a16) fun v17 => job v17 fun y19 => jlt (jgi w13 3 y19 6) fun v21 => if v21 = 0 then K56 w13 else k48 v12 w13
def f_X5_neighbor (i0 : Nat) (q1 : Option Nat) (p2 : Int32) (w : j_St) : Option (Option Nat × j_St) := job q1 fun y1 => jlt (jgi w 3 y1 0) fun v3 => jlt (v3 + p2) fun v4 => f_X5_neighbor_L7 i0 p2 (fun (v24 : Int32) (w25 : j_St) => jbd v24 48 fun a27 => jlt (jgr w25 27 i0 a27) fun v28 => some (v28, w25)) jFU v4 w
abbrev rm_X5_neighbor : Room := { frames := 1, cells := 0, slots := 0, locals := 22 }
set_option maxRecDepth 100000 in
set_option maxHeartbeats 4000000 in
theorem mt_X5_neighbor {g : j_G} {B : j_B} {i0 : Nat} {q1 : Option Nat} {p2 : Int32} {w w' : j_St} (a0 : B.2.1 2 i0 ∧ B.2.2 2 i0) (b1 : ∀ q, q1 = some q → B.2.1 3 q ∧ B.2.2 3 q) {r : Option Nat} (h : f_X5_neighbor i0 q1 p2 w = some (r, w')) : j_M g yX5_neighbor cX5_neighbor 5 (some (FieldType.object "TracePeaks$Peak")) rm_X5_neighbor B [.ref (B.1 2 i0), va_re (B.1 3) q1, .int p2] w w' ((jro_ B 3) r) := by
  refine j_met (rv := (jro_ B 3)) (by decide) (by simp [lg_sl, va_re_cat, jct_i, jct_l, jct_r, jct_n]) (fun x hx => ?_) h
  unfold f_X5_neighbor
  rw [show lv_args 0 [.ref (B.1 2 i0), va_re (B.1 3) q1, .int p2] = [(0, .ref (B.1 2 i0)), (1, va_re (B.1 3) q1), (2, .int p2)] from by simp [lv_args, va_re_cat, jct_i, jct_l, jct_r, jct_n]]
  refine J.sub (lv' := [(0, .ref (B.1 2 i0)), (1, va_re (B.1 3) q1), (2, .int p2)]) [0, 1, 2] rfl ?_
  refine J.aload_nq hx dX5_neighbor_0 rfl 1 rfl ?_
  refine J.obU fun y1 e2 => ?_
  subst e2
  refine J.geti (κ := 3) (k := 0) hx rfl rfl rfl in_X6 (by decide) (Or.inr ⟨_, j_nl q237 rfl⟩) (b1 y1 rfl).1 dX5_neighbor_1 fun v3 => ?_
  refine J.iload_n hx dX5_neighbor_4 rfl 2 rfl ?_
  refine J.iadd hx dX5_neighbor_5 ?_
  refine J.nmi fun v4 => ?_
  refine J.istore_n (lv' := [(3, .int v4), (0, .ref (B.1 2 i0)), (1, .ref (B.1 3 y1)), (2, .int p2)]) hx dX5_neighbor_6 rfl (by decide) rfl ?_
  have hL7 : ∀ (k48 : Int32 → j_St → Option (Option Nat × j_St)) (hk48 : ∀ (v24 : Int32) (w25 : j_St), J g x 5 B (j_Q g x B rm_X5_neighbor (jro_ B 3)) 0 0 (k48 v24 w25) 48 [(0, .ref (B.1 2 i0)), (4, .int v24)] [] w25) (n7 : Nat) (v5 : Int32) (w6 : j_St), J g x 5 B (j_Q g x B rm_X5_neighbor (jro_ B 3)) 0 0 (f_X5_neighbor_L7 i0 p2 k48 n7 v5 w6) 7 [(0, .ref (B.1 2 i0)), (2, .int p2), (3, .int v5)] [] w6 := by
    intro k48 hk48 n7
    induction n7 with
    | zero =>
      intro v5 w6
      rw [f_X5_neighbor_L7]
      exact J.nne
    | succ n7 ih =>
      intro v5 w6
      rw [f_X5_neighbor_L7]
      refine J.iload_n hx dX5_neighbor_7 rfl 2 rfl ?_
      refine J.if_lt (tgt := 63) hx dX5_neighbor_8 (by decide) ?_ ?_
      · refine J.null (ad := fun _ => 0) hx dX5_neighbor_63 ?_
        exact J.aretq (κ := 3) (q := none) hx rfl (Or.inl ⟨_, rfl⟩) (Nat.le_of_ble_eq_true rfl) (Nat.le_of_ble_eq_true rfl) dX5_neighbor_64
      · refine J.iload_n hx dX5_neighbor_11 rfl 2 rfl ?_
        refine J.aload_n hx dX5_neighbor_12 rfl 0 rfl ?_
        refine J.getr (κ' := 4) (κ := 2) (k := 4) hx rfl rfl rfl rfl in_X5 (by decide) (Or.inl q280) a0.1 dX5_neighbor_13 fun v7 h8 => ?_
        refine J.obU fun y9 e10 => ?_
        subst e10
        refine J.geti (κ := 4) (k := 1) hx rfl rfl rfl in_X7 (by decide) (Or.inr ⟨_, j_nl q321 rfl⟩) (h8 y9 rfl).1 dX5_neighbor_16 fun v11 => ?_
        refine J.icmp_ge (tgt := 63) hx dX5_neighbor_19 (by decide) ?_ ?_
        · refine J.null (ad := fun _ => 0) hx dX5_neighbor_63 ?_
          exact J.aretq (κ := 3) (q := none) hx rfl (Or.inl ⟨_, rfl⟩) (Nat.le_of_ble_eq_true rfl) (Nat.le_of_ble_eq_true rfl) dX5_neighbor_64
        · refine J.aload_n hx dX5_neighbor_22 rfl 0 rfl ?_
          refine J.iload_n hx dX5_neighbor_23 rfl 2 rfl ?_
          refine J.calli hx (fun r z1 z => j_callV (κ := 2) hx rfl rfl a0.1 (mt_X5_numberAt a0 z) (lw_V q1255 q1256 q1257 q125 q1258) hd_X5_numberAt rfl ⟨Nat.le_of_ble_eq_true rfl, Nat.le_of_ble_eq_true rfl⟩ (Nat.le_of_ble_eq_true rfl) dX5_neighbor_24) ⟨⟨rfl, rfl⟩, (Nat.le_of_ble_eq_true rfl), (Nat.le_of_ble_eq_true rfl)⟩ fun v12 w13 e14 => ?_
          refine J.istore (lv' := [(4, .int v12), (0, .ref (B.1 2 i0)), (2, .int p2), (3, .int v5)]) hx dX5_neighbor_27 (by decide) rfl ?_
          refine J.iload hx dX5_neighbor_29 0 rfl ?_
          refine J.iconst (v := (-1)) hx dX5_neighbor_31 (by decide) ?_
          refine J.fn (fun (K56 : j_St → Option (Option Nat × j_St)) => ∀  (w22 : j_St), J g x 5 B (j_Q g x B rm_X5_neighbor (jro_ B 3)) 0 0 (K56 w22) 56 [(0, .ref (B.1 2 i0)), (2, .int p2), (3, .int v5)] [] w22) ?_ ?_
          · intro w22
            refine J.iload_n hx dX5_neighbor_56 rfl 2 rfl ?_
            refine J.iload_n hx dX5_neighbor_57 rfl 1 rfl ?_
            refine J.iadd hx dX5_neighbor_58 ?_
            refine J.nmi fun v23 => ?_
            refine J.istore_n (lv' := [(3, .int v23), (0, .ref (B.1 2 i0)), (2, .int p2)]) hx dX5_neighbor_59 rfl (by decide) rfl ?_
            refine J.goto (tgt := 7) hx dX5_neighbor_60 (by decide) ?_
            exact J.sub [1, 2, 0] rfl (ih v23 w22)
          · intro K56 hK56
            refine J.icmp_eq (tgt := 56) hx dX5_neighbor_32 (by decide) ?_ ?_
            · exact J.sub [1, 2, 3] rfl (hK56 w13)
            · refine J.aload_n hx dX5_neighbor_35 rfl 1 rfl ?_
              refine J.getc (κ' := 27) (i' := i0) (κ := 2) (k := 1) hx rfl rfl rfl rfl rfl in_X5 (by decide) (Or.inl q275) a0.2 dX5_neighbor_36 fun h15 => ?_
              refine J.iload hx dX5_neighbor_39 0 rfl ?_
              refine J.aald (κ' := 3) (κ := 27) hx rfl rfl (by decide) rfl rfl h15.1 dX5_neighbor_41 fun v17 h18 => ?_
              refine J.obU fun y19 e20 => ?_
              subst e20
              refine J.geti (κ := 3) (k := 6) hx rfl rfl rfl in_X6 (by decide) (Or.inr ⟨_, j_nl q254 rfl⟩) (h18 y19 rfl).1 dX5_neighbor_42 fun v21 => ?_
              refine J.if_eq (tgt := 56) hx dX5_neighbor_45 (by decide) ?_ ?_
              · exact J.sub [1, 2, 3] rfl (hK56 w13)
              · exact J.sub [1, 0] rfl (hk48 v12 w13)
  refine J.sub [1, 3, 0] rfl (hL7 _ ?_ jFU v4 w)
  · intro v24 w25
    refine J.aload_n hx dX5_neighbor_48 rfl 0 rfl ?_
    refine J.getc (κ' := 27) (i' := i0) (κ := 2) (k := 1) hx rfl rfl rfl rfl rfl in_X5 (by decide) (Or.inl q275) a0.2 dX5_neighbor_49 fun h26 => ?_
    refine J.iload hx dX5_neighbor_52 1 rfl ?_
    refine J.aald (κ' := 3) (κ := 27) hx rfl rfl (by decide) rfl rfl h26.1 dX5_neighbor_54 fun v28 h29 => ?_
    exact J.aretq (κ := 3) (q := v28) hx rfl (Or.inl ⟨_, rfl⟩) (Nat.le_of_ble_eq_true rfl) (Nat.le_of_ble_eq_true rfl) dX5_neighbor_55
theorem mq_X5_neighbor_L7 {i0 : Nat} {p2 : Int32} {k : Int32 → j_St → Option (Option Nat × j_St)} {r : Option Nat} {w1 : j_St} : ∀ (n : Nat) (v : Int32) (w : j_St), f_X5_neighbor_L7 i0 p2 k n v w = some (r, w1) → r = none ∨ ∃ v' w', k v' w' = some (r, w1)
  | 0, _, _, h => by rw [f_X5_neighbor_L7] at h; cases h
  | n + 1, v, w, h => by
    rw [f_X5_neighbor_L7] at h
    split at h
    · cases h; exact Or.inl rfl
    · obtain ⟨y, -, h⟩ := job_some h
      rw [jlt_eq] at h
      split at h
      · cases h; exact Or.inl rfl
      · obtain ⟨v1, w2, -, h⟩ := jcb_some h
        rw [jlt_eq] at h
        split at h
        · exact mq_X5_neighbor_L7 n _ _ h
        · obtain ⟨-, h⟩ := jbd_some h
          obtain ⟨y2, -, h⟩ := job_some h
          rw [jlt_eq] at h
          split at h
          · exact mq_X5_neighbor_L7 n _ _ h
          · exact Or.inr ⟨_, _, h⟩
theorem mq_X5_neighbor {g : j_G} {B : j_B} {i0 : Nat} {q1 : Option Nat} {p2 : Int32} {w w1 : j_St} {r : Option Nat} (a0 : B.2.1 2 i0 ∧ B.2.2 2 i0) (_ : ∀ q, q1 = some q → B.2.1 3 q ∧ B.2.2 3 q) (h : f_X5_neighbor i0 q1 p2 w = some (r, w1)) : ∀ H, j_R g B w1 H → ∀ q, r = some q → B.2.1 3 q ∧ B.2.2 3 q := by
  intro H hR q hq
  have key : r = none ∨ ∃ a, r = jgr w1 27 i0 a := by
    unfold f_X5_neighbor at h
    obtain ⟨y, -, h⟩ := job_some h
    rcases mq_X5_neighbor_L7 _ _ _ h with h | ⟨v', w', h⟩
    · exact Or.inl h
    · obtain ⟨-, h⟩ := jbd_some h
      cases h
      exact Or.inr ⟨_, rfl⟩
  rcases key with rfl | ⟨a, rfl⟩
  · cases hq
  · have h1 : B.2.1 27 i0 := (hR.2.2.2.2.2.2.2.1 2 i0 1 a0.2 rfl).2 |> hR.2.2.2.2.2.2.2.2.1 27 i0
    exact ⟨hR.2.2.2.2.2.1 27 i0 a q h1 hq, hR.2.2.2.2.2.2.1 27 i0 a q h1 hq rfl⟩

theorem hd_X5_first : yX5_first.cls = RX5 ∧ yX5_first.cls ≠ "java/lang/invoke/MethodHandle" ∧ yX5_first.cls ≠ "java/lang/invoke/VarHandle" ∧ (parseMethodDescriptor yX5_first.desc).map (fun d => d.parameters.length) = some 1 := by decide +kernel
def f_X5_first (i0 : Nat) (p1 : Int32) (w : j_St) : Option (Int32 × j_St) := jbd p1 48 fun a2 => jlt (jgr w 27 i0 a2) fun v3 => jcb (f_X5_neighbor i0 v3 (-1) w) fun v5 w6 => jcs v5 (some (0, w6)) fun y10 => jlt (jgr w6 2 i0 4) fun v12 => jlt (jgi w6 3 y10 0) fun v14 => jbd p1 48 fun a16 => jlt (jgr w6 27 i0 a16) fun v17 => job v17 fun y19 => jlt (jgi w6 3 y19 0) fun v21 => job v12 fun y22 => jcb (f_X7_lowest y22 v14 v21 w6) fun v24 w25 => some (v24, w25)
abbrev rm_X5_first : Room := { frames := 2, cells := 0, slots := 0, locals := 46 }
set_option maxRecDepth 100000 in
set_option maxHeartbeats 4000000 in
theorem mt_X5_first {g : j_G} {B : j_B} {i0 : Nat} {p1 : Int32} {w w' : j_St} (a0 : B.2.1 2 i0 ∧ B.2.2 2 i0) {r : Int32} (h : f_X5_first i0 p1 w = some (r, w')) : j_M g yX5_first cX5_first 3 (some FieldType.int) rm_X5_first B [.ref (B.1 2 i0), .int p1] w w' (jri r) := by
  refine j_met (rv := jri) (by decide) (Nat.le_of_ble_eq_true rfl) (fun x hx => ?_) h
  unfold f_X5_first
  refine J.sub (lv' := [(0, .ref (B.1 2 i0)), (1, .int p1)]) [0, 1] rfl ?_
  refine J.aload_n hx dX5_first_0 rfl 0 rfl ?_
  refine J.aload_n hx dX5_first_1 rfl 0 rfl ?_
  refine J.getc (κ' := 27) (i' := i0) (κ := 2) (k := 1) hx rfl rfl rfl rfl rfl in_X5 (by decide) (Or.inl q275) a0.2 dX5_first_2 fun h1 => ?_
  refine J.iload_n hx dX5_first_5 rfl 1 rfl ?_
  refine J.aald (κ' := 3) (κ := 27) hx rfl rfl (by decide) rfl rfl h1.1 dX5_first_6 fun v3 h4 => ?_
  refine J.iconst (v := (-1)) hx dX5_first_7 (by decide) ?_
  refine J.callq hx (fun r z1 z => j_callV (κ := 2) hx rfl rfl a0.1 (mt_X5_neighbor a0 h4 z) (lw_V q1251 q1253 qs29 q125 q1254) hd_X5_neighbor rfl ⟨Nat.le_of_ble_eq_true rfl, Nat.le_of_ble_eq_true rfl⟩ (Nat.le_of_ble_eq_true rfl) dX5_first_8) ⟨⟨rfl, rfl⟩, (Nat.le_of_ble_eq_true rfl), (Nat.le_of_ble_eq_true rfl)⟩ fun v5 w6 e7 => ?_
  refine J.fact (mq_X5_neighbor a0 h4 e7) fun h9 => ?_
  refine J.astore_nq (lv' := [(2, va_re (B.1 3) v5), (0, .ref (B.1 2 i0)), (1, .int p1)]) hx dX5_first_11 rfl (by decide) rfl ?_
  refine J.aload_nq hx dX5_first_12 rfl 0 rfl ?_
  refine J.ifnonnull (tgt := 20) hx dX5_first_13 (by decide) (fun e11n => ?_) (fun y10 e11 => ?_)
  · subst e11n
    refine J.iconst (v := 0) hx dX5_first_16 (by decide) ?_
    refine J.goto (tgt := 40) hx dX5_first_17 (by decide) ?_
    exact J.iret hx rfl (Nat.le_of_ble_eq_true rfl) (Nat.le_of_ble_eq_true rfl) dX5_first_40
  · subst e11
    refine J.aload_n hx dX5_first_20 rfl 1 rfl ?_
    refine J.getr (κ' := 4) (κ := 2) (k := 4) hx rfl rfl rfl rfl in_X5 (by decide) (Or.inl q280) a0.1 dX5_first_21 fun v12 h13 => ?_
    refine J.aload_n hx dX5_first_24 rfl 0 rfl ?_
    refine J.geti (κ := 3) (k := 0) hx rfl rfl rfl in_X6 (by decide) (Or.inr ⟨_, j_nl q237 rfl⟩) (h9 y10 rfl).1 dX5_first_25 fun v14 => ?_
    refine J.aload_n hx dX5_first_28 rfl 1 rfl ?_
    refine J.getc (κ' := 27) (i' := i0) (κ := 2) (k := 1) hx rfl rfl rfl rfl rfl in_X5 (by decide) (Or.inl q275) a0.2 dX5_first_29 fun h15 => ?_
    refine J.iload_n hx dX5_first_32 rfl 2 rfl ?_
    refine J.aald (κ' := 3) (κ := 27) hx rfl rfl (by decide) rfl rfl h15.1 dX5_first_33 fun v17 h18 => ?_
    refine J.obU fun y19 e20 => ?_
    subst e20
    refine J.geti (κ := 3) (k := 0) hx rfl rfl rfl in_X6 (by decide) (Or.inr ⟨_, j_nl q237 rfl⟩) (h18 y19 rfl).1 dX5_first_34 fun v21 => ?_
    refine J.obU fun y22 e23 => ?_
    subst e23
    refine J.calli hx (fun r z1 z => j_callV (κ := 4) hx rfl rfl (h13 y22 rfl).1 (mt_X7_lowest (h13 y22 rfl) z) (lw_V q1259 q1260 q1261 q127 q1262) hd_X7_lowest rfl ⟨Nat.le_of_ble_eq_true rfl, Nat.le_of_ble_eq_true rfl⟩ (Nat.le_of_ble_eq_true rfl) dX5_first_37) ⟨⟨rfl, rfl⟩, (Nat.le_of_ble_eq_true rfl), (Nat.le_of_ble_eq_true rfl)⟩ fun v24 w25 e26 => ?_
    exact J.iret hx rfl (Nat.le_of_ble_eq_true rfl) (Nat.le_of_ble_eq_true rfl) dX5_first_40
theorem hd_X5_last : yX5_last.cls = RX5 ∧ yX5_last.cls ≠ "java/lang/invoke/MethodHandle" ∧ yX5_last.cls ≠ "java/lang/invoke/VarHandle" ∧ (parseMethodDescriptor yX5_last.desc).map (fun d => d.parameters.length) = some 1 := by decide +kernel
def f_X5_last (i0 : Nat) (p1 : Int32) (w : j_St) : Option (Int32 × j_St) := jbd p1 48 fun a2 => jlt (jgr w 27 i0 a2) fun v3 => jcb (f_X5_neighbor i0 v3 1 w) fun v5 w6 => jcs v5 (jlt (jgr w6 2 i0 4) fun v12 => job v12 fun y14 => jlt (jgi w6 4 y14 1) fun v16 => some (v16 - 1, w6)) fun y10 => jlt (jgr w6 2 i0 4) fun v17 => jbd p1 48 fun a20 => jlt (jgr w6 27 i0 a20) fun v21 => job v21 fun y23 => jlt (jgi w6 3 y23 0) fun v25 => jlt (jgi w6 3 y10 0) fun v26 => job v17 fun y27 => jcb (f_X7_lowest y27 v25 v26 w6) fun v29 w30 => some (v29 - 1, w30)
abbrev rm_X5_last : Room := { frames := 2, cells := 0, slots := 0, locals := 46 }
set_option maxRecDepth 100000 in
set_option maxHeartbeats 4000000 in
theorem mt_X5_last {g : j_G} {B : j_B} {i0 : Nat} {p1 : Int32} {w w' : j_St} (a0 : B.2.1 2 i0 ∧ B.2.2 2 i0) {r : Int32} (h : f_X5_last i0 p1 w = some (r, w')) : j_M g yX5_last cX5_last 3 (some FieldType.int) rm_X5_last B [.ref (B.1 2 i0), .int p1] w w' (jri r) := by
  refine j_met (rv := jri) (by decide) (Nat.le_of_ble_eq_true rfl) (fun x hx => ?_) h
  unfold f_X5_last
  refine J.sub (lv' := [(0, .ref (B.1 2 i0)), (1, .int p1)]) [0, 1] rfl ?_
  refine J.aload_n hx dX5_last_0 rfl 0 rfl ?_
  refine J.aload_n hx dX5_last_1 rfl 0 rfl ?_
  refine J.getc (κ' := 27) (i' := i0) (κ := 2) (k := 1) hx rfl rfl rfl rfl rfl in_X5 (by decide) (Or.inl q275) a0.2 dX5_last_2 fun h1 => ?_
  refine J.iload_n hx dX5_last_5 rfl 1 rfl ?_
  refine J.aald (κ' := 3) (κ := 27) hx rfl rfl (by decide) rfl rfl h1.1 dX5_last_6 fun v3 h4 => ?_
  refine J.iconst (v := 1) hx dX5_last_7 (by decide) ?_
  refine J.callq hx (fun r z1 z => j_callV (κ := 2) hx rfl rfl a0.1 (mt_X5_neighbor a0 h4 z) (lw_V q1251 q1253 qs29 q125 q1254) hd_X5_neighbor rfl ⟨Nat.le_of_ble_eq_true rfl, Nat.le_of_ble_eq_true rfl⟩ (Nat.le_of_ble_eq_true rfl) dX5_last_8) ⟨⟨rfl, rfl⟩, (Nat.le_of_ble_eq_true rfl), (Nat.le_of_ble_eq_true rfl)⟩ fun v5 w6 e7 => ?_
  refine J.fact (mq_X5_neighbor a0 h4 e7) fun h9 => ?_
  refine J.astore_nq (lv' := [(2, va_re (B.1 3) v5), (0, .ref (B.1 2 i0)), (1, .int p1)]) hx dX5_last_11 rfl (by decide) rfl ?_
  refine J.aload_nq hx dX5_last_12 rfl 0 rfl ?_
  refine J.ifnonnull (tgt := 28) hx dX5_last_13 (by decide) (fun e11n => ?_) (fun y10 e11 => ?_)
  · subst e11n
    refine J.aload_n hx dX5_last_16 rfl 1 rfl ?_
    refine J.getr (κ' := 4) (κ := 2) (k := 4) hx rfl rfl rfl rfl in_X5 (by decide) (Or.inl q280) a0.1 dX5_last_17 fun v12 h13 => ?_
    refine J.obU fun y14 e15 => ?_
    subst e15
    refine J.geti (κ := 4) (k := 1) hx rfl rfl rfl in_X7 (by decide) (Or.inr ⟨_, j_nl q321 rfl⟩) (h13 y14 rfl).1 dX5_last_20 fun v16 => ?_
    refine J.iconst (v := 1) hx dX5_last_23 (by decide) ?_
    refine J.isub hx dX5_last_24 ?_
    refine J.goto (tgt := 50) hx dX5_last_25 (by decide) ?_
    exact J.iret hx rfl (Nat.le_of_ble_eq_true rfl) (Nat.le_of_ble_eq_true rfl) dX5_last_50
  · subst e11
    refine J.aload_n hx dX5_last_28 rfl 1 rfl ?_
    refine J.getr (κ' := 4) (κ := 2) (k := 4) hx rfl rfl rfl rfl in_X5 (by decide) (Or.inl q280) a0.1 dX5_last_29 fun v17 h18 => ?_
    refine J.aload_n hx dX5_last_32 rfl 1 rfl ?_
    refine J.getc (κ' := 27) (i' := i0) (κ := 2) (k := 1) hx rfl rfl rfl rfl rfl in_X5 (by decide) (Or.inl q275) a0.2 dX5_last_33 fun h19 => ?_
    refine J.iload_n hx dX5_last_36 rfl 2 rfl ?_
    refine J.aald (κ' := 3) (κ := 27) hx rfl rfl (by decide) rfl rfl h19.1 dX5_last_37 fun v21 h22 => ?_
    refine J.obU fun y23 e24 => ?_
    subst e24
    refine J.geti (κ := 3) (k := 0) hx rfl rfl rfl in_X6 (by decide) (Or.inr ⟨_, j_nl q237 rfl⟩) (h22 y23 rfl).1 dX5_last_38 fun v25 => ?_
    refine J.aload_n hx dX5_last_41 rfl 0 rfl ?_
    refine J.geti (κ := 3) (k := 0) hx rfl rfl rfl in_X6 (by decide) (Or.inr ⟨_, j_nl q237 rfl⟩) (h9 y10 rfl).1 dX5_last_42 fun v26 => ?_
    refine J.obU fun y27 e28 => ?_
    subst e28
    refine J.calli hx (fun r z1 z => j_callV (κ := 4) hx rfl rfl (h18 y27 rfl).1 (mt_X7_lowest (h18 y27 rfl) z) (lw_V q1259 q1260 q1261 q127 q1262) hd_X7_lowest rfl ⟨Nat.le_of_ble_eq_true rfl, Nat.le_of_ble_eq_true rfl⟩ (Nat.le_of_ble_eq_true rfl) dX5_last_45) ⟨⟨rfl, rfl⟩, (Nat.le_of_ble_eq_true rfl), (Nat.le_of_ble_eq_true rfl)⟩ fun v29 w30 e31 => ?_
    refine J.iconst (v := 1) hx dX5_last_48 (by decide) ?_
    refine J.isub hx dX5_last_49 ?_
    exact J.iret hx rfl (Nat.le_of_ble_eq_true rfl) (Nat.le_of_ble_eq_true rfl) dX5_last_50
theorem hd_X5_area : yX5_area.cls = RX5 ∧ yX5_area.cls ≠ "java/lang/invoke/MethodHandle" ∧ yX5_area.cls ≠ "java/lang/invoke/VarHandle" ∧ (parseMethodDescriptor yX5_area.desc).map (fun d => d.parameters.length) = some 1 := by decide +kernel
def f_X5_area_L8 (i0 : Nat) (p1 : Int32)  : Nat → Int32 → Int32 → j_St → Option (Int32 × j_St)
  | 0, _, _, _ => none
  | n8 + 1, v4, v5, w6 => jcb (f_X5_last i0 p1 w6) fun v7 w8 => if v7 < v5 then some (v4, w8) else jlt (jgr w8 2 i0 4) fun v10 => job v10 fun y12 => jbd v5 48 fun a15 => jlt (jgi w8 32 y12 a15) fun v16 => jbd p1 48 fun a18 => jlt (jgr w8 27 i0 a18) fun v19 => job v19 fun y21 => jlt (jgi w8 3 y21 3) fun v23 => jlt (v4 + (jmax 0 (v16 - v23))) fun v24 => jlt (v5 + 1) fun v25 => f_X5_area_L8 i0 p1 n8 v24 v25 w8
def f_X5_area (i0 : Nat) (p1 : Int32) (w : j_St) : Option (Int32 × j_St) := jcb (f_X5_first i0 p1 w) fun v1 w2 => f_X5_area_L8 i0 p1 jFU 0 v1 w2
abbrev rm_X5_area : Room := { frames := 3, cells := 0, slots := 0, locals := 68 }
set_option maxRecDepth 100000 in
set_option maxHeartbeats 4000000 in
theorem mt_X5_area {g : j_G} {B : j_B} {i0 : Nat} {p1 : Int32} {w w' : j_St} (a0 : B.2.1 2 i0 ∧ B.2.2 2 i0) {r : Int32} (h : f_X5_area i0 p1 w = some (r, w')) : j_M g yX5_area cX5_area 4 (some FieldType.int) rm_X5_area B [.ref (B.1 2 i0), .int p1] w w' (jri r) := by
  refine j_met (rv := jri) (by decide) (Nat.le_of_ble_eq_true rfl) (fun x hx => ?_) h
  unfold f_X5_area
  refine J.sub (lv' := [(0, .ref (B.1 2 i0)), (1, .int p1)]) [0, 1] rfl ?_
  refine J.iconst (v := 0) hx dX5_area_0 (by decide) ?_
  refine J.istore_n (lv' := [(2, .int 0), (0, .ref (B.1 2 i0)), (1, .int p1)]) hx dX5_area_1 rfl (by decide) rfl ?_
  refine J.aload_n hx dX5_area_2 rfl 1 rfl ?_
  refine J.iload_n hx dX5_area_3 rfl 2 rfl ?_
  refine J.calli hx (fun r z1 z => j_callV (κ := 2) hx rfl rfl a0.1 (mt_X5_first a0 z) (lw_V q1271 q1248 q1249 q125 q1250) hd_X5_first rfl ⟨Nat.le_of_ble_eq_true rfl, Nat.le_of_ble_eq_true rfl⟩ (Nat.le_of_ble_eq_true rfl) dX5_area_4) ⟨⟨rfl, rfl⟩, (Nat.le_of_ble_eq_true rfl), (Nat.le_of_ble_eq_true rfl)⟩ fun v1 w2 e3 => ?_
  refine J.istore_n (lv' := [(3, .int v1), (2, .int 0), (0, .ref (B.1 2 i0)), (1, .int p1)]) hx dX5_area_7 rfl (by decide) rfl ?_
  have hL8 : ∀ (n8 : Nat) (v4 : Int32) (v5 : Int32) (w6 : j_St), J g x 4 B (j_Q g x B rm_X5_area jri) 0 0 (f_X5_area_L8 i0 p1 n8 v4 v5 w6) 8 [(0, .ref (B.1 2 i0)), (1, .int p1), (2, .int v4), (3, .int v5)] [] w6 := by
    intro n8
    induction n8 with
    | zero =>
      intro v4 v5 w6
      rw [f_X5_area_L8]
      exact J.nne
    | succ n8 ih =>
      intro v4 v5 w6
      rw [f_X5_area_L8]
      refine J.iload_n hx dX5_area_8 rfl 3 rfl ?_
      refine J.aload_n hx dX5_area_9 rfl 0 rfl ?_
      refine J.iload_n hx dX5_area_10 rfl 1 rfl ?_
      refine J.calli hx (fun r z1 z => j_callV (κ := 2) hx rfl rfl a0.1 (mt_X5_last a0 z) (lw_V q1272 q1264 q1265 q125 q1266) hd_X5_last rfl ⟨Nat.le_of_ble_eq_true rfl, Nat.le_of_ble_eq_true rfl⟩ (Nat.le_of_ble_eq_true rfl) dX5_area_11) ⟨⟨rfl, rfl⟩, (Nat.le_of_ble_eq_true rfl), (Nat.le_of_ble_eq_true rfl)⟩ fun v7 w8 e9 => ?_
      refine J.icmp_gt (tgt := 49) hx dX5_area_14 (by decide) ?_ ?_
      · refine J.iload_n hx dX5_area_49 rfl 2 rfl ?_
        exact J.iret hx rfl (Nat.le_of_ble_eq_true rfl) (Nat.le_of_ble_eq_true rfl) dX5_area_50
      · refine J.iload_n hx dX5_area_17 rfl 2 rfl ?_
        refine J.iconst (v := 0) hx dX5_area_18 (by decide) ?_
        refine J.aload_n hx dX5_area_19 rfl 0 rfl ?_
        refine J.getr (κ' := 4) (κ := 2) (k := 4) hx rfl rfl rfl rfl in_X5 (by decide) (Or.inl q280) a0.1 dX5_area_20 fun v10 h11 => ?_
        refine J.obU fun y12 e13 => ?_
        subst e13
        refine J.getc (κ' := 32) (i' := y12) (κ := 4) (k := 0) hx rfl rfl rfl rfl rfl in_X7 (by decide) (Or.inr ⟨_, j_nl q317 rfl⟩) (h11 y12 rfl).2 dX5_area_23 fun h14 => ?_
        refine J.iload_n hx dX5_area_26 rfl 3 rfl ?_
        refine J.iald (κ := 32) hx rfl rfl h14.1 dX5_area_27 fun v16 => ?_
        refine J.aload_n hx dX5_area_28 rfl 0 rfl ?_
        refine J.getc (κ' := 27) (i' := i0) (κ := 2) (k := 1) hx rfl rfl rfl rfl rfl in_X5 (by decide) (Or.inl q275) a0.2 dX5_area_29 fun h17 => ?_
        refine J.iload_n hx dX5_area_32 rfl 1 rfl ?_
        refine J.aald (κ' := 3) (κ := 27) hx rfl rfl (by decide) rfl rfl h17.1 dX5_area_33 fun v19 h20 => ?_
        refine J.obU fun y21 e22 => ?_
        subst e22
        refine J.geti (κ := 3) (k := 3) hx rfl rfl rfl in_X6 (by decide) (Or.inr ⟨_, j_nl q246 rfl⟩) (h20 y21 rfl).1 dX5_area_34 fun v23 => ?_
        refine J.isub hx dX5_area_37 ?_
        refine J.mmax hx q1273 q195 q123 q196 ⟨Nat.le_of_ble_eq_true rfl, Nat.le_of_ble_eq_true rfl⟩ (Nat.le_of_ble_eq_true rfl) (Nat.le_of_ble_eq_true rfl) (Nat.le_of_ble_eq_true rfl) dX5_area_38 ?_
        refine J.iadd hx dX5_area_41 ?_
        refine J.nmi fun v24 => ?_
        refine J.istore_n (lv' := [(2, .int v24), (0, .ref (B.1 2 i0)), (1, .int p1), (3, .int v5)]) hx dX5_area_42 rfl (by decide) rfl ?_
        refine J.nmx fun v25 ev25 => ?_
        refine J.iinc (p := 3) (v := v25) (lv' := [(3, .int v25), (2, .int v24), (0, .ref (B.1 2 i0)), (1, .int p1)]) hx dX5_area_43 rfl (by rw [ev25]; rfl) (by decide) rfl ?_
        refine J.goto (tgt := 8) hx dX5_area_46 (by decide) ?_
        exact J.sub [2, 3, 1, 0] rfl (ih v24 v25 w8)
  refine J.sub [2, 3, 1, 0] rfl (hL8 jFU 0 v1 w2)
theorem hd_X5_width : yX5_width.cls = RX5 ∧ yX5_width.cls ≠ "java/lang/invoke/MethodHandle" ∧ yX5_width.cls ≠ "java/lang/invoke/VarHandle" ∧ (parseMethodDescriptor yX5_width.desc).map (fun d => d.parameters.length) = some 1 := by decide +kernel
def f_X5_width (i0 : Nat) (p1 : Int32) (w : j_St) : Option (Int32 × j_St) := jlt (jgr w 2 i0 4) fun v1 => jbd p1 48 fun a4 => jlt (jgr w 27 i0 a4) fun v5 => job v5 fun y7 => jlt (jgi w 3 y7 0) fun v9 => jbd p1 48 fun a11 => jlt (jgr w 27 i0 a11) fun v12 => job v12 fun y14 => jlt (jgi w 3 y14 1) fun v16 => jbd p1 48 fun a18 => jlt (jgr w 27 i0 a18) fun v19 => job v19 fun y21 => jcb (f_X6_persistence y21 w) fun v23 w24 => job v1 fun y26 => jcb (f_X3_run_k4 y26 v9 (v16 - (v23 / 2)) w24) fun v28 w29 => some (v28, w29)
abbrev rm_X5_width : Room := { frames := 2, cells := 0, slots := 0, locals := 45 }
set_option maxRecDepth 100000 in
set_option maxHeartbeats 4000000 in
theorem mt_X5_width {g : j_G} {B : j_B} {i0 : Nat} {p1 : Int32} {w w' : j_St} (a0 : B.2.1 2 i0 ∧ B.2.2 2 i0) {r : Int32} (h : f_X5_width i0 p1 w = some (r, w')) : j_M g yX5_width cX5_width 2 (some FieldType.int) rm_X5_width B [.ref (B.1 2 i0), .int p1] w w' (jri r) := by
  refine j_met (rv := jri) (by decide) (Nat.le_of_ble_eq_true rfl) (fun x hx => ?_) h
  unfold f_X5_width
  refine J.sub (lv' := [(0, .ref (B.1 2 i0)), (1, .int p1)]) [0, 1] rfl ?_
  refine J.aload_n hx dX5_width_0 rfl 0 rfl ?_
  refine J.getr (κ' := 4) (κ := 2) (k := 4) hx rfl rfl rfl rfl in_X5 (by decide) (Or.inl q280) a0.1 dX5_width_1 fun v1 h2 => ?_
  refine J.aload_n hx dX5_width_4 rfl 0 rfl ?_
  refine J.getc (κ' := 27) (i' := i0) (κ := 2) (k := 1) hx rfl rfl rfl rfl rfl in_X5 (by decide) (Or.inl q275) a0.2 dX5_width_5 fun h3 => ?_
  refine J.iload_n hx dX5_width_8 rfl 1 rfl ?_
  refine J.aald (κ' := 3) (κ := 27) hx rfl rfl (by decide) rfl rfl h3.1 dX5_width_9 fun v5 h6 => ?_
  refine J.obU fun y7 e8 => ?_
  subst e8
  refine J.geti (κ := 3) (k := 0) hx rfl rfl rfl in_X6 (by decide) (Or.inr ⟨_, j_nl q237 rfl⟩) (h6 y7 rfl).1 dX5_width_10 fun v9 => ?_
  refine J.aload_n hx dX5_width_13 rfl 0 rfl ?_
  refine J.getc (κ' := 27) (i' := i0) (κ := 2) (k := 1) hx rfl rfl rfl rfl rfl in_X5 (by decide) (Or.inl q275) a0.2 dX5_width_14 fun h10 => ?_
  refine J.iload_n hx dX5_width_17 rfl 1 rfl ?_
  refine J.aald (κ' := 3) (κ := 27) hx rfl rfl (by decide) rfl rfl h10.1 dX5_width_18 fun v12 h13 => ?_
  refine J.obU fun y14 e15 => ?_
  subst e15
  refine J.geti (κ := 3) (k := 1) hx rfl rfl rfl in_X6 (by decide) (Or.inr ⟨_, j_nl q241 rfl⟩) (h13 y14 rfl).1 dX5_width_19 fun v16 => ?_
  refine J.aload_n hx dX5_width_22 rfl 0 rfl ?_
  refine J.getc (κ' := 27) (i' := i0) (κ := 2) (k := 1) hx rfl rfl rfl rfl rfl in_X5 (by decide) (Or.inl q275) a0.2 dX5_width_23 fun h17 => ?_
  refine J.iload_n hx dX5_width_26 rfl 1 rfl ?_
  refine J.aald (κ' := 3) (κ := 27) hx rfl rfl (by decide) rfl rfl h17.1 dX5_width_27 fun v19 h20 => ?_
  refine J.obU fun y21 e22 => ?_
  subst e22
  refine J.calli hx (fun r z1 z => j_callV (κ := 3) hx rfl rfl (h20 y21 rfl).1 (mt_X6_persistence (h20 y21 rfl) z) (lw_V q1045 q1046 q1047 q126 q1048) hd_X6_persistence rfl ⟨Nat.le_of_ble_eq_true rfl, Nat.le_of_ble_eq_true rfl⟩ (by simp [va_re_cat, jct_i, jct_l, jct_r, jct_n]) dX5_width_28) ⟨⟨rfl, rfl⟩, (Nat.le_of_ble_eq_true rfl), (Nat.le_of_ble_eq_true rfl)⟩ fun v23 w24 e25 => ?_
  refine J.iconst (v := 2) hx dX5_width_31 (by decide) ?_
  refine J.idiv0 hx dX5_width_32 (by decide) ?_
  refine J.isub hx dX5_width_33 ?_
  refine J.obU fun y26 e27 => ?_
  subst e27
  refine J.calli hx (fun r z1 z => j_callD (κ := 4) (nm := "run") (ds := "(II)I") hx rfl rfl (h2 y26 rfl).1 (mt_X3_run_k4 (h2 y26 rfl) z) (lw_meth q1282) (List.mem_of_getElem? (i := 8) rfl) (List.mem_of_getElem? (i := 9) rfl) (List.mem_of_getElem? (i := 3) rfl) q1280 q122 hd_X3_run.2.2.2 rfl ⟨Nat.le_of_ble_eq_true rfl, Nat.le_of_ble_eq_true rfl⟩ (Nat.le_of_ble_eq_true rfl) dX5_width_34) ⟨⟨rfl, rfl⟩, (Nat.le_of_ble_eq_true rfl), (Nat.le_of_ble_eq_true rfl)⟩ fun v28 w29 e30 => ?_
  exact J.iret hx rfl (Nat.le_of_ble_eq_true rfl) (Nat.le_of_ble_eq_true rfl) dX5_width_37
theorem hd_X5_nearest : yX5_nearest.cls = RX5 ∧ yX5_nearest.cls ≠ "java/lang/invoke/MethodHandle" ∧ yX5_nearest.cls ≠ "java/lang/invoke/VarHandle" ∧ (parseMethodDescriptor yX5_nearest.desc).map (fun d => d.parameters.length) = some 2 := by decide +kernel
def f_X5_nearest_L5 (i0 : Nat) (i1 : Nat) (p2 : Int32)  : Nat → Int32 → Int32 → j_St → Option (Int32 × j_St)
  | 0, _, _, _ => none
  | n5 + 1, v1, v2, w3 => jlt (jgi w3 6 i1 3) fun v4 => if v4 ≤ v2 then some (v1, w3) else jbd v2 8 fun a6 => jlt (jgi w3 35 i1 a6) fun v7 => jlt (jabs (v7 - p2)) fun v8 => jbd v2 8 fun a10 => jlt (jgi w3 30 i0 a10) fun v11 => jlt (fun (v17 : Int32) (w18 : j_St) => jlt (v2 + 1) fun v19 => f_X5_nearest_L5 i0 i1 p2 n5 v17 v19 w18) fun K75 => if v11 = (-1) then jlt (jgi w3 6 i1 5) fun v12 => if v8 ≤ v12 then jlt (fun (w16 : j_St) => K75 v2 w16) fun K72 => if v1 = (-1) then K72 w3 else jbd v1 8 fun a14 => jlt (jgi w3 35 i1 a14) fun v15 => if jabs (v15 - p2) ≤ v8 then K75 v1 w3 else K72 w3 else K75 v1 w3 else K75 v1 w3
def f_X5_nearest (i0 : Nat) (i1 : Nat) (p2 : Int32) (w : j_St) : Option (Int32 × j_St) := f_X5_nearest_L5 i0 i1 p2 jFU (-1) 0 w
abbrev rm_X5_nearest : Room := { frames := 1, cells := 0, slots := 0, locals := 21 }
set_option maxRecDepth 100000 in
set_option maxHeartbeats 4000000 in
theorem mt_X5_nearest {g : j_G} {B : j_B} {i0 : Nat} {i1 : Nat} {p2 : Int32} {w w' : j_St} (a0 : B.2.1 2 i0 ∧ B.2.2 2 i0) (b1 : B.2.1 6 i1 ∧ B.2.2 6 i1) {r : Int32} (h : f_X5_nearest i0 i1 p2 w = some (r, w')) : j_M g yX5_nearest cX5_nearest 6 (some FieldType.int) rm_X5_nearest B [.ref (B.1 2 i0), .ref (B.1 6 i1), .int p2] w w' (jri r) := by
  refine j_met (rv := jri) (by decide) (Nat.le_of_ble_eq_true rfl) (fun x hx => ?_) h
  unfold f_X5_nearest
  refine J.sub (lv' := [(0, .ref (B.1 2 i0)), (1, .ref (B.1 6 i1)), (2, .int p2)]) [0, 1, 2] rfl ?_
  refine J.iconst (v := (-1)) hx dX5_nearest_0 (by decide) ?_
  refine J.istore_n (lv' := [(3, .int (-1)), (0, .ref (B.1 2 i0)), (1, .ref (B.1 6 i1)), (2, .int p2)]) hx dX5_nearest_1 rfl (by decide) rfl ?_
  refine J.iconst (v := 0) hx dX5_nearest_2 (by decide) ?_
  refine J.istore (lv' := [(4, .int 0), (3, .int (-1)), (0, .ref (B.1 2 i0)), (1, .ref (B.1 6 i1)), (2, .int p2)]) hx dX5_nearest_3 (by decide) rfl ?_
  have hL5 : ∀ (n5 : Nat) (v1 : Int32) (v2 : Int32) (w3 : j_St), J g x 6 B (j_Q g x B rm_X5_nearest jri) 0 0 (f_X5_nearest_L5 i0 i1 p2 n5 v1 v2 w3) 5 [(0, .ref (B.1 2 i0)), (1, .ref (B.1 6 i1)), (2, .int p2), (3, .int v1), (4, .int v2)] [] w3 := by
    intro n5
    induction n5 with
    | zero =>
      intro v1 v2 w3
      rw [f_X5_nearest_L5]
      exact J.nne
    | succ n5 ih =>
      intro v1 v2 w3
      rw [f_X5_nearest_L5]
      refine J.iload hx dX5_nearest_5 4 rfl ?_
      refine J.aload_n hx dX5_nearest_7 rfl 1 rfl ?_
      refine J.geti (κ := 6) (k := 3) hx rfl rfl rfl in_X11 (by decide) (Or.inr ⟨_, j_nl q483 rfl⟩) b1.1 dX5_nearest_8 fun v4 => ?_
      refine J.icmp_ge (tgt := 81) hx dX5_nearest_11 (by decide) ?_ ?_
      · refine J.iload_n hx dX5_nearest_81 rfl 3 rfl ?_
        exact J.iret hx rfl (Nat.le_of_ble_eq_true rfl) (Nat.le_of_ble_eq_true rfl) dX5_nearest_82
      · refine J.aload_n hx dX5_nearest_14 rfl 1 rfl ?_
        refine J.getc (κ' := 35) (i' := i1) (κ := 6) (k := 2) hx rfl rfl rfl rfl rfl in_X11 (by decide) (Or.inr ⟨_, j_nl q479 rfl⟩) b1.2 dX5_nearest_15 fun h5 => ?_
        refine J.iload hx dX5_nearest_18 4 rfl ?_
        refine J.iald (κ := 35) hx rfl rfl h5.1 dX5_nearest_20 fun v7 => ?_
        refine J.iload_n hx dX5_nearest_21 rfl 2 rfl ?_
        refine J.isub hx dX5_nearest_22 ?_
        refine J.mabs hx q1301 q1302 q123 q1303 ⟨Nat.le_of_ble_eq_true rfl, Nat.le_of_ble_eq_true rfl⟩ (Nat.le_of_ble_eq_true rfl) (Nat.le_of_ble_eq_true rfl) (Nat.le_of_ble_eq_true rfl) dX5_nearest_23 ?_
        refine J.nmi fun v8 => ?_
        refine J.istore (lv' := [(5, .int v8), (0, .ref (B.1 2 i0)), (1, .ref (B.1 6 i1)), (2, .int p2), (3, .int v1), (4, .int v2)]) hx dX5_nearest_26 (by decide) rfl ?_
        refine J.aload_n hx dX5_nearest_28 rfl 1 rfl ?_
        refine J.getc (κ' := 30) (i' := i0) (κ := 2) (k := 7) hx rfl rfl rfl rfl rfl in_X5 (by decide) (Or.inl q287) a0.2 dX5_nearest_29 fun h9 => ?_
        refine J.iload hx dX5_nearest_32 5 rfl ?_
        refine J.iald (κ := 30) hx rfl rfl h9.1 dX5_nearest_34 fun v11 => ?_
        refine J.iconst (v := (-1)) hx dX5_nearest_35 (by decide) ?_
        refine J.fn (fun (K75 : Int32 → j_St → Option (Int32 × j_St)) => ∀ (v17 : Int32) (w18 : j_St), J g x 6 B (j_Q g x B rm_X5_nearest jri) 0 0 (K75 v17 w18) 75 [(0, .ref (B.1 2 i0)), (1, .ref (B.1 6 i1)), (2, .int p2), (3, .int v17), (4, .int v2)] [] w18) ?_ ?_
        · intro v17 w18
          refine J.nmx fun v19 ev19 => ?_
          refine J.iinc (p := 4) (v := v19) (lv' := [(4, .int v19), (0, .ref (B.1 2 i0)), (1, .ref (B.1 6 i1)), (2, .int p2), (3, .int v17)]) hx dX5_nearest_75 rfl (by rw [ev19]; rfl) (by decide) rfl ?_
          refine J.goto (tgt := 5) hx dX5_nearest_78 (by decide) ?_
          exact J.sub [1, 2, 3, 4, 0] rfl (ih v17 v19 w18)
        · intro K75 hK75
          refine J.icmp_ne (tgt := 75) hx dX5_nearest_36 (by decide) ?_ ?_
          · refine J.iload hx dX5_nearest_39 0 rfl ?_
            refine J.aload_n hx dX5_nearest_41 rfl 2 rfl ?_
            refine J.geti (κ := 6) (k := 5) hx rfl rfl rfl in_X11 (by decide) (Or.inr ⟨_, j_nl q489 rfl⟩) b1.1 dX5_nearest_42 fun v12 => ?_
            refine J.icmp_le (tgt := 51) hx dX5_nearest_45 (by decide) ?_ ?_
            · refine J.iload_n hx dX5_nearest_51 rfl 4 rfl ?_
              refine J.iconst (v := (-1)) hx dX5_nearest_52 (by decide) ?_
              refine J.fn (fun (K72 : j_St → Option (Int32 × j_St)) => ∀  (w16 : j_St), J g x 6 B (j_Q g x B rm_X5_nearest jri) 0 0 (K72 w16) 72 [(0, .ref (B.1 2 i0)), (1, .ref (B.1 6 i1)), (2, .int p2), (4, .int v2)] [] w16) ?_ ?_
              · intro w16
                refine J.iload hx dX5_nearest_72 3 rfl ?_
                refine J.istore_n (lv' := [(3, .int v2), (0, .ref (B.1 2 i0)), (1, .ref (B.1 6 i1)), (2, .int p2), (4, .int v2)]) hx dX5_nearest_74 rfl (by decide) rfl ?_
                exact J.sub [1, 2, 3, 0, 4] rfl (hK75 v2 w16)
              · intro K72 hK72
                refine J.icmp_eq (tgt := 72) hx dX5_nearest_53 (by decide) ?_ ?_
                · exact J.sub [1, 2, 3, 5] rfl (hK72 w3)
                · refine J.iload hx dX5_nearest_56 0 rfl ?_
                  refine J.aload_n hx dX5_nearest_58 rfl 2 rfl ?_
                  refine J.getc (κ' := 35) (i' := i1) (κ := 6) (k := 2) hx rfl rfl rfl rfl rfl in_X11 (by decide) (Or.inr ⟨_, j_nl q479 rfl⟩) b1.2 dX5_nearest_59 fun h13 => ?_
                  refine J.iload_n hx dX5_nearest_62 rfl 4 rfl ?_
                  refine J.iald (κ := 35) hx rfl rfl h13.1 dX5_nearest_63 fun v15 => ?_
                  refine J.iload_n hx dX5_nearest_64 rfl 3 rfl ?_
                  refine J.isub hx dX5_nearest_65 ?_
                  refine J.mabs hx q1301 q1302 q123 q1303 ⟨Nat.le_of_ble_eq_true rfl, Nat.le_of_ble_eq_true rfl⟩ (Nat.le_of_ble_eq_true rfl) (Nat.le_of_ble_eq_true rfl) (Nat.le_of_ble_eq_true rfl) dX5_nearest_66 ?_
                  refine J.icmp_ge (tgt := 75) hx dX5_nearest_69 (by decide) ?_ ?_
                  · exact J.sub [1, 2, 3, 4, 5] rfl (hK75 v1 w3)
                  · exact J.sub [1, 2, 3, 5] rfl (hK72 w3)
            · refine J.goto (tgt := 75) hx dX5_nearest_48 (by decide) ?_
              exact J.sub [1, 2, 3, 4, 5] rfl (hK75 v1 w3)
          · exact J.sub [1, 2, 3, 4, 5] rfl (hK75 v1 w3)
  refine J.sub [2, 3, 4, 1, 0] rfl (hL5 jFU (-1) 0 w)
theorem hd_X5_matches : yX5_matches.cls = RX5 ∧ yX5_matches.cls ≠ "java/lang/invoke/MethodHandle" ∧ yX5_matches.cls ≠ "java/lang/invoke/VarHandle" ∧ (parseMethodDescriptor yX5_matches.desc).map (fun d => d.parameters.length) = some 2 := by decide +kernel
def f_X5_matches_L5 (i0 : Nat) (i1 : Nat) (k28 : j_St → Option (Int32 × j_St)) : Nat → Int32 → j_St → Option (Int32 × j_St)
  | 0, _, _ => none
  | n5 + 1, v1, w2 => jlt (jgi w2 6 i1 3) fun v3 => if v3 ≤ v1 then k28 w2 else jbd v1 8 fun a6 => jlt (jsi w2 30 i0 a6 (-1)) fun w5 => jlt (v1 + 1) fun v7 => f_X5_matches_L5 i0 i1 k28 n5 v7 w5
def f_X5_matches_L31 (i0 : Nat) (i1 : Nat) (p2 : Int32)  : Nat → Int32 → Int32 → j_St → Option (Int32 × j_St)
  | 0, _, _, _ => none
  | n31 + 1, v9, v10, w11 => jlt (jgi w11 2 i0 5) fun v12 => if v12 ≤ v10 then some (v9, w11) else jbd v10 48 fun a15 => jlt (jgr w11 27 i0 a15) fun v16 => job v16 fun y18 => jlt (jgi w11 3 y18 6) fun v20 => jlt (fun (v31 : Int32) (w32 : j_St) => jbd v10 48 fun a34 => jlt (jsi w32 31 i0 a34 v31) fun w33 => jbd v10 48 fun a36 => jlt (jgi w33 31 i0 a36) fun v37 => jlt (fun (v45 : Int32) (w46 : j_St) => jlt (v10 + 1) fun v47 => f_X5_matches_L31 i0 i1 p2 n31 v45 v47 w46) fun K112 => if v37 = (-1) then K112 v9 w33 else jbd v10 48 fun a40 => jlt (jgi w33 31 i0 a40) fun v41 => jbd v41 8 fun a43 => jlt (jsi w33 30 i0 a43 v10) fun w42 => jlt (v9 + 1) fun v44 => K112 v44 w42) fun K80 => if v20 = 0 then K80 (-1) w11 else jbd v10 48 fun a22 => jlt (jgr w11 27 i0 a22) fun v23 => job v23 fun y25 => jlt (jgi w11 3 y25 0) fun v27 => jcb (f_X5_nearest i0 i1 (v27 + p2) w11) fun v28 w29 => K80 v28 w29
def f_X5_matches (i0 : Nat) (i1 : Nat) (p2 : Int32) (w : j_St) : Option (Int32 × j_St) := f_X5_matches_L5 i0 i1 (fun (w8 : j_St) => f_X5_matches_L31 i0 i1 p2 jFU 0 0 w8) jFU 0 w
abbrev rm_X5_matches : Room := { frames := 2, cells := 0, slots := 0, locals := 46 }
set_option maxRecDepth 100000 in
set_option maxHeartbeats 4000000 in
theorem mt_X5_matches {g : j_G} {B : j_B} {i0 : Nat} {i1 : Nat} {p2 : Int32} {w w' : j_St} (a0 : B.2.1 2 i0 ∧ B.2.2 2 i0) (b1 : B.2.1 6 i1 ∧ B.2.2 6 i1) {r : Int32} (h : f_X5_matches i0 i1 p2 w = some (r, w')) : j_M g yX5_matches cX5_matches 5 (some FieldType.int) rm_X5_matches B [.ref (B.1 2 i0), .ref (B.1 6 i1), .int p2] w w' (jri r) := by
  refine j_met (rv := jri) (by decide) (Nat.le_of_ble_eq_true rfl) (fun x hx => ?_) h
  unfold f_X5_matches
  refine J.sub (lv' := [(0, .ref (B.1 2 i0)), (1, .ref (B.1 6 i1)), (2, .int p2)]) [0, 1, 2] rfl ?_
  refine J.iconst (v := 0) hx dX5_matches_0 (by decide) ?_
  refine J.istore_n (lv' := [(3, .int 0), (0, .ref (B.1 2 i0)), (1, .ref (B.1 6 i1)), (2, .int p2)]) hx dX5_matches_1 rfl (by decide) rfl ?_
  refine J.iconst (v := 0) hx dX5_matches_2 (by decide) ?_
  refine J.istore (lv' := [(4, .int 0), (3, .int 0), (0, .ref (B.1 2 i0)), (1, .ref (B.1 6 i1)), (2, .int p2)]) hx dX5_matches_3 (by decide) rfl ?_
  have hL5 : ∀ (k28 : j_St → Option (Int32 × j_St)) (hk28 : ∀  (w8 : j_St), J g x 5 B (j_Q g x B rm_X5_matches jri) 0 0 (k28 w8) 28 [(0, .ref (B.1 2 i0)), (1, .ref (B.1 6 i1)), (2, .int p2), (3, .int 0)] [] w8) (n5 : Nat) (v1 : Int32) (w2 : j_St), J g x 5 B (j_Q g x B rm_X5_matches jri) 0 0 (f_X5_matches_L5 i0 i1 k28 n5 v1 w2) 5 [(0, .ref (B.1 2 i0)), (1, .ref (B.1 6 i1)), (2, .int p2), (3, .int 0), (4, .int v1)] [] w2 := by
    intro k28 hk28 n5
    induction n5 with
    | zero =>
      intro v1 w2
      rw [f_X5_matches_L5]
      exact J.nne
    | succ n5 ih =>
      intro v1 w2
      rw [f_X5_matches_L5]
      refine J.iload hx dX5_matches_5 4 rfl ?_
      refine J.aload_n hx dX5_matches_7 rfl 1 rfl ?_
      refine J.geti (κ := 6) (k := 3) hx rfl rfl rfl in_X11 (by decide) (Or.inr ⟨_, j_nl q483 rfl⟩) b1.1 dX5_matches_8 fun v3 => ?_
      refine J.icmp_ge (tgt := 28) hx dX5_matches_11 (by decide) ?_ ?_
      · exact J.sub [0, 1, 2, 3] rfl (hk28 w2)
      · refine J.aload_n hx dX5_matches_14 rfl 0 rfl ?_
        refine J.getc (κ' := 30) (i' := i0) (κ := 2) (k := 7) hx rfl rfl rfl rfl rfl in_X5 (by decide) (Or.inl q287) a0.2 dX5_matches_15 fun h4 => ?_
        refine J.iload hx dX5_matches_18 4 rfl ?_
        refine J.iconst (v := (-1)) hx dX5_matches_20 (by decide) ?_
        refine J.iast (κ := 30) hx rfl rfl rfl h4.1 dX5_matches_21 fun w5 => ?_
        refine J.nmx fun v7 ev7 => ?_
        refine J.iinc (p := 4) (v := v7) (lv' := [(4, .int v7), (0, .ref (B.1 2 i0)), (1, .ref (B.1 6 i1)), (2, .int p2), (3, .int 0)]) hx dX5_matches_22 rfl (by rw [ev7]; rfl) (by decide) rfl ?_
        refine J.goto (tgt := 5) hx dX5_matches_25 (by decide) ?_
        exact J.sub [1, 2, 3, 4, 0] rfl (ih v7 w5)
  refine J.sub [2, 3, 4, 1, 0] rfl (hL5 _ ?_ jFU 0 w)
  · intro w8
    refine J.iconst (v := 0) hx dX5_matches_28 (by decide) ?_
    refine J.istore (lv' := [(4, .int 0), (0, .ref (B.1 2 i0)), (1, .ref (B.1 6 i1)), (2, .int p2), (3, .int 0)]) hx dX5_matches_29 (by decide) rfl ?_
    have hL31 : ∀ (n31 : Nat) (v9 : Int32) (v10 : Int32) (w11 : j_St), J g x 5 B (j_Q g x B rm_X5_matches jri) 0 0 (f_X5_matches_L31 i0 i1 p2 n31 v9 v10 w11) 31 [(0, .ref (B.1 2 i0)), (1, .ref (B.1 6 i1)), (2, .int p2), (3, .int v9), (4, .int v10)] [] w11 := by
      intro n31
      induction n31 with
      | zero =>
        intro v9 v10 w11
        rw [f_X5_matches_L31]
        exact J.nne
      | succ n31 ih =>
        intro v9 v10 w11
        rw [f_X5_matches_L31]
        refine J.iload hx dX5_matches_31 4 rfl ?_
        refine J.aload_n hx dX5_matches_33 rfl 0 rfl ?_
        refine J.geti (κ := 2) (k := 5) hx rfl rfl rfl in_X5 (by decide) (Or.inl q281) a0.1 dX5_matches_34 fun v12 => ?_
        refine J.icmp_ge (tgt := 118) hx dX5_matches_37 (by decide) ?_ ?_
        · refine J.iload_n hx dX5_matches_118 rfl 3 rfl ?_
          exact J.iret hx rfl (Nat.le_of_ble_eq_true rfl) (Nat.le_of_ble_eq_true rfl) dX5_matches_119
        · refine J.aload_n hx dX5_matches_40 rfl 0 rfl ?_
          refine J.getc (κ' := 31) (i' := i0) (κ := 2) (k := 8) hx rfl rfl rfl rfl rfl in_X5 (by decide) (Or.inl q289) a0.2 dX5_matches_41 fun h13 => ?_
          refine J.iload hx dX5_matches_44 4 rfl ?_
          refine J.aload_n hx dX5_matches_46 rfl 0 rfl ?_
          refine J.getc (κ' := 27) (i' := i0) (κ := 2) (k := 1) hx rfl rfl rfl rfl rfl in_X5 (by decide) (Or.inl q275) a0.2 dX5_matches_47 fun h14 => ?_
          refine J.iload hx dX5_matches_50 4 rfl ?_
          refine J.aald (κ' := 3) (κ := 27) hx rfl rfl (by decide) rfl rfl h14.1 dX5_matches_52 fun v16 h17 => ?_
          refine J.obU fun y18 e19 => ?_
          subst e19
          refine J.geti (κ := 3) (k := 6) hx rfl rfl rfl in_X6 (by decide) (Or.inr ⟨_, j_nl q254 rfl⟩) (h17 y18 rfl).1 dX5_matches_53 fun v20 => ?_
          refine J.fn (fun (K80 : Int32 → j_St → Option (Int32 × j_St)) => ∀ (v31 : Int32) (w32 : j_St), J g x 5 B (j_Q g x B rm_X5_matches jri) 0 0 (K80 v31 w32) 80 [(0, .ref (B.1 2 i0)), (1, .ref (B.1 6 i1)), (2, .int p2), (3, .int v9), (4, .int v10)] [.int v31, .int v10, .ref (B.1 31 i0)] w32) ?_ ?_
          · intro v31 w32
            refine J.iast (κ := 31) hx rfl rfl rfl h13.1 dX5_matches_80 fun w33 => ?_
            refine J.aload_n hx dX5_matches_81 rfl 0 rfl ?_
            refine J.getc (κ' := 31) (i' := i0) (κ := 2) (k := 8) hx rfl rfl rfl rfl rfl in_X5 (by decide) (Or.inl q289) a0.2 dX5_matches_82 fun h35 => ?_
            refine J.iload hx dX5_matches_85 4 rfl ?_
            refine J.iald (κ := 31) hx rfl rfl h35.1 dX5_matches_87 fun v37 => ?_
            refine J.iconst (v := (-1)) hx dX5_matches_88 (by decide) ?_
            refine J.fn (fun (K112 : Int32 → j_St → Option (Int32 × j_St)) => ∀ (v45 : Int32) (w46 : j_St), J g x 5 B (j_Q g x B rm_X5_matches jri) 0 0 (K112 v45 w46) 112 [(0, .ref (B.1 2 i0)), (1, .ref (B.1 6 i1)), (2, .int p2), (3, .int v45), (4, .int v10)] [] w46) ?_ ?_
            · intro v45 w46
              refine J.nmx fun v47 ev47 => ?_
              refine J.iinc (p := 4) (v := v47) (lv' := [(4, .int v47), (0, .ref (B.1 2 i0)), (1, .ref (B.1 6 i1)), (2, .int p2), (3, .int v45)]) hx dX5_matches_112 rfl (by rw [ev47]; rfl) (by decide) rfl ?_
              refine J.goto (tgt := 31) hx dX5_matches_115 (by decide) ?_
              exact J.sub [1, 2, 3, 4, 0] rfl (ih v45 v47 w46)
            · intro K112 hK112
              refine J.icmp_ne (tgt := 95) hx dX5_matches_89 (by decide) ?_ ?_
              · refine J.goto (tgt := 112) hx dX5_matches_92 (by decide) ?_
                exact J.sub [0, 1, 2, 3, 4] rfl (hK112 v9 w33)
              · refine J.aload_n hx dX5_matches_95 rfl 0 rfl ?_
                refine J.getc (κ' := 30) (i' := i0) (κ := 2) (k := 7) hx rfl rfl rfl rfl rfl in_X5 (by decide) (Or.inl q287) a0.2 dX5_matches_96 fun h38 => ?_
                refine J.aload_n hx dX5_matches_99 rfl 0 rfl ?_
                refine J.getc (κ' := 31) (i' := i0) (κ := 2) (k := 8) hx rfl rfl rfl rfl rfl in_X5 (by decide) (Or.inl q289) a0.2 dX5_matches_100 fun h39 => ?_
                refine J.iload hx dX5_matches_103 4 rfl ?_
                refine J.iald (κ := 31) hx rfl rfl h39.1 dX5_matches_105 fun v41 => ?_
                refine J.iload hx dX5_matches_106 4 rfl ?_
                refine J.iast (κ := 30) hx rfl rfl rfl h38.1 dX5_matches_108 fun w42 => ?_
                refine J.nmx fun v44 ev44 => ?_
                refine J.iinc (p := 3) (v := v44) (lv' := [(3, .int v44), (0, .ref (B.1 2 i0)), (1, .ref (B.1 6 i1)), (2, .int p2), (4, .int v10)]) hx dX5_matches_109 rfl (by rw [ev44]; rfl) (by decide) rfl ?_
                exact J.sub [1, 2, 3, 0, 4] rfl (hK112 v44 w42)
          · intro K80 hK80
            refine J.if_eq (tgt := 79) hx dX5_matches_56 (by decide) ?_ ?_
            · refine J.iconst (v := (-1)) hx dX5_matches_79 (by decide) ?_
              exact J.sub [0, 1, 2, 3, 4] rfl (hK80 (-1) w11)
            · refine J.aload_n hx dX5_matches_59 rfl 0 rfl ?_
              refine J.aload_n hx dX5_matches_60 rfl 1 rfl ?_
              refine J.aload_n hx dX5_matches_61 rfl 0 rfl ?_
              refine J.getc (κ' := 27) (i' := i0) (κ := 2) (k := 1) hx rfl rfl rfl rfl rfl in_X5 (by decide) (Or.inl q275) a0.2 dX5_matches_62 fun h21 => ?_
              refine J.iload hx dX5_matches_65 4 rfl ?_
              refine J.aald (κ' := 3) (κ := 27) hx rfl rfl (by decide) rfl rfl h21.1 dX5_matches_67 fun v23 h24 => ?_
              refine J.obU fun y25 e26 => ?_
              subst e26
              refine J.geti (κ := 3) (k := 0) hx rfl rfl rfl in_X6 (by decide) (Or.inr ⟨_, j_nl q237 rfl⟩) (h24 y25 rfl).1 dX5_matches_68 fun v27 => ?_
              refine J.iload_n hx dX5_matches_71 rfl 2 rfl ?_
              refine J.iadd hx dX5_matches_72 ?_
              refine J.calli hx (fun r z1 z => j_callV (κ := 2) hx rfl rfl a0.1 (mt_X5_nearest a0 b1 z) (lw_V q1297 q1299 qs30 q125 q1300) hd_X5_nearest rfl ⟨Nat.le_of_ble_eq_true rfl, Nat.le_of_ble_eq_true rfl⟩ (Nat.le_of_ble_eq_true rfl) dX5_matches_73) ⟨⟨rfl, rfl⟩, (Nat.le_of_ble_eq_true rfl), (Nat.le_of_ble_eq_true rfl)⟩ fun v28 w29 e30 => ?_
              refine J.goto (tgt := 80) hx dX5_matches_76 (by decide) ?_
              exact J.sub [0, 1, 2, 3, 4] rfl (hK80 v28 w29)
    refine J.sub [1, 2, 3, 4, 0] rfl (hL31 jFU 0 0 w8)
theorem hd_X5_generation : yX5_generation.cls = RX5 ∧ yX5_generation.cls ≠ "java/lang/invoke/MethodHandle" ∧ yX5_generation.cls ≠ "java/lang/invoke/VarHandle" ∧ (parseMethodDescriptor yX5_generation.desc).map (fun d => d.parameters.length) = some 1 := by decide +kernel
def f_X5_generation_L12   : Nat → Int32 → Option Nat → j_St → Option (Int32 × j_St)
  | 0, _, _, _ => none
  | n12 + 1, v9, v10, w12 => jcs v10 (some (v9, w12)) fun y13 => jlt (v9 + 1) fun v15 => jlt (jgr w12 3 y13 5) fun v16 => f_X5_generation_L12 n12 v15 v16 w12
def f_X5_generation (i0 : Nat) (p1 : Int32) (w : j_St) : Option (Int32 × j_St) := jbd p1 48 fun a2 => jlt (jgr w 27 i0 a2) fun v3 => job v3 fun y5 => jlt (jgr w 3 y5 5) fun v7 => f_X5_generation_L12 jFU 0 v7 w
abbrev rm_X5_generation : Room := { frames := 0, cells := 0, slots := 0, locals := 0 }
set_option maxRecDepth 100000 in
set_option maxHeartbeats 4000000 in
theorem mt_X5_generation {g : j_G} {B : j_B} {i0 : Nat} {p1 : Int32} {w w' : j_St} (a0 : B.2.1 2 i0 ∧ B.2.2 2 i0) {r : Int32} (h : f_X5_generation i0 p1 w = some (r, w')) : j_M g yX5_generation cX5_generation 4 (some FieldType.int) rm_X5_generation B [.ref (B.1 2 i0), .int p1] w w' (jri r) := by
  refine j_met (rv := jri) (by decide) (Nat.le_of_ble_eq_true rfl) (fun x hx => ?_) h
  unfold f_X5_generation
  refine J.sub (lv' := [(0, .ref (B.1 2 i0)), (1, .int p1)]) [0, 1] rfl ?_
  refine J.iconst (v := 0) hx dX5_generation_0 (by decide) ?_
  refine J.istore_n (lv' := [(2, .int 0), (0, .ref (B.1 2 i0)), (1, .int p1)]) hx dX5_generation_1 rfl (by decide) rfl ?_
  refine J.aload_n hx dX5_generation_2 rfl 1 rfl ?_
  refine J.getc (κ' := 27) (i' := i0) (κ := 2) (k := 1) hx rfl rfl rfl rfl rfl in_X5 (by decide) (Or.inl q275) a0.2 dX5_generation_3 fun h1 => ?_
  refine J.iload_n hx dX5_generation_6 rfl 2 rfl ?_
  refine J.aald (κ' := 3) (κ := 27) hx rfl rfl (by decide) rfl rfl h1.1 dX5_generation_7 fun v3 h4 => ?_
  refine J.obU fun y5 e6 => ?_
  subst e6
  refine J.getr (κ' := 3) (κ := 3) (k := 5) hx rfl rfl rfl rfl in_X6 (by decide) (Or.inr ⟨_, j_nl q252 rfl⟩) (h4 y5 rfl).1 dX5_generation_8 fun v7 h8 => ?_
  refine J.astore_nq (lv' := [(3, va_re (B.1 3) v7), (2, .int 0), (0, .ref (B.1 2 i0)), (1, .int p1)]) hx dX5_generation_11 rfl (by decide) rfl ?_
  have hL12 : ∀ (n12 : Nat) (v9 : Int32) (v10 : Option Nat) (h11 : ∀ q, v10 = some q → B.2.1 3 q ∧ B.2.2 3 q) (w12 : j_St), J g x 4 B (j_Q g x B rm_X5_generation jri) 0 0 (f_X5_generation_L12 n12 v9 v10 w12) 12 [(2, .int v9), (3, va_re (B.1 3) v10)] [] w12 := by
    intro n12
    induction n12 with
    | zero =>
      intro v9 v10 h11 w12
      rw [f_X5_generation_L12]
      exact J.nne
    | succ n12 ih =>
      intro v9 v10 h11 w12
      rw [f_X5_generation_L12]
      refine J.aload_nq hx dX5_generation_12 rfl 1 rfl ?_
      refine J.ifnull (tgt := 27) hx dX5_generation_13 (by decide) (fun e14n => ?_) (fun y13 e14 => ?_)
      · subst e14n
        refine J.iload_n hx dX5_generation_27 rfl 0 rfl ?_
        exact J.iret hx rfl (Nat.le_of_ble_eq_true rfl) (Nat.le_of_ble_eq_true rfl) dX5_generation_28
      · subst e14
        refine J.nmx fun v15 ev15 => ?_
        refine J.iinc (p := 0) (v := v15) (lv' := [(2, .int v15), (3, .ref (B.1 3 y13))]) hx dX5_generation_16 rfl (by rw [ev15]; rfl) (by decide) rfl ?_
        refine J.aload_n hx dX5_generation_19 rfl 1 rfl ?_
        refine J.getr (κ' := 3) (κ := 3) (k := 5) hx rfl rfl rfl rfl in_X6 (by decide) (Or.inr ⟨_, j_nl q252 rfl⟩) (h11 y13 rfl).1 dX5_generation_20 fun v16 h17 => ?_
        refine J.astore_nq (lv' := [(3, va_re (B.1 3) v16), (2, .int v15)]) hx dX5_generation_23 rfl (by decide) rfl ?_
        refine J.goto (tgt := 12) hx dX5_generation_24 (by decide) ?_
        exact J.sub [1, 0] rfl (ih v15 v16 h17 w12)
  refine J.sub [1, 0] rfl (hL12 jFU 0 v7 h8 w)
theorem hd_X5_numberOf : yX5_numberOf.cls = RX5 ∧ yX5_numberOf.cls ≠ "java/lang/invoke/MethodHandle" ∧ yX5_numberOf.cls ≠ "java/lang/invoke/VarHandle" ∧ (parseMethodDescriptor yX5_numberOf.desc).map (fun d => d.parameters.length) = some 1 := by decide +kernel
def f_X5_numberOf_L2 (i0 : Nat) (q1 : Option Nat)  : Nat → Int32 → j_St → Option (Int32 × j_St)
  | 0, _, _ => none
  | n2 + 1, v1, w2 => jlt (jgi w2 2 i0 5) fun v3 => if v3 ≤ v1 then some ((-1), w2) else jbd v1 48 fun a5 => jlt (jgr w2 27 i0 a5) fun v6 => if v6 = q1 then some (v1, w2) else jlt (v1 + 1) fun v8 => f_X5_numberOf_L2 i0 q1 n2 v8 w2
def f_X5_numberOf (i0 : Nat) (q1 : Option Nat) (w : j_St) : Option (Int32 × j_St) := f_X5_numberOf_L2 i0 q1 jFU 0 w
abbrev rm_X5_numberOf : Room := { frames := 0, cells := 0, slots := 0, locals := 0 }
set_option maxRecDepth 100000 in
set_option maxHeartbeats 4000000 in
theorem mt_X5_numberOf {g : j_G} {B : j_B} {i0 : Nat} {q1 : Option Nat} {w w' : j_St} (a0 : B.2.1 2 i0 ∧ B.2.2 2 i0) (b1 : ∀ q, q1 = some q → B.2.1 3 q ∧ B.2.2 3 q) {r : Int32} (h : f_X5_numberOf i0 q1 w = some (r, w')) : j_M g yX5_numberOf cX5_numberOf 3 (some FieldType.int) rm_X5_numberOf B [.ref (B.1 2 i0), va_re (B.1 3) q1] w w' (jri r) := by
  refine j_met (rv := jri) (by decide) (by simp [lg_sl, va_re_cat, jct_i, jct_l, jct_r, jct_n]) (fun x hx => ?_) h
  unfold f_X5_numberOf
  rw [show lv_args 0 [.ref (B.1 2 i0), va_re (B.1 3) q1] = [(0, .ref (B.1 2 i0)), (1, va_re (B.1 3) q1)] from by simp [lv_args, va_re_cat, jct_i, jct_l, jct_r, jct_n]]
  refine J.sub (lv' := [(0, .ref (B.1 2 i0)), (1, va_re (B.1 3) q1)]) [0, 1] rfl ?_
  refine J.iconst (v := 0) hx dX5_numberOf_0 (by decide) ?_
  refine J.istore_n (lv' := [(2, .int 0), (0, .ref (B.1 2 i0)), (1, va_re (B.1 3) q1)]) hx dX5_numberOf_1 rfl (by decide) (by first | (simp [va_re_cat, jct_i, jct_l, jct_r, jct_n]; done) | (simp [va_re_cat, jct_i, jct_l, jct_r, jct_n]; decide)) ?_
  have hL2 : ∀ (n2 : Nat) (v1 : Int32) (w2 : j_St), J g x 3 B (j_Q g x B rm_X5_numberOf jri) 0 0 (f_X5_numberOf_L2 i0 q1 n2 v1 w2) 2 [(0, .ref (B.1 2 i0)), (1, va_re (B.1 3) q1), (2, .int v1)] [] w2 := by
    intro n2
    induction n2 with
    | zero =>
      intro v1 w2
      rw [f_X5_numberOf_L2]
      exact J.nne
    | succ n2 ih =>
      intro v1 w2
      rw [f_X5_numberOf_L2]
      refine J.iload_n hx dX5_numberOf_2 rfl 2 rfl ?_
      refine J.aload_n hx dX5_numberOf_3 rfl 0 rfl ?_
      refine J.geti (κ := 2) (k := 5) hx rfl rfl rfl in_X5 (by decide) (Or.inl q281) a0.1 dX5_numberOf_4 fun v3 => ?_
      refine J.icmp_ge (tgt := 28) hx dX5_numberOf_7 (by decide) ?_ ?_
      · refine J.iconst (v := (-1)) hx dX5_numberOf_28 (by decide) ?_
        exact J.iret hx rfl (Nat.le_of_ble_eq_true rfl) (Nat.le_of_ble_eq_true rfl) dX5_numberOf_29
      · refine J.aload_n hx dX5_numberOf_10 rfl 0 rfl ?_
        refine J.getc (κ' := 27) (i' := i0) (κ := 2) (k := 1) hx rfl rfl rfl rfl rfl in_X5 (by decide) (Or.inl q275) a0.2 dX5_numberOf_11 fun h4 => ?_
        refine J.iload_n hx dX5_numberOf_14 rfl 2 rfl ?_
        refine J.aald (κ' := 3) (κ := 27) hx rfl rfl (by decide) rfl rfl h4.1 dX5_numberOf_15 fun v6 h7 => ?_
        refine J.aload_nq hx dX5_numberOf_16 rfl 1 rfl ?_
        refine J.acmp_ne (κ := 3) (a := v6) (b := q1) (tgt := 22) hx dX5_numberOf_17 (by decide) (fun q h => (h7 q h).1) (fun q h => (b1 q h).1) ?_ ?_
        · refine J.iload_n hx dX5_numberOf_20 rfl 2 rfl ?_
          exact J.iret hx rfl (Nat.le_of_ble_eq_true rfl) (Nat.le_of_ble_eq_true rfl) dX5_numberOf_21
        · refine J.nmx fun v8 ev8 => ?_
          refine J.iinc (p := 2) (v := v8) (lv' := [(2, .int v8), (0, .ref (B.1 2 i0)), (1, va_re (B.1 3) q1)]) hx dX5_numberOf_22 rfl (by rw [ev8]; rfl) (by decide) (by simp [va_re_cat, jct_i, jct_l, jct_r, jct_n]) ?_
          refine J.goto (tgt := 2) hx dX5_numberOf_25 (by decide) ?_
          exact J.sub [1, 2, 0] rfl (ih v8 w2)
  refine J.sub [1, 2, 0] rfl (hL2 jFU 0 w)
