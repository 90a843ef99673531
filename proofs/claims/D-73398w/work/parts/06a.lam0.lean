theorem hd_X1_isIn : yX1_isIn.cls = RX1 ∧ yX1_isIn.cls ≠ "java/lang/invoke/MethodHandle" ∧ yX1_isIn.cls ≠ "java/lang/invoke/VarHandle" ∧ (parseMethodDescriptor yX1_isIn.desc).map (fun d => d.parameters.length) = some 3 := by decide +kernel
def f_X1_isIn (p0 : Int64) (p2 : Int64) (p4 : Int64) (w : j_St) : Option (Int32 × j_St) := if lg_cmp p0 p2 < 0 then some (0, w) else if 0 < lg_cmp p0 p4 then some (0, w) else some (1, w)
abbrev rm_X1_isIn : Room := { frames := 0, cells := 0, slots := 0, locals := 0 }
set_option maxRecDepth 100000 in
set_option maxHeartbeats 4000000 in
theorem mt_X1_isIn {g : j_G} {B : j_B} {p0 : Int64} {p2 : Int64} {p4 : Int64} {w w' : j_St}  {r : Int32} (h : f_X1_isIn p0 p2 p4 w = some (r, w')) : j_M g yX1_isIn cX1_isIn 6 (some FieldType.boolean) rm_X1_isIn B [.long p0, .long p2, .long p4] w w' (jri r) := by
  refine j_met (rv := jri) (by decide) (Nat.le_of_ble_eq_true rfl) (fun x hx => ?_) h
  unfold f_X1_isIn
  refine J.sub (lv' := [(0, .long p0), (2, .long p2), (4, .long p4)]) [0, 1, 2] rfl ?_
  refine J.lload_n hx dX1_isIn_0 rfl 0 rfl ?_
  refine J.lload_n hx dX1_isIn_1 rfl 1 rfl ?_
  refine J.lcmp hx dX1_isIn_2 ?_
  refine J.if_lt (tgt := 17) hx dX1_isIn_3 (by decide) ?_ ?_
  · refine J.iconst (v := 0) hx dX1_isIn_17 (by decide) ?_
    exact J.zret hx rfl rfl (Nat.le_of_ble_eq_true rfl) (Nat.le_of_ble_eq_true rfl) dX1_isIn_18
  · refine J.lload_n hx dX1_isIn_6 rfl 0 rfl ?_
    refine J.lload hx dX1_isIn_7 2 rfl ?_
    refine J.lcmp hx dX1_isIn_9 ?_
    refine J.if_gt (tgt := 17) hx dX1_isIn_10 (by decide) ?_ ?_
    · refine J.iconst (v := 0) hx dX1_isIn_17 (by decide) ?_
      exact J.zret hx rfl rfl (Nat.le_of_ble_eq_true rfl) (Nat.le_of_ble_eq_true rfl) dX1_isIn_18
    · refine J.iconst (v := 1) hx dX1_isIn_13 (by decide) ?_
      refine J.goto (tgt := 18) hx dX1_isIn_14 (by decide) ?_
      exact J.zret hx rfl rfl (Nat.le_of_ble_eq_true rfl) (Nat.le_of_ble_eq_true rfl) dX1_isIn_18
theorem hd_X1_quarter : yX1_quarter.cls = RX1 ∧ yX1_quarter.cls ≠ "java/lang/invoke/MethodHandle" ∧ yX1_quarter.cls ≠ "java/lang/invoke/VarHandle" ∧ (parseMethodDescriptor yX1_quarter.desc).map (fun d => d.parameters.length) = some 3 := by decide +kernel
def f_X1_quarter (p0 : Int32) (p1 : Int32) (p2 : Int32) (w : j_St) : Option (Int32 × j_St) := some (((p0 + (2 * p1)) + p2) / 4, w)
abbrev rm_X1_quarter : Room := { frames := 0, cells := 0, slots := 0, locals := 0 }
set_option maxRecDepth 100000 in
set_option maxHeartbeats 4000000 in
theorem mt_X1_quarter {g : j_G} {B : j_B} {p0 : Int32} {p1 : Int32} {p2 : Int32} {w w' : j_St}  {r : Int32} (h : f_X1_quarter p0 p1 p2 w = some (r, w')) : j_M g yX1_quarter cX1_quarter 3 (some FieldType.int) rm_X1_quarter B [.int p0, .int p1, .int p2] w w' (jri r) := by
  refine j_met (rv := jri) (by decide) (Nat.le_of_ble_eq_true rfl) (fun x hx => ?_) h
  unfold f_X1_quarter
  refine J.sub (lv' := [(0, .int p0), (1, .int p1), (2, .int p2)]) [0, 1, 2] rfl ?_
  refine J.iload_n hx dX1_quarter_0 rfl 0 rfl ?_
  refine J.iconst (v := 2) hx dX1_quarter_1 (by decide) ?_
  refine J.iload_n hx dX1_quarter_2 rfl 1 rfl ?_
  refine J.imul hx dX1_quarter_3 ?_
  refine J.iadd hx dX1_quarter_4 ?_
  refine J.iload_n hx dX1_quarter_5 rfl 2 rfl ?_
  refine J.iadd hx dX1_quarter_6 ?_
  refine J.iconst (v := 4) hx dX1_quarter_7 (by decide) ?_
  refine J.idiv0 hx dX1_quarter_8 (by decide) ?_
  exact J.iret hx rfl (Nat.le_of_ble_eq_true rfl) (Nat.le_of_ble_eq_true rfl) dX1_quarter_9
theorem hd_X1_between : yX1_between.cls = RX1 ∧ yX1_between.cls ≠ "java/lang/invoke/MethodHandle" ∧ yX1_between.cls ≠ "java/lang/invoke/VarHandle" ∧ (parseMethodDescriptor yX1_between.desc).map (fun d => d.parameters.length) = some 1 := by decide +kernel
def f_X1_between (p0 : Int32) (w : j_St) : Option (Int32 × j_St) := some (jmax 0 (jmin 999 p0), w)
abbrev rm_X1_between : Room := { frames := 1, cells := 0, slots := 0, locals := 21 }
set_option maxRecDepth 100000 in
set_option maxHeartbeats 4000000 in
theorem mt_X1_between {g : j_G} {B : j_B} {p0 : Int32} {w w' : j_St}  {r : Int32} (h : f_X1_between p0 w = some (r, w')) : j_M g yX1_between cX1_between 1 (some FieldType.int) rm_X1_between B [.int p0] w w' (jri r) := by
  refine j_met (rv := jri) (by decide) (Nat.le_of_ble_eq_true rfl) (fun x hx => ?_) h
  unfold f_X1_between
  refine J.sub (lv' := [(0, .int p0)]) [0] rfl ?_
  refine J.iconst (v := 0) hx dX1_between_0 (by decide) ?_
  refine J.sipush (v := 999) hx dX1_between_1 (by decide) ?_
  refine J.iload_n hx dX1_between_4 rfl 0 rfl ?_
  refine J.mmin hx q202 q192 q123 q193 ⟨Nat.le_of_ble_eq_true rfl, Nat.le_of_ble_eq_true rfl⟩ (Nat.le_of_ble_eq_true rfl) (Nat.le_of_ble_eq_true rfl) (Nat.le_of_ble_eq_true rfl) dX1_between_5 ?_
  refine J.mmax hx q218 q195 q123 q196 ⟨Nat.le_of_ble_eq_true rfl, Nat.le_of_ble_eq_true rfl⟩ (Nat.le_of_ble_eq_true rfl) (Nat.le_of_ble_eq_true rfl) (Nat.le_of_ble_eq_true rfl) dX1_between_8 ?_
  exact J.iret hx rfl (Nat.le_of_ble_eq_true rfl) (Nat.le_of_ble_eq_true rfl) dX1_between_11
theorem hd_X1_middle : yX1_middle.cls = RX1 ∧ yX1_middle.cls ≠ "java/lang/invoke/MethodHandle" ∧ yX1_middle.cls ≠ "java/lang/invoke/VarHandle" ∧ (parseMethodDescriptor yX1_middle.desc).map (fun d => d.parameters.length) = some 3 := by decide +kernel
def f_X1_middle (p0 : Int32) (p1 : Int32) (p2 : Int32) (w : j_St) : Option (Int32 × j_St) := jcb (f_X3_middle p0 p1 p2 w) fun v1 w2 => some (v1, w2)
abbrev rm_X1_middle : Room := { frames := 2, cells := 0, slots := 0, locals := 43 }
set_option maxRecDepth 100000 in
set_option maxHeartbeats 4000000 in
theorem mt_X1_middle {g : j_G} {B : j_B} {p0 : Int32} {p1 : Int32} {p2 : Int32} {w w' : j_St}  {r : Int32} (h : f_X1_middle p0 p1 p2 w = some (r, w')) : j_M g yX1_middle cX1_middle 3 (some FieldType.int) rm_X1_middle B [.int p0, .int p1, .int p2] w w' (jri r) := by
  refine j_met (rv := jri) (by decide) (Nat.le_of_ble_eq_true rfl) (fun x hx => ?_) h
  unfold f_X1_middle
  refine J.sub (lv' := [(0, .int p0), (1, .int p1), (2, .int p2)]) [0, 1, 2] rfl ?_
  refine J.iload_n hx dX1_middle_0 rfl 0 rfl ?_
  refine J.iload_n hx dX1_middle_1 rfl 1 rfl ?_
  refine J.iload_n hx dX1_middle_2 rfl 2 rfl ?_
  refine J.calli hx (fun r z1 z => j_callS hx (mt_X3_middle z) (lw_S q188 q189 q122 q190) hd_X3_middle.2 rfl ⟨Nat.le_of_ble_eq_true rfl, Nat.le_of_ble_eq_true rfl⟩ (Nat.le_of_ble_eq_true rfl) dX1_middle_3) ⟨⟨rfl, rfl⟩, (Nat.le_of_ble_eq_true rfl), (Nat.le_of_ble_eq_true rfl)⟩ fun v1 w2 e3 => ?_
  exact J.iret hx rfl (Nat.le_of_ble_eq_true rfl) (Nat.le_of_ble_eq_true rfl) dX1_middle_6
theorem hd_X1_lambda_new_0 : yX1_lambda_new_0.cls = RX1 ∧ yX1_lambda_new_0.cls ≠ "java/lang/invoke/MethodHandle" ∧ yX1_lambda_new_0.cls ≠ "java/lang/invoke/VarHandle" ∧ (parseMethodDescriptor yX1_lambda_new_0.desc).map (fun d => d.parameters.length) = some 3 := by decide +kernel
def f_X1_lambda_new_0 (p0 : Int32) (p1 : Int32) (p2 : Int32) (w : j_St) : Option (Int32 × j_St) := some (jmin p0 p1, w)
abbrev rm_X1_lambda_new_0 : Room := { frames := 1, cells := 0, slots := 0, locals := 21 }
set_option maxRecDepth 100000 in
set_option maxHeartbeats 4000000 in
theorem mt_X1_lambda_new_0 {g : j_G} {B : j_B} {p0 : Int32} {p1 : Int32} {p2 : Int32} {w w' : j_St}  {r : Int32} (h : f_X1_lambda_new_0 p0 p1 p2 w = some (r, w')) : j_M g yX1_lambda_new_0 cX1_lambda_new_0 3 (some FieldType.int) rm_X1_lambda_new_0 B [.int p0, .int p1, .int p2] w w' (jri r) := by
  refine j_met (rv := jri) (by decide) (Nat.le_of_ble_eq_true rfl) (fun x hx => ?_) h
  unfold f_X1_lambda_new_0
  refine J.sub (lv' := [(0, .int p0), (1, .int p1), (2, .int p2)]) [0, 1, 2] rfl ?_
  refine J.iload_n hx dX1_lambda_new_0_0 rfl 0 rfl ?_
  refine J.iload_n hx dX1_lambda_new_0_1 rfl 1 rfl ?_
  refine J.mmin hx q202 q192 q123 q193 ⟨Nat.le_of_ble_eq_true rfl, Nat.le_of_ble_eq_true rfl⟩ (Nat.le_of_ble_eq_true rfl) (Nat.le_of_ble_eq_true rfl) (Nat.le_of_ble_eq_true rfl) dX1_lambda_new_0_2 ?_
  exact J.iret hx rfl (Nat.le_of_ble_eq_true rfl) (Nat.le_of_ble_eq_true rfl) dX1_lambda_new_0_5
theorem hd_X1_lifted : yX1_lifted.cls = RX1 ∧ yX1_lifted.cls ≠ "java/lang/invoke/MethodHandle" ∧ yX1_lifted.cls ≠ "java/lang/invoke/VarHandle" ∧ (parseMethodDescriptor yX1_lifted.desc).map (fun d => d.parameters.length) = some 3 := by decide +kernel
def f_X1_lifted (p1 : Int32) (p2 : Int32) (p3 : Int32) (w : j_St) : Option (Int32 × j_St) := jcb (f_X1_between (p1 + p2) w) fun v1 w2 => some (v1, w2)
abbrev rm_X1_lifted : Room := { frames := 2, cells := 0, slots := 0, locals := 41 }
set_option maxRecDepth 100000 in
set_option maxHeartbeats 4000000 in
theorem mt_X1_lifted {g : j_G} {B : j_B} {p1 : Int32} {p2 : Int32} {p3 : Int32} {w w' : j_St} (a0 : B.2.1 0 0 ∧ B.2.2 0 0) {r : Int32} (h : f_X1_lifted p1 p2 p3 w = some (r, w')) : j_M g yX1_lifted cX1_lifted 4 (some FieldType.int) rm_X1_lifted B [.ref (B.1 0 0), .int p1, .int p2, .int p3] w w' (jri r) := by
  refine j_met (rv := jri) (by decide) (Nat.le_of_ble_eq_true rfl) (fun x hx => ?_) h
  unfold f_X1_lifted
  refine J.sub (lv' := [(0, .ref (B.1 0 0)), (1, .int p1), (2, .int p2), (3, .int p3)]) [0, 1, 2, 3] rfl ?_
  refine J.iload_n hx dX1_lifted_0 rfl 1 rfl ?_
  refine J.iload_n hx dX1_lifted_1 rfl 2 rfl ?_
  refine J.iadd hx dX1_lifted_2 ?_
  refine J.calli hx (fun r z1 z => j_callS hx (mt_X1_between z) (lw_S q215 q216 q120 q217) hd_X1_between.2 rfl ⟨Nat.le_of_ble_eq_true rfl, Nat.le_of_ble_eq_true rfl⟩ (Nat.le_of_ble_eq_true rfl) dX1_lifted_3) ⟨⟨rfl, rfl⟩, (Nat.le_of_ble_eq_true rfl), (Nat.le_of_ble_eq_true rfl)⟩ fun v1 w2 e3 => ?_
  exact J.iret hx rfl (Nat.le_of_ble_eq_true rfl) (Nat.le_of_ble_eq_true rfl) dX1_lifted_6
theorem hd_X1_lambda_new_1 : yX1_lambda_new_1.cls = RX1 ∧ yX1_lambda_new_1.cls ≠ "java/lang/invoke/MethodHandle" ∧ yX1_lambda_new_1.cls ≠ "java/lang/invoke/VarHandle" ∧ (parseMethodDescriptor yX1_lambda_new_1.desc).map (fun d => d.parameters.length) = some 3 := by decide +kernel
def f_X1_lambda_new_1 (p0 : Int32) (p1 : Int32) (p2 : Int32) (w : j_St) : Option (Int32 × j_St) := if p2 = 0 then none else jcb (f_X1_between ((p0 * p1) / p2) w) fun v1 w2 => some (v1, w2)
abbrev rm_X1_lambda_new_1 : Room := { frames := 2, cells := 0, slots := 0, locals := 41 }
set_option maxRecDepth 100000 in
set_option maxHeartbeats 4000000 in
theorem mt_X1_lambda_new_1 {g : j_G} {B : j_B} {p0 : Int32} {p1 : Int32} {p2 : Int32} {w w' : j_St}  {r : Int32} (h : f_X1_lambda_new_1 p0 p1 p2 w = some (r, w')) : j_M g yX1_lambda_new_1 cX1_lambda_new_1 3 (some FieldType.int) rm_X1_lambda_new_1 B [.int p0, .int p1, .int p2] w w' (jri r) := by
  refine j_met (rv := jri) (by decide) (Nat.le_of_ble_eq_true rfl) (fun x hx => ?_) h
  unfold f_X1_lambda_new_1
  refine J.sub (lv' := [(0, .int p0), (1, .int p1), (2, .int p2)]) [0, 1, 2] rfl ?_
  refine J.iload_n hx dX1_lambda_new_1_0 rfl 0 rfl ?_
  refine J.iload_n hx dX1_lambda_new_1_1 rfl 1 rfl ?_
  refine J.imul hx dX1_lambda_new_1_2 ?_
  refine J.iload_n hx dX1_lambda_new_1_3 rfl 2 rfl ?_
  refine J.idiv hx dX1_lambda_new_1_4 ?_
  refine J.calli hx (fun r z1 z => j_callS hx (mt_X1_between z) (lw_S q215 q216 q120 q217) hd_X1_between.2 rfl ⟨Nat.le_of_ble_eq_true rfl, Nat.le_of_ble_eq_true rfl⟩ (Nat.le_of_ble_eq_true rfl) dX1_lambda_new_1_5) ⟨⟨rfl, rfl⟩, (Nat.le_of_ble_eq_true rfl), (Nat.le_of_ble_eq_true rfl)⟩ fun v1 w2 e3 => ?_
  exact J.iret hx rfl (Nat.le_of_ble_eq_true rfl) (Nat.le_of_ble_eq_true rfl) dX1_lambda_new_1_8
theorem hd_X1_numbersOf : yX1_numbersOf.cls = RX1 ∧ yX1_numbersOf.cls ≠ "java/lang/invoke/MethodHandle" ∧ yX1_numbersOf.cls ≠ "java/lang/invoke/VarHandle" ∧ (parseMethodDescriptor yX1_numbersOf.desc).map (fun d => d.parameters.length) = some 1 := by decide +kernel
def f_X1_numbersOf (p0 : Int32) (w : j_St) : Option (Int32 × j_St) := if p0 = 0 then some (0, w) else if p0 = 1 then some (0, w) else if p0 = 2 then some (0, w) else if p0 = 3 then some (0, w) else if p0 = 4 then some (1, w) else if p0 = 5 then some (1, w) else if p0 = 8 then some (1, w) else some (2, w)
abbrev rm_X1_numbersOf : Room := { frames := 0, cells := 0, slots := 0, locals := 0 }
set_option maxRecDepth 100000 in
set_option maxHeartbeats 4000000 in
theorem mt_X1_numbersOf {g : j_G} {B : j_B} {p0 : Int32} {w w' : j_St}  {r : Int32} (h : f_X1_numbersOf p0 w = some (r, w')) : j_M g yX1_numbersOf cX1_numbersOf 1 (some FieldType.int) rm_X1_numbersOf B [.int p0] w w' (jri r) := by
  refine j_met (rv := jri) (by decide) (Nat.le_of_ble_eq_true rfl) (fun x hx => ?_) h
  unfold f_X1_numbersOf
  refine J.sub (lv' := [(0, .int p0)]) [0] rfl ?_
  refine J.iload_n hx dX1_numbersOf_0 rfl 0 rfl ?_
  refine J.ite (fun e0 => ?_) (fun n0 => ?_)
  · refine J.tsw (off := 51) (tgt := 52) hx dX1_numbersOf_1 (by rw [e0]; decide) (by rw [e0]; decide) (by rw [e0]; rfl) (by decide) ?_
    refine J.iconst (v := 0) hx dX1_numbersOf_52 (by decide) ?_
    refine J.goto (tgt := 61) hx dX1_numbersOf_53 (by decide) ?_
    exact J.iret hx rfl (Nat.le_of_ble_eq_true rfl) (Nat.le_of_ble_eq_true rfl) dX1_numbersOf_61
  · refine J.ite (fun e1 => ?_) (fun n1 => ?_)
    · refine J.tsw (off := 51) (tgt := 52) hx dX1_numbersOf_1 (by rw [e1]; decide) (by rw [e1]; decide) (by rw [e1]; rfl) (by decide) ?_
      refine J.iconst (v := 0) hx dX1_numbersOf_52 (by decide) ?_
      refine J.goto (tgt := 61) hx dX1_numbersOf_53 (by decide) ?_
      exact J.iret hx rfl (Nat.le_of_ble_eq_true rfl) (Nat.le_of_ble_eq_true rfl) dX1_numbersOf_61
    · refine J.ite (fun e2 => ?_) (fun n2 => ?_)
      · refine J.tsw (off := 51) (tgt := 52) hx dX1_numbersOf_1 (by rw [e2]; decide) (by rw [e2]; decide) (by rw [e2]; rfl) (by decide) ?_
        refine J.iconst (v := 0) hx dX1_numbersOf_52 (by decide) ?_
        refine J.goto (tgt := 61) hx dX1_numbersOf_53 (by decide) ?_
        exact J.iret hx rfl (Nat.le_of_ble_eq_true rfl) (Nat.le_of_ble_eq_true rfl) dX1_numbersOf_61
      · refine J.ite (fun e3 => ?_) (fun n3 => ?_)
        · refine J.tsw (off := 51) (tgt := 52) hx dX1_numbersOf_1 (by rw [e3]; decide) (by rw [e3]; decide) (by rw [e3]; rfl) (by decide) ?_
          refine J.iconst (v := 0) hx dX1_numbersOf_52 (by decide) ?_
          refine J.goto (tgt := 61) hx dX1_numbersOf_53 (by decide) ?_
          exact J.iret hx rfl (Nat.le_of_ble_eq_true rfl) (Nat.le_of_ble_eq_true rfl) dX1_numbersOf_61
        · refine J.ite (fun e4 => ?_) (fun n4 => ?_)
          · refine J.tsw (off := 55) (tgt := 56) hx dX1_numbersOf_1 (by rw [e4]; decide) (by rw [e4]; decide) (by rw [e4]; rfl) (by decide) ?_
            refine J.iconst (v := 1) hx dX1_numbersOf_56 (by decide) ?_
            refine J.goto (tgt := 61) hx dX1_numbersOf_57 (by decide) ?_
            exact J.iret hx rfl (Nat.le_of_ble_eq_true rfl) (Nat.le_of_ble_eq_true rfl) dX1_numbersOf_61
          · refine J.ite (fun e5 => ?_) (fun n5 => ?_)
            · refine J.tsw (off := 55) (tgt := 56) hx dX1_numbersOf_1 (by rw [e5]; decide) (by rw [e5]; decide) (by rw [e5]; rfl) (by decide) ?_
              refine J.iconst (v := 1) hx dX1_numbersOf_56 (by decide) ?_
              refine J.goto (tgt := 61) hx dX1_numbersOf_57 (by decide) ?_
              exact J.iret hx rfl (Nat.le_of_ble_eq_true rfl) (Nat.le_of_ble_eq_true rfl) dX1_numbersOf_61
            · refine J.ite (fun e8 => ?_) (fun n8 => ?_)
              · refine J.tsw (off := 55) (tgt := 56) hx dX1_numbersOf_1 (by rw [e8]; decide) (by rw [e8]; decide) (by rw [e8]; rfl) (by decide) ?_
                refine J.iconst (v := 1) hx dX1_numbersOf_56 (by decide) ?_
                refine J.goto (tgt := 61) hx dX1_numbersOf_57 (by decide) ?_
                exact J.iret hx rfl (Nat.le_of_ble_eq_true rfl) (Nat.le_of_ble_eq_true rfl) dX1_numbersOf_61
              · have z0 := j_neT n0 (a := 0) (by decide)
                have z1 := j_neT n1 (a := 1) (by decide)
                have z2 := j_neT n2 (a := 2) (by decide)
                have z3 := j_neT n3 (a := 3) (by decide)
                have z4 := j_neT n4 (a := 4) (by decide)
                have z5 := j_neT n5 (a := 5) (by decide)
                have z8 := j_neT n8 (a := 8) (by decide)
                have z9 : p0.toInt < 0 ∨ 8 < p0.toInt ∨ p0.toInt = 6 ∨ p0.toInt = 7 := by omega
                refine J.tswD2 (tgt := 60) hx dX1_numbersOf_1 (by
                  rcases z9 with q9 | q9 | q9 | q9
                  · exact Or.inl (Or.inl q9)
                  · exact Or.inl (Or.inr q9)
                  · exact Or.inr (by rw [q9]; rfl)
                  · exact Or.inr (by rw [q9]; rfl)) (by decide) ?_
                refine J.iconst (v := 2) hx dX1_numbersOf_60 (by decide) ?_
                exact J.iret hx rfl (Nat.le_of_ble_eq_true rfl) (Nat.le_of_ble_eq_true rfl) dX1_numbersOf_61
