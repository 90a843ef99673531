theorem hd_X9_thrown : yX9_thrown.cls = RX9 ∧ yX9_thrown.cls ≠ "java/lang/invoke/MethodHandle" ∧ yX9_thrown.cls ≠ "java/lang/invoke/VarHandle" ∧ (parseMethodDescriptor yX9_thrown.desc).map (fun d => d.parameters.length) = some 0 := by decide +kernel
def f_X9_thrown  (w : j_St) : Option (Int32 × j_St) := jlt (jgi w 1 0 0) fun v1 => some (v1, w)
abbrev rm_X9_thrown : Room := { frames := 0, cells := 0, slots := 0, locals := 0 }
set_option maxRecDepth 100000 in
set_option maxHeartbeats 4000000 in
theorem mt_X9_thrown {g : j_G} {B : j_B}  {w w' : j_St} (a0 : B.2.1 1 0 ∧ B.2.2 1 0) {r : Int32} (h : f_X9_thrown  w = some (r, w')) : j_M g yX9_thrown cX9_thrown 1 (some FieldType.int) rm_X9_thrown B [.ref (B.1 1 0)] w w' (jri r) := by
  refine j_met (rv := jri) (by decide) (Nat.le_of_ble_eq_true rfl) (fun x hx => ?_) h
  unfold f_X9_thrown
  refine J.sub (lv' := [(0, .ref (B.1 1 0))]) [0] rfl ?_
  refine J.aload_n hx dX9_thrown_0 rfl 0 rfl ?_
  refine J.geti (κ := 1) (k := 0) hx rfl rfl rfl in_X9 (by decide) (Or.inl q1653) a0.1 dX9_thrown_1 fun v1 => ?_
  exact J.iret hx rfl (Nat.le_of_ble_eq_true rfl) (Nat.le_of_ble_eq_true rfl) dX9_thrown_4
theorem hd_X9_byteOf : yX9_byteOf.cls = RX9 ∧ yX9_byteOf.cls ≠ "java/lang/invoke/MethodHandle" ∧ yX9_byteOf.cls ≠ "java/lang/invoke/VarHandle" ∧ (parseMethodDescriptor yX9_byteOf.desc).map (fun d => d.parameters.length) = some 6 := by decide +kernel
def f_X9_byteOf (p0 : Int32) (p1 : Int32) (p2 : Int32) (p3 : Int32) (p4 : Int32) (p5 : Int32) (w : j_St) : Option (Int32 × j_St) := jlt (fun (v1 : Int32) (w2 : j_St) => some ((v1 >>> ((24 - (8 * (p5 - p5 / 4 * 4))) &&& 31)) &&& 255, w2)) fun K45 => if 4 ≤ p5 then if 8 ≤ p5 then if 12 ≤ p5 then if 16 ≤ p5 then K45 p4 w else K45 p3 w else K45 p2 w else K45 p1 w else K45 p0 w
abbrev rm_X9_byteOf : Room := { frames := 0, cells := 0, slots := 0, locals := 0 }
set_option maxRecDepth 100000 in
set_option maxHeartbeats 4000000 in
theorem mt_X9_byteOf {g : j_G} {B : j_B} {p0 : Int32} {p1 : Int32} {p2 : Int32} {p3 : Int32} {p4 : Int32} {p5 : Int32} {w w' : j_St}  {r : Int32} (h : f_X9_byteOf p0 p1 p2 p3 p4 p5 w = some (r, w')) : j_M g yX9_byteOf cX9_byteOf 7 (some FieldType.int) rm_X9_byteOf B [.int p0, .int p1, .int p2, .int p3, .int p4, .int p5] w w' (jri r) := by
  refine j_met (rv := jri) (by decide) (Nat.le_of_ble_eq_true rfl) (fun x hx => ?_) h
  unfold f_X9_byteOf
  refine J.sub (lv' := [(0, .int p0), (1, .int p1), (2, .int p2), (3, .int p3), (4, .int p4), (5, .int p5)]) [0, 1, 2, 3, 4, 5] rfl ?_
  refine J.iload hx dX9_byteOf_0 5 rfl ?_
  refine J.iconst (v := 4) hx dX9_byteOf_2 (by decide) ?_
  refine J.fn (fun (K45 : Int32 → j_St → Option (Int32 × j_St)) => ∀ (v1 : Int32) (w2 : j_St), J g x 7 B (j_Q g x B rm_X9_byteOf jri) 0 0 (K45 v1 w2) 45 [(5, .int p5)] [.int v1] w2) ?_ ?_
  · intro v1 w2
    refine J.istore (lv' := [(6, .int v1), (5, .int p5)]) hx dX9_byteOf_45 (by decide) rfl ?_
    refine J.iload hx dX9_byteOf_47 0 rfl ?_
    refine J.bipush (v := 24) hx dX9_byteOf_49 (by decide) ?_
    refine J.bipush (v := 8) hx dX9_byteOf_51 (by decide) ?_
    refine J.iload hx dX9_byteOf_53 1 rfl ?_
    refine J.iconst (v := 4) hx dX9_byteOf_55 (by decide) ?_
    refine J.irem0 hx dX9_byteOf_56 (by decide) ?_
    refine J.imul hx dX9_byteOf_57 ?_
    refine J.isub hx dX9_byteOf_58 ?_
    refine J.ishr hx dX9_byteOf_59 ?_
    refine J.sipush (v := 255) hx dX9_byteOf_60 (by decide) ?_
    refine J.iand hx dX9_byteOf_63 ?_
    exact J.iret hx rfl (Nat.le_of_ble_eq_true rfl) (Nat.le_of_ble_eq_true rfl) dX9_byteOf_64
  · intro K45 hK45
    refine J.icmp_ge (tgt := 10) hx dX9_byteOf_3 (by decide) ?_ ?_
    · refine J.iload hx dX9_byteOf_10 5 rfl ?_
      refine J.bipush (v := 8) hx dX9_byteOf_12 (by decide) ?_
      refine J.icmp_ge (tgt := 21) hx dX9_byteOf_14 (by decide) ?_ ?_
      · refine J.iload hx dX9_byteOf_21 5 rfl ?_
        refine J.bipush (v := 12) hx dX9_byteOf_23 (by decide) ?_
        refine J.icmp_ge (tgt := 32) hx dX9_byteOf_25 (by decide) ?_ ?_
        · refine J.iload hx dX9_byteOf_32 5 rfl ?_
          refine J.bipush (v := 16) hx dX9_byteOf_34 (by decide) ?_
          refine J.icmp_ge (tgt := 43) hx dX9_byteOf_36 (by decide) ?_ ?_
          · refine J.iload hx dX9_byteOf_43 4 rfl ?_
            exact J.sub [5] rfl (hK45 p4 w)
          · refine J.iload_n hx dX9_byteOf_39 rfl 3 rfl ?_
            refine J.goto (tgt := 45) hx dX9_byteOf_40 (by decide) ?_
            exact J.sub [5] rfl (hK45 p3 w)
        · refine J.iload_n hx dX9_byteOf_28 rfl 2 rfl ?_
          refine J.goto (tgt := 45) hx dX9_byteOf_29 (by decide) ?_
          exact J.sub [5] rfl (hK45 p2 w)
      · refine J.iload_n hx dX9_byteOf_17 rfl 1 rfl ?_
        refine J.goto (tgt := 45) hx dX9_byteOf_18 (by decide) ?_
        exact J.sub [5] rfl (hK45 p1 w)
    · refine J.iload_n hx dX9_byteOf_6 rfl 0 rfl ?_
      refine J.goto (tgt := 45) hx dX9_byteOf_7 (by decide) ?_
      exact J.sub [5] rfl (hK45 p0 w)
theorem hd_X9_feed : yX9_feed.cls = RX9 ∧ yX9_feed.cls ≠ "java/lang/invoke/MethodHandle" ∧ yX9_feed.cls ≠ "java/lang/invoke/VarHandle" ∧ (parseMethodDescriptor yX9_feed.desc).map (fun d => d.parameters.length) = some 5 := by decide +kernel
def f_X9_feed_L6 (p1 : Int32) (p2 : Int32) (p3 : Int32) (p4 : Int32) (p5 : Int32) (k44 : Int32 → j_St → Option (Int32 × j_St)) : Nat → Int32 → Int32 → j_St → Option (Int32 × j_St)
  | 0, _, _, _ => none
  | n6 + 1, v1, v2, w3 => if 20 ≤ v2 then k44 v1 w3 else jcb (f_X9_byteOf p1 p2 p3 p4 p5 v2 w3) fun v4 w5 => jlt (fun (v7 : Int32) (w8 : j_St) => jlt (v1 + v7) fun v9 => jlt (v2 + 1) fun v10 => f_X9_feed_L6 p1 p2 p3 p4 p5 k44 n6 v9 v10 w8) fun K35 => if v4 = 0 then K35 0 w5 else K35 1 w5
def f_X9_feed_L62 (p1 : Int32) (p2 : Int32) (p3 : Int32) (p4 : Int32) (p5 : Int32)  : Nat → Int32 → j_St → Option (Int32 × j_St)
  | 0, _, _ => none
  | n62 + 1, v14, w15 => if 20 ≤ v14 then jlt (jgi w15 1 0 2) fun v16 => some (v16, w15) else jcb (f_X9_byteOf p1 p2 p3 p4 p5 v14 w15) fun v17 w18 => jlt (fun (w26 : j_St) => jlt (v14 + 1) fun v27 => f_X9_feed_L62 p1 p2 p3 p4 p5 n62 v27 w26) fun K109 => if v17 = 0 then K109 w18 else jlt (jgi w18 1 0 2) fun v21 => jbd v21 400 fun a23 => jlt (jsi w18 40 0 a23 v17) fun w22 => jlt (jgi w22 1 0 2) fun v24 => jlt (jsi w22 1 0 2 (v24 + 1)) fun w25 => K109 w25
def f_X9_feed (p1 : Int32) (p2 : Int32) (p3 : Int32) (p4 : Int32) (p5 : Int32) (w : j_St) : Option (Int32 × j_St) := f_X9_feed_L6 p1 p2 p3 p4 p5 (fun (v11 : Int32) (w12 : j_St) => jlt (jgi w12 1 0 2) fun v13 => if v13 + v11 ≤ 400 then f_X9_feed_L62 p1 p2 p3 p4 p5 jFU 0 w12 else some ((-1), w12)) jFU 0 0 w
abbrev rm_X9_feed : Room := { frames := 1, cells := 0, slots := 0, locals := 26 }
set_option maxRecDepth 100000 in
set_option maxHeartbeats 4000000 in
theorem mt_X9_feed {g : j_G} {B : j_B} {p1 : Int32} {p2 : Int32} {p3 : Int32} {p4 : Int32} {p5 : Int32} {w w' : j_St} (a0 : B.2.1 1 0 ∧ B.2.2 1 0) {r : Int32} (h : f_X9_feed p1 p2 p3 p4 p5 w = some (r, w')) : j_M g yX9_feed cX9_feed 9 (some FieldType.int) rm_X9_feed B [.ref (B.1 1 0), .int p1, .int p2, .int p3, .int p4, .int p5] w w' (jri r) := by
  refine j_met (rv := jri) (by decide) (Nat.le_of_ble_eq_true rfl) (fun x hx => ?_) h
  unfold f_X9_feed
  refine J.sub (lv' := [(0, .ref (B.1 1 0)), (1, .int p1), (2, .int p2), (3, .int p3), (4, .int p4), (5, .int p5)]) [0, 1, 2, 3, 4, 5] rfl ?_
  refine J.iconst (v := 0) hx dX9_feed_0 (by decide) ?_
  refine J.istore (lv' := [(6, .int 0), (0, .ref (B.1 1 0)), (1, .int p1), (2, .int p2), (3, .int p3), (4, .int p4), (5, .int p5)]) hx dX9_feed_1 (by decide) rfl ?_
  refine J.iconst (v := 0) hx dX9_feed_3 (by decide) ?_
  refine J.istore (lv' := [(7, .int 0), (6, .int 0), (0, .ref (B.1 1 0)), (1, .int p1), (2, .int p2), (3, .int p3), (4, .int p4), (5, .int p5)]) hx dX9_feed_4 (by decide) rfl ?_
  have hL6 : ∀ (k44 : Int32 → j_St → Option (Int32 × j_St)) (hk44 : ∀ (v11 : Int32) (w12 : j_St), J g x 9 B (j_Q g x B rm_X9_feed jri) 0 0 (k44 v11 w12) 44 [(0, .ref (B.1 1 0)), (1, .int p1), (2, .int p2), (3, .int p3), (4, .int p4), (5, .int p5), (6, .int v11)] [] w12) (n6 : Nat) (v1 : Int32) (v2 : Int32) (w3 : j_St), J g x 9 B (j_Q g x B rm_X9_feed jri) 0 0 (f_X9_feed_L6 p1 p2 p3 p4 p5 k44 n6 v1 v2 w3) 6 [(0, .ref (B.1 1 0)), (1, .int p1), (2, .int p2), (3, .int p3), (4, .int p4), (5, .int p5), (6, .int v1), (7, .int v2)] [] w3 := by
    intro k44 hk44 n6
    induction n6 with
    | zero =>
      intro v1 v2 w3
      rw [f_X9_feed_L6]
      exact J.nne
    | succ n6 ih =>
      intro v1 v2 w3
      rw [f_X9_feed_L6]
      refine J.iload hx dX9_feed_6 7 rfl ?_
      refine J.bipush (v := 20) hx dX9_feed_8 (by decide) ?_
      refine J.icmp_ge (tgt := 44) hx dX9_feed_10 (by decide) ?_ ?_
      · exact J.sub [0, 1, 2, 3, 4, 5, 6] rfl (hk44 v1 w3)
      · refine J.iload hx dX9_feed_13 6 rfl ?_
        refine J.iload_n hx dX9_feed_15 rfl 1 rfl ?_
        refine J.iload_n hx dX9_feed_16 rfl 2 rfl ?_
        refine J.iload_n hx dX9_feed_17 rfl 3 rfl ?_
        refine J.iload hx dX9_feed_18 4 rfl ?_
        refine J.iload hx dX9_feed_20 5 rfl ?_
        refine J.iload hx dX9_feed_22 7 rfl ?_
        refine J.calli hx (fun r z1 z => j_callS hx (mt_X9_byteOf z) (lw_S q1819 q1820 q129 q1821) hd_X9_byteOf.2 rfl ⟨Nat.le_of_ble_eq_true rfl, Nat.le_of_ble_eq_true rfl⟩ (Nat.le_of_ble_eq_true rfl) dX9_feed_24) ⟨⟨rfl, rfl⟩, Nat.le_of_ble_eq_true rfl, Nat.le_of_ble_eq_true rfl⟩ fun v4 w5 e6 => ?_
        refine J.fn (fun (K35 : Int32 → j_St → Option (Int32 × j_St)) => ∀ (v7 : Int32) (w8 : j_St), J g x 9 B (j_Q g x B rm_X9_feed jri) 0 0 (K35 v7 w8) 35 [(0, .ref (B.1 1 0)), (1, .int p1), (2, .int p2), (3, .int p3), (4, .int p4), (5, .int p5), (7, .int v2)] [.int v7, .int v1] w8) ?_ ?_
        · intro v7 w8
          refine J.iadd hx dX9_feed_35 ?_
          refine J.nmi fun v9 => ?_
          refine J.istore (lv' := [(6, .int v9), (0, .ref (B.1 1 0)), (1, .int p1), (2, .int p2), (3, .int p3), (4, .int p4), (5, .int p5), (7, .int v2)]) hx dX9_feed_36 (by decide) rfl ?_
          refine J.nmx fun v10 ev10 => ?_
          refine J.iinc (p := 7) (v := v10) (lv' := [(7, .int v10), (6, .int v9), (0, .ref (B.1 1 0)), (1, .int p1), (2, .int p2), (3, .int p3), (4, .int p4), (5, .int p5)]) hx dX9_feed_38 rfl (by rw [ev10]; rfl) (by decide) rfl ?_
          refine J.goto (tgt := 6) hx dX9_feed_41 (by decide) ?_
          exact J.sub [2, 3, 4, 5, 6, 7, 1, 0] rfl (ih v9 v10 w8)
        · intro K35 hK35
          refine J.if_eq (tgt := 34) hx dX9_feed_27 (by decide) ?_ ?_
          · refine J.iconst (v := 0) hx dX9_feed_34 (by decide) ?_
            exact J.sub [0, 1, 2, 3, 4, 5, 7] rfl (hK35 0 w5)
          · refine J.iconst (v := 1) hx dX9_feed_30 (by decide) ?_
            refine J.goto (tgt := 35) hx dX9_feed_31 (by decide) ?_
            exact J.sub [0, 1, 2, 3, 4, 5, 7] rfl (hK35 1 w5)
  refine J.sub [2, 3, 4, 5, 6, 7, 1, 0] rfl (hL6 _ ?_ jFU 0 0 w)
  · intro v11 w12
    refine J.aload_n hx dX9_feed_44 rfl 0 rfl ?_
    refine J.geti (κ := 1) (k := 2) hx rfl rfl rfl in_X9 (by decide) (Or.inl q1655) a0.1 dX9_feed_45 fun v13 => ?_
    refine J.iload hx dX9_feed_48 6 rfl ?_
    refine J.iadd hx dX9_feed_50 ?_
    refine J.sipush (v := 400) hx dX9_feed_51 (by decide) ?_
    refine J.icmp_le (tgt := 59) hx dX9_feed_54 (by decide) ?_ ?_
    · refine J.iconst (v := 0) hx dX9_feed_59 (by decide) ?_
      refine J.istore (lv' := [(7, .int 0), (0, .ref (B.1 1 0)), (1, .int p1), (2, .int p2), (3, .int p3), (4, .int p4), (5, .int p5), (6, .int v11)]) hx dX9_feed_60 (by decide) rfl ?_
      have hL62 : ∀ (n62 : Nat) (v14 : Int32) (w15 : j_St), J g x 9 B (j_Q g x B rm_X9_feed jri) 0 0 (f_X9_feed_L62 p1 p2 p3 p4 p5 n62 v14 w15) 62 [(0, .ref (B.1 1 0)), (1, .int p1), (2, .int p2), (3, .int p3), (4, .int p4), (5, .int p5), (7, .int v14)] [] w15 := by
        intro n62
        induction n62 with
        | zero =>
          intro v14 w15
          rw [f_X9_feed_L62]
          exact J.nne
        | succ n62 ih =>
          intro v14 w15
          rw [f_X9_feed_L62]
          refine J.iload hx dX9_feed_62 6 rfl ?_
          refine J.bipush (v := 20) hx dX9_feed_64 (by decide) ?_
          refine J.icmp_ge (tgt := 115) hx dX9_feed_66 (by decide) ?_ ?_
          · refine J.aload_n hx dX9_feed_115 rfl 0 rfl ?_
            refine J.geti (κ := 1) (k := 2) hx rfl rfl rfl in_X9 (by decide) (Or.inl q1655) a0.1 dX9_feed_116 fun v16 => ?_
            exact J.iret hx rfl (Nat.le_of_ble_eq_true rfl) (Nat.le_of_ble_eq_true rfl) dX9_feed_119
          · refine J.iload_n hx dX9_feed_69 rfl 1 rfl ?_
            refine J.iload_n hx dX9_feed_70 rfl 2 rfl ?_
            refine J.iload_n hx dX9_feed_71 rfl 3 rfl ?_
            refine J.iload hx dX9_feed_72 4 rfl ?_
            refine J.iload hx dX9_feed_74 5 rfl ?_
            refine J.iload hx dX9_feed_76 6 rfl ?_
            refine J.calli hx (fun r z1 z => j_callS hx (mt_X9_byteOf z) (lw_S q1819 q1820 q129 q1821) hd_X9_byteOf.2 rfl ⟨Nat.le_of_ble_eq_true rfl, Nat.le_of_ble_eq_true rfl⟩ (Nat.le_of_ble_eq_true rfl) dX9_feed_78) ⟨⟨rfl, rfl⟩, Nat.le_of_ble_eq_true rfl, Nat.le_of_ble_eq_true rfl⟩ fun v17 w18 e19 => ?_
            refine J.istore (lv' := [(8, .int v17), (0, .ref (B.1 1 0)), (1, .int p1), (2, .int p2), (3, .int p3), (4, .int p4), (5, .int p5), (7, .int v14)]) hx dX9_feed_81 (by decide) rfl ?_
            refine J.iload hx dX9_feed_83 0 rfl ?_
            refine J.fn (fun (K109 : j_St → Option (Int32 × j_St)) => ∀  (w26 : j_St), J g x 9 B (j_Q g x B rm_X9_feed jri) 0 0 (K109 w26) 109 [(0, .ref (B.1 1 0)), (1, .int p1), (2, .int p2), (3, .int p3), (4, .int p4), (5, .int p5), (7, .int v14)] [] w26) ?_ ?_
            · intro w26
              refine J.nmx fun v27 ev27 => ?_
              refine J.iinc (p := 6) (v := v27) (lv' := [(7, .int v27), (0, .ref (B.1 1 0)), (1, .int p1), (2, .int p2), (3, .int p3), (4, .int p4), (5, .int p5)]) hx dX9_feed_109 rfl (by rw [ev27]; rfl) (by decide) rfl ?_
              refine J.goto (tgt := 62) hx dX9_feed_112 (by decide) ?_
              exact J.sub [1, 2, 3, 4, 5, 6, 0] rfl (ih v27 w26)
            · intro K109 hK109
              refine J.if_eq (tgt := 109) hx dX9_feed_85 (by decide) ?_ ?_
              · exact J.sub [1, 2, 3, 4, 5, 6, 7] rfl (hK109 w18)
              · refine J.aload_n hx dX9_feed_88 rfl 1 rfl ?_
                refine J.getc (κ' := 40) (i' := 0) (κ := 1) (k := 1) hx rfl rfl rfl rfl rfl in_X9 (by decide) (Or.inl q1654) a0.2 dX9_feed_89 fun h20 => ?_
                refine J.aload_n hx dX9_feed_92 rfl 1 rfl ?_
                refine J.geti (κ := 1) (k := 2) hx rfl rfl rfl in_X9 (by decide) (Or.inl q1655) a0.1 dX9_feed_93 fun v21 => ?_
                refine J.iload hx dX9_feed_96 0 rfl ?_
                refine J.iast (κ := 40) hx rfl rfl rfl h20.1 dX9_feed_98 fun w22 => ?_
                refine J.aload_n hx dX9_feed_99 rfl 1 rfl ?_
                refine J.dup hx dX9_feed_100 rfl ?_
                refine J.geti (κ := 1) (k := 2) hx rfl rfl rfl in_X9 (by decide) (Or.inl q1655) a0.1 dX9_feed_101 fun v24 => ?_
                refine J.iconst (v := 1) hx dX9_feed_104 (by decide) ?_
                refine J.iadd hx dX9_feed_105 ?_
                refine J.puti (κ := 1) (k := 2) hx rfl rfl rfl in_X9 tyX9_ok nmX9 (by decide) (Or.inl q1655) rfl rfl a0.1 ⟨rfl, rfl⟩ dX9_feed_106 fun w25 => ?_
                exact J.sub [1, 2, 3, 4, 5, 6, 7] rfl (hK109 w25)
      refine J.sub [1, 2, 3, 4, 5, 6, 0] rfl (hL62 jFU 0 w12)
    · refine J.iconst (v := (-1)) hx dX9_feed_57 (by decide) ?_
      exact J.iret hx rfl (Nat.le_of_ble_eq_true rfl) (Nat.le_of_ble_eq_true rfl) dX9_feed_58
theorem hd_X9_in : yX9_in.cls = RX9 ∧ yX9_in.cls ≠ "java/lang/invoke/MethodHandle" ∧ yX9_in.cls ≠ "java/lang/invoke/VarHandle" ∧ (parseMethodDescriptor yX9_in.desc).map (fun d => d.parameters.length) = some 3 := by decide +kernel
def f_X9_in (p0 : Int32) (p1 : Int32) (p2 : Int32) (w : j_St) : Option (Int32 × j_St) := if p0 < p1 then some (0, w) else if p2 < p0 then some (0, w) else some (1, w)
abbrev rm_X9_in : Room := { frames := 0, cells := 0, slots := 0, locals := 0 }
set_option maxRecDepth 100000 in
set_option maxHeartbeats 4000000 in
theorem mt_X9_in {g : j_G} {B : j_B} {p0 : Int32} {p1 : Int32} {p2 : Int32} {w w' : j_St}  {r : Int32} (h : f_X9_in p0 p1 p2 w = some (r, w')) : j_M g yX9_in cX9_in 3 (some FieldType.boolean) rm_X9_in B [.int p0, .int p1, .int p2] w w' (jri r) := by
  refine j_met (rv := jri) (by decide) (Nat.le_of_ble_eq_true rfl) (fun x hx => ?_) h
  unfold f_X9_in
  refine J.sub (lv' := [(0, .int p0), (1, .int p1), (2, .int p2)]) [0, 1, 2] rfl ?_
  refine J.iload_n hx dX9_in_0 rfl 0 rfl ?_
  refine J.iload_n hx dX9_in_1 rfl 1 rfl ?_
  refine J.icmp_lt (tgt := 14) hx dX9_in_2 (by decide) ?_ ?_
  · refine J.iconst (v := 0) hx dX9_in_14 (by decide) ?_
    exact J.zret hx rfl rfl (Nat.le_of_ble_eq_true rfl) (Nat.le_of_ble_eq_true rfl) dX9_in_15
  · refine J.iload_n hx dX9_in_5 rfl 0 rfl ?_
    refine J.iload_n hx dX9_in_6 rfl 2 rfl ?_
    refine J.icmp_gt (tgt := 14) hx dX9_in_7 (by decide) ?_ ?_
    · refine J.iconst (v := 0) hx dX9_in_14 (by decide) ?_
      exact J.zret hx rfl rfl (Nat.le_of_ble_eq_true rfl) (Nat.le_of_ble_eq_true rfl) dX9_in_15
    · refine J.iconst (v := 1) hx dX9_in_10 (by decide) ?_
      refine J.goto (tgt := 15) hx dX9_in_11 (by decide) ?_
      exact J.zret hx rfl rfl (Nat.le_of_ble_eq_true rfl) (Nat.le_of_ble_eq_true rfl) dX9_in_15
theorem hd_X9_end : yX9_end.cls = RX9 ∧ yX9_end.cls ≠ "java/lang/invoke/MethodHandle" ∧ yX9_end.cls ≠ "java/lang/invoke/VarHandle" ∧ (parseMethodDescriptor yX9_end.desc).map (fun d => d.parameters.length) = some 1 := by decide +kernel
def f_X9_end (p1 : Int32) (w : j_St) : Option (Int32 × j_St) := jlt (jgi w 1 0 2) fun v1 => jcb (f_X9_in p1 0 v1 w) fun v2 w3 => if v2 = 0 then some (0, w3) else jlt (jsi w3 1 0 2 p1) fun w5 => some (1, w5)
abbrev rm_X9_end : Room := { frames := 1, cells := 0, slots := 0, locals := 22 }
set_option maxRecDepth 100000 in
set_option maxHeartbeats 4000000 in
theorem mt_X9_end {g : j_G} {B : j_B} {p1 : Int32} {w w' : j_St} (a0 : B.2.1 1 0 ∧ B.2.2 1 0) {r : Int32} (h : f_X9_end p1 w = some (r, w')) : j_M g yX9_end cX9_end 2 (some FieldType.boolean) rm_X9_end B [.ref (B.1 1 0), .int p1] w w' (jri r) := by
  refine j_met (rv := jri) (by decide) (Nat.le_of_ble_eq_true rfl) (fun x hx => ?_) h
  unfold f_X9_end
  refine J.sub (lv' := [(0, .ref (B.1 1 0)), (1, .int p1)]) [0, 1] rfl ?_
  refine J.iload_n hx dX9_end_0 rfl 1 rfl ?_
  refine J.iconst (v := 0) hx dX9_end_1 (by decide) ?_
  refine J.aload_n hx dX9_end_2 rfl 0 rfl ?_
  refine J.geti (κ := 1) (k := 2) hx rfl rfl rfl in_X9 (by decide) (Or.inl q1655) a0.1 dX9_end_3 fun v1 => ?_
  refine J.calli hx (fun r z1 z => j_callS hx (mt_X9_in z) (lw_S q1826 q1827 q129 q1828) hd_X9_in.2 rfl ⟨Nat.le_of_ble_eq_true rfl, Nat.le_of_ble_eq_true rfl⟩ (Nat.le_of_ble_eq_true rfl) dX9_end_6) ⟨⟨rfl, rfl⟩, Nat.le_of_ble_eq_true rfl, Nat.le_of_ble_eq_true rfl⟩ fun v2 w3 e4 => ?_
  refine J.if_ne (tgt := 14) hx dX9_end_9 (by decide) ?_ ?_
  · refine J.iconst (v := 0) hx dX9_end_12 (by decide) ?_
    exact J.zret hx rfl rfl (Nat.le_of_ble_eq_true rfl) (Nat.le_of_ble_eq_true rfl) dX9_end_13
  · refine J.aload_n hx dX9_end_14 rfl 0 rfl ?_
    refine J.iload_n hx dX9_end_15 rfl 1 rfl ?_
    refine J.puti (κ := 1) (k := 2) hx rfl rfl rfl in_X9 tyX9_ok nmX9 (by decide) (Or.inl q1655) rfl rfl a0.1 ⟨rfl, rfl⟩ dX9_end_16 fun w5 => ?_
    refine J.iconst (v := 1) hx dX9_end_19 (by decide) ?_
    exact J.zret hx rfl rfl (Nat.le_of_ble_eq_true rfl) (Nat.le_of_ble_eq_true rfl) dX9_end_20
theorem hd_X9_here : yX9_here.cls = RX9 ∧ yX9_here.cls ≠ "java/lang/invoke/MethodHandle" ∧ yX9_here.cls ≠ "java/lang/invoke/VarHandle" ∧ (parseMethodDescriptor yX9_here.desc).map (fun d => d.parameters.length) = some 0 := by decide +kernel
def f_X9_here  (w : j_St) : Option (Int32 × j_St) := jlt (jgi w 1 0 3) fun v1 => jlt (jgi w 1 0 2) fun v2 => if v2 ≤ v1 then some ((-1), w) else jlt (jgi w 1 0 3) fun v4 => jbd v4 400 fun a5 => jlt (jgi w 40 0 a5) fun v6 => some (v6, w)
abbrev rm_X9_here : Room := { frames := 0, cells := 0, slots := 0, locals := 0 }
set_option maxRecDepth 100000 in
set_option maxHeartbeats 4000000 in
theorem mt_X9_here {g : j_G} {B : j_B}  {w w' : j_St} (a0 : B.2.1 1 0 ∧ B.2.2 1 0) {r : Int32} (h : f_X9_here  w = some (r, w')) : j_M g yX9_here cX9_here 1 (some FieldType.int) rm_X9_here B [.ref (B.1 1 0)] w w' (jri r) := by
  refine j_met (rv := jri) (by decide) (Nat.le_of_ble_eq_true rfl) (fun x hx => ?_) h
  unfold f_X9_here
  refine J.sub (lv' := [(0, .ref (B.1 1 0))]) [0] rfl ?_
  refine J.aload_n hx dX9_here_0 rfl 0 rfl ?_
  refine J.geti (κ := 1) (k := 3) hx rfl rfl rfl in_X9 (by decide) (Or.inl q1656) a0.1 dX9_here_1 fun v1 => ?_
  refine J.aload_n hx dX9_here_4 rfl 0 rfl ?_
  refine J.geti (κ := 1) (k := 2) hx rfl rfl rfl in_X9 (by decide) (Or.inl q1655) a0.1 dX9_here_5 fun v2 => ?_
  refine J.icmp_ge (tgt := 23) hx dX9_here_8 (by decide) ?_ ?_
  · refine J.iconst (v := (-1)) hx dX9_here_23 (by decide) ?_
    exact J.iret hx rfl (Nat.le_of_ble_eq_true rfl) (Nat.le_of_ble_eq_true rfl) dX9_here_24
  · refine J.aload_n hx dX9_here_11 rfl 0 rfl ?_
    refine J.getc (κ' := 40) (i' := 0) (κ := 1) (k := 1) hx rfl rfl rfl rfl rfl in_X9 (by decide) (Or.inl q1654) a0.2 dX9_here_12 fun h3 => ?_
    refine J.aload_n hx dX9_here_15 rfl 0 rfl ?_
    refine J.geti (κ := 1) (k := 3) hx rfl rfl rfl in_X9 (by decide) (Or.inl q1656) a0.1 dX9_here_16 fun v4 => ?_
    refine J.iald (κ := 40) hx rfl rfl h3.1 dX9_here_19 fun v6 => ?_
    refine J.goto (tgt := 24) hx dX9_here_20 (by decide) ?_
    exact J.iret hx rfl (Nat.le_of_ble_eq_true rfl) (Nat.le_of_ble_eq_true rfl) dX9_here_24
theorem hd_X9_isLetter : yX9_isLetter.cls = RX9 ∧ yX9_isLetter.cls ≠ "java/lang/invoke/MethodHandle" ∧ yX9_isLetter.cls ≠ "java/lang/invoke/VarHandle" ∧ (parseMethodDescriptor yX9_isLetter.desc).map (fun d => d.parameters.length) = some 1 := by decide +kernel
def f_X9_isLetter (p0 : Int32) (w : j_St) : Option (Int32 × j_St) := if p0 < 97 then some (0, w) else if 122 < p0 then some (0, w) else some (1, w)
abbrev rm_X9_isLetter : Room := { frames := 0, cells := 0, slots := 0, locals := 0 }
set_option maxRecDepth 100000 in
set_option maxHeartbeats 4000000 in
theorem mt_X9_isLetter {g : j_G} {B : j_B} {p0 : Int32} {w w' : j_St}  {r : Int32} (h : f_X9_isLetter p0 w = some (r, w')) : j_M g yX9_isLetter cX9_isLetter 1 (some FieldType.boolean) rm_X9_isLetter B [.int p0] w w' (jri r) := by
  refine j_met (rv := jri) (by decide) (Nat.le_of_ble_eq_true rfl) (fun x hx => ?_) h
  unfold f_X9_isLetter
  refine J.sub (lv' := [(0, .int p0)]) [0] rfl ?_
  refine J.iload_n hx dX9_isLetter_0 rfl 0 rfl ?_
  refine J.bipush (v := 97) hx dX9_isLetter_1 (by decide) ?_
  refine J.icmp_lt (tgt := 16) hx dX9_isLetter_3 (by decide) ?_ ?_
  · refine J.iconst (v := 0) hx dX9_isLetter_16 (by decide) ?_
    exact J.zret hx rfl rfl (Nat.le_of_ble_eq_true rfl) (Nat.le_of_ble_eq_true rfl) dX9_isLetter_17
  · refine J.iload_n hx dX9_isLetter_6 rfl 0 rfl ?_
    refine J.bipush (v := 122) hx dX9_isLetter_7 (by decide) ?_
    refine J.icmp_gt (tgt := 16) hx dX9_isLetter_9 (by decide) ?_ ?_
    · refine J.iconst (v := 0) hx dX9_isLetter_16 (by decide) ?_
      exact J.zret hx rfl rfl (Nat.le_of_ble_eq_true rfl) (Nat.le_of_ble_eq_true rfl) dX9_isLetter_17
    · refine J.iconst (v := 1) hx dX9_isLetter_12 (by decide) ?_
      refine J.goto (tgt := 17) hx dX9_isLetter_13 (by decide) ?_
      exact J.zret hx rfl rfl (Nat.le_of_ble_eq_true rfl) (Nat.le_of_ble_eq_true rfl) dX9_isLetter_17
theorem hd_X9_readWord : yX9_readWord.cls = RX9 ∧ yX9_readWord.cls ≠ "java/lang/invoke/MethodHandle" ∧ yX9_readWord.cls ≠ "java/lang/invoke/VarHandle" ∧ (parseMethodDescriptor yX9_readWord.desc).map (fun d => d.parameters.length) = some 0 := by decide +kernel
def f_X9_readWord_L10  (k76 : j_St → Option (Unit × j_St)) : Nat → j_St → Option (Unit × j_St)
  | 0, _ => none
  | n10 + 1, w3 => jcb (f_X9_here w3) fun v4 w5 => jcb (f_X9_isLetter v4 w5) fun v7 w8 => if v7 = 0 then k76 w8 else jlt (jgi w8 1 0 7) fun v10 => jlt (fun (w18 : j_St) => jlt (jgi w18 1 0 3) fun v19 => jlt (jsi w18 1 0 3 (v19 + 1)) fun w20 => f_X9_readWord_L10 k76 n10 w20) fun K63 => if 7 ≤ v10 then K63 w8 else jlt (jgl w8 1 0 9) fun v11 => jcb (f_X9_here w8) fun v12 w13 => jlt (jsl w13 1 0 9 ((((27 * v11) + v12.toInt64) - 97) + 1)) fun w15 => jlt (jgi w15 1 0 7) fun v16 => jlt (jsi w15 1 0 7 (v16 + 1)) fun w17 => K63 w17
def f_X9_readWord  (w : j_St) : Option (Unit × j_St) := jlt (jsl w 1 0 9 0) fun w1 => jlt (jsi w1 1 0 7 0) fun w2 => f_X9_readWord_L10 (fun (w21 : j_St) => jlt (jsi w21 1 0 4 1) fun w22 => some ((), w22)) jFU w2
abbrev rm_X9_readWord : Room := { frames := 1, cells := 0, slots := 0, locals := 20 }
set_option maxRecDepth 100000 in
set_option maxHeartbeats 4000000 in
theorem mt_X9_readWord {g : j_G} {B : j_B}  {w w' : j_St} (a0 : B.2.1 1 0 ∧ B.2.2 1 0) {r : Unit} (h : f_X9_readWord  w = some (r, w')) : j_M g yX9_readWord cX9_readWord 1 none rm_X9_readWord B [.ref (B.1 1 0)] w w' (jrv r) := by
  refine j_met (rv := jrv) (by decide) (Nat.le_of_ble_eq_true rfl) (fun x hx => ?_) h
  unfold f_X9_readWord
  refine J.sub (lv' := [(0, .ref (B.1 1 0))]) [0] rfl ?_
  refine J.aload_n hx dX9_readWord_0 rfl 0 rfl ?_
  refine J.lconst (v := 0) hx dX9_readWord_1 (by decide) ?_
  refine J.putl (κ := 1) (k := 9) hx rfl rfl rfl in_X9 tyX9_ok nmX9 (by decide) (Or.inl q1662) rfl rfl a0.1 rfl dX9_readWord_2 fun w1 => ?_
  refine J.aload_n hx dX9_readWord_5 rfl 0 rfl ?_
  refine J.iconst (v := 0) hx dX9_readWord_6 (by decide) ?_
  refine J.puti (κ := 1) (k := 7) hx rfl rfl rfl in_X9 tyX9_ok nmX9 (by decide) (Or.inl q1660) rfl rfl a0.1 ⟨rfl, rfl⟩ dX9_readWord_7 fun w2 => ?_
  have hL10 : ∀ (k76 : j_St → Option (Unit × j_St)) (hk76 : ∀  (w21 : j_St), J g x 1 B (j_Q g x B rm_X9_readWord jrv) 0 0 (k76 w21) 76 [(0, .ref (B.1 1 0))] [] w21) (n10 : Nat)  (w3 : j_St), J g x 1 B (j_Q g x B rm_X9_readWord jrv) 0 0 (f_X9_readWord_L10 k76 n10 w3) 10 [(0, .ref (B.1 1 0))] [] w3 := by
    intro k76 hk76 n10
    induction n10 with
    | zero =>
      intro w3
      rw [f_X9_readWord_L10]
      exact J.nne
    | succ n10 ih =>
      intro w3
      rw [f_X9_readWord_L10]
      refine J.aload_n hx dX9_readWord_10 rfl 0 rfl ?_
      refine J.calli hx (fun r z1 z => j_callV (κ := 1) hx rfl rfl a0.1 (mt_X9_here a0 z) (lw_V q1845 q1847 qs47 q129 q1848) hd_X9_here rfl ⟨Nat.le_of_ble_eq_true rfl, Nat.le_of_ble_eq_true rfl⟩ (Nat.le_of_ble_eq_true rfl) dX9_readWord_11) ⟨⟨rfl, rfl⟩, Nat.le_of_ble_eq_true rfl, Nat.le_of_ble_eq_true rfl⟩ fun v4 w5 e6 => ?_
      refine J.calli hx (fun r z1 z => j_callS hx (mt_X9_isLetter z) (lw_S q1849 q1850 q129 q1851) hd_X9_isLetter.2 rfl ⟨Nat.le_of_ble_eq_true rfl, Nat.le_of_ble_eq_true rfl⟩ (Nat.le_of_ble_eq_true rfl) dX9_readWord_14) ⟨⟨rfl, rfl⟩, Nat.le_of_ble_eq_true rfl, Nat.le_of_ble_eq_true rfl⟩ fun v7 w8 e9 => ?_
      refine J.if_eq (tgt := 76) hx dX9_readWord_17 (by decide) ?_ ?_
      · exact J.sub [0] rfl (hk76 w8)
      · refine J.aload_n hx dX9_readWord_20 rfl 0 rfl ?_
        refine J.geti (κ := 1) (k := 7) hx rfl rfl rfl in_X9 (by decide) (Or.inl q1660) a0.1 dX9_readWord_21 fun v10 => ?_
        refine J.bipush (v := 7) hx dX9_readWord_24 (by decide) ?_
        refine J.fn (fun (K63 : j_St → Option (Unit × j_St)) => ∀  (w18 : j_St), J g x 1 B (j_Q g x B rm_X9_readWord jrv) 0 0 (K63 w18) 63 [(0, .ref (B.1 1 0))] [] w18) ?_ ?_
        · intro w18
          refine J.aload_n hx dX9_readWord_63 rfl 0 rfl ?_
          refine J.dup hx dX9_readWord_64 rfl ?_
          refine J.geti (κ := 1) (k := 3) hx rfl rfl rfl in_X9 (by decide) (Or.inl q1656) a0.1 dX9_readWord_65 fun v19 => ?_
          refine J.iconst (v := 1) hx dX9_readWord_68 (by decide) ?_
          refine J.iadd hx dX9_readWord_69 ?_
          refine J.puti (κ := 1) (k := 3) hx rfl rfl rfl in_X9 tyX9_ok nmX9 (by decide) (Or.inl q1656) rfl rfl a0.1 ⟨rfl, rfl⟩ dX9_readWord_70 fun w20 => ?_
          refine J.goto (tgt := 10) hx dX9_readWord_73 (by decide) ?_
          exact J.sub [0] rfl (ih w20)
        · intro K63 hK63
          refine J.icmp_ge (tgt := 63) hx dX9_readWord_26 (by decide) ?_ ?_
          · exact J.sub [0] rfl (hK63 w8)
          · refine J.aload_n hx dX9_readWord_29 rfl 0 rfl ?_
            refine J.ldc2 (v := 27) hx q1856 dX9_readWord_30 ?_
            refine J.aload_n hx dX9_readWord_33 rfl 0 rfl ?_
            refine J.getl (κ := 1) (k := 9) hx rfl rfl rfl in_X9 (by decide) (Or.inl q1662) a0.1 dX9_readWord_34 fun v11 => ?_
            refine J.lmul hx dX9_readWord_37 ?_
            refine J.aload_n hx dX9_readWord_38 rfl 0 rfl ?_
            refine J.calli hx (fun r z1 z => j_callV (κ := 1) hx rfl rfl a0.1 (mt_X9_here a0 z) (lw_V q1845 q1847 qs47 q129 q1848) hd_X9_here rfl ⟨Nat.le_of_ble_eq_true rfl, Nat.le_of_ble_eq_true rfl⟩ (Nat.le_of_ble_eq_true rfl) dX9_readWord_39) ⟨⟨rfl, rfl⟩, Nat.le_of_ble_eq_true rfl, Nat.le_of_ble_eq_true rfl⟩ fun v12 w13 e14 => ?_
            refine J.i2l hx dX9_readWord_42 ?_
            refine J.ladd hx dX9_readWord_43 ?_
            refine J.ldc2 (v := 97) hx q1857 dX9_readWord_44 ?_
            refine J.lsub hx dX9_readWord_47 ?_
            refine J.lconst (v := 1) hx dX9_readWord_48 (by decide) ?_
            refine J.ladd hx dX9_readWord_49 ?_
            refine J.putl (κ := 1) (k := 9) hx rfl rfl rfl in_X9 tyX9_ok nmX9 (by decide) (Or.inl q1662) rfl rfl a0.1 rfl dX9_readWord_50 fun w15 => ?_
            refine J.aload_n hx dX9_readWord_53 rfl 0 rfl ?_
            refine J.dup hx dX9_readWord_54 rfl ?_
            refine J.geti (κ := 1) (k := 7) hx rfl rfl rfl in_X9 (by decide) (Or.inl q1660) a0.1 dX9_readWord_55 fun v16 => ?_
            refine J.iconst (v := 1) hx dX9_readWord_58 (by decide) ?_
            refine J.iadd hx dX9_readWord_59 ?_
            refine J.puti (κ := 1) (k := 7) hx rfl rfl rfl in_X9 tyX9_ok nmX9 (by decide) (Or.inl q1660) rfl rfl a0.1 ⟨rfl, rfl⟩ dX9_readWord_60 fun w17 => ?_
            exact J.sub [0] rfl (hK63 w17)
  refine J.sub [0] rfl (hL10 _ ?_ jFU w2)
  · intro w21
    refine J.aload_n hx dX9_readWord_76 rfl 0 rfl ?_
    refine J.iconst (v := 1) hx dX9_readWord_77 (by decide) ?_
    refine J.puti (κ := 1) (k := 4) hx rfl rfl rfl in_X9 tyX9_ok nmX9 (by decide) (Or.inl q1657) rfl rfl a0.1 ⟨rfl, rfl⟩ dX9_readWord_78 fun w22 => ?_
    exact J.vret hx rfl (Nat.le_of_ble_eq_true rfl) (Nat.le_of_ble_eq_true rfl) dX9_readWord_81
theorem hd_X9_isDigit : yX9_isDigit.cls = RX9 ∧ yX9_isDigit.cls ≠ "java/lang/invoke/MethodHandle" ∧ yX9_isDigit.cls ≠ "java/lang/invoke/VarHandle" ∧ (parseMethodDescriptor yX9_isDigit.desc).map (fun d => d.parameters.length) = some 1 := by decide +kernel
def f_X9_isDigit (p0 : Int32) (w : j_St) : Option (Int32 × j_St) := if p0 < 48 then some (0, w) else if 57 < p0 then some (0, w) else some (1, w)
abbrev rm_X9_isDigit : Room := { frames := 0, cells := 0, slots := 0, locals := 0 }
set_option maxRecDepth 100000 in
set_option maxHeartbeats 4000000 in
theorem mt_X9_isDigit {g : j_G} {B : j_B} {p0 : Int32} {w w' : j_St}  {r : Int32} (h : f_X9_isDigit p0 w = some (r, w')) : j_M g yX9_isDigit cX9_isDigit 1 (some FieldType.boolean) rm_X9_isDigit B [.int p0] w w' (jri r) := by
  refine j_met (rv := jri) (by decide) (Nat.le_of_ble_eq_true rfl) (fun x hx => ?_) h
  unfold f_X9_isDigit
  refine J.sub (lv' := [(0, .int p0)]) [0] rfl ?_
  refine J.iload_n hx dX9_isDigit_0 rfl 0 rfl ?_
  refine J.bipush (v := 48) hx dX9_isDigit_1 (by decide) ?_
  refine J.icmp_lt (tgt := 16) hx dX9_isDigit_3 (by decide) ?_ ?_
  · refine J.iconst (v := 0) hx dX9_isDigit_16 (by decide) ?_
    exact J.zret hx rfl rfl (Nat.le_of_ble_eq_true rfl) (Nat.le_of_ble_eq_true rfl) dX9_isDigit_17
  · refine J.iload_n hx dX9_isDigit_6 rfl 0 rfl ?_
    refine J.bipush (v := 57) hx dX9_isDigit_7 (by decide) ?_
    refine J.icmp_gt (tgt := 16) hx dX9_isDigit_9 (by decide) ?_ ?_
    · refine J.iconst (v := 0) hx dX9_isDigit_16 (by decide) ?_
      exact J.zret hx rfl rfl (Nat.le_of_ble_eq_true rfl) (Nat.le_of_ble_eq_true rfl) dX9_isDigit_17
    · refine J.iconst (v := 1) hx dX9_isDigit_12 (by decide) ?_
      refine J.goto (tgt := 17) hx dX9_isDigit_13 (by decide) ?_
      exact J.zret hx rfl rfl (Nat.le_of_ble_eq_true rfl) (Nat.le_of_ble_eq_true rfl) dX9_isDigit_17
theorem hd_X9_readNumber : yX9_readNumber.cls = RX9 ∧ yX9_readNumber.cls ≠ "java/lang/invoke/MethodHandle" ∧ yX9_readNumber.cls ≠ "java/lang/invoke/VarHandle" ∧ (parseMethodDescriptor yX9_readNumber.desc).map (fun d => d.parameters.length) = some 0 := by decide +kernel
def f_X9_readNumber_L46  (k100 : Int32 → j_St → Option (Unit × j_St)) : Nat → Int32 → j_St → Option (Unit × j_St)
  | 0, _, _ => none
  | n46 + 1, v13, w14 => jcb (f_X9_here w14) fun v15 w16 => jcb (f_X9_isDigit v15 w16) fun v18 w19 => if v18 = 0 then k100 v13 w19 else jlt (fun (v25 : Int32) (w26 : j_St) => jlt (jsi w26 1 0 6 v25) fun w27 => jlt (v13 + 1) fun v28 => jlt (jgi w27 1 0 3) fun v29 => jlt (jsi w27 1 0 3 (v29 + 1)) fun w30 => f_X9_readNumber_L46 k100 n46 v28 w30) fun K81 => if 3 ≤ v13 then K81 0 w19 else jlt (jgi w19 1 0 6) fun v21 => jcb (f_X9_here w19) fun v22 w23 => K81 (((10 * v21) + v22) - 48) w23
def f_X9_readNumber  (w : j_St) : Option (Unit × j_St) := jcb (f_X9_here w) fun v1 w2 => jlt (fun (v4 : Int32) (w5 : j_St) => if v4 = 0 ∨ v4 = 1 then jlt (jsi w5 1 0 10 v4) fun w6 => jlt (jgi w6 1 0 3) fun v7 => jlt (jgi w6 1 0 10) fun v8 => jlt (fun (v9 : Int32) (w10 : j_St) => jlt (jsi w10 1 0 3 (v7 + v9)) fun w11 => jlt (jsi w11 1 0 6 0) fun w12 => f_X9_readNumber_L46 (fun (v31 : Int32) (w32 : j_St) => jlt (jgi w32 1 0 10) fun v33 => jlt (fun (v36 : Int32) (w37 : j_St) => jlt (jsi w37 1 0 6 v36) fun w38 => jcb (f_X9_in v31 1 3 w38) fun v39 w40 => if v39 = 0 then jlt (jsi w40 1 0 4 4) fun w42 => some ((), w42) else jlt (jsi w40 1 0 4 2) fun w43 => some ((), w43)) fun K120 => if v33 = 0 then jlt (jgi w32 1 0 6) fun v34 => K120 v34 w32 else jlt (jgi w32 1 0 6) fun v35 => K120 (-v35) w32) jFU 0 w12) fun K35 => if v8 = 0 then K35 0 w6 else K35 1 w6 else none) fun K15 => if v1 = 45 then K15 1 w2 else K15 0 w2
abbrev rm_X9_readNumber : Room := { frames := 1, cells := 0, slots := 0, locals := 22 }
set_option maxRecDepth 100000 in
set_option maxHeartbeats 4000000 in
theorem mt_X9_readNumber {g : j_G} {B : j_B}  {w w' : j_St} (a0 : B.2.1 1 0 ∧ B.2.2 1 0) {r : Unit} (h : f_X9_readNumber  w = some (r, w')) : j_M g yX9_readNumber cX9_readNumber 2 none rm_X9_readNumber B [.ref (B.1 1 0)] w w' (jrv r) := by
  refine j_met (rv := jrv) (by decide) (Nat.le_of_ble_eq_true rfl) (fun x hx => ?_) h
  unfold f_X9_readNumber
  refine J.sub (lv' := [(0, .ref (B.1 1 0))]) [0] rfl ?_
  refine J.aload_n hx dX9_readNumber_0 rfl 0 rfl ?_
  refine J.aload_n hx dX9_readNumber_1 rfl 0 rfl ?_
  refine J.calli hx (fun r z1 z => j_callV (κ := 1) hx rfl rfl a0.1 (mt_X9_here a0 z) (lw_V q1845 q1847 qs47 q129 q1848) hd_X9_here rfl ⟨Nat.le_of_ble_eq_true rfl, Nat.le_of_ble_eq_true rfl⟩ (Nat.le_of_ble_eq_true rfl) dX9_readNumber_2) ⟨⟨rfl, rfl⟩, Nat.le_of_ble_eq_true rfl, Nat.le_of_ble_eq_true rfl⟩ fun v1 w2 e3 => ?_
  refine J.bipush (v := 45) hx dX9_readNumber_5 (by decide) ?_
  refine J.fn (fun (K15 : Int32 → j_St → Option (Unit × j_St)) => ∀ (v4 : Int32) (w5 : j_St), J g x 2 B (j_Q g x B rm_X9_readNumber jrv) 0 0 (K15 v4 w5) 15 [(0, .ref (B.1 1 0))] [.int v4, .ref (B.1 1 0)] w5) ?_ ?_
  · intro v4 w5
    refine J.putz (κ := 1) (k := 10) hx rfl rfl rfl in_X9 tyX9_ok nmX9 (by decide) (Or.inl q1663) rfl rfl a0.1 rfl dX9_readNumber_15 fun w6 => ?_
    refine J.aload_n hx dX9_readNumber_18 rfl 0 rfl ?_
    refine J.dup hx dX9_readNumber_19 rfl ?_
    refine J.geti (κ := 1) (k := 3) hx rfl rfl rfl in_X9 (by decide) (Or.inl q1656) a0.1 dX9_readNumber_20 fun v7 => ?_
    refine J.aload_n hx dX9_readNumber_23 rfl 0 rfl ?_
    refine J.geti (κ := 1) (k := 10) hx rfl rfl rfl in_X9 (by decide) (Or.inl q1663) a0.1 dX9_readNumber_24 fun v8 => ?_
    refine J.fn (fun (K35 : Int32 → j_St → Option (Unit × j_St)) => ∀ (v9 : Int32) (w10 : j_St), J g x 2 B (j_Q g x B rm_X9_readNumber jrv) 0 0 (K35 v9 w10) 35 [(0, .ref (B.1 1 0))] [.int v9, .int v7, .ref (B.1 1 0)] w10) ?_ ?_
    · intro v9 w10
      refine J.iadd hx dX9_readNumber_35 ?_
      refine J.puti (κ := 1) (k := 3) hx rfl rfl rfl in_X9 tyX9_ok nmX9 (by decide) (Or.inl q1656) rfl rfl a0.1 ⟨rfl, rfl⟩ dX9_readNumber_36 fun w11 => ?_
      refine J.iconst (v := 0) hx dX9_readNumber_39 (by decide) ?_
      refine J.istore_n (lv' := [(1, .int 0), (0, .ref (B.1 1 0))]) hx dX9_readNumber_40 rfl (by decide) rfl ?_
      refine J.aload_n hx dX9_readNumber_41 rfl 1 rfl ?_
      refine J.iconst (v := 0) hx dX9_readNumber_42 (by decide) ?_
      refine J.puti (κ := 1) (k := 6) hx rfl rfl rfl in_X9 tyX9_ok nmX9 (by decide) (Or.inl q1659) rfl rfl a0.1 ⟨rfl, rfl⟩ dX9_readNumber_43 fun w12 => ?_
      have hL46 : ∀ (k100 : Int32 → j_St → Option (Unit × j_St)) (hk100 : ∀ (v31 : Int32) (w32 : j_St), J g x 2 B (j_Q g x B rm_X9_readNumber jrv) 0 0 (k100 v31 w32) 100 [(0, .ref (B.1 1 0)), (1, .int v31)] [] w32) (n46 : Nat) (v13 : Int32) (w14 : j_St), J g x 2 B (j_Q g x B rm_X9_readNumber jrv) 0 0 (f_X9_readNumber_L46 k100 n46 v13 w14) 46 [(0, .ref (B.1 1 0)), (1, .int v13)] [] w14 := by
        intro k100 hk100 n46
        induction n46 with
        | zero =>
          intro v13 w14
          rw [f_X9_readNumber_L46]
          exact J.nne
        | succ n46 ih =>
          intro v13 w14
          rw [f_X9_readNumber_L46]
          refine J.aload_n hx dX9_readNumber_46 rfl 0 rfl ?_
          refine J.calli hx (fun r z1 z => j_callV (κ := 1) hx rfl rfl a0.1 (mt_X9_here a0 z) (lw_V q1845 q1847 qs47 q129 q1848) hd_X9_here rfl ⟨Nat.le_of_ble_eq_true rfl, Nat.le_of_ble_eq_true rfl⟩ (Nat.le_of_ble_eq_true rfl) dX9_readNumber_47) ⟨⟨rfl, rfl⟩, Nat.le_of_ble_eq_true rfl, Nat.le_of_ble_eq_true rfl⟩ fun v15 w16 e17 => ?_
          refine J.calli hx (fun r z1 z => j_callS hx (mt_X9_isDigit z) (lw_S q1858 q1859 q129 q1860) hd_X9_isDigit.2 rfl ⟨Nat.le_of_ble_eq_true rfl, Nat.le_of_ble_eq_true rfl⟩ (Nat.le_of_ble_eq_true rfl) dX9_readNumber_50) ⟨⟨rfl, rfl⟩, Nat.le_of_ble_eq_true rfl, Nat.le_of_ble_eq_true rfl⟩ fun v18 w19 e20 => ?_
          refine J.if_eq (tgt := 100) hx dX9_readNumber_53 (by decide) ?_ ?_
          · exact J.sub [0, 1] rfl (hk100 v13 w19)
          · refine J.aload_n hx dX9_readNumber_56 rfl 0 rfl ?_
            refine J.iload_n hx dX9_readNumber_57 rfl 1 rfl ?_
            refine J.iconst (v := 3) hx dX9_readNumber_58 (by decide) ?_
            refine J.fn (fun (K81 : Int32 → j_St → Option (Unit × j_St)) => ∀ (v25 : Int32) (w26 : j_St), J g x 2 B (j_Q g x B rm_X9_readNumber jrv) 0 0 (K81 v25 w26) 81 [(0, .ref (B.1 1 0)), (1, .int v13)] [.int v25, .ref (B.1 1 0)] w26) ?_ ?_
            · intro v25 w26
              refine J.puti (κ := 1) (k := 6) hx rfl rfl rfl in_X9 tyX9_ok nmX9 (by decide) (Or.inl q1659) rfl rfl a0.1 ⟨rfl, rfl⟩ dX9_readNumber_81 fun w27 => ?_
              refine J.nmx fun v28 ev28 => ?_
              refine J.iinc (p := 1) (v := v28) (lv' := [(1, .int v28), (0, .ref (B.1 1 0))]) hx dX9_readNumber_84 rfl (by rw [ev28]; rfl) (by decide) rfl ?_
              refine J.aload_n hx dX9_readNumber_87 rfl 1 rfl ?_
              refine J.dup hx dX9_readNumber_88 rfl ?_
              refine J.geti (κ := 1) (k := 3) hx rfl rfl rfl in_X9 (by decide) (Or.inl q1656) a0.1 dX9_readNumber_89 fun v29 => ?_
              refine J.iconst (v := 1) hx dX9_readNumber_92 (by decide) ?_
              refine J.iadd hx dX9_readNumber_93 ?_
              refine J.puti (κ := 1) (k := 3) hx rfl rfl rfl in_X9 tyX9_ok nmX9 (by decide) (Or.inl q1656) rfl rfl a0.1 ⟨rfl, rfl⟩ dX9_readNumber_94 fun w30 => ?_
              refine J.goto (tgt := 46) hx dX9_readNumber_97 (by decide) ?_
              exact J.sub [1, 0] rfl (ih v28 w30)
            · intro K81 hK81
              refine J.icmp_ge (tgt := 80) hx dX9_readNumber_59 (by decide) ?_ ?_
              · refine J.iconst (v := 0) hx dX9_readNumber_80 (by decide) ?_
                exact J.sub [0, 1] rfl (hK81 0 w19)
              · refine J.bipush (v := 10) hx dX9_readNumber_62 (by decide) ?_
                refine J.aload_n hx dX9_readNumber_64 rfl 0 rfl ?_
                refine J.geti (κ := 1) (k := 6) hx rfl rfl rfl in_X9 (by decide) (Or.inl q1659) a0.1 dX9_readNumber_65 fun v21 => ?_
                refine J.imul hx dX9_readNumber_68 ?_
                refine J.aload_n hx dX9_readNumber_69 rfl 0 rfl ?_
                refine J.calli hx (fun r z1 z => j_callV (κ := 1) hx rfl rfl a0.1 (mt_X9_here a0 z) (lw_V q1845 q1847 qs47 q129 q1848) hd_X9_here rfl ⟨Nat.le_of_ble_eq_true rfl, Nat.le_of_ble_eq_true rfl⟩ (Nat.le_of_ble_eq_true rfl) dX9_readNumber_70) ⟨⟨rfl, rfl⟩, Nat.le_of_ble_eq_true rfl, Nat.le_of_ble_eq_true rfl⟩ fun v22 w23 e24 => ?_
                refine J.iadd hx dX9_readNumber_73 ?_
                refine J.bipush (v := 48) hx dX9_readNumber_74 (by decide) ?_
                refine J.isub hx dX9_readNumber_76 ?_
                refine J.goto (tgt := 81) hx dX9_readNumber_77 (by decide) ?_
                exact J.sub [0, 1] rfl (hK81 (((10 * v21) + v22) - 48) w23)
      refine J.sub [1, 0] rfl (hL46 _ ?_ jFU 0 w12)
      · intro v31 w32
        refine J.aload_n hx dX9_readNumber_100 rfl 0 rfl ?_
        refine J.aload_n hx dX9_readNumber_101 rfl 0 rfl ?_
        refine J.geti (κ := 1) (k := 10) hx rfl rfl rfl in_X9 (by decide) (Or.inl q1663) a0.1 dX9_readNumber_102 fun v33 => ?_
        refine J.fn (fun (K120 : Int32 → j_St → Option (Unit × j_St)) => ∀ (v36 : Int32) (w37 : j_St), J g x 2 B (j_Q g x B rm_X9_readNumber jrv) 0 0 (K120 v36 w37) 120 [(0, .ref (B.1 1 0)), (1, .int v31)] [.int v36, .ref (B.1 1 0)] w37) ?_ ?_
        · intro v36 w37
          refine J.puti (κ := 1) (k := 6) hx rfl rfl rfl in_X9 tyX9_ok nmX9 (by decide) (Or.inl q1659) rfl rfl a0.1 ⟨rfl, rfl⟩ dX9_readNumber_120 fun w38 => ?_
          refine J.aload_n hx dX9_readNumber_123 rfl 0 rfl ?_
          refine J.iload_n hx dX9_readNumber_124 rfl 1 rfl ?_
          refine J.iconst (v := 1) hx dX9_readNumber_125 (by decide) ?_
          refine J.iconst (v := 3) hx dX9_readNumber_126 (by decide) ?_
          refine J.calli hx (fun r z1 z => j_callS hx (mt_X9_in z) (lw_S q1826 q1827 q129 q1828) hd_X9_in.2 rfl ⟨Nat.le_of_ble_eq_true rfl, Nat.le_of_ble_eq_true rfl⟩ (Nat.le_of_ble_eq_true rfl) dX9_readNumber_127) ⟨⟨rfl, rfl⟩, Nat.le_of_ble_eq_true rfl, Nat.le_of_ble_eq_true rfl⟩ fun v39 w40 e41 => ?_
          refine J.if_eq (tgt := 137) hx dX9_readNumber_130 (by decide) ?_ ?_
          · refine J.iconst (v := 4) hx dX9_readNumber_137 (by decide) ?_
            refine J.puti (κ := 1) (k := 4) hx rfl rfl rfl in_X9 tyX9_ok nmX9 (by decide) (Or.inl q1657) rfl rfl a0.1 ⟨rfl, rfl⟩ dX9_readNumber_138 fun w42 => ?_
            exact J.vret hx rfl (Nat.le_of_ble_eq_true rfl) (Nat.le_of_ble_eq_true rfl) dX9_readNumber_141
          · refine J.iconst (v := 2) hx dX9_readNumber_133 (by decide) ?_
            refine J.goto (tgt := 138) hx dX9_readNumber_134 (by decide) ?_
            refine J.puti (κ := 1) (k := 4) hx rfl rfl rfl in_X9 tyX9_ok nmX9 (by decide) (Or.inl q1657) rfl rfl a0.1 ⟨rfl, rfl⟩ dX9_readNumber_138 fun w43 => ?_
            exact J.vret hx rfl (Nat.le_of_ble_eq_true rfl) (Nat.le_of_ble_eq_true rfl) dX9_readNumber_141
        · intro K120 hK120
          refine J.if_eq (tgt := 116) hx dX9_readNumber_105 (by decide) ?_ ?_
          · refine J.aload_n hx dX9_readNumber_116 rfl 0 rfl ?_
            refine J.geti (κ := 1) (k := 6) hx rfl rfl rfl in_X9 (by decide) (Or.inl q1659) a0.1 dX9_readNumber_117 fun v34 => ?_
            exact J.sub [0, 1] rfl (hK120 v34 w32)
          · refine J.aload_n hx dX9_readNumber_108 rfl 0 rfl ?_
            refine J.geti (κ := 1) (k := 6) hx rfl rfl rfl in_X9 (by decide) (Or.inl q1659) a0.1 dX9_readNumber_109 fun v35 => ?_
            refine J.ineg hx dX9_readNumber_112 ?_
            refine J.goto (tgt := 120) hx dX9_readNumber_113 (by decide) ?_
            exact J.sub [0, 1] rfl (hK120 (-v35) w32)
    · intro K35 hK35
      refine J.if_eq (tgt := 34) hx dX9_readNumber_27 (by decide) ?_ ?_
      · refine J.iconst (v := 0) hx dX9_readNumber_34 (by decide) ?_
        exact J.sub [0] rfl (hK35 0 w6)
      · refine J.iconst (v := 1) hx dX9_readNumber_30 (by decide) ?_
        refine J.goto (tgt := 35) hx dX9_readNumber_31 (by decide) ?_
        exact J.sub [0] rfl (hK35 1 w6)
  · intro K15 hK15
    refine J.icmp_ne (tgt := 14) hx dX9_readNumber_7 (by decide) ?_ ?_
    · refine J.iconst (v := 1) hx dX9_readNumber_10 (by decide) ?_
      refine J.goto (tgt := 15) hx dX9_readNumber_11 (by decide) ?_
      exact J.sub [0] rfl (hK15 1 w2)
    · refine J.iconst (v := 0) hx dX9_readNumber_14 (by decide) ?_
      exact J.sub [0] rfl (hK15 0 w2)
theorem hd_X9_next : yX9_next.cls = RX9 ∧ yX9_next.cls ≠ "java/lang/invoke/MethodHandle" ∧ yX9_next.cls ≠ "java/lang/invoke/VarHandle" ∧ (parseMethodDescriptor yX9_next.desc).map (fun d => d.parameters.length) = some 0 := by decide +kernel
def f_X9_next_L0  (k22 : j_St → Option (Unit × j_St)) : Nat → j_St → Option (Unit × j_St)
  | 0, _ => none
  | n0 + 1, w1 => jcb (f_X9_here w1) fun v2 w3 => if v2 = 32 then jlt (jgi w3 1 0 3) fun v5 => jlt (jsi w3 1 0 3 (v5 + 1)) fun w6 => f_X9_next_L0 k22 n0 w6 else k22 w3
def f_X9_next  (w : j_St) : Option (Unit × j_St) := f_X9_next_L0 (fun (w7 : j_St) => jlt (jgi w7 1 0 3) fun v8 => jlt (jsi w7 1 0 5 v8) fun w9 => jcb (f_X9_here w9) fun v10 w11 => if v10 = (-1) then jlt (jsi w11 1 0 4 0) fun w30 => some ((), w30) else jcb (f_X9_isLetter v10 w11) fun v13 w14 => if v13 = 0 then jcb (f_X9_isDigit v10 w14) fun v16 w17 => jlt (fun (w23 : j_St) => jcb (f_X9_readNumber w23) fun _ w25 => some ((), w25)) fun K75 => if v16 = 0 then if v10 = 45 then K75 w17 else jlt (jgi w17 1 0 3) fun v19 => jlt (jsi w17 1 0 3 (v19 + 1)) fun w20 => if v10 = 59 then jlt (jsi w20 1 0 4 3) fun w22 => some ((), w22) else jlt (jsi w20 1 0 4 4) fun w21 => some ((), w21) else K75 w17 else jcb (f_X9_readWord w14) fun _ w28 => some ((), w28)) jFU w
abbrev rm_X9_next : Room := { frames := 2, cells := 0, slots := 0, locals := 43 }
set_option maxRecDepth 100000 in
set_option maxHeartbeats 4000000 in
theorem mt_X9_next {g : j_G} {B : j_B}  {w w' : j_St} (a0 : B.2.1 1 0 ∧ B.2.2 1 0) {r : Unit} (h : f_X9_next  w = some (r, w')) : j_M g yX9_next cX9_next 2 none rm_X9_next B [.ref (B.1 1 0)] w w' (jrv r) := by
  refine j_met (rv := jrv) (by decide) (Nat.le_of_ble_eq_true rfl) (fun x hx => ?_) h
  unfold f_X9_next
  refine J.sub (lv' := [(0, .ref (B.1 1 0))]) [0] rfl ?_
  have hL0 : ∀ (k22 : j_St → Option (Unit × j_St)) (hk22 : ∀  (w7 : j_St), J g x 2 B (j_Q g x B rm_X9_next jrv) 0 0 (k22 w7) 22 [(0, .ref (B.1 1 0))] [] w7) (n0 : Nat)  (w1 : j_St), J g x 2 B (j_Q g x B rm_X9_next jrv) 0 0 (f_X9_next_L0 k22 n0 w1) 0 [(0, .ref (B.1 1 0))] [] w1 := by
    intro k22 hk22 n0
    induction n0 with
    | zero =>
      intro w1
      rw [f_X9_next_L0]
      exact J.nne
    | succ n0 ih =>
      intro w1
      rw [f_X9_next_L0]
      refine J.aload_n hx dX9_next_0 rfl 0 rfl ?_
      refine J.calli hx (fun r z1 z => j_callV (κ := 1) hx rfl rfl a0.1 (mt_X9_here a0 z) (lw_V q1845 q1847 qs47 q129 q1848) hd_X9_here rfl ⟨Nat.le_of_ble_eq_true rfl, Nat.le_of_ble_eq_true rfl⟩ (Nat.le_of_ble_eq_true rfl) dX9_next_1) ⟨⟨rfl, rfl⟩, Nat.le_of_ble_eq_true rfl, Nat.le_of_ble_eq_true rfl⟩ fun v2 w3 e4 => ?_
      refine J.bipush (v := 32) hx dX9_next_4 (by decide) ?_
      refine J.icmp_ne (tgt := 22) hx dX9_next_6 (by decide) ?_ ?_
      · refine J.aload_n hx dX9_next_9 rfl 0 rfl ?_
        refine J.dup hx dX9_next_10 rfl ?_
        refine J.geti (κ := 1) (k := 3) hx rfl rfl rfl in_X9 (by decide) (Or.inl q1656) a0.1 dX9_next_11 fun v5 => ?_
        refine J.iconst (v := 1) hx dX9_next_14 (by decide) ?_
        refine J.iadd hx dX9_next_15 ?_
        refine J.puti (κ := 1) (k := 3) hx rfl rfl rfl in_X9 tyX9_ok nmX9 (by decide) (Or.inl q1656) rfl rfl a0.1 ⟨rfl, rfl⟩ dX9_next_16 fun w6 => ?_
        refine J.goto (tgt := 0) hx dX9_next_19 (by decide) ?_
        exact J.sub [0] rfl (ih w6)
      · exact J.sub [0] rfl (hk22 w3)
  refine J.sub [0] rfl (hL0 _ ?_ jFU w)
  · intro w7
    refine J.aload_n hx dX9_next_22 rfl 0 rfl ?_
    refine J.aload_n hx dX9_next_23 rfl 0 rfl ?_
    refine J.geti (κ := 1) (k := 3) hx rfl rfl rfl in_X9 (by decide) (Or.inl q1656) a0.1 dX9_next_24 fun v8 => ?_
    refine J.puti (κ := 1) (k := 5) hx rfl rfl rfl in_X9 tyX9_ok nmX9 (by decide) (Or.inl q1658) rfl rfl a0.1 ⟨rfl, rfl⟩ dX9_next_27 fun w9 => ?_
    refine J.aload_n hx dX9_next_30 rfl 0 rfl ?_
    refine J.calli hx (fun r z1 z => j_callV (κ := 1) hx rfl rfl a0.1 (mt_X9_here a0 z) (lw_V q1845 q1847 qs47 q129 q1848) hd_X9_here rfl ⟨Nat.le_of_ble_eq_true rfl, Nat.le_of_ble_eq_true rfl⟩ (Nat.le_of_ble_eq_true rfl) dX9_next_31) ⟨⟨rfl, rfl⟩, Nat.le_of_ble_eq_true rfl, Nat.le_of_ble_eq_true rfl⟩ fun v10 w11 e12 => ?_
    refine J.istore_n (lv' := [(1, .int v10), (0, .ref (B.1 1 0))]) hx dX9_next_34 rfl (by decide) rfl ?_
    refine J.iload_n hx dX9_next_35 rfl 0 rfl ?_
    refine J.iconst (v := (-1)) hx dX9_next_36 (by decide) ?_
    refine J.icmp_ne (tgt := 48) hx dX9_next_37 (by decide) ?_ ?_
    · refine J.aload_n hx dX9_next_40 rfl 1 rfl ?_
      refine J.iconst (v := 0) hx dX9_next_41 (by decide) ?_
      refine J.puti (κ := 1) (k := 4) hx rfl rfl rfl in_X9 tyX9_ok nmX9 (by decide) (Or.inl q1657) rfl rfl a0.1 ⟨rfl, rfl⟩ dX9_next_42 fun w30 => ?_
      refine J.goto (tgt := 107) hx dX9_next_45 (by decide) ?_
      exact J.vret hx rfl (Nat.le_of_ble_eq_true rfl) (Nat.le_of_ble_eq_true rfl) dX9_next_107
    · refine J.iload_n hx dX9_next_48 rfl 0 rfl ?_
      refine J.calli hx (fun r z1 z => j_callS hx (mt_X9_isLetter z) (lw_S q1849 q1850 q129 q1851) hd_X9_isLetter.2 rfl ⟨Nat.le_of_ble_eq_true rfl, Nat.le_of_ble_eq_true rfl⟩ (Nat.le_of_ble_eq_true rfl) dX9_next_49) ⟨⟨rfl, rfl⟩, Nat.le_of_ble_eq_true rfl, Nat.le_of_ble_eq_true rfl⟩ fun v13 w14 e15 => ?_
      refine J.if_eq (tgt := 62) hx dX9_next_52 (by decide) ?_ ?_
      · refine J.iload_n hx dX9_next_62 rfl 0 rfl ?_
        refine J.calli hx (fun r z1 z => j_callS hx (mt_X9_isDigit z) (lw_S q1858 q1859 q129 q1860) hd_X9_isDigit.2 rfl ⟨Nat.le_of_ble_eq_true rfl, Nat.le_of_ble_eq_true rfl⟩ (Nat.le_of_ble_eq_true rfl) dX9_next_63) ⟨⟨rfl, rfl⟩, Nat.le_of_ble_eq_true rfl, Nat.le_of_ble_eq_true rfl⟩ fun v16 w17 e18 => ?_
        refine J.fn (fun (K75 : j_St → Option (Unit × j_St)) => ∀  (w23 : j_St), J g x 2 B (j_Q g x B rm_X9_next jrv) 0 0 (K75 w23) 75 [(0, .ref (B.1 1 0))] [] w23) ?_ ?_
        · intro w23
          refine J.aload_n hx dX9_next_75 rfl 0 rfl ?_
          refine J.callv hx (fun r z1 z => j_callV (κ := 1) hx rfl rfl a0.1 (mt_X9_readNumber a0 z) (lw_V q1861 q1863 qs49 q129 q1864) hd_X9_readNumber rfl ⟨Nat.le_of_ble_eq_true rfl, Nat.le_of_ble_eq_true rfl⟩ (Nat.le_of_ble_eq_true rfl) dX9_next_76) ⟨⟨rfl, rfl⟩, Nat.le_of_ble_eq_true rfl, Nat.le_of_ble_eq_true rfl⟩ fun _ w25 e26 => ?_
          refine J.goto (tgt := 107) hx dX9_next_79 (by decide) ?_
          exact J.vret hx rfl (Nat.le_of_ble_eq_true rfl) (Nat.le_of_ble_eq_true rfl) dX9_next_107
        · intro K75 hK75
          refine J.if_ne (tgt := 75) hx dX9_next_66 (by decide) ?_ ?_
          · refine J.iload_n hx dX9_next_69 rfl 0 rfl ?_
            refine J.bipush (v := 45) hx dX9_next_70 (by decide) ?_
            refine J.icmp_ne (tgt := 82) hx dX9_next_72 (by decide) ?_ ?_
            · exact J.sub [1] rfl (hK75 w17)
            · refine J.aload_n hx dX9_next_82 rfl 1 rfl ?_
              refine J.dup hx dX9_next_83 rfl ?_
              refine J.geti (κ := 1) (k := 3) hx rfl rfl rfl in_X9 (by decide) (Or.inl q1656) a0.1 dX9_next_84 fun v19 => ?_
              refine J.iconst (v := 1) hx dX9_next_87 (by decide) ?_
              refine J.iadd hx dX9_next_88 ?_
              refine J.puti (κ := 1) (k := 3) hx rfl rfl rfl in_X9 tyX9_ok nmX9 (by decide) (Or.inl q1656) rfl rfl a0.1 ⟨rfl, rfl⟩ dX9_next_89 fun w20 => ?_
              refine J.aload_n hx dX9_next_92 rfl 1 rfl ?_
              refine J.iload_n hx dX9_next_93 rfl 0 rfl ?_
              refine J.bipush (v := 59) hx dX9_next_94 (by decide) ?_
              refine J.icmp_ne (tgt := 103) hx dX9_next_96 (by decide) ?_ ?_
              · refine J.iconst (v := 3) hx dX9_next_99 (by decide) ?_
                refine J.goto (tgt := 104) hx dX9_next_100 (by decide) ?_
                refine J.puti (κ := 1) (k := 4) hx rfl rfl rfl in_X9 tyX9_ok nmX9 (by decide) (Or.inl q1657) rfl rfl a0.1 ⟨rfl, rfl⟩ dX9_next_104 fun w22 => ?_
                exact J.vret hx rfl (Nat.le_of_ble_eq_true rfl) (Nat.le_of_ble_eq_true rfl) dX9_next_107
              · refine J.iconst (v := 4) hx dX9_next_103 (by decide) ?_
                refine J.puti (κ := 1) (k := 4) hx rfl rfl rfl in_X9 tyX9_ok nmX9 (by decide) (Or.inl q1657) rfl rfl a0.1 ⟨rfl, rfl⟩ dX9_next_104 fun w21 => ?_
                exact J.vret hx rfl (Nat.le_of_ble_eq_true rfl) (Nat.le_of_ble_eq_true rfl) dX9_next_107
          · exact J.sub [1] rfl (hK75 w17)
      · refine J.aload_n hx dX9_next_55 rfl 1 rfl ?_
        refine J.callv hx (fun r z1 z => j_callV (κ := 1) hx rfl rfl a0.1 (mt_X9_readWord a0 z) (lw_V q1852 q1854 qs48 q129 q1855) hd_X9_readWord rfl ⟨Nat.le_of_ble_eq_true rfl, Nat.le_of_ble_eq_true rfl⟩ (Nat.le_of_ble_eq_true rfl) dX9_next_56) ⟨⟨rfl, rfl⟩, Nat.le_of_ble_eq_true rfl, Nat.le_of_ble_eq_true rfl⟩ fun _ w28 e29 => ?_
        refine J.goto (tgt := 107) hx dX9_next_59 (by decide) ?_
        exact J.vret hx rfl (Nat.le_of_ble_eq_true rfl) (Nat.le_of_ble_eq_true rfl) dX9_next_107
theorem hd_X9_begins : yX9_begins.cls = RX9 ∧ yX9_begins.cls ≠ "java/lang/invoke/MethodHandle" ∧ yX9_begins.cls ≠ "java/lang/invoke/VarHandle" ∧ (parseMethodDescriptor yX9_begins.desc).map (fun d => d.parameters.length) = some 0 := by decide +kernel
def f_X9_begins  (w : j_St) : Option (Unit × j_St) := jlt (jsi w 1 0 3 0) fun w1 => jlt (jsi w1 1 0 8 (-1)) fun w2 => jcb (f_X9_next w2) fun _ w4 => some ((), w4)
abbrev rm_X9_begins : Room := { frames := 3, cells := 0, slots := 0, locals := 64 }
set_option maxRecDepth 100000 in
set_option maxHeartbeats 4000000 in
theorem mt_X9_begins {g : j_G} {B : j_B}  {w w' : j_St} (a0 : B.2.1 1 0 ∧ B.2.2 1 0) {r : Unit} (h : f_X9_begins  w = some (r, w')) : j_M g yX9_begins cX9_begins 1 none rm_X9_begins B [.ref (B.1 1 0)] w w' (jrv r) := by
  refine j_met (rv := jrv) (by decide) (Nat.le_of_ble_eq_true rfl) (fun x hx => ?_) h
  unfold f_X9_begins
  refine J.sub (lv' := [(0, .ref (B.1 1 0))]) [0] rfl ?_
  refine J.aload_n hx dX9_begins_0 rfl 0 rfl ?_
  refine J.iconst (v := 0) hx dX9_begins_1 (by decide) ?_
  refine J.puti (κ := 1) (k := 3) hx rfl rfl rfl in_X9 tyX9_ok nmX9 (by decide) (Or.inl q1656) rfl rfl a0.1 ⟨rfl, rfl⟩ dX9_begins_2 fun w1 => ?_
  refine J.aload_n hx dX9_begins_5 rfl 0 rfl ?_
  refine J.iconst (v := (-1)) hx dX9_begins_6 (by decide) ?_
  refine J.puti (κ := 1) (k := 8) hx rfl rfl rfl in_X9 tyX9_ok nmX9 (by decide) (Or.inl q1661) rfl rfl a0.1 ⟨rfl, rfl⟩ dX9_begins_7 fun w2 => ?_
  refine J.aload_n hx dX9_begins_10 rfl 0 rfl ?_
  refine J.callv hx (fun r z1 z => j_callV (κ := 1) hx rfl rfl a0.1 (mt_X9_next a0 z) (lw_V q1841 q1843 qs46 q129 q1844) hd_X9_next rfl ⟨Nat.le_of_ble_eq_true rfl, Nat.le_of_ble_eq_true rfl⟩ (Nat.le_of_ble_eq_true rfl) dX9_begins_11) ⟨⟨rfl, rfl⟩, Nat.le_of_ble_eq_true rfl, Nat.le_of_ble_eq_true rfl⟩ fun _ w4 e5 => ?_
  exact J.vret hx rfl (Nat.le_of_ble_eq_true rfl) (Nat.le_of_ble_eq_true rfl) dX9_begins_14
theorem hd_X9_isWord : yX9_isWord.cls = RX9 ∧ yX9_isWord.cls ≠ "java/lang/invoke/MethodHandle" ∧ yX9_isWord.cls ≠ "java/lang/invoke/VarHandle" ∧ (parseMethodDescriptor yX9_isWord.desc).map (fun d => d.parameters.length) = some 1 := by decide +kernel
def f_X9_isWord (p1 : Int64) (w : j_St) : Option (Int32 × j_St) := jlt (jgi w 1 0 4) fun v1 => if v1 = 1 then jlt (jgl w 1 0 9) fun v2 => if lg_cmp v2 p1 = 0 then some (1, w) else some (0, w) else some (0, w)
abbrev rm_X9_isWord : Room := { frames := 0, cells := 0, slots := 0, locals := 0 }
set_option maxRecDepth 100000 in
set_option maxHeartbeats 4000000 in
theorem mt_X9_isWord {g : j_G} {B : j_B} {p1 : Int64} {w w' : j_St} (a0 : B.2.1 1 0 ∧ B.2.2 1 0) {r : Int32} (h : f_X9_isWord p1 w = some (r, w')) : j_M g yX9_isWord cX9_isWord 3 (some FieldType.boolean) rm_X9_isWord B [.ref (B.1 1 0), .long p1] w w' (jri r) := by
  refine j_met (rv := jri) (by decide) (Nat.le_of_ble_eq_true rfl) (fun x hx => ?_) h
  unfold f_X9_isWord
  refine J.sub (lv' := [(0, .ref (B.1 1 0)), (1, .long p1)]) [0, 1] rfl ?_
  refine J.aload_n hx dX9_isWord_0 rfl 0 rfl ?_
  refine J.geti (κ := 1) (k := 4) hx rfl rfl rfl in_X9 (by decide) (Or.inl q1657) a0.1 dX9_isWord_1 fun v1 => ?_
  refine J.iconst (v := 1) hx dX9_isWord_4 (by decide) ?_
  refine J.icmp_ne (tgt := 21) hx dX9_isWord_5 (by decide) ?_ ?_
  · refine J.aload_n hx dX9_isWord_8 rfl 0 rfl ?_
    refine J.getl (κ := 1) (k := 9) hx rfl rfl rfl in_X9 (by decide) (Or.inl q1662) a0.1 dX9_isWord_9 fun v2 => ?_
    refine J.lload_n hx dX9_isWord_12 rfl 1 rfl ?_
    refine J.lcmp hx dX9_isWord_13 ?_
    refine J.if_ne (tgt := 21) hx dX9_isWord_14 (by decide) ?_ ?_
    · refine J.iconst (v := 1) hx dX9_isWord_17 (by decide) ?_
      refine J.goto (tgt := 22) hx dX9_isWord_18 (by decide) ?_
      exact J.zret hx rfl rfl (Nat.le_of_ble_eq_true rfl) (Nat.le_of_ble_eq_true rfl) dX9_isWord_22
    · refine J.iconst (v := 0) hx dX9_isWord_21 (by decide) ?_
      exact J.zret hx rfl rfl (Nat.le_of_ble_eq_true rfl) (Nat.le_of_ble_eq_true rfl) dX9_isWord_22
  · refine J.iconst (v := 0) hx dX9_isWord_21 (by decide) ?_
    exact J.zret hx rfl rfl (Nat.le_of_ble_eq_true rfl) (Nat.le_of_ble_eq_true rfl) dX9_isWord_22
theorem hd_X9_has : yX9_has.cls = RX9 ∧ yX9_has.cls ≠ "java/lang/invoke/MethodHandle" ∧ yX9_has.cls ≠ "java/lang/invoke/VarHandle" ∧ (parseMethodDescriptor yX9_has.desc).map (fun d => d.parameters.length) = some 2 := by decide +kernel
def f_X9_has (p0 : Int32) (p1 : Int32) (w : j_St) : Option (Int32 × j_St) := if (p0 >>> (p1 &&& 31)) &&& 1 = 1 then some (1, w) else some (0, w)
abbrev rm_X9_has : Room := { frames := 0, cells := 0, slots := 0, locals := 0 }
set_option maxRecDepth 100000 in
set_option maxHeartbeats 4000000 in
theorem mt_X9_has {g : j_G} {B : j_B} {p0 : Int32} {p1 : Int32} {w w' : j_St}  {r : Int32} (h : f_X9_has p0 p1 w = some (r, w')) : j_M g yX9_has cX9_has 2 (some FieldType.boolean) rm_X9_has B [.int p0, .int p1] w w' (jri r) := by
  refine j_met (rv := jri) (by decide) (Nat.le_of_ble_eq_true rfl) (fun x hx => ?_) h
  unfold f_X9_has
  refine J.sub (lv' := [(0, .int p0), (1, .int p1)]) [0, 1] rfl ?_
  refine J.iload_n hx dX9_has_0 rfl 0 rfl ?_
  refine J.iload_n hx dX9_has_1 rfl 1 rfl ?_
  refine J.ishr hx dX9_has_2 ?_
  refine J.iconst (v := 1) hx dX9_has_3 (by decide) ?_
  refine J.iand hx dX9_has_4 ?_
  refine J.iconst (v := 1) hx dX9_has_5 (by decide) ?_
  refine J.icmp_ne (tgt := 13) hx dX9_has_6 (by decide) ?_ ?_
  · refine J.iconst (v := 1) hx dX9_has_9 (by decide) ?_
    refine J.goto (tgt := 14) hx dX9_has_10 (by decide) ?_
    exact J.zret hx rfl rfl (Nat.le_of_ble_eq_true rfl) (Nat.le_of_ble_eq_true rfl) dX9_has_14
  · refine J.iconst (v := 0) hx dX9_has_13 (by decide) ?_
    exact J.zret hx rfl rfl (Nat.le_of_ble_eq_true rfl) (Nat.le_of_ble_eq_true rfl) dX9_has_14
theorem hd_X9_bad : yX9_bad.cls = RX9 ∧ yX9_bad.cls ≠ "java/lang/invoke/MethodHandle" ∧ yX9_bad.cls ≠ "java/lang/invoke/VarHandle" ∧ (parseMethodDescriptor yX9_bad.desc).map (fun d => d.parameters.length) = some 0 := by decide +kernel
def f_X9_bad  (w : j_St) : Option (Unit × j_St) := jlt (jgi w 1 0 8) fun v1 => if v1 = (-1) then jlt (jgi w 1 0 5) fun v4 => jlt (jsi w 1 0 8 v4) fun w5 => some ((), w5) else jlt (jgi w 1 0 8) fun v2 => jlt (jsi w 1 0 8 v2) fun w3 => some ((), w3)
abbrev rm_X9_bad : Room := { frames := 0, cells := 0, slots := 0, locals := 0 }
set_option maxRecDepth 100000 in
set_option maxHeartbeats 4000000 in
theorem mt_X9_bad {g : j_G} {B : j_B}  {w w' : j_St} (a0 : B.2.1 1 0 ∧ B.2.2 1 0) {r : Unit} (h : f_X9_bad  w = some (r, w')) : j_M g yX9_bad cX9_bad 1 none rm_X9_bad B [.ref (B.1 1 0)] w w' (jrv r) := by
  refine j_met (rv := jrv) (by decide) (Nat.le_of_ble_eq_true rfl) (fun x hx => ?_) h
  unfold f_X9_bad
  refine J.sub (lv' := [(0, .ref (B.1 1 0))]) [0] rfl ?_
  refine J.aload_n hx dX9_bad_0 rfl 0 rfl ?_
  refine J.aload_n hx dX9_bad_1 rfl 0 rfl ?_
  refine J.geti (κ := 1) (k := 8) hx rfl rfl rfl in_X9 (by decide) (Or.inl q1661) a0.1 dX9_bad_2 fun v1 => ?_
  refine J.iconst (v := (-1)) hx dX9_bad_5 (by decide) ?_
  refine J.icmp_ne (tgt := 16) hx dX9_bad_6 (by decide) ?_ ?_
  · refine J.aload_n hx dX9_bad_9 rfl 0 rfl ?_
    refine J.geti (κ := 1) (k := 5) hx rfl rfl rfl in_X9 (by decide) (Or.inl q1658) a0.1 dX9_bad_10 fun v4 => ?_
    refine J.goto (tgt := 20) hx dX9_bad_13 (by decide) ?_
    refine J.puti (κ := 1) (k := 8) hx rfl rfl rfl in_X9 tyX9_ok nmX9 (by decide) (Or.inl q1661) rfl rfl a0.1 ⟨rfl, rfl⟩ dX9_bad_20 fun w5 => ?_
    exact J.vret hx rfl (Nat.le_of_ble_eq_true rfl) (Nat.le_of_ble_eq_true rfl) dX9_bad_23
  · refine J.aload_n hx dX9_bad_16 rfl 0 rfl ?_
    refine J.geti (κ := 1) (k := 8) hx rfl rfl rfl in_X9 (by decide) (Or.inl q1661) a0.1 dX9_bad_17 fun v2 => ?_
    refine J.puti (κ := 1) (k := 8) hx rfl rfl rfl in_X9 tyX9_ok nmX9 (by decide) (Or.inl q1661) rfl rfl a0.1 ⟨rfl, rfl⟩ dX9_bad_20 fun w3 => ?_
    exact J.vret hx rfl (Nat.le_of_ble_eq_true rfl) (Nat.le_of_ble_eq_true rfl) dX9_bad_23
theorem hd_X9_number : yX9_number.cls = RX9 ∧ yX9_number.cls ≠ "java/lang/invoke/MethodHandle" ∧ yX9_number.cls ≠ "java/lang/invoke/VarHandle" ∧ (parseMethodDescriptor yX9_number.desc).map (fun d => d.parameters.length) = some 2 := by decide +kernel
def f_X9_number (p1 : Int32) (p2 : Int32) (w : j_St) : Option (Int32 × j_St) := jlt (jgi w 1 0 8) fun v1 => jlt (fun (w12 : j_St) => jcb (f_X9_bad w12) fun _ w14 => some (p1, w14)) fun K35 => if v1 = (-1) then jlt (jgi w 1 0 4) fun v2 => if v2 = 2 then jlt (jgi w 1 0 10) fun v3 => if v3 = 0 then jlt (jgi w 1 0 6) fun v4 => jcb (f_X9_in v4 p1 p2 w) fun v5 w6 => if v5 = 0 then K35 w6 else jlt (jgi w6 1 0 6) fun v8 => jcb (f_X9_next w6) fun _ w10 => some (v8, w10) else K35 w else K35 w else K35 w
abbrev rm_X9_number : Room := { frames := 3, cells := 0, slots := 0, locals := 64 }
set_option maxRecDepth 100000 in
set_option maxHeartbeats 4000000 in
theorem mt_X9_number {g : j_G} {B : j_B} {p1 : Int32} {p2 : Int32} {w w' : j_St} (a0 : B.2.1 1 0 ∧ B.2.2 1 0) {r : Int32} (h : f_X9_number p1 p2 w = some (r, w')) : j_M g yX9_number cX9_number 4 (some FieldType.int) rm_X9_number B [.ref (B.1 1 0), .int p1, .int p2] w w' (jri r) := by
  refine j_met (rv := jri) (by decide) (Nat.le_of_ble_eq_true rfl) (fun x hx => ?_) h
  unfold f_X9_number
  refine J.sub (lv' := [(0, .ref (B.1 1 0)), (1, .int p1), (2, .int p2)]) [0, 1, 2] rfl ?_
  refine J.aload_n hx dX9_number_0 rfl 0 rfl ?_
  refine J.geti (κ := 1) (k := 8) hx rfl rfl rfl in_X9 (by decide) (Or.inl q1661) a0.1 dX9_number_1 fun v1 => ?_
  refine J.iconst (v := (-1)) hx dX9_number_4 (by decide) ?_
  refine J.fn (fun (K35 : j_St → Option (Int32 × j_St)) => ∀  (w12 : j_St), J g x 4 B (j_Q g x B rm_X9_number jri) 0 0 (K35 w12) 35 [(0, .ref (B.1 1 0)), (1, .int p1)] [] w12) ?_ ?_
  · intro w12
    refine J.aload_n hx dX9_number_35 rfl 0 rfl ?_
    refine J.callv hx (fun r z1 z => j_callV (κ := 1) hx rfl rfl a0.1 (mt_X9_bad a0 z) (lw_V q1884 q1886 qs52 q129 q1887) hd_X9_bad rfl ⟨Nat.le_of_ble_eq_true rfl, Nat.le_of_ble_eq_true rfl⟩ (Nat.le_of_ble_eq_true rfl) dX9_number_36) ⟨⟨rfl, rfl⟩, Nat.le_of_ble_eq_true rfl, Nat.le_of_ble_eq_true rfl⟩ fun _ w14 e15 => ?_
    refine J.iload_n hx dX9_number_39 rfl 1 rfl ?_
    exact J.iret hx rfl (Nat.le_of_ble_eq_true rfl) (Nat.le_of_ble_eq_true rfl) dX9_number_40
  · intro K35 hK35
    refine J.icmp_ne (tgt := 35) hx dX9_number_5 (by decide) ?_ ?_
    · refine J.aload_n hx dX9_number_8 rfl 0 rfl ?_
      refine J.geti (κ := 1) (k := 4) hx rfl rfl rfl in_X9 (by decide) (Or.inl q1657) a0.1 dX9_number_9 fun v2 => ?_
      refine J.iconst (v := 2) hx dX9_number_12 (by decide) ?_
      refine J.icmp_ne (tgt := 35) hx dX9_number_13 (by decide) ?_ ?_
      · refine J.aload_n hx dX9_number_16 rfl 0 rfl ?_
        refine J.geti (κ := 1) (k := 10) hx rfl rfl rfl in_X9 (by decide) (Or.inl q1663) a0.1 dX9_number_17 fun v3 => ?_
        refine J.if_ne (tgt := 35) hx dX9_number_20 (by decide) ?_ ?_
        · refine J.aload_n hx dX9_number_23 rfl 0 rfl ?_
          refine J.geti (κ := 1) (k := 6) hx rfl rfl rfl in_X9 (by decide) (Or.inl q1659) a0.1 dX9_number_24 fun v4 => ?_
          refine J.iload_n hx dX9_number_27 rfl 1 rfl ?_
          refine J.iload_n hx dX9_number_28 rfl 2 rfl ?_
          refine J.calli hx (fun r z1 z => j_callS hx (mt_X9_in z) (lw_S q1826 q1827 q129 q1828) hd_X9_in.2 rfl ⟨Nat.le_of_ble_eq_true rfl, Nat.le_of_ble_eq_true rfl⟩ (Nat.le_of_ble_eq_true rfl) dX9_number_29) ⟨⟨rfl, rfl⟩, Nat.le_of_ble_eq_true rfl, Nat.le_of_ble_eq_true rfl⟩ fun v5 w6 e7 => ?_
          refine J.if_ne (tgt := 41) hx dX9_number_32 (by decide) ?_ ?_
          · exact J.sub [0, 1] rfl (hK35 w6)
          · refine J.aload_n hx dX9_number_41 rfl 0 rfl ?_
            refine J.geti (κ := 1) (k := 6) hx rfl rfl rfl in_X9 (by decide) (Or.inl q1659) a0.1 dX9_number_42 fun v8 => ?_
            refine J.istore_n (lv' := [(3, .int v8), (0, .ref (B.1 1 0)), (1, .int p1), (2, .int p2)]) hx dX9_number_45 rfl (by decide) rfl ?_
            refine J.aload_n hx dX9_number_46 rfl 1 rfl ?_
            refine J.callv hx (fun r z1 z => j_callV (κ := 1) hx rfl rfl a0.1 (mt_X9_next a0 z) (lw_V q1841 q1843 qs46 q129 q1844) hd_X9_next rfl ⟨Nat.le_of_ble_eq_true rfl, Nat.le_of_ble_eq_true rfl⟩ (Nat.le_of_ble_eq_true rfl) dX9_number_47) ⟨⟨rfl, rfl⟩, Nat.le_of_ble_eq_true rfl, Nat.le_of_ble_eq_true rfl⟩ fun _ w10 e11 => ?_
            refine J.iload_n hx dX9_number_50 rfl 0 rfl ?_
            exact J.iret hx rfl (Nat.le_of_ble_eq_true rfl) (Nat.le_of_ble_eq_true rfl) dX9_number_51
        · exact J.sub [0, 1] rfl (hK35 w)
      · exact J.sub [0, 1] rfl (hK35 w)
    · exact J.sub [0, 1] rfl (hK35 w)
theorem hd_X9_readSamples : yX9_readSamples.cls = RX9 ∧ yX9_readSamples.cls ≠ "java/lang/invoke/MethodHandle" ∧ yX9_readSamples.cls ≠ "java/lang/invoke/VarHandle" ∧ (parseMethodDescriptor yX9_readSamples.desc).map (fun d => d.parameters.length) = some 0 := by decide +kernel
def f_X9_readSamples_L7  (k79 : j_St → Option (Unit × j_St)) : Nat → Int32 → j_St → Option (Unit × j_St)
  | 0, _, _ => none
  | n7 + 1, v2, w3 => if v2 = 0 then k79 w3 else jlt (jgi w3 1 0 15) fun v4 => jlt (fun (w17 : j_St) => jlt (jgi w17 1 0 8) fun v18 => jlt (fun (v21 : Int32) (w22 : j_St) => f_X9_readSamples_L7 k79 n7 v21 w22) fun K75 => jlt (fun (w20 : j_St) => K75 0 w20) fun K74 => if v18 = (-1) then jlt (jgi w17 1 0 4) fun v19 => if v19 = 2 then K75 1 w17 else K74 w17 else K74 w17) fun K54 => if v4 = 48 then jcb (f_X9_bad w3) fun _ w15 => K54 w15 else jlt (jgi w3 1 0 15) fun v6 => jcb (f_X9_number 0 999 w3) fun v7 w8 => jbd v6 48 fun a11 => jlt (jsi w8 41 0 a11 v7) fun w10 => jlt (jgi w10 1 0 15) fun v12 => jlt (jsi w10 1 0 15 (v12 + 1)) fun w13 => K54 w13
def f_X9_readSamples  (w : j_St) : Option (Unit × j_St) := jlt (jsi w 1 0 15 0) fun w1 => f_X9_readSamples_L7 (fun (w23 : j_St) => jlt (jgi w23 1 0 8) fun v24 => if v24 = (-1) then jlt (jgi w23 1 0 4) fun v25 => if v25 = 4 then jcb (f_X9_bad w23) fun _ w27 => some ((), w27) else some ((), w23) else some ((), w23)) jFU 1 w1
abbrev rm_X9_readSamples : Room := { frames := 4, cells := 0, slots := 0, locals := 87 }
set_option maxRecDepth 100000 in
set_option maxHeartbeats 4000000 in
theorem mt_X9_readSamples {g : j_G} {B : j_B}  {w w' : j_St} (a0 : B.2.1 1 0 ∧ B.2.2 1 0) {r : Unit} (h : f_X9_readSamples  w = some (r, w')) : j_M g yX9_readSamples cX9_readSamples 2 none rm_X9_readSamples B [.ref (B.1 1 0)] w w' (jrv r) := by
  refine j_met (rv := jrv) (by decide) (Nat.le_of_ble_eq_true rfl) (fun x hx => ?_) h
  unfold f_X9_readSamples
  refine J.sub (lv' := [(0, .ref (B.1 1 0))]) [0] rfl ?_
  refine J.aload_n hx dX9_readSamples_0 rfl 0 rfl ?_
  refine J.iconst (v := 0) hx dX9_readSamples_1 (by decide) ?_
  refine J.puti (κ := 1) (k := 15) hx rfl rfl rfl in_X9 tyX9_ok nmX9 (by decide) (Or.inl q1668) rfl rfl a0.1 ⟨rfl, rfl⟩ dX9_readSamples_2 fun w1 => ?_
  refine J.iconst (v := 1) hx dX9_readSamples_5 (by decide) ?_
  refine J.istore_n (lv' := [(1, .int 1), (0, .ref (B.1 1 0))]) hx dX9_readSamples_6 rfl (by decide) rfl ?_
  have hL7 : ∀ (k79 : j_St → Option (Unit × j_St)) (hk79 : ∀  (w23 : j_St), J g x 2 B (j_Q g x B rm_X9_readSamples jrv) 0 0 (k79 w23) 79 [(0, .ref (B.1 1 0))] [] w23) (n7 : Nat) (v2 : Int32) (w3 : j_St), J g x 2 B (j_Q g x B rm_X9_readSamples jrv) 0 0 (f_X9_readSamples_L7 k79 n7 v2 w3) 7 [(0, .ref (B.1 1 0)), (1, .int v2)] [] w3 := by
    intro k79 hk79 n7
    induction n7 with
    | zero =>
      intro v2 w3
      rw [f_X9_readSamples_L7]
      exact J.nne
    | succ n7 ih =>
      intro v2 w3
      rw [f_X9_readSamples_L7]
      refine J.iload_n hx dX9_readSamples_7 rfl 1 rfl ?_
      refine J.if_eq (tgt := 79) hx dX9_readSamples_8 (by decide) ?_ ?_
      · exact J.sub [0] rfl (hk79 w3)
      · refine J.aload_n hx dX9_readSamples_11 rfl 0 rfl ?_
        refine J.geti (κ := 1) (k := 15) hx rfl rfl rfl in_X9 (by decide) (Or.inl q1668) a0.1 dX9_readSamples_12 fun v4 => ?_
        refine J.bipush (v := 48) hx dX9_readSamples_15 (by decide) ?_
        refine J.fn (fun (K54 : j_St → Option (Unit × j_St)) => ∀  (w17 : j_St), J g x 2 B (j_Q g x B rm_X9_readSamples jrv) 0 0 (K54 w17) 54 [(0, .ref (B.1 1 0))] [] w17) ?_ ?_
        · intro w17
          refine J.aload_n hx dX9_readSamples_54 rfl 0 rfl ?_
          refine J.geti (κ := 1) (k := 8) hx rfl rfl rfl in_X9 (by decide) (Or.inl q1661) a0.1 dX9_readSamples_55 fun v18 => ?_
          refine J.iconst (v := (-1)) hx dX9_readSamples_58 (by decide) ?_
          refine J.fn (fun (K75 : Int32 → j_St → Option (Unit × j_St)) => ∀ (v21 : Int32) (w22 : j_St), J g x 2 B (j_Q g x B rm_X9_readSamples jrv) 0 0 (K75 v21 w22) 75 [(0, .ref (B.1 1 0))] [.int v21] w22) ?_ ?_
          · intro v21 w22
            refine J.istore_n (lv' := [(1, .int v21), (0, .ref (B.1 1 0))]) hx dX9_readSamples_75 rfl (by decide) rfl ?_
            refine J.goto (tgt := 7) hx dX9_readSamples_76 (by decide) ?_
            exact J.sub [1, 0] rfl (ih v21 w22)
          · intro K75 hK75
            refine J.fn (fun (K74 : j_St → Option (Unit × j_St)) => ∀  (w20 : j_St), J g x 2 B (j_Q g x B rm_X9_readSamples jrv) 0 0 (K74 w20) 74 [(0, .ref (B.1 1 0))] [] w20) ?_ ?_
            · intro w20
              refine J.iconst (v := 0) hx dX9_readSamples_74 (by decide) ?_
              exact J.sub [0] rfl (hK75 0 w20)
            · intro K74 hK74
              refine J.icmp_ne (tgt := 74) hx dX9_readSamples_59 (by decide) ?_ ?_
              · refine J.aload_n hx dX9_readSamples_62 rfl 0 rfl ?_
                refine J.geti (κ := 1) (k := 4) hx rfl rfl rfl in_X9 (by decide) (Or.inl q1657) a0.1 dX9_readSamples_63 fun v19 => ?_
                refine J.iconst (v := 2) hx dX9_readSamples_66 (by decide) ?_
                refine J.icmp_ne (tgt := 74) hx dX9_readSamples_67 (by decide) ?_ ?_
                · refine J.iconst (v := 1) hx dX9_readSamples_70 (by decide) ?_
                  refine J.goto (tgt := 75) hx dX9_readSamples_71 (by decide) ?_
                  exact J.sub [0] rfl (hK75 1 w17)
                · exact J.sub [0] rfl (hK74 w17)
              · exact J.sub [0] rfl (hK74 w17)
        · intro K54 hK54
          refine J.icmp_ne (tgt := 27) hx dX9_readSamples_17 (by decide) ?_ ?_
          · refine J.aload_n hx dX9_readSamples_20 rfl 0 rfl ?_
            refine J.callv hx (fun r z1 z => j_callV (κ := 1) hx rfl rfl a0.1 (mt_X9_bad a0 z) (lw_V q1884 q1886 qs52 q129 q1887) hd_X9_bad rfl ⟨Nat.le_of_ble_eq_true rfl, Nat.le_of_ble_eq_true rfl⟩ (Nat.le_of_ble_eq_true rfl) dX9_readSamples_21) ⟨⟨rfl, rfl⟩, Nat.le_of_ble_eq_true rfl, Nat.le_of_ble_eq_true rfl⟩ fun _ w15 e16 => ?_
            refine J.goto (tgt := 54) hx dX9_readSamples_24 (by decide) ?_
            exact J.sub [0] rfl (hK54 w15)
          · refine J.aload_n hx dX9_readSamples_27 rfl 0 rfl ?_
            refine J.getc (κ' := 41) (i' := 0) (κ := 1) (k := 11) hx rfl rfl rfl rfl rfl in_X9 (by decide) (Or.inl q1664) a0.2 dX9_readSamples_28 fun h5 => ?_
            refine J.aload_n hx dX9_readSamples_31 rfl 0 rfl ?_
            refine J.geti (κ := 1) (k := 15) hx rfl rfl rfl in_X9 (by decide) (Or.inl q1668) a0.1 dX9_readSamples_32 fun v6 => ?_
            refine J.aload_n hx dX9_readSamples_35 rfl 0 rfl ?_
            refine J.iconst (v := 0) hx dX9_readSamples_36 (by decide) ?_
            refine J.sipush (v := 999) hx dX9_readSamples_37 (by decide) ?_
            refine J.calli hx (fun r z1 z => j_callV (κ := 1) hx rfl rfl a0.1 (mt_X9_number a0 z) (lw_V q1892 q1894 qs54 q129 q1895) hd_X9_number rfl ⟨Nat.le_of_ble_eq_true rfl, Nat.le_of_ble_eq_true rfl⟩ (Nat.le_of_ble_eq_true rfl) dX9_readSamples_40) ⟨⟨rfl, rfl⟩, Nat.le_of_ble_eq_true rfl, Nat.le_of_ble_eq_true rfl⟩ fun v7 w8 e9 => ?_
            refine J.iast (κ := 41) hx rfl rfl rfl h5.1 dX9_readSamples_43 fun w10 => ?_
            refine J.aload_n hx dX9_readSamples_44 rfl 0 rfl ?_
            refine J.dup hx dX9_readSamples_45 rfl ?_
            refine J.geti (κ := 1) (k := 15) hx rfl rfl rfl in_X9 (by decide) (Or.inl q1668) a0.1 dX9_readSamples_46 fun v12 => ?_
            refine J.iconst (v := 1) hx dX9_readSamples_49 (by decide) ?_
            refine J.iadd hx dX9_readSamples_50 ?_
            refine J.puti (κ := 1) (k := 15) hx rfl rfl rfl in_X9 tyX9_ok nmX9 (by decide) (Or.inl q1668) rfl rfl a0.1 ⟨rfl, rfl⟩ dX9_readSamples_51 fun w13 => ?_
            exact J.sub [0] rfl (hK54 w13)
  refine J.sub [1, 0] rfl (hL7 _ ?_ jFU 1 w1)
  · intro w23
    refine J.aload_n hx dX9_readSamples_79 rfl 0 rfl ?_
    refine J.geti (κ := 1) (k := 8) hx rfl rfl rfl in_X9 (by decide) (Or.inl q1661) a0.1 dX9_readSamples_80 fun v24 => ?_
    refine J.iconst (v := (-1)) hx dX9_readSamples_83 (by decide) ?_
    refine J.icmp_ne (tgt := 99) hx dX9_readSamples_84 (by decide) ?_ ?_
    · refine J.aload_n hx dX9_readSamples_87 rfl 0 rfl ?_
      refine J.geti (κ := 1) (k := 4) hx rfl rfl rfl in_X9 (by decide) (Or.inl q1657) a0.1 dX9_readSamples_88 fun v25 => ?_
      refine J.iconst (v := 4) hx dX9_readSamples_91 (by decide) ?_
      refine J.icmp_ne (tgt := 99) hx dX9_readSamples_92 (by decide) ?_ ?_
      · refine J.aload_n hx dX9_readSamples_95 rfl 0 rfl ?_
        refine J.callv hx (fun r z1 z => j_callV (κ := 1) hx rfl rfl a0.1 (mt_X9_bad a0 z) (lw_V q1884 q1886 qs52 q129 q1887) hd_X9_bad rfl ⟨Nat.le_of_ble_eq_true rfl, Nat.le_of_ble_eq_true rfl⟩ (Nat.le_of_ble_eq_true rfl) dX9_readSamples_96) ⟨⟨rfl, rfl⟩, Nat.le_of_ble_eq_true rfl, Nat.le_of_ble_eq_true rfl⟩ fun _ w27 e28 => ?_
        exact J.vret hx rfl (Nat.le_of_ble_eq_true rfl) (Nat.le_of_ble_eq_true rfl) dX9_readSamples_99
      · exact J.vret hx rfl (Nat.le_of_ble_eq_true rfl) (Nat.le_of_ble_eq_true rfl) dX9_readSamples_99
    · exact J.vret hx rfl (Nat.le_of_ble_eq_true rfl) (Nat.le_of_ble_eq_true rfl) dX9_readSamples_99
theorem hd_X9_readLine : yX9_readLine.cls = RX9 ∧ yX9_readLine.cls ≠ "java/lang/invoke/MethodHandle" ∧ yX9_readLine.cls ≠ "java/lang/invoke/VarHandle" ∧ (parseMethodDescriptor yX9_readLine.desc).map (fun d => d.parameters.length) = some 0 := by decide +kernel
def f_X9_readLine_L25  (k63 : Int32 → j_St → Option (Unit × j_St)) : Nat → Int32 → Int32 → j_St → Option (Unit × j_St)
  | 0, _, _, _ => none
  | n25 + 1, v6, v7, w8 => jlt (jgi w8 1 0 16) fun v9 => if v9 ≤ v7 then k63 v6 w8 else jlt (fun (v15 : Int32) (w16 : j_St) => jlt (v7 + 1) fun v17 => f_X9_readLine_L25 k63 n25 v15 v17 w16) fun K56 => jlt (fun (w14 : j_St) => K56 0 w14) fun K55 => if v6 = 0 then K55 w8 else jbd v7 8 fun a11 => jlt (jgl w8 44 0 a11) fun v12 => jlt (jgl w8 1 0 9) fun v13 => if lg_cmp v12 v13 = 0 then K55 w8 else K56 1 w8
def f_X9_readLine  (w : j_St) : Option (Unit × j_St) := jlt (jgi w 1 0 4) fun v1 => jlt (fun (v4 : Int32) (w5 : j_St) => f_X9_readLine_L25 (fun (v18 : Int32) (w19 : j_St) => if v18 = 0 then jcb (f_X9_bad w19) fun _ w43 => some ((), w43) else jlt (jgi w19 1 0 16) fun v21 => jlt (jgl w19 1 0 9) fun v22 => jbd v21 8 fun a24 => jlt (jsl w19 44 0 a24 v22) fun w23 => jlt (jgi w23 1 0 16) fun v26 => jlt (jgi w23 1 0 7) fun v27 => jbd v26 8 fun a29 => jlt (jsi w23 43 0 a29 v27) fun w28 => jcb (f_X9_next w28) fun _ w31 => jlt (jgi w31 1 0 16) fun v34 => jcb (f_X9_number 0 47 w31) fun v35 w36 => jbd v34 8 fun a39 => jlt (jsi w36 42 0 a39 v35) fun w38 => jlt (jgi w38 1 0 16) fun v40 => jlt (jsi w38 1 0 16 (v40 + 1)) fun w41 => some ((), w41)) jFU v4 0 w5) fun K22 => jlt (fun (w3 : j_St) => K22 0 w3) fun K21 => if v1 = 1 then jlt (jgi w 1 0 7) fun v2 => if 6 < v2 then K21 w else K22 1 w else K21 w
abbrev rm_X9_readLine : Room := { frames := 4, cells := 0, slots := 0, locals := 87 }
set_option maxRecDepth 100000 in
set_option maxHeartbeats 4000000 in
theorem mt_X9_readLine {g : j_G} {B : j_B}  {w w' : j_St} (a0 : B.2.1 1 0 ∧ B.2.2 1 0) {r : Unit} (h : f_X9_readLine  w = some (r, w')) : j_M g yX9_readLine cX9_readLine 3 none rm_X9_readLine B [.ref (B.1 1 0)] w w' (jrv r) := by
  refine j_met (rv := jrv) (by decide) (Nat.le_of_ble_eq_true rfl) (fun x hx => ?_) h
  unfold f_X9_readLine
  refine J.sub (lv' := [(0, .ref (B.1 1 0))]) [0] rfl ?_
  refine J.aload_n hx dX9_readLine_0 rfl 0 rfl ?_
  refine J.geti (κ := 1) (k := 4) hx rfl rfl rfl in_X9 (by decide) (Or.inl q1657) a0.1 dX9_readLine_1 fun v1 => ?_
  refine J.iconst (v := 1) hx dX9_readLine_4 (by decide) ?_
  refine J.fn (fun (K22 : Int32 → j_St → Option (Unit × j_St)) => ∀ (v4 : Int32) (w5 : j_St), J g x 3 B (j_Q g x B rm_X9_readLine jrv) 0 0 (K22 v4 w5) 22 [(0, .ref (B.1 1 0))] [.int v4] w5) ?_ ?_
  · intro v4 w5
    refine J.istore_n (lv' := [(1, .int v4), (0, .ref (B.1 1 0))]) hx dX9_readLine_22 rfl (by decide) rfl ?_
    refine J.iconst (v := 0) hx dX9_readLine_23 (by decide) ?_
    refine J.istore_n (lv' := [(2, .int 0), (1, .int v4), (0, .ref (B.1 1 0))]) hx dX9_readLine_24 rfl (by decide) rfl ?_
    have hL25 : ∀ (k63 : Int32 → j_St → Option (Unit × j_St)) (hk63 : ∀ (v18 : Int32) (w19 : j_St), J g x 3 B (j_Q g x B rm_X9_readLine jrv) 0 0 (k63 v18 w19) 63 [(0, .ref (B.1 1 0)), (1, .int v18)] [] w19) (n25 : Nat) (v6 : Int32) (v7 : Int32) (w8 : j_St), J g x 3 B (j_Q g x B rm_X9_readLine jrv) 0 0 (f_X9_readLine_L25 k63 n25 v6 v7 w8) 25 [(0, .ref (B.1 1 0)), (1, .int v6), (2, .int v7)] [] w8 := by
      intro k63 hk63 n25
      induction n25 with
      | zero =>
        intro v6 v7 w8
        rw [f_X9_readLine_L25]
        exact J.nne
      | succ n25 ih =>
        intro v6 v7 w8
        rw [f_X9_readLine_L25]
        refine J.iload_n hx dX9_readLine_25 rfl 2 rfl ?_
        refine J.aload_n hx dX9_readLine_26 rfl 0 rfl ?_
        refine J.geti (κ := 1) (k := 16) hx rfl rfl rfl in_X9 (by decide) (Or.inl q1669) a0.1 dX9_readLine_27 fun v9 => ?_
        refine J.icmp_ge (tgt := 63) hx dX9_readLine_30 (by decide) ?_ ?_
        · exact J.sub [0, 1] rfl (hk63 v6 w8)
        · refine J.iload_n hx dX9_readLine_33 rfl 1 rfl ?_
          refine J.fn (fun (K56 : Int32 → j_St → Option (Unit × j_St)) => ∀ (v15 : Int32) (w16 : j_St), J g x 3 B (j_Q g x B rm_X9_readLine jrv) 0 0 (K56 v15 w16) 56 [(0, .ref (B.1 1 0)), (2, .int v7)] [.int v15] w16) ?_ ?_
          · intro v15 w16
            refine J.istore_n (lv' := [(1, .int v15), (0, .ref (B.1 1 0)), (2, .int v7)]) hx dX9_readLine_56 rfl (by decide) rfl ?_
            refine J.nmx fun v17 ev17 => ?_
            refine J.iinc (p := 2) (v := v17) (lv' := [(2, .int v17), (1, .int v15), (0, .ref (B.1 1 0))]) hx dX9_readLine_57 rfl (by rw [ev17]; rfl) (by decide) rfl ?_
            refine J.goto (tgt := 25) hx dX9_readLine_60 (by decide) ?_
            exact J.sub [2, 1, 0] rfl (ih v15 v17 w16)
          · intro K56 hK56
            refine J.fn (fun (K55 : j_St → Option (Unit × j_St)) => ∀  (w14 : j_St), J g x 3 B (j_Q g x B rm_X9_readLine jrv) 0 0 (K55 w14) 55 [(0, .ref (B.1 1 0)), (2, .int v7)] [] w14) ?_ ?_
            · intro w14
              refine J.iconst (v := 0) hx dX9_readLine_55 (by decide) ?_
              exact J.sub [0, 1] rfl (hK56 0 w14)
            · intro K55 hK55
              refine J.if_eq (tgt := 55) hx dX9_readLine_34 (by decide) ?_ ?_
              · exact J.sub [0, 2] rfl (hK55 w8)
              · refine J.aload_n hx dX9_readLine_37 rfl 0 rfl ?_
                refine J.getc (κ' := 44) (i' := 0) (κ := 1) (k := 14) hx rfl rfl rfl rfl rfl in_X9 (by decide) (Or.inl q1667) a0.2 dX9_readLine_38 fun h10 => ?_
                refine J.iload_n hx dX9_readLine_41 rfl 2 rfl ?_
                refine J.lald (κ := 44) hx rfl rfl h10.1 dX9_readLine_42 fun v12 => ?_
                refine J.aload_n hx dX9_readLine_43 rfl 0 rfl ?_
                refine J.getl (κ := 1) (k := 9) hx rfl rfl rfl in_X9 (by decide) (Or.inl q1662) a0.1 dX9_readLine_44 fun v13 => ?_
                refine J.lcmp hx dX9_readLine_47 ?_
                refine J.if_eq (tgt := 55) hx dX9_readLine_48 (by decide) ?_ ?_
                · exact J.sub [0, 2] rfl (hK55 w8)
                · refine J.iconst (v := 1) hx dX9_readLine_51 (by decide) ?_
                  refine J.goto (tgt := 56) hx dX9_readLine_52 (by decide) ?_
                  exact J.sub [0, 2] rfl (hK56 1 w8)
    refine J.sub [2, 1, 0] rfl (hL25 _ ?_ jFU v4 0 w5)
    · intro v18 w19
      refine J.iload_n hx dX9_readLine_63 rfl 1 rfl ?_
      refine J.if_ne (tgt := 72) hx dX9_readLine_64 (by decide) ?_ ?_
      · refine J.aload_n hx dX9_readLine_67 rfl 0 rfl ?_
        refine J.callv hx (fun r z1 z => j_callV (κ := 1) hx rfl rfl a0.1 (mt_X9_bad a0 z) (lw_V q1884 q1886 qs52 q129 q1887) hd_X9_bad rfl ⟨Nat.le_of_ble_eq_true rfl, Nat.le_of_ble_eq_true rfl⟩ (Nat.le_of_ble_eq_true rfl) dX9_readLine_68) ⟨⟨rfl, rfl⟩, Nat.le_of_ble_eq_true rfl, Nat.le_of_ble_eq_true rfl⟩ fun _ w43 e44 => ?_
        exact J.vret hx rfl (Nat.le_of_ble_eq_true rfl) (Nat.le_of_ble_eq_true rfl) dX9_readLine_71
      · refine J.aload_n hx dX9_readLine_72 rfl 0 rfl ?_
        refine J.getc (κ' := 44) (i' := 0) (κ := 1) (k := 14) hx rfl rfl rfl rfl rfl in_X9 (by decide) (Or.inl q1667) a0.2 dX9_readLine_73 fun h20 => ?_
        refine J.aload_n hx dX9_readLine_76 rfl 0 rfl ?_
        refine J.geti (κ := 1) (k := 16) hx rfl rfl rfl in_X9 (by decide) (Or.inl q1669) a0.1 dX9_readLine_77 fun v21 => ?_
        refine J.aload_n hx dX9_readLine_80 rfl 0 rfl ?_
        refine J.getl (κ := 1) (k := 9) hx rfl rfl rfl in_X9 (by decide) (Or.inl q1662) a0.1 dX9_readLine_81 fun v22 => ?_
        refine J.last (κ := 44) hx rfl rfl rfl h20.1 dX9_readLine_84 fun w23 => ?_
        refine J.aload_n hx dX9_readLine_85 rfl 0 rfl ?_
        refine J.getc (κ' := 43) (i' := 0) (κ := 1) (k := 13) hx rfl rfl rfl rfl rfl in_X9 (by decide) (Or.inl q1666) a0.2 dX9_readLine_86 fun h25 => ?_
        refine J.aload_n hx dX9_readLine_89 rfl 0 rfl ?_
        refine J.geti (κ := 1) (k := 16) hx rfl rfl rfl in_X9 (by decide) (Or.inl q1669) a0.1 dX9_readLine_90 fun v26 => ?_
        refine J.aload_n hx dX9_readLine_93 rfl 0 rfl ?_
        refine J.geti (κ := 1) (k := 7) hx rfl rfl rfl in_X9 (by decide) (Or.inl q1660) a0.1 dX9_readLine_94 fun v27 => ?_
        refine J.iast (κ := 43) hx rfl rfl rfl h25.1 dX9_readLine_97 fun w28 => ?_
        refine J.aload_n hx dX9_readLine_98 rfl 0 rfl ?_
        refine J.callv hx (fun r z1 z => j_callV (κ := 1) hx rfl rfl a0.1 (mt_X9_next a0 z) (lw_V q1841 q1843 qs46 q129 q1844) hd_X9_next rfl ⟨Nat.le_of_ble_eq_true rfl, Nat.le_of_ble_eq_true rfl⟩ (Nat.le_of_ble_eq_true rfl) dX9_readLine_99) ⟨⟨rfl, rfl⟩, Nat.le_of_ble_eq_true rfl, Nat.le_of_ble_eq_true rfl⟩ fun _ w31 e32 => ?_
        refine J.aload_n hx dX9_readLine_102 rfl 0 rfl ?_
        refine J.getc (κ' := 42) (i' := 0) (κ := 1) (k := 12) hx rfl rfl rfl rfl rfl in_X9 (by decide) (Or.inl q1665) a0.2 dX9_readLine_103 fun h33 => ?_
        refine J.aload_n hx dX9_readLine_106 rfl 0 rfl ?_
        refine J.geti (κ := 1) (k := 16) hx rfl rfl rfl in_X9 (by decide) (Or.inl q1669) a0.1 dX9_readLine_107 fun v34 => ?_
        refine J.aload_n hx dX9_readLine_110 rfl 0 rfl ?_
        refine J.iconst (v := 0) hx dX9_readLine_111 (by decide) ?_
        refine J.bipush (v := 47) hx dX9_readLine_112 (by decide) ?_
        refine J.calli hx (fun r z1 z => j_callV (κ := 1) hx rfl rfl a0.1 (mt_X9_number a0 z) (lw_V q1892 q1894 qs54 q129 q1895) hd_X9_number rfl ⟨Nat.le_of_ble_eq_true rfl, Nat.le_of_ble_eq_true rfl⟩ (Nat.le_of_ble_eq_true rfl) dX9_readLine_114) ⟨⟨rfl, rfl⟩, Nat.le_of_ble_eq_true rfl, Nat.le_of_ble_eq_true rfl⟩ fun v35 w36 e37 => ?_
        refine J.iast (κ := 42) hx rfl rfl rfl h33.1 dX9_readLine_117 fun w38 => ?_
        refine J.aload_n hx dX9_readLine_118 rfl 0 rfl ?_
        refine J.dup hx dX9_readLine_119 rfl ?_
        refine J.geti (κ := 1) (k := 16) hx rfl rfl rfl in_X9 (by decide) (Or.inl q1669) a0.1 dX9_readLine_120 fun v40 => ?_
        refine J.iconst (v := 1) hx dX9_readLine_123 (by decide) ?_
        refine J.iadd hx dX9_readLine_124 ?_
        refine J.puti (κ := 1) (k := 16) hx rfl rfl rfl in_X9 tyX9_ok nmX9 (by decide) (Or.inl q1669) rfl rfl a0.1 ⟨rfl, rfl⟩ dX9_readLine_125 fun w41 => ?_
        exact J.vret hx rfl (Nat.le_of_ble_eq_true rfl) (Nat.le_of_ble_eq_true rfl) dX9_readLine_128
  · intro K22 hK22
    refine J.fn (fun (K21 : j_St → Option (Unit × j_St)) => ∀  (w3 : j_St), J g x 3 B (j_Q g x B rm_X9_readLine jrv) 0 0 (K21 w3) 21 [(0, .ref (B.1 1 0))] [] w3) ?_ ?_
    · intro w3
      refine J.iconst (v := 0) hx dX9_readLine_21 (by decide) ?_
      exact J.sub [0] rfl (hK22 0 w3)
    · intro K21 hK21
      refine J.icmp_ne (tgt := 21) hx dX9_readLine_5 (by decide) ?_ ?_
      · refine J.aload_n hx dX9_readLine_8 rfl 0 rfl ?_
        refine J.geti (κ := 1) (k := 7) hx rfl rfl rfl in_X9 (by decide) (Or.inl q1660) a0.1 dX9_readLine_9 fun v2 => ?_
        refine J.bipush (v := 6) hx dX9_readLine_12 (by decide) ?_
        refine J.icmp_gt (tgt := 21) hx dX9_readLine_14 (by decide) ?_ ?_
        · exact J.sub [0] rfl (hK21 w)
        · refine J.iconst (v := 1) hx dX9_readLine_17 (by decide) ?_
          refine J.goto (tgt := 22) hx dX9_readLine_18 (by decide) ?_
          exact J.sub [0] rfl (hK22 1 w)
      · exact J.sub [0] rfl (hK21 w)
theorem hd_X9_clause : yX9_clause.cls = RX9 ∧ yX9_clause.cls ≠ "java/lang/invoke/MethodHandle" ∧ yX9_clause.cls ≠ "java/lang/invoke/VarHandle" ∧ (parseMethodDescriptor yX9_clause.desc).map (fun d => d.parameters.length) = some 1 := by decide +kernel
def f_X9_clause (p1 : Int32) (w : j_St) : Option (Int32 × j_St) := jcb (f_X9_isWord 10983929 w) fun v1 w2 => jlt (fun (v13 : Int32) (w14 : j_St) => jlt (fun (w39 : j_St) => jcb (f_X9_bad w39) fun _ w41 => some (p1, w41)) fun K90 => if v13 = (-1) then K90 w14 else jlt (fun (w18 : j_St) => jlt (fun (w20 : j_St) => jcb (f_X9_next w20) fun _ w22 => jlt (fun (w38 : j_St) => some (p1 ||| ((1 : Int32) <<< (v13 &&& 31)), w38)) fun K168 => if v13 = 0 then jcb (f_X9_readSamples w22) fun _ w25 => K168 w25 else if v13 = 1 then jcb (f_X9_number 0 999 w22) fun v27 w28 => jlt (jsi w28 1 0 17 v27) fun w30 => K168 w30 else if v13 = 2 then jcb (f_X9_number 0 9 w22) fun v31 w32 => jlt (jsi w32 1 0 18 v31) fun w34 => K168 w34 else jcb (f_X9_readLine w22) fun _ w36 => K168 w36) fun K96 => if v13 = 3 then jlt (jgi w18 1 0 16) fun v19 => if v19 = 8 then K90 w18 else K96 w18 else K96 w18) fun K76 => if 3 ≤ v13 then K76 w14 else jcb (f_X9_has p1 v13 w14) fun v15 w16 => if v15 = 0 then K76 w16 else K90 w16) fun K57 => if v1 = 0 then jcb (f_X9_isWord 7742498 w2) fun v4 w5 => if v4 = 0 then jcb (f_X9_isWord 9665171 w5) fun v7 w8 => if v7 = 0 then jcb (f_X9_isWord 243140 w8) fun v10 w11 => if v10 = 0 then K57 (-1) w11 else K57 3 w11 else K57 2 w8 else K57 1 w5 else K57 0 w2
abbrev rm_X9_clause : Room := { frames := 5, cells := 0, slots := 0, locals := 109 }
set_option maxRecDepth 100000 in
set_option maxHeartbeats 4000000 in
theorem mt_X9_clause {g : j_G} {B : j_B} {p1 : Int32} {w w' : j_St} (a0 : B.2.1 1 0 ∧ B.2.2 1 0) {r : Int32} (h : f_X9_clause p1 w = some (r, w')) : j_M g yX9_clause cX9_clause 3 (some FieldType.int) rm_X9_clause B [.ref (B.1 1 0), .int p1] w w' (jri r) := by
  refine j_met (rv := jri) (by decide) (Nat.le_of_ble_eq_true rfl) (fun x hx => ?_) h
  unfold f_X9_clause
  refine J.sub (lv' := [(0, .ref (B.1 1 0)), (1, .int p1)]) [0, 1] rfl ?_
  refine J.aload_n hx dX9_clause_0 rfl 0 rfl ?_
  refine J.gets (t := 11) (v := .long 10983929) hx rfl q1869 dX9_clause_1 ?_
  refine J.calli hx (fun r z1 z => j_callV (κ := 1) hx rfl rfl a0.1 (mt_X9_isWord a0 z) (lw_V q1871 q1873 qs51 q129 q1874) hd_X9_isWord rfl ⟨Nat.le_of_ble_eq_true rfl, Nat.le_of_ble_eq_true rfl⟩ (Nat.le_of_ble_eq_true rfl) dX9_clause_4) ⟨⟨rfl, rfl⟩, Nat.le_of_ble_eq_true rfl, Nat.le_of_ble_eq_true rfl⟩ fun v1 w2 e3 => ?_
  refine J.fn (fun (K57 : Int32 → j_St → Option (Int32 × j_St)) => ∀ (v13 : Int32) (w14 : j_St), J g x 3 B (j_Q g x B rm_X9_clause jri) 0 0 (K57 v13 w14) 57 [(0, .ref (B.1 1 0)), (1, .int p1)] [.int v13] w14) ?_ ?_
  · intro v13 w14
    refine J.istore_n (lv' := [(2, .int v13), (0, .ref (B.1 1 0)), (1, .int p1)]) hx dX9_clause_57 rfl (by decide) rfl ?_
    refine J.iload_n hx dX9_clause_58 rfl 0 rfl ?_
    refine J.iconst (v := (-1)) hx dX9_clause_59 (by decide) ?_
    refine J.fn (fun (K90 : j_St → Option (Int32 × j_St)) => ∀  (w39 : j_St), J g x 3 B (j_Q g x B rm_X9_clause jri) 0 0 (K90 w39) 90 [(0, .ref (B.1 1 0)), (1, .int p1)] [] w39) ?_ ?_
    · intro w39
      refine J.aload_n hx dX9_clause_90 rfl 0 rfl ?_
      refine J.callv hx (fun r z1 z => j_callV (κ := 1) hx rfl rfl a0.1 (mt_X9_bad a0 z) (lw_V q1884 q1886 qs52 q129 q1887) hd_X9_bad rfl ⟨Nat.le_of_ble_eq_true rfl, Nat.le_of_ble_eq_true rfl⟩ (Nat.le_of_ble_eq_true rfl) dX9_clause_91) ⟨⟨rfl, rfl⟩, Nat.le_of_ble_eq_true rfl, Nat.le_of_ble_eq_true rfl⟩ fun _ w41 e42 => ?_
      refine J.iload_n hx dX9_clause_94 rfl 1 rfl ?_
      exact J.iret hx rfl (Nat.le_of_ble_eq_true rfl) (Nat.le_of_ble_eq_true rfl) dX9_clause_95
    · intro K90 hK90
      refine J.icmp_eq (tgt := 90) hx dX9_clause_60 (by decide) ?_ ?_
      · exact J.sub [1, 2] rfl (hK90 w14)
      · refine J.iload_n hx dX9_clause_63 rfl 0 rfl ?_
        refine J.iconst (v := 3) hx dX9_clause_64 (by decide) ?_
        refine J.fn (fun (K76 : j_St → Option (Int32 × j_St)) => ∀  (w18 : j_St), J g x 3 B (j_Q g x B rm_X9_clause jri) 0 0 (K76 w18) 76 [(0, .ref (B.1 1 0)), (1, .int p1), (2, .int v13)] [] w18) ?_ ?_
        · intro w18
          refine J.iload_n hx dX9_clause_76 rfl 2 rfl ?_
          refine J.iconst (v := 3) hx dX9_clause_77 (by decide) ?_
          refine J.fn (fun (K96 : j_St → Option (Int32 × j_St)) => ∀  (w20 : j_St), J g x 3 B (j_Q g x B rm_X9_clause jri) 0 0 (K96 w20) 96 [(0, .ref (B.1 1 0)), (1, .int p1), (2, .int v13)] [] w20) ?_ ?_
          · intro w20
            refine J.aload_n hx dX9_clause_96 rfl 0 rfl ?_
            refine J.callv hx (fun r z1 z => j_callV (κ := 1) hx rfl rfl a0.1 (mt_X9_next a0 z) (lw_V q1841 q1843 qs46 q129 q1844) hd_X9_next rfl ⟨Nat.le_of_ble_eq_true rfl, Nat.le_of_ble_eq_true rfl⟩ (Nat.le_of_ble_eq_true rfl) dX9_clause_97) ⟨⟨rfl, rfl⟩, Nat.le_of_ble_eq_true rfl, Nat.le_of_ble_eq_true rfl⟩ fun _ w22 e23 => ?_
            refine J.iload_n hx dX9_clause_100 rfl 2 rfl ?_
            refine J.fn (fun (K168 : j_St → Option (Int32 × j_St)) => ∀  (w38 : j_St), J g x 3 B (j_Q g x B rm_X9_clause jri) 0 0 (K168 w38) 168 [(1, .int p1), (2, .int v13)] [] w38) ?_ ?_
            · intro w38
              refine J.iload_n hx dX9_clause_168 rfl 0 rfl ?_
              refine J.iconst (v := 1) hx dX9_clause_169 (by decide) ?_
              refine J.iload_n hx dX9_clause_170 rfl 1 rfl ?_
              refine J.ishl hx dX9_clause_171 ?_
              refine J.ior hx dX9_clause_172 ?_
              exact J.iret hx rfl (Nat.le_of_ble_eq_true rfl) (Nat.le_of_ble_eq_true rfl) dX9_clause_173
            · intro K168 hK168
              refine J.ite (fun e0 => ?_) (fun n0 => ?_)
              · refine J.tsw (off := 27) (tgt := 128) hx dX9_clause_101 (by rw [e0]; decide) (by rw [e0]; decide) (by rw [e0]; rfl) (by decide) ?_
                refine J.aload_n hx dX9_clause_128 rfl 0 rfl ?_
                refine J.callv hx (fun r z1 z => j_callV (κ := 1) hx rfl rfl a0.1 (mt_X9_readSamples a0 z) (lw_V q1888 q1890 qs53 q129 q1891) hd_X9_readSamples rfl ⟨Nat.le_of_ble_eq_true rfl, Nat.le_of_ble_eq_true rfl⟩ (Nat.le_of_ble_eq_true rfl) dX9_clause_129) ⟨⟨rfl, rfl⟩, Nat.le_of_ble_eq_true rfl, Nat.le_of_ble_eq_true rfl⟩ fun _ w25 e26 => ?_
                refine J.goto (tgt := 168) hx dX9_clause_132 (by decide) ?_
                exact J.sub [1, 2] rfl (hK168 w25)
              · refine J.ite (fun e1 => ?_) (fun n1 => ?_)
                · refine J.tsw (off := 34) (tgt := 135) hx dX9_clause_101 (by rw [e1]; decide) (by rw [e1]; decide) (by rw [e1]; rfl) (by decide) ?_
                  refine J.aload_n hx dX9_clause_135 rfl 0 rfl ?_
                  refine J.aload_n hx dX9_clause_136 rfl 0 rfl ?_
                  refine J.iconst (v := 0) hx dX9_clause_137 (by decide) ?_
                  refine J.sipush (v := 999) hx dX9_clause_138 (by decide) ?_
                  refine J.calli hx (fun r z1 z => j_callV (κ := 1) hx rfl rfl a0.1 (mt_X9_number a0 z) (lw_V q1892 q1894 qs54 q129 q1895) hd_X9_number rfl ⟨Nat.le_of_ble_eq_true rfl, Nat.le_of_ble_eq_true rfl⟩ (Nat.le_of_ble_eq_true rfl) dX9_clause_141) ⟨⟨rfl, rfl⟩, Nat.le_of_ble_eq_true rfl, Nat.le_of_ble_eq_true rfl⟩ fun v27 w28 e29 => ?_
                  refine J.puti (κ := 1) (k := 17) hx rfl rfl rfl in_X9 tyX9_ok nmX9 (by decide) (Or.inl q1670) rfl rfl a0.1 ⟨rfl, rfl⟩ dX9_clause_144 fun w30 => ?_
                  refine J.goto (tgt := 168) hx dX9_clause_147 (by decide) ?_
                  exact J.sub [1, 2] rfl (hK168 w30)
                · refine J.ite (fun e2 => ?_) (fun n2 => ?_)
                  · refine J.tsw (off := 49) (tgt := 150) hx dX9_clause_101 (by rw [e2]; decide) (by rw [e2]; decide) (by rw [e2]; rfl) (by decide) ?_
                    refine J.aload_n hx dX9_clause_150 rfl 0 rfl ?_
                    refine J.aload_n hx dX9_clause_151 rfl 0 rfl ?_
                    refine J.iconst (v := 0) hx dX9_clause_152 (by decide) ?_
                    refine J.bipush (v := 9) hx dX9_clause_153 (by decide) ?_
                    refine J.calli hx (fun r z1 z => j_callV (κ := 1) hx rfl rfl a0.1 (mt_X9_number a0 z) (lw_V q1892 q1894 qs54 q129 q1895) hd_X9_number rfl ⟨Nat.le_of_ble_eq_true rfl, Nat.le_of_ble_eq_true rfl⟩ (Nat.le_of_ble_eq_true rfl) dX9_clause_155) ⟨⟨rfl, rfl⟩, Nat.le_of_ble_eq_true rfl, Nat.le_of_ble_eq_true rfl⟩ fun v31 w32 e33 => ?_
                    refine J.puti (κ := 1) (k := 18) hx rfl rfl rfl in_X9 tyX9_ok nmX9 (by decide) (Or.inl q1671) rfl rfl a0.1 ⟨rfl, rfl⟩ dX9_clause_158 fun w34 => ?_
                    refine J.goto (tgt := 168) hx dX9_clause_161 (by decide) ?_
                    exact J.sub [1, 2] rfl (hK168 w34)
                  · have z0 := j_neT n0 (a := 0) (by decide)
                    have z1 := j_neT n1 (a := 1) (by decide)
                    have z2 := j_neT n2 (a := 2) (by decide)
                    refine J.tswD (tgt := 164) hx dX9_clause_101 (by omega) (by decide) ?_
                    refine J.aload_n hx dX9_clause_164 rfl 0 rfl ?_
                    refine J.callv hx (fun r z1 z => j_callV (κ := 1) hx rfl rfl a0.1 (mt_X9_readLine a0 z) (lw_V q1896 q1898 qs55 q129 q1899) hd_X9_readLine rfl ⟨Nat.le_of_ble_eq_true rfl, Nat.le_of_ble_eq_true rfl⟩ (Nat.le_of_ble_eq_true rfl) dX9_clause_165) ⟨⟨rfl, rfl⟩, Nat.le_of_ble_eq_true rfl, Nat.le_of_ble_eq_true rfl⟩ fun _ w36 e37 => ?_
                    exact J.sub [1, 2] rfl (hK168 w36)
          · intro K96 hK96
            refine J.icmp_ne (tgt := 96) hx dX9_clause_78 (by decide) ?_ ?_
            · refine J.aload_n hx dX9_clause_81 rfl 0 rfl ?_
              refine J.geti (κ := 1) (k := 16) hx rfl rfl rfl in_X9 (by decide) (Or.inl q1669) a0.1 dX9_clause_82 fun v19 => ?_
              refine J.bipush (v := 8) hx dX9_clause_85 (by decide) ?_
              refine J.icmp_ne (tgt := 96) hx dX9_clause_87 (by decide) ?_ ?_
              · exact J.sub [0, 1] rfl (hK90 w18)
              · exact J.sub [0, 1, 2] rfl (hK96 w18)
            · exact J.sub [0, 1, 2] rfl (hK96 w18)
        · intro K76 hK76
          refine J.icmp_ge (tgt := 76) hx dX9_clause_65 (by decide) ?_ ?_
          · exact J.sub [1, 2, 0] rfl (hK76 w14)
          · refine J.iload_n hx dX9_clause_68 rfl 2 rfl ?_
            refine J.iload_n hx dX9_clause_69 rfl 0 rfl ?_
            refine J.calli hx (fun r z1 z => j_callS hx (mt_X9_has z) (lw_S q1881 q1882 q129 q1883) hd_X9_has.2 rfl ⟨Nat.le_of_ble_eq_true rfl, Nat.le_of_ble_eq_true rfl⟩ (Nat.le_of_ble_eq_true rfl) dX9_clause_70) ⟨⟨rfl, rfl⟩, Nat.le_of_ble_eq_true rfl, Nat.le_of_ble_eq_true rfl⟩ fun v15 w16 e17 => ?_
            refine J.if_ne (tgt := 90) hx dX9_clause_73 (by decide) ?_ ?_
            · exact J.sub [1, 2, 0] rfl (hK76 w16)
            · exact J.sub [1, 2] rfl (hK90 w16)
  · intro K57 hK57
    refine J.if_eq (tgt := 14) hx dX9_clause_7 (by decide) ?_ ?_
    · refine J.aload_n hx dX9_clause_14 rfl 0 rfl ?_
      refine J.gets (t := 6) (v := .long 7742498) hx rfl q1875 dX9_clause_15 ?_
      refine J.calli hx (fun r z1 z => j_callV (κ := 1) hx rfl rfl a0.1 (mt_X9_isWord a0 z) (lw_V q1871 q1873 qs51 q129 q1874) hd_X9_isWord rfl ⟨Nat.le_of_ble_eq_true rfl, Nat.le_of_ble_eq_true rfl⟩ (Nat.le_of_ble_eq_true rfl) dX9_clause_18) ⟨⟨rfl, rfl⟩, Nat.le_of_ble_eq_true rfl, Nat.le_of_ble_eq_true rfl⟩ fun v4 w5 e6 => ?_
      refine J.if_eq (tgt := 28) hx dX9_clause_21 (by decide) ?_ ?_
      · refine J.aload_n hx dX9_clause_28 rfl 0 rfl ?_
        refine J.gets (t := 7) (v := .long 9665171) hx rfl q1877 dX9_clause_29 ?_
        refine J.calli hx (fun r z1 z => j_callV (κ := 1) hx rfl rfl a0.1 (mt_X9_isWord a0 z) (lw_V q1871 q1873 qs51 q129 q1874) hd_X9_isWord rfl ⟨Nat.le_of_ble_eq_true rfl, Nat.le_of_ble_eq_true rfl⟩ (Nat.le_of_ble_eq_true rfl) dX9_clause_32) ⟨⟨rfl, rfl⟩, Nat.le_of_ble_eq_true rfl, Nat.le_of_ble_eq_true rfl⟩ fun v7 w8 e9 => ?_
        refine J.if_eq (tgt := 42) hx dX9_clause_35 (by decide) ?_ ?_
        · refine J.aload_n hx dX9_clause_42 rfl 0 rfl ?_
          refine J.gets (t := 4) (v := .long 243140) hx rfl q1879 dX9_clause_43 ?_
          refine J.calli hx (fun r z1 z => j_callV (κ := 1) hx rfl rfl a0.1 (mt_X9_isWord a0 z) (lw_V q1871 q1873 qs51 q129 q1874) hd_X9_isWord rfl ⟨Nat.le_of_ble_eq_true rfl, Nat.le_of_ble_eq_true rfl⟩ (Nat.le_of_ble_eq_true rfl) dX9_clause_46) ⟨⟨rfl, rfl⟩, Nat.le_of_ble_eq_true rfl, Nat.le_of_ble_eq_true rfl⟩ fun v10 w11 e12 => ?_
          refine J.if_eq (tgt := 56) hx dX9_clause_49 (by decide) ?_ ?_
          · refine J.iconst (v := (-1)) hx dX9_clause_56 (by decide) ?_
            exact J.sub [0, 1] rfl (hK57 (-1) w11)
          · refine J.iconst (v := 3) hx dX9_clause_52 (by decide) ?_
            refine J.goto (tgt := 57) hx dX9_clause_53 (by decide) ?_
            exact J.sub [0, 1] rfl (hK57 3 w11)
        · refine J.iconst (v := 2) hx dX9_clause_38 (by decide) ?_
          refine J.goto (tgt := 57) hx dX9_clause_39 (by decide) ?_
          exact J.sub [0, 1] rfl (hK57 2 w8)
      · refine J.iconst (v := 1) hx dX9_clause_24 (by decide) ?_
        refine J.goto (tgt := 57) hx dX9_clause_25 (by decide) ?_
        exact J.sub [0, 1] rfl (hK57 1 w5)
    · refine J.iconst (v := 0) hx dX9_clause_10 (by decide) ?_
      refine J.goto (tgt := 57) hx dX9_clause_11 (by decide) ?_
      exact J.sub [0, 1] rfl (hK57 0 w2)
theorem hd_X9_readTrace : yX9_readTrace.cls = RX9 ∧ yX9_readTrace.cls ≠ "java/lang/invoke/MethodHandle" ∧ yX9_readTrace.cls ≠ "java/lang/invoke/VarHandle" ∧ (parseMethodDescriptor yX9_readTrace.desc).map (fun d => d.parameters.length) = some 0 := by decide +kernel
def f_X9_readTrace_L23  (k66 : Int32 → j_St → Option (Int32 × j_St)) : Nat → Int32 → Int32 → j_St → Option (Int32 × j_St)
  | 0, _, _, _ => none
  | n23 + 1, v7, v8, w9 => if v8 = 0 then k66 v7 w9 else jcb (f_X9_clause v7 w9) fun v10 w11 => jlt (jgi w11 1 0 8) fun v13 => jlt (fun (v16 : Int32) (w17 : j_St) => if v16 = 0 then f_X9_readTrace_L23 k66 n23 v10 v16 w17 else jcb (f_X9_next w17) fun _ w19 => f_X9_readTrace_L23 k66 n23 v10 v16 w19) fun K54 => jlt (fun (w15 : j_St) => K54 0 w15) fun K53 => if v13 = (-1) then jlt (jgi w11 1 0 4) fun v14 => if v14 = 3 then K54 1 w11 else K53 w11 else K53 w11
def f_X9_readTrace  (w : j_St) : Option (Int32 × j_St) := jcb (f_X9_begins w) fun _ w2 => jlt (jsi w2 1 0 16 0) fun w4 => jlt (jsi w4 1 0 17 0) fun w5 => jlt (jsi w5 1 0 18 1) fun w6 => f_X9_readTrace_L23 (fun (v21 : Int32) (w22 : j_St) => jlt (jgi w22 1 0 8) fun v23 => if v23 = (-1) then jlt (jgi w22 1 0 4) fun v25 => jlt (fun (w30 : j_St) => jcb (f_X9_bad w30) fun _ w32 => jlt (jgi w32 1 0 8) fun v34 => some (v34, w32)) fun K89 => if v25 = 0 then jcb (f_X9_has v21 0 w22) fun v26 w27 => if v26 = 0 then K89 w27 else jlt (jgi w27 1 0 8) fun v29 => some (v29, w27) else K89 w22 else jlt (jgi w22 1 0 8) fun v24 => some (v24, w22)) jFU 0 1 w6
abbrev rm_X9_readTrace : Room := { frames := 6, cells := 0, slots := 0, locals := 131 }
set_option maxRecDepth 100000 in
set_option maxHeartbeats 4000000 in
theorem mt_X9_readTrace {g : j_G} {B : j_B}  {w w' : j_St} (a0 : B.2.1 1 0 ∧ B.2.2 1 0) {r : Int32} (h : f_X9_readTrace  w = some (r, w')) : j_M g yX9_readTrace cX9_readTrace 3 (some FieldType.int) rm_X9_readTrace B [.ref (B.1 1 0)] w w' (jri r) := by
  refine j_met (rv := jri) (by decide) (Nat.le_of_ble_eq_true rfl) (fun x hx => ?_) h
  unfold f_X9_readTrace
  refine J.sub (lv' := [(0, .ref (B.1 1 0))]) [0] rfl ?_
  refine J.aload_n hx dX9_readTrace_0 rfl 0 rfl ?_
  refine J.callv hx (fun r z1 z => j_callV (κ := 1) hx rfl rfl a0.1 (mt_X9_begins a0 z) (lw_V q1837 q1839 qs45 q129 q1840) hd_X9_begins rfl ⟨Nat.le_of_ble_eq_true rfl, Nat.le_of_ble_eq_true rfl⟩ (Nat.le_of_ble_eq_true rfl) dX9_readTrace_1) ⟨⟨rfl, rfl⟩, Nat.le_of_ble_eq_true rfl, Nat.le_of_ble_eq_true rfl⟩ fun _ w2 e3 => ?_
  refine J.aload_n hx dX9_readTrace_4 rfl 0 rfl ?_
  refine J.iconst (v := 0) hx dX9_readTrace_5 (by decide) ?_
  refine J.puti (κ := 1) (k := 16) hx rfl rfl rfl in_X9 tyX9_ok nmX9 (by decide) (Or.inl q1669) rfl rfl a0.1 ⟨rfl, rfl⟩ dX9_readTrace_6 fun w4 => ?_
  refine J.aload_n hx dX9_readTrace_9 rfl 0 rfl ?_
  refine J.iconst (v := 0) hx dX9_readTrace_10 (by decide) ?_
  refine J.puti (κ := 1) (k := 17) hx rfl rfl rfl in_X9 tyX9_ok nmX9 (by decide) (Or.inl q1670) rfl rfl a0.1 ⟨rfl, rfl⟩ dX9_readTrace_11 fun w5 => ?_
  refine J.aload_n hx dX9_readTrace_14 rfl 0 rfl ?_
  refine J.iconst (v := 1) hx dX9_readTrace_15 (by decide) ?_
  refine J.puti (κ := 1) (k := 18) hx rfl rfl rfl in_X9 tyX9_ok nmX9 (by decide) (Or.inl q1671) rfl rfl a0.1 ⟨rfl, rfl⟩ dX9_readTrace_16 fun w6 => ?_
  refine J.iconst (v := 0) hx dX9_readTrace_19 (by decide) ?_
  refine J.istore_n (lv' := [(1, .int 0), (0, .ref (B.1 1 0))]) hx dX9_readTrace_20 rfl (by decide) rfl ?_
  refine J.iconst (v := 1) hx dX9_readTrace_21 (by decide) ?_
  refine J.istore_n (lv' := [(2, .int 1), (1, .int 0), (0, .ref (B.1 1 0))]) hx dX9_readTrace_22 rfl (by decide) rfl ?_
  have hL23 : ∀ (k66 : Int32 → j_St → Option (Int32 × j_St)) (hk66 : ∀ (v21 : Int32) (w22 : j_St), J g x 3 B (j_Q g x B rm_X9_readTrace jri) 0 0 (k66 v21 w22) 66 [(0, .ref (B.1 1 0)), (1, .int v21)] [] w22) (n23 : Nat) (v7 : Int32) (v8 : Int32) (w9 : j_St), J g x 3 B (j_Q g x B rm_X9_readTrace jri) 0 0 (f_X9_readTrace_L23 k66 n23 v7 v8 w9) 23 [(0, .ref (B.1 1 0)), (1, .int v7), (2, .int v8)] [] w9 := by
    intro k66 hk66 n23
    induction n23 with
    | zero =>
      intro v7 v8 w9
      rw [f_X9_readTrace_L23]
      exact J.nne
    | succ n23 ih =>
      intro v7 v8 w9
      rw [f_X9_readTrace_L23]
      refine J.iload_n hx dX9_readTrace_23 rfl 2 rfl ?_
      refine J.if_eq (tgt := 66) hx dX9_readTrace_24 (by decide) ?_ ?_
      · exact J.sub [0, 1] rfl (hk66 v7 w9)
      · refine J.aload_n hx dX9_readTrace_27 rfl 0 rfl ?_
        refine J.iload_n hx dX9_readTrace_28 rfl 1 rfl ?_
        refine J.calli hx (fun r z1 z => j_callV (κ := 1) hx rfl rfl a0.1 (mt_X9_clause a0 z) (lw_V q1865 q1867 qs50 q129 q1868) hd_X9_clause rfl ⟨Nat.le_of_ble_eq_true rfl, Nat.le_of_ble_eq_true rfl⟩ (Nat.le_of_ble_eq_true rfl) dX9_readTrace_29) ⟨⟨rfl, rfl⟩, Nat.le_of_ble_eq_true rfl, Nat.le_of_ble_eq_true rfl⟩ fun v10 w11 e12 => ?_
        refine J.istore_n (lv' := [(1, .int v10), (0, .ref (B.1 1 0)), (2, .int v8)]) hx dX9_readTrace_32 rfl (by decide) rfl ?_
        refine J.aload_n hx dX9_readTrace_33 rfl 1 rfl ?_
        refine J.geti (κ := 1) (k := 8) hx rfl rfl rfl in_X9 (by decide) (Or.inl q1661) a0.1 dX9_readTrace_34 fun v13 => ?_
        refine J.iconst (v := (-1)) hx dX9_readTrace_37 (by decide) ?_
        refine J.fn (fun (K54 : Int32 → j_St → Option (Int32 × j_St)) => ∀ (v16 : Int32) (w17 : j_St), J g x 3 B (j_Q g x B rm_X9_readTrace jri) 0 0 (K54 v16 w17) 54 [(0, .ref (B.1 1 0)), (1, .int v10)] [.int v16] w17) ?_ ?_
        · intro v16 w17
          refine J.istore_n (lv' := [(2, .int v16), (0, .ref (B.1 1 0)), (1, .int v10)]) hx dX9_readTrace_54 rfl (by decide) rfl ?_
          refine J.iload_n hx dX9_readTrace_55 rfl 0 rfl ?_
          refine J.if_eq (tgt := 23) hx dX9_readTrace_56 (by decide) ?_ ?_
          · exact J.sub [1, 2, 0] rfl (ih v10 v16 w17)
          · refine J.aload_n hx dX9_readTrace_59 rfl 1 rfl ?_
            refine J.callv hx (fun r z1 z => j_callV (κ := 1) hx rfl rfl a0.1 (mt_X9_next a0 z) (lw_V q1841 q1843 qs46 q129 q1844) hd_X9_next rfl ⟨Nat.le_of_ble_eq_true rfl, Nat.le_of_ble_eq_true rfl⟩ (Nat.le_of_ble_eq_true rfl) dX9_readTrace_60) ⟨⟨rfl, rfl⟩, Nat.le_of_ble_eq_true rfl, Nat.le_of_ble_eq_true rfl⟩ fun _ w19 e20 => ?_
            refine J.goto (tgt := 23) hx dX9_readTrace_63 (by decide) ?_
            exact J.sub [1, 2, 0] rfl (ih v10 v16 w19)
        · intro K54 hK54
          refine J.fn (fun (K53 : j_St → Option (Int32 × j_St)) => ∀  (w15 : j_St), J g x 3 B (j_Q g x B rm_X9_readTrace jri) 0 0 (K53 w15) 53 [(0, .ref (B.1 1 0)), (1, .int v10)] [] w15) ?_ ?_
          · intro w15
            refine J.iconst (v := 0) hx dX9_readTrace_53 (by decide) ?_
            exact J.sub [0, 1] rfl (hK54 0 w15)
          · intro K53 hK53
            refine J.icmp_ne (tgt := 53) hx dX9_readTrace_38 (by decide) ?_ ?_
            · refine J.aload_n hx dX9_readTrace_41 rfl 1 rfl ?_
              refine J.geti (κ := 1) (k := 4) hx rfl rfl rfl in_X9 (by decide) (Or.inl q1657) a0.1 dX9_readTrace_42 fun v14 => ?_
              refine J.iconst (v := 3) hx dX9_readTrace_45 (by decide) ?_
              refine J.icmp_ne (tgt := 53) hx dX9_readTrace_46 (by decide) ?_ ?_
              · refine J.iconst (v := 1) hx dX9_readTrace_49 (by decide) ?_
                refine J.goto (tgt := 54) hx dX9_readTrace_50 (by decide) ?_
                exact J.sub [1, 0] rfl (hK54 1 w11)
              · exact J.sub [1, 0] rfl (hK53 w11)
            · exact J.sub [1, 0] rfl (hK53 w11)
  refine J.sub [2, 1, 0] rfl (hL23 _ ?_ jFU 0 1 w6)
  · intro v21 w22
    refine J.aload_n hx dX9_readTrace_66 rfl 0 rfl ?_
    refine J.geti (κ := 1) (k := 8) hx rfl rfl rfl in_X9 (by decide) (Or.inl q1661) a0.1 dX9_readTrace_67 fun v23 => ?_
    refine J.iconst (v := (-1)) hx dX9_readTrace_70 (by decide) ?_
    refine J.icmp_ne (tgt := 93) hx dX9_readTrace_71 (by decide) ?_ ?_
    · refine J.aload_n hx dX9_readTrace_74 rfl 0 rfl ?_
      refine J.geti (κ := 1) (k := 4) hx rfl rfl rfl in_X9 (by decide) (Or.inl q1657) a0.1 dX9_readTrace_75 fun v25 => ?_
      refine J.fn (fun (K89 : j_St → Option (Int32 × j_St)) => ∀  (w30 : j_St), J g x 3 B (j_Q g x B rm_X9_readTrace jri) 0 0 (K89 w30) 89 [(0, .ref (B.1 1 0))] [] w30) ?_ ?_
      · intro w30
        refine J.aload_n hx dX9_readTrace_89 rfl 0 rfl ?_
        refine J.callv hx (fun r z1 z => j_callV (κ := 1) hx rfl rfl a0.1 (mt_X9_bad a0 z) (lw_V q1884 q1886 qs52 q129 q1887) hd_X9_bad rfl ⟨Nat.le_of_ble_eq_true rfl, Nat.le_of_ble_eq_true rfl⟩ (Nat.le_of_ble_eq_true rfl) dX9_readTrace_90) ⟨⟨rfl, rfl⟩, Nat.le_of_ble_eq_true rfl, Nat.le_of_ble_eq_true rfl⟩ fun _ w32 e33 => ?_
        refine J.aload_n hx dX9_readTrace_93 rfl 0 rfl ?_
        refine J.geti (κ := 1) (k := 8) hx rfl rfl rfl in_X9 (by decide) (Or.inl q1661) a0.1 dX9_readTrace_94 fun v34 => ?_
        exact J.iret hx rfl (Nat.le_of_ble_eq_true rfl) (Nat.le_of_ble_eq_true rfl) dX9_readTrace_97
      · intro K89 hK89
        refine J.if_ne (tgt := 89) hx dX9_readTrace_78 (by decide) ?_ ?_
        · refine J.iload_n hx dX9_readTrace_81 rfl 1 rfl ?_
          refine J.iconst (v := 0) hx dX9_readTrace_82 (by decide) ?_
          refine J.calli hx (fun r z1 z => j_callS hx (mt_X9_has z) (lw_S q1881 q1882 q129 q1883) hd_X9_has.2 rfl ⟨Nat.le_of_ble_eq_true rfl, Nat.le_of_ble_eq_true rfl⟩ (Nat.le_of_ble_eq_true rfl) dX9_readTrace_83) ⟨⟨rfl, rfl⟩, Nat.le_of_ble_eq_true rfl, Nat.le_of_ble_eq_true rfl⟩ fun v26 w27 e28 => ?_
          refine J.if_ne (tgt := 93) hx dX9_readTrace_86 (by decide) ?_ ?_
          · exact J.sub [0] rfl (hK89 w27)
          · refine J.aload_n hx dX9_readTrace_93 rfl 0 rfl ?_
            refine J.geti (κ := 1) (k := 8) hx rfl rfl rfl in_X9 (by decide) (Or.inl q1661) a0.1 dX9_readTrace_94 fun v29 => ?_
            exact J.iret hx rfl (Nat.le_of_ble_eq_true rfl) (Nat.le_of_ble_eq_true rfl) dX9_readTrace_97
        · exact J.sub [0] rfl (hK89 w22)
    · refine J.aload_n hx dX9_readTrace_93 rfl 0 rfl ?_
      refine J.geti (κ := 1) (k := 8) hx rfl rfl rfl in_X9 (by decide) (Or.inl q1661) a0.1 dX9_readTrace_94 fun v24 => ?_
      exact J.iret hx rfl (Nat.le_of_ble_eq_true rfl) (Nat.le_of_ble_eq_true rfl) dX9_readTrace_97
theorem hd_X9_wordOf : yX9_wordOf.cls = RX9 ∧ yX9_wordOf.cls ≠ "java/lang/invoke/MethodHandle" ∧ yX9_wordOf.cls ≠ "java/lang/invoke/VarHandle" ∧ (parseMethodDescriptor yX9_wordOf.desc).map (fun d => d.parameters.length) = some 1 := by decide +kernel
def f_X9_wordOf (p0 : Int32) (w : j_St) : Option (Int64 × j_St) := if p0 = 0 then some (279844694, w) else if p0 = 1 then some (189278330, w) else if p0 = 2 then some (126893, w) else if p0 = 3 then some (409469, w) else if p0 = 4 then some (68056, w) else if p0 = 5 then some (242939, w) else if p0 = 6 then some (10157486, w) else if p0 = 7 then some (14006, w) else if p0 = 8 then some (7742498, w) else some (2774, w)
abbrev rm_X9_wordOf : Room := { frames := 0, cells := 0, slots := 0, locals := 0 }
set_option maxRecDepth 100000 in
set_option maxHeartbeats 4000000 in
theorem mt_X9_wordOf {g : j_G} {B : j_B} {p0 : Int32} {w w' : j_St}  {r : Int64} (h : f_X9_wordOf p0 w = some (r, w')) : j_M g yX9_wordOf cX9_wordOf 1 (some FieldType.long) rm_X9_wordOf B [.int p0] w w' (jrl r) := by
  refine j_met (rv := jrl) (by decide) (Nat.le_of_ble_eq_true rfl) (fun x hx => ?_) h
  unfold f_X9_wordOf
  refine J.sub (lv' := [(0, .int p0)]) [0] rfl ?_
  refine J.iload_n hx dX9_wordOf_0 rfl 0 rfl ?_
  refine J.ite (fun e0 => ?_) (fun n0 => ?_)
  · refine J.tsw (off := 51) (tgt := 52) hx dX9_wordOf_1 (by rw [e0]; decide) (by rw [e0]; decide) (by rw [e0]; rfl) (by decide) ?_
    refine J.gets (t := 10) (v := .long 279844694) hx rfl q1911 dX9_wordOf_52 ?_
    exact J.lret hx rfl (Nat.le_of_ble_eq_true rfl) (Nat.le_of_ble_eq_true rfl) dX9_wordOf_55
  · refine J.ite (fun e1 => ?_) (fun n1 => ?_)
    · refine J.tsw (off := 55) (tgt := 56) hx dX9_wordOf_1 (by rw [e1]; decide) (by rw [e1]; decide) (by rw [e1]; rfl) (by decide) ?_
      refine J.gets (t := 5) (v := .long 189278330) hx rfl q1913 dX9_wordOf_56 ?_
      exact J.lret hx rfl (Nat.le_of_ble_eq_true rfl) (Nat.le_of_ble_eq_true rfl) dX9_wordOf_59
    · refine J.ite (fun e2 => ?_) (fun n2 => ?_)
      · refine J.tsw (off := 59) (tgt := 60) hx dX9_wordOf_1 (by rw [e2]; decide) (by rw [e2]; decide) (by rw [e2]; rfl) (by decide) ?_
        refine J.gets (t := 2) (v := .long 126893) hx rfl q1915 dX9_wordOf_60 ?_
        exact J.lret hx rfl (Nat.le_of_ble_eq_true rfl) (Nat.le_of_ble_eq_true rfl) dX9_wordOf_63
      · refine J.ite (fun e3 => ?_) (fun n3 => ?_)
        · refine J.tsw (off := 63) (tgt := 64) hx dX9_wordOf_1 (by rw [e3]; decide) (by rw [e3]; decide) (by rw [e3]; rfl) (by decide) ?_
          refine J.gets (t := 12) (v := .long 409469) hx rfl q1917 dX9_wordOf_64 ?_
          exact J.lret hx rfl (Nat.le_of_ble_eq_true rfl) (Nat.le_of_ble_eq_true rfl) dX9_wordOf_67
        · refine J.ite (fun e4 => ?_) (fun n4 => ?_)
          · refine J.tsw (off := 67) (tgt := 68) hx dX9_wordOf_1 (by rw [e4]; decide) (by rw [e4]; decide) (by rw [e4]; rfl) (by decide) ?_
            refine J.gets (t := 0) (v := .long 68056) hx rfl q1919 dX9_wordOf_68 ?_
            exact J.lret hx rfl (Nat.le_of_ble_eq_true rfl) (Nat.le_of_ble_eq_true rfl) dX9_wordOf_71
          · refine J.ite (fun e5 => ?_) (fun n5 => ?_)
            · refine J.tsw (off := 71) (tgt := 72) hx dX9_wordOf_1 (by rw [e5]; decide) (by rw [e5]; decide) (by rw [e5]; rfl) (by decide) ?_
              refine J.gets (t := 3) (v := .long 242939) hx rfl q1921 dX9_wordOf_72 ?_
              exact J.lret hx rfl (Nat.le_of_ble_eq_true rfl) (Nat.le_of_ble_eq_true rfl) dX9_wordOf_75
            · refine J.ite (fun e6 => ?_) (fun n6 => ?_)
              · refine J.tsw (off := 75) (tgt := 76) hx dX9_wordOf_1 (by rw [e6]; decide) (by rw [e6]; decide) (by rw [e6]; rfl) (by decide) ?_
                refine J.gets (t := 8) (v := .long 10157486) hx rfl q1923 dX9_wordOf_76 ?_
                exact J.lret hx rfl (Nat.le_of_ble_eq_true rfl) (Nat.le_of_ble_eq_true rfl) dX9_wordOf_79
              · refine J.ite (fun e7 => ?_) (fun n7 => ?_)
                · refine J.tsw (off := 79) (tgt := 80) hx dX9_wordOf_1 (by rw [e7]; decide) (by rw [e7]; decide) (by rw [e7]; rfl) (by decide) ?_
                  refine J.gets (t := 9) (v := .long 14006) hx rfl q1925 dX9_wordOf_80 ?_
                  exact J.lret hx rfl (Nat.le_of_ble_eq_true rfl) (Nat.le_of_ble_eq_true rfl) dX9_wordOf_83
                · refine J.ite (fun e8 => ?_) (fun n8 => ?_)
                  · refine J.tsw (off := 83) (tgt := 84) hx dX9_wordOf_1 (by rw [e8]; decide) (by rw [e8]; decide) (by rw [e8]; rfl) (by decide) ?_
                    refine J.gets (t := 6) (v := .long 7742498) hx rfl q1875 dX9_wordOf_84 ?_
                    exact J.lret hx rfl (Nat.le_of_ble_eq_true rfl) (Nat.le_of_ble_eq_true rfl) dX9_wordOf_87
                  · have z0 := j_neT n0 (a := 0) (by decide)
                    have z1 := j_neT n1 (a := 1) (by decide)
                    have z2 := j_neT n2 (a := 2) (by decide)
                    have z3 := j_neT n3 (a := 3) (by decide)
                    have z4 := j_neT n4 (a := 4) (by decide)
                    have z5 := j_neT n5 (a := 5) (by decide)
                    have z6 := j_neT n6 (a := 6) (by decide)
                    have z7 := j_neT n7 (a := 7) (by decide)
                    have z8 := j_neT n8 (a := 8) (by decide)
                    refine J.tswD (tgt := 88) hx dX9_wordOf_1 (by omega) (by decide) ?_
                    refine J.gets (t := 1) (v := .long 2774) hx rfl q1927 dX9_wordOf_88 ?_
                    exact J.lret hx rfl (Nat.le_of_ble_eq_true rfl) (Nat.le_of_ble_eq_true rfl) dX9_wordOf_91
theorem hd_X9_numbersOf : yX9_numbersOf.cls = RX9 ∧ yX9_numbersOf.cls ≠ "java/lang/invoke/MethodHandle" ∧ yX9_numbersOf.cls ≠ "java/lang/invoke/VarHandle" ∧ (parseMethodDescriptor yX9_numbersOf.desc).map (fun d => d.parameters.length) = some 1 := by decide +kernel
def f_X9_numbersOf (p0 : Int32) (w : j_St) : Option (Int32 × j_St) := if 3 < p0 then jlt (fun (w1 : j_St) => some (1, w1)) fun K25 => if p0 = 4 then K25 w else if p0 = 5 then K25 w else if p0 = 8 then K25 w else some (2, w) else some (0, w)
abbrev rm_X9_numbersOf : Room := { frames := 0, cells := 0, slots := 0, locals := 0 }
set_option maxRecDepth 100000 in
set_option maxHeartbeats 4000000 in
theorem mt_X9_numbersOf {g : j_G} {B : j_B} {p0 : Int32} {w w' : j_St}  {r : Int32} (h : f_X9_numbersOf p0 w = some (r, w')) : j_M g yX9_numbersOf cX9_numbersOf 1 (some FieldType.int) rm_X9_numbersOf B [.int p0] w w' (jri r) := by
  refine j_met (rv := jri) (by decide) (Nat.le_of_ble_eq_true rfl) (fun x hx => ?_) h
  unfold f_X9_numbersOf
  refine J.sub (lv' := [(0, .int p0)]) [0] rfl ?_
  refine J.iload_n hx dX9_numbersOf_0 rfl 0 rfl ?_
  refine J.iconst (v := 3) hx dX9_numbersOf_1 (by decide) ?_
  refine J.icmp_gt (tgt := 9) hx dX9_numbersOf_2 (by decide) ?_ ?_
  · refine J.iload_n hx dX9_numbersOf_9 rfl 0 rfl ?_
    refine J.iconst (v := 4) hx dX9_numbersOf_10 (by decide) ?_
    refine J.fn (fun (K25 : j_St → Option (Int32 × j_St)) => ∀  (w1 : j_St), J g x 1 B (j_Q g x B rm_X9_numbersOf jri) 0 0 (K25 w1) 25 [] [] w1) ?_ ?_
    · intro w1
      refine J.iconst (v := 1) hx dX9_numbersOf_25 (by decide) ?_
      refine J.goto (tgt := 30) hx dX9_numbersOf_26 (by decide) ?_
      exact J.iret hx rfl (Nat.le_of_ble_eq_true rfl) (Nat.le_of_ble_eq_true rfl) dX9_numbersOf_30
    · intro K25 hK25
      refine J.icmp_eq (tgt := 25) hx dX9_numbersOf_11 (by decide) ?_ ?_
      · exact J.sub [] rfl (hK25 w)
      · refine J.iload_n hx dX9_numbersOf_14 rfl 0 rfl ?_
        refine J.iconst (v := 5) hx dX9_numbersOf_15 (by decide) ?_
        refine J.icmp_eq (tgt := 25) hx dX9_numbersOf_16 (by decide) ?_ ?_
        · exact J.sub [] rfl (hK25 w)
        · refine J.iload_n hx dX9_numbersOf_19 rfl 0 rfl ?_
          refine J.bipush (v := 8) hx dX9_numbersOf_20 (by decide) ?_
          refine J.icmp_ne (tgt := 29) hx dX9_numbersOf_22 (by decide) ?_ ?_
          · exact J.sub [] rfl (hK25 w)
          · refine J.iconst (v := 2) hx dX9_numbersOf_29 (by decide) ?_
            exact J.iret hx rfl (Nat.le_of_ble_eq_true rfl) (Nat.le_of_ble_eq_true rfl) dX9_numbersOf_30
  · refine J.iconst (v := 0) hx dX9_numbersOf_5 (by decide) ?_
    refine J.goto (tgt := 30) hx dX9_numbersOf_6 (by decide) ?_
    exact J.iret hx rfl (Nat.le_of_ble_eq_true rfl) (Nat.le_of_ble_eq_true rfl) dX9_numbersOf_30
theorem hd_X9_readStep : yX9_readStep.cls = RX9 ∧ yX9_readStep.cls ≠ "java/lang/invoke/MethodHandle" ∧ yX9_readStep.cls ≠ "java/lang/invoke/VarHandle" ∧ (parseMethodDescriptor yX9_readStep.desc).map (fun d => d.parameters.length) = some 1 := by decide +kernel
def f_X9_readStep_L4  (k33 : Int32 → j_St → Option (Unit × j_St)) : Nat → Int32 → Int32 → j_St → Option (Unit × j_St)
  | 0, _, _, _ => none
  | n4 + 1, v1, v2, w3 => if 10 ≤ v2 then k33 v1 w3 else jcb (f_X9_wordOf v2 w3) fun v4 w5 => jcb (f_X9_isWord v4 w5) fun v7 w8 => jlt (fun (v10 : Int32) (w11 : j_St) => jlt (v2 + 1) fun v12 => f_X9_readStep_L4 k33 n4 v10 v12 w11) fun K26 => if v7 = 0 then K26 v1 w8 else K26 v2 w8
def f_X9_readStep_L56 (p1 : Int32) (v13 : Int32)  : Nat → Int32 → j_St → Option (Unit × j_St)
  | 0, _, _ => none
  | n56 + 1, v21, w22 => if 3 ≤ v21 then some ((), w22) else jbd (p1 + v21) 180 fun a25 => jlt (jsi w22 45 0 a25 (-1000000)) fun w24 => jcb (f_X9_numbersOf v13 w24) fun v26 w27 => jlt (fun (w42 : j_St) => jlt (v21 + 1) fun v43 => f_X9_readStep_L56 p1 v13 n56 v43 w42) fun K118 => if v26 < v21 then K118 w27 else jlt (jgi w27 1 0 8) fun v29 => jlt (fun (w38 : j_St) => jcb (f_X9_bad w38) fun _ w40 => K118 w40) fun K95 => if v29 = (-1) then jlt (jgi w27 1 0 4) fun v30 => if v30 = 2 then jlt (jgi w27 1 0 6) fun v32 => jbd (p1 + v21) 180 fun a34 => jlt (jsi w27 45 0 a34 v32) fun w33 => jcb (f_X9_next w33) fun _ w36 => K118 w36 else K95 w27 else K95 w27
def f_X9_readStep (p1 : Int32) (w : j_St) : Option (Unit × j_St) := f_X9_readStep_L4 (fun (v13 : Int32) (w14 : j_St) => if v13 = (-1) then jcb (f_X9_bad w14) fun _ w45 => some ((), w45) else jcb (f_X9_next w14) fun _ w16 => jbd p1 180 fun a20 => jlt (jsi w16 45 0 a20 v13) fun w19 => f_X9_readStep_L56 p1 v13 jFU 1 w19) jFU (-1) 0 w
abbrev rm_X9_readStep : Room := { frames := 3, cells := 0, slots := 0, locals := 64 }
set_option maxRecDepth 100000 in
set_option maxHeartbeats 4000000 in
theorem mt_X9_readStep {g : j_G} {B : j_B} {p1 : Int32} {w w' : j_St} (a0 : B.2.1 1 0 ∧ B.2.2 1 0) {r : Unit} (h : f_X9_readStep p1 w = some (r, w')) : j_M g yX9_readStep cX9_readStep 4 none rm_X9_readStep B [.ref (B.1 1 0), .int p1] w w' (jrv r) := by
  refine j_met (rv := jrv) (by decide) (Nat.le_of_ble_eq_true rfl) (fun x hx => ?_) h
  unfold f_X9_readStep
  refine J.sub (lv' := [(0, .ref (B.1 1 0)), (1, .int p1)]) [0, 1] rfl ?_
  refine J.iconst (v := (-1)) hx dX9_readStep_0 (by decide) ?_
  refine J.istore_n (lv' := [(2, .int (-1)), (0, .ref (B.1 1 0)), (1, .int p1)]) hx dX9_readStep_1 rfl (by decide) rfl ?_
  refine J.iconst (v := 0) hx dX9_readStep_2 (by decide) ?_
  refine J.istore_n (lv' := [(3, .int 0), (2, .int (-1)), (0, .ref (B.1 1 0)), (1, .int p1)]) hx dX9_readStep_3 rfl (by decide) rfl ?_
  have hL4 : ∀ (k33 : Int32 → j_St → Option (Unit × j_St)) (hk33 : ∀ (v13 : Int32) (w14 : j_St), J g x 4 B (j_Q g x B rm_X9_readStep jrv) 0 0 (k33 v13 w14) 33 [(0, .ref (B.1 1 0)), (1, .int p1), (2, .int v13)] [] w14) (n4 : Nat) (v1 : Int32) (v2 : Int32) (w3 : j_St), J g x 4 B (j_Q g x B rm_X9_readStep jrv) 0 0 (f_X9_readStep_L4 k33 n4 v1 v2 w3) 4 [(0, .ref (B.1 1 0)), (1, .int p1), (2, .int v1), (3, .int v2)] [] w3 := by
    intro k33 hk33 n4
    induction n4 with
    | zero =>
      intro v1 v2 w3
      rw [f_X9_readStep_L4]
      exact J.nne
    | succ n4 ih =>
      intro v1 v2 w3
      rw [f_X9_readStep_L4]
      refine J.iload_n hx dX9_readStep_4 rfl 3 rfl ?_
      refine J.bipush (v := 10) hx dX9_readStep_5 (by decide) ?_
      refine J.icmp_ge (tgt := 33) hx dX9_readStep_7 (by decide) ?_ ?_
      · exact J.sub [0, 1, 2] rfl (hk33 v1 w3)
      · refine J.aload_n hx dX9_readStep_10 rfl 0 rfl ?_
        refine J.iload_n hx dX9_readStep_11 rfl 3 rfl ?_
        refine J.calll hx (fun r z1 z => j_callS hx (mt_X9_wordOf z) (lw_S q1908 q1909 q129 q1910) hd_X9_wordOf.2 rfl ⟨Nat.le_of_ble_eq_true rfl, Nat.le_of_ble_eq_true rfl⟩ (Nat.le_of_ble_eq_true rfl) dX9_readStep_12) ⟨⟨rfl, rfl⟩, Nat.le_of_ble_eq_true rfl, Nat.le_of_ble_eq_true rfl⟩ fun v4 w5 e6 => ?_
        refine J.calli hx (fun r z1 z => j_callV (κ := 1) hx rfl rfl a0.1 (mt_X9_isWord a0 z) (lw_V q1871 q1873 qs51 q129 q1874) hd_X9_isWord rfl ⟨Nat.le_of_ble_eq_true rfl, Nat.le_of_ble_eq_true rfl⟩ (Nat.le_of_ble_eq_true rfl) dX9_readStep_15) ⟨⟨rfl, rfl⟩, Nat.le_of_ble_eq_true rfl, Nat.le_of_ble_eq_true rfl⟩ fun v7 w8 e9 => ?_
        refine J.fn (fun (K26 : Int32 → j_St → Option (Unit × j_St)) => ∀ (v10 : Int32) (w11 : j_St), J g x 4 B (j_Q g x B rm_X9_readStep jrv) 0 0 (K26 v10 w11) 26 [(0, .ref (B.1 1 0)), (1, .int p1), (3, .int v2)] [.int v10] w11) ?_ ?_
        · intro v10 w11
          refine J.istore_n (lv' := [(2, .int v10), (0, .ref (B.1 1 0)), (1, .int p1), (3, .int v2)]) hx dX9_readStep_26 rfl (by decide) rfl ?_
          refine J.nmx fun v12 ev12 => ?_
          refine J.iinc (p := 3) (v := v12) (lv' := [(3, .int v12), (2, .int v10), (0, .ref (B.1 1 0)), (1, .int p1)]) hx dX9_readStep_27 rfl (by rw [ev12]; rfl) (by decide) rfl ?_
          refine J.goto (tgt := 4) hx dX9_readStep_30 (by decide) ?_
          exact J.sub [2, 3, 1, 0] rfl (ih v10 v12 w11)
        · intro K26 hK26
          refine J.if_eq (tgt := 25) hx dX9_readStep_18 (by decide) ?_ ?_
          · refine J.iload_n hx dX9_readStep_25 rfl 2 rfl ?_
            exact J.sub [0, 1, 3] rfl (hK26 v1 w8)
          · refine J.iload_n hx dX9_readStep_21 rfl 3 rfl ?_
            refine J.goto (tgt := 26) hx dX9_readStep_22 (by decide) ?_
            exact J.sub [0, 1, 3] rfl (hK26 v2 w8)
  refine J.sub [2, 3, 1, 0] rfl (hL4 _ ?_ jFU (-1) 0 w)
  · intro v13 w14
    refine J.iload_n hx dX9_readStep_33 rfl 2 rfl ?_
    refine J.iconst (v := (-1)) hx dX9_readStep_34 (by decide) ?_
    refine J.icmp_ne (tgt := 43) hx dX9_readStep_35 (by decide) ?_ ?_
    · refine J.aload_n hx dX9_readStep_38 rfl 0 rfl ?_
      refine J.callv hx (fun r z1 z => j_callV (κ := 1) hx rfl rfl a0.1 (mt_X9_bad a0 z) (lw_V q1884 q1886 qs52 q129 q1887) hd_X9_bad rfl ⟨Nat.le_of_ble_eq_true rfl, Nat.le_of_ble_eq_true rfl⟩ (Nat.le_of_ble_eq_true rfl) dX9_readStep_39) ⟨⟨rfl, rfl⟩, Nat.le_of_ble_eq_true rfl, Nat.le_of_ble_eq_true rfl⟩ fun _ w45 e46 => ?_
      exact J.vret hx rfl (Nat.le_of_ble_eq_true rfl) (Nat.le_of_ble_eq_true rfl) dX9_readStep_42
    · refine J.aload_n hx dX9_readStep_43 rfl 0 rfl ?_
      refine J.callv hx (fun r z1 z => j_callV (κ := 1) hx rfl rfl a0.1 (mt_X9_next a0 z) (lw_V q1841 q1843 qs46 q129 q1844) hd_X9_next rfl ⟨Nat.le_of_ble_eq_true rfl, Nat.le_of_ble_eq_true rfl⟩ (Nat.le_of_ble_eq_true rfl) dX9_readStep_44) ⟨⟨rfl, rfl⟩, Nat.le_of_ble_eq_true rfl, Nat.le_of_ble_eq_true rfl⟩ fun _ w16 e17 => ?_
      refine J.aload_n hx dX9_readStep_47 rfl 0 rfl ?_
      refine J.getc (κ' := 45) (i' := 0) (κ := 1) (k := 19) hx rfl rfl rfl rfl rfl in_X9 (by decide) (Or.inl q1672) a0.2 dX9_readStep_48 fun h18 => ?_
      refine J.iload_n hx dX9_readStep_51 rfl 1 rfl ?_
      refine J.iload_n hx dX9_readStep_52 rfl 2 rfl ?_
      refine J.iast (κ := 45) hx rfl rfl rfl h18.1 dX9_readStep_53 fun w19 => ?_
      refine J.iconst (v := 1) hx dX9_readStep_54 (by decide) ?_
      refine J.istore_n (lv' := [(3, .int 1), (0, .ref (B.1 1 0)), (1, .int p1), (2, .int v13)]) hx dX9_readStep_55 rfl (by decide) rfl ?_
      have hL56 : ∀ (n56 : Nat) (v21 : Int32) (w22 : j_St), J g x 4 B (j_Q g x B rm_X9_readStep jrv) 0 0 (f_X9_readStep_L56 p1 v13 n56 v21 w22) 56 [(0, .ref (B.1 1 0)), (1, .int p1), (2, .int v13), (3, .int v21)] [] w22 := by
        intro n56
        induction n56 with
        | zero =>
          intro v21 w22
          rw [f_X9_readStep_L56]
          exact J.nne
        | succ n56 ih =>
          intro v21 w22
          rw [f_X9_readStep_L56]
          refine J.iload_n hx dX9_readStep_56 rfl 3 rfl ?_
          refine J.iconst (v := 3) hx dX9_readStep_57 (by decide) ?_
          refine J.icmp_ge (tgt := 124) hx dX9_readStep_58 (by decide) ?_ ?_
          · exact J.vret hx rfl (Nat.le_of_ble_eq_true rfl) (Nat.le_of_ble_eq_true rfl) dX9_readStep_124
          · refine J.aload_n hx dX9_readStep_61 rfl 0 rfl ?_
            refine J.getc (κ' := 45) (i' := 0) (κ := 1) (k := 19) hx rfl rfl rfl rfl rfl in_X9 (by decide) (Or.inl q1672) a0.2 dX9_readStep_62 fun h23 => ?_
            refine J.iload_n hx dX9_readStep_65 rfl 1 rfl ?_
            refine J.iload_n hx dX9_readStep_66 rfl 3 rfl ?_
            refine J.iadd hx dX9_readStep_67 ?_
            refine J.ldc (v := (-1000000)) hx q1929 dX9_readStep_68 ?_
            refine J.iast (κ := 45) hx rfl rfl rfl h23.1 dX9_readStep_70 fun w24 => ?_
            refine J.iload_n hx dX9_readStep_71 rfl 3 rfl ?_
            refine J.iload_n hx dX9_readStep_72 rfl 2 rfl ?_
            refine J.calli hx (fun r z1 z => j_callS hx (mt_X9_numbersOf z) (lw_S q1930 q1931 q129 q1932) hd_X9_numbersOf.2 rfl ⟨Nat.le_of_ble_eq_true rfl, Nat.le_of_ble_eq_true rfl⟩ (Nat.le_of_ble_eq_true rfl) dX9_readStep_73) ⟨⟨rfl, rfl⟩, Nat.le_of_ble_eq_true rfl, Nat.le_of_ble_eq_true rfl⟩ fun v26 w27 e28 => ?_
            refine J.fn (fun (K118 : j_St → Option (Unit × j_St)) => ∀  (w42 : j_St), J g x 4 B (j_Q g x B rm_X9_readStep jrv) 0 0 (K118 w42) 118 [(0, .ref (B.1 1 0)), (1, .int p1), (2, .int v13), (3, .int v21)] [] w42) ?_ ?_
            · intro w42
              refine J.nmx fun v43 ev43 => ?_
              refine J.iinc (p := 3) (v := v43) (lv' := [(3, .int v43), (0, .ref (B.1 1 0)), (1, .int p1), (2, .int v13)]) hx dX9_readStep_118 rfl (by rw [ev43]; rfl) (by decide) rfl ?_
              refine J.goto (tgt := 56) hx dX9_readStep_121 (by decide) ?_
              exact J.sub [1, 2, 3, 0] rfl (ih v43 w42)
            · intro K118 hK118
              refine J.icmp_gt (tgt := 118) hx dX9_readStep_76 (by decide) ?_ ?_
              · exact J.sub [0, 1, 2, 3] rfl (hK118 w27)
              · refine J.aload_n hx dX9_readStep_79 rfl 0 rfl ?_
                refine J.geti (κ := 1) (k := 8) hx rfl rfl rfl in_X9 (by decide) (Or.inl q1661) a0.1 dX9_readStep_80 fun v29 => ?_
                refine J.iconst (v := (-1)) hx dX9_readStep_83 (by decide) ?_
                refine J.fn (fun (K95 : j_St → Option (Unit × j_St)) => ∀  (w38 : j_St), J g x 4 B (j_Q g x B rm_X9_readStep jrv) 0 0 (K95 w38) 95 [(0, .ref (B.1 1 0)), (1, .int p1), (2, .int v13), (3, .int v21)] [] w38) ?_ ?_
                · intro w38
                  refine J.aload_n hx dX9_readStep_95 rfl 0 rfl ?_
                  refine J.callv hx (fun r z1 z => j_callV (κ := 1) hx rfl rfl a0.1 (mt_X9_bad a0 z) (lw_V q1884 q1886 qs52 q129 q1887) hd_X9_bad rfl ⟨Nat.le_of_ble_eq_true rfl, Nat.le_of_ble_eq_true rfl⟩ (Nat.le_of_ble_eq_true rfl) dX9_readStep_96) ⟨⟨rfl, rfl⟩, Nat.le_of_ble_eq_true rfl, Nat.le_of_ble_eq_true rfl⟩ fun _ w40 e41 => ?_
                  refine J.goto (tgt := 118) hx dX9_readStep_99 (by decide) ?_
                  exact J.sub [0, 1, 2, 3] rfl (hK118 w40)
                · intro K95 hK95
                  refine J.icmp_ne (tgt := 95) hx dX9_readStep_84 (by decide) ?_ ?_
                  · refine J.aload_n hx dX9_readStep_87 rfl 0 rfl ?_
                    refine J.geti (κ := 1) (k := 4) hx rfl rfl rfl in_X9 (by decide) (Or.inl q1657) a0.1 dX9_readStep_88 fun v30 => ?_
                    refine J.iconst (v := 2) hx dX9_readStep_91 (by decide) ?_
                    refine J.icmp_eq (tgt := 102) hx dX9_readStep_92 (by decide) ?_ ?_
                    · refine J.aload_n hx dX9_readStep_102 rfl 0 rfl ?_
                      refine J.getc (κ' := 45) (i' := 0) (κ := 1) (k := 19) hx rfl rfl rfl rfl rfl in_X9 (by decide) (Or.inl q1672) a0.2 dX9_readStep_103 fun h31 => ?_
                      refine J.iload_n hx dX9_readStep_106 rfl 1 rfl ?_
                      refine J.iload_n hx dX9_readStep_107 rfl 3 rfl ?_
                      refine J.iadd hx dX9_readStep_108 ?_
                      refine J.aload_n hx dX9_readStep_109 rfl 0 rfl ?_
                      refine J.geti (κ := 1) (k := 6) hx rfl rfl rfl in_X9 (by decide) (Or.inl q1659) a0.1 dX9_readStep_110 fun v32 => ?_
                      refine J.iast (κ := 45) hx rfl rfl rfl h31.1 dX9_readStep_113 fun w33 => ?_
                      refine J.aload_n hx dX9_readStep_114 rfl 0 rfl ?_
                      refine J.callv hx (fun r z1 z => j_callV (κ := 1) hx rfl rfl a0.1 (mt_X9_next a0 z) (lw_V q1841 q1843 qs46 q129 q1844) hd_X9_next rfl ⟨Nat.le_of_ble_eq_true rfl, Nat.le_of_ble_eq_true rfl⟩ (Nat.le_of_ble_eq_true rfl) dX9_readStep_115) ⟨⟨rfl, rfl⟩, Nat.le_of_ble_eq_true rfl, Nat.le_of_ble_eq_true rfl⟩ fun _ w36 e37 => ?_
                      exact J.sub [0, 1, 2, 3] rfl (hK118 w36)
                    · exact J.sub [0, 1, 2, 3] rfl (hK95 w27)
                  · exact J.sub [0, 1, 2, 3] rfl (hK95 w27)
      refine J.sub [1, 2, 3, 0] rfl (hL56 jFU 1 w19)
theorem hd_X9_readScript : yX9_readScript.cls = RX9 ∧ yX9_readScript.cls ≠ "java/lang/invoke/MethodHandle" ∧ yX9_readScript.cls ≠ "java/lang/invoke/VarHandle" ∧ (parseMethodDescriptor yX9_readScript.desc).map (fun d => d.parameters.length) = some 1 := by decide +kernel
def f_X9_readScript_L13 (p1 : Int32) (k88 : j_St → Option (Int32 × j_St)) : Nat → Int32 → j_St → Option (Int32 × j_St)
  | 0, _, _ => none
  | n13 + 1, v7, w8 => if v7 = 0 then k88 w8 else jbd p1 5 fun a10 => jlt (jgi w8 46 0 a10) fun v11 => jcb (f_X9_readStep (3 * ((12 * p1) + v11)) w8) fun _ w13 => jbd p1 5 fun a16 => jlt (jgi w13 46 0 a16) fun v17 => jbd p1 5 fun a19 => jlt (jsi w13 46 0 a19 (v17 + 1)) fun w18 => jlt (jgi w18 1 0 8) fun v20 => jlt (fun (v26 : Int32) (w27 : j_St) => if v26 = 0 then f_X9_readScript_L13 p1 k88 n13 v26 w27 else jcb (f_X9_next w27) fun _ w29 => f_X9_readScript_L13 p1 k88 n13 v26 w29) fun K76 => jlt (fun (w25 : j_St) => K76 0 w25) fun K75 => if v20 = (-1) then jlt (jgi w18 1 0 4) fun v21 => if v21 = 3 then jbd p1 5 fun a23 => jlt (jgi w18 46 0 a23) fun v24 => if 12 ≤ v24 then K75 w18 else K76 1 w18 else K75 w18 else K75 w18
def f_X9_readScript (p1 : Int32) (w : j_St) : Option (Int32 × j_St) := jcb (f_X9_begins w) fun _ w2 => jbd p1 5 fun a6 => jlt (jsi w2 46 0 a6 0) fun w5 => f_X9_readScript_L13 p1 (fun (w31 : j_St) => jlt (jgi w31 1 0 8) fun v32 => if v32 = (-1) then jlt (jgi w31 1 0 4) fun v34 => if v34 = 0 then jlt (jgi w31 1 0 8) fun v35 => some (v35, w31) else jcb (f_X9_bad w31) fun _ w37 => jlt (jgi w37 1 0 8) fun v39 => some (v39, w37) else jlt (jgi w31 1 0 8) fun v33 => some (v33, w31)) jFU 1 w5
abbrev rm_X9_readScript : Room := { frames := 4, cells := 0, slots := 0, locals := 87 }
set_option maxRecDepth 100000 in
set_option maxHeartbeats 4000000 in
theorem mt_X9_readScript {g : j_G} {B : j_B} {p1 : Int32} {w w' : j_St} (a0 : B.2.1 1 0 ∧ B.2.2 1 0) {r : Int32} (h : f_X9_readScript p1 w = some (r, w')) : j_M g yX9_readScript cX9_readScript 3 (some FieldType.int) rm_X9_readScript B [.ref (B.1 1 0), .int p1] w w' (jri r) := by
  refine j_met (rv := jri) (by decide) (Nat.le_of_ble_eq_true rfl) (fun x hx => ?_) h
  unfold f_X9_readScript
  refine J.sub (lv' := [(0, .ref (B.1 1 0)), (1, .int p1)]) [0, 1] rfl ?_
  refine J.aload_n hx dX9_readScript_0 rfl 0 rfl ?_
  refine J.callv hx (fun r z1 z => j_callV (κ := 1) hx rfl rfl a0.1 (mt_X9_begins a0 z) (lw_V q1837 q1839 qs45 q129 q1840) hd_X9_begins rfl ⟨Nat.le_of_ble_eq_true rfl, Nat.le_of_ble_eq_true rfl⟩ (Nat.le_of_ble_eq_true rfl) dX9_readScript_1) ⟨⟨rfl, rfl⟩, Nat.le_of_ble_eq_true rfl, Nat.le_of_ble_eq_true rfl⟩ fun _ w2 e3 => ?_
  refine J.aload_n hx dX9_readScript_4 rfl 0 rfl ?_
  refine J.getc (κ' := 46) (i' := 0) (κ := 1) (k := 20) hx rfl rfl rfl rfl rfl in_X9 (by decide) (Or.inl q1673) a0.2 dX9_readScript_5 fun h4 => ?_
  refine J.iload_n hx dX9_readScript_8 rfl 1 rfl ?_
  refine J.iconst (v := 0) hx dX9_readScript_9 (by decide) ?_
  refine J.iast (κ := 46) hx rfl rfl rfl h4.1 dX9_readScript_10 fun w5 => ?_
  refine J.iconst (v := 1) hx dX9_readScript_11 (by decide) ?_
  refine J.istore_n (lv' := [(2, .int 1), (0, .ref (B.1 1 0)), (1, .int p1)]) hx dX9_readScript_12 rfl (by decide) rfl ?_
  have hL13 : ∀ (k88 : j_St → Option (Int32 × j_St)) (hk88 : ∀  (w31 : j_St), J g x 3 B (j_Q g x B rm_X9_readScript jri) 0 0 (k88 w31) 88 [(0, .ref (B.1 1 0))] [] w31) (n13 : Nat) (v7 : Int32) (w8 : j_St), J g x 3 B (j_Q g x B rm_X9_readScript jri) 0 0 (f_X9_readScript_L13 p1 k88 n13 v7 w8) 13 [(0, .ref (B.1 1 0)), (1, .int p1), (2, .int v7)] [] w8 := by
    intro k88 hk88 n13
    induction n13 with
    | zero =>
      intro v7 w8
      rw [f_X9_readScript_L13]
      exact J.nne
    | succ n13 ih =>
      intro v7 w8
      rw [f_X9_readScript_L13]
      refine J.iload_n hx dX9_readScript_13 rfl 2 rfl ?_
      refine J.if_eq (tgt := 88) hx dX9_readScript_14 (by decide) ?_ ?_
      · exact J.sub [0] rfl (hk88 w8)
      · refine J.aload_n hx dX9_readScript_17 rfl 0 rfl ?_
        refine J.iconst (v := 3) hx dX9_readScript_18 (by decide) ?_
        refine J.bipush (v := 12) hx dX9_readScript_19 (by decide) ?_
        refine J.iload_n hx dX9_readScript_21 rfl 1 rfl ?_
        refine J.imul hx dX9_readScript_22 ?_
        refine J.aload_n hx dX9_readScript_23 rfl 0 rfl ?_
        refine J.getc (κ' := 46) (i' := 0) (κ := 1) (k := 20) hx rfl rfl rfl rfl rfl in_X9 (by decide) (Or.inl q1673) a0.2 dX9_readScript_24 fun h9 => ?_
        refine J.iload_n hx dX9_readScript_27 rfl 1 rfl ?_
        refine J.iald (κ := 46) hx rfl rfl h9.1 dX9_readScript_28 fun v11 => ?_
        refine J.iadd hx dX9_readScript_29 ?_
        refine J.imul hx dX9_readScript_30 ?_
        refine J.callv hx (fun r z1 z => j_callV (κ := 1) hx rfl rfl a0.1 (mt_X9_readStep a0 z) (lw_V q1904 q1906 qs57 q129 q1907) hd_X9_readStep rfl ⟨Nat.le_of_ble_eq_true rfl, Nat.le_of_ble_eq_true rfl⟩ (Nat.le_of_ble_eq_true rfl) dX9_readScript_31) ⟨⟨rfl, rfl⟩, Nat.le_of_ble_eq_true rfl, Nat.le_of_ble_eq_true rfl⟩ fun _ w13 e14 => ?_
        refine J.aload_n hx dX9_readScript_34 rfl 0 rfl ?_
        refine J.getc (κ' := 46) (i' := 0) (κ := 1) (k := 20) hx rfl rfl rfl rfl rfl in_X9 (by decide) (Or.inl q1673) a0.2 dX9_readScript_35 fun h15 => ?_
        refine J.iload_n hx dX9_readScript_38 rfl 1 rfl ?_
        refine J.dup2_11 hx dX9_readScript_39 rfl rfl ?_
        refine J.iald (κ := 46) hx rfl rfl h15.1 dX9_readScript_40 fun v17 => ?_
        refine J.iconst (v := 1) hx dX9_readScript_41 (by decide) ?_
        refine J.iadd hx dX9_readScript_42 ?_
        refine J.iast (κ := 46) hx rfl rfl rfl h15.1 dX9_readScript_43 fun w18 => ?_
        refine J.aload_n hx dX9_readScript_44 rfl 0 rfl ?_
        refine J.geti (κ := 1) (k := 8) hx rfl rfl rfl in_X9 (by decide) (Or.inl q1661) a0.1 dX9_readScript_45 fun v20 => ?_
        refine J.iconst (v := (-1)) hx dX9_readScript_48 (by decide) ?_
        refine J.fn (fun (K76 : Int32 → j_St → Option (Int32 × j_St)) => ∀ (v26 : Int32) (w27 : j_St), J g x 3 B (j_Q g x B rm_X9_readScript jri) 0 0 (K76 v26 w27) 76 [(0, .ref (B.1 1 0)), (1, .int p1)] [.int v26] w27) ?_ ?_
        · intro v26 w27
          refine J.istore_n (lv' := [(2, .int v26), (0, .ref (B.1 1 0)), (1, .int p1)]) hx dX9_readScript_76 rfl (by decide) rfl ?_
          refine J.iload_n hx dX9_readScript_77 rfl 0 rfl ?_
          refine J.if_eq (tgt := 13) hx dX9_readScript_78 (by decide) ?_ ?_
          · exact J.sub [1, 2, 0] rfl (ih v26 w27)
          · refine J.aload_n hx dX9_readScript_81 rfl 1 rfl ?_
            refine J.callv hx (fun r z1 z => j_callV (κ := 1) hx rfl rfl a0.1 (mt_X9_next a0 z) (lw_V q1841 q1843 qs46 q129 q1844) hd_X9_next rfl ⟨Nat.le_of_ble_eq_true rfl, Nat.le_of_ble_eq_true rfl⟩ (Nat.le_of_ble_eq_true rfl) dX9_readScript_82) ⟨⟨rfl, rfl⟩, Nat.le_of_ble_eq_true rfl, Nat.le_of_ble_eq_true rfl⟩ fun _ w29 e30 => ?_
            refine J.goto (tgt := 13) hx dX9_readScript_85 (by decide) ?_
            exact J.sub [1, 2, 0] rfl (ih v26 w29)
        · intro K76 hK76
          refine J.fn (fun (K75 : j_St → Option (Int32 × j_St)) => ∀  (w25 : j_St), J g x 3 B (j_Q g x B rm_X9_readScript jri) 0 0 (K75 w25) 75 [(0, .ref (B.1 1 0)), (1, .int p1)] [] w25) ?_ ?_
          · intro w25
            refine J.iconst (v := 0) hx dX9_readScript_75 (by decide) ?_
            exact J.sub [0, 1] rfl (hK76 0 w25)
          · intro K75 hK75
            refine J.icmp_ne (tgt := 75) hx dX9_readScript_49 (by decide) ?_ ?_
            · refine J.aload_n hx dX9_readScript_52 rfl 0 rfl ?_
              refine J.geti (κ := 1) (k := 4) hx rfl rfl rfl in_X9 (by decide) (Or.inl q1657) a0.1 dX9_readScript_53 fun v21 => ?_
              refine J.iconst (v := 3) hx dX9_readScript_56 (by decide) ?_
              refine J.icmp_ne (tgt := 75) hx dX9_readScript_57 (by decide) ?_ ?_
              · refine J.aload_n hx dX9_readScript_60 rfl 0 rfl ?_
                refine J.getc (κ' := 46) (i' := 0) (κ := 1) (k := 20) hx rfl rfl rfl rfl rfl in_X9 (by decide) (Or.inl q1673) a0.2 dX9_readScript_61 fun h22 => ?_
                refine J.iload_n hx dX9_readScript_64 rfl 1 rfl ?_
                refine J.iald (κ := 46) hx rfl rfl h22.1 dX9_readScript_65 fun v24 => ?_
                refine J.bipush (v := 12) hx dX9_readScript_66 (by decide) ?_
                refine J.icmp_ge (tgt := 75) hx dX9_readScript_68 (by decide) ?_ ?_
                · exact J.sub [0, 1] rfl (hK75 w18)
                · refine J.iconst (v := 1) hx dX9_readScript_71 (by decide) ?_
                  refine J.goto (tgt := 76) hx dX9_readScript_72 (by decide) ?_
                  exact J.sub [0, 1] rfl (hK76 1 w18)
              · exact J.sub [0, 1] rfl (hK75 w18)
            · exact J.sub [0, 1] rfl (hK75 w18)
  refine J.sub [1, 2, 0] rfl (hL13 _ ?_ jFU 1 w5)
  · intro w31
    refine J.aload_n hx dX9_readScript_88 rfl 0 rfl ?_
    refine J.geti (κ := 1) (k := 8) hx rfl rfl rfl in_X9 (by decide) (Or.inl q1661) a0.1 dX9_readScript_89 fun v32 => ?_
    refine J.iconst (v := (-1)) hx dX9_readScript_92 (by decide) ?_
    refine J.icmp_ne (tgt := 107) hx dX9_readScript_93 (by decide) ?_ ?_
    · refine J.aload_n hx dX9_readScript_96 rfl 0 rfl ?_
      refine J.geti (κ := 1) (k := 4) hx rfl rfl rfl in_X9 (by decide) (Or.inl q1657) a0.1 dX9_readScript_97 fun v34 => ?_
      refine J.if_eq (tgt := 107) hx dX9_readScript_100 (by decide) ?_ ?_
      · refine J.aload_n hx dX9_readScript_107 rfl 0 rfl ?_
        refine J.geti (κ := 1) (k := 8) hx rfl rfl rfl in_X9 (by decide) (Or.inl q1661) a0.1 dX9_readScript_108 fun v35 => ?_
        exact J.iret hx rfl (Nat.le_of_ble_eq_true rfl) (Nat.le_of_ble_eq_true rfl) dX9_readScript_111
      · refine J.aload_n hx dX9_readScript_103 rfl 0 rfl ?_
        refine J.callv hx (fun r z1 z => j_callV (κ := 1) hx rfl rfl a0.1 (mt_X9_bad a0 z) (lw_V q1884 q1886 qs52 q129 q1887) hd_X9_bad rfl ⟨Nat.le_of_ble_eq_true rfl, Nat.le_of_ble_eq_true rfl⟩ (Nat.le_of_ble_eq_true rfl) dX9_readScript_104) ⟨⟨rfl, rfl⟩, Nat.le_of_ble_eq_true rfl, Nat.le_of_ble_eq_true rfl⟩ fun _ w37 e38 => ?_
        refine J.aload_n hx dX9_readScript_107 rfl 0 rfl ?_
        refine J.geti (κ := 1) (k := 8) hx rfl rfl rfl in_X9 (by decide) (Or.inl q1661) a0.1 dX9_readScript_108 fun v39 => ?_
        exact J.iret hx rfl (Nat.le_of_ble_eq_true rfl) (Nat.le_of_ble_eq_true rfl) dX9_readScript_111
    · refine J.aload_n hx dX9_readScript_107 rfl 0 rfl ?_
      refine J.geti (κ := 1) (k := 8) hx rfl rfl rfl in_X9 (by decide) (Or.inl q1661) a0.1 dX9_readScript_108 fun v33 => ?_
      exact J.iret hx rfl (Nat.le_of_ble_eq_true rfl) (Nat.le_of_ble_eq_true rfl) dX9_readScript_111
theorem hd_X9_fault : yX9_fault.cls = RX9 ∧ yX9_fault.cls ≠ "java/lang/invoke/MethodHandle" ∧ yX9_fault.cls ≠ "java/lang/invoke/VarHandle" ∧ (parseMethodDescriptor yX9_fault.desc).map (fun d => d.parameters.length) = some 1 := by decide +kernel
def f_X9_fault (p1 : Int32) (w : j_St) : Option (Int32 × j_St) := if p1 = 0 then jcb (f_X9_readTrace w) fun v4 w5 => some (v4, w5) else if p1 = 1 then jcb (f_X9_readScript 4 w) fun v1 w2 => some (v1, w2) else some ((-2), w)
abbrev rm_X9_fault : Room := { frames := 7, cells := 0, slots := 0, locals := 153 }
set_option maxRecDepth 100000 in
set_option maxHeartbeats 4000000 in
theorem mt_X9_fault {g : j_G} {B : j_B} {p1 : Int32} {w w' : j_St} (a0 : B.2.1 1 0 ∧ B.2.2 1 0) {r : Int32} (h : f_X9_fault p1 w = some (r, w')) : j_M g yX9_fault cX9_fault 2 (some FieldType.int) rm_X9_fault B [.ref (B.1 1 0), .int p1] w w' (jri r) := by
  refine j_met (rv := jri) (by decide) (Nat.le_of_ble_eq_true rfl) (fun x hx => ?_) h
  unfold f_X9_fault
  refine J.sub (lv' := [(0, .ref (B.1 1 0)), (1, .int p1)]) [0, 1] rfl ?_
  refine J.iload_n hx dX9_fault_0 rfl 1 rfl ?_
  refine J.if_ne (tgt := 11) hx dX9_fault_1 (by decide) ?_ ?_
  · refine J.aload_n hx dX9_fault_4 rfl 0 rfl ?_
    refine J.calli hx (fun r z1 z => j_callV (κ := 1) hx rfl rfl a0.1 (mt_X9_readTrace a0 z) (lw_V q1833 q1835 qs44 q129 q1836) hd_X9_readTrace rfl ⟨Nat.le_of_ble_eq_true rfl, Nat.le_of_ble_eq_true rfl⟩ (Nat.le_of_ble_eq_true rfl) dX9_fault_5) ⟨⟨rfl, rfl⟩, Nat.le_of_ble_eq_true rfl, Nat.le_of_ble_eq_true rfl⟩ fun v4 w5 e6 => ?_
    refine J.goto (tgt := 26) hx dX9_fault_8 (by decide) ?_
    exact J.iret hx rfl (Nat.le_of_ble_eq_true rfl) (Nat.le_of_ble_eq_true rfl) dX9_fault_26
  · refine J.iload_n hx dX9_fault_11 rfl 1 rfl ?_
    refine J.iconst (v := 1) hx dX9_fault_12 (by decide) ?_
    refine J.icmp_ne (tgt := 24) hx dX9_fault_13 (by decide) ?_ ?_
    · refine J.aload_n hx dX9_fault_16 rfl 0 rfl ?_
      refine J.iconst (v := 4) hx dX9_fault_17 (by decide) ?_
      refine J.calli hx (fun r z1 z => j_callV (κ := 1) hx rfl rfl a0.1 (mt_X9_readScript a0 z) (lw_V q1900 q1902 qs56 q129 q1903) hd_X9_readScript rfl ⟨Nat.le_of_ble_eq_true rfl, Nat.le_of_ble_eq_true rfl⟩ (Nat.le_of_ble_eq_true rfl) dX9_fault_18) ⟨⟨rfl, rfl⟩, Nat.le_of_ble_eq_true rfl, Nat.le_of_ble_eq_true rfl⟩ fun v1 w2 e3 => ?_
      refine J.goto (tgt := 26) hx dX9_fault_21 (by decide) ?_
      exact J.iret hx rfl (Nat.le_of_ble_eq_true rfl) (Nat.le_of_ble_eq_true rfl) dX9_fault_26
    · refine J.bipush (v := (-2)) hx dX9_fault_24 (by decide) ?_
      exact J.iret hx rfl (Nat.le_of_ble_eq_true rfl) (Nat.le_of_ble_eq_true rfl) dX9_fault_26
theorem hd_X9_many : yX9_many.cls = RX9 ∧ yX9_many.cls ≠ "java/lang/invoke/MethodHandle" ∧ yX9_many.cls ≠ "java/lang/invoke/VarHandle" ∧ (parseMethodDescriptor yX9_many.desc).map (fun d => d.parameters.length) = some 0 := by decide +kernel
def f_X9_many  (w : j_St) : Option (Int32 × j_St) := jbd 48 231 fun a2 => jlt (jgi w 47 0 a2) fun v3 => some (v3, w)
abbrev rm_X9_many : Room := { frames := 0, cells := 0, slots := 0, locals := 0 }
set_option maxRecDepth 100000 in
set_option maxHeartbeats 4000000 in
theorem mt_X9_many {g : j_G} {B : j_B}  {w w' : j_St} (a0 : B.2.1 1 0 ∧ B.2.2 1 0) {r : Int32} (h : f_X9_many  w = some (r, w')) : j_M g yX9_many cX9_many 1 (some FieldType.int) rm_X9_many B [.ref (B.1 1 0)] w w' (jri r) := by
  refine j_met (rv := jri) (by decide) (Nat.le_of_ble_eq_true rfl) (fun x hx => ?_) h
  unfold f_X9_many
  refine J.sub (lv' := [(0, .ref (B.1 1 0))]) [0] rfl ?_
  refine J.aload_n hx dX9_many_0 rfl 0 rfl ?_
  refine J.getc (κ' := 47) (i' := 0) (κ := 1) (k := 22) hx rfl rfl rfl rfl rfl in_X9 (by decide) (Or.inl q1675) a0.2 dX9_many_1 fun h1 => ?_
  refine J.bipush (v := 48) hx dX9_many_4 (by decide) ?_
  refine J.iald (κ := 47) hx rfl rfl h1.1 dX9_many_6 fun v3 => ?_
  exact J.iret hx rfl (Nat.le_of_ble_eq_true rfl) (Nat.le_of_ble_eq_true rfl) dX9_many_7
theorem hd_X9_takeTrace : yX9_takeTrace.cls = RX9 ∧ yX9_takeTrace.cls ≠ "java/lang/invoke/MethodHandle" ∧ yX9_takeTrace.cls ≠ "java/lang/invoke/VarHandle" ∧ (parseMethodDescriptor yX9_takeTrace.desc).map (fun d => d.parameters.length) = some 0 := by decide +kernel
def f_X9_takeTrace_L7  (k27 : j_St → Option (Int32 × j_St)) : Nat → Int32 → j_St → Option (Int32 × j_St)
  | 0, _, _ => none
  | n7 + 1, v2, w3 => if 231 ≤ v2 then k27 w3 else jbd v2 231 fun a6 => jlt (jsi w3 47 0 a6 0) fun w5 => jlt (v2 + 1) fun v7 => f_X9_takeTrace_L7 k27 n7 v7 w5
def f_X9_takeTrace_L29  (k55 : j_St → Option (Int32 × j_St)) : Nat → Int32 → j_St → Option (Int32 × j_St)
  | 0, _, _ => none
  | n29 + 1, v9, w10 => jlt (jgi w10 1 0 15) fun v11 => if v11 ≤ v9 then k55 w10 else jbd v9 48 fun a14 => jlt (jgi w10 41 0 a14) fun v15 => jbd v9 231 fun a17 => jlt (jsi w10 47 0 a17 v15) fun w16 => jlt (v9 + 1) fun v18 => f_X9_takeTrace_L29 k55 n29 v18 w16
def f_X9_takeTrace_L95  (k145 : j_St → Option (Int32 × j_St)) : Nat → Int32 → j_St → Option (Int32 × j_St)
  | 0, _, _ => none
  | n95 + 1, v32, w33 => jlt (jgi w33 1 0 27) fun v34 => if v34 ≤ v32 then k145 w33 else jbd v32 8 fun a37 => jlt (jgi w33 42 0 a37) fun v38 => jbd v32 8 fun a40 => jlt (jsi w33 49 0 a40 v38) fun w39 => jbd v32 8 fun a43 => jlt (jgi w39 43 0 a43) fun v44 => jbd v32 8 fun a46 => jlt (jsi w39 50 0 a46 v44) fun w45 => jbd v32 8 fun a49 => jlt (jgl w45 44 0 a49) fun v50 => jbd v32 8 fun a52 => jlt (jsl w45 51 0 a52 v50) fun w51 => jlt (v32 + 1) fun v53 => f_X9_takeTrace_L95 k145 n95 v53 w51
def f_X9_takeTrace  (w : j_St) : Option (Int32 × j_St) := jlt (jsi w 1 0 29 1) fun w1 => f_X9_takeTrace_L7 (fun (w8 : j_St) => f_X9_takeTrace_L29 (fun (w19 : j_St) => jlt (jgi w19 1 0 15) fun v21 => jbd 48 231 fun a23 => jlt (jsi w19 47 0 a23 v21) fun w22 => jlt (jgi w22 1 0 17) fun v25 => jbd 49 231 fun a27 => jlt (jsi w22 47 0 a27 v25) fun w26 => jlt (jgi w26 1 0 18) fun v28 => jlt (jsi w26 1 0 28 v28) fun w29 => jlt (jgi w29 1 0 16) fun v30 => jlt (jsi w29 1 0 27 v30) fun w31 => f_X9_takeTrace_L95 (fun (w54 : j_St) => jlt (jsi w54 1 0 44 0) fun w55 => jlt (jsi w55 1 0 47 0) fun w56 => jcb (f_X9_many w56) fun v57 w58 => some (v57, w58)) jFU 0 w31) jFU 0 w8) jFU 0 w1
abbrev rm_X9_takeTrace : Room := { frames := 1, cells := 0, slots := 0, locals := 20 }
set_option maxRecDepth 100000 in
set_option maxHeartbeats 4000000 in
theorem mt_X9_takeTrace {g : j_G} {B : j_B}  {w w' : j_St} (a0 : B.2.1 1 0 ∧ B.2.2 1 0) {r : Int32} (h : f_X9_takeTrace  w = some (r, w')) : j_M g yX9_takeTrace cX9_takeTrace 2 (some FieldType.int) rm_X9_takeTrace B [.ref (B.1 1 0)] w w' (jri r) := by
  refine j_met (rv := jri) (by decide) (Nat.le_of_ble_eq_true rfl) (fun x hx => ?_) h
  unfold f_X9_takeTrace
  refine J.sub (lv' := [(0, .ref (B.1 1 0))]) [0] rfl ?_
  refine J.aload_n hx dX9_takeTrace_0 rfl 0 rfl ?_
  refine J.iconst (v := 1) hx dX9_takeTrace_1 (by decide) ?_
  refine J.puti (κ := 1) (k := 29) hx rfl rfl rfl in_X9 tyX9_ok nmX9 (by decide) (Or.inl q1682) rfl rfl a0.1 ⟨rfl, rfl⟩ dX9_takeTrace_2 fun w1 => ?_
  refine J.iconst (v := 0) hx dX9_takeTrace_5 (by decide) ?_
  refine J.istore_n (lv' := [(1, .int 0), (0, .ref (B.1 1 0))]) hx dX9_takeTrace_6 rfl (by decide) rfl ?_
  have hL7 : ∀ (k27 : j_St → Option (Int32 × j_St)) (hk27 : ∀  (w8 : j_St), J g x 2 B (j_Q g x B rm_X9_takeTrace jri) 0 0 (k27 w8) 27 [(0, .ref (B.1 1 0))] [] w8) (n7 : Nat) (v2 : Int32) (w3 : j_St), J g x 2 B (j_Q g x B rm_X9_takeTrace jri) 0 0 (f_X9_takeTrace_L7 k27 n7 v2 w3) 7 [(0, .ref (B.1 1 0)), (1, .int v2)] [] w3 := by
    intro k27 hk27 n7
    induction n7 with
    | zero =>
      intro v2 w3
      rw [f_X9_takeTrace_L7]
      exact J.nne
    | succ n7 ih =>
      intro v2 w3
      rw [f_X9_takeTrace_L7]
      refine J.iload_n hx dX9_takeTrace_7 rfl 1 rfl ?_
      refine J.sipush (v := 231) hx dX9_takeTrace_8 (by decide) ?_
      refine J.icmp_ge (tgt := 27) hx dX9_takeTrace_11 (by decide) ?_ ?_
      · exact J.sub [0] rfl (hk27 w3)
      · refine J.aload_n hx dX9_takeTrace_14 rfl 0 rfl ?_
        refine J.getc (κ' := 47) (i' := 0) (κ := 1) (k := 22) hx rfl rfl rfl rfl rfl in_X9 (by decide) (Or.inl q1675) a0.2 dX9_takeTrace_15 fun h4 => ?_
        refine J.iload_n hx dX9_takeTrace_18 rfl 1 rfl ?_
        refine J.iconst (v := 0) hx dX9_takeTrace_19 (by decide) ?_
        refine J.iast (κ := 47) hx rfl rfl rfl h4.1 dX9_takeTrace_20 fun w5 => ?_
        refine J.nmx fun v7 ev7 => ?_
        refine J.iinc (p := 1) (v := v7) (lv' := [(1, .int v7), (0, .ref (B.1 1 0))]) hx dX9_takeTrace_21 rfl (by rw [ev7]; rfl) (by decide) rfl ?_
        refine J.goto (tgt := 7) hx dX9_takeTrace_24 (by decide) ?_
        exact J.sub [1, 0] rfl (ih v7 w5)
  refine J.sub [1, 0] rfl (hL7 _ ?_ jFU 0 w1)
  · intro w8
    refine J.iconst (v := 0) hx dX9_takeTrace_27 (by decide) ?_
    refine J.istore_n (lv' := [(1, .int 0), (0, .ref (B.1 1 0))]) hx dX9_takeTrace_28 rfl (by decide) rfl ?_
    have hL29 : ∀ (k55 : j_St → Option (Int32 × j_St)) (hk55 : ∀  (w19 : j_St), J g x 2 B (j_Q g x B rm_X9_takeTrace jri) 0 0 (k55 w19) 55 [(0, .ref (B.1 1 0))] [] w19) (n29 : Nat) (v9 : Int32) (w10 : j_St), J g x 2 B (j_Q g x B rm_X9_takeTrace jri) 0 0 (f_X9_takeTrace_L29 k55 n29 v9 w10) 29 [(0, .ref (B.1 1 0)), (1, .int v9)] [] w10 := by
      intro k55 hk55 n29
      induction n29 with
      | zero =>
        intro v9 w10
        rw [f_X9_takeTrace_L29]
        exact J.nne
      | succ n29 ih =>
        intro v9 w10
        rw [f_X9_takeTrace_L29]
        refine J.iload_n hx dX9_takeTrace_29 rfl 1 rfl ?_
        refine J.aload_n hx dX9_takeTrace_30 rfl 0 rfl ?_
        refine J.geti (κ := 1) (k := 15) hx rfl rfl rfl in_X9 (by decide) (Or.inl q1668) a0.1 dX9_takeTrace_31 fun v11 => ?_
        refine J.icmp_ge (tgt := 55) hx dX9_takeTrace_34 (by decide) ?_ ?_
        · exact J.sub [0] rfl (hk55 w10)
        · refine J.aload_n hx dX9_takeTrace_37 rfl 0 rfl ?_
          refine J.getc (κ' := 47) (i' := 0) (κ := 1) (k := 22) hx rfl rfl rfl rfl rfl in_X9 (by decide) (Or.inl q1675) a0.2 dX9_takeTrace_38 fun h12 => ?_
          refine J.iload_n hx dX9_takeTrace_41 rfl 1 rfl ?_
          refine J.aload_n hx dX9_takeTrace_42 rfl 0 rfl ?_
          refine J.getc (κ' := 41) (i' := 0) (κ := 1) (k := 11) hx rfl rfl rfl rfl rfl in_X9 (by decide) (Or.inl q1664) a0.2 dX9_takeTrace_43 fun h13 => ?_
          refine J.iload_n hx dX9_takeTrace_46 rfl 1 rfl ?_
          refine J.iald (κ := 41) hx rfl rfl h13.1 dX9_takeTrace_47 fun v15 => ?_
          refine J.iast (κ := 47) hx rfl rfl rfl h12.1 dX9_takeTrace_48 fun w16 => ?_
          refine J.nmx fun v18 ev18 => ?_
          refine J.iinc (p := 1) (v := v18) (lv' := [(1, .int v18), (0, .ref (B.1 1 0))]) hx dX9_takeTrace_49 rfl (by rw [ev18]; rfl) (by decide) rfl ?_
          refine J.goto (tgt := 29) hx dX9_takeTrace_52 (by decide) ?_
          exact J.sub [1, 0] rfl (ih v18 w16)
    refine J.sub [1, 0] rfl (hL29 _ ?_ jFU 0 w8)
    · intro w19
      refine J.aload_n hx dX9_takeTrace_55 rfl 0 rfl ?_
      refine J.getc (κ' := 47) (i' := 0) (κ := 1) (k := 22) hx rfl rfl rfl rfl rfl in_X9 (by decide) (Or.inl q1675) a0.2 dX9_takeTrace_56 fun h20 => ?_
      refine J.bipush (v := 48) hx dX9_takeTrace_59 (by decide) ?_
      refine J.aload_n hx dX9_takeTrace_61 rfl 0 rfl ?_
      refine J.geti (κ := 1) (k := 15) hx rfl rfl rfl in_X9 (by decide) (Or.inl q1668) a0.1 dX9_takeTrace_62 fun v21 => ?_
      refine J.iast (κ := 47) hx rfl rfl rfl h20.1 dX9_takeTrace_65 fun w22 => ?_
      refine J.aload_n hx dX9_takeTrace_66 rfl 0 rfl ?_
      refine J.getc (κ' := 47) (i' := 0) (κ := 1) (k := 22) hx rfl rfl rfl rfl rfl in_X9 (by decide) (Or.inl q1675) a0.2 dX9_takeTrace_67 fun h24 => ?_
      refine J.bipush (v := 49) hx dX9_takeTrace_70 (by decide) ?_
      refine J.aload_n hx dX9_takeTrace_72 rfl 0 rfl ?_
      refine J.geti (κ := 1) (k := 17) hx rfl rfl rfl in_X9 (by decide) (Or.inl q1670) a0.1 dX9_takeTrace_73 fun v25 => ?_
      refine J.iast (κ := 47) hx rfl rfl rfl h24.1 dX9_takeTrace_76 fun w26 => ?_
      refine J.aload_n hx dX9_takeTrace_77 rfl 0 rfl ?_
      refine J.aload_n hx dX9_takeTrace_78 rfl 0 rfl ?_
      refine J.geti (κ := 1) (k := 18) hx rfl rfl rfl in_X9 (by decide) (Or.inl q1671) a0.1 dX9_takeTrace_79 fun v28 => ?_
      refine J.puti (κ := 1) (k := 28) hx rfl rfl rfl in_X9 tyX9_ok nmX9 (by decide) (Or.inl q1681) rfl rfl a0.1 ⟨rfl, rfl⟩ dX9_takeTrace_82 fun w29 => ?_
      refine J.aload_n hx dX9_takeTrace_85 rfl 0 rfl ?_
      refine J.aload_n hx dX9_takeTrace_86 rfl 0 rfl ?_
      refine J.geti (κ := 1) (k := 16) hx rfl rfl rfl in_X9 (by decide) (Or.inl q1669) a0.1 dX9_takeTrace_87 fun v30 => ?_
      refine J.puti (κ := 1) (k := 27) hx rfl rfl rfl in_X9 tyX9_ok nmX9 (by decide) (Or.inl q1680) rfl rfl a0.1 ⟨rfl, rfl⟩ dX9_takeTrace_90 fun w31 => ?_
      refine J.iconst (v := 0) hx dX9_takeTrace_93 (by decide) ?_
      refine J.istore_n (lv' := [(1, .int 0), (0, .ref (B.1 1 0))]) hx dX9_takeTrace_94 rfl (by decide) rfl ?_
      have hL95 : ∀ (k145 : j_St → Option (Int32 × j_St)) (hk145 : ∀  (w54 : j_St), J g x 2 B (j_Q g x B rm_X9_takeTrace jri) 0 0 (k145 w54) 145 [(0, .ref (B.1 1 0))] [] w54) (n95 : Nat) (v32 : Int32) (w33 : j_St), J g x 2 B (j_Q g x B rm_X9_takeTrace jri) 0 0 (f_X9_takeTrace_L95 k145 n95 v32 w33) 95 [(0, .ref (B.1 1 0)), (1, .int v32)] [] w33 := by
        intro k145 hk145 n95
        induction n95 with
        | zero =>
          intro v32 w33
          rw [f_X9_takeTrace_L95]
          exact J.nne
        | succ n95 ih =>
          intro v32 w33
          rw [f_X9_takeTrace_L95]
          refine J.iload_n hx dX9_takeTrace_95 rfl 1 rfl ?_
          refine J.aload_n hx dX9_takeTrace_96 rfl 0 rfl ?_
          refine J.geti (κ := 1) (k := 27) hx rfl rfl rfl in_X9 (by decide) (Or.inl q1680) a0.1 dX9_takeTrace_97 fun v34 => ?_
          refine J.icmp_ge (tgt := 145) hx dX9_takeTrace_100 (by decide) ?_ ?_
          · exact J.sub [0] rfl (hk145 w33)
          · refine J.aload_n hx dX9_takeTrace_103 rfl 0 rfl ?_
            refine J.getc (κ' := 49) (i' := 0) (κ := 1) (k := 24) hx rfl rfl rfl rfl rfl in_X9 (by decide) (Or.inl q1677) a0.2 dX9_takeTrace_104 fun h35 => ?_
            refine J.iload_n hx dX9_takeTrace_107 rfl 1 rfl ?_
            refine J.aload_n hx dX9_takeTrace_108 rfl 0 rfl ?_
            refine J.getc (κ' := 42) (i' := 0) (κ := 1) (k := 12) hx rfl rfl rfl rfl rfl in_X9 (by decide) (Or.inl q1665) a0.2 dX9_takeTrace_109 fun h36 => ?_
            refine J.iload_n hx dX9_takeTrace_112 rfl 1 rfl ?_
            refine J.iald (κ := 42) hx rfl rfl h36.1 dX9_takeTrace_113 fun v38 => ?_
            refine J.iast (κ := 49) hx rfl rfl rfl h35.1 dX9_takeTrace_114 fun w39 => ?_
            refine J.aload_n hx dX9_takeTrace_115 rfl 0 rfl ?_
            refine J.getc (κ' := 50) (i' := 0) (κ := 1) (k := 25) hx rfl rfl rfl rfl rfl in_X9 (by decide) (Or.inl q1678) a0.2 dX9_takeTrace_116 fun h41 => ?_
            refine J.iload_n hx dX9_takeTrace_119 rfl 1 rfl ?_
            refine J.aload_n hx dX9_takeTrace_120 rfl 0 rfl ?_
            refine J.getc (κ' := 43) (i' := 0) (κ := 1) (k := 13) hx rfl rfl rfl rfl rfl in_X9 (by decide) (Or.inl q1666) a0.2 dX9_takeTrace_121 fun h42 => ?_
            refine J.iload_n hx dX9_takeTrace_124 rfl 1 rfl ?_
            refine J.iald (κ := 43) hx rfl rfl h42.1 dX9_takeTrace_125 fun v44 => ?_
            refine J.iast (κ := 50) hx rfl rfl rfl h41.1 dX9_takeTrace_126 fun w45 => ?_
            refine J.aload_n hx dX9_takeTrace_127 rfl 0 rfl ?_
            refine J.getc (κ' := 51) (i' := 0) (κ := 1) (k := 26) hx rfl rfl rfl rfl rfl in_X9 (by decide) (Or.inl q1679) a0.2 dX9_takeTrace_128 fun h47 => ?_
            refine J.iload_n hx dX9_takeTrace_131 rfl 1 rfl ?_
            refine J.aload_n hx dX9_takeTrace_132 rfl 0 rfl ?_
            refine J.getc (κ' := 44) (i' := 0) (κ := 1) (k := 14) hx rfl rfl rfl rfl rfl in_X9 (by decide) (Or.inl q1667) a0.2 dX9_takeTrace_133 fun h48 => ?_
            refine J.iload_n hx dX9_takeTrace_136 rfl 1 rfl ?_
            refine J.lald (κ := 44) hx rfl rfl h48.1 dX9_takeTrace_137 fun v50 => ?_
            refine J.last (κ := 51) hx rfl rfl rfl h47.1 dX9_takeTrace_138 fun w51 => ?_
            refine J.nmx fun v53 ev53 => ?_
            refine J.iinc (p := 1) (v := v53) (lv' := [(1, .int v53), (0, .ref (B.1 1 0))]) hx dX9_takeTrace_139 rfl (by rw [ev53]; rfl) (by decide) rfl ?_
            refine J.goto (tgt := 95) hx dX9_takeTrace_142 (by decide) ?_
            exact J.sub [1, 0] rfl (ih v53 w51)
      refine J.sub [1, 0] rfl (hL95 _ ?_ jFU 0 w31)
      · intro w54
        refine J.aload_n hx dX9_takeTrace_145 rfl 0 rfl ?_
        refine J.iconst (v := 0) hx dX9_takeTrace_146 (by decide) ?_
        refine J.puti (κ := 1) (k := 44) hx rfl rfl rfl in_X9 tyX9_ok nmX9 (by decide) (Or.inl q1697) rfl rfl a0.1 ⟨rfl, rfl⟩ dX9_takeTrace_147 fun w55 => ?_
        refine J.aload_n hx dX9_takeTrace_150 rfl 0 rfl ?_
        refine J.iconst (v := 0) hx dX9_takeTrace_151 (by decide) ?_
        refine J.puti (κ := 1) (k := 47) hx rfl rfl rfl in_X9 tyX9_ok nmX9 (by decide) (Or.inl q1700) rfl rfl a0.1 ⟨rfl, rfl⟩ dX9_takeTrace_152 fun w56 => ?_
        refine J.aload_n hx dX9_takeTrace_155 rfl 0 rfl ?_
        refine J.calli hx (fun r z1 z => j_callV (κ := 1) hx rfl rfl a0.1 (mt_X9_many a0 z) (lw_V q1941 q1943 qs59 q129 q1944) hd_X9_many rfl ⟨Nat.le_of_ble_eq_true rfl, Nat.le_of_ble_eq_true rfl⟩ (Nat.le_of_ble_eq_true rfl) dX9_takeTrace_156) ⟨⟨rfl, rfl⟩, Nat.le_of_ble_eq_true rfl, Nat.le_of_ble_eq_true rfl⟩ fun v57 w58 e59 => ?_
        exact J.iret hx rfl (Nat.le_of_ble_eq_true rfl) (Nat.le_of_ble_eq_true rfl) dX9_takeTrace_159
theorem hd_X9_text : yX9_text.cls = RX9 ∧ yX9_text.cls ≠ "java/lang/invoke/MethodHandle" ∧ yX9_text.cls ≠ "java/lang/invoke/VarHandle" ∧ (parseMethodDescriptor yX9_text.desc).map (fun d => d.parameters.length) = some 1 := by decide +kernel
def f_X9_text (p1 : Int32) (w : j_St) : Option (Int32 × j_St) := jlt (fun (w8 : j_St) => if p1 = 1 then jlt (jgi w8 1 0 21) fun v9 => if 4 ≤ v9 then some ((-1), w8) else jlt (jgi w8 1 0 21) fun v10 => jcb (f_X9_readScript v10 w8) fun v11 w12 => if v11 = (-1) then jlt (jsi w12 1 0 2 0) fun w14 => jlt (jgi w14 1 0 21) fun v15 => jlt (jsi w14 1 0 21 (v15 + 1)) fun w16 => jlt (jgi w16 1 0 21) fun v17 => some (v17 - 1, w16) else some ((-1), w12) else some ((-1), w8)) fun K22 => if p1 = 0 then jcb (f_X9_readTrace w) fun v1 w2 => if v1 = (-1) then jlt (jsi w2 1 0 2 0) fun w4 => jcb (f_X9_takeTrace w4) fun v5 w6 => some (v5, w6) else K22 w2 else K22 w
abbrev rm_X9_text : Room := { frames := 7, cells := 0, slots := 0, locals := 153 }
set_option maxRecDepth 100000 in
set_option maxHeartbeats 4000000 in
theorem mt_X9_text {g : j_G} {B : j_B} {p1 : Int32} {w w' : j_St} (a0 : B.2.1 1 0 ∧ B.2.2 1 0) {r : Int32} (h : f_X9_text p1 w = some (r, w')) : j_M g yX9_text cX9_text 2 (some FieldType.int) rm_X9_text B [.ref (B.1 1 0), .int p1] w w' (jri r) := by
  refine j_met (rv := jri) (by decide) (Nat.le_of_ble_eq_true rfl) (fun x hx => ?_) h
  unfold f_X9_text
  refine J.sub (lv' := [(0, .ref (B.1 1 0)), (1, .int p1)]) [0, 1] rfl ?_
  refine J.iload_n hx dX9_text_0 rfl 1 rfl ?_
  refine J.fn (fun (K22 : j_St → Option (Int32 × j_St)) => ∀  (w8 : j_St), J g x 2 B (j_Q g x B rm_X9_text jri) 0 0 (K22 w8) 22 [(0, .ref (B.1 1 0)), (1, .int p1)] [] w8) ?_ ?_
  · intro w8
    refine J.iload_n hx dX9_text_22 rfl 1 rfl ?_
    refine J.iconst (v := 1) hx dX9_text_23 (by decide) ?_
    refine J.icmp_ne (tgt := 69) hx dX9_text_24 (by decide) ?_ ?_
    · refine J.aload_n hx dX9_text_27 rfl 0 rfl ?_
      refine J.geti (κ := 1) (k := 21) hx rfl rfl rfl in_X9 (by decide) (Or.inl q1674) a0.1 dX9_text_28 fun v9 => ?_
      refine J.iconst (v := 4) hx dX9_text_31 (by decide) ?_
      refine J.icmp_ge (tgt := 69) hx dX9_text_32 (by decide) ?_ ?_
      · refine J.iconst (v := (-1)) hx dX9_text_69 (by decide) ?_
        exact J.iret hx rfl (Nat.le_of_ble_eq_true rfl) (Nat.le_of_ble_eq_true rfl) dX9_text_70
      · refine J.aload_n hx dX9_text_35 rfl 0 rfl ?_
        refine J.aload_n hx dX9_text_36 rfl 0 rfl ?_
        refine J.geti (κ := 1) (k := 21) hx rfl rfl rfl in_X9 (by decide) (Or.inl q1674) a0.1 dX9_text_37 fun v10 => ?_
        refine J.calli hx (fun r z1 z => j_callV (κ := 1) hx rfl rfl a0.1 (mt_X9_readScript a0 z) (lw_V q1900 q1902 qs56 q129 q1903) hd_X9_readScript rfl ⟨Nat.le_of_ble_eq_true rfl, Nat.le_of_ble_eq_true rfl⟩ (Nat.le_of_ble_eq_true rfl) dX9_text_40) ⟨⟨rfl, rfl⟩, Nat.le_of_ble_eq_true rfl, Nat.le_of_ble_eq_true rfl⟩ fun v11 w12 e13 => ?_
        refine J.iconst (v := (-1)) hx dX9_text_43 (by decide) ?_
        refine J.icmp_ne (tgt := 69) hx dX9_text_44 (by decide) ?_ ?_
        · refine J.aload_n hx dX9_text_47 rfl 0 rfl ?_
          refine J.iconst (v := 0) hx dX9_text_48 (by decide) ?_
          refine J.puti (κ := 1) (k := 2) hx rfl rfl rfl in_X9 tyX9_ok nmX9 (by decide) (Or.inl q1655) rfl rfl a0.1 ⟨rfl, rfl⟩ dX9_text_49 fun w14 => ?_
          refine J.aload_n hx dX9_text_52 rfl 0 rfl ?_
          refine J.dup hx dX9_text_53 rfl ?_
          refine J.geti (κ := 1) (k := 21) hx rfl rfl rfl in_X9 (by decide) (Or.inl q1674) a0.1 dX9_text_54 fun v15 => ?_
          refine J.iconst (v := 1) hx dX9_text_57 (by decide) ?_
          refine J.iadd hx dX9_text_58 ?_
          refine J.puti (κ := 1) (k := 21) hx rfl rfl rfl in_X9 tyX9_ok nmX9 (by decide) (Or.inl q1674) rfl rfl a0.1 ⟨rfl, rfl⟩ dX9_text_59 fun w16 => ?_
          refine J.aload_n hx dX9_text_62 rfl 0 rfl ?_
          refine J.geti (κ := 1) (k := 21) hx rfl rfl rfl in_X9 (by decide) (Or.inl q1674) a0.1 dX9_text_63 fun v17 => ?_
          refine J.iconst (v := 1) hx dX9_text_66 (by decide) ?_
          refine J.isub hx dX9_text_67 ?_
          exact J.iret hx rfl (Nat.le_of_ble_eq_true rfl) (Nat.le_of_ble_eq_true rfl) dX9_text_68
        · refine J.iconst (v := (-1)) hx dX9_text_69 (by decide) ?_
          exact J.iret hx rfl (Nat.le_of_ble_eq_true rfl) (Nat.le_of_ble_eq_true rfl) dX9_text_70
    · refine J.iconst (v := (-1)) hx dX9_text_69 (by decide) ?_
      exact J.iret hx rfl (Nat.le_of_ble_eq_true rfl) (Nat.le_of_ble_eq_true rfl) dX9_text_70
  · intro K22 hK22
    refine J.if_ne (tgt := 22) hx dX9_text_1 (by decide) ?_ ?_
    · refine J.aload_n hx dX9_text_4 rfl 0 rfl ?_
      refine J.calli hx (fun r z1 z => j_callV (κ := 1) hx rfl rfl a0.1 (mt_X9_readTrace a0 z) (lw_V q1833 q1835 qs44 q129 q1836) hd_X9_readTrace rfl ⟨Nat.le_of_ble_eq_true rfl, Nat.le_of_ble_eq_true rfl⟩ (Nat.le_of_ble_eq_true rfl) dX9_text_5) ⟨⟨rfl, rfl⟩, Nat.le_of_ble_eq_true rfl, Nat.le_of_ble_eq_true rfl⟩ fun v1 w2 e3 => ?_
      refine J.iconst (v := (-1)) hx dX9_text_8 (by decide) ?_
      refine J.icmp_ne (tgt := 22) hx dX9_text_9 (by decide) ?_ ?_
      · refine J.aload_n hx dX9_text_12 rfl 0 rfl ?_
        refine J.iconst (v := 0) hx dX9_text_13 (by decide) ?_
        refine J.puti (κ := 1) (k := 2) hx rfl rfl rfl in_X9 tyX9_ok nmX9 (by decide) (Or.inl q1655) rfl rfl a0.1 ⟨rfl, rfl⟩ dX9_text_14 fun w4 => ?_
        refine J.aload_n hx dX9_text_17 rfl 0 rfl ?_
        refine J.calli hx (fun r z1 z => j_callV (κ := 1) hx rfl rfl a0.1 (mt_X9_takeTrace a0 z) (lw_V q1937 q1939 qs58 q129 q1940) hd_X9_takeTrace rfl ⟨Nat.le_of_ble_eq_true rfl, Nat.le_of_ble_eq_true rfl⟩ (Nat.le_of_ble_eq_true rfl) dX9_text_18) ⟨⟨rfl, rfl⟩, Nat.le_of_ble_eq_true rfl, Nat.le_of_ble_eq_true rfl⟩ fun v5 w6 e7 => ?_
        exact J.iret hx rfl (Nat.le_of_ble_eq_true rfl) (Nat.le_of_ble_eq_true rfl) dX9_text_21
      · exact J.sub [0, 1] rfl (hK22 w2)
    · exact J.sub [0, 1] rfl (hK22 w)
theorem hd_X9_isPlace : yX9_isPlace.cls = RX9 ∧ yX9_isPlace.cls ≠ "java/lang/invoke/MethodHandle" ∧ yX9_isPlace.cls ≠ "java/lang/invoke/VarHandle" ∧ (parseMethodDescriptor yX9_isPlace.desc).map (fun d => d.parameters.length) = some 1 := by decide +kernel
def f_X9_isPlace (p1 : Int32) (w : j_St) : Option (Int32 × j_St) := jlt (jgi w 1 0 29) fun v1 => if v1 = 0 then some (0, w) else jcb (f_X9_many w) fun v2 w3 => jcb (f_X9_in p1 0 (v2 - 1) w3) fun v5 w6 => if v5 = 0 then some (0, w6) else some (1, w6)
abbrev rm_X9_isPlace : Room := { frames := 1, cells := 0, slots := 0, locals := 22 }
set_option maxRecDepth 100000 in
set_option maxHeartbeats 4000000 in
theorem mt_X9_isPlace {g : j_G} {B : j_B} {p1 : Int32} {w w' : j_St} (a0 : B.2.1 1 0 ∧ B.2.2 1 0) {r : Int32} (h : f_X9_isPlace p1 w = some (r, w')) : j_M g yX9_isPlace cX9_isPlace 2 (some FieldType.boolean) rm_X9_isPlace B [.ref (B.1 1 0), .int p1] w w' (jri r) := by
  refine j_met (rv := jri) (by decide) (Nat.le_of_ble_eq_true rfl) (fun x hx => ?_) h
  unfold f_X9_isPlace
  refine J.sub (lv' := [(0, .ref (B.1 1 0)), (1, .int p1)]) [0, 1] rfl ?_
  refine J.aload_n hx dX9_isPlace_0 rfl 0 rfl ?_
  refine J.geti (κ := 1) (k := 29) hx rfl rfl rfl in_X9 (by decide) (Or.inl q1682) a0.1 dX9_isPlace_1 fun v1 => ?_
  refine J.if_eq (tgt := 25) hx dX9_isPlace_4 (by decide) ?_ ?_
  · refine J.iconst (v := 0) hx dX9_isPlace_25 (by decide) ?_
    exact J.zret hx rfl rfl (Nat.le_of_ble_eq_true rfl) (Nat.le_of_ble_eq_true rfl) dX9_isPlace_26
  · refine J.iload_n hx dX9_isPlace_7 rfl 1 rfl ?_
    refine J.iconst (v := 0) hx dX9_isPlace_8 (by decide) ?_
    refine J.aload_n hx dX9_isPlace_9 rfl 0 rfl ?_
    refine J.calli hx (fun r z1 z => j_callV (κ := 1) hx rfl rfl a0.1 (mt_X9_many a0 z) (lw_V q1941 q1943 qs59 q129 q1944) hd_X9_many rfl ⟨Nat.le_of_ble_eq_true rfl, Nat.le_of_ble_eq_true rfl⟩ (Nat.le_of_ble_eq_true rfl) dX9_isPlace_10) ⟨⟨rfl, rfl⟩, Nat.le_of_ble_eq_true rfl, Nat.le_of_ble_eq_true rfl⟩ fun v2 w3 e4 => ?_
    refine J.iconst (v := 1) hx dX9_isPlace_13 (by decide) ?_
    refine J.isub hx dX9_isPlace_14 ?_
    refine J.calli hx (fun r z1 z => j_callS hx (mt_X9_in z) (lw_S q1826 q1827 q129 q1828) hd_X9_in.2 rfl ⟨Nat.le_of_ble_eq_true rfl, Nat.le_of_ble_eq_true rfl⟩ (Nat.le_of_ble_eq_true rfl) dX9_isPlace_15) ⟨⟨rfl, rfl⟩, Nat.le_of_ble_eq_true rfl, Nat.le_of_ble_eq_true rfl⟩ fun v5 w6 e7 => ?_
    refine J.if_eq (tgt := 25) hx dX9_isPlace_18 (by decide) ?_ ?_
    · refine J.iconst (v := 0) hx dX9_isPlace_25 (by decide) ?_
      exact J.zret hx rfl rfl (Nat.le_of_ble_eq_true rfl) (Nat.le_of_ble_eq_true rfl) dX9_isPlace_26
    · refine J.iconst (v := 1) hx dX9_isPlace_21 (by decide) ?_
      refine J.goto (tgt := 26) hx dX9_isPlace_22 (by decide) ?_
      exact J.zret hx rfl rfl (Nat.le_of_ble_eq_true rfl) (Nat.le_of_ble_eq_true rfl) dX9_isPlace_26
theorem hd_X9_whyNot : yX9_whyNot.cls = RX9 ∧ yX9_whyNot.cls ≠ "java/lang/invoke/MethodHandle" ∧ yX9_whyNot.cls ≠ "java/lang/invoke/VarHandle" ∧ (parseMethodDescriptor yX9_whyNot.desc).map (fun d => d.parameters.length) = some 3 := by decide +kernel
def f_X9_whyNot (p1 : Int32) (p2 : Int32) (p3 : Int32) (w : j_St) : Option (Int32 × j_St) := jlt (jgi w 1 0 29) fun v1 => if v1 = 0 then some (0, w) else if p1 = 4 then jcb (f_X9_in p2 0 999 w) fun v2 w3 => if v2 = 0 then some (1, w3) else some ((-1), w3) else if p1 = 5 then jcb (f_X9_in p2 (-999) 999 w) fun v5 w6 => if v5 = 0 then some (1, w6) else some ((-1), w6) else if p1 = 6 then jcb (f_X9_in p2 0 99 w) fun v8 w9 => if v8 = 0 then some (1, w9) else jcb (f_X9_in p3 1 99 w9) fun v11 w12 => if v11 = 0 then some (1, w12) else some ((-1), w12) else if p1 = 7 then jcb (f_X9_isPlace p2 w) fun v14 w15 => if v14 = 0 then some (0, w15) else jcb (f_X9_in p3 0 999 w15) fun v17 w18 => if v17 = 0 then some (1, w18) else some ((-1), w18) else if p1 = 8 then jcb (f_X9_in p2 0 999 w) fun v20 w21 => if v20 = 0 then some (1, w21) else some ((-1), w21) else if p1 = 9 then jcb (f_X9_isPlace p2 w) fun v23 w24 => if v23 = 0 then some (0, w24) else jcb (f_X9_many w24) fun v26 w27 => jcb (f_X9_in p3 1 (v26 - p2) w27) fun v29 w30 => if v29 = 0 then some (1, w30) else some ((-1), w30) else some ((-1), w)
abbrev rm_X9_whyNot : Room := { frames := 2, cells := 0, slots := 0, locals := 43 }
set_option maxRecDepth 100000 in
set_option maxHeartbeats 4000000 in
theorem mt_X9_whyNot {g : j_G} {B : j_B} {p1 : Int32} {p2 : Int32} {p3 : Int32} {w w' : j_St} (a0 : B.2.1 1 0 ∧ B.2.2 1 0) {r : Int32} (h : f_X9_whyNot p1 p2 p3 w = some (r, w')) : j_M g yX9_whyNot cX9_whyNot 4 (some FieldType.int) rm_X9_whyNot B [.ref (B.1 1 0), .int p1, .int p2, .int p3] w w' (jri r) := by
  refine j_met (rv := jri) (by decide) (Nat.le_of_ble_eq_true rfl) (fun x hx => ?_) h
  unfold f_X9_whyNot
  refine J.sub (lv' := [(0, .ref (B.1 1 0)), (1, .int p1), (2, .int p2), (3, .int p3)]) [0, 1, 2, 3] rfl ?_
  refine J.aload_n hx dX9_whyNot_0 rfl 0 rfl ?_
  refine J.geti (κ := 1) (k := 29) hx rfl rfl rfl in_X9 (by decide) (Or.inl q1682) a0.1 dX9_whyNot_1 fun v1 => ?_
  refine J.if_ne (tgt := 9) hx dX9_whyNot_4 (by decide) ?_ ?_
  · refine J.iconst (v := 0) hx dX9_whyNot_7 (by decide) ?_
    exact J.iret hx rfl (Nat.le_of_ble_eq_true rfl) (Nat.le_of_ble_eq_true rfl) dX9_whyNot_8
  · refine J.iload_n hx dX9_whyNot_9 rfl 1 rfl ?_
    refine J.ite (fun e4 => ?_) (fun n4 => ?_)
    · refine J.tsw (off := 38) (tgt := 48) hx dX9_whyNot_10 (by rw [e4]; decide) (by rw [e4]; decide) (by rw [e4]; rfl) (by decide) ?_
      refine J.iload_n hx dX9_whyNot_48 rfl 2 rfl ?_
      refine J.iconst (v := 0) hx dX9_whyNot_49 (by decide) ?_
      refine J.sipush (v := 999) hx dX9_whyNot_50 (by decide) ?_
      refine J.calli hx (fun r z1 z => j_callS hx (mt_X9_in z) (lw_S q1826 q1827 q129 q1828) hd_X9_in.2 rfl ⟨Nat.le_of_ble_eq_true rfl, Nat.le_of_ble_eq_true rfl⟩ (Nat.le_of_ble_eq_true rfl) dX9_whyNot_53) ⟨⟨rfl, rfl⟩, Nat.le_of_ble_eq_true rfl, Nat.le_of_ble_eq_true rfl⟩ fun v2 w3 e4 => ?_
      refine J.if_eq (tgt := 63) hx dX9_whyNot_56 (by decide) ?_ ?_
      · refine J.iconst (v := 1) hx dX9_whyNot_63 (by decide) ?_
        exact J.iret hx rfl (Nat.le_of_ble_eq_true rfl) (Nat.le_of_ble_eq_true rfl) dX9_whyNot_64
      · refine J.iconst (v := (-1)) hx dX9_whyNot_59 (by decide) ?_
        refine J.goto (tgt := 64) hx dX9_whyNot_60 (by decide) ?_
        exact J.iret hx rfl (Nat.le_of_ble_eq_true rfl) (Nat.le_of_ble_eq_true rfl) dX9_whyNot_64
    · refine J.ite (fun e5 => ?_) (fun n5 => ?_)
      · refine J.tsw (off := 55) (tgt := 65) hx dX9_whyNot_10 (by rw [e5]; decide) (by rw [e5]; decide) (by rw [e5]; rfl) (by decide) ?_
        refine J.iload_n hx dX9_whyNot_65 rfl 2 rfl ?_
        refine J.sipush (v := (-999)) hx dX9_whyNot_66 (by decide) ?_
        refine J.sipush (v := 999) hx dX9_whyNot_69 (by decide) ?_
        refine J.calli hx (fun r z1 z => j_callS hx (mt_X9_in z) (lw_S q1826 q1827 q129 q1828) hd_X9_in.2 rfl ⟨Nat.le_of_ble_eq_true rfl, Nat.le_of_ble_eq_true rfl⟩ (Nat.le_of_ble_eq_true rfl) dX9_whyNot_72) ⟨⟨rfl, rfl⟩, Nat.le_of_ble_eq_true rfl, Nat.le_of_ble_eq_true rfl⟩ fun v5 w6 e7 => ?_
        refine J.if_eq (tgt := 82) hx dX9_whyNot_75 (by decide) ?_ ?_
        · refine J.iconst (v := 1) hx dX9_whyNot_82 (by decide) ?_
          exact J.iret hx rfl (Nat.le_of_ble_eq_true rfl) (Nat.le_of_ble_eq_true rfl) dX9_whyNot_83
        · refine J.iconst (v := (-1)) hx dX9_whyNot_78 (by decide) ?_
          refine J.goto (tgt := 83) hx dX9_whyNot_79 (by decide) ?_
          exact J.iret hx rfl (Nat.le_of_ble_eq_true rfl) (Nat.le_of_ble_eq_true rfl) dX9_whyNot_83
      · refine J.ite (fun e6 => ?_) (fun n6 => ?_)
        · refine J.tsw (off := 74) (tgt := 84) hx dX9_whyNot_10 (by rw [e6]; decide) (by rw [e6]; decide) (by rw [e6]; rfl) (by decide) ?_
          refine J.iload_n hx dX9_whyNot_84 rfl 2 rfl ?_
          refine J.iconst (v := 0) hx dX9_whyNot_85 (by decide) ?_
          refine J.bipush (v := 99) hx dX9_whyNot_86 (by decide) ?_
          refine J.calli hx (fun r z1 z => j_callS hx (mt_X9_in z) (lw_S q1826 q1827 q129 q1828) hd_X9_in.2 rfl ⟨Nat.le_of_ble_eq_true rfl, Nat.le_of_ble_eq_true rfl⟩ (Nat.le_of_ble_eq_true rfl) dX9_whyNot_88) ⟨⟨rfl, rfl⟩, Nat.le_of_ble_eq_true rfl, Nat.le_of_ble_eq_true rfl⟩ fun v8 w9 e10 => ?_
          refine J.if_eq (tgt := 108) hx dX9_whyNot_91 (by decide) ?_ ?_
          · refine J.iconst (v := 1) hx dX9_whyNot_108 (by decide) ?_
            exact J.iret hx rfl (Nat.le_of_ble_eq_true rfl) (Nat.le_of_ble_eq_true rfl) dX9_whyNot_109
          · refine J.iload_n hx dX9_whyNot_94 rfl 3 rfl ?_
            refine J.iconst (v := 1) hx dX9_whyNot_95 (by decide) ?_
            refine J.bipush (v := 99) hx dX9_whyNot_96 (by decide) ?_
            refine J.calli hx (fun r z1 z => j_callS hx (mt_X9_in z) (lw_S q1826 q1827 q129 q1828) hd_X9_in.2 rfl ⟨Nat.le_of_ble_eq_true rfl, Nat.le_of_ble_eq_true rfl⟩ (Nat.le_of_ble_eq_true rfl) dX9_whyNot_98) ⟨⟨rfl, rfl⟩, Nat.le_of_ble_eq_true rfl, Nat.le_of_ble_eq_true rfl⟩ fun v11 w12 e13 => ?_
            refine J.if_eq (tgt := 108) hx dX9_whyNot_101 (by decide) ?_ ?_
            · refine J.iconst (v := 1) hx dX9_whyNot_108 (by decide) ?_
              exact J.iret hx rfl (Nat.le_of_ble_eq_true rfl) (Nat.le_of_ble_eq_true rfl) dX9_whyNot_109
            · refine J.iconst (v := (-1)) hx dX9_whyNot_104 (by decide) ?_
              refine J.goto (tgt := 109) hx dX9_whyNot_105 (by decide) ?_
              exact J.iret hx rfl (Nat.le_of_ble_eq_true rfl) (Nat.le_of_ble_eq_true rfl) dX9_whyNot_109
        · refine J.ite (fun e7 => ?_) (fun n7 => ?_)
          · refine J.tsw (off := 100) (tgt := 110) hx dX9_whyNot_10 (by rw [e7]; decide) (by rw [e7]; decide) (by rw [e7]; rfl) (by decide) ?_
            refine J.aload_n hx dX9_whyNot_110 rfl 0 rfl ?_
            refine J.iload_n hx dX9_whyNot_111 rfl 2 rfl ?_
            refine J.calli hx (fun r z1 z => j_callV (κ := 1) hx rfl rfl a0.1 (mt_X9_isPlace a0 z) (lw_V q1957 q1959 qs62 q129 q1960) hd_X9_isPlace rfl ⟨Nat.le_of_ble_eq_true rfl, Nat.le_of_ble_eq_true rfl⟩ (Nat.le_of_ble_eq_true rfl) dX9_whyNot_112) ⟨⟨rfl, rfl⟩, Nat.le_of_ble_eq_true rfl, Nat.le_of_ble_eq_true rfl⟩ fun v14 w15 e16 => ?_
            refine J.if_ne (tgt := 122) hx dX9_whyNot_115 (by decide) ?_ ?_
            · refine J.iconst (v := 0) hx dX9_whyNot_118 (by decide) ?_
              refine J.goto (tgt := 138) hx dX9_whyNot_119 (by decide) ?_
              exact J.iret hx rfl (Nat.le_of_ble_eq_true rfl) (Nat.le_of_ble_eq_true rfl) dX9_whyNot_138
            · refine J.iload_n hx dX9_whyNot_122 rfl 3 rfl ?_
              refine J.iconst (v := 0) hx dX9_whyNot_123 (by decide) ?_
              refine J.sipush (v := 999) hx dX9_whyNot_124 (by decide) ?_
              refine J.calli hx (fun r z1 z => j_callS hx (mt_X9_in z) (lw_S q1826 q1827 q129 q1828) hd_X9_in.2 rfl ⟨Nat.le_of_ble_eq_true rfl, Nat.le_of_ble_eq_true rfl⟩ (Nat.le_of_ble_eq_true rfl) dX9_whyNot_127) ⟨⟨rfl, rfl⟩, Nat.le_of_ble_eq_true rfl, Nat.le_of_ble_eq_true rfl⟩ fun v17 w18 e19 => ?_
              refine J.if_eq (tgt := 137) hx dX9_whyNot_130 (by decide) ?_ ?_
              · refine J.iconst (v := 1) hx dX9_whyNot_137 (by decide) ?_
                exact J.iret hx rfl (Nat.le_of_ble_eq_true rfl) (Nat.le_of_ble_eq_true rfl) dX9_whyNot_138
              · refine J.iconst (v := (-1)) hx dX9_whyNot_133 (by decide) ?_
                refine J.goto (tgt := 138) hx dX9_whyNot_134 (by decide) ?_
                exact J.iret hx rfl (Nat.le_of_ble_eq_true rfl) (Nat.le_of_ble_eq_true rfl) dX9_whyNot_138
          · refine J.ite (fun e8 => ?_) (fun n8 => ?_)
            · refine J.tsw (off := 38) (tgt := 48) hx dX9_whyNot_10 (by rw [e8]; decide) (by rw [e8]; decide) (by rw [e8]; rfl) (by decide) ?_
              refine J.iload_n hx dX9_whyNot_48 rfl 2 rfl ?_
              refine J.iconst (v := 0) hx dX9_whyNot_49 (by decide) ?_
              refine J.sipush (v := 999) hx dX9_whyNot_50 (by decide) ?_
              refine J.calli hx (fun r z1 z => j_callS hx (mt_X9_in z) (lw_S q1826 q1827 q129 q1828) hd_X9_in.2 rfl ⟨Nat.le_of_ble_eq_true rfl, Nat.le_of_ble_eq_true rfl⟩ (Nat.le_of_ble_eq_true rfl) dX9_whyNot_53) ⟨⟨rfl, rfl⟩, Nat.le_of_ble_eq_true rfl, Nat.le_of_ble_eq_true rfl⟩ fun v20 w21 e22 => ?_
              refine J.if_eq (tgt := 63) hx dX9_whyNot_56 (by decide) ?_ ?_
              · refine J.iconst (v := 1) hx dX9_whyNot_63 (by decide) ?_
                exact J.iret hx rfl (Nat.le_of_ble_eq_true rfl) (Nat.le_of_ble_eq_true rfl) dX9_whyNot_64
              · refine J.iconst (v := (-1)) hx dX9_whyNot_59 (by decide) ?_
                refine J.goto (tgt := 64) hx dX9_whyNot_60 (by decide) ?_
                exact J.iret hx rfl (Nat.le_of_ble_eq_true rfl) (Nat.le_of_ble_eq_true rfl) dX9_whyNot_64
            · refine J.ite (fun e9 => ?_) (fun n9 => ?_)
              · refine J.tsw (off := 129) (tgt := 139) hx dX9_whyNot_10 (by rw [e9]; decide) (by rw [e9]; decide) (by rw [e9]; rfl) (by decide) ?_
                refine J.aload_n hx dX9_whyNot_139 rfl 0 rfl ?_
                refine J.iload_n hx dX9_whyNot_140 rfl 2 rfl ?_
                refine J.calli hx (fun r z1 z => j_callV (κ := 1) hx rfl rfl a0.1 (mt_X9_isPlace a0 z) (lw_V q1957 q1959 qs62 q129 q1960) hd_X9_isPlace rfl ⟨Nat.le_of_ble_eq_true rfl, Nat.le_of_ble_eq_true rfl⟩ (Nat.le_of_ble_eq_true rfl) dX9_whyNot_141) ⟨⟨rfl, rfl⟩, Nat.le_of_ble_eq_true rfl, Nat.le_of_ble_eq_true rfl⟩ fun v23 w24 e25 => ?_
                refine J.if_ne (tgt := 151) hx dX9_whyNot_144 (by decide) ?_ ?_
                · refine J.iconst (v := 0) hx dX9_whyNot_147 (by decide) ?_
                  refine J.goto (tgt := 170) hx dX9_whyNot_148 (by decide) ?_
                  exact J.iret hx rfl (Nat.le_of_ble_eq_true rfl) (Nat.le_of_ble_eq_true rfl) dX9_whyNot_170
                · refine J.iload_n hx dX9_whyNot_151 rfl 3 rfl ?_
                  refine J.iconst (v := 1) hx dX9_whyNot_152 (by decide) ?_
                  refine J.aload_n hx dX9_whyNot_153 rfl 0 rfl ?_
                  refine J.calli hx (fun r z1 z => j_callV (κ := 1) hx rfl rfl a0.1 (mt_X9_many a0 z) (lw_V q1941 q1943 qs59 q129 q1944) hd_X9_many rfl ⟨Nat.le_of_ble_eq_true rfl, Nat.le_of_ble_eq_true rfl⟩ (Nat.le_of_ble_eq_true rfl) dX9_whyNot_154) ⟨⟨rfl, rfl⟩, Nat.le_of_ble_eq_true rfl, Nat.le_of_ble_eq_true rfl⟩ fun v26 w27 e28 => ?_
                  refine J.iload_n hx dX9_whyNot_157 rfl 2 rfl ?_
                  refine J.isub hx dX9_whyNot_158 ?_
                  refine J.calli hx (fun r z1 z => j_callS hx (mt_X9_in z) (lw_S q1826 q1827 q129 q1828) hd_X9_in.2 rfl ⟨Nat.le_of_ble_eq_true rfl, Nat.le_of_ble_eq_true rfl⟩ (Nat.le_of_ble_eq_true rfl) dX9_whyNot_159) ⟨⟨rfl, rfl⟩, Nat.le_of_ble_eq_true rfl, Nat.le_of_ble_eq_true rfl⟩ fun v29 w30 e31 => ?_
                  refine J.if_eq (tgt := 169) hx dX9_whyNot_162 (by decide) ?_ ?_
                  · refine J.iconst (v := 1) hx dX9_whyNot_169 (by decide) ?_
                    exact J.iret hx rfl (Nat.le_of_ble_eq_true rfl) (Nat.le_of_ble_eq_true rfl) dX9_whyNot_170
                  · refine J.iconst (v := (-1)) hx dX9_whyNot_165 (by decide) ?_
                    refine J.goto (tgt := 170) hx dX9_whyNot_166 (by decide) ?_
                    exact J.iret hx rfl (Nat.le_of_ble_eq_true rfl) (Nat.le_of_ble_eq_true rfl) dX9_whyNot_170
              · have z4 := j_neT n4 (a := 4) (by decide)
                have z5 := j_neT n5 (a := 5) (by decide)
                have z6 := j_neT n6 (a := 6) (by decide)
                have z7 := j_neT n7 (a := 7) (by decide)
                have z8 := j_neT n8 (a := 8) (by decide)
                have z9 := j_neT n9 (a := 9) (by decide)
                refine J.tswD (tgt := 171) hx dX9_whyNot_10 (by omega) (by decide) ?_
                refine J.iconst (v := (-1)) hx dX9_whyNot_171 (by decide) ?_
                exact J.iret hx rfl (Nat.le_of_ble_eq_true rfl) (Nat.le_of_ble_eq_true rfl) dX9_whyNot_172
theorem hd_X9_keep : yX9_keep.cls = RX9 ∧ yX9_keep.cls ≠ "java/lang/invoke/MethodHandle" ∧ yX9_keep.cls ≠ "java/lang/invoke/VarHandle" ∧ (parseMethodDescriptor yX9_keep.desc).map (fun d => d.parameters.length) = some 0 := by decide +kernel
def f_X9_keep_L13  (k42 : j_St → Option (Unit × j_St)) : Nat → Int32 → j_St → Option (Unit × j_St)
  | 0, _, _ => none
  | n13 + 1, v2, w3 => if 9240 ≤ v2 then k42 w3 else jbd v2 9240 fun a6 => jlt (jgi w3 62 0 a6) fun v7 => jbd (v2 - 231) 9240 fun a9 => jlt (jsi w3 62 0 a9 v7) fun w8 => jlt (v2 + 1) fun v10 => f_X9_keep_L13 k42 n13 v10 w8
def f_X9_keep_L54  (k88 : j_St → Option (Unit × j_St)) : Nat → Int32 → j_St → Option (Unit × j_St)
  | 0, _, _ => none
  | n54 + 1, v15, w16 => if 231 ≤ v15 then k88 w16 else jlt (jgi w16 1 0 44) fun v18 => jbd v15 231 fun a20 => jlt (jgi w16 47 0 a20) fun v21 => jbd ((231 * v18) + v15) 9240 fun a23 => jlt (jsi w16 62 0 a23 v21) fun w22 => jlt (v15 + 1) fun v24 => f_X9_keep_L54 k88 n54 v24 w22
def f_X9_keep  (w : j_St) : Option (Unit × j_St) := jlt (jgi w 1 0 44) fun v1 => jlt (fun (w14 : j_St) => f_X9_keep_L54 (fun (w25 : j_St) => jlt (jgi w25 1 0 44) fun v26 => jlt (jsi w25 1 0 44 (v26 + 1)) fun w27 => some ((), w27)) jFU 0 w14) fun K52 => if v1 = 40 then f_X9_keep_L13 (fun (w11 : j_St) => jlt (jgi w11 1 0 44) fun v12 => jlt (jsi w11 1 0 44 (v12 - 1)) fun w13 => K52 w13) jFU 231 w else K52 w
abbrev rm_X9_keep : Room := { frames := 0, cells := 0, slots := 0, locals := 0 }
set_option maxRecDepth 100000 in
set_option maxHeartbeats 4000000 in
theorem mt_X9_keep {g : j_G} {B : j_B}  {w w' : j_St} (a0 : B.2.1 1 0 ∧ B.2.2 1 0) {r : Unit} (h : f_X9_keep  w = some (r, w')) : j_M g yX9_keep cX9_keep 2 none rm_X9_keep B [.ref (B.1 1 0)] w w' (jrv r) := by
  refine j_met (rv := jrv) (by decide) (Nat.le_of_ble_eq_true rfl) (fun x hx => ?_) h
  unfold f_X9_keep
  refine J.sub (lv' := [(0, .ref (B.1 1 0))]) [0] rfl ?_
  refine J.aload_n hx dX9_keep_0 rfl 0 rfl ?_
  refine J.geti (κ := 1) (k := 44) hx rfl rfl rfl in_X9 (by decide) (Or.inl q1697) a0.1 dX9_keep_1 fun v1 => ?_
  refine J.bipush (v := 40) hx dX9_keep_4 (by decide) ?_
  refine J.fn (fun (K52 : j_St → Option (Unit × j_St)) => ∀  (w14 : j_St), J g x 2 B (j_Q g x B rm_X9_keep jrv) 0 0 (K52 w14) 52 [(0, .ref (B.1 1 0))] [] w14) ?_ ?_
  · intro w14
    refine J.iconst (v := 0) hx dX9_keep_52 (by decide) ?_
    refine J.istore_n (lv' := [(1, .int 0), (0, .ref (B.1 1 0))]) hx dX9_keep_53 rfl (by decide) rfl ?_
    have hL54 : ∀ (k88 : j_St → Option (Unit × j_St)) (hk88 : ∀  (w25 : j_St), J g x 2 B (j_Q g x B rm_X9_keep jrv) 0 0 (k88 w25) 88 [(0, .ref (B.1 1 0))] [] w25) (n54 : Nat) (v15 : Int32) (w16 : j_St), J g x 2 B (j_Q g x B rm_X9_keep jrv) 0 0 (f_X9_keep_L54 k88 n54 v15 w16) 54 [(0, .ref (B.1 1 0)), (1, .int v15)] [] w16 := by
      intro k88 hk88 n54
      induction n54 with
      | zero =>
        intro v15 w16
        rw [f_X9_keep_L54]
        exact J.nne
      | succ n54 ih =>
        intro v15 w16
        rw [f_X9_keep_L54]
        refine J.iload_n hx dX9_keep_54 rfl 1 rfl ?_
        refine J.sipush (v := 231) hx dX9_keep_55 (by decide) ?_
        refine J.icmp_ge (tgt := 88) hx dX9_keep_58 (by decide) ?_ ?_
        · exact J.sub [0] rfl (hk88 w16)
        · refine J.aload_n hx dX9_keep_61 rfl 0 rfl ?_
          refine J.getc (κ' := 62) (i' := 0) (κ := 1) (k := 43) hx rfl rfl rfl rfl rfl in_X9 (by decide) (Or.inl q1696) a0.2 dX9_keep_62 fun h17 => ?_
          refine J.sipush (v := 231) hx dX9_keep_65 (by decide) ?_
          refine J.aload_n hx dX9_keep_68 rfl 0 rfl ?_
          refine J.geti (κ := 1) (k := 44) hx rfl rfl rfl in_X9 (by decide) (Or.inl q1697) a0.1 dX9_keep_69 fun v18 => ?_
          refine J.imul hx dX9_keep_72 ?_
          refine J.iload_n hx dX9_keep_73 rfl 1 rfl ?_
          refine J.iadd hx dX9_keep_74 ?_
          refine J.aload_n hx dX9_keep_75 rfl 0 rfl ?_
          refine J.getc (κ' := 47) (i' := 0) (κ := 1) (k := 22) hx rfl rfl rfl rfl rfl in_X9 (by decide) (Or.inl q1675) a0.2 dX9_keep_76 fun h19 => ?_
          refine J.iload_n hx dX9_keep_79 rfl 1 rfl ?_
          refine J.iald (κ := 47) hx rfl rfl h19.1 dX9_keep_80 fun v21 => ?_
          refine J.iast (κ := 62) hx rfl rfl rfl h17.1 dX9_keep_81 fun w22 => ?_
          refine J.nmx fun v24 ev24 => ?_
          refine J.iinc (p := 1) (v := v24) (lv' := [(1, .int v24), (0, .ref (B.1 1 0))]) hx dX9_keep_82 rfl (by rw [ev24]; rfl) (by decide) rfl ?_
          refine J.goto (tgt := 54) hx dX9_keep_85 (by decide) ?_
          exact J.sub [1, 0] rfl (ih v24 w22)
    refine J.sub [1, 0] rfl (hL54 _ ?_ jFU 0 w14)
    · intro w25
      refine J.aload_n hx dX9_keep_88 rfl 0 rfl ?_
      refine J.dup hx dX9_keep_89 rfl ?_
      refine J.geti (κ := 1) (k := 44) hx rfl rfl rfl in_X9 (by decide) (Or.inl q1697) a0.1 dX9_keep_90 fun v26 => ?_
      refine J.iconst (v := 1) hx dX9_keep_93 (by decide) ?_
      refine J.iadd hx dX9_keep_94 ?_
      refine J.puti (κ := 1) (k := 44) hx rfl rfl rfl in_X9 tyX9_ok nmX9 (by decide) (Or.inl q1697) rfl rfl a0.1 ⟨rfl, rfl⟩ dX9_keep_95 fun w27 => ?_
      exact J.vret hx rfl (Nat.le_of_ble_eq_true rfl) (Nat.le_of_ble_eq_true rfl) dX9_keep_98
  · intro K52 hK52
    refine J.icmp_ne (tgt := 52) hx dX9_keep_6 (by decide) ?_ ?_
    · refine J.sipush (v := 231) hx dX9_keep_9 (by decide) ?_
      refine J.istore_n (lv' := [(1, .int 231), (0, .ref (B.1 1 0))]) hx dX9_keep_12 rfl (by decide) rfl ?_
      have hL13 : ∀ (k42 : j_St → Option (Unit × j_St)) (hk42 : ∀  (w11 : j_St), J g x 2 B (j_Q g x B rm_X9_keep jrv) 0 0 (k42 w11) 42 [(0, .ref (B.1 1 0))] [] w11) (n13 : Nat) (v2 : Int32) (w3 : j_St), J g x 2 B (j_Q g x B rm_X9_keep jrv) 0 0 (f_X9_keep_L13 k42 n13 v2 w3) 13 [(0, .ref (B.1 1 0)), (1, .int v2)] [] w3 := by
        intro k42 hk42 n13
        induction n13 with
        | zero =>
          intro v2 w3
          rw [f_X9_keep_L13]
          exact J.nne
        | succ n13 ih =>
          intro v2 w3
          rw [f_X9_keep_L13]
          refine J.iload_n hx dX9_keep_13 rfl 1 rfl ?_
          refine J.sipush (v := 9240) hx dX9_keep_14 (by decide) ?_
          refine J.icmp_ge (tgt := 42) hx dX9_keep_17 (by decide) ?_ ?_
          · exact J.sub [0] rfl (hk42 w3)
          · refine J.aload_n hx dX9_keep_20 rfl 0 rfl ?_
            refine J.getc (κ' := 62) (i' := 0) (κ := 1) (k := 43) hx rfl rfl rfl rfl rfl in_X9 (by decide) (Or.inl q1696) a0.2 dX9_keep_21 fun h4 => ?_
            refine J.iload_n hx dX9_keep_24 rfl 1 rfl ?_
            refine J.sipush (v := 231) hx dX9_keep_25 (by decide) ?_
            refine J.isub hx dX9_keep_28 ?_
            refine J.aload_n hx dX9_keep_29 rfl 0 rfl ?_
            refine J.getc (κ' := 62) (i' := 0) (κ := 1) (k := 43) hx rfl rfl rfl rfl rfl in_X9 (by decide) (Or.inl q1696) a0.2 dX9_keep_30 fun h5 => ?_
            refine J.iload_n hx dX9_keep_33 rfl 1 rfl ?_
            refine J.iald (κ := 62) hx rfl rfl h5.1 dX9_keep_34 fun v7 => ?_
            refine J.iast (κ := 62) hx rfl rfl rfl h4.1 dX9_keep_35 fun w8 => ?_
            refine J.nmx fun v10 ev10 => ?_
            refine J.iinc (p := 1) (v := v10) (lv' := [(1, .int v10), (0, .ref (B.1 1 0))]) hx dX9_keep_36 rfl (by rw [ev10]; rfl) (by decide) rfl ?_
            refine J.goto (tgt := 13) hx dX9_keep_39 (by decide) ?_
            exact J.sub [1, 0] rfl (ih v10 w8)
      refine J.sub [1, 0] rfl (hL13 _ ?_ jFU 231 w)
      · intro w11
        refine J.aload_n hx dX9_keep_42 rfl 0 rfl ?_
        refine J.dup hx dX9_keep_43 rfl ?_
        refine J.geti (κ := 1) (k := 44) hx rfl rfl rfl in_X9 (by decide) (Or.inl q1697) a0.1 dX9_keep_44 fun v12 => ?_
        refine J.iconst (v := 1) hx dX9_keep_47 (by decide) ?_
        refine J.isub hx dX9_keep_48 ?_
        refine J.puti (κ := 1) (k := 44) hx rfl rfl rfl in_X9 tyX9_ok nmX9 (by decide) (Or.inl q1697) rfl rfl a0.1 ⟨rfl, rfl⟩ dX9_keep_49 fun w13 => ?_
        exact J.sub [0] rfl (hK52 w13)
    · exact J.sub [0] rfl (hK52 w)
