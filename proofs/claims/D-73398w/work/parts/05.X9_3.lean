theorem hd_X9_matched : yX9_matched.cls = RX9 ∧ yX9_matched.cls ≠ "java/lang/invoke/MethodHandle" ∧ yX9_matched.cls ≠ "java/lang/invoke/VarHandle" ∧ (parseMethodDescriptor yX9_matched.desc).map (fun d => d.parameters.length) = some 0 := by decide +kernel
def f_X9_matched_L8   : Nat → Int32 → Int32 → j_St → Option (Int32 × j_St)
  | 0, _, _, _ => none
  | n8 + 1, v4, v5, w6 => jlt (jgi w6 1 0 27) fun v7 => if v7 ≤ v5 then some (v4, w6) else jbd v5 8 fun a9 => jlt (jgi w6 60 0 a9) fun v10 => jlt (fun (v11 : Int32) (w12 : j_St) => jlt (v4 ||| v11) fun v13 => jlt (v5 + 1) fun v14 => f_X9_matched_L8 n8 v13 v14 w12) fun K34 => if v10 = (-1) then K34 0 w6 else K34 ((1 : Int32) <<< (v5 &&& 31)) w6
def f_X9_matched  (w : j_St) : Option (Int32 × j_St) := jcb (f_X9_finds w) fun _ w2 => f_X9_matched_L8 jFU 0 0 w2
abbrev rm_X9_matched : Room := { frames := 4, cells := 0, slots := 0, locals := 93 }
set_option maxRecDepth 100000 in
set_option maxHeartbeats 4000000 in
theorem mt_X9_matched {g : j_G} {B : j_B}  {w w' : j_St} (a0 : B.2.1 1 0 ∧ B.2.2 1 0) {r : Int32} (h : f_X9_matched  w = some (r, w')) : j_M g yX9_matched cX9_matched 3 (some FieldType.int) rm_X9_matched B [.ref (B.1 1 0)] w w' (jri r) := by
  refine j_met (rv := jri) (by decide) (Nat.le_of_ble_eq_true rfl) (fun x hx => ?_) h
  unfold f_X9_matched
  refine J.sub (lv' := [(0, .ref (B.1 1 0))]) [0] rfl ?_
  refine J.aload_n hx dX9_matched_0 rfl 0 rfl ?_
  refine J.callv hx (fun r z1 z => j_callV (κ := 1) hx rfl rfl a0.1 (mt_X9_finds a0 z) (lw_V q1990 q1992 qs69 q129 q1993) hd_X9_finds rfl ⟨Nat.le_of_ble_eq_true rfl, Nat.le_of_ble_eq_true rfl⟩ (Nat.le_of_ble_eq_true rfl) dX9_matched_1) ⟨⟨rfl, rfl⟩, Nat.le_of_ble_eq_true rfl, Nat.le_of_ble_eq_true rfl⟩ fun _ w2 e3 => ?_
  refine J.iconst (v := 0) hx dX9_matched_4 (by decide) ?_
  refine J.istore_n (lv' := [(1, .int 0), (0, .ref (B.1 1 0))]) hx dX9_matched_5 rfl (by decide) rfl ?_
  refine J.iconst (v := 0) hx dX9_matched_6 (by decide) ?_
  refine J.istore_n (lv' := [(2, .int 0), (1, .int 0), (0, .ref (B.1 1 0))]) hx dX9_matched_7 rfl (by decide) rfl ?_
  have hL8 : ∀ (n8 : Nat) (v4 : Int32) (v5 : Int32) (w6 : j_St), J g x 3 B (j_Q g x B rm_X9_matched jri) 0 0 (f_X9_matched_L8 n8 v4 v5 w6) 8 [(0, .ref (B.1 1 0)), (1, .int v4), (2, .int v5)] [] w6 := by
    intro n8
    induction n8 with
    | zero =>
      intro v4 v5 w6
      rw [f_X9_matched_L8]
      exact J.nne
    | succ n8 ih =>
      intro v4 v5 w6
      rw [f_X9_matched_L8]
      refine J.iload_n hx dX9_matched_8 rfl 2 rfl ?_
      refine J.aload_n hx dX9_matched_9 rfl 0 rfl ?_
      refine J.geti (κ := 1) (k := 27) hx rfl rfl rfl in_X9 (by decide) (Or.inl q1680) a0.1 dX9_matched_10 fun v7 => ?_
      refine J.icmp_ge (tgt := 42) hx dX9_matched_13 (by decide) ?_ ?_
      · refine J.iload_n hx dX9_matched_42 rfl 1 rfl ?_
        exact J.iret hx rfl (Nat.le_of_ble_eq_true rfl) (Nat.le_of_ble_eq_true rfl) dX9_matched_43
      · refine J.iload_n hx dX9_matched_16 rfl 1 rfl ?_
        refine J.aload_n hx dX9_matched_17 rfl 0 rfl ?_
        refine J.getc (κ' := 60) (i' := 0) (κ := 1) (k := 40) hx rfl rfl rfl rfl rfl in_X9 (by decide) (Or.inl q1693) a0.2 dX9_matched_18 fun h8 => ?_
        refine J.iload_n hx dX9_matched_21 rfl 2 rfl ?_
        refine J.iald (κ := 60) hx rfl rfl h8.1 dX9_matched_22 fun v10 => ?_
        refine J.iconst (v := (-1)) hx dX9_matched_23 (by decide) ?_
        refine J.fn (fun (K34 : Int32 → j_St → Option (Int32 × j_St)) => ∀ (v11 : Int32) (w12 : j_St), J g x 3 B (j_Q g x B rm_X9_matched jri) 0 0 (K34 v11 w12) 34 [(0, .ref (B.1 1 0)), (2, .int v5)] [.int v11, .int v4] w12) ?_ ?_
        · intro v11 w12
          refine J.ior hx dX9_matched_34 ?_
          refine J.nmi fun v13 => ?_
          refine J.istore_n (lv' := [(1, .int v13), (0, .ref (B.1 1 0)), (2, .int v5)]) hx dX9_matched_35 rfl (by decide) rfl ?_
          refine J.nmx fun v14 ev14 => ?_
          refine J.iinc (p := 2) (v := v14) (lv' := [(2, .int v14), (1, .int v13), (0, .ref (B.1 1 0))]) hx dX9_matched_36 rfl (by rw [ev14]; rfl) (by decide) rfl ?_
          refine J.goto (tgt := 8) hx dX9_matched_39 (by decide) ?_
          exact J.sub [2, 1, 0] rfl (ih v13 v14 w12)
        · intro K34 hK34
          refine J.icmp_eq (tgt := 33) hx dX9_matched_24 (by decide) ?_ ?_
          · refine J.iconst (v := 0) hx dX9_matched_33 (by decide) ?_
            exact J.sub [0, 2] rfl (hK34 0 w6)
          · refine J.iconst (v := 1) hx dX9_matched_27 (by decide) ?_
            refine J.iload_n hx dX9_matched_28 rfl 2 rfl ?_
            refine J.ishl hx dX9_matched_29 ?_
            refine J.goto (tgt := 34) hx dX9_matched_30 (by decide) ?_
            exact J.sub [0, 2] rfl (hK34 ((1 : Int32) <<< (v5 &&& 31)) w6)
  refine J.sub [2, 1, 0] rfl (hL8 jFU 0 0 w2)
theorem hd_X9_missed : yX9_missed.cls = RX9 ∧ yX9_missed.cls ≠ "java/lang/invoke/MethodHandle" ∧ yX9_missed.cls ≠ "java/lang/invoke/VarHandle" ∧ (parseMethodDescriptor yX9_missed.desc).map (fun d => d.parameters.length) = some 0 := by decide +kernel
def f_X9_missed  (w : j_St) : Option (Int32 × j_St) := jlt (jgi w 1 0 29) fun v1 => if v1 = 0 then some ((-1), w) else jlt (jgi w 1 0 27) fun v2 => jcb (f_X9_matched w) fun v3 w4 => some ((((1 : Int32) <<< (v2 &&& 31)) - 1) &&& (v3 ^^^ (-1)), w4)
abbrev rm_X9_missed : Room := { frames := 5, cells := 0, slots := 0, locals := 115 }
set_option maxRecDepth 100000 in
set_option maxHeartbeats 4000000 in
theorem mt_X9_missed {g : j_G} {B : j_B}  {w w' : j_St} (a0 : B.2.1 1 0 ∧ B.2.2 1 0) {r : Int32} (h : f_X9_missed  w = some (r, w')) : j_M g yX9_missed cX9_missed 1 (some FieldType.int) rm_X9_missed B [.ref (B.1 1 0)] w w' (jri r) := by
  refine j_met (rv := jri) (by decide) (Nat.le_of_ble_eq_true rfl) (fun x hx => ?_) h
  unfold f_X9_missed
  refine J.sub (lv' := [(0, .ref (B.1 1 0))]) [0] rfl ?_
  refine J.aload_n hx dX9_missed_0 rfl 0 rfl ?_
  refine J.geti (κ := 1) (k := 29) hx rfl rfl rfl in_X9 (by decide) (Or.inl q1682) a0.1 dX9_missed_1 fun v1 => ?_
  refine J.if_eq (tgt := 25) hx dX9_missed_4 (by decide) ?_ ?_
  · refine J.iconst (v := (-1)) hx dX9_missed_25 (by decide) ?_
    exact J.iret hx rfl (Nat.le_of_ble_eq_true rfl) (Nat.le_of_ble_eq_true rfl) dX9_missed_26
  · refine J.iconst (v := 1) hx dX9_missed_7 (by decide) ?_
    refine J.aload_n hx dX9_missed_8 rfl 0 rfl ?_
    refine J.geti (κ := 1) (k := 27) hx rfl rfl rfl in_X9 (by decide) (Or.inl q1680) a0.1 dX9_missed_9 fun v2 => ?_
    refine J.ishl hx dX9_missed_12 ?_
    refine J.iconst (v := 1) hx dX9_missed_13 (by decide) ?_
    refine J.isub hx dX9_missed_14 ?_
    refine J.aload_n hx dX9_missed_15 rfl 0 rfl ?_
    refine J.calli hx (fun r z1 z => j_callV (κ := 1) hx rfl rfl a0.1 (mt_X9_matched a0 z) (lw_V q2259 q2261 qs108 q129 q2262) hd_X9_matched rfl ⟨Nat.le_of_ble_eq_true rfl, Nat.le_of_ble_eq_true rfl⟩ (Nat.le_of_ble_eq_true rfl) dX9_missed_16) ⟨⟨rfl, rfl⟩, Nat.le_of_ble_eq_true rfl, Nat.le_of_ble_eq_true rfl⟩ fun v3 w4 e5 => ?_
    refine J.iconst (v := (-1)) hx dX9_missed_19 (by decide) ?_
    refine J.ixor hx dX9_missed_20 ?_
    refine J.iand hx dX9_missed_21 ?_
    refine J.goto (tgt := 26) hx dX9_missed_22 (by decide) ?_
    exact J.iret hx rfl (Nat.le_of_ble_eq_true rfl) (Nat.le_of_ble_eq_true rfl) dX9_missed_26
theorem hd_X9_would : yX9_would.cls = RX9 ∧ yX9_would.cls ≠ "java/lang/invoke/MethodHandle" ∧ yX9_would.cls ≠ "java/lang/invoke/VarHandle" ∧ (parseMethodDescriptor yX9_would.desc).map (fun d => d.parameters.length) = some 3 := by decide +kernel
def f_X9_would (p1 : Int32) (p2 : Int32) (p3 : Int32) (w : j_St) : Option (Int32 × j_St) := jcb (f_X9_whyNot 7 p1 p2 w) fun v1 w2 => if v1 = (-1) then jcb (f_X9_in p3 0 2 w2) fun v4 w5 => if v4 = 0 then some ((-1), w5) else jcb (f_X9_sets p1 p2 w5) fun v7 w8 => jcb (f_X9_finds w8) fun _ w11 => jlt (fun (v18 : Int32) (w19 : j_St) => jbd p1 231 fun a22 => jlt (jsi w19 47 0 a22 v7) fun w21 => some (v18, w21)) fun K63 => if p3 = 0 then jlt (jgi w11 1 0 38) fun v17 => K63 v17 w11 else if p3 = 1 then jcb (f_X9_placeOf 0 w11) fun v14 w15 => K63 v14 w15 else jlt (jgi w11 1 0 35) fun v13 => K63 v13 w11 else some ((-1), w2)
abbrev rm_X9_would : Room := { frames := 4, cells := 0, slots := 0, locals := 93 }
set_option maxRecDepth 100000 in
set_option maxHeartbeats 4000000 in
theorem mt_X9_would {g : j_G} {B : j_B} {p1 : Int32} {p2 : Int32} {p3 : Int32} {w w' : j_St} (a0 : B.2.1 1 0 ∧ B.2.2 1 0) {r : Int32} (h : f_X9_would p1 p2 p3 w = some (r, w')) : j_M g yX9_would cX9_would 6 (some FieldType.int) rm_X9_would B [.ref (B.1 1 0), .int p1, .int p2, .int p3] w w' (jri r) := by
  refine j_met (rv := jri) (by decide) (Nat.le_of_ble_eq_true rfl) (fun x hx => ?_) h
  unfold f_X9_would
  refine J.sub (lv' := [(0, .ref (B.1 1 0)), (1, .int p1), (2, .int p2), (3, .int p3)]) [0, 1, 2, 3] rfl ?_
  refine J.aload_n hx dX9_would_0 rfl 0 rfl ?_
  refine J.bipush (v := 7) hx dX9_would_1 (by decide) ?_
  refine J.iload_n hx dX9_would_3 rfl 1 rfl ?_
  refine J.iload_n hx dX9_would_4 rfl 2 rfl ?_
  refine J.calli hx (fun r z1 z => j_callV (κ := 1) hx rfl rfl a0.1 (mt_X9_whyNot a0 z) (lw_V q1953 q1955 qs61 q129 q1956) hd_X9_whyNot rfl ⟨Nat.le_of_ble_eq_true rfl, Nat.le_of_ble_eq_true rfl⟩ (Nat.le_of_ble_eq_true rfl) dX9_would_5) ⟨⟨rfl, rfl⟩, Nat.le_of_ble_eq_true rfl, Nat.le_of_ble_eq_true rfl⟩ fun v1 w2 e3 => ?_
  refine J.iconst (v := (-1)) hx dX9_would_8 (by decide) ?_
  refine J.icmp_ne (tgt := 21) hx dX9_would_9 (by decide) ?_ ?_
  · refine J.iload_n hx dX9_would_12 rfl 3 rfl ?_
    refine J.iconst (v := 0) hx dX9_would_13 (by decide) ?_
    refine J.iconst (v := 2) hx dX9_would_14 (by decide) ?_
    refine J.calli hx (fun r z1 z => j_callS hx (mt_X9_in z) (lw_S q1826 q1827 q129 q1828) hd_X9_in.2 rfl ⟨Nat.le_of_ble_eq_true rfl, Nat.le_of_ble_eq_true rfl⟩ (Nat.le_of_ble_eq_true rfl) dX9_would_15) ⟨⟨rfl, rfl⟩, Nat.le_of_ble_eq_true rfl, Nat.le_of_ble_eq_true rfl⟩ fun v4 w5 e6 => ?_
    refine J.if_ne (tgt := 23) hx dX9_would_18 (by decide) ?_ ?_
    · refine J.iconst (v := (-1)) hx dX9_would_21 (by decide) ?_
      exact J.iret hx rfl (Nat.le_of_ble_eq_true rfl) (Nat.le_of_ble_eq_true rfl) dX9_would_22
    · refine J.aload_n hx dX9_would_23 rfl 0 rfl ?_
      refine J.iload_n hx dX9_would_24 rfl 1 rfl ?_
      refine J.iload_n hx dX9_would_25 rfl 2 rfl ?_
      refine J.calli hx (fun r z1 z => j_callV (κ := 1) hx rfl rfl a0.1 (mt_X9_sets a0 z) (lw_V q2065 q2067 qs87 q129 q2068) hd_X9_sets rfl ⟨Nat.le_of_ble_eq_true rfl, Nat.le_of_ble_eq_true rfl⟩ (Nat.le_of_ble_eq_true rfl) dX9_would_26) ⟨⟨rfl, rfl⟩, Nat.le_of_ble_eq_true rfl, Nat.le_of_ble_eq_true rfl⟩ fun v7 w8 e9 => ?_
      refine J.istore (lv' := [(4, .int v7), (0, .ref (B.1 1 0)), (1, .int p1), (2, .int p2), (3, .int p3)]) hx dX9_would_29 (by decide) rfl ?_
      refine J.aload_n hx dX9_would_31 rfl 1 rfl ?_
      refine J.callv hx (fun r z1 z => j_callV (κ := 1) hx rfl rfl a0.1 (mt_X9_finds a0 z) (lw_V q1990 q1992 qs69 q129 q1993) hd_X9_finds rfl ⟨Nat.le_of_ble_eq_true rfl, Nat.le_of_ble_eq_true rfl⟩ (Nat.le_of_ble_eq_true rfl) dX9_would_32) ⟨⟨rfl, rfl⟩, Nat.le_of_ble_eq_true rfl, Nat.le_of_ble_eq_true rfl⟩ fun _ w11 e12 => ?_
      refine J.iload_n hx dX9_would_35 rfl 4 rfl ?_
      refine J.fn (fun (K63 : Int32 → j_St → Option (Int32 × j_St)) => ∀ (v18 : Int32) (w19 : j_St), J g x 6 B (j_Q g x B rm_X9_would jri) 0 0 (K63 v18 w19) 63 [(0, .ref (B.1 1 0)), (1, .int p1), (4, .int v7)] [.int v18] w19) ?_ ?_
      · intro v18 w19
        refine J.istore (lv' := [(5, .int v18), (0, .ref (B.1 1 0)), (1, .int p1), (4, .int v7)]) hx dX9_would_63 (by decide) rfl ?_
        refine J.aload_n hx dX9_would_65 rfl 1 rfl ?_
        refine J.getc (κ' := 47) (i' := 0) (κ := 1) (k := 22) hx rfl rfl rfl rfl rfl in_X9 (by decide) (Or.inl q1675) a0.2 dX9_would_66 fun h20 => ?_
        refine J.iload_n hx dX9_would_69 rfl 2 rfl ?_
        refine J.iload hx dX9_would_70 3 rfl ?_
        refine J.iast (κ := 47) hx rfl rfl rfl h20.1 dX9_would_72 fun w21 => ?_
        refine J.iload hx dX9_would_73 0 rfl ?_
        exact J.iret hx rfl (Nat.le_of_ble_eq_true rfl) (Nat.le_of_ble_eq_true rfl) dX9_would_75
      · intro K63 hK63
        refine J.if_ne (tgt := 46) hx dX9_would_36 (by decide) ?_ ?_
        · refine J.aload_n hx dX9_would_39 rfl 1 rfl ?_
          refine J.geti (κ := 1) (k := 38) hx rfl rfl rfl in_X9 (by decide) (Or.inl q1691) a0.1 dX9_would_40 fun v17 => ?_
          refine J.goto (tgt := 63) hx dX9_would_43 (by decide) ?_
          exact J.sub [1, 2, 0] rfl (hK63 v17 w11)
        · refine J.iload_n hx dX9_would_46 rfl 4 rfl ?_
          refine J.iconst (v := 1) hx dX9_would_47 (by decide) ?_
          refine J.icmp_ne (tgt := 59) hx dX9_would_48 (by decide) ?_ ?_
          · refine J.aload_n hx dX9_would_51 rfl 1 rfl ?_
            refine J.iconst (v := 0) hx dX9_would_52 (by decide) ?_
            refine J.calli hx (fun r z1 z => j_callV (κ := 1) hx rfl rfl a0.1 (mt_X9_placeOf a0 z) (lw_V q2030 q2032 qs79 q129 q2033) hd_X9_placeOf rfl ⟨Nat.le_of_ble_eq_true rfl, Nat.le_of_ble_eq_true rfl⟩ (Nat.le_of_ble_eq_true rfl) dX9_would_53) ⟨⟨rfl, rfl⟩, Nat.le_of_ble_eq_true rfl, Nat.le_of_ble_eq_true rfl⟩ fun v14 w15 e16 => ?_
            refine J.goto (tgt := 63) hx dX9_would_56 (by decide) ?_
            exact J.sub [1, 2, 0] rfl (hK63 v14 w15)
          · refine J.aload_n hx dX9_would_59 rfl 1 rfl ?_
            refine J.geti (κ := 1) (k := 35) hx rfl rfl rfl in_X9 (by decide) (Or.inl q1688) a0.1 dX9_would_60 fun v13 => ?_
            exact J.sub [1, 2, 0] rfl (hK63 v13 w11)
  · refine J.iconst (v := (-1)) hx dX9_would_21 (by decide) ?_
    exact J.iret hx rfl (Nat.le_of_ble_eq_true rfl) (Nat.le_of_ble_eq_true rfl) dX9_would_22
theorem hd_X9_tallestOf : yX9_tallestOf.cls = RX9 ∧ yX9_tallestOf.cls ≠ "java/lang/invoke/MethodHandle" ∧ yX9_tallestOf.cls ≠ "java/lang/invoke/VarHandle" ∧ (parseMethodDescriptor yX9_tallestOf.desc).map (fun d => d.parameters.length) = some 1 := by decide +kernel
def f_X9_tallestOf_L4 (p1 : Int32)  : Nat → Int32 → Int32 → j_St → Option (Int32 × j_St)
  | 0, _, _, _ => none
  | n4 + 1, v1, v2, w3 => jlt (jgi w3 1 0 35) fun v4 => if v4 ≤ v2 then some (v1, w3) else jlt (fun (v8 : Int32) (w9 : j_St) => jlt (fun (v18 : Int32) (w19 : j_St) => jlt (v2 + 1) fun v20 => f_X9_tallestOf_L4 p1 n4 v18 v20 w19) fun K73 => jlt (fun (w17 : j_St) => K73 v1 w17) fun K72 => if v8 = 0 then K72 w9 else jlt (fun (w16 : j_St) => K73 v2 w16) fun K68 => if v1 = (-1) then K68 w9 else jcb (f_X9_height v2 w9) fun v10 w11 => jcb (f_X9_height v1 w11) fun v13 w14 => if v10 ≤ v13 then K72 w14 else K68 w14) fun K43 => if p1 = (-1) then if v2 ≤ 0 then K43 0 w3 else K43 1 w3 else jcb (f_X9_generationOf v2 w3) fun v5 w6 => if v5 = p1 then K43 1 w6 else K43 0 w6
def f_X9_tallestOf (p1 : Int32) (w : j_St) : Option (Int32 × j_St) := f_X9_tallestOf_L4 p1 jFU (-1) 0 w
abbrev rm_X9_tallestOf : Room := { frames := 2, cells := 0, slots := 0, locals := 42 }
set_option maxRecDepth 100000 in
set_option maxHeartbeats 4000000 in
theorem mt_X9_tallestOf {g : j_G} {B : j_B} {p1 : Int32} {w w' : j_St} (a0 : B.2.1 1 0 ∧ B.2.2 1 0) {r : Int32} (h : f_X9_tallestOf p1 w = some (r, w')) : j_M g yX9_tallestOf cX9_tallestOf 5 (some FieldType.int) rm_X9_tallestOf B [.ref (B.1 1 0), .int p1] w w' (jri r) := by
  refine j_met (rv := jri) (by decide) (Nat.le_of_ble_eq_true rfl) (fun x hx => ?_) h
  unfold f_X9_tallestOf
  refine J.sub (lv' := [(0, .ref (B.1 1 0)), (1, .int p1)]) [0, 1] rfl ?_
  refine J.iconst (v := (-1)) hx dX9_tallestOf_0 (by decide) ?_
  refine J.istore_n (lv' := [(2, .int (-1)), (0, .ref (B.1 1 0)), (1, .int p1)]) hx dX9_tallestOf_1 rfl (by decide) rfl ?_
  refine J.iconst (v := 0) hx dX9_tallestOf_2 (by decide) ?_
  refine J.istore_n (lv' := [(3, .int 0), (2, .int (-1)), (0, .ref (B.1 1 0)), (1, .int p1)]) hx dX9_tallestOf_3 rfl (by decide) rfl ?_
  have hL4 : ∀ (n4 : Nat) (v1 : Int32) (v2 : Int32) (w3 : j_St), J g x 5 B (j_Q g x B rm_X9_tallestOf jri) 0 0 (f_X9_tallestOf_L4 p1 n4 v1 v2 w3) 4 [(0, .ref (B.1 1 0)), (1, .int p1), (2, .int v1), (3, .int v2)] [] w3 := by
    intro n4
    induction n4 with
    | zero =>
      intro v1 v2 w3
      rw [f_X9_tallestOf_L4]
      exact J.nne
    | succ n4 ih =>
      intro v1 v2 w3
      rw [f_X9_tallestOf_L4]
      refine J.iload_n hx dX9_tallestOf_4 rfl 3 rfl ?_
      refine J.aload_n hx dX9_tallestOf_5 rfl 0 rfl ?_
      refine J.geti (κ := 1) (k := 35) hx rfl rfl rfl in_X9 (by decide) (Or.inl q1688) a0.1 dX9_tallestOf_6 fun v4 => ?_
      refine J.icmp_ge (tgt := 80) hx dX9_tallestOf_9 (by decide) ?_ ?_
      · refine J.iload_n hx dX9_tallestOf_80 rfl 2 rfl ?_
        exact J.iret hx rfl (Nat.le_of_ble_eq_true rfl) (Nat.le_of_ble_eq_true rfl) dX9_tallestOf_81
      · refine J.iload_n hx dX9_tallestOf_12 rfl 1 rfl ?_
        refine J.iconst (v := (-1)) hx dX9_tallestOf_13 (by decide) ?_
        refine J.fn (fun (K43 : Int32 → j_St → Option (Int32 × j_St)) => ∀ (v8 : Int32) (w9 : j_St), J g x 5 B (j_Q g x B rm_X9_tallestOf jri) 0 0 (K43 v8 w9) 43 [(0, .ref (B.1 1 0)), (1, .int p1), (2, .int v1), (3, .int v2)] [.int v8] w9) ?_ ?_
        · intro v8 w9
          refine J.istore (lv' := [(4, .int v8), (0, .ref (B.1 1 0)), (1, .int p1), (2, .int v1), (3, .int v2)]) hx dX9_tallestOf_43 (by decide) rfl ?_
          refine J.iload hx dX9_tallestOf_45 0 rfl ?_
          refine J.fn (fun (K73 : Int32 → j_St → Option (Int32 × j_St)) => ∀ (v18 : Int32) (w19 : j_St), J g x 5 B (j_Q g x B rm_X9_tallestOf jri) 0 0 (K73 v18 w19) 73 [(0, .ref (B.1 1 0)), (1, .int p1), (3, .int v2)] [.int v18] w19) ?_ ?_
          · intro v18 w19
            refine J.istore_n (lv' := [(2, .int v18), (0, .ref (B.1 1 0)), (1, .int p1), (3, .int v2)]) hx dX9_tallestOf_73 rfl (by decide) rfl ?_
            refine J.nmx fun v20 ev20 => ?_
            refine J.iinc (p := 3) (v := v20) (lv' := [(3, .int v20), (2, .int v18), (0, .ref (B.1 1 0)), (1, .int p1)]) hx dX9_tallestOf_74 rfl (by rw [ev20]; rfl) (by decide) rfl ?_
            refine J.goto (tgt := 4) hx dX9_tallestOf_77 (by decide) ?_
            exact J.sub [2, 3, 1, 0] rfl (ih v18 v20 w19)
          · intro K73 hK73
            refine J.fn (fun (K72 : j_St → Option (Int32 × j_St)) => ∀  (w17 : j_St), J g x 5 B (j_Q g x B rm_X9_tallestOf jri) 0 0 (K72 w17) 72 [(0, .ref (B.1 1 0)), (1, .int p1), (2, .int v1), (3, .int v2)] [] w17) ?_ ?_
            · intro w17
              refine J.iload_n hx dX9_tallestOf_72 rfl 2 rfl ?_
              exact J.sub [0, 1, 3] rfl (hK73 v1 w17)
            · intro K72 hK72
              refine J.if_eq (tgt := 72) hx dX9_tallestOf_47 (by decide) ?_ ?_
              · exact J.sub [1, 2, 3, 4] rfl (hK72 w9)
              · refine J.iload_n hx dX9_tallestOf_50 rfl 3 rfl ?_
                refine J.iconst (v := (-1)) hx dX9_tallestOf_51 (by decide) ?_
                refine J.fn (fun (K68 : j_St → Option (Int32 × j_St)) => ∀  (w16 : j_St), J g x 5 B (j_Q g x B rm_X9_tallestOf jri) 0 0 (K68 w16) 68 [(0, .ref (B.1 1 0)), (1, .int p1), (3, .int v2)] [] w16) ?_ ?_
                · intro w16
                  refine J.iload_n hx dX9_tallestOf_68 rfl 2 rfl ?_
                  refine J.goto (tgt := 73) hx dX9_tallestOf_69 (by decide) ?_
                  exact J.sub [0, 1, 2] rfl (hK73 v2 w16)
                · intro K68 hK68
                  refine J.icmp_eq (tgt := 68) hx dX9_tallestOf_52 (by decide) ?_ ?_
                  · exact J.sub [1, 2, 4] rfl (hK68 w9)
                  · refine J.aload_n hx dX9_tallestOf_55 rfl 1 rfl ?_
                    refine J.iload_n hx dX9_tallestOf_56 rfl 4 rfl ?_
                    refine J.calli hx (fun r z1 z => j_callV (κ := 1) hx rfl rfl a0.1 (mt_X9_height a0 z) (lw_V q2159 q2161 qs94 q129 q2162) hd_X9_height rfl ⟨Nat.le_of_ble_eq_true rfl, Nat.le_of_ble_eq_true rfl⟩ (Nat.le_of_ble_eq_true rfl) dX9_tallestOf_57) ⟨⟨rfl, rfl⟩, Nat.le_of_ble_eq_true rfl, Nat.le_of_ble_eq_true rfl⟩ fun v10 w11 e12 => ?_
                    refine J.aload_n hx dX9_tallestOf_60 rfl 1 rfl ?_
                    refine J.iload_n hx dX9_tallestOf_61 rfl 3 rfl ?_
                    refine J.calli hx (fun r z1 z => j_callV (κ := 1) hx rfl rfl a0.1 (mt_X9_height a0 z) (lw_V q2159 q2161 qs94 q129 q2162) hd_X9_height rfl ⟨Nat.le_of_ble_eq_true rfl, Nat.le_of_ble_eq_true rfl⟩ (Nat.le_of_ble_eq_true rfl) dX9_tallestOf_62) ⟨⟨rfl, rfl⟩, Nat.le_of_ble_eq_true rfl, Nat.le_of_ble_eq_true rfl⟩ fun v13 w14 e15 => ?_
                    refine J.icmp_le (tgt := 72) hx dX9_tallestOf_65 (by decide) ?_ ?_
                    · exact J.sub [1, 2, 3, 4] rfl (hK72 w14)
                    · exact J.sub [1, 2, 4] rfl (hK68 w14)
        · intro K43 hK43
          refine J.icmp_ne (tgt := 29) hx dX9_tallestOf_14 (by decide) ?_ ?_
          · refine J.iload_n hx dX9_tallestOf_17 rfl 3 rfl ?_
            refine J.if_le (tgt := 25) hx dX9_tallestOf_18 (by decide) ?_ ?_
            · refine J.iconst (v := 0) hx dX9_tallestOf_25 (by decide) ?_
              refine J.goto (tgt := 43) hx dX9_tallestOf_26 (by decide) ?_
              exact J.sub [0, 1, 2, 3] rfl (hK43 0 w3)
            · refine J.iconst (v := 1) hx dX9_tallestOf_21 (by decide) ?_
              refine J.goto (tgt := 43) hx dX9_tallestOf_22 (by decide) ?_
              exact J.sub [0, 1, 2, 3] rfl (hK43 1 w3)
          · refine J.aload_n hx dX9_tallestOf_29 rfl 0 rfl ?_
            refine J.iload_n hx dX9_tallestOf_30 rfl 3 rfl ?_
            refine J.calli hx (fun r z1 z => j_callV (κ := 1) hx rfl rfl a0.1 (mt_X9_generationOf a0 z) (lw_V q2171 q2173 qs97 q129 q2174) hd_X9_generationOf rfl ⟨Nat.le_of_ble_eq_true rfl, Nat.le_of_ble_eq_true rfl⟩ (Nat.le_of_ble_eq_true rfl) dX9_tallestOf_31) ⟨⟨rfl, rfl⟩, Nat.le_of_ble_eq_true rfl, Nat.le_of_ble_eq_true rfl⟩ fun v5 w6 e7 => ?_
            refine J.iload_n hx dX9_tallestOf_34 rfl 1 rfl ?_
            refine J.icmp_ne (tgt := 42) hx dX9_tallestOf_35 (by decide) ?_ ?_
            · refine J.iconst (v := 1) hx dX9_tallestOf_38 (by decide) ?_
              refine J.goto (tgt := 43) hx dX9_tallestOf_39 (by decide) ?_
              exact J.sub [0, 1, 2, 3] rfl (hK43 1 w6)
            · refine J.iconst (v := 0) hx dX9_tallestOf_42 (by decide) ?_
              exact J.sub [0, 1, 2, 3] rfl (hK43 0 w6)
  refine J.sub [2, 3, 1, 0] rfl (hL4 jFU (-1) 0 w)
theorem hd_X9_solo : yX9_solo.cls = RX9 ∧ yX9_solo.cls ≠ "java/lang/invoke/MethodHandle" ∧ yX9_solo.cls ≠ "java/lang/invoke/VarHandle" ∧ (parseMethodDescriptor yX9_solo.desc).map (fun d => d.parameters.length) = some 0 := by decide +kernel
def f_X9_solo  (w : j_St) : Option (Int32 × j_St) := jlt (jgi w 1 0 29) fun v1 => if v1 = 0 then some ((-1), w) else jcb (f_X9_finds w) fun _ w3 => jcb (f_X9_tallestOf (-1) w3) fun v5 w6 => some (v5, w6)
abbrev rm_X9_solo : Room := { frames := 4, cells := 0, slots := 0, locals := 93 }
set_option maxRecDepth 100000 in
set_option maxHeartbeats 4000000 in
theorem mt_X9_solo {g : j_G} {B : j_B}  {w w' : j_St} (a0 : B.2.1 1 0 ∧ B.2.2 1 0) {r : Int32} (h : f_X9_solo  w = some (r, w')) : j_M g yX9_solo cX9_solo 1 (some FieldType.int) rm_X9_solo B [.ref (B.1 1 0)] w w' (jri r) := by
  refine j_met (rv := jri) (by decide) (Nat.le_of_ble_eq_true rfl) (fun x hx => ?_) h
  unfold f_X9_solo
  refine J.sub (lv' := [(0, .ref (B.1 1 0))]) [0] rfl ?_
  refine J.aload_n hx dX9_solo_0 rfl 0 rfl ?_
  refine J.geti (κ := 1) (k := 29) hx rfl rfl rfl in_X9 (by decide) (Or.inl q1682) a0.1 dX9_solo_1 fun v1 => ?_
  refine J.if_ne (tgt := 9) hx dX9_solo_4 (by decide) ?_ ?_
  · refine J.iconst (v := (-1)) hx dX9_solo_7 (by decide) ?_
    exact J.iret hx rfl (Nat.le_of_ble_eq_true rfl) (Nat.le_of_ble_eq_true rfl) dX9_solo_8
  · refine J.aload_n hx dX9_solo_9 rfl 0 rfl ?_
    refine J.callv hx (fun r z1 z => j_callV (κ := 1) hx rfl rfl a0.1 (mt_X9_finds a0 z) (lw_V q1990 q1992 qs69 q129 q1993) hd_X9_finds rfl ⟨Nat.le_of_ble_eq_true rfl, Nat.le_of_ble_eq_true rfl⟩ (Nat.le_of_ble_eq_true rfl) dX9_solo_10) ⟨⟨rfl, rfl⟩, Nat.le_of_ble_eq_true rfl, Nat.le_of_ble_eq_true rfl⟩ fun _ w3 e4 => ?_
    refine J.aload_n hx dX9_solo_13 rfl 0 rfl ?_
    refine J.iconst (v := (-1)) hx dX9_solo_14 (by decide) ?_
    refine J.calli hx (fun r z1 z => j_callV (κ := 1) hx rfl rfl a0.1 (mt_X9_tallestOf a0 z) (lw_V q2271 q2273 qs109 q129 q2274) hd_X9_tallestOf rfl ⟨Nat.le_of_ble_eq_true rfl, Nat.le_of_ble_eq_true rfl⟩ (Nat.le_of_ble_eq_true rfl) dX9_solo_15) ⟨⟨rfl, rfl⟩, Nat.le_of_ble_eq_true rfl, Nat.le_of_ble_eq_true rfl⟩ fun v5 w6 e7 => ?_
    exact J.iret hx rfl (Nat.le_of_ble_eq_true rfl) (Nat.le_of_ble_eq_true rfl) dX9_solo_18
theorem hd_X9_tallest : yX9_tallest.cls = RX9 ∧ yX9_tallest.cls ≠ "java/lang/invoke/MethodHandle" ∧ yX9_tallest.cls ≠ "java/lang/invoke/VarHandle" ∧ (parseMethodDescriptor yX9_tallest.desc).map (fun d => d.parameters.length) = some 1 := by decide +kernel
def f_X9_tallest (p1 : Int32) (w : j_St) : Option (Int32 × j_St) := jlt (jgi w 1 0 29) fun v1 => if v1 = 0 then some ((-1), w) else if 0 ≤ p1 then jcb (f_X9_finds w) fun _ w3 => jcb (f_X9_tallestOf p1 w3) fun v5 w6 => some (v5, w6) else some ((-1), w)
abbrev rm_X9_tallest : Room := { frames := 4, cells := 0, slots := 0, locals := 93 }
set_option maxRecDepth 100000 in
set_option maxHeartbeats 4000000 in
theorem mt_X9_tallest {g : j_G} {B : j_B} {p1 : Int32} {w w' : j_St} (a0 : B.2.1 1 0 ∧ B.2.2 1 0) {r : Int32} (h : f_X9_tallest p1 w = some (r, w')) : j_M g yX9_tallest cX9_tallest 2 (some FieldType.int) rm_X9_tallest B [.ref (B.1 1 0), .int p1] w w' (jri r) := by
  refine j_met (rv := jri) (by decide) (Nat.le_of_ble_eq_true rfl) (fun x hx => ?_) h
  unfold f_X9_tallest
  refine J.sub (lv' := [(0, .ref (B.1 1 0)), (1, .int p1)]) [0, 1] rfl ?_
  refine J.aload_n hx dX9_tallest_0 rfl 0 rfl ?_
  refine J.geti (κ := 1) (k := 29) hx rfl rfl rfl in_X9 (by decide) (Or.inl q1682) a0.1 dX9_tallest_1 fun v1 => ?_
  refine J.if_eq (tgt := 11) hx dX9_tallest_4 (by decide) ?_ ?_
  · refine J.iconst (v := (-1)) hx dX9_tallest_11 (by decide) ?_
    exact J.iret hx rfl (Nat.le_of_ble_eq_true rfl) (Nat.le_of_ble_eq_true rfl) dX9_tallest_12
  · refine J.iload_n hx dX9_tallest_7 rfl 1 rfl ?_
    refine J.if_ge (tgt := 13) hx dX9_tallest_8 (by decide) ?_ ?_
    · refine J.aload_n hx dX9_tallest_13 rfl 0 rfl ?_
      refine J.callv hx (fun r z1 z => j_callV (κ := 1) hx rfl rfl a0.1 (mt_X9_finds a0 z) (lw_V q1990 q1992 qs69 q129 q1993) hd_X9_finds rfl ⟨Nat.le_of_ble_eq_true rfl, Nat.le_of_ble_eq_true rfl⟩ (Nat.le_of_ble_eq_true rfl) dX9_tallest_14) ⟨⟨rfl, rfl⟩, Nat.le_of_ble_eq_true rfl, Nat.le_of_ble_eq_true rfl⟩ fun _ w3 e4 => ?_
      refine J.aload_n hx dX9_tallest_17 rfl 0 rfl ?_
      refine J.iload_n hx dX9_tallest_18 rfl 1 rfl ?_
      refine J.calli hx (fun r z1 z => j_callV (κ := 1) hx rfl rfl a0.1 (mt_X9_tallestOf a0 z) (lw_V q2271 q2273 qs109 q129 q2274) hd_X9_tallestOf rfl ⟨Nat.le_of_ble_eq_true rfl, Nat.le_of_ble_eq_true rfl⟩ (Nat.le_of_ble_eq_true rfl) dX9_tallest_19) ⟨⟨rfl, rfl⟩, Nat.le_of_ble_eq_true rfl, Nat.le_of_ble_eq_true rfl⟩ fun v5 w6 e7 => ?_
      exact J.iret hx rfl (Nat.le_of_ble_eq_true rfl) (Nat.le_of_ble_eq_true rfl) dX9_tallest_22
    · refine J.iconst (v := (-1)) hx dX9_tallest_11 (by decide) ?_
      exact J.iret hx rfl (Nat.le_of_ble_eq_true rfl) (Nat.le_of_ble_eq_true rfl) dX9_tallest_12
theorem hd_X9_change : yX9_change.cls = RX9 ∧ yX9_change.cls ≠ "java/lang/invoke/MethodHandle" ∧ yX9_change.cls ≠ "java/lang/invoke/VarHandle" ∧ (parseMethodDescriptor yX9_change.desc).map (fun d => d.parameters.length) = some 1 := by decide +kernel
def f_X9_change_L25  (k67 : Int32 → Int32 → j_St → Option (Int32 × j_St)) : Nat → Int32 → Int32 → Int32 → j_St → Option (Int32 × j_St)
  | 0, _, _, _, _ => none
  | n25 + 1, v5, v6, v7, w8 => jcb (f_X9_many w8) fun v9 w10 => if v9 ≤ v7 then k67 v5 v6 w10 else jcb (f_X9_would v7 0 0 w10) fun v12 w13 => jlt (fun (v16 : Int32) (v17 : Int32) (w18 : j_St) => jlt (v7 + 1) fun v19 => f_X9_change_L25 k67 n25 v16 v17 v19 w18) fun K61 => jlt (fun (w15 : j_St) => K61 v7 v12 w15) fun K55 => if v5 = (-1) then K55 w13 else if v6 ≤ v12 then K61 v5 v6 w13 else K55 w13
def f_X9_change (p1 : Int32) (w : j_St) : Option (Int32 × j_St) := jlt (jgi w 1 0 29) fun v1 => if v1 = 0 then some ((-1), w) else jcb (f_X9_in p1 0 1 w) fun v2 w3 => if v2 = 0 then some ((-1), w3) else f_X9_change_L25 (fun (v20 : Int32) (v21 : Int32) (w22 : j_St) => if p1 = 0 then some (v20, w22) else some (v21, w22)) jFU (-1) 0 0 w3
abbrev rm_X9_change : Room := { frames := 5, cells := 0, slots := 0, locals := 118 }
set_option maxRecDepth 100000 in
set_option maxHeartbeats 4000000 in
theorem mt_X9_change {g : j_G} {B : j_B} {p1 : Int32} {w w' : j_St} (a0 : B.2.1 1 0 ∧ B.2.2 1 0) {r : Int32} (h : f_X9_change p1 w = some (r, w')) : j_M g yX9_change cX9_change 6 (some FieldType.int) rm_X9_change B [.ref (B.1 1 0), .int p1] w w' (jri r) := by
  refine j_met (rv := jri) (by decide) (Nat.le_of_ble_eq_true rfl) (fun x hx => ?_) h
  unfold f_X9_change
  refine J.sub (lv' := [(0, .ref (B.1 1 0)), (1, .int p1)]) [0, 1] rfl ?_
  refine J.aload_n hx dX9_change_0 rfl 0 rfl ?_
  refine J.geti (κ := 1) (k := 29) hx rfl rfl rfl in_X9 (by decide) (Or.inl q1682) a0.1 dX9_change_1 fun v1 => ?_
  refine J.if_eq (tgt := 16) hx dX9_change_4 (by decide) ?_ ?_
  · refine J.iconst (v := (-1)) hx dX9_change_16 (by decide) ?_
    exact J.iret hx rfl (Nat.le_of_ble_eq_true rfl) (Nat.le_of_ble_eq_true rfl) dX9_change_17
  · refine J.iload_n hx dX9_change_7 rfl 1 rfl ?_
    refine J.iconst (v := 0) hx dX9_change_8 (by decide) ?_
    refine J.iconst (v := 1) hx dX9_change_9 (by decide) ?_
    refine J.calli hx (fun r z1 z => j_callS hx (mt_X9_in z) (lw_S q1826 q1827 q129 q1828) hd_X9_in.2 rfl ⟨Nat.le_of_ble_eq_true rfl, Nat.le_of_ble_eq_true rfl⟩ (Nat.le_of_ble_eq_true rfl) dX9_change_10) ⟨⟨rfl, rfl⟩, Nat.le_of_ble_eq_true rfl, Nat.le_of_ble_eq_true rfl⟩ fun v2 w3 e4 => ?_
    refine J.if_ne (tgt := 18) hx dX9_change_13 (by decide) ?_ ?_
    · refine J.iconst (v := (-1)) hx dX9_change_16 (by decide) ?_
      exact J.iret hx rfl (Nat.le_of_ble_eq_true rfl) (Nat.le_of_ble_eq_true rfl) dX9_change_17
    · refine J.iconst (v := (-1)) hx dX9_change_18 (by decide) ?_
      refine J.istore_n (lv' := [(2, .int (-1)), (0, .ref (B.1 1 0)), (1, .int p1)]) hx dX9_change_19 rfl (by decide) rfl ?_
      refine J.iconst (v := 0) hx dX9_change_20 (by decide) ?_
      refine J.istore_n (lv' := [(3, .int 0), (2, .int (-1)), (0, .ref (B.1 1 0)), (1, .int p1)]) hx dX9_change_21 rfl (by decide) rfl ?_
      refine J.iconst (v := 0) hx dX9_change_22 (by decide) ?_
      refine J.istore (lv' := [(4, .int 0), (3, .int 0), (2, .int (-1)), (0, .ref (B.1 1 0)), (1, .int p1)]) hx dX9_change_23 (by decide) rfl ?_
      have hL25 : ∀ (k67 : Int32 → Int32 → j_St → Option (Int32 × j_St)) (hk67 : ∀ (v20 : Int32) (v21 : Int32) (w22 : j_St), J g x 6 B (j_Q g x B rm_X9_change jri) 0 0 (k67 v20 v21 w22) 67 [(1, .int p1), (2, .int v20), (3, .int v21)] [] w22) (n25 : Nat) (v5 : Int32) (v6 : Int32) (v7 : Int32) (w8 : j_St), J g x 6 B (j_Q g x B rm_X9_change jri) 0 0 (f_X9_change_L25 k67 n25 v5 v6 v7 w8) 25 [(0, .ref (B.1 1 0)), (1, .int p1), (2, .int v5), (3, .int v6), (4, .int v7)] [] w8 := by
        intro k67 hk67 n25
        induction n25 with
        | zero =>
          intro v5 v6 v7 w8
          rw [f_X9_change_L25]
          exact J.nne
        | succ n25 ih =>
          intro v5 v6 v7 w8
          rw [f_X9_change_L25]
          refine J.iload hx dX9_change_25 4 rfl ?_
          refine J.aload_n hx dX9_change_27 rfl 0 rfl ?_
          refine J.calli hx (fun r z1 z => j_callV (κ := 1) hx rfl rfl a0.1 (mt_X9_many a0 z) (lw_V q1941 q1943 qs59 q129 q1944) hd_X9_many rfl ⟨Nat.le_of_ble_eq_true rfl, Nat.le_of_ble_eq_true rfl⟩ (Nat.le_of_ble_eq_true rfl) dX9_change_28) ⟨⟨rfl, rfl⟩, Nat.le_of_ble_eq_true rfl, Nat.le_of_ble_eq_true rfl⟩ fun v9 w10 e11 => ?_
          refine J.icmp_ge (tgt := 67) hx dX9_change_31 (by decide) ?_ ?_
          · exact J.sub [1, 2, 3] rfl (hk67 v5 v6 w10)
          · refine J.aload_n hx dX9_change_34 rfl 0 rfl ?_
            refine J.iload hx dX9_change_35 4 rfl ?_
            refine J.iconst (v := 0) hx dX9_change_37 (by decide) ?_
            refine J.iconst (v := 0) hx dX9_change_38 (by decide) ?_
            refine J.calli hx (fun r z1 z => j_callV (κ := 1) hx rfl rfl a0.1 (mt_X9_would a0 z) (lw_V q2283 q2264 q2265 q129 q2266) hd_X9_would rfl ⟨Nat.le_of_ble_eq_true rfl, Nat.le_of_ble_eq_true rfl⟩ (Nat.le_of_ble_eq_true rfl) dX9_change_39) ⟨⟨rfl, rfl⟩, Nat.le_of_ble_eq_true rfl, Nat.le_of_ble_eq_true rfl⟩ fun v12 w13 e14 => ?_
            refine J.istore (lv' := [(5, .int v12), (0, .ref (B.1 1 0)), (1, .int p1), (2, .int v5), (3, .int v6), (4, .int v7)]) hx dX9_change_42 (by decide) rfl ?_
            refine J.iload_n hx dX9_change_44 rfl 3 rfl ?_
            refine J.iconst (v := (-1)) hx dX9_change_45 (by decide) ?_
            refine J.fn (fun (K61 : Int32 → Int32 → j_St → Option (Int32 × j_St)) => ∀ (v16 : Int32) (v17 : Int32) (w18 : j_St), J g x 6 B (j_Q g x B rm_X9_change jri) 0 0 (K61 v16 v17 w18) 61 [(0, .ref (B.1 1 0)), (1, .int p1), (2, .int v16), (3, .int v17), (4, .int v7)] [] w18) ?_ ?_
            · intro v16 v17 w18
              refine J.nmx fun v19 ev19 => ?_
              refine J.iinc (p := 4) (v := v19) (lv' := [(4, .int v19), (0, .ref (B.1 1 0)), (1, .int p1), (2, .int v16), (3, .int v17)]) hx dX9_change_61 rfl (by rw [ev19]; rfl) (by decide) rfl ?_
              refine J.goto (tgt := 25) hx dX9_change_64 (by decide) ?_
              exact J.sub [1, 2, 3, 4, 0] rfl (ih v16 v17 v19 w18)
            · intro K61 hK61
              refine J.fn (fun (K55 : j_St → Option (Int32 × j_St)) => ∀  (w15 : j_St), J g x 6 B (j_Q g x B rm_X9_change jri) 0 0 (K55 w15) 55 [(0, .ref (B.1 1 0)), (1, .int p1), (4, .int v7), (5, .int v12)] [] w15) ?_ ?_
              · intro w15
                refine J.iload hx dX9_change_55 2 rfl ?_
                refine J.istore_n (lv' := [(2, .int v7), (0, .ref (B.1 1 0)), (1, .int p1), (4, .int v7), (5, .int v12)]) hx dX9_change_57 rfl (by decide) rfl ?_
                refine J.iload hx dX9_change_58 4 rfl ?_
                refine J.istore_n (lv' := [(3, .int v12), (2, .int v7), (0, .ref (B.1 1 0)), (1, .int p1), (4, .int v7), (5, .int v12)]) hx dX9_change_60 rfl (by decide) rfl ?_
                exact J.sub [2, 3, 1, 0, 4] rfl (hK61 v7 v12 w15)
              · intro K55 hK55
                refine J.icmp_eq (tgt := 55) hx dX9_change_46 (by decide) ?_ ?_
                · exact J.sub [1, 2, 5, 0] rfl (hK55 w13)
                · refine J.iload hx dX9_change_49 0 rfl ?_
                  refine J.iload_n hx dX9_change_51 rfl 4 rfl ?_
                  refine J.icmp_ge (tgt := 61) hx dX9_change_52 (by decide) ?_ ?_
                  · exact J.sub [1, 2, 3, 4, 5] rfl (hK61 v5 v6 w13)
                  · exact J.sub [1, 2, 5, 0] rfl (hK55 w13)
      refine J.sub [3, 4, 2, 1, 0] rfl (hL25 _ ?_ jFU (-1) 0 0 w3)
      · intro v20 v21 w22
        refine J.iload_n hx dX9_change_67 rfl 0 rfl ?_
        refine J.if_ne (tgt := 75) hx dX9_change_68 (by decide) ?_ ?_
        · refine J.iload_n hx dX9_change_71 rfl 1 rfl ?_
          refine J.goto (tgt := 76) hx dX9_change_72 (by decide) ?_
          exact J.iret hx rfl (Nat.le_of_ble_eq_true rfl) (Nat.le_of_ble_eq_true rfl) dX9_change_76
        · refine J.iload_n hx dX9_change_75 rfl 2 rfl ?_
          exact J.iret hx rfl (Nat.le_of_ble_eq_true rfl) (Nat.le_of_ble_eq_true rfl) dX9_change_76
theorem hd_X9_spells : yX9_spells.cls = RX9 ∧ yX9_spells.cls ≠ "java/lang/invoke/MethodHandle" ∧ yX9_spells.cls ≠ "java/lang/invoke/VarHandle" ∧ (parseMethodDescriptor yX9_spells.desc).map (fun d => d.parameters.length) = some 1 := by decide +kernel
def f_X9_spells (p1 : Int32) (w : j_St) : Option (Unit × j_St) := jlt (jgi w 1 0 51) fun v2 => jbd v2 40 fun a4 => jlt (jsi w 66 0 a4 p1) fun w3 => jlt (jgi w3 1 0 51) fun v5 => jlt (jsi w3 1 0 51 (v5 + 1)) fun w6 => some ((), w6)
abbrev rm_X9_spells : Room := { frames := 0, cells := 0, slots := 0, locals := 0 }
set_option maxRecDepth 100000 in
set_option maxHeartbeats 4000000 in
theorem mt_X9_spells {g : j_G} {B : j_B} {p1 : Int32} {w w' : j_St} (a0 : B.2.1 1 0 ∧ B.2.2 1 0) {r : Unit} (h : f_X9_spells p1 w = some (r, w')) : j_M g yX9_spells cX9_spells 2 none rm_X9_spells B [.ref (B.1 1 0), .int p1] w w' (jrv r) := by
  refine j_met (rv := jrv) (by decide) (Nat.le_of_ble_eq_true rfl) (fun x hx => ?_) h
  unfold f_X9_spells
  refine J.sub (lv' := [(0, .ref (B.1 1 0)), (1, .int p1)]) [0, 1] rfl ?_
  refine J.aload_n hx dX9_spells_0 rfl 0 rfl ?_
  refine J.getc (κ' := 66) (i' := 0) (κ := 1) (k := 50) hx rfl rfl rfl rfl rfl in_X9 (by decide) (Or.inl q1703) a0.2 dX9_spells_1 fun h1 => ?_
  refine J.aload_n hx dX9_spells_4 rfl 0 rfl ?_
  refine J.geti (κ := 1) (k := 51) hx rfl rfl rfl in_X9 (by decide) (Or.inl q1704) a0.1 dX9_spells_5 fun v2 => ?_
  refine J.iload_n hx dX9_spells_8 rfl 1 rfl ?_
  refine J.iast (κ := 66) hx rfl rfl rfl h1.1 dX9_spells_9 fun w3 => ?_
  refine J.aload_n hx dX9_spells_10 rfl 0 rfl ?_
  refine J.dup hx dX9_spells_11 rfl ?_
  refine J.geti (κ := 1) (k := 51) hx rfl rfl rfl in_X9 (by decide) (Or.inl q1704) a0.1 dX9_spells_12 fun v5 => ?_
  refine J.iconst (v := 1) hx dX9_spells_15 (by decide) ?_
  refine J.iadd hx dX9_spells_16 ?_
  refine J.puti (κ := 1) (k := 51) hx rfl rfl rfl in_X9 tyX9_ok nmX9 (by decide) (Or.inl q1704) rfl rfl a0.1 ⟨rfl, rfl⟩ dX9_spells_17 fun w6 => ?_
  exact J.vret hx rfl (Nat.le_of_ble_eq_true rfl) (Nat.le_of_ble_eq_true rfl) dX9_spells_20
theorem hd_X9_spellsName : yX9_spellsName.cls = RX9 ∧ yX9_spellsName.cls ≠ "java/lang/invoke/MethodHandle" ∧ yX9_spellsName.cls ≠ "java/lang/invoke/VarHandle" ∧ (parseMethodDescriptor yX9_spellsName.desc).map (fun d => d.parameters.length) = some 1 := by decide +kernel
def f_X9_spellsName_L35 (v5 : Int32) (k53 : Int64 → j_St → Option (Unit × j_St)) : Nat → Int64 → Int32 → j_St → Option (Unit × j_St)
  | 0, _, _, _ => none
  | n35 + 1, v10, v11, w12 => if v5 ≤ v11 then k53 v10 w12 else jlt (v10 / 27) fun v13 => jlt (v11 + 1) fun v14 => f_X9_spellsName_L35 v5 k53 n35 v13 v14 w12
def f_X9_spellsName_L21 (p1 : Int32)  : Nat → Int32 → j_St → Option (Unit × j_St)
  | 0, _, _ => none
  | n21 + 1, v5, w6 => if v5 < 0 then some ((), w6) else jbd p1 8 fun a8 => jlt (jgl w6 51 0 a8) fun v9 => f_X9_spellsName_L35 v5 (fun (v15 : Int64) (w16 : j_St) => jlt (v15 - 1) fun v18 => jlt 27 fun v17 => if v17 = 0 then none else jcb (f_X9_spells (97 + ((v18 - v18 / v17 * v17).toInt32)) w16) fun _ w20 => jlt (v5 + (-1)) fun v22 => f_X9_spellsName_L21 p1 n21 v22 w20) jFU v9 0 w6
def f_X9_spellsName (p1 : Int32) (w : j_St) : Option (Unit × j_St) := if p1 = (-1) then jcb (f_X9_spells 63 w) fun _ w24 => some ((), w24) else jbd p1 8 fun a2 => jlt (jgi w 50 0 a2) fun v3 => jlt (v3 - 1) fun v4 => f_X9_spellsName_L21 p1 jFU v4 w
abbrev rm_X9_spellsName : Room := { frames := 1, cells := 0, slots := 0, locals := 21 }
set_option maxRecDepth 100000 in
set_option maxHeartbeats 4000000 in
theorem mt_X9_spellsName {g : j_G} {B : j_B} {p1 : Int32} {w w' : j_St} (a0 : B.2.1 1 0 ∧ B.2.2 1 0) {r : Unit} (h : f_X9_spellsName p1 w = some (r, w')) : j_M g yX9_spellsName cX9_spellsName 6 none rm_X9_spellsName B [.ref (B.1 1 0), .int p1] w w' (jrv r) := by
  refine j_met (rv := jrv) (by decide) (Nat.le_of_ble_eq_true rfl) (fun x hx => ?_) h
  unfold f_X9_spellsName
  refine J.sub (lv' := [(0, .ref (B.1 1 0)), (1, .int p1)]) [0, 1] rfl ?_
  refine J.iload_n hx dX9_spellsName_0 rfl 1 rfl ?_
  refine J.iconst (v := (-1)) hx dX9_spellsName_1 (by decide) ?_
  refine J.icmp_ne (tgt := 12) hx dX9_spellsName_2 (by decide) ?_ ?_
  · refine J.aload_n hx dX9_spellsName_5 rfl 0 rfl ?_
    refine J.bipush (v := 63) hx dX9_spellsName_6 (by decide) ?_
    refine J.callv hx (fun r z1 z => j_callV (κ := 1) hx rfl rfl a0.1 (mt_X9_spells a0 z) (lw_V q2292 q2294 qs111 q129 q2295) hd_X9_spells rfl ⟨Nat.le_of_ble_eq_true rfl, Nat.le_of_ble_eq_true rfl⟩ (Nat.le_of_ble_eq_true rfl) dX9_spellsName_8) ⟨⟨rfl, rfl⟩, Nat.le_of_ble_eq_true rfl, Nat.le_of_ble_eq_true rfl⟩ fun _ w24 e25 => ?_
    exact J.vret hx rfl (Nat.le_of_ble_eq_true rfl) (Nat.le_of_ble_eq_true rfl) dX9_spellsName_11
  · refine J.aload_n hx dX9_spellsName_12 rfl 0 rfl ?_
    refine J.getc (κ' := 50) (i' := 0) (κ := 1) (k := 25) hx rfl rfl rfl rfl rfl in_X9 (by decide) (Or.inl q1678) a0.2 dX9_spellsName_13 fun h1 => ?_
    refine J.iload_n hx dX9_spellsName_16 rfl 1 rfl ?_
    refine J.iald (κ := 50) hx rfl rfl h1.1 dX9_spellsName_17 fun v3 => ?_
    refine J.iconst (v := 1) hx dX9_spellsName_18 (by decide) ?_
    refine J.isub hx dX9_spellsName_19 ?_
    refine J.nmi fun v4 => ?_
    refine J.istore_n (lv' := [(2, .int v4), (0, .ref (B.1 1 0)), (1, .int p1)]) hx dX9_spellsName_20 rfl (by decide) rfl ?_
    have hL21 : ∀ (n21 : Nat) (v5 : Int32) (w6 : j_St), J g x 6 B (j_Q g x B rm_X9_spellsName jrv) 0 0 (f_X9_spellsName_L21 p1 n21 v5 w6) 21 [(0, .ref (B.1 1 0)), (1, .int p1), (2, .int v5)] [] w6 := by
      intro n21
      induction n21 with
      | zero =>
        intro v5 w6
        rw [f_X9_spellsName_L21]
        exact J.nne
      | succ n21 ih =>
        intro v5 w6
        rw [f_X9_spellsName_L21]
        refine J.iload_n hx dX9_spellsName_21 rfl 2 rfl ?_
        refine J.if_lt (tgt := 74) hx dX9_spellsName_22 (by decide) ?_ ?_
        · exact J.vret hx rfl (Nat.le_of_ble_eq_true rfl) (Nat.le_of_ble_eq_true rfl) dX9_spellsName_74
        · refine J.aload_n hx dX9_spellsName_25 rfl 0 rfl ?_
          refine J.getc (κ' := 51) (i' := 0) (κ := 1) (k := 26) hx rfl rfl rfl rfl rfl in_X9 (by decide) (Or.inl q1679) a0.2 dX9_spellsName_26 fun h7 => ?_
          refine J.iload_n hx dX9_spellsName_29 rfl 1 rfl ?_
          refine J.lald (κ := 51) hx rfl rfl h7.1 dX9_spellsName_30 fun v9 => ?_
          refine J.lstore_n (lv' := [(3, .long v9), (0, .ref (B.1 1 0)), (1, .int p1), (2, .int v5)]) hx dX9_spellsName_31 rfl (by decide) rfl ?_
          refine J.iconst (v := 0) hx dX9_spellsName_32 (by decide) ?_
          refine J.istore (lv' := [(5, .int 0), (3, .long v9), (0, .ref (B.1 1 0)), (1, .int p1), (2, .int v5)]) hx dX9_spellsName_33 (by decide) rfl ?_
          have hL35 : ∀ (k53 : Int64 → j_St → Option (Unit × j_St)) (hk53 : ∀ (v15 : Int64) (w16 : j_St), J g x 6 B (j_Q g x B rm_X9_spellsName jrv) 0 0 (k53 v15 w16) 53 [(0, .ref (B.1 1 0)), (1, .int p1), (2, .int v5), (3, .long v15)] [] w16) (n35 : Nat) (v10 : Int64) (v11 : Int32) (w12 : j_St), J g x 6 B (j_Q g x B rm_X9_spellsName jrv) 0 0 (f_X9_spellsName_L35 v5 k53 n35 v10 v11 w12) 35 [(0, .ref (B.1 1 0)), (1, .int p1), (2, .int v5), (3, .long v10), (5, .int v11)] [] w12 := by
            intro k53 hk53 n35
            induction n35 with
            | zero =>
              intro v10 v11 w12
              rw [f_X9_spellsName_L35]
              exact J.nne
            | succ n35 ih =>
              intro v10 v11 w12
              rw [f_X9_spellsName_L35]
              refine J.iload hx dX9_spellsName_35 4 rfl ?_
              refine J.iload_n hx dX9_spellsName_37 rfl 2 rfl ?_
              refine J.icmp_ge (tgt := 53) hx dX9_spellsName_38 (by decide) ?_ ?_
              · exact J.sub [0, 1, 2, 3] rfl (hk53 v10 w12)
              · refine J.lload_n hx dX9_spellsName_41 rfl 3 rfl ?_
                refine J.ldc2 (v := 27) hx q1856 dX9_spellsName_42 ?_
                refine J.ldiv0 hx dX9_spellsName_45 (by decide) ?_
                refine J.nml fun v13 => ?_
                refine J.lstore_n (lv' := [(3, .long v13), (0, .ref (B.1 1 0)), (1, .int p1), (2, .int v5), (5, .int v11)]) hx dX9_spellsName_46 rfl (by decide) rfl ?_
                refine J.nmx fun v14 ev14 => ?_
                refine J.iinc (p := 4) (v := v14) (lv' := [(5, .int v14), (3, .long v13), (0, .ref (B.1 1 0)), (1, .int p1), (2, .int v5)]) hx dX9_spellsName_47 rfl (by rw [ev14]; rfl) (by decide) rfl ?_
                refine J.goto (tgt := 35) hx dX9_spellsName_50 (by decide) ?_
                exact J.sub [2, 3, 4, 1, 0] rfl (ih v13 v14 w12)
          refine J.sub [2, 3, 4, 1, 0] rfl (hL35 _ ?_ jFU v9 0 w6)
          · intro v15 w16
            refine J.aload_n hx dX9_spellsName_53 rfl 0 rfl ?_
            refine J.bipush (v := 97) hx dX9_spellsName_54 (by decide) ?_
            refine J.lload_n hx dX9_spellsName_56 rfl 3 rfl ?_
            refine J.lconst (v := 1) hx dX9_spellsName_57 (by decide) ?_
            refine J.lsub hx dX9_spellsName_58 ?_
            refine J.ldc2 (v := 27) hx q1856 dX9_spellsName_59 ?_
            refine J.nm2l fun v18 v17 => ?_
            refine J.lrem hx dX9_spellsName_62 ?_
            refine J.l2i hx dX9_spellsName_63 ?_
            refine J.iadd hx dX9_spellsName_64 ?_
            refine J.callv hx (fun r z1 z => j_callV (κ := 1) hx rfl rfl a0.1 (mt_X9_spells a0 z) (lw_V q2292 q2294 qs111 q129 q2295) hd_X9_spells rfl ⟨Nat.le_of_ble_eq_true rfl, Nat.le_of_ble_eq_true rfl⟩ (Nat.le_of_ble_eq_true rfl) dX9_spellsName_65) ⟨⟨rfl, rfl⟩, Nat.le_of_ble_eq_true rfl, Nat.le_of_ble_eq_true rfl⟩ fun _ w20 e21 => ?_
            refine J.nmx fun v22 ev22 => ?_
            refine J.iinc (p := 2) (v := v22) (lv' := [(2, .int v22), (0, .ref (B.1 1 0)), (1, .int p1), (3, .long v15)]) hx dX9_spellsName_68 rfl (by rw [ev22]; rfl) (by decide) rfl ?_
            refine J.goto (tgt := 21) hx dX9_spellsName_71 (by decide) ?_
            exact J.sub [1, 2, 0] rfl (ih v22 w20)
    refine J.sub [1, 2, 0] rfl (hL21 jFU v4 w)
theorem hd_X9_spellsNumber : yX9_spellsNumber.cls = RX9 ∧ yX9_spellsNumber.cls ≠ "java/lang/invoke/MethodHandle" ∧ yX9_spellsNumber.cls ≠ "java/lang/invoke/VarHandle" ∧ (parseMethodDescriptor yX9_spellsNumber.desc).map (fun d => d.parameters.length) = some 1 := by decide +kernel
def f_X9_spellsNumber_L2 (p1 : Int32) (k18 : Int32 → j_St → Option (Unit × j_St)) : Nat → Int32 → j_St → Option (Unit × j_St)
  | 0, _, _ => none
  | n2 + 1, v1, w2 => if v1 = 0 then none else if p1 / v1 ≤ 9 then k18 v1 w2 else jlt (v1 * 10) fun v3 => f_X9_spellsNumber_L2 p1 k18 n2 v3 w2
def f_X9_spellsNumber_L18 (p1 : Int32)  : Nat → Int32 → j_St → Option (Unit × j_St)
  | 0, _, _ => none
  | n18 + 1, v6, w7 => if v6 ≤ 0 then some ((), w7) else if v6 = 0 then none else jlt (p1 / v6) fun v9 => jlt 10 fun v8 => if v8 = 0 then none else jcb (f_X9_spells (48 + (v9 - v9 / v8 * v8)) w7) fun _ w11 => jlt (v6 / 10) fun v13 => f_X9_spellsNumber_L18 p1 n18 v13 w11
def f_X9_spellsNumber (p1 : Int32) (w : j_St) : Option (Unit × j_St) := f_X9_spellsNumber_L2 p1 (fun (v4 : Int32) (w5 : j_St) => f_X9_spellsNumber_L18 p1 jFU v4 w5) jFU 1 w
abbrev rm_X9_spellsNumber : Room := { frames := 1, cells := 0, slots := 0, locals := 21 }
set_option maxRecDepth 100000 in
set_option maxHeartbeats 4000000 in
theorem mt_X9_spellsNumber {g : j_G} {B : j_B} {p1 : Int32} {w w' : j_St} (a0 : B.2.1 1 0 ∧ B.2.2 1 0) {r : Unit} (h : f_X9_spellsNumber p1 w = some (r, w')) : j_M g yX9_spellsNumber cX9_spellsNumber 3 none rm_X9_spellsNumber B [.ref (B.1 1 0), .int p1] w w' (jrv r) := by
  refine j_met (rv := jrv) (by decide) (Nat.le_of_ble_eq_true rfl) (fun x hx => ?_) h
  unfold f_X9_spellsNumber
  refine J.sub (lv' := [(0, .ref (B.1 1 0)), (1, .int p1)]) [0, 1] rfl ?_
  refine J.iconst (v := 1) hx dX9_spellsNumber_0 (by decide) ?_
  refine J.istore_n (lv' := [(2, .int 1), (0, .ref (B.1 1 0)), (1, .int p1)]) hx dX9_spellsNumber_1 rfl (by decide) rfl ?_
  have hL2 : ∀ (k18 : Int32 → j_St → Option (Unit × j_St)) (hk18 : ∀ (v4 : Int32) (w5 : j_St), J g x 3 B (j_Q g x B rm_X9_spellsNumber jrv) 0 0 (k18 v4 w5) 18 [(0, .ref (B.1 1 0)), (1, .int p1), (2, .int v4)] [] w5) (n2 : Nat) (v1 : Int32) (w2 : j_St), J g x 3 B (j_Q g x B rm_X9_spellsNumber jrv) 0 0 (f_X9_spellsNumber_L2 p1 k18 n2 v1 w2) 2 [(0, .ref (B.1 1 0)), (1, .int p1), (2, .int v1)] [] w2 := by
    intro k18 hk18 n2
    induction n2 with
    | zero =>
      intro v1 w2
      rw [f_X9_spellsNumber_L2]
      exact J.nne
    | succ n2 ih =>
      intro v1 w2
      rw [f_X9_spellsNumber_L2]
      refine J.iload_n hx dX9_spellsNumber_2 rfl 1 rfl ?_
      refine J.iload_n hx dX9_spellsNumber_3 rfl 2 rfl ?_
      refine J.idiv hx dX9_spellsNumber_4 ?_
      refine J.bipush (v := 9) hx dX9_spellsNumber_5 (by decide) ?_
      refine J.icmp_le (tgt := 18) hx dX9_spellsNumber_7 (by decide) ?_ ?_
      · exact J.sub [0, 1, 2] rfl (hk18 v1 w2)
      · refine J.iload_n hx dX9_spellsNumber_10 rfl 2 rfl ?_
        refine J.bipush (v := 10) hx dX9_spellsNumber_11 (by decide) ?_
        refine J.imul hx dX9_spellsNumber_13 ?_
        refine J.nmi fun v3 => ?_
        refine J.istore_n (lv' := [(2, .int v3), (0, .ref (B.1 1 0)), (1, .int p1)]) hx dX9_spellsNumber_14 rfl (by decide) rfl ?_
        refine J.goto (tgt := 2) hx dX9_spellsNumber_15 (by decide) ?_
        exact J.sub [1, 2, 0] rfl (ih v3 w2)
  refine J.sub [1, 2, 0] rfl (hL2 _ ?_ jFU 1 w)
  · intro v4 w5
    have hL18 : ∀ (n18 : Nat) (v6 : Int32) (w7 : j_St), J g x 3 B (j_Q g x B rm_X9_spellsNumber jrv) 0 0 (f_X9_spellsNumber_L18 p1 n18 v6 w7) 18 [(0, .ref (B.1 1 0)), (1, .int p1), (2, .int v6)] [] w7 := by
      intro n18
      induction n18 with
      | zero =>
        intro v6 w7
        rw [f_X9_spellsNumber_L18]
        exact J.nne
      | succ n18 ih =>
        intro v6 w7
        rw [f_X9_spellsNumber_L18]
        refine J.iload_n hx dX9_spellsNumber_18 rfl 2 rfl ?_
        refine J.if_le (tgt := 43) hx dX9_spellsNumber_19 (by decide) ?_ ?_
        · exact J.vret hx rfl (Nat.le_of_ble_eq_true rfl) (Nat.le_of_ble_eq_true rfl) dX9_spellsNumber_43
        · refine J.aload_n hx dX9_spellsNumber_22 rfl 0 rfl ?_
          refine J.bipush (v := 48) hx dX9_spellsNumber_23 (by decide) ?_
          refine J.iload_n hx dX9_spellsNumber_25 rfl 1 rfl ?_
          refine J.iload_n hx dX9_spellsNumber_26 rfl 2 rfl ?_
          refine J.idiv hx dX9_spellsNumber_27 ?_
          refine J.bipush (v := 10) hx dX9_spellsNumber_28 (by decide) ?_
          refine J.nm2i fun v9 v8 => ?_
          refine J.irem hx dX9_spellsNumber_30 ?_
          refine J.iadd hx dX9_spellsNumber_31 ?_
          refine J.callv hx (fun r z1 z => j_callV (κ := 1) hx rfl rfl a0.1 (mt_X9_spells a0 z) (lw_V q2292 q2294 qs111 q129 q2295) hd_X9_spells rfl ⟨Nat.le_of_ble_eq_true rfl, Nat.le_of_ble_eq_true rfl⟩ (Nat.le_of_ble_eq_true rfl) dX9_spellsNumber_32) ⟨⟨rfl, rfl⟩, Nat.le_of_ble_eq_true rfl, Nat.le_of_ble_eq_true rfl⟩ fun _ w11 e12 => ?_
          refine J.iload_n hx dX9_spellsNumber_35 rfl 2 rfl ?_
          refine J.bipush (v := 10) hx dX9_spellsNumber_36 (by decide) ?_
          refine J.idiv0 hx dX9_spellsNumber_38 (by decide) ?_
          refine J.nmi fun v13 => ?_
          refine J.istore_n (lv' := [(2, .int v13), (0, .ref (B.1 1 0)), (1, .int p1)]) hx dX9_spellsNumber_39 rfl (by decide) rfl ?_
          refine J.goto (tgt := 18) hx dX9_spellsNumber_40 (by decide) ?_
          exact J.sub [1, 2, 0] rfl (ih v13 w11)
    refine J.sub [0, 1, 2] rfl (hL18 jFU v4 w5)
theorem hd_X9_spell : yX9_spell.cls = RX9 ∧ yX9_spell.cls ≠ "java/lang/invoke/MethodHandle" ∧ yX9_spell.cls ≠ "java/lang/invoke/VarHandle" ∧ (parseMethodDescriptor yX9_spell.desc).map (fun d => d.parameters.length) = some 2 := by decide +kernel
def f_X9_spell (p1 : Int32) (p2 : Int32) (w : j_St) : Option (Int32 × j_St) := jcb (f_X9_isPeak p1 w) fun v1 w2 => if v1 = 0 then some ((-1), w2) else jcb (f_X9_isKept p1 w2) fun v4 w5 => if v4 = 0 then some ((-1), w5) else jlt (jsi w5 1 0 51 0) fun w7 => jbd p1 48 fun a9 => jlt (jgi w7 59 0 a9) fun v10 => jcb (f_X9_spellsName v10 w7) fun _ w12 => jcb (f_X9_spells 64 w12) fun _ w15 => jcb (f_X9_placeOf p1 w15) fun v17 w18 => jcb (f_X9_spellsNumber v17 w18) fun _ w21 => jcb (f_X9_spells 58 w21) fun _ w24 => jcb (f_X9_height p1 w24) fun v26 w27 => jcb (f_X9_spellsNumber v26 w27) fun _ w30 => if p2 = (-1) then jlt (jgi w30 1 0 51) fun v39 => some (v39, w30) else jlt (jgi w30 1 0 51) fun v32 => jcb (f_X9_in p2 0 (v32 - 1) w30) fun v33 w34 => if v33 = 0 then some ((-1), w34) else jbd p2 40 fun a37 => jlt (jgi w34 66 0 a37) fun v38 => some (v38, w34)
abbrev rm_X9_spell : Room := { frames := 5, cells := 0, slots := 0, locals := 114 }
set_option maxRecDepth 100000 in
set_option maxHeartbeats 4000000 in
theorem mt_X9_spell {g : j_G} {B : j_B} {p1 : Int32} {p2 : Int32} {w w' : j_St} (a0 : B.2.1 1 0 ∧ B.2.2 1 0) {r : Int32} (h : f_X9_spell p1 p2 w = some (r, w')) : j_M g yX9_spell cX9_spell 3 (some FieldType.int) rm_X9_spell B [.ref (B.1 1 0), .int p1, .int p2] w w' (jri r) := by
  refine j_met (rv := jri) (by decide) (Nat.le_of_ble_eq_true rfl) (fun x hx => ?_) h
  unfold f_X9_spell
  refine J.sub (lv' := [(0, .ref (B.1 1 0)), (1, .int p1), (2, .int p2)]) [0, 1, 2] rfl ?_
  refine J.aload_n hx dX9_spell_0 rfl 0 rfl ?_
  refine J.iload_n hx dX9_spell_1 rfl 1 rfl ?_
  refine J.calli hx (fun r z1 z => j_callV (κ := 1) hx rfl rfl a0.1 (mt_X9_isPeak a0 z) (lw_V q2155 q2157 qs93 q129 q2158) hd_X9_isPeak rfl ⟨Nat.le_of_ble_eq_true rfl, Nat.le_of_ble_eq_true rfl⟩ (Nat.le_of_ble_eq_true rfl) dX9_spell_2) ⟨⟨rfl, rfl⟩, Nat.le_of_ble_eq_true rfl, Nat.le_of_ble_eq_true rfl⟩ fun v1 w2 e3 => ?_
  refine J.if_eq (tgt := 16) hx dX9_spell_5 (by decide) ?_ ?_
  · refine J.iconst (v := (-1)) hx dX9_spell_16 (by decide) ?_
    exact J.iret hx rfl (Nat.le_of_ble_eq_true rfl) (Nat.le_of_ble_eq_true rfl) dX9_spell_17
  · refine J.aload_n hx dX9_spell_8 rfl 0 rfl ?_
    refine J.iload_n hx dX9_spell_9 rfl 1 rfl ?_
    refine J.calli hx (fun r z1 z => j_callV (κ := 1) hx rfl rfl a0.1 (mt_X9_isKept a0 z) (lw_V q2167 q2169 qs96 q129 q2170) hd_X9_isKept rfl ⟨Nat.le_of_ble_eq_true rfl, Nat.le_of_ble_eq_true rfl⟩ (Nat.le_of_ble_eq_true rfl) dX9_spell_10) ⟨⟨rfl, rfl⟩, Nat.le_of_ble_eq_true rfl, Nat.le_of_ble_eq_true rfl⟩ fun v4 w5 e6 => ?_
    refine J.if_ne (tgt := 18) hx dX9_spell_13 (by decide) ?_ ?_
    · refine J.iconst (v := (-1)) hx dX9_spell_16 (by decide) ?_
      exact J.iret hx rfl (Nat.le_of_ble_eq_true rfl) (Nat.le_of_ble_eq_true rfl) dX9_spell_17
    · refine J.aload_n hx dX9_spell_18 rfl 0 rfl ?_
      refine J.iconst (v := 0) hx dX9_spell_19 (by decide) ?_
      refine J.puti (κ := 1) (k := 51) hx rfl rfl rfl in_X9 tyX9_ok nmX9 (by decide) (Or.inl q1704) rfl rfl a0.1 ⟨rfl, rfl⟩ dX9_spell_20 fun w7 => ?_
      refine J.aload_n hx dX9_spell_23 rfl 0 rfl ?_
      refine J.aload_n hx dX9_spell_24 rfl 0 rfl ?_
      refine J.getc (κ' := 59) (i' := 0) (κ := 1) (k := 39) hx rfl rfl rfl rfl rfl in_X9 (by decide) (Or.inl q1692) a0.2 dX9_spell_25 fun h8 => ?_
      refine J.iload_n hx dX9_spell_28 rfl 1 rfl ?_
      refine J.iald (κ := 59) hx rfl rfl h8.1 dX9_spell_29 fun v10 => ?_
      refine J.callv hx (fun r z1 z => j_callV (κ := 1) hx rfl rfl a0.1 (mt_X9_spellsName a0 z) (lw_V q2288 q2290 qs110 q129 q2291) hd_X9_spellsName rfl ⟨Nat.le_of_ble_eq_true rfl, Nat.le_of_ble_eq_true rfl⟩ (Nat.le_of_ble_eq_true rfl) dX9_spell_30) ⟨⟨rfl, rfl⟩, Nat.le_of_ble_eq_true rfl, Nat.le_of_ble_eq_true rfl⟩ fun _ w12 e13 => ?_
      refine J.aload_n hx dX9_spell_33 rfl 0 rfl ?_
      refine J.bipush (v := 64) hx dX9_spell_34 (by decide) ?_
      refine J.callv hx (fun r z1 z => j_callV (κ := 1) hx rfl rfl a0.1 (mt_X9_spells a0 z) (lw_V q2292 q2294 qs111 q129 q2295) hd_X9_spells rfl ⟨Nat.le_of_ble_eq_true rfl, Nat.le_of_ble_eq_true rfl⟩ (Nat.le_of_ble_eq_true rfl) dX9_spell_36) ⟨⟨rfl, rfl⟩, Nat.le_of_ble_eq_true rfl, Nat.le_of_ble_eq_true rfl⟩ fun _ w15 e16 => ?_
      refine J.aload_n hx dX9_spell_39 rfl 0 rfl ?_
      refine J.aload_n hx dX9_spell_40 rfl 0 rfl ?_
      refine J.iload_n hx dX9_spell_41 rfl 1 rfl ?_
      refine J.calli hx (fun r z1 z => j_callV (κ := 1) hx rfl rfl a0.1 (mt_X9_placeOf a0 z) (lw_V q2030 q2032 qs79 q129 q2033) hd_X9_placeOf rfl ⟨Nat.le_of_ble_eq_true rfl, Nat.le_of_ble_eq_true rfl⟩ (Nat.le_of_ble_eq_true rfl) dX9_spell_42) ⟨⟨rfl, rfl⟩, Nat.le_of_ble_eq_true rfl, Nat.le_of_ble_eq_true rfl⟩ fun v17 w18 e19 => ?_
      refine J.callv hx (fun r z1 z => j_callV (κ := 1) hx rfl rfl a0.1 (mt_X9_spellsNumber a0 z) (lw_V q2296 q2298 qs112 q129 q2299) hd_X9_spellsNumber rfl ⟨Nat.le_of_ble_eq_true rfl, Nat.le_of_ble_eq_true rfl⟩ (Nat.le_of_ble_eq_true rfl) dX9_spell_45) ⟨⟨rfl, rfl⟩, Nat.le_of_ble_eq_true rfl, Nat.le_of_ble_eq_true rfl⟩ fun _ w21 e22 => ?_
      refine J.aload_n hx dX9_spell_48 rfl 0 rfl ?_
      refine J.bipush (v := 58) hx dX9_spell_49 (by decide) ?_
      refine J.callv hx (fun r z1 z => j_callV (κ := 1) hx rfl rfl a0.1 (mt_X9_spells a0 z) (lw_V q2292 q2294 qs111 q129 q2295) hd_X9_spells rfl ⟨Nat.le_of_ble_eq_true rfl, Nat.le_of_ble_eq_true rfl⟩ (Nat.le_of_ble_eq_true rfl) dX9_spell_51) ⟨⟨rfl, rfl⟩, Nat.le_of_ble_eq_true rfl, Nat.le_of_ble_eq_true rfl⟩ fun _ w24 e25 => ?_
      refine J.aload_n hx dX9_spell_54 rfl 0 rfl ?_
      refine J.aload_n hx dX9_spell_55 rfl 0 rfl ?_
      refine J.iload_n hx dX9_spell_56 rfl 1 rfl ?_
      refine J.calli hx (fun r z1 z => j_callV (κ := 1) hx rfl rfl a0.1 (mt_X9_height a0 z) (lw_V q2159 q2161 qs94 q129 q2162) hd_X9_height rfl ⟨Nat.le_of_ble_eq_true rfl, Nat.le_of_ble_eq_true rfl⟩ (Nat.le_of_ble_eq_true rfl) dX9_spell_57) ⟨⟨rfl, rfl⟩, Nat.le_of_ble_eq_true rfl, Nat.le_of_ble_eq_true rfl⟩ fun v26 w27 e28 => ?_
      refine J.callv hx (fun r z1 z => j_callV (κ := 1) hx rfl rfl a0.1 (mt_X9_spellsNumber a0 z) (lw_V q2296 q2298 qs112 q129 q2299) hd_X9_spellsNumber rfl ⟨Nat.le_of_ble_eq_true rfl, Nat.le_of_ble_eq_true rfl⟩ (Nat.le_of_ble_eq_true rfl) dX9_spell_60) ⟨⟨rfl, rfl⟩, Nat.le_of_ble_eq_true rfl, Nat.le_of_ble_eq_true rfl⟩ fun _ w30 e31 => ?_
      refine J.iload_n hx dX9_spell_63 rfl 2 rfl ?_
      refine J.iconst (v := (-1)) hx dX9_spell_64 (by decide) ?_
      refine J.icmp_ne (tgt := 75) hx dX9_spell_65 (by decide) ?_ ?_
      · refine J.aload_n hx dX9_spell_68 rfl 0 rfl ?_
        refine J.geti (κ := 1) (k := 51) hx rfl rfl rfl in_X9 (by decide) (Or.inl q1704) a0.1 dX9_spell_69 fun v39 => ?_
        refine J.goto (tgt := 99) hx dX9_spell_72 (by decide) ?_
        exact J.iret hx rfl (Nat.le_of_ble_eq_true rfl) (Nat.le_of_ble_eq_true rfl) dX9_spell_99
      · refine J.iload_n hx dX9_spell_75 rfl 2 rfl ?_
        refine J.iconst (v := 0) hx dX9_spell_76 (by decide) ?_
        refine J.aload_n hx dX9_spell_77 rfl 0 rfl ?_
        refine J.geti (κ := 1) (k := 51) hx rfl rfl rfl in_X9 (by decide) (Or.inl q1704) a0.1 dX9_spell_78 fun v32 => ?_
        refine J.iconst (v := 1) hx dX9_spell_81 (by decide) ?_
        refine J.isub hx dX9_spell_82 ?_
        refine J.calli hx (fun r z1 z => j_callS hx (mt_X9_in z) (lw_S q1826 q1827 q129 q1828) hd_X9_in.2 rfl ⟨Nat.le_of_ble_eq_true rfl, Nat.le_of_ble_eq_true rfl⟩ (Nat.le_of_ble_eq_true rfl) dX9_spell_83) ⟨⟨rfl, rfl⟩, Nat.le_of_ble_eq_true rfl, Nat.le_of_ble_eq_true rfl⟩ fun v33 w34 e35 => ?_
        refine J.if_eq (tgt := 98) hx dX9_spell_86 (by decide) ?_ ?_
        · refine J.iconst (v := (-1)) hx dX9_spell_98 (by decide) ?_
          exact J.iret hx rfl (Nat.le_of_ble_eq_true rfl) (Nat.le_of_ble_eq_true rfl) dX9_spell_99
        · refine J.aload_n hx dX9_spell_89 rfl 0 rfl ?_
          refine J.getc (κ' := 66) (i' := 0) (κ := 1) (k := 50) hx rfl rfl rfl rfl rfl in_X9 (by decide) (Or.inl q1703) a0.2 dX9_spell_90 fun h36 => ?_
          refine J.iload_n hx dX9_spell_93 rfl 2 rfl ?_
          refine J.iald (κ := 66) hx rfl rfl h36.1 dX9_spell_94 fun v38 => ?_
          refine J.goto (tgt := 99) hx dX9_spell_95 (by decide) ?_
          exact J.iret hx rfl (Nat.le_of_ble_eq_true rfl) (Nat.le_of_ble_eq_true rfl) dX9_spell_99
theorem hd_X9_isScript : yX9_isScript.cls = RX9 ∧ yX9_isScript.cls ≠ "java/lang/invoke/MethodHandle" ∧ yX9_isScript.cls ≠ "java/lang/invoke/VarHandle" ∧ (parseMethodDescriptor yX9_isScript.desc).map (fun d => d.parameters.length) = some 1 := by decide +kernel
def f_X9_isScript (p1 : Int32) (w : j_St) : Option (Int32 × j_St) := jlt (jgi w 1 0 21) fun v1 => jcb (f_X9_in p1 0 (v1 - 1) w) fun v2 w3 => if v2 = 0 ∨ v2 = 1 then some (v2, w3) else none
abbrev rm_X9_isScript : Room := { frames := 1, cells := 0, slots := 0, locals := 22 }
set_option maxRecDepth 100000 in
set_option maxHeartbeats 4000000 in
theorem mt_X9_isScript {g : j_G} {B : j_B} {p1 : Int32} {w w' : j_St} (a0 : B.2.1 1 0 ∧ B.2.2 1 0) {r : Int32} (h : f_X9_isScript p1 w = some (r, w')) : j_M g yX9_isScript cX9_isScript 2 (some FieldType.boolean) rm_X9_isScript B [.ref (B.1 1 0), .int p1] w w' (jri r) := by
  refine j_met (rv := jri) (by decide) (Nat.le_of_ble_eq_true rfl) (fun x hx => ?_) h
  unfold f_X9_isScript
  refine J.sub (lv' := [(0, .ref (B.1 1 0)), (1, .int p1)]) [0, 1] rfl ?_
  refine J.iload_n hx dX9_isScript_0 rfl 1 rfl ?_
  refine J.iconst (v := 0) hx dX9_isScript_1 (by decide) ?_
  refine J.aload_n hx dX9_isScript_2 rfl 0 rfl ?_
  refine J.geti (κ := 1) (k := 21) hx rfl rfl rfl in_X9 (by decide) (Or.inl q1674) a0.1 dX9_isScript_3 fun v1 => ?_
  refine J.iconst (v := 1) hx dX9_isScript_6 (by decide) ?_
  refine J.isub hx dX9_isScript_7 ?_
  refine J.calli hx (fun r z1 z => j_callS hx (mt_X9_in z) (lw_S q1826 q1827 q129 q1828) hd_X9_in.2 rfl ⟨Nat.le_of_ble_eq_true rfl, Nat.le_of_ble_eq_true rfl⟩ (Nat.le_of_ble_eq_true rfl) dX9_isScript_8) ⟨⟨rfl, rfl⟩, Nat.le_of_ble_eq_true rfl, Nat.le_of_ble_eq_true rfl⟩ fun v2 w3 e4 => ?_
  exact J.zretc hx rfl (Nat.le_of_ble_eq_true rfl) (Nat.le_of_ble_eq_true rfl) dX9_isScript_11
theorem hd_X9_step : yX9_step.cls = RX9 ∧ yX9_step.cls ≠ "java/lang/invoke/MethodHandle" ∧ yX9_step.cls ≠ "java/lang/invoke/VarHandle" ∧ (parseMethodDescriptor yX9_step.desc).map (fun d => d.parameters.length) = some 3 := by decide +kernel
def f_X9_step (p1 : Int32) (p2 : Int32) (p3 : Int32) (w : j_St) : Option (Int32 × j_St) := jcb (f_X9_isScript p1 w) fun v1 w2 => if v1 = 0 then some ((-1000000), w2) else jbd p1 5 fun a5 => jlt (jgi w2 46 0 a5) fun v6 => jcb (f_X9_in p2 0 (v6 - 1) w2) fun v7 w8 => if v7 = 0 then some ((-1000000), w8) else jcb (f_X9_in p3 0 2 w8) fun v10 w11 => if v10 = 0 then some ((-1000000), w11) else jbd ((3 * ((12 * p1) + p2)) + p3) 180 fun a14 => jlt (jgi w11 45 0 a14) fun v15 => some (v15, w11)
abbrev rm_X9_step : Room := { frames := 2, cells := 0, slots := 0, locals := 43 }
set_option maxRecDepth 100000 in
set_option maxHeartbeats 4000000 in
theorem mt_X9_step {g : j_G} {B : j_B} {p1 : Int32} {p2 : Int32} {p3 : Int32} {w w' : j_St} (a0 : B.2.1 1 0 ∧ B.2.2 1 0) {r : Int32} (h : f_X9_step p1 p2 p3 w = some (r, w')) : j_M g yX9_step cX9_step 4 (some FieldType.int) rm_X9_step B [.ref (B.1 1 0), .int p1, .int p2, .int p3] w w' (jri r) := by
  refine j_met (rv := jri) (by decide) (Nat.le_of_ble_eq_true rfl) (fun x hx => ?_) h
  unfold f_X9_step
  refine J.sub (lv' := [(0, .ref (B.1 1 0)), (1, .int p1), (2, .int p2), (3, .int p3)]) [0, 1, 2, 3] rfl ?_
  refine J.aload_n hx dX9_step_0 rfl 0 rfl ?_
  refine J.iload_n hx dX9_step_1 rfl 1 rfl ?_
  refine J.calli hx (fun r z1 z => j_callV (κ := 1) hx rfl rfl a0.1 (mt_X9_isScript a0 z) (lw_V q2304 q2306 qs113 q129 q2307) hd_X9_isScript rfl ⟨Nat.le_of_ble_eq_true rfl, Nat.le_of_ble_eq_true rfl⟩ (Nat.le_of_ble_eq_true rfl) dX9_step_2) ⟨⟨rfl, rfl⟩, Nat.le_of_ble_eq_true rfl, Nat.le_of_ble_eq_true rfl⟩ fun v1 w2 e3 => ?_
  refine J.if_eq (tgt := 51) hx dX9_step_5 (by decide) ?_ ?_
  · refine J.ldc (v := (-1000000)) hx q1929 dX9_step_51 ?_
    exact J.iret hx rfl (Nat.le_of_ble_eq_true rfl) (Nat.le_of_ble_eq_true rfl) dX9_step_53
  · refine J.iload_n hx dX9_step_8 rfl 2 rfl ?_
    refine J.iconst (v := 0) hx dX9_step_9 (by decide) ?_
    refine J.aload_n hx dX9_step_10 rfl 0 rfl ?_
    refine J.getc (κ' := 46) (i' := 0) (κ := 1) (k := 20) hx rfl rfl rfl rfl rfl in_X9 (by decide) (Or.inl q1673) a0.2 dX9_step_11 fun h4 => ?_
    refine J.iload_n hx dX9_step_14 rfl 1 rfl ?_
    refine J.iald (κ := 46) hx rfl rfl h4.1 dX9_step_15 fun v6 => ?_
    refine J.iconst (v := 1) hx dX9_step_16 (by decide) ?_
    refine J.isub hx dX9_step_17 ?_
    refine J.calli hx (fun r z1 z => j_callS hx (mt_X9_in z) (lw_S q1826 q1827 q129 q1828) hd_X9_in.2 rfl ⟨Nat.le_of_ble_eq_true rfl, Nat.le_of_ble_eq_true rfl⟩ (Nat.le_of_ble_eq_true rfl) dX9_step_18) ⟨⟨rfl, rfl⟩, Nat.le_of_ble_eq_true rfl, Nat.le_of_ble_eq_true rfl⟩ fun v7 w8 e9 => ?_
    refine J.if_eq (tgt := 51) hx dX9_step_21 (by decide) ?_ ?_
    · refine J.ldc (v := (-1000000)) hx q1929 dX9_step_51 ?_
      exact J.iret hx rfl (Nat.le_of_ble_eq_true rfl) (Nat.le_of_ble_eq_true rfl) dX9_step_53
    · refine J.iload_n hx dX9_step_24 rfl 3 rfl ?_
      refine J.iconst (v := 0) hx dX9_step_25 (by decide) ?_
      refine J.iconst (v := 2) hx dX9_step_26 (by decide) ?_
      refine J.calli hx (fun r z1 z => j_callS hx (mt_X9_in z) (lw_S q1826 q1827 q129 q1828) hd_X9_in.2 rfl ⟨Nat.le_of_ble_eq_true rfl, Nat.le_of_ble_eq_true rfl⟩ (Nat.le_of_ble_eq_true rfl) dX9_step_27) ⟨⟨rfl, rfl⟩, Nat.le_of_ble_eq_true rfl, Nat.le_of_ble_eq_true rfl⟩ fun v10 w11 e12 => ?_
      refine J.if_eq (tgt := 51) hx dX9_step_30 (by decide) ?_ ?_
      · refine J.ldc (v := (-1000000)) hx q1929 dX9_step_51 ?_
        exact J.iret hx rfl (Nat.le_of_ble_eq_true rfl) (Nat.le_of_ble_eq_true rfl) dX9_step_53
      · refine J.aload_n hx dX9_step_33 rfl 0 rfl ?_
        refine J.getc (κ' := 45) (i' := 0) (κ := 1) (k := 19) hx rfl rfl rfl rfl rfl in_X9 (by decide) (Or.inl q1672) a0.2 dX9_step_34 fun h13 => ?_
        refine J.iconst (v := 3) hx dX9_step_37 (by decide) ?_
        refine J.bipush (v := 12) hx dX9_step_38 (by decide) ?_
        refine J.iload_n hx dX9_step_40 rfl 1 rfl ?_
        refine J.imul hx dX9_step_41 ?_
        refine J.iload_n hx dX9_step_42 rfl 2 rfl ?_
        refine J.iadd hx dX9_step_43 ?_
        refine J.imul hx dX9_step_44 ?_
        refine J.iload_n hx dX9_step_45 rfl 3 rfl ?_
        refine J.iadd hx dX9_step_46 ?_
        refine J.iald (κ := 45) hx rfl rfl h13.1 dX9_step_47 fun v15 => ?_
        refine J.goto (tgt := 53) hx dX9_step_48 (by decide) ?_
        exact J.iret hx rfl (Nat.le_of_ble_eq_true rfl) (Nat.le_of_ble_eq_true rfl) dX9_step_53
theorem hd_X9_goSteps : yX9_goSteps.cls = RX9 ∧ yX9_goSteps.cls ≠ "java/lang/invoke/MethodHandle" ∧ yX9_goSteps.cls ≠ "java/lang/invoke/VarHandle" ∧ (parseMethodDescriptor yX9_goSteps.desc).map (fun d => d.parameters.length) = some 2 := by decide +kernel
def f_X9_goSteps_L2 (p1 : Int32) (p2 : Int32) (k130 : j_St → Option (Int32 × j_St)) : Nat → Int32 → j_St → Option (Int32 × j_St)
  | 0, _, _ => none
  | n2 + 1, v1, w2 => jbd p1 5 fun a4 => jlt (jgi w2 46 0 a4) fun v5 => if v5 ≤ v1 then k130 w2 else jlt (3 * ((12 * p1) + v1)) fun v6 => jbd v6 180 fun a8 => jlt (jgi w2 45 0 a8) fun v9 => jbd (v6 + 1) 180 fun a11 => jlt (jgi w2 45 0 a11) fun v12 => jbd (v6 + 2) 180 fun a14 => jlt (jgi w2 45 0 a14) fun v15 => jcb (f_X9_whyNot v9 v12 v15 w2) fun v16 w17 => if v16 = (-1) then jlt (fun (w43 : j_St) => jlt (v1 + 1) fun v44 => f_X9_goSteps_L2 p1 p2 k130 n2 v44 w43) fun K124 => if p2 = 0 then jbd v6 180 fun a20 => jlt (jgi w17 45 0 a20) fun v21 => jbd (v6 + 1) 180 fun a23 => jlt (jgi w17 45 0 a23) fun v24 => jbd (v6 + 2) 180 fun a26 => jlt (jgi w17 45 0 a26) fun v27 => jcb (f_X9_doNow v21 v24 v27 w17) fun v28 w29 => K124 w29 else jbd v6 180 fun a32 => jlt (jgi w17 45 0 a32) fun v33 => jbd (v6 + 1) 180 fun a35 => jlt (jgi w17 45 0 a35) fun v36 => jbd (v6 + 2) 180 fun a38 => jlt (jgi w17 45 0 a38) fun v39 => jcb (f_X9_act v33 v36 v39 w17) fun v40 w41 => K124 w41 else some (v1, w17)
def f_X9_goSteps (p1 : Int32) (p2 : Int32) (w : j_St) : Option (Int32 × j_St) := f_X9_goSteps_L2 p1 p2 (fun (w45 : j_St) => jbd p1 5 fun a47 => jlt (jgi w45 46 0 a47) fun v48 => some (v48, w45)) jFU 0 w
abbrev rm_X9_goSteps : Room := { frames := 7, cells := 0, slots := 0, locals := 167 }
set_option maxRecDepth 100000 in
set_option maxHeartbeats 4000000 in
theorem mt_X9_goSteps {g : j_G} {B : j_B} {p1 : Int32} {p2 : Int32} {w w' : j_St} (a0 : B.2.1 1 0 ∧ B.2.2 1 0) {r : Int32} (h : f_X9_goSteps p1 p2 w = some (r, w')) : j_M g yX9_goSteps cX9_goSteps 5 (some FieldType.int) rm_X9_goSteps B [.ref (B.1 1 0), .int p1, .int p2] w w' (jri r) := by
  refine j_met (rv := jri) (by decide) (Nat.le_of_ble_eq_true rfl) (fun x hx => ?_) h
  unfold f_X9_goSteps
  refine J.sub (lv' := [(0, .ref (B.1 1 0)), (1, .int p1), (2, .int p2)]) [0, 1, 2] rfl ?_
  refine J.iconst (v := 0) hx dX9_goSteps_0 (by decide) ?_
  refine J.istore_n (lv' := [(3, .int 0), (0, .ref (B.1 1 0)), (1, .int p1), (2, .int p2)]) hx dX9_goSteps_1 rfl (by decide) rfl ?_
  have hL2 : ∀ (k130 : j_St → Option (Int32 × j_St)) (hk130 : ∀  (w45 : j_St), J g x 5 B (j_Q g x B rm_X9_goSteps jri) 0 0 (k130 w45) 130 [(0, .ref (B.1 1 0)), (1, .int p1)] [] w45) (n2 : Nat) (v1 : Int32) (w2 : j_St), J g x 5 B (j_Q g x B rm_X9_goSteps jri) 0 0 (f_X9_goSteps_L2 p1 p2 k130 n2 v1 w2) 2 [(0, .ref (B.1 1 0)), (1, .int p1), (2, .int p2), (3, .int v1)] [] w2 := by
    intro k130 hk130 n2
    induction n2 with
    | zero =>
      intro v1 w2
      rw [f_X9_goSteps_L2]
      exact J.nne
    | succ n2 ih =>
      intro v1 w2
      rw [f_X9_goSteps_L2]
      refine J.iload_n hx dX9_goSteps_2 rfl 3 rfl ?_
      refine J.aload_n hx dX9_goSteps_3 rfl 0 rfl ?_
      refine J.getc (κ' := 46) (i' := 0) (κ := 1) (k := 20) hx rfl rfl rfl rfl rfl in_X9 (by decide) (Or.inl q1673) a0.2 dX9_goSteps_4 fun h3 => ?_
      refine J.iload_n hx dX9_goSteps_7 rfl 1 rfl ?_
      refine J.iald (κ := 46) hx rfl rfl h3.1 dX9_goSteps_8 fun v5 => ?_
      refine J.icmp_ge (tgt := 130) hx dX9_goSteps_9 (by decide) ?_ ?_
      · exact J.sub [0, 1] rfl (hk130 w2)
      · refine J.iconst (v := 3) hx dX9_goSteps_12 (by decide) ?_
        refine J.bipush (v := 12) hx dX9_goSteps_13 (by decide) ?_
        refine J.iload_n hx dX9_goSteps_15 rfl 1 rfl ?_
        refine J.imul hx dX9_goSteps_16 ?_
        refine J.iload_n hx dX9_goSteps_17 rfl 3 rfl ?_
        refine J.iadd hx dX9_goSteps_18 ?_
        refine J.imul hx dX9_goSteps_19 ?_
        refine J.nmi fun v6 => ?_
        refine J.istore (lv' := [(4, .int v6), (0, .ref (B.1 1 0)), (1, .int p1), (2, .int p2), (3, .int v1)]) hx dX9_goSteps_20 (by decide) rfl ?_
        refine J.aload_n hx dX9_goSteps_22 rfl 1 rfl ?_
        refine J.aload_n hx dX9_goSteps_23 rfl 1 rfl ?_
        refine J.getc (κ' := 45) (i' := 0) (κ := 1) (k := 19) hx rfl rfl rfl rfl rfl in_X9 (by decide) (Or.inl q1672) a0.2 dX9_goSteps_24 fun h7 => ?_
        refine J.iload hx dX9_goSteps_27 0 rfl ?_
        refine J.iald (κ := 45) hx rfl rfl h7.1 dX9_goSteps_29 fun v9 => ?_
        refine J.aload_n hx dX9_goSteps_30 rfl 1 rfl ?_
        refine J.getc (κ' := 45) (i' := 0) (κ := 1) (k := 19) hx rfl rfl rfl rfl rfl in_X9 (by decide) (Or.inl q1672) a0.2 dX9_goSteps_31 fun h10 => ?_
        refine J.iload hx dX9_goSteps_34 0 rfl ?_
        refine J.iconst (v := 1) hx dX9_goSteps_36 (by decide) ?_
        refine J.iadd hx dX9_goSteps_37 ?_
        refine J.iald (κ := 45) hx rfl rfl h10.1 dX9_goSteps_38 fun v12 => ?_
        refine J.aload_n hx dX9_goSteps_39 rfl 1 rfl ?_
        refine J.getc (κ' := 45) (i' := 0) (κ := 1) (k := 19) hx rfl rfl rfl rfl rfl in_X9 (by decide) (Or.inl q1672) a0.2 dX9_goSteps_40 fun h13 => ?_
        refine J.iload hx dX9_goSteps_43 0 rfl ?_
        refine J.iconst (v := 2) hx dX9_goSteps_45 (by decide) ?_
        refine J.iadd hx dX9_goSteps_46 ?_
        refine J.iald (κ := 45) hx rfl rfl h13.1 dX9_goSteps_47 fun v15 => ?_
        refine J.calli hx (fun r z1 z => j_callV (κ := 1) hx rfl rfl a0.1 (mt_X9_whyNot a0 z) (lw_V q1953 q1955 qs61 q129 q1956) hd_X9_whyNot rfl ⟨Nat.le_of_ble_eq_true rfl, Nat.le_of_ble_eq_true rfl⟩ (Nat.le_of_ble_eq_true rfl) dX9_goSteps_48) ⟨⟨rfl, rfl⟩, Nat.le_of_ble_eq_true rfl, Nat.le_of_ble_eq_true rfl⟩ fun v16 w17 e18 => ?_
        refine J.iconst (v := (-1)) hx dX9_goSteps_51 (by decide) ?_
        refine J.icmp_eq (tgt := 57) hx dX9_goSteps_52 (by decide) ?_ ?_
        · refine J.iload_n hx dX9_goSteps_57 rfl 3 rfl ?_
          refine J.fn (fun (K124 : j_St → Option (Int32 × j_St)) => ∀  (w43 : j_St), J g x 5 B (j_Q g x B rm_X9_goSteps jri) 0 0 (K124 w43) 124 [(0, .ref (B.1 1 0)), (1, .int p1), (2, .int p2), (3, .int v1)] [] w43) ?_ ?_
          · intro w43
            refine J.nmx fun v44 ev44 => ?_
            refine J.iinc (p := 3) (v := v44) (lv' := [(3, .int v44), (0, .ref (B.1 1 0)), (1, .int p1), (2, .int p2)]) hx dX9_goSteps_124 rfl (by rw [ev44]; rfl) (by decide) rfl ?_
            refine J.goto (tgt := 2) hx dX9_goSteps_127 (by decide) ?_
            exact J.sub [1, 2, 3, 0] rfl (ih v44 w43)
          · intro K124 hK124
            refine J.if_eq (tgt := 94) hx dX9_goSteps_58 (by decide) ?_ ?_
            · refine J.aload_n hx dX9_goSteps_94 rfl 1 rfl ?_
              refine J.aload_n hx dX9_goSteps_95 rfl 1 rfl ?_
              refine J.getc (κ' := 45) (i' := 0) (κ := 1) (k := 19) hx rfl rfl rfl rfl rfl in_X9 (by decide) (Or.inl q1672) a0.2 dX9_goSteps_96 fun h19 => ?_
              refine J.iload hx dX9_goSteps_99 0 rfl ?_
              refine J.iald (κ := 45) hx rfl rfl h19.1 dX9_goSteps_101 fun v21 => ?_
              refine J.aload_n hx dX9_goSteps_102 rfl 1 rfl ?_
              refine J.getc (κ' := 45) (i' := 0) (κ := 1) (k := 19) hx rfl rfl rfl rfl rfl in_X9 (by decide) (Or.inl q1672) a0.2 dX9_goSteps_103 fun h22 => ?_
              refine J.iload hx dX9_goSteps_106 0 rfl ?_
              refine J.iconst (v := 1) hx dX9_goSteps_108 (by decide) ?_
              refine J.iadd hx dX9_goSteps_109 ?_
              refine J.iald (κ := 45) hx rfl rfl h22.1 dX9_goSteps_110 fun v24 => ?_
              refine J.aload_n hx dX9_goSteps_111 rfl 1 rfl ?_
              refine J.getc (κ' := 45) (i' := 0) (κ := 1) (k := 19) hx rfl rfl rfl rfl rfl in_X9 (by decide) (Or.inl q1672) a0.2 dX9_goSteps_112 fun h25 => ?_
              refine J.iload hx dX9_goSteps_115 0 rfl ?_
              refine J.iconst (v := 2) hx dX9_goSteps_117 (by decide) ?_
              refine J.iadd hx dX9_goSteps_118 ?_
              refine J.iald (κ := 45) hx rfl rfl h25.1 dX9_goSteps_119 fun v27 => ?_
              refine J.calli hx (fun r z1 z => j_callV (κ := 1) hx rfl rfl a0.1 (mt_X9_doNow a0 z) (lw_V q1969 q1971 qs65 q129 q1972) hd_X9_doNow rfl ⟨Nat.le_of_ble_eq_true rfl, Nat.le_of_ble_eq_true rfl⟩ (Nat.le_of_ble_eq_true rfl) dX9_goSteps_120) ⟨⟨rfl, rfl⟩, Nat.le_of_ble_eq_true rfl, Nat.le_of_ble_eq_true rfl⟩ fun v28 w29 e30 => ?_
              refine J.pop hx dX9_goSteps_123 rfl ?_
              exact J.sub [1, 2, 3, 4] rfl (hK124 w29)
            · refine J.aload_n hx dX9_goSteps_61 rfl 1 rfl ?_
              refine J.aload_n hx dX9_goSteps_62 rfl 1 rfl ?_
              refine J.getc (κ' := 45) (i' := 0) (κ := 1) (k := 19) hx rfl rfl rfl rfl rfl in_X9 (by decide) (Or.inl q1672) a0.2 dX9_goSteps_63 fun h31 => ?_
              refine J.iload hx dX9_goSteps_66 0 rfl ?_
              refine J.iald (κ := 45) hx rfl rfl h31.1 dX9_goSteps_68 fun v33 => ?_
              refine J.aload_n hx dX9_goSteps_69 rfl 1 rfl ?_
              refine J.getc (κ' := 45) (i' := 0) (κ := 1) (k := 19) hx rfl rfl rfl rfl rfl in_X9 (by decide) (Or.inl q1672) a0.2 dX9_goSteps_70 fun h34 => ?_
              refine J.iload hx dX9_goSteps_73 0 rfl ?_
              refine J.iconst (v := 1) hx dX9_goSteps_75 (by decide) ?_
              refine J.iadd hx dX9_goSteps_76 ?_
              refine J.iald (κ := 45) hx rfl rfl h34.1 dX9_goSteps_77 fun v36 => ?_
              refine J.aload_n hx dX9_goSteps_78 rfl 1 rfl ?_
              refine J.getc (κ' := 45) (i' := 0) (κ := 1) (k := 19) hx rfl rfl rfl rfl rfl in_X9 (by decide) (Or.inl q1672) a0.2 dX9_goSteps_79 fun h37 => ?_
              refine J.iload hx dX9_goSteps_82 0 rfl ?_
              refine J.iconst (v := 2) hx dX9_goSteps_84 (by decide) ?_
              refine J.iadd hx dX9_goSteps_85 ?_
              refine J.iald (κ := 45) hx rfl rfl h37.1 dX9_goSteps_86 fun v39 => ?_
              refine J.calli hx (fun r z1 z => j_callV (κ := 1) hx rfl rfl a0.1 (mt_X9_act a0 z) (lw_V q1961 q1963 qs63 q129 q1964) hd_X9_act rfl ⟨Nat.le_of_ble_eq_true rfl, Nat.le_of_ble_eq_true rfl⟩ (Nat.le_of_ble_eq_true rfl) dX9_goSteps_87) ⟨⟨rfl, rfl⟩, Nat.le_of_ble_eq_true rfl, Nat.le_of_ble_eq_true rfl⟩ fun v40 w41 e42 => ?_
              refine J.pop hx dX9_goSteps_90 rfl ?_
              refine J.goto (tgt := 124) hx dX9_goSteps_91 (by decide) ?_
              exact J.sub [1, 2, 3, 4] rfl (hK124 w41)
        · refine J.iload_n hx dX9_goSteps_55 rfl 4 rfl ?_
          exact J.iret hx rfl (Nat.le_of_ble_eq_true rfl) (Nat.le_of_ble_eq_true rfl) dX9_goSteps_56
  refine J.sub [1, 2, 3, 0] rfl (hL2 _ ?_ jFU 0 w)
  · intro w45
    refine J.aload_n hx dX9_goSteps_130 rfl 0 rfl ?_
    refine J.getc (κ' := 46) (i' := 0) (κ := 1) (k := 20) hx rfl rfl rfl rfl rfl in_X9 (by decide) (Or.inl q1673) a0.2 dX9_goSteps_131 fun h46 => ?_
    refine J.iload_n hx dX9_goSteps_134 rfl 1 rfl ?_
    refine J.iald (κ := 46) hx rfl rfl h46.1 dX9_goSteps_135 fun v48 => ?_
    exact J.iret hx rfl (Nat.le_of_ble_eq_true rfl) (Nat.le_of_ble_eq_true rfl) dX9_goSteps_136
theorem hd_X9_run : yX9_run.cls = RX9 ∧ yX9_run.cls ≠ "java/lang/invoke/MethodHandle" ∧ yX9_run.cls ≠ "java/lang/invoke/VarHandle" ∧ (parseMethodDescriptor yX9_run.desc).map (fun d => d.parameters.length) = some 2 := by decide +kernel
def f_X9_run (p1 : Int32) (p2 : Int32) (w : j_St) : Option (Int32 × j_St) := jcb (f_X9_isScript p1 w) fun v1 w2 => if v1 = 0 then some ((-1000000), w2) else jlt (jgi w2 1 0 29) fun v4 => if v4 = 0 then some ((-1000000), w2) else jcb (f_X9_in p2 0 1 w2) fun v5 w6 => if v5 = 0 then some ((-1000000), w6) else jcb (f_X9_putAside w6) fun _ w9 => jcb (f_X9_goSteps p1 0 w9) fun v11 w12 => jcb (f_X9_keptNow w12) fun v14 w15 => jcb (f_X9_bringBack w15) fun _ w18 => if p2 = 1 then some (v14, w18) else jbd p1 5 fun a21 => jlt (jgi w18 46 0 a21) fun v22 => if v11 = v22 then some ((-1), w18) else some (v11, w18)
abbrev rm_X9_run : Room := { frames := 8, cells := 0, slots := 0, locals := 191 }
set_option maxRecDepth 100000 in
set_option maxHeartbeats 4000000 in
theorem mt_X9_run {g : j_G} {B : j_B} {p1 : Int32} {p2 : Int32} {w w' : j_St} (a0 : B.2.1 1 0 ∧ B.2.2 1 0) {r : Int32} (h : f_X9_run p1 p2 w = some (r, w')) : j_M g yX9_run cX9_run 5 (some FieldType.int) rm_X9_run B [.ref (B.1 1 0), .int p1, .int p2] w w' (jri r) := by
  refine j_met (rv := jri) (by decide) (Nat.le_of_ble_eq_true rfl) (fun x hx => ?_) h
  unfold f_X9_run
  refine J.sub (lv' := [(0, .ref (B.1 1 0)), (1, .int p1), (2, .int p2)]) [0, 1, 2] rfl ?_
  refine J.aload_n hx dX9_run_0 rfl 0 rfl ?_
  refine J.iload_n hx dX9_run_1 rfl 1 rfl ?_
  refine J.calli hx (fun r z1 z => j_callV (κ := 1) hx rfl rfl a0.1 (mt_X9_isScript a0 z) (lw_V q2304 q2306 qs113 q129 q2307) hd_X9_isScript rfl ⟨Nat.le_of_ble_eq_true rfl, Nat.le_of_ble_eq_true rfl⟩ (Nat.le_of_ble_eq_true rfl) dX9_run_2) ⟨⟨rfl, rfl⟩, Nat.le_of_ble_eq_true rfl, Nat.le_of_ble_eq_true rfl⟩ fun v1 w2 e3 => ?_
  refine J.if_eq (tgt := 24) hx dX9_run_5 (by decide) ?_ ?_
  · refine J.ldc (v := (-1000000)) hx q1929 dX9_run_24 ?_
    exact J.iret hx rfl (Nat.le_of_ble_eq_true rfl) (Nat.le_of_ble_eq_true rfl) dX9_run_26
  · refine J.aload_n hx dX9_run_8 rfl 0 rfl ?_
    refine J.geti (κ := 1) (k := 29) hx rfl rfl rfl in_X9 (by decide) (Or.inl q1682) a0.1 dX9_run_9 fun v4 => ?_
    refine J.if_eq (tgt := 24) hx dX9_run_12 (by decide) ?_ ?_
    · refine J.ldc (v := (-1000000)) hx q1929 dX9_run_24 ?_
      exact J.iret hx rfl (Nat.le_of_ble_eq_true rfl) (Nat.le_of_ble_eq_true rfl) dX9_run_26
    · refine J.iload_n hx dX9_run_15 rfl 2 rfl ?_
      refine J.iconst (v := 0) hx dX9_run_16 (by decide) ?_
      refine J.iconst (v := 1) hx dX9_run_17 (by decide) ?_
      refine J.calli hx (fun r z1 z => j_callS hx (mt_X9_in z) (lw_S q1826 q1827 q129 q1828) hd_X9_in.2 rfl ⟨Nat.le_of_ble_eq_true rfl, Nat.le_of_ble_eq_true rfl⟩ (Nat.le_of_ble_eq_true rfl) dX9_run_18) ⟨⟨rfl, rfl⟩, Nat.le_of_ble_eq_true rfl, Nat.le_of_ble_eq_true rfl⟩ fun v5 w6 e7 => ?_
      refine J.if_ne (tgt := 27) hx dX9_run_21 (by decide) ?_ ?_
      · refine J.ldc (v := (-1000000)) hx q1929 dX9_run_24 ?_
        exact J.iret hx rfl (Nat.le_of_ble_eq_true rfl) (Nat.le_of_ble_eq_true rfl) dX9_run_26
      · refine J.aload_n hx dX9_run_27 rfl 0 rfl ?_
        refine J.callv hx (fun r z1 z => j_callV (κ := 1) hx rfl rfl a0.1 (mt_X9_putAside a0 z) (lw_V q2243 q2245 qs106 q129 q2246) hd_X9_putAside rfl ⟨Nat.le_of_ble_eq_true rfl, Nat.le_of_ble_eq_true rfl⟩ (Nat.le_of_ble_eq_true rfl) dX9_run_28) ⟨⟨rfl, rfl⟩, Nat.le_of_ble_eq_true rfl, Nat.le_of_ble_eq_true rfl⟩ fun _ w9 e10 => ?_
        refine J.aload_n hx dX9_run_31 rfl 0 rfl ?_
        refine J.iload_n hx dX9_run_32 rfl 1 rfl ?_
        refine J.iconst (v := 0) hx dX9_run_33 (by decide) ?_
        refine J.calli hx (fun r z1 z => j_callV (κ := 1) hx rfl rfl a0.1 (mt_X9_goSteps a0 z) (lw_V q2312 q2314 qs114 q129 q2315) hd_X9_goSteps rfl ⟨Nat.le_of_ble_eq_true rfl, Nat.le_of_ble_eq_true rfl⟩ (Nat.le_of_ble_eq_true rfl) dX9_run_34) ⟨⟨rfl, rfl⟩, Nat.le_of_ble_eq_true rfl, Nat.le_of_ble_eq_true rfl⟩ fun v11 w12 e13 => ?_
        refine J.istore_n (lv' := [(3, .int v11), (0, .ref (B.1 1 0)), (1, .int p1), (2, .int p2)]) hx dX9_run_37 rfl (by decide) rfl ?_
        refine J.aload_n hx dX9_run_38 rfl 1 rfl ?_
        refine J.calli hx (fun r z1 z => j_callV (κ := 1) hx rfl rfl a0.1 (mt_X9_keptNow a0 z) (lw_V q1986 q1988 qs68 q129 q1989) hd_X9_keptNow rfl ⟨Nat.le_of_ble_eq_true rfl, Nat.le_of_ble_eq_true rfl⟩ (Nat.le_of_ble_eq_true rfl) dX9_run_39) ⟨⟨rfl, rfl⟩, Nat.le_of_ble_eq_true rfl, Nat.le_of_ble_eq_true rfl⟩ fun v14 w15 e16 => ?_
        refine J.istore (lv' := [(4, .int v14), (3, .int v11), (0, .ref (B.1 1 0)), (1, .int p1), (2, .int p2)]) hx dX9_run_42 (by decide) rfl ?_
        refine J.aload_n hx dX9_run_44 rfl 2 rfl ?_
        refine J.callv hx (fun r z1 z => j_callV (κ := 1) hx rfl rfl a0.1 (mt_X9_bringBack a0 z) (lw_V q2247 q2249 qs107 q129 q2250) hd_X9_bringBack rfl ⟨Nat.le_of_ble_eq_true rfl, Nat.le_of_ble_eq_true rfl⟩ (Nat.le_of_ble_eq_true rfl) dX9_run_45) ⟨⟨rfl, rfl⟩, Nat.le_of_ble_eq_true rfl, Nat.le_of_ble_eq_true rfl⟩ fun _ w18 e19 => ?_
        refine J.iload_n hx dX9_run_48 rfl 4 rfl ?_
        refine J.iconst (v := 1) hx dX9_run_49 (by decide) ?_
        refine J.icmp_ne (tgt := 58) hx dX9_run_50 (by decide) ?_ ?_
        · refine J.iload hx dX9_run_53 0 rfl ?_
          refine J.goto (tgt := 73) hx dX9_run_55 (by decide) ?_
          exact J.iret hx rfl (Nat.le_of_ble_eq_true rfl) (Nat.le_of_ble_eq_true rfl) dX9_run_73
        · refine J.iload_n hx dX9_run_58 rfl 1 rfl ?_
          refine J.aload_n hx dX9_run_59 rfl 2 rfl ?_
          refine J.getc (κ' := 46) (i' := 0) (κ := 1) (k := 20) hx rfl rfl rfl rfl rfl in_X9 (by decide) (Or.inl q1673) a0.2 dX9_run_60 fun h20 => ?_
          refine J.iload_n hx dX9_run_63 rfl 3 rfl ?_
          refine J.iald (κ := 46) hx rfl rfl h20.1 dX9_run_64 fun v22 => ?_
          refine J.icmp_ne (tgt := 72) hx dX9_run_65 (by decide) ?_ ?_
          · refine J.iconst (v := (-1)) hx dX9_run_68 (by decide) ?_
            refine J.goto (tgt := 73) hx dX9_run_69 (by decide) ?_
            exact J.iret hx rfl (Nat.le_of_ble_eq_true rfl) (Nat.le_of_ble_eq_true rfl) dX9_run_73
          · refine J.iload_n hx dX9_run_72 rfl 1 rfl ?_
            exact J.iret hx rfl (Nat.le_of_ble_eq_true rfl) (Nat.le_of_ble_eq_true rfl) dX9_run_73
theorem hd_X9_perform : yX9_perform.cls = RX9 ∧ yX9_perform.cls ≠ "java/lang/invoke/MethodHandle" ∧ yX9_perform.cls ≠ "java/lang/invoke/VarHandle" ∧ (parseMethodDescriptor yX9_perform.desc).map (fun d => d.parameters.length) = some 1 := by decide +kernel
def f_X9_perform (p1 : Int32) (w : j_St) : Option (Int32 × j_St) := jcb (f_X9_isScript p1 w) fun v1 w2 => if v1 = 0 then some ((-1), w2) else jlt (jgi w2 1 0 29) fun v4 => if v4 = 0 then some ((-1), w2) else jcb (f_X9_goSteps p1 1 w2) fun v5 w6 => some (v5, w6)
abbrev rm_X9_perform : Room := { frames := 8, cells := 0, slots := 0, locals := 191 }
set_option maxRecDepth 100000 in
set_option maxHeartbeats 4000000 in
theorem mt_X9_perform {g : j_G} {B : j_B} {p1 : Int32} {w w' : j_St} (a0 : B.2.1 1 0 ∧ B.2.2 1 0) {r : Int32} (h : f_X9_perform p1 w = some (r, w')) : j_M g yX9_perform cX9_perform 2 (some FieldType.int) rm_X9_perform B [.ref (B.1 1 0), .int p1] w w' (jri r) := by
  refine j_met (rv := jri) (by decide) (Nat.le_of_ble_eq_true rfl) (fun x hx => ?_) h
  unfold f_X9_perform
  refine J.sub (lv' := [(0, .ref (B.1 1 0)), (1, .int p1)]) [0, 1] rfl ?_
  refine J.aload_n hx dX9_perform_0 rfl 0 rfl ?_
  refine J.iload_n hx dX9_perform_1 rfl 1 rfl ?_
  refine J.calli hx (fun r z1 z => j_callV (κ := 1) hx rfl rfl a0.1 (mt_X9_isScript a0 z) (lw_V q2304 q2306 qs113 q129 q2307) hd_X9_isScript rfl ⟨Nat.le_of_ble_eq_true rfl, Nat.le_of_ble_eq_true rfl⟩ (Nat.le_of_ble_eq_true rfl) dX9_perform_2) ⟨⟨rfl, rfl⟩, Nat.le_of_ble_eq_true rfl, Nat.le_of_ble_eq_true rfl⟩ fun v1 w2 e3 => ?_
  refine J.if_eq (tgt := 24) hx dX9_perform_5 (by decide) ?_ ?_
  · refine J.iconst (v := (-1)) hx dX9_perform_24 (by decide) ?_
    exact J.iret hx rfl (Nat.le_of_ble_eq_true rfl) (Nat.le_of_ble_eq_true rfl) dX9_perform_25
  · refine J.aload_n hx dX9_perform_8 rfl 0 rfl ?_
    refine J.geti (κ := 1) (k := 29) hx rfl rfl rfl in_X9 (by decide) (Or.inl q1682) a0.1 dX9_perform_9 fun v4 => ?_
    refine J.if_eq (tgt := 24) hx dX9_perform_12 (by decide) ?_ ?_
    · refine J.iconst (v := (-1)) hx dX9_perform_24 (by decide) ?_
      exact J.iret hx rfl (Nat.le_of_ble_eq_true rfl) (Nat.le_of_ble_eq_true rfl) dX9_perform_25
    · refine J.aload_n hx dX9_perform_15 rfl 0 rfl ?_
      refine J.iload_n hx dX9_perform_16 rfl 1 rfl ?_
      refine J.iconst (v := 1) hx dX9_perform_17 (by decide) ?_
      refine J.calli hx (fun r z1 z => j_callV (κ := 1) hx rfl rfl a0.1 (mt_X9_goSteps a0 z) (lw_V q2312 q2314 qs114 q129 q2315) hd_X9_goSteps rfl ⟨Nat.le_of_ble_eq_true rfl, Nat.le_of_ble_eq_true rfl⟩ (Nat.le_of_ble_eq_true rfl) dX9_perform_18) ⟨⟨rfl, rfl⟩, Nat.le_of_ble_eq_true rfl, Nat.le_of_ble_eq_true rfl⟩ fun v5 w6 e7 => ?_
      refine J.goto (tgt := 25) hx dX9_perform_21 (by decide) ?_
      exact J.iret hx rfl (Nat.le_of_ble_eq_true rfl) (Nat.le_of_ble_eq_true rfl) dX9_perform_25
theorem hd_X9_lastGeneration : yX9_lastGeneration.cls = RX9 ∧ yX9_lastGeneration.cls ≠ "java/lang/invoke/MethodHandle" ∧ yX9_lastGeneration.cls ≠ "java/lang/invoke/VarHandle" ∧ (parseMethodDescriptor yX9_lastGeneration.desc).map (fun d => d.parameters.length) = some 0 := by decide +kernel
def f_X9_lastGeneration_L4   : Nat → Int32 → Int32 → j_St → Option (Int32 × j_St)
  | 0, _, _, _ => none
  | n4 + 1, v1, v2, w3 => jlt (jgi w3 1 0 35) fun v4 => if v4 ≤ v2 then some (v1, w3) else jcb (f_X9_generationOf v2 w3) fun v5 w6 => jlt (jmax v1 v5) fun v8 => jlt (v2 + 1) fun v9 => f_X9_lastGeneration_L4 n4 v8 v9 w6
def f_X9_lastGeneration  (w : j_St) : Option (Int32 × j_St) := f_X9_lastGeneration_L4 jFU 0 0 w
abbrev rm_X9_lastGeneration : Room := { frames := 1, cells := 0, slots := 0, locals := 23 }
set_option maxRecDepth 100000 in
set_option maxHeartbeats 4000000 in
theorem mt_X9_lastGeneration {g : j_G} {B : j_B}  {w w' : j_St} (a0 : B.2.1 1 0 ∧ B.2.2 1 0) {r : Int32} (h : f_X9_lastGeneration  w = some (r, w')) : j_M g yX9_lastGeneration cX9_lastGeneration 3 (some FieldType.int) rm_X9_lastGeneration B [.ref (B.1 1 0)] w w' (jri r) := by
  refine j_met (rv := jri) (by decide) (Nat.le_of_ble_eq_true rfl) (fun x hx => ?_) h
  unfold f_X9_lastGeneration
  refine J.sub (lv' := [(0, .ref (B.1 1 0))]) [0] rfl ?_
  refine J.iconst (v := 0) hx dX9_lastGeneration_0 (by decide) ?_
  refine J.istore_n (lv' := [(1, .int 0), (0, .ref (B.1 1 0))]) hx dX9_lastGeneration_1 rfl (by decide) rfl ?_
  refine J.iconst (v := 0) hx dX9_lastGeneration_2 (by decide) ?_
  refine J.istore_n (lv' := [(2, .int 0), (1, .int 0), (0, .ref (B.1 1 0))]) hx dX9_lastGeneration_3 rfl (by decide) rfl ?_
  have hL4 : ∀ (n4 : Nat) (v1 : Int32) (v2 : Int32) (w3 : j_St), J g x 3 B (j_Q g x B rm_X9_lastGeneration jri) 0 0 (f_X9_lastGeneration_L4 n4 v1 v2 w3) 4 [(0, .ref (B.1 1 0)), (1, .int v1), (2, .int v2)] [] w3 := by
    intro n4
    induction n4 with
    | zero =>
      intro v1 v2 w3
      rw [f_X9_lastGeneration_L4]
      exact J.nne
    | succ n4 ih =>
      intro v1 v2 w3
      rw [f_X9_lastGeneration_L4]
      refine J.iload_n hx dX9_lastGeneration_4 rfl 2 rfl ?_
      refine J.aload_n hx dX9_lastGeneration_5 rfl 0 rfl ?_
      refine J.geti (κ := 1) (k := 35) hx rfl rfl rfl in_X9 (by decide) (Or.inl q1688) a0.1 dX9_lastGeneration_6 fun v4 => ?_
      refine J.icmp_ge (tgt := 28) hx dX9_lastGeneration_9 (by decide) ?_ ?_
      · refine J.iload_n hx dX9_lastGeneration_28 rfl 1 rfl ?_
        exact J.iret hx rfl (Nat.le_of_ble_eq_true rfl) (Nat.le_of_ble_eq_true rfl) dX9_lastGeneration_29
      · refine J.iload_n hx dX9_lastGeneration_12 rfl 1 rfl ?_
        refine J.aload_n hx dX9_lastGeneration_13 rfl 0 rfl ?_
        refine J.iload_n hx dX9_lastGeneration_14 rfl 2 rfl ?_
        refine J.calli hx (fun r z1 z => j_callV (κ := 1) hx rfl rfl a0.1 (mt_X9_generationOf a0 z) (lw_V q2171 q2173 qs97 q129 q2174) hd_X9_generationOf rfl ⟨Nat.le_of_ble_eq_true rfl, Nat.le_of_ble_eq_true rfl⟩ (Nat.le_of_ble_eq_true rfl) dX9_lastGeneration_15) ⟨⟨rfl, rfl⟩, Nat.le_of_ble_eq_true rfl, Nat.le_of_ble_eq_true rfl⟩ fun v5 w6 e7 => ?_
        refine J.mmax hx q1981 q195 q123 q196 ⟨Nat.le_of_ble_eq_true rfl, Nat.le_of_ble_eq_true rfl⟩ (Nat.le_of_ble_eq_true rfl) (Nat.le_of_ble_eq_true rfl) (Nat.le_of_ble_eq_true rfl) dX9_lastGeneration_18 ?_
        refine J.nmi fun v8 => ?_
        refine J.istore_n (lv' := [(1, .int v8), (0, .ref (B.1 1 0)), (2, .int v2)]) hx dX9_lastGeneration_21 rfl (by decide) rfl ?_
        refine J.nmx fun v9 ev9 => ?_
        refine J.iinc (p := 2) (v := v9) (lv' := [(2, .int v9), (1, .int v8), (0, .ref (B.1 1 0))]) hx dX9_lastGeneration_22 rfl (by rw [ev9]; rfl) (by decide) rfl ?_
        refine J.goto (tgt := 4) hx dX9_lastGeneration_25 (by decide) ?_
        exact J.sub [2, 1, 0] rfl (ih v8 v9 w6)
  refine J.sub [2, 1, 0] rfl (hL4 jFU 0 0 w)
theorem hd_X9_widest : yX9_widest.cls = RX9 ∧ yX9_widest.cls ≠ "java/lang/invoke/MethodHandle" ∧ yX9_widest.cls ≠ "java/lang/invoke/VarHandle" ∧ (parseMethodDescriptor yX9_widest.desc).map (fun d => d.parameters.length) = some 0 := by decide +kernel
def f_X9_widest_L4   : Nat → Int32 → Int32 → j_St → Option (Int32 × j_St)
  | 0, _, _, _ => none
  | n4 + 1, v1, v2, w3 => jlt (jgi w3 1 0 38) fun v4 => if v4 ≤ v2 then some (v1, w3) else jcb (f_X9_widthOf v2 w3) fun v5 w6 => jcb (f_X9_widthOf v1 w6) fun v8 w9 => jlt (fun (v11 : Int32) (w12 : j_St) => jlt (v2 + 1) fun v13 => f_X9_widest_L4 n4 v11 v13 w12) fun K30 => if v5 ≤ v8 then K30 v1 w9 else K30 v2 w9
def f_X9_widest  (w : j_St) : Option (Int32 × j_St) := f_X9_widest_L4 jFU 0 1 w
abbrev rm_X9_widest : Room := { frames := 3, cells := 0, slots := 0, locals := 65 }
set_option maxRecDepth 100000 in
set_option maxHeartbeats 4000000 in
theorem mt_X9_widest {g : j_G} {B : j_B}  {w w' : j_St} (a0 : B.2.1 1 0 ∧ B.2.2 1 0) {r : Int32} (h : f_X9_widest  w = some (r, w')) : j_M g yX9_widest cX9_widest 3 (some FieldType.int) rm_X9_widest B [.ref (B.1 1 0)] w w' (jri r) := by
  refine j_met (rv := jri) (by decide) (Nat.le_of_ble_eq_true rfl) (fun x hx => ?_) h
  unfold f_X9_widest
  refine J.sub (lv' := [(0, .ref (B.1 1 0))]) [0] rfl ?_
  refine J.iconst (v := 0) hx dX9_widest_0 (by decide) ?_
  refine J.istore_n (lv' := [(1, .int 0), (0, .ref (B.1 1 0))]) hx dX9_widest_1 rfl (by decide) rfl ?_
  refine J.iconst (v := 1) hx dX9_widest_2 (by decide) ?_
  refine J.istore_n (lv' := [(2, .int 1), (1, .int 0), (0, .ref (B.1 1 0))]) hx dX9_widest_3 rfl (by decide) rfl ?_
  have hL4 : ∀ (n4 : Nat) (v1 : Int32) (v2 : Int32) (w3 : j_St), J g x 3 B (j_Q g x B rm_X9_widest jri) 0 0 (f_X9_widest_L4 n4 v1 v2 w3) 4 [(0, .ref (B.1 1 0)), (1, .int v1), (2, .int v2)] [] w3 := by
    intro n4
    induction n4 with
    | zero =>
      intro v1 v2 w3
      rw [f_X9_widest_L4]
      exact J.nne
    | succ n4 ih =>
      intro v1 v2 w3
      rw [f_X9_widest_L4]
      refine J.iload_n hx dX9_widest_4 rfl 2 rfl ?_
      refine J.aload_n hx dX9_widest_5 rfl 0 rfl ?_
      refine J.geti (κ := 1) (k := 38) hx rfl rfl rfl in_X9 (by decide) (Or.inl q1691) a0.1 dX9_widest_6 fun v4 => ?_
      refine J.icmp_ge (tgt := 37) hx dX9_widest_9 (by decide) ?_ ?_
      · refine J.iload_n hx dX9_widest_37 rfl 1 rfl ?_
        exact J.iret hx rfl (Nat.le_of_ble_eq_true rfl) (Nat.le_of_ble_eq_true rfl) dX9_widest_38
      · refine J.aload_n hx dX9_widest_12 rfl 0 rfl ?_
        refine J.iload_n hx dX9_widest_13 rfl 2 rfl ?_
        refine J.calli hx (fun r z1 z => j_callV (κ := 1) hx rfl rfl a0.1 (mt_X9_widthOf a0 z) (lw_V q2199 q2201 qs103 q129 q2202) hd_X9_widthOf rfl ⟨Nat.le_of_ble_eq_true rfl, Nat.le_of_ble_eq_true rfl⟩ (Nat.le_of_ble_eq_true rfl) dX9_widest_14) ⟨⟨rfl, rfl⟩, Nat.le_of_ble_eq_true rfl, Nat.le_of_ble_eq_true rfl⟩ fun v5 w6 e7 => ?_
        refine J.aload_n hx dX9_widest_17 rfl 0 rfl ?_
        refine J.iload_n hx dX9_widest_18 rfl 1 rfl ?_
        refine J.calli hx (fun r z1 z => j_callV (κ := 1) hx rfl rfl a0.1 (mt_X9_widthOf a0 z) (lw_V q2199 q2201 qs103 q129 q2202) hd_X9_widthOf rfl ⟨Nat.le_of_ble_eq_true rfl, Nat.le_of_ble_eq_true rfl⟩ (Nat.le_of_ble_eq_true rfl) dX9_widest_19) ⟨⟨rfl, rfl⟩, Nat.le_of_ble_eq_true rfl, Nat.le_of_ble_eq_true rfl⟩ fun v8 w9 e10 => ?_
        refine J.fn (fun (K30 : Int32 → j_St → Option (Int32 × j_St)) => ∀ (v11 : Int32) (w12 : j_St), J g x 3 B (j_Q g x B rm_X9_widest jri) 0 0 (K30 v11 w12) 30 [(0, .ref (B.1 1 0)), (2, .int v2)] [.int v11] w12) ?_ ?_
        · intro v11 w12
          refine J.istore_n (lv' := [(1, .int v11), (0, .ref (B.1 1 0)), (2, .int v2)]) hx dX9_widest_30 rfl (by decide) rfl ?_
          refine J.nmx fun v13 ev13 => ?_
          refine J.iinc (p := 2) (v := v13) (lv' := [(2, .int v13), (1, .int v11), (0, .ref (B.1 1 0))]) hx dX9_widest_31 rfl (by rw [ev13]; rfl) (by decide) rfl ?_
          refine J.goto (tgt := 4) hx dX9_widest_34 (by decide) ?_
          exact J.sub [2, 1, 0] rfl (ih v11 v13 w12)
        · intro K30 hK30
          refine J.icmp_le (tgt := 29) hx dX9_widest_22 (by decide) ?_ ?_
          · refine J.iload_n hx dX9_widest_29 rfl 1 rfl ?_
            exact J.sub [0, 2] rfl (hK30 v1 w9)
          · refine J.iload_n hx dX9_widest_25 rfl 2 rfl ?_
            refine J.goto (tgt := 30) hx dX9_widest_26 (by decide) ?_
            exact J.sub [0, 2] rfl (hK30 v2 w9)
  refine J.sub [2, 1, 0] rfl (hL4 jFU 0 1 w)
theorem hd_X9_ofPeak : yX9_ofPeak.cls = RX9 ∧ yX9_ofPeak.cls ≠ "java/lang/invoke/MethodHandle" ∧ yX9_ofPeak.cls ≠ "java/lang/invoke/VarHandle" ∧ (parseMethodDescriptor yX9_ofPeak.desc).map (fun d => d.parameters.length) = some 2 := by decide +kernel
def f_X9_ofPeak (p1 : Int32) (p2 : Int32) (w : j_St) : Option (Int32 × j_St) := if p2 = 0 then jcb (f_X9_isKept p1 w) fun v1 w2 => if v1 = 0 then some (0, w2) else jcb (f_X9_placeOf p1 w2) fun v4 w5 => some (v4, w5) else if p2 = 1 then jcb (f_X9_life p1 w) fun v7 w8 => some (v7, w8) else if p2 = 2 then jcb (f_X9_isKept p1 w) fun v10 w11 => if v10 = 0 then some (0, w11) else jcb (f_X9_life p1 w11) fun v13 w14 => some (v13, w14) else jcb (f_X9_isKept p1 w) fun v16 w17 => if v16 = 0 then some (0, w17) else jcb (f_X9_areaOf p1 w17) fun v19 w20 => some (v19, w20)
abbrev rm_X9_ofPeak : Room := { frames := 4, cells := 0, slots := 0, locals := 91 }
set_option maxRecDepth 100000 in
set_option maxHeartbeats 4000000 in
theorem mt_X9_ofPeak {g : j_G} {B : j_B} {p1 : Int32} {p2 : Int32} {w w' : j_St} (a0 : B.2.1 1 0 ∧ B.2.2 1 0) {r : Int32} (h : f_X9_ofPeak p1 p2 w = some (r, w')) : j_M g yX9_ofPeak cX9_ofPeak 3 (some FieldType.int) rm_X9_ofPeak B [.ref (B.1 1 0), .int p1, .int p2] w w' (jri r) := by
  refine j_met (rv := jri) (by decide) (Nat.le_of_ble_eq_true rfl) (fun x hx => ?_) h
  unfold f_X9_ofPeak
  refine J.sub (lv' := [(0, .ref (B.1 1 0)), (1, .int p1), (2, .int p2)]) [0, 1, 2] rfl ?_
  refine J.iload_n hx dX9_ofPeak_0 rfl 2 rfl ?_
  refine J.ite (fun e0 => ?_) (fun n0 => ?_)
  · refine J.tsw (off := 27) (tgt := 28) hx dX9_ofPeak_1 (by rw [e0]; decide) (by rw [e0]; decide) (by rw [e0]; rfl) (by decide) ?_
    refine J.aload_n hx dX9_ofPeak_28 rfl 0 rfl ?_
    refine J.iload_n hx dX9_ofPeak_29 rfl 1 rfl ?_
    refine J.calli hx (fun r z1 z => j_callV (κ := 1) hx rfl rfl a0.1 (mt_X9_isKept a0 z) (lw_V q2167 q2169 qs96 q129 q2170) hd_X9_isKept rfl ⟨Nat.le_of_ble_eq_true rfl, Nat.le_of_ble_eq_true rfl⟩ (Nat.le_of_ble_eq_true rfl) dX9_ofPeak_30) ⟨⟨rfl, rfl⟩, Nat.le_of_ble_eq_true rfl, Nat.le_of_ble_eq_true rfl⟩ fun v1 w2 e3 => ?_
    refine J.if_eq (tgt := 44) hx dX9_ofPeak_33 (by decide) ?_ ?_
    · refine J.iconst (v := 0) hx dX9_ofPeak_44 (by decide) ?_
      exact J.iret hx rfl (Nat.le_of_ble_eq_true rfl) (Nat.le_of_ble_eq_true rfl) dX9_ofPeak_45
    · refine J.aload_n hx dX9_ofPeak_36 rfl 0 rfl ?_
      refine J.iload_n hx dX9_ofPeak_37 rfl 1 rfl ?_
      refine J.calli hx (fun r z1 z => j_callV (κ := 1) hx rfl rfl a0.1 (mt_X9_placeOf a0 z) (lw_V q2030 q2032 qs79 q129 q2033) hd_X9_placeOf rfl ⟨Nat.le_of_ble_eq_true rfl, Nat.le_of_ble_eq_true rfl⟩ (Nat.le_of_ble_eq_true rfl) dX9_ofPeak_38) ⟨⟨rfl, rfl⟩, Nat.le_of_ble_eq_true rfl, Nat.le_of_ble_eq_true rfl⟩ fun v4 w5 e6 => ?_
      refine J.goto (tgt := 45) hx dX9_ofPeak_41 (by decide) ?_
      exact J.iret hx rfl (Nat.le_of_ble_eq_true rfl) (Nat.le_of_ble_eq_true rfl) dX9_ofPeak_45
  · refine J.ite (fun e1 => ?_) (fun n1 => ?_)
    · refine J.tsw (off := 45) (tgt := 46) hx dX9_ofPeak_1 (by rw [e1]; decide) (by rw [e1]; decide) (by rw [e1]; rfl) (by decide) ?_
      refine J.aload_n hx dX9_ofPeak_46 rfl 0 rfl ?_
      refine J.iload_n hx dX9_ofPeak_47 rfl 1 rfl ?_
      refine J.calli hx (fun r z1 z => j_callV (κ := 1) hx rfl rfl a0.1 (mt_X9_life a0 z) (lw_V q2163 q2165 qs95 q129 q2166) hd_X9_life rfl ⟨Nat.le_of_ble_eq_true rfl, Nat.le_of_ble_eq_true rfl⟩ (Nat.le_of_ble_eq_true rfl) dX9_ofPeak_48) ⟨⟨rfl, rfl⟩, Nat.le_of_ble_eq_true rfl, Nat.le_of_ble_eq_true rfl⟩ fun v7 w8 e9 => ?_
      exact J.iret hx rfl (Nat.le_of_ble_eq_true rfl) (Nat.le_of_ble_eq_true rfl) dX9_ofPeak_51
    · refine J.ite (fun e2 => ?_) (fun n2 => ?_)
      · refine J.tsw (off := 51) (tgt := 52) hx dX9_ofPeak_1 (by rw [e2]; decide) (by rw [e2]; decide) (by rw [e2]; rfl) (by decide) ?_
        refine J.aload_n hx dX9_ofPeak_52 rfl 0 rfl ?_
        refine J.iload_n hx dX9_ofPeak_53 rfl 1 rfl ?_
        refine J.calli hx (fun r z1 z => j_callV (κ := 1) hx rfl rfl a0.1 (mt_X9_isKept a0 z) (lw_V q2167 q2169 qs96 q129 q2170) hd_X9_isKept rfl ⟨Nat.le_of_ble_eq_true rfl, Nat.le_of_ble_eq_true rfl⟩ (Nat.le_of_ble_eq_true rfl) dX9_ofPeak_54) ⟨⟨rfl, rfl⟩, Nat.le_of_ble_eq_true rfl, Nat.le_of_ble_eq_true rfl⟩ fun v10 w11 e12 => ?_
        refine J.if_eq (tgt := 68) hx dX9_ofPeak_57 (by decide) ?_ ?_
        · refine J.iconst (v := 0) hx dX9_ofPeak_68 (by decide) ?_
          exact J.iret hx rfl (Nat.le_of_ble_eq_true rfl) (Nat.le_of_ble_eq_true rfl) dX9_ofPeak_69
        · refine J.aload_n hx dX9_ofPeak_60 rfl 0 rfl ?_
          refine J.iload_n hx dX9_ofPeak_61 rfl 1 rfl ?_
          refine J.calli hx (fun r z1 z => j_callV (κ := 1) hx rfl rfl a0.1 (mt_X9_life a0 z) (lw_V q2163 q2165 qs95 q129 q2166) hd_X9_life rfl ⟨Nat.le_of_ble_eq_true rfl, Nat.le_of_ble_eq_true rfl⟩ (Nat.le_of_ble_eq_true rfl) dX9_ofPeak_62) ⟨⟨rfl, rfl⟩, Nat.le_of_ble_eq_true rfl, Nat.le_of_ble_eq_true rfl⟩ fun v13 w14 e15 => ?_
          refine J.goto (tgt := 69) hx dX9_ofPeak_65 (by decide) ?_
          exact J.iret hx rfl (Nat.le_of_ble_eq_true rfl) (Nat.le_of_ble_eq_true rfl) dX9_ofPeak_69
      · have z0 := j_neT n0 (a := 0) (by decide)
        have z1 := j_neT n1 (a := 1) (by decide)
        have z2 := j_neT n2 (a := 2) (by decide)
        refine J.tswD (tgt := 70) hx dX9_ofPeak_1 (by omega) (by decide) ?_
        refine J.aload_n hx dX9_ofPeak_70 rfl 0 rfl ?_
        refine J.iload_n hx dX9_ofPeak_71 rfl 1 rfl ?_
        refine J.calli hx (fun r z1 z => j_callV (κ := 1) hx rfl rfl a0.1 (mt_X9_isKept a0 z) (lw_V q2167 q2169 qs96 q129 q2170) hd_X9_isKept rfl ⟨Nat.le_of_ble_eq_true rfl, Nat.le_of_ble_eq_true rfl⟩ (Nat.le_of_ble_eq_true rfl) dX9_ofPeak_72) ⟨⟨rfl, rfl⟩, Nat.le_of_ble_eq_true rfl, Nat.le_of_ble_eq_true rfl⟩ fun v16 w17 e18 => ?_
        refine J.if_eq (tgt := 86) hx dX9_ofPeak_75 (by decide) ?_ ?_
        · refine J.iconst (v := 0) hx dX9_ofPeak_86 (by decide) ?_
          exact J.iret hx rfl (Nat.le_of_ble_eq_true rfl) (Nat.le_of_ble_eq_true rfl) dX9_ofPeak_87
        · refine J.aload_n hx dX9_ofPeak_78 rfl 0 rfl ?_
          refine J.iload_n hx dX9_ofPeak_79 rfl 1 rfl ?_
          refine J.calli hx (fun r z1 z => j_callV (κ := 1) hx rfl rfl a0.1 (mt_X9_areaOf a0 z) (lw_V q2195 q2197 qs102 q129 q2198) hd_X9_areaOf rfl ⟨Nat.le_of_ble_eq_true rfl, Nat.le_of_ble_eq_true rfl⟩ (Nat.le_of_ble_eq_true rfl) dX9_ofPeak_80) ⟨⟨rfl, rfl⟩, Nat.le_of_ble_eq_true rfl, Nat.le_of_ble_eq_true rfl⟩ fun v19 w20 e21 => ?_
          refine J.goto (tgt := 87) hx dX9_ofPeak_83 (by decide) ?_
          exact J.iret hx rfl (Nat.le_of_ble_eq_true rfl) (Nat.le_of_ble_eq_true rfl) dX9_ofPeak_87
theorem hd_X9_added : yX9_added.cls = RX9 ∧ yX9_added.cls ≠ "java/lang/invoke/MethodHandle" ∧ yX9_added.cls ≠ "java/lang/invoke/VarHandle" ∧ (parseMethodDescriptor yX9_added.desc).map (fun d => d.parameters.length) = some 1 := by decide +kernel
def f_X9_added_L4 (p1 : Int32)  : Nat → Int32 → Int32 → j_St → Option (Int32 × j_St)
  | 0, _, _, _ => none
  | n4 + 1, v1, v2, w3 => jlt (jgi w3 1 0 35) fun v4 => if v4 ≤ v2 then some (v1, w3) else jcb (f_X9_ofPeak v2 p1 w3) fun v5 w6 => jlt (v1 + v5) fun v8 => jlt (v2 + 1) fun v9 => f_X9_added_L4 p1 n4 v8 v9 w6
def f_X9_added (p1 : Int32) (w : j_St) : Option (Int32 × j_St) := f_X9_added_L4 p1 jFU 0 0 w
abbrev rm_X9_added : Room := { frames := 5, cells := 0, slots := 0, locals := 113 }
set_option maxRecDepth 100000 in
set_option maxHeartbeats 4000000 in
theorem mt_X9_added {g : j_G} {B : j_B} {p1 : Int32} {w w' : j_St} (a0 : B.2.1 1 0 ∧ B.2.2 1 0) {r : Int32} (h : f_X9_added p1 w = some (r, w')) : j_M g yX9_added cX9_added 4 (some FieldType.int) rm_X9_added B [.ref (B.1 1 0), .int p1] w w' (jri r) := by
  refine j_met (rv := jri) (by decide) (Nat.le_of_ble_eq_true rfl) (fun x hx => ?_) h
  unfold f_X9_added
  refine J.sub (lv' := [(0, .ref (B.1 1 0)), (1, .int p1)]) [0, 1] rfl ?_
  refine J.iconst (v := 0) hx dX9_added_0 (by decide) ?_
  refine J.istore_n (lv' := [(2, .int 0), (0, .ref (B.1 1 0)), (1, .int p1)]) hx dX9_added_1 rfl (by decide) rfl ?_
  refine J.iconst (v := 0) hx dX9_added_2 (by decide) ?_
  refine J.istore_n (lv' := [(3, .int 0), (2, .int 0), (0, .ref (B.1 1 0)), (1, .int p1)]) hx dX9_added_3 rfl (by decide) rfl ?_
  have hL4 : ∀ (n4 : Nat) (v1 : Int32) (v2 : Int32) (w3 : j_St), J g x 4 B (j_Q g x B rm_X9_added jri) 0 0 (f_X9_added_L4 p1 n4 v1 v2 w3) 4 [(0, .ref (B.1 1 0)), (1, .int p1), (2, .int v1), (3, .int v2)] [] w3 := by
    intro n4
    induction n4 with
    | zero =>
      intro v1 v2 w3
      rw [f_X9_added_L4]
      exact J.nne
    | succ n4 ih =>
      intro v1 v2 w3
      rw [f_X9_added_L4]
      refine J.iload_n hx dX9_added_4 rfl 3 rfl ?_
      refine J.aload_n hx dX9_added_5 rfl 0 rfl ?_
      refine J.geti (κ := 1) (k := 35) hx rfl rfl rfl in_X9 (by decide) (Or.inl q1688) a0.1 dX9_added_6 fun v4 => ?_
      refine J.icmp_ge (tgt := 27) hx dX9_added_9 (by decide) ?_ ?_
      · refine J.iload_n hx dX9_added_27 rfl 2 rfl ?_
        exact J.iret hx rfl (Nat.le_of_ble_eq_true rfl) (Nat.le_of_ble_eq_true rfl) dX9_added_28
      · refine J.iload_n hx dX9_added_12 rfl 2 rfl ?_
        refine J.aload_n hx dX9_added_13 rfl 0 rfl ?_
        refine J.iload_n hx dX9_added_14 rfl 3 rfl ?_
        refine J.iload_n hx dX9_added_15 rfl 1 rfl ?_
        refine J.calli hx (fun r z1 z => j_callV (κ := 1) hx rfl rfl a0.1 (mt_X9_ofPeak a0 z) (lw_V q2336 q2338 qs118 q129 q2339) hd_X9_ofPeak rfl ⟨Nat.le_of_ble_eq_true rfl, Nat.le_of_ble_eq_true rfl⟩ (Nat.le_of_ble_eq_true rfl) dX9_added_16) ⟨⟨rfl, rfl⟩, Nat.le_of_ble_eq_true rfl, Nat.le_of_ble_eq_true rfl⟩ fun v5 w6 e7 => ?_
        refine J.iadd hx dX9_added_19 ?_
        refine J.nmi fun v8 => ?_
        refine J.istore_n (lv' := [(2, .int v8), (0, .ref (B.1 1 0)), (1, .int p1), (3, .int v2)]) hx dX9_added_20 rfl (by decide) rfl ?_
        refine J.nmx fun v9 ev9 => ?_
        refine J.iinc (p := 3) (v := v9) (lv' := [(3, .int v9), (2, .int v8), (0, .ref (B.1 1 0)), (1, .int p1)]) hx dX9_added_21 rfl (by rw [ev9]; rfl) (by decide) rfl ?_
        refine J.goto (tgt := 4) hx dX9_added_24 (by decide) ?_
        exact J.sub [2, 3, 1, 0] rfl (ih v8 v9 w6)
  refine J.sub [2, 3, 1, 0] rfl (hL4 jFU 0 0 w)
theorem hd_X9_most : yX9_most.cls = RX9 ∧ yX9_most.cls ≠ "java/lang/invoke/MethodHandle" ∧ yX9_most.cls ≠ "java/lang/invoke/VarHandle" ∧ (parseMethodDescriptor yX9_most.desc).map (fun d => d.parameters.length) = some 1 := by decide +kernel
def f_X9_most (p1 : Int32) (w : j_St) : Option (Int32 × j_St) := jlt (jgi w 1 0 29) fun v1 => if v1 = 0 then some ((-1000000), w) else jcb (f_X9_in p1 0 7 w) fun v2 w3 => if v2 = 0 then some ((-1000000), w3) else jcb (f_X9_finds w3) fun _ w6 => if p1 = 4 then jcb (f_X9_lastGeneration w6) fun v8 w9 => some (v8, w9) else if p1 = 5 then jcb (f_X9_matched w6) fun v11 w12 => some (v11, w12) else if p1 = 6 then jcb (f_X9_widest w6) fun v14 w15 => some (v14, w15) else if p1 = 7 then jcb (f_X9_greatest w6) fun v17 w18 => some (v17, w18) else jcb (f_X9_added p1 w6) fun v20 w21 => some (v20, w21)
abbrev rm_X9_most : Room := { frames := 6, cells := 0, slots := 0, locals := 136 }
set_option maxRecDepth 100000 in
set_option maxHeartbeats 4000000 in
theorem mt_X9_most {g : j_G} {B : j_B} {p1 : Int32} {w w' : j_St} (a0 : B.2.1 1 0 ∧ B.2.2 1 0) {r : Int32} (h : f_X9_most p1 w = some (r, w')) : j_M g yX9_most cX9_most 2 (some FieldType.int) rm_X9_most B [.ref (B.1 1 0), .int p1] w w' (jri r) := by
  refine j_met (rv := jri) (by decide) (Nat.le_of_ble_eq_true rfl) (fun x hx => ?_) h
  unfold f_X9_most
  refine J.sub (lv' := [(0, .ref (B.1 1 0)), (1, .int p1)]) [0, 1] rfl ?_
  refine J.aload_n hx dX9_most_0 rfl 0 rfl ?_
  refine J.geti (κ := 1) (k := 29) hx rfl rfl rfl in_X9 (by decide) (Or.inl q1682) a0.1 dX9_most_1 fun v1 => ?_
  refine J.if_eq (tgt := 17) hx dX9_most_4 (by decide) ?_ ?_
  · refine J.ldc (v := (-1000000)) hx q1929 dX9_most_17 ?_
    exact J.iret hx rfl (Nat.le_of_ble_eq_true rfl) (Nat.le_of_ble_eq_true rfl) dX9_most_19
  · refine J.iload_n hx dX9_most_7 rfl 1 rfl ?_
    refine J.iconst (v := 0) hx dX9_most_8 (by decide) ?_
    refine J.bipush (v := 7) hx dX9_most_9 (by decide) ?_
    refine J.calli hx (fun r z1 z => j_callS hx (mt_X9_in z) (lw_S q1826 q1827 q129 q1828) hd_X9_in.2 rfl ⟨Nat.le_of_ble_eq_true rfl, Nat.le_of_ble_eq_true rfl⟩ (Nat.le_of_ble_eq_true rfl) dX9_most_11) ⟨⟨rfl, rfl⟩, Nat.le_of_ble_eq_true rfl, Nat.le_of_ble_eq_true rfl⟩ fun v2 w3 e4 => ?_
    refine J.if_ne (tgt := 20) hx dX9_most_14 (by decide) ?_ ?_
    · refine J.ldc (v := (-1000000)) hx q1929 dX9_most_17 ?_
      exact J.iret hx rfl (Nat.le_of_ble_eq_true rfl) (Nat.le_of_ble_eq_true rfl) dX9_most_19
    · refine J.aload_n hx dX9_most_20 rfl 0 rfl ?_
      refine J.callv hx (fun r z1 z => j_callV (κ := 1) hx rfl rfl a0.1 (mt_X9_finds a0 z) (lw_V q1990 q1992 qs69 q129 q1993) hd_X9_finds rfl ⟨Nat.le_of_ble_eq_true rfl, Nat.le_of_ble_eq_true rfl⟩ (Nat.le_of_ble_eq_true rfl) dX9_most_21) ⟨⟨rfl, rfl⟩, Nat.le_of_ble_eq_true rfl, Nat.le_of_ble_eq_true rfl⟩ fun _ w6 e7 => ?_
      refine J.iload_n hx dX9_most_24 rfl 1 rfl ?_
      refine J.ite (fun e4 => ?_) (fun n4 => ?_)
      · refine J.tsw (off := 31) (tgt := 56) hx dX9_most_25 (by rw [e4]; decide) (by rw [e4]; decide) (by rw [e4]; rfl) (by decide) ?_
        refine J.aload_n hx dX9_most_56 rfl 0 rfl ?_
        refine J.calli hx (fun r z1 z => j_callV (κ := 1) hx rfl rfl a0.1 (mt_X9_lastGeneration a0 z) (lw_V q2324 q2326 qs115 q129 q2327) hd_X9_lastGeneration rfl ⟨Nat.le_of_ble_eq_true rfl, Nat.le_of_ble_eq_true rfl⟩ (Nat.le_of_ble_eq_true rfl) dX9_most_57) ⟨⟨rfl, rfl⟩, Nat.le_of_ble_eq_true rfl, Nat.le_of_ble_eq_true rfl⟩ fun v8 w9 e10 => ?_
        exact J.iret hx rfl (Nat.le_of_ble_eq_true rfl) (Nat.le_of_ble_eq_true rfl) dX9_most_60
      · refine J.ite (fun e5 => ?_) (fun n5 => ?_)
        · refine J.tsw (off := 36) (tgt := 61) hx dX9_most_25 (by rw [e5]; decide) (by rw [e5]; decide) (by rw [e5]; rfl) (by decide) ?_
          refine J.aload_n hx dX9_most_61 rfl 0 rfl ?_
          refine J.calli hx (fun r z1 z => j_callV (κ := 1) hx rfl rfl a0.1 (mt_X9_matched a0 z) (lw_V q2259 q2261 qs108 q129 q2262) hd_X9_matched rfl ⟨Nat.le_of_ble_eq_true rfl, Nat.le_of_ble_eq_true rfl⟩ (Nat.le_of_ble_eq_true rfl) dX9_most_62) ⟨⟨rfl, rfl⟩, Nat.le_of_ble_eq_true rfl, Nat.le_of_ble_eq_true rfl⟩ fun v11 w12 e13 => ?_
          exact J.iret hx rfl (Nat.le_of_ble_eq_true rfl) (Nat.le_of_ble_eq_true rfl) dX9_most_65
        · refine J.ite (fun e6 => ?_) (fun n6 => ?_)
          · refine J.tsw (off := 41) (tgt := 66) hx dX9_most_25 (by rw [e6]; decide) (by rw [e6]; decide) (by rw [e6]; rfl) (by decide) ?_
            refine J.aload_n hx dX9_most_66 rfl 0 rfl ?_
            refine J.calli hx (fun r z1 z => j_callV (κ := 1) hx rfl rfl a0.1 (mt_X9_widest a0 z) (lw_V q2328 q2330 qs116 q129 q2331) hd_X9_widest rfl ⟨Nat.le_of_ble_eq_true rfl, Nat.le_of_ble_eq_true rfl⟩ (Nat.le_of_ble_eq_true rfl) dX9_most_67) ⟨⟨rfl, rfl⟩, Nat.le_of_ble_eq_true rfl, Nat.le_of_ble_eq_true rfl⟩ fun v14 w15 e16 => ?_
            exact J.iret hx rfl (Nat.le_of_ble_eq_true rfl) (Nat.le_of_ble_eq_true rfl) dX9_most_70
          · refine J.ite (fun e7 => ?_) (fun n7 => ?_)
            · refine J.tsw (off := 46) (tgt := 71) hx dX9_most_25 (by rw [e7]; decide) (by rw [e7]; decide) (by rw [e7]; rfl) (by decide) ?_
              refine J.aload_n hx dX9_most_71 rfl 0 rfl ?_
              refine J.calli hx (fun r z1 z => j_callV (κ := 1) hx rfl rfl a0.1 (mt_X9_greatest a0 z) (lw_V q2061 q2063 qs86 q129 q2064) hd_X9_greatest rfl ⟨Nat.le_of_ble_eq_true rfl, Nat.le_of_ble_eq_true rfl⟩ (Nat.le_of_ble_eq_true rfl) dX9_most_72) ⟨⟨rfl, rfl⟩, Nat.le_of_ble_eq_true rfl, Nat.le_of_ble_eq_true rfl⟩ fun v17 w18 e19 => ?_
              exact J.iret hx rfl (Nat.le_of_ble_eq_true rfl) (Nat.le_of_ble_eq_true rfl) dX9_most_75
            · have z4 := j_neT n4 (a := 4) (by decide)
              have z5 := j_neT n5 (a := 5) (by decide)
              have z6 := j_neT n6 (a := 6) (by decide)
              have z7 := j_neT n7 (a := 7) (by decide)
              refine J.tswD (tgt := 76) hx dX9_most_25 (by omega) (by decide) ?_
              refine J.aload_n hx dX9_most_76 rfl 0 rfl ?_
              refine J.iload_n hx dX9_most_77 rfl 1 rfl ?_
              refine J.calli hx (fun r z1 z => j_callV (κ := 1) hx rfl rfl a0.1 (mt_X9_added a0 z) (lw_V q2332 q2334 qs117 q129 q2335) hd_X9_added rfl ⟨Nat.le_of_ble_eq_true rfl, Nat.le_of_ble_eq_true rfl⟩ (Nat.le_of_ble_eq_true rfl) dX9_most_78) ⟨⟨rfl, rfl⟩, Nat.le_of_ble_eq_true rfl, Nat.le_of_ble_eq_true rfl⟩ fun v20 w21 e22 => ?_
              exact J.iret hx rfl (Nat.le_of_ble_eq_true rfl) (Nat.le_of_ble_eq_true rfl) dX9_most_81
theorem hd_X9_held : yX9_held.cls = RX9 ∧ yX9_held.cls ≠ "java/lang/invoke/MethodHandle" ∧ yX9_held.cls ≠ "java/lang/invoke/VarHandle" ∧ (parseMethodDescriptor yX9_held.desc).map (fun d => d.parameters.length) = some 1 := by decide +kernel
def f_X9_held (p1 : Int32) (w : j_St) : Option (Int32 × j_St) := if p1 = 0 then jcb (f_X9_many w) fun v1 w2 => some (v1, w2) else if p1 = 1 then jlt (jgi w 1 0 21) fun v4 => some (v4, w) else if p1 = 2 then jlt (jgi w 1 0 2) fun v5 => some (v5, w) else if p1 = 3 then jbd 50 231 fun a7 => jlt (jgi w 47 0 a7) fun v8 => some (v8, w) else if p1 = 4 then jlt (jgi w 1 0 44) fun v9 => some (v9, w) else some ((-1000000), w)
abbrev rm_X9_held : Room := { frames := 1, cells := 0, slots := 0, locals := 20 }
set_option maxRecDepth 100000 in
set_option maxHeartbeats 4000000 in
theorem mt_X9_held {g : j_G} {B : j_B} {p1 : Int32} {w w' : j_St} (a0 : B.2.1 1 0 ∧ B.2.2 1 0) {r : Int32} (h : f_X9_held p1 w = some (r, w')) : j_M g yX9_held cX9_held 2 (some FieldType.int) rm_X9_held B [.ref (B.1 1 0), .int p1] w w' (jri r) := by
  refine j_met (rv := jri) (by decide) (Nat.le_of_ble_eq_true rfl) (fun x hx => ?_) h
  unfold f_X9_held
  refine J.sub (lv' := [(0, .ref (B.1 1 0)), (1, .int p1)]) [0, 1] rfl ?_
  refine J.iload_n hx dX9_held_0 rfl 1 rfl ?_
  refine J.ite (fun e0 => ?_) (fun n0 => ?_)
  · refine J.tsw (off := 35) (tgt := 36) hx dX9_held_1 (by rw [e0]; decide) (by rw [e0]; decide) (by rw [e0]; rfl) (by decide) ?_
    refine J.aload_n hx dX9_held_36 rfl 0 rfl ?_
    refine J.calli hx (fun r z1 z => j_callV (κ := 1) hx rfl rfl a0.1 (mt_X9_many a0 z) (lw_V q1941 q1943 qs59 q129 q1944) hd_X9_many rfl ⟨Nat.le_of_ble_eq_true rfl, Nat.le_of_ble_eq_true rfl⟩ (Nat.le_of_ble_eq_true rfl) dX9_held_37) ⟨⟨rfl, rfl⟩, Nat.le_of_ble_eq_true rfl, Nat.le_of_ble_eq_true rfl⟩ fun v1 w2 e3 => ?_
    exact J.iret hx rfl (Nat.le_of_ble_eq_true rfl) (Nat.le_of_ble_eq_true rfl) dX9_held_40
  · refine J.ite (fun e1 => ?_) (fun n1 => ?_)
    · refine J.tsw (off := 40) (tgt := 41) hx dX9_held_1 (by rw [e1]; decide) (by rw [e1]; decide) (by rw [e1]; rfl) (by decide) ?_
      refine J.aload_n hx dX9_held_41 rfl 0 rfl ?_
      refine J.geti (κ := 1) (k := 21) hx rfl rfl rfl in_X9 (by decide) (Or.inl q1674) a0.1 dX9_held_42 fun v4 => ?_
      exact J.iret hx rfl (Nat.le_of_ble_eq_true rfl) (Nat.le_of_ble_eq_true rfl) dX9_held_45
    · refine J.ite (fun e2 => ?_) (fun n2 => ?_)
      · refine J.tsw (off := 45) (tgt := 46) hx dX9_held_1 (by rw [e2]; decide) (by rw [e2]; decide) (by rw [e2]; rfl) (by decide) ?_
        refine J.aload_n hx dX9_held_46 rfl 0 rfl ?_
        refine J.geti (κ := 1) (k := 2) hx rfl rfl rfl in_X9 (by decide) (Or.inl q1655) a0.1 dX9_held_47 fun v5 => ?_
        exact J.iret hx rfl (Nat.le_of_ble_eq_true rfl) (Nat.le_of_ble_eq_true rfl) dX9_held_50
      · refine J.ite (fun e3 => ?_) (fun n3 => ?_)
        · refine J.tsw (off := 50) (tgt := 51) hx dX9_held_1 (by rw [e3]; decide) (by rw [e3]; decide) (by rw [e3]; rfl) (by decide) ?_
          refine J.aload_n hx dX9_held_51 rfl 0 rfl ?_
          refine J.getc (κ' := 47) (i' := 0) (κ := 1) (k := 22) hx rfl rfl rfl rfl rfl in_X9 (by decide) (Or.inl q1675) a0.2 dX9_held_52 fun h6 => ?_
          refine J.bipush (v := 50) hx dX9_held_55 (by decide) ?_
          refine J.iald (κ := 47) hx rfl rfl h6.1 dX9_held_57 fun v8 => ?_
          exact J.iret hx rfl (Nat.le_of_ble_eq_true rfl) (Nat.le_of_ble_eq_true rfl) dX9_held_58
        · refine J.ite (fun e4 => ?_) (fun n4 => ?_)
          · refine J.tsw (off := 58) (tgt := 59) hx dX9_held_1 (by rw [e4]; decide) (by rw [e4]; decide) (by rw [e4]; rfl) (by decide) ?_
            refine J.aload_n hx dX9_held_59 rfl 0 rfl ?_
            refine J.geti (κ := 1) (k := 44) hx rfl rfl rfl in_X9 (by decide) (Or.inl q1697) a0.1 dX9_held_60 fun v9 => ?_
            exact J.iret hx rfl (Nat.le_of_ble_eq_true rfl) (Nat.le_of_ble_eq_true rfl) dX9_held_63
          · have z0 := j_neT n0 (a := 0) (by decide)
            have z1 := j_neT n1 (a := 1) (by decide)
            have z2 := j_neT n2 (a := 2) (by decide)
            have z3 := j_neT n3 (a := 3) (by decide)
            have z4 := j_neT n4 (a := 4) (by decide)
            refine J.tswD (tgt := 64) hx dX9_held_1 (by omega) (by decide) ?_
            refine J.ldc (v := (-1000000)) hx q1929 dX9_held_64 ?_
            exact J.iret hx rfl (Nat.le_of_ble_eq_true rfl) (Nat.le_of_ble_eq_true rfl) dX9_held_66
