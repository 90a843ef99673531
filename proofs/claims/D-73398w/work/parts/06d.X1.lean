theorem hd_X1_bytes : yX1_bytes.cls = RX1 ∧ yX1_bytes.cls ≠ "java/lang/invoke/MethodHandle" ∧ yX1_bytes.cls ≠ "java/lang/invoke/VarHandle" ∧ (parseMethodDescriptor yX1_bytes.desc).map (fun d => d.parameters.length) = some 1 := by decide +kernel
def f_X1_bytes_L5 (p0 : Int32)  : Nat → Int32 → Int32 → j_St → Option (Int32 × j_St)
  | 0, _, _, _ => none
  | n5 + 1, v1, v2, w3 => if v2 < 0 then some (v1, w3) else jlt (fun (v4 : Int32) (w5 : j_St) => jlt (v1 + v4) fun v6 => jlt (v2 + (-8)) fun v7 => f_X1_bytes_L5 p0 n5 v6 v7 w5) fun K25 => if (p0 >>> (v2 &&& 31)) &&& 255 = 0 then K25 0 w3 else K25 1 w3
def f_X1_bytes (p0 : Int32) (w : j_St) : Option (Int32 × j_St) := f_X1_bytes_L5 p0 jFU 0 24 w
abbrev rm_X1_bytes : Room := { frames := 0, cells := 0, slots := 0, locals := 0 }
set_option maxRecDepth 100000 in
set_option maxHeartbeats 4000000 in
theorem mt_X1_bytes {g : j_G} {B : j_B} {p0 : Int32} {w w' : j_St}  {r : Int32} (h : f_X1_bytes p0 w = some (r, w')) : j_M g yX1_bytes cX1_bytes 3 (some FieldType.int) rm_X1_bytes B [.int p0] w w' (jri r) := by
  refine j_met (rv := jri) (by decide) (Nat.le_of_ble_eq_true rfl) (fun x hx => ?_) h
  unfold f_X1_bytes
  refine J.sub (lv' := [(0, .int p0)]) [0] rfl ?_
  refine J.iconst (v := 0) hx dX1_bytes_0 (by decide) ?_
  refine J.istore_n (lv' := [(1, .int 0), (0, .int p0)]) hx dX1_bytes_1 rfl (by decide) rfl ?_
  refine J.bipush (v := 24) hx dX1_bytes_2 (by decide) ?_
  refine J.istore_n (lv' := [(2, .int 24), (1, .int 0), (0, .int p0)]) hx dX1_bytes_4 rfl (by decide) rfl ?_
  have hL5 : ∀ (n5 : Nat) (v1 : Int32) (v2 : Int32) (w3 : j_St), J g x 3 B (j_Q g x B rm_X1_bytes jri) 0 0 (f_X1_bytes_L5 p0 n5 v1 v2 w3) 5 [(0, .int p0), (1, .int v1), (2, .int v2)] [] w3 := by
    intro n5
    induction n5 with
    | zero =>
      intro v1 v2 w3
      rw [f_X1_bytes_L5]
      exact J.nne
    | succ n5 ih =>
      intro v1 v2 w3
      rw [f_X1_bytes_L5]
      refine J.iload_n hx dX1_bytes_5 rfl 2 rfl ?_
      refine J.if_lt (tgt := 33) hx dX1_bytes_6 (by decide) ?_ ?_
      · refine J.iload_n hx dX1_bytes_33 rfl 1 rfl ?_
        exact J.iret hx rfl (Nat.le_of_ble_eq_true rfl) (Nat.le_of_ble_eq_true rfl) dX1_bytes_34
      · refine J.iload_n hx dX1_bytes_9 rfl 1 rfl ?_
        refine J.iload_n hx dX1_bytes_10 rfl 0 rfl ?_
        refine J.iload_n hx dX1_bytes_11 rfl 2 rfl ?_
        refine J.ishr hx dX1_bytes_12 ?_
        refine J.sipush (v := 255) hx dX1_bytes_13 (by decide) ?_
        refine J.iand hx dX1_bytes_16 ?_
        refine J.fn (fun (K25 : Int32 → j_St → Option (Int32 × j_St)) => ∀ (v4 : Int32) (w5 : j_St), J g x 3 B (j_Q g x B rm_X1_bytes jri) 0 0 (K25 v4 w5) 25 [(0, .int p0), (2, .int v2)] [.int v4, .int v1] w5) ?_ ?_
        · intro v4 w5
          refine J.iadd hx dX1_bytes_25 ?_
          refine J.nmi fun v6 => ?_
          refine J.istore_n (lv' := [(1, .int v6), (0, .int p0), (2, .int v2)]) hx dX1_bytes_26 rfl (by decide) rfl ?_
          refine J.nmx fun v7 ev7 => ?_
          refine J.iinc (p := 2) (v := v7) (lv' := [(2, .int v7), (1, .int v6), (0, .int p0)]) hx dX1_bytes_27 rfl (by rw [ev7]; rfl) (by decide) rfl ?_
          refine J.goto (tgt := 5) hx dX1_bytes_30 (by decide) ?_
          exact J.sub [2, 1, 0] rfl (ih v6 v7 w5)
        · intro K25 hK25
          refine J.if_eq (tgt := 24) hx dX1_bytes_17 (by decide) ?_ ?_
          · refine J.iconst (v := 0) hx dX1_bytes_24 (by decide) ?_
            exact J.sub [0, 2] rfl (hK25 0 w3)
          · refine J.iconst (v := 1) hx dX1_bytes_20 (by decide) ?_
            refine J.goto (tgt := 25) hx dX1_bytes_21 (by decide) ?_
            exact J.sub [0, 2] rfl (hK25 1 w3)
  refine J.sub [2, 1, 0] rfl (hL5 jFU 0 24 w)
theorem hd_X1_bring : yX1_bring.cls = RX1 ∧ yX1_bring.cls ≠ "java/lang/invoke/MethodHandle" ∧ yX1_bring.cls ≠ "java/lang/invoke/VarHandle" ∧ (parseMethodDescriptor yX1_bring.desc).map (fun d => d.parameters.length) = some 1 := by decide +kernel
def f_X1_bring_L3 (p1 : Int32)  : Nat → Int32 → j_St → Option (Unit × j_St)
  | 0, _, _ => none
  | n3 + 1, v1, w2 => if v1 < 0 then some ((), w2) else jlt (fun (w9 : j_St) => jlt (v1 + (-8)) fun v10 => f_X1_bring_L3 p1 n3 v10 w9) fun K43 => if (p1 >>> (v1 &&& 31)) &&& 255 = 0 then K43 w2 else jlt (jgi w2 0 0 3) fun v4 => jbd v4 400 fun a6 => jlt (jsi w2 20 0 a6 ((p1 >>> (v1 &&& 31)).toInt8.toInt32).toInt8.toInt32) fun w5 => jlt (jgi w5 0 0 3) fun v7 => jlt (jsi w5 0 0 3 (v7 + 1)) fun w8 => K43 w8
def f_X1_bring (p1 : Int32) (w : j_St) : Option (Unit × j_St) := f_X1_bring_L3 p1 jFU 24 w
abbrev rm_X1_bring : Room := { frames := 0, cells := 0, slots := 0, locals := 0 }
set_option maxRecDepth 100000 in
set_option maxHeartbeats 4000000 in
theorem mt_X1_bring {g : j_G} {B : j_B} {p1 : Int32} {w w' : j_St} (a0 : B.2.1 0 0 ∧ B.2.2 0 0) {r : Unit} (h : f_X1_bring p1 w = some (r, w')) : j_M g yX1_bring cX1_bring 3 none rm_X1_bring B [.ref (B.1 0 0), .int p1] w w' (jrv r) := by
  refine j_met (rv := jrv) (by decide) (Nat.le_of_ble_eq_true rfl) (fun x hx => ?_) h
  unfold f_X1_bring
  refine J.sub (lv' := [(0, .ref (B.1 0 0)), (1, .int p1)]) [0, 1] rfl ?_
  refine J.bipush (v := 24) hx dX1_bring_0 (by decide) ?_
  refine J.istore_n (lv' := [(2, .int 24), (0, .ref (B.1 0 0)), (1, .int p1)]) hx dX1_bring_2 rfl (by decide) rfl ?_
  have hL3 : ∀ (n3 : Nat) (v1 : Int32) (w2 : j_St), J g x 3 B (j_Q g x B rm_X1_bring jrv) 0 0 (f_X1_bring_L3 p1 n3 v1 w2) 3 [(0, .ref (B.1 0 0)), (1, .int p1), (2, .int v1)] [] w2 := by
    intro n3
    induction n3 with
    | zero =>
      intro v1 w2
      rw [f_X1_bring_L3]
      exact J.nne
    | succ n3 ih =>
      intro v1 w2
      rw [f_X1_bring_L3]
      refine J.iload_n hx dX1_bring_3 rfl 2 rfl ?_
      refine J.if_lt (tgt := 49) hx dX1_bring_4 (by decide) ?_ ?_
      · exact J.vret hx rfl (Nat.le_of_ble_eq_true rfl) (Nat.le_of_ble_eq_true rfl) dX1_bring_49
      · refine J.iload_n hx dX1_bring_7 rfl 1 rfl ?_
        refine J.iload_n hx dX1_bring_8 rfl 2 rfl ?_
        refine J.ishr hx dX1_bring_9 ?_
        refine J.sipush (v := 255) hx dX1_bring_10 (by decide) ?_
        refine J.iand hx dX1_bring_13 ?_
        refine J.fn (fun (K43 : j_St → Option (Unit × j_St)) => ∀  (w9 : j_St), J g x 3 B (j_Q g x B rm_X1_bring jrv) 0 0 (K43 w9) 43 [(0, .ref (B.1 0 0)), (1, .int p1), (2, .int v1)] [] w9) ?_ ?_
        · intro w9
          refine J.nmx fun v10 ev10 => ?_
          refine J.iinc (p := 2) (v := v10) (lv' := [(2, .int v10), (0, .ref (B.1 0 0)), (1, .int p1)]) hx dX1_bring_43 rfl (by rw [ev10]; rfl) (by decide) rfl ?_
          refine J.goto (tgt := 3) hx dX1_bring_46 (by decide) ?_
          exact J.sub [1, 2, 0] rfl (ih v10 w9)
        · intro K43 hK43
          refine J.if_ne (tgt := 20) hx dX1_bring_14 (by decide) ?_ ?_
          · refine J.goto (tgt := 43) hx dX1_bring_17 (by decide) ?_
            exact J.sub [0, 1, 2] rfl (hK43 w2)
          · refine J.aload_n hx dX1_bring_20 rfl 0 rfl ?_
            refine J.getc (κ' := 20) (i' := 0) (κ := 0) (k := 2) hx rfl rfl rfl rfl rfl in_X1 (by decide) (Or.inl q368) a0.2 dX1_bring_21 fun h3 => ?_
            refine J.aload_n hx dX1_bring_24 rfl 0 rfl ?_
            refine J.geti (κ := 0) (k := 3) hx rfl rfl rfl in_X1 (by decide) (Or.inl q370) a0.1 dX1_bring_25 fun v4 => ?_
            refine J.iload_n hx dX1_bring_28 rfl 1 rfl ?_
            refine J.iload_n hx dX1_bring_29 rfl 2 rfl ?_
            refine J.ishr hx dX1_bring_30 ?_
            refine J.i2b hx dX1_bring_31 ?_
            refine J.bast (κ := 20) hx rfl rfl rfl h3.1 dX1_bring_32 fun w5 => ?_
            refine J.aload_n hx dX1_bring_33 rfl 0 rfl ?_
            refine J.dup hx dX1_bring_34 rfl ?_
            refine J.geti (κ := 0) (k := 3) hx rfl rfl rfl in_X1 (by decide) (Or.inl q370) a0.1 dX1_bring_35 fun v7 => ?_
            refine J.iconst (v := 1) hx dX1_bring_38 (by decide) ?_
            refine J.iadd hx dX1_bring_39 ?_
            refine J.puti (κ := 0) (k := 3) hx rfl rfl rfl in_X1 tyX1_ok nmX1 (by decide) (Or.inl q370) rfl rfl a0.1 ⟨rfl, rfl⟩ dX1_bring_40 fun w8 => ?_
            exact J.sub [0, 1, 2] rfl (hK43 w8)
  refine J.sub [1, 2, 0] rfl (hL3 jFU 24 w)
theorem hd_X1_feed : yX1_feed.cls = RX1 ∧ yX1_feed.cls ≠ "java/lang/invoke/MethodHandle" ∧ yX1_feed.cls ≠ "java/lang/invoke/VarHandle" ∧ (parseMethodDescriptor yX1_feed.desc).map (fun d => d.parameters.length) = some 5 := by decide +kernel
def f_X1_feed (p1 : Int32) (p2 : Int32) (p3 : Int32) (p4 : Int32) (p5 : Int32) (w : j_St) : Option (Int32 × j_St) := jcb (f_X1_bytes p1 w) fun v1 w2 => jcb (f_X1_bytes p2 w2) fun v4 w5 => jcb (f_X1_bytes p3 w5) fun v7 w8 => jcb (f_X1_bytes p4 w8) fun v10 w11 => jcb (f_X1_bytes p5 w11) fun v13 w14 => jlt ((((v1 + v4) + v7) + v10) + v13) fun v16 => jlt (jgi w14 0 0 3) fun v17 => if v17 + v16 ≤ 400 then jcb (f_X1_bring p1 w14) fun _ w19 => jcb (f_X1_bring p2 w19) fun _ w22 => jcb (f_X1_bring p3 w22) fun _ w25 => jcb (f_X1_bring p4 w25) fun _ w28 => jcb (f_X1_bring p5 w28) fun _ w31 => jlt (jgi w31 0 0 3) fun v33 => some (v33, w31) else some ((-1), w14)
abbrev rm_X1_feed : Room := { frames := 1, cells := 0, slots := 0, locals := 22 }
set_option maxRecDepth 100000 in
set_option maxHeartbeats 4000000 in
theorem mt_X1_feed {g : j_G} {B : j_B} {p1 : Int32} {p2 : Int32} {p3 : Int32} {p4 : Int32} {p5 : Int32} {w w' : j_St} (a0 : B.2.1 0 0 ∧ B.2.2 0 0) {r : Int32} (h : f_X1_feed p1 p2 p3 p4 p5 w = some (r, w')) : j_M g yX1_feed cX1_feed 7 (some FieldType.int) rm_X1_feed B [.ref (B.1 0 0), .int p1, .int p2, .int p3, .int p4, .int p5] w w' (jri r) := by
  refine j_met (rv := jri) (by decide) (Nat.le_of_ble_eq_true rfl) (fun x hx => ?_) h
  unfold f_X1_feed
  refine J.sub (lv' := [(0, .ref (B.1 0 0)), (1, .int p1), (2, .int p2), (3, .int p3), (4, .int p4), (5, .int p5)]) [0, 1, 2, 3, 4, 5] rfl ?_
  refine J.iload_n hx dX1_feed_0 rfl 1 rfl ?_
  refine J.calli hx (fun r z1 z => j_callS hx (mt_X1_bytes z) (lw_S q153 q154 q120 q155) hd_X1_bytes.2 rfl ⟨Nat.le_of_ble_eq_true rfl, Nat.le_of_ble_eq_true rfl⟩ (Nat.le_of_ble_eq_true rfl) dX1_feed_1) ⟨⟨rfl, rfl⟩, (Nat.le_of_ble_eq_true rfl), (Nat.le_of_ble_eq_true rfl)⟩ fun v1 w2 e3 => ?_
  refine J.iload_n hx dX1_feed_4 rfl 2 rfl ?_
  refine J.calli hx (fun r z1 z => j_callS hx (mt_X1_bytes z) (lw_S q153 q154 q120 q155) hd_X1_bytes.2 rfl ⟨Nat.le_of_ble_eq_true rfl, Nat.le_of_ble_eq_true rfl⟩ (Nat.le_of_ble_eq_true rfl) dX1_feed_5) ⟨⟨rfl, rfl⟩, (Nat.le_of_ble_eq_true rfl), (Nat.le_of_ble_eq_true rfl)⟩ fun v4 w5 e6 => ?_
  refine J.iadd hx dX1_feed_8 ?_
  refine J.iload_n hx dX1_feed_9 rfl 3 rfl ?_
  refine J.calli hx (fun r z1 z => j_callS hx (mt_X1_bytes z) (lw_S q153 q154 q120 q155) hd_X1_bytes.2 rfl ⟨Nat.le_of_ble_eq_true rfl, Nat.le_of_ble_eq_true rfl⟩ (Nat.le_of_ble_eq_true rfl) dX1_feed_10) ⟨⟨rfl, rfl⟩, (Nat.le_of_ble_eq_true rfl), (Nat.le_of_ble_eq_true rfl)⟩ fun v7 w8 e9 => ?_
  refine J.iadd hx dX1_feed_13 ?_
  refine J.iload hx dX1_feed_14 4 rfl ?_
  refine J.calli hx (fun r z1 z => j_callS hx (mt_X1_bytes z) (lw_S q153 q154 q120 q155) hd_X1_bytes.2 rfl ⟨Nat.le_of_ble_eq_true rfl, Nat.le_of_ble_eq_true rfl⟩ (Nat.le_of_ble_eq_true rfl) dX1_feed_16) ⟨⟨rfl, rfl⟩, (Nat.le_of_ble_eq_true rfl), (Nat.le_of_ble_eq_true rfl)⟩ fun v10 w11 e12 => ?_
  refine J.iadd hx dX1_feed_19 ?_
  refine J.iload hx dX1_feed_20 5 rfl ?_
  refine J.calli hx (fun r z1 z => j_callS hx (mt_X1_bytes z) (lw_S q153 q154 q120 q155) hd_X1_bytes.2 rfl ⟨Nat.le_of_ble_eq_true rfl, Nat.le_of_ble_eq_true rfl⟩ (Nat.le_of_ble_eq_true rfl) dX1_feed_22) ⟨⟨rfl, rfl⟩, (Nat.le_of_ble_eq_true rfl), (Nat.le_of_ble_eq_true rfl)⟩ fun v13 w14 e15 => ?_
  refine J.iadd hx dX1_feed_25 ?_
  refine J.nmi fun v16 => ?_
  refine J.istore (lv' := [(6, .int v16), (0, .ref (B.1 0 0)), (1, .int p1), (2, .int p2), (3, .int p3), (4, .int p4), (5, .int p5)]) hx dX1_feed_26 (by decide) rfl ?_
  refine J.aload_n hx dX1_feed_28 rfl 1 rfl ?_
  refine J.geti (κ := 0) (k := 3) hx rfl rfl rfl in_X1 (by decide) (Or.inl q370) a0.1 dX1_feed_29 fun v17 => ?_
  refine J.iload hx dX1_feed_32 0 rfl ?_
  refine J.iadd hx dX1_feed_34 ?_
  refine J.sipush (v := 400) hx dX1_feed_35 (by decide) ?_
  refine J.icmp_le (tgt := 43) hx dX1_feed_38 (by decide) ?_ ?_
  · refine J.aload_n hx dX1_feed_43 rfl 1 rfl ?_
    refine J.iload_n hx dX1_feed_44 rfl 2 rfl ?_
    refine J.callv hx (fun r z1 z => j_callV (κ := 0) hx rfl rfl a0.1 (mt_X1_bring a0 z) (lw_V q156 q158 qs0 q120 q160) hd_X1_bring rfl ⟨Nat.le_of_ble_eq_true rfl, Nat.le_of_ble_eq_true rfl⟩ (Nat.le_of_ble_eq_true rfl) dX1_feed_45) ⟨⟨rfl, rfl⟩, (Nat.le_of_ble_eq_true rfl), (Nat.le_of_ble_eq_true rfl)⟩ fun _ w19 e20 => ?_
    refine J.aload_n hx dX1_feed_48 rfl 1 rfl ?_
    refine J.iload_n hx dX1_feed_49 rfl 3 rfl ?_
    refine J.callv hx (fun r z1 z => j_callV (κ := 0) hx rfl rfl a0.1 (mt_X1_bring a0 z) (lw_V q156 q158 qs0 q120 q160) hd_X1_bring rfl ⟨Nat.le_of_ble_eq_true rfl, Nat.le_of_ble_eq_true rfl⟩ (Nat.le_of_ble_eq_true rfl) dX1_feed_50) ⟨⟨rfl, rfl⟩, (Nat.le_of_ble_eq_true rfl), (Nat.le_of_ble_eq_true rfl)⟩ fun _ w22 e23 => ?_
    refine J.aload_n hx dX1_feed_53 rfl 1 rfl ?_
    refine J.iload_n hx dX1_feed_54 rfl 4 rfl ?_
    refine J.callv hx (fun r z1 z => j_callV (κ := 0) hx rfl rfl a0.1 (mt_X1_bring a0 z) (lw_V q156 q158 qs0 q120 q160) hd_X1_bring rfl ⟨Nat.le_of_ble_eq_true rfl, Nat.le_of_ble_eq_true rfl⟩ (Nat.le_of_ble_eq_true rfl) dX1_feed_55) ⟨⟨rfl, rfl⟩, (Nat.le_of_ble_eq_true rfl), (Nat.le_of_ble_eq_true rfl)⟩ fun _ w25 e26 => ?_
    refine J.aload_n hx dX1_feed_58 rfl 1 rfl ?_
    refine J.iload hx dX1_feed_59 5 rfl ?_
    refine J.callv hx (fun r z1 z => j_callV (κ := 0) hx rfl rfl a0.1 (mt_X1_bring a0 z) (lw_V q156 q158 qs0 q120 q160) hd_X1_bring rfl ⟨Nat.le_of_ble_eq_true rfl, Nat.le_of_ble_eq_true rfl⟩ (Nat.le_of_ble_eq_true rfl) dX1_feed_61) ⟨⟨rfl, rfl⟩, (Nat.le_of_ble_eq_true rfl), (Nat.le_of_ble_eq_true rfl)⟩ fun _ w28 e29 => ?_
    refine J.aload_n hx dX1_feed_64 rfl 1 rfl ?_
    refine J.iload hx dX1_feed_65 6 rfl ?_
    refine J.callv hx (fun r z1 z => j_callV (κ := 0) hx rfl rfl a0.1 (mt_X1_bring a0 z) (lw_V q156 q158 qs0 q120 q160) hd_X1_bring rfl ⟨Nat.le_of_ble_eq_true rfl, Nat.le_of_ble_eq_true rfl⟩ (Nat.le_of_ble_eq_true rfl) dX1_feed_67) ⟨⟨rfl, rfl⟩, (Nat.le_of_ble_eq_true rfl), (Nat.le_of_ble_eq_true rfl)⟩ fun _ w31 e32 => ?_
    refine J.aload_n hx dX1_feed_70 rfl 1 rfl ?_
    refine J.geti (κ := 0) (k := 3) hx rfl rfl rfl in_X1 (by decide) (Or.inl q370) a0.1 dX1_feed_71 fun v33 => ?_
    exact J.iret hx rfl (Nat.le_of_ble_eq_true rfl) (Nat.le_of_ble_eq_true rfl) dX1_feed_74
  · refine J.iconst (v := (-1)) hx dX1_feed_41 (by decide) ?_
    exact J.iret hx rfl (Nat.le_of_ble_eq_true rfl) (Nat.le_of_ble_eq_true rfl) dX1_feed_42
theorem hd_X1_end : yX1_end.cls = RX1 ∧ yX1_end.cls ≠ "java/lang/invoke/MethodHandle" ∧ yX1_end.cls ≠ "java/lang/invoke/VarHandle" ∧ (parseMethodDescriptor yX1_end.desc).map (fun d => d.parameters.length) = some 1 := by decide +kernel
def f_X1_end (p1 : Int32) (w : j_St) : Option (Int32 × j_St) := if p1 < 0 then some (0, w) else jlt (jgi w 0 0 3) fun v1 => if p1 ≤ v1 then jlt (jsi w 0 0 3 p1) fun w2 => some (1, w2) else some (0, w)
abbrev rm_X1_end : Room := { frames := 0, cells := 0, slots := 0, locals := 0 }
set_option maxRecDepth 100000 in
set_option maxHeartbeats 4000000 in
theorem mt_X1_end {g : j_G} {B : j_B} {p1 : Int32} {w w' : j_St} (a0 : B.2.1 0 0 ∧ B.2.2 0 0) {r : Int32} (h : f_X1_end p1 w = some (r, w')) : j_M g yX1_end cX1_end 2 (some FieldType.boolean) rm_X1_end B [.ref (B.1 0 0), .int p1] w w' (jri r) := by
  refine j_met (rv := jri) (by decide) (Nat.le_of_ble_eq_true rfl) (fun x hx => ?_) h
  unfold f_X1_end
  refine J.sub (lv' := [(0, .ref (B.1 0 0)), (1, .int p1)]) [0, 1] rfl ?_
  refine J.iload_n hx dX1_end_0 rfl 1 rfl ?_
  refine J.if_lt (tgt := 12) hx dX1_end_1 (by decide) ?_ ?_
  · refine J.iconst (v := 0) hx dX1_end_12 (by decide) ?_
    exact J.zret hx rfl rfl (Nat.le_of_ble_eq_true rfl) (Nat.le_of_ble_eq_true rfl) dX1_end_13
  · refine J.iload_n hx dX1_end_4 rfl 1 rfl ?_
    refine J.aload_n hx dX1_end_5 rfl 0 rfl ?_
    refine J.geti (κ := 0) (k := 3) hx rfl rfl rfl in_X1 (by decide) (Or.inl q370) a0.1 dX1_end_6 fun v1 => ?_
    refine J.icmp_le (tgt := 14) hx dX1_end_9 (by decide) ?_ ?_
    · refine J.aload_n hx dX1_end_14 rfl 0 rfl ?_
      refine J.iload_n hx dX1_end_15 rfl 1 rfl ?_
      refine J.puti (κ := 0) (k := 3) hx rfl rfl rfl in_X1 tyX1_ok nmX1 (by decide) (Or.inl q370) rfl rfl a0.1 ⟨rfl, rfl⟩ dX1_end_16 fun w2 => ?_
      refine J.iconst (v := 1) hx dX1_end_19 (by decide) ?_
      exact J.zret hx rfl rfl (Nat.le_of_ble_eq_true rfl) (Nat.le_of_ble_eq_true rfl) dX1_end_20
    · refine J.iconst (v := 0) hx dX1_end_12 (by decide) ?_
      exact J.zret hx rfl rfl (Nat.le_of_ble_eq_true rfl) (Nat.le_of_ble_eq_true rfl) dX1_end_13
theorem hd_X1_status : yX1_status.cls = RX1 ∧ yX1_status.cls ≠ "java/lang/invoke/MethodHandle" ∧ yX1_status.cls ≠ "java/lang/invoke/VarHandle" ∧ (parseMethodDescriptor yX1_status.desc).map (fun d => d.parameters.length) = some 1 := by decide +kernel
def f_X1_status (p1 : Int32) (w : j_St) : Option (Int32 × j_St) := jcb (f_X1_isIn p1.toInt64 0 1 w) fun v1 w2 => if v1 = 0 then some ((-1), w2) else jbd p1 2 fun a5 => jlt (jgi w2 21 0 a5) fun v6 => some (v6, w2)
abbrev rm_X1_status : Room := { frames := 1, cells := 0, slots := 0, locals := 25 }
set_option maxRecDepth 100000 in
set_option maxHeartbeats 4000000 in
theorem mt_X1_status {g : j_G} {B : j_B} {p1 : Int32} {w w' : j_St} (a0 : B.2.1 0 0 ∧ B.2.2 0 0) {r : Int32} (h : f_X1_status p1 w = some (r, w')) : j_M g yX1_status cX1_status 2 (some FieldType.int) rm_X1_status B [.ref (B.1 0 0), .int p1] w w' (jri r) := by
  refine j_met (rv := jri) (by decide) (Nat.le_of_ble_eq_true rfl) (fun x hx => ?_) h
  unfold f_X1_status
  refine J.sub (lv' := [(0, .ref (B.1 0 0)), (1, .int p1)]) [0, 1] rfl ?_
  refine J.iload_n hx dX1_status_0 rfl 1 rfl ?_
  refine J.i2l hx dX1_status_1 ?_
  refine J.lconst (v := 0) hx dX1_status_2 (by decide) ?_
  refine J.lconst (v := 1) hx dX1_status_3 (by decide) ?_
  refine J.calli hx (fun r z1 z => j_callS hx (mt_X1_isIn z) (lw_S q441 q442 q120 q443) hd_X1_isIn.2 rfl ⟨Nat.le_of_ble_eq_true rfl, Nat.le_of_ble_eq_true rfl⟩ (Nat.le_of_ble_eq_true rfl) dX1_status_4) ⟨⟨rfl, rfl⟩, (Nat.le_of_ble_eq_true rfl), (Nat.le_of_ble_eq_true rfl)⟩ fun v1 w2 e3 => ?_
  refine J.if_eq (tgt := 19) hx dX1_status_7 (by decide) ?_ ?_
  · refine J.iconst (v := (-1)) hx dX1_status_19 (by decide) ?_
    exact J.iret hx rfl (Nat.le_of_ble_eq_true rfl) (Nat.le_of_ble_eq_true rfl) dX1_status_20
  · refine J.aload_n hx dX1_status_10 rfl 0 rfl ?_
    refine J.getc (κ' := 21) (i' := 0) (κ := 0) (k := 5) hx rfl rfl rfl rfl rfl in_X1 (by decide) (Or.inl q372) a0.2 dX1_status_11 fun h4 => ?_
    refine J.iload_n hx dX1_status_14 rfl 1 rfl ?_
    refine J.iald (κ := 21) hx rfl rfl h4.1 dX1_status_15 fun v6 => ?_
    refine J.goto (tgt := 20) hx dX1_status_16 (by decide) ?_
    exact J.iret hx rfl (Nat.le_of_ble_eq_true rfl) (Nat.le_of_ble_eq_true rfl) dX1_status_20
theorem hd_X1_undo : yX1_undo.cls = RX1 ∧ yX1_undo.cls ≠ "java/lang/invoke/MethodHandle" ∧ yX1_undo.cls ≠ "java/lang/invoke/VarHandle" ∧ (parseMethodDescriptor yX1_undo.desc).map (fun d => d.parameters.length) = some 0 := by decide +kernel
def f_X1_undo  (w : j_St) : Option (Int32 × j_St) := jlt (jgi w 0 0 18) fun v1 => if v1 = 0 then some ((-1), w) else jlt (jgi w 0 0 18) fun v2 => jlt (jsi w 0 0 18 (v2 - 1)) fun w3 => jlt (jgi w3 0 0 19) fun v4 => jlt ((v4 + 40) - 1) fun v6 => jlt 40 fun v5 => if v5 = 0 then none else jlt (jsi w3 0 0 19 (v6 - v6 / v5 * v5)) fun w7 => jlt (jgi w7 0 0 19) fun v10 => jbd v10 40 fun a11 => jlt (jgr w7 23 0 a11) fun v12 => job v12 fun y14 => jcb (f_X8_becomes 0 y14 w7) fun _ w17 => jlt (jgi w17 0 0 18) fun v19 => some (v19, w17)
abbrev rm_X1_undo : Room := { frames := 4, cells := 0, slots := 0, locals := 123 }
set_option maxRecDepth 100000 in
set_option maxHeartbeats 4000000 in
theorem mt_X1_undo {g : j_G} {B : j_B}  {w w' : j_St} (a0 : B.2.1 0 0 ∧ B.2.2 0 0) {r : Int32} (h : f_X1_undo  w = some (r, w')) : j_M g yX1_undo cX1_undo 1 (some FieldType.int) rm_X1_undo B [.ref (B.1 0 0)] w w' (jri r) := by
  refine j_met (rv := jri) (by decide) (Nat.le_of_ble_eq_true rfl) (fun x hx => ?_) h
  unfold f_X1_undo
  refine J.sub (lv' := [(0, .ref (B.1 0 0))]) [0] rfl ?_
  refine J.aload_n hx dX1_undo_0 rfl 0 rfl ?_
  refine J.geti (κ := 0) (k := 18) hx rfl rfl rfl in_X1 (by decide) (Or.inl q387) a0.1 dX1_undo_1 fun v1 => ?_
  refine J.if_ne (tgt := 9) hx dX1_undo_4 (by decide) ?_ ?_
  · refine J.iconst (v := (-1)) hx dX1_undo_7 (by decide) ?_
    exact J.iret hx rfl (Nat.le_of_ble_eq_true rfl) (Nat.le_of_ble_eq_true rfl) dX1_undo_8
  · refine J.aload_n hx dX1_undo_9 rfl 0 rfl ?_
    refine J.dup hx dX1_undo_10 rfl ?_
    refine J.geti (κ := 0) (k := 18) hx rfl rfl rfl in_X1 (by decide) (Or.inl q387) a0.1 dX1_undo_11 fun v2 => ?_
    refine J.iconst (v := 1) hx dX1_undo_14 (by decide) ?_
    refine J.isub hx dX1_undo_15 ?_
    refine J.puti (κ := 0) (k := 18) hx rfl rfl rfl in_X1 tyX1_ok nmX1 (by decide) (Or.inl q387) rfl rfl a0.1 ⟨rfl, rfl⟩ dX1_undo_16 fun w3 => ?_
    refine J.aload_n hx dX1_undo_19 rfl 0 rfl ?_
    refine J.aload_n hx dX1_undo_20 rfl 0 rfl ?_
    refine J.geti (κ := 0) (k := 19) hx rfl rfl rfl in_X1 (by decide) (Or.inl q388) a0.1 dX1_undo_21 fun v4 => ?_
    refine J.bipush (v := 40) hx dX1_undo_24 (by decide) ?_
    refine J.iadd hx dX1_undo_26 ?_
    refine J.iconst (v := 1) hx dX1_undo_27 (by decide) ?_
    refine J.isub hx dX1_undo_28 ?_
    refine J.bipush (v := 40) hx dX1_undo_29 (by decide) ?_
    refine J.nm2i fun v6 v5 => ?_
    refine J.irem hx dX1_undo_31 ?_
    refine J.puti (κ := 0) (k := 19) hx rfl rfl rfl in_X1 tyX1_ok nmX1 (by decide) (Or.inl q388) rfl rfl a0.1 ⟨rfl, rfl⟩ dX1_undo_32 fun w7 => ?_
    refine J.aload_n hx dX1_undo_35 rfl 0 rfl ?_
    refine J.getc (κ' := 5) (i' := 0) (κ := 0) (k := 13) hx rfl rfl rfl rfl rfl in_X1 (by decide) (Or.inl q382) a0.2 dX1_undo_36 fun h8 => ?_
    refine J.aload_n hx dX1_undo_39 rfl 0 rfl ?_
    refine J.getc (κ' := 23) (i' := 0) (κ := 0) (k := 17) hx rfl rfl rfl rfl rfl in_X1 (by decide) (Or.inl q386) a0.2 dX1_undo_40 fun h9 => ?_
    refine J.aload_n hx dX1_undo_43 rfl 0 rfl ?_
    refine J.geti (κ := 0) (k := 19) hx rfl rfl rfl in_X1 (by decide) (Or.inl q388) a0.1 dX1_undo_44 fun v10 => ?_
    refine J.aald (κ' := 5) (κ := 23) hx rfl rfl (by decide) rfl rfl h9.1 dX1_undo_47 fun v12 h13 => ?_
    refine J.obU fun y14 e15 => ?_
    subst e15
    refine J.callv hx (fun r z1 z => j_callV (κ := 5) hx rfl rfl h8.1 (mt_X8_becomes h8 (h13 y14 rfl) z) (lw_V q971 q972 q973 q128 q974) hd_X8_becomes rfl ⟨Nat.le_of_ble_eq_true rfl, Nat.le_of_ble_eq_true rfl⟩ (Nat.le_of_ble_eq_true rfl) dX1_undo_48) ⟨⟨rfl, rfl⟩, (Nat.le_of_ble_eq_true rfl), (Nat.le_of_ble_eq_true rfl)⟩ fun _ w17 e18 => ?_
    refine J.aload_n hx dX1_undo_51 rfl 0 rfl ?_
    refine J.geti (κ := 0) (k := 18) hx rfl rfl rfl in_X1 (by decide) (Or.inl q387) a0.1 dX1_undo_52 fun v19 => ?_
    exact J.iret hx rfl (Nat.le_of_ble_eq_true rfl) (Nat.le_of_ble_eq_true rfl) dX1_undo_55
theorem hd_X1_log : yX1_log.cls = RX1 ∧ yX1_log.cls ≠ "java/lang/invoke/MethodHandle" ∧ yX1_log.cls ≠ "java/lang/invoke/VarHandle" ∧ (parseMethodDescriptor yX1_log.desc).map (fun d => d.parameters.length) = some 2 := by decide +kernel
def f_X1_log (p1 : Int32) (p2 : Int32) (w : j_St) : Option (Int32 × j_St) := jlt (jgr w 0 0 7) fun v1 => jcs v1 (some ((-1000000), w)) fun y3 => jlt (jgi w 5 0 3) fun v6 => jcb (f_X1_isIn p1.toInt64 0 ((v6 - 1).toInt64) w) fun v7 w8 => if v7 = 0 then some ((-1000000), w8) else jcb (f_X1_isIn p2.toInt64 0 2 w8) fun v10 w11 => if v10 = 0 then some ((-1000000), w11) else jlt (jgi w11 5 0 3) fun v16 => jbd ((3 * ((v16 - 1) - p1)) + p2) 180 fun a17 => jlt (jgi w11 33 0 a17) fun v18 => some (v18, w11)
abbrev rm_X1_log : Room := { frames := 1, cells := 0, slots := 0, locals := 25 }
set_option maxRecDepth 100000 in
set_option maxHeartbeats 4000000 in
theorem mt_X1_log {g : j_G} {B : j_B} {p1 : Int32} {p2 : Int32} {w w' : j_St} (a0 : B.2.1 0 0 ∧ B.2.2 0 0) {r : Int32} (h : f_X1_log p1 p2 w = some (r, w')) : j_M g yX1_log cX1_log 3 (some FieldType.int) rm_X1_log B [.ref (B.1 0 0), .int p1, .int p2] w w' (jri r) := by
  refine j_met (rv := jri) (by decide) (Nat.le_of_ble_eq_true rfl) (fun x hx => ?_) h
  unfold f_X1_log
  refine J.sub (lv' := [(0, .ref (B.1 0 0)), (1, .int p1), (2, .int p2)]) [0, 1, 2] rfl ?_
  refine J.aload_n hx dX1_log_0 rfl 0 rfl ?_
  refine J.getr (κ' := 6) (κ := 0) (k := 7) hx rfl rfl rfl rfl in_X1 (by decide) (Or.inl q374) a0.1 dX1_log_1 fun v1 h2 => ?_
  refine J.ifnull (tgt := 38) hx dX1_log_4 (by decide) (fun e4n => ?_) (fun y3 e4 => ?_)
  · subst e4n
    refine J.ldc (v := (-1000000)) hx q1204 dX1_log_38 ?_
    exact J.iret hx rfl (Nat.le_of_ble_eq_true rfl) (Nat.le_of_ble_eq_true rfl) dX1_log_40
  · subst e4
    refine J.iload_n hx dX1_log_7 rfl 1 rfl ?_
    refine J.i2l hx dX1_log_8 ?_
    refine J.lconst (v := 0) hx dX1_log_9 (by decide) ?_
    refine J.aload_n hx dX1_log_10 rfl 0 rfl ?_
    refine J.getc (κ' := 5) (i' := 0) (κ := 0) (k := 13) hx rfl rfl rfl rfl rfl in_X1 (by decide) (Or.inl q382) a0.2 dX1_log_11 fun h5 => ?_
    refine J.geti (κ := 5) (k := 3) hx rfl rfl rfl in_X8 (by decide) (Or.inr ⟨_, j_nl q345 rfl⟩) h5.1 dX1_log_14 fun v6 => ?_
    refine J.iconst (v := 1) hx dX1_log_17 (by decide) ?_
    refine J.isub hx dX1_log_18 ?_
    refine J.i2l hx dX1_log_19 ?_
    refine J.calli hx (fun r z1 z => j_callS hx (mt_X1_isIn z) (lw_S q441 q442 q120 q443) hd_X1_isIn.2 rfl ⟨Nat.le_of_ble_eq_true rfl, Nat.le_of_ble_eq_true rfl⟩ (Nat.le_of_ble_eq_true rfl) dX1_log_20) ⟨⟨rfl, rfl⟩, (Nat.le_of_ble_eq_true rfl), (Nat.le_of_ble_eq_true rfl)⟩ fun v7 w8 e9 => ?_
    refine J.if_eq (tgt := 38) hx dX1_log_23 (by decide) ?_ ?_
    · refine J.ldc (v := (-1000000)) hx q1204 dX1_log_38 ?_
      exact J.iret hx rfl (Nat.le_of_ble_eq_true rfl) (Nat.le_of_ble_eq_true rfl) dX1_log_40
    · refine J.iload_n hx dX1_log_26 rfl 2 rfl ?_
      refine J.i2l hx dX1_log_27 ?_
      refine J.lconst (v := 0) hx dX1_log_28 (by decide) ?_
      refine J.ldc2 (v := 2) hx q1203 dX1_log_29 ?_
      refine J.calli hx (fun r z1 z => j_callS hx (mt_X1_isIn z) (lw_S q441 q442 q120 q443) hd_X1_isIn.2 rfl ⟨Nat.le_of_ble_eq_true rfl, Nat.le_of_ble_eq_true rfl⟩ (Nat.le_of_ble_eq_true rfl) dX1_log_32) ⟨⟨rfl, rfl⟩, (Nat.le_of_ble_eq_true rfl), (Nat.le_of_ble_eq_true rfl)⟩ fun v10 w11 e12 => ?_
      refine J.if_ne (tgt := 41) hx dX1_log_35 (by decide) ?_ ?_
      · refine J.ldc (v := (-1000000)) hx q1204 dX1_log_38 ?_
        exact J.iret hx rfl (Nat.le_of_ble_eq_true rfl) (Nat.le_of_ble_eq_true rfl) dX1_log_40
      · refine J.aload_n hx dX1_log_41 rfl 0 rfl ?_
        refine J.getc (κ' := 5) (i' := 0) (κ := 0) (k := 13) hx rfl rfl rfl rfl rfl in_X1 (by decide) (Or.inl q382) a0.2 dX1_log_42 fun h13 => ?_
        refine J.getc (κ' := 33) (i' := 0) (κ := 5) (k := 1) hx rfl rfl rfl rfl rfl in_X8 (by decide) (Or.inr ⟨_, j_nl q341 rfl⟩) h13.2 dX1_log_45 fun h14 => ?_
        refine J.iconst (v := 3) hx dX1_log_48 (by decide) ?_
        refine J.aload_n hx dX1_log_49 rfl 0 rfl ?_
        refine J.getc (κ' := 5) (i' := 0) (κ := 0) (k := 13) hx rfl rfl rfl rfl rfl in_X1 (by decide) (Or.inl q382) a0.2 dX1_log_50 fun h15 => ?_
        refine J.geti (κ := 5) (k := 3) hx rfl rfl rfl in_X8 (by decide) (Or.inr ⟨_, j_nl q345 rfl⟩) h15.1 dX1_log_53 fun v16 => ?_
        refine J.iconst (v := 1) hx dX1_log_56 (by decide) ?_
        refine J.isub hx dX1_log_57 ?_
        refine J.iload_n hx dX1_log_58 rfl 1 rfl ?_
        refine J.isub hx dX1_log_59 ?_
        refine J.imul hx dX1_log_60 ?_
        refine J.iload_n hx dX1_log_61 rfl 2 rfl ?_
        refine J.iadd hx dX1_log_62 ?_
        refine J.iald (κ := 33) hx rfl rfl h14.1 dX1_log_63 fun v18 => ?_
        exact J.iret hx rfl (Nat.le_of_ble_eq_true rfl) (Nat.le_of_ble_eq_true rfl) dX1_log_64
theorem hd_X1_draw : yX1_draw.cls = RX1 ∧ yX1_draw.cls ≠ "java/lang/invoke/MethodHandle" ∧ yX1_draw.cls ≠ "java/lang/invoke/VarHandle" ∧ (parseMethodDescriptor yX1_draw.desc).map (fun d => d.parameters.length) = some 1 := by decide +kernel
def f_X1_draw (p1 : Int32) (w : j_St) : Option (Int32 × j_St) := jlt (jgl w 0 0 20) fun v1 => jlt (jsl w 0 0 20 ((v1 * 6364136223846793005) + 1442695040888963407)) fun w2 => jlt (jgl w2 0 0 20) fun v3 => jlt ((v3.toUInt64 >>> ((33 : Int32).toInt64.toUInt64 &&& Int64.toUInt64 63)).toInt64) fun v5 => jlt p1.toInt64 fun v4 => if v4 = 0 then none else some ((v5 - v5 / v4 * v4).toInt32, w2)
abbrev rm_X1_draw : Room := { frames := 0, cells := 0, slots := 0, locals := 0 }
set_option maxRecDepth 100000 in
set_option maxHeartbeats 4000000 in
theorem mt_X1_draw {g : j_G} {B : j_B} {p1 : Int32} {w w' : j_St} (a0 : B.2.1 0 0 ∧ B.2.2 0 0) {r : Int32} (h : f_X1_draw p1 w = some (r, w')) : j_M g yX1_draw cX1_draw 2 (some FieldType.int) rm_X1_draw B [.ref (B.1 0 0), .int p1] w w' (jri r) := by
  refine j_met (rv := jri) (by decide) (Nat.le_of_ble_eq_true rfl) (fun x hx => ?_) h
  unfold f_X1_draw
  refine J.sub (lv' := [(0, .ref (B.1 0 0)), (1, .int p1)]) [0, 1] rfl ?_
  refine J.aload_n hx dX1_draw_0 rfl 0 rfl ?_
  refine J.aload_n hx dX1_draw_1 rfl 0 rfl ?_
  refine J.getl (κ := 0) (k := 20) hx rfl rfl rfl in_X1 (by decide) (Or.inl q389) a0.1 dX1_draw_2 fun v1 => ?_
  refine J.ldc2 (v := 6364136223846793005) hx q1218 dX1_draw_5 ?_
  refine J.lmul hx dX1_draw_8 ?_
  refine J.ldc2 (v := 1442695040888963407) hx q1219 dX1_draw_9 ?_
  refine J.ladd hx dX1_draw_12 ?_
  refine J.putl (κ := 0) (k := 20) hx rfl rfl rfl in_X1 tyX1_ok nmX1 (by decide) (Or.inl q389) rfl rfl a0.1 rfl dX1_draw_13 fun w2 => ?_
  refine J.aload_n hx dX1_draw_16 rfl 0 rfl ?_
  refine J.getl (κ := 0) (k := 20) hx rfl rfl rfl in_X1 (by decide) (Or.inl q389) a0.1 dX1_draw_17 fun v3 => ?_
  refine J.bipush (v := 33) hx dX1_draw_20 (by decide) ?_
  refine J.lushr hx dX1_draw_22 ?_
  refine J.iload_n hx dX1_draw_23 rfl 1 rfl ?_
  refine J.i2l hx dX1_draw_24 ?_
  refine J.nm2l fun v5 v4 => ?_
  refine J.lrem hx dX1_draw_25 ?_
  refine J.l2i hx dX1_draw_26 ?_
  exact J.iret hx rfl (Nat.le_of_ble_eq_true rfl) (Nat.le_of_ble_eq_true rfl) dX1_draw_27
theorem hd_X1_found : yX1_found.cls = RX1 ∧ yX1_found.cls ≠ "java/lang/invoke/MethodHandle" ∧ yX1_found.cls ≠ "java/lang/invoke/VarHandle" ∧ (parseMethodDescriptor yX1_found.desc).map (fun d => d.parameters.length) = some 0 := by decide +kernel
def f_X1_found  (w : j_St) : Option (Unit × j_St) := jlt (jgi w 5 0 2) fun v5 => jcb (f_X5_of 0 1 v5 w) fun _ w7 => some ((), w7)
abbrev rm_X1_found : Room := { frames := 4, cells := 0, slots := 0, locals := 97 }
set_option maxRecDepth 100000 in
set_option maxHeartbeats 4000000 in
theorem mt_X1_found {g : j_G} {B : j_B}  {w w' : j_St} (a0 : B.2.1 0 0 ∧ B.2.2 0 0) {r : Unit} (h : f_X1_found  w = some (r, w')) : j_M g yX1_found cX1_found 1 (some (FieldType.object "TracePeaks$Peaks")) rm_X1_found B [.ref (B.1 0 0)] w w' ((fun _ : Unit => some (.ref (B.1 2 0))) r) := by
  refine j_met (rv := (fun _ : Unit => some (.ref (B.1 2 0)))) (by decide) (Nat.le_of_ble_eq_true rfl) (fun x hx => ?_) h
  unfold f_X1_found
  refine J.sub (lv' := [(0, .ref (B.1 0 0))]) [0] rfl ?_
  refine J.aload_n hx dX1_found_0 rfl 0 rfl ?_
  refine J.getc (κ' := 2) (i' := 0) (κ := 0) (k := 10) hx rfl rfl rfl rfl rfl in_X1 (by decide) (Or.inl q378) a0.2 dX1_found_1 fun h1 => ?_
  refine J.aload_n hx dX1_found_4 rfl 0 rfl ?_
  refine J.getc (κ' := 5) (i' := 0) (κ := 0) (k := 13) hx rfl rfl rfl rfl rfl in_X1 (by decide) (Or.inl q382) a0.2 dX1_found_5 fun h2 => ?_
  refine J.getc (κ' := 4) (i' := 1) (κ := 5) (k := 0) hx rfl rfl rfl rfl rfl in_X8 (by decide) (Or.inr ⟨_, j_nl q339 rfl⟩) h2.2 dX1_found_8 fun h3 => ?_
  refine J.aload_n hx dX1_found_11 rfl 0 rfl ?_
  refine J.getc (κ' := 5) (i' := 0) (κ := 0) (k := 13) hx rfl rfl rfl rfl rfl in_X1 (by decide) (Or.inl q382) a0.2 dX1_found_12 fun h4 => ?_
  refine J.geti (κ := 5) (k := 2) hx rfl rfl rfl in_X8 (by decide) (Or.inr ⟨_, j_nl q343 rfl⟩) h4.1 dX1_found_15 fun v5 => ?_
  refine J.callt hx (fun r z1 z => j_callV (κ := 2) hx rfl rfl h1.1 (mt_X5_of h1 h3 z) (lw_V q1228 q1003 q1004 q125 q1005) hd_X5_of rfl ⟨Nat.le_of_ble_eq_true rfl, Nat.le_of_ble_eq_true rfl⟩ (Nat.le_of_ble_eq_true rfl) dX1_found_18) ⟨⟨rfl, rfl⟩, (Nat.le_of_ble_eq_true rfl), (Nat.le_of_ble_eq_true rfl)⟩ fun _ w7 e8 => ?_
  exact J.thisret hx rfl (Or.inl ⟨_, rfl⟩) (Nat.le_of_ble_eq_true rfl) (Nat.le_of_ble_eq_true rfl) dX1_found_21
theorem hd_X1_rule : yX1_rule.cls = RX1 ∧ yX1_rule.cls ≠ "java/lang/invoke/MethodHandle" ∧ yX1_rule.cls ≠ "java/lang/invoke/VarHandle" ∧ (parseMethodDescriptor yX1_rule.desc).map (fun d => d.parameters.length) = some 1 := by decide +kernel
def f_X1_rule (p1 : Int32) (w : j_St) : Option (Int32 × j_St) := jlt (jgr w 0 0 7) fun v1 => jcs v1 (some ((-1), w)) fun y3 => if p1 = 0 then jlt (jgi w 4 1 1) fun v7 => some (v7, w) else if p1 = 1 then jlt (jgi w 5 0 2) fun v9 => some (v9, w) else if p1 = 2 then jlt (jgr w 0 0 7) fun v10 => job v10 fun y12 => jlt (jgi w 6 y12 5) fun v14 => some (v14, w) else if p1 = 3 then jlt (jgr w 0 0 7) fun v15 => job v15 fun y17 => jlt (jgi w 6 y17 3) fun v19 => some (v19, w) else if p1 = 4 then jcb (f_X1_found w) fun _ w21 => jlt (jgi w21 2 0 5) fun v24 => some (v24, w21) else if p1 = 5 then jcb (f_X8_kept 0 w) fun v26 w27 => some (v26, w27) else if p1 = 6 then jcb (f_X3_least_k4 1 w) fun v31 w32 => some (v31, w32) else if p1 = 7 then jcb (f_X3_sum_k4 1 w) fun v36 w37 => some (v36, w37) else some ((-1), w)
abbrev rm_X1_rule : Room := { frames := 5, cells := 0, slots := 0, locals := 117 }
set_option maxRecDepth 100000 in
set_option maxHeartbeats 4000000 in
theorem mt_X1_rule {g : j_G} {B : j_B} {p1 : Int32} {w w' : j_St} (a0 : B.2.1 0 0 ∧ B.2.2 0 0) {r : Int32} (h : f_X1_rule p1 w = some (r, w')) : j_M g yX1_rule cX1_rule 2 (some FieldType.int) rm_X1_rule B [.ref (B.1 0 0), .int p1] w w' (jri r) := by
  refine j_met (rv := jri) (by decide) (Nat.le_of_ble_eq_true rfl) (fun x hx => ?_) h
  unfold f_X1_rule
  refine J.sub (lv' := [(0, .ref (B.1 0 0)), (1, .int p1)]) [0, 1] rfl ?_
  refine J.aload_n hx dX1_rule_0 rfl 0 rfl ?_
  refine J.getr (κ' := 6) (κ := 0) (k := 7) hx rfl rfl rfl rfl in_X1 (by decide) (Or.inl q374) a0.1 dX1_rule_1 fun v1 h2 => ?_
  refine J.ifnonnull (tgt := 9) hx dX1_rule_4 (by decide) (fun e4n => ?_) (fun y3 e4 => ?_)
  · subst e4n
    refine J.iconst (v := (-1)) hx dX1_rule_7 (by decide) ?_
    exact J.iret hx rfl (Nat.le_of_ble_eq_true rfl) (Nat.le_of_ble_eq_true rfl) dX1_rule_8
  · subst e4
    refine J.iload_n hx dX1_rule_9 rfl 1 rfl ?_
    refine J.ite (fun e0 => ?_) (fun n0 => ?_)
    · refine J.tsw (off := 46) (tgt := 56) hx dX1_rule_10 (by rw [e0]; decide) (by rw [e0]; decide) (by rw [e0]; rfl) (by decide) ?_
      refine J.aload_n hx dX1_rule_56 rfl 0 rfl ?_
      refine J.getc (κ' := 5) (i' := 0) (κ := 0) (k := 13) hx rfl rfl rfl rfl rfl in_X1 (by decide) (Or.inl q382) a0.2 dX1_rule_57 fun h5 => ?_
      refine J.getc (κ' := 4) (i' := 1) (κ := 5) (k := 0) hx rfl rfl rfl rfl rfl in_X8 (by decide) (Or.inr ⟨_, j_nl q339 rfl⟩) h5.2 dX1_rule_60 fun h6 => ?_
      refine J.geti (κ := 4) (k := 1) hx rfl rfl rfl in_X7 (by decide) (Or.inr ⟨_, j_nl q324 rfl⟩) h6.1 dX1_rule_63 fun v7 => ?_
      refine J.goto (tgt := 146) hx dX1_rule_66 (by decide) ?_
      exact J.iret hx rfl (Nat.le_of_ble_eq_true rfl) (Nat.le_of_ble_eq_true rfl) dX1_rule_146
    · refine J.ite (fun e1 => ?_) (fun n1 => ?_)
      · refine J.tsw (off := 59) (tgt := 69) hx dX1_rule_10 (by rw [e1]; decide) (by rw [e1]; decide) (by rw [e1]; rfl) (by decide) ?_
        refine J.aload_n hx dX1_rule_69 rfl 0 rfl ?_
        refine J.getc (κ' := 5) (i' := 0) (κ := 0) (k := 13) hx rfl rfl rfl rfl rfl in_X1 (by decide) (Or.inl q382) a0.2 dX1_rule_70 fun h8 => ?_
        refine J.geti (κ := 5) (k := 2) hx rfl rfl rfl in_X8 (by decide) (Or.inr ⟨_, j_nl q343 rfl⟩) h8.1 dX1_rule_73 fun v9 => ?_
        refine J.goto (tgt := 146) hx dX1_rule_76 (by decide) ?_
        exact J.iret hx rfl (Nat.le_of_ble_eq_true rfl) (Nat.le_of_ble_eq_true rfl) dX1_rule_146
      · refine J.ite (fun e2 => ?_) (fun n2 => ?_)
        · refine J.tsw (off := 69) (tgt := 79) hx dX1_rule_10 (by rw [e2]; decide) (by rw [e2]; decide) (by rw [e2]; rfl) (by decide) ?_
          refine J.aload_n hx dX1_rule_79 rfl 0 rfl ?_
          refine J.getr (κ' := 6) (κ := 0) (k := 7) hx rfl rfl rfl rfl in_X1 (by decide) (Or.inl q374) a0.1 dX1_rule_80 fun v10 h11 => ?_
          refine J.obU fun y12 e13 => ?_
          subst e13
          refine J.geti (κ := 6) (k := 5) hx rfl rfl rfl in_X11 (by decide) (Or.inr ⟨_, j_nl q490 rfl⟩) (h11 y12 rfl).1 dX1_rule_83 fun v14 => ?_
          refine J.goto (tgt := 146) hx dX1_rule_86 (by decide) ?_
          exact J.iret hx rfl (Nat.le_of_ble_eq_true rfl) (Nat.le_of_ble_eq_true rfl) dX1_rule_146
        · refine J.ite (fun e3 => ?_) (fun n3 => ?_)
          · refine J.tsw (off := 79) (tgt := 89) hx dX1_rule_10 (by rw [e3]; decide) (by rw [e3]; decide) (by rw [e3]; rfl) (by decide) ?_
            refine J.aload_n hx dX1_rule_89 rfl 0 rfl ?_
            refine J.getr (κ' := 6) (κ := 0) (k := 7) hx rfl rfl rfl rfl in_X1 (by decide) (Or.inl q374) a0.1 dX1_rule_90 fun v15 h16 => ?_
            refine J.obU fun y17 e18 => ?_
            subst e18
            refine J.geti (κ := 6) (k := 3) hx rfl rfl rfl in_X11 (by decide) (Or.inr ⟨_, j_nl q484 rfl⟩) (h16 y17 rfl).1 dX1_rule_93 fun v19 => ?_
            refine J.goto (tgt := 146) hx dX1_rule_96 (by decide) ?_
            exact J.iret hx rfl (Nat.le_of_ble_eq_true rfl) (Nat.le_of_ble_eq_true rfl) dX1_rule_146
          · refine J.ite (fun e4 => ?_) (fun n4 => ?_)
            · refine J.tsw (off := 89) (tgt := 99) hx dX1_rule_10 (by rw [e4]; decide) (by rw [e4]; decide) (by rw [e4]; rfl) (by decide) ?_
              refine J.aload_n hx dX1_rule_99 rfl 0 rfl ?_
              refine J.callt hx (fun r z1 z => j_callV (κ := 0) hx rfl rfl a0.1 (mt_X1_found a0 z) (lw_V q1224 q1226 qs27 q120 q1227) hd_X1_found rfl ⟨Nat.le_of_ble_eq_true rfl, Nat.le_of_ble_eq_true rfl⟩ (Nat.le_of_ble_eq_true rfl) dX1_rule_100) ⟨⟨rfl, rfl⟩, (Nat.le_of_ble_eq_true rfl), (Nat.le_of_ble_eq_true rfl)⟩ fun _ w21 e22 => ?_
              refine J.fact (j_pk0 a0) fun h23 => ?_
              refine J.geti (κ := 2) (k := 5) hx rfl rfl rfl in_X5 (by decide) (Or.inr ⟨_, j_nl q283 rfl⟩) h23.1 dX1_rule_103 fun v24 => ?_
              refine J.goto (tgt := 146) hx dX1_rule_106 (by decide) ?_
              exact J.iret hx rfl (Nat.le_of_ble_eq_true rfl) (Nat.le_of_ble_eq_true rfl) dX1_rule_146
            · refine J.ite (fun e5 => ?_) (fun n5 => ?_)
              · refine J.tsw (off := 99) (tgt := 109) hx dX1_rule_10 (by rw [e5]; decide) (by rw [e5]; decide) (by rw [e5]; rfl) (by decide) ?_
                refine J.aload_n hx dX1_rule_109 rfl 0 rfl ?_
                refine J.getc (κ' := 5) (i' := 0) (κ := 0) (k := 13) hx rfl rfl rfl rfl rfl in_X1 (by decide) (Or.inl q382) a0.2 dX1_rule_110 fun h25 => ?_
                refine J.calli hx (fun r z1 z => j_callV (κ := 5) hx rfl rfl h25.1 (mt_X8_kept h25 z) (lw_V q1150 q999 q1000 q128 q1001) hd_X8_kept rfl ⟨Nat.le_of_ble_eq_true rfl, Nat.le_of_ble_eq_true rfl⟩ (Nat.le_of_ble_eq_true rfl) dX1_rule_113) ⟨⟨rfl, rfl⟩, (Nat.le_of_ble_eq_true rfl), (Nat.le_of_ble_eq_true rfl)⟩ fun v26 w27 e28 => ?_
                refine J.goto (tgt := 146) hx dX1_rule_116 (by decide) ?_
                exact J.iret hx rfl (Nat.le_of_ble_eq_true rfl) (Nat.le_of_ble_eq_true rfl) dX1_rule_146
              · refine J.ite (fun e6 => ?_) (fun n6 => ?_)
                · refine J.tsw (off := 109) (tgt := 119) hx dX1_rule_10 (by rw [e6]; decide) (by rw [e6]; decide) (by rw [e6]; rfl) (by decide) ?_
                  refine J.aload_n hx dX1_rule_119 rfl 0 rfl ?_
                  refine J.getc (κ' := 5) (i' := 0) (κ := 0) (k := 13) hx rfl rfl rfl rfl rfl in_X1 (by decide) (Or.inl q382) a0.2 dX1_rule_120 fun h29 => ?_
                  refine J.getc (κ' := 4) (i' := 1) (κ := 5) (k := 0) hx rfl rfl rfl rfl rfl in_X8 (by decide) (Or.inr ⟨_, j_nl q339 rfl⟩) h29.2 dX1_rule_123 fun h30 => ?_
                  refine J.calli hx (fun r z1 z => j_callD (κ := 4) (nm := "least") (ds := "()I") hx rfl rfl h30.1 (mt_X3_least_k4 h30 z) (lw_meth q1034) (List.mem_of_getElem? (i := 5) rfl) (List.mem_of_getElem? (i := 1) rfl) (List.mem_of_getElem? (i := 0) rfl) q1032 q122 hd_X3_least.2.2.2 rfl ⟨Nat.le_of_ble_eq_true rfl, Nat.le_of_ble_eq_true rfl⟩ (Nat.le_of_ble_eq_true rfl) dX1_rule_126) ⟨⟨rfl, rfl⟩, (Nat.le_of_ble_eq_true rfl), (Nat.le_of_ble_eq_true rfl)⟩ fun v31 w32 e33 => ?_
                  refine J.goto (tgt := 146) hx dX1_rule_129 (by decide) ?_
                  exact J.iret hx rfl (Nat.le_of_ble_eq_true rfl) (Nat.le_of_ble_eq_true rfl) dX1_rule_146
                · refine J.ite (fun e7 => ?_) (fun n7 => ?_)
                  · refine J.tsw (off := 122) (tgt := 132) hx dX1_rule_10 (by rw [e7]; decide) (by rw [e7]; decide) (by rw [e7]; rfl) (by decide) ?_
                    refine J.aload_n hx dX1_rule_132 rfl 0 rfl ?_
                    refine J.getc (κ' := 5) (i' := 0) (κ := 0) (k := 13) hx rfl rfl rfl rfl rfl in_X1 (by decide) (Or.inl q382) a0.2 dX1_rule_133 fun h34 => ?_
                    refine J.getc (κ' := 4) (i' := 1) (κ := 5) (k := 0) hx rfl rfl rfl rfl rfl in_X8 (by decide) (Or.inr ⟨_, j_nl q339 rfl⟩) h34.2 dX1_rule_136 fun h35 => ?_
                    refine J.calli hx (fun r z1 z => j_callD (κ := 4) (nm := "sum") (ds := "()I") hx rfl rfl h35.1 (mt_X3_sum_k4 h35 z) (lw_meth q1233) (List.mem_of_getElem? (i := 6) rfl) (List.mem_of_getElem? (i := 7) rfl) (List.mem_of_getElem? (i := 2) rfl) q1231 q122 hd_X3_sum.2.2.2 rfl ⟨Nat.le_of_ble_eq_true rfl, Nat.le_of_ble_eq_true rfl⟩ (Nat.le_of_ble_eq_true rfl) dX1_rule_139) ⟨⟨rfl, rfl⟩, (Nat.le_of_ble_eq_true rfl), (Nat.le_of_ble_eq_true rfl)⟩ fun v36 w37 e38 => ?_
                    refine J.goto (tgt := 146) hx dX1_rule_142 (by decide) ?_
                    exact J.iret hx rfl (Nat.le_of_ble_eq_true rfl) (Nat.le_of_ble_eq_true rfl) dX1_rule_146
                  · have z0 := j_neT n0 (a := 0) (by decide)
                    have z1 := j_neT n1 (a := 1) (by decide)
                    have z2 := j_neT n2 (a := 2) (by decide)
                    have z3 := j_neT n3 (a := 3) (by decide)
                    have z4 := j_neT n4 (a := 4) (by decide)
                    have z5 := j_neT n5 (a := 5) (by decide)
                    have z6 := j_neT n6 (a := 6) (by decide)
                    have z7 := j_neT n7 (a := 7) (by decide)
                    refine J.tswD (tgt := 145) hx dX1_rule_10 (by omega) (by decide) ?_
                    refine J.iconst (v := (-1)) hx dX1_rule_145 (by decide) ?_
                    exact J.iret hx rfl (Nat.le_of_ble_eq_true rfl) (Nat.le_of_ble_eq_true rfl) dX1_rule_146
theorem hd_X1_sample : yX1_sample.cls = RX1 ∧ yX1_sample.cls ≠ "java/lang/invoke/MethodHandle" ∧ yX1_sample.cls ≠ "java/lang/invoke/VarHandle" ∧ (parseMethodDescriptor yX1_sample.desc).map (fun d => d.parameters.length) = some 1 := by decide +kernel
def f_X1_sample (p1 : Int32) (w : j_St) : Option (Int32 × j_St) := jlt (jgr w 0 0 7) fun v1 => jcs v1 (some ((-1), w)) fun y3 => jcb (f_X8_isPlace 0 p1 w) fun v6 w7 => if v6 = 0 then some ((-1), w7) else jbd p1 48 fun a12 => jlt (jgi w7 32 1 a12) fun v13 => some (v13, w7)
abbrev rm_X1_sample : Room := { frames := 2, cells := 0, slots := 0, locals := 46 }
set_option maxRecDepth 100000 in
set_option maxHeartbeats 4000000 in
theorem mt_X1_sample {g : j_G} {B : j_B} {p1 : Int32} {w w' : j_St} (a0 : B.2.1 0 0 ∧ B.2.2 0 0) {r : Int32} (h : f_X1_sample p1 w = some (r, w')) : j_M g yX1_sample cX1_sample 2 (some FieldType.int) rm_X1_sample B [.ref (B.1 0 0), .int p1] w w' (jri r) := by
  refine j_met (rv := jri) (by decide) (Nat.le_of_ble_eq_true rfl) (fun x hx => ?_) h
  unfold f_X1_sample
  refine J.sub (lv' := [(0, .ref (B.1 0 0)), (1, .int p1)]) [0, 1] rfl ?_
  refine J.aload_n hx dX1_sample_0 rfl 0 rfl ?_
  refine J.getr (κ' := 6) (κ := 0) (k := 7) hx rfl rfl rfl rfl in_X1 (by decide) (Or.inl q374) a0.1 dX1_sample_1 fun v1 h2 => ?_
  refine J.ifnull (tgt := 33) hx dX1_sample_4 (by decide) (fun e4n => ?_) (fun y3 e4 => ?_)
  · subst e4n
    refine J.iconst (v := (-1)) hx dX1_sample_33 (by decide) ?_
    exact J.iret hx rfl (Nat.le_of_ble_eq_true rfl) (Nat.le_of_ble_eq_true rfl) dX1_sample_34
  · subst e4
    refine J.aload_n hx dX1_sample_7 rfl 0 rfl ?_
    refine J.getc (κ' := 5) (i' := 0) (κ := 0) (k := 13) hx rfl rfl rfl rfl rfl in_X1 (by decide) (Or.inl q382) a0.2 dX1_sample_8 fun h5 => ?_
    refine J.iload_n hx dX1_sample_11 rfl 1 rfl ?_
    refine J.calli hx (fun r z1 z => j_callV (κ := 5) hx rfl rfl h5.1 (mt_X8_isPlace h5 z) (lw_V q1238 q1137 q1138 q128 q1139) hd_X8_isPlace rfl ⟨Nat.le_of_ble_eq_true rfl, Nat.le_of_ble_eq_true rfl⟩ (Nat.le_of_ble_eq_true rfl) dX1_sample_12) ⟨⟨rfl, rfl⟩, (Nat.le_of_ble_eq_true rfl), (Nat.le_of_ble_eq_true rfl)⟩ fun v6 w7 e8 => ?_
    refine J.if_eq (tgt := 33) hx dX1_sample_15 (by decide) ?_ ?_
    · refine J.iconst (v := (-1)) hx dX1_sample_33 (by decide) ?_
      exact J.iret hx rfl (Nat.le_of_ble_eq_true rfl) (Nat.le_of_ble_eq_true rfl) dX1_sample_34
    · refine J.aload_n hx dX1_sample_18 rfl 0 rfl ?_
      refine J.getc (κ' := 5) (i' := 0) (κ := 0) (k := 13) hx rfl rfl rfl rfl rfl in_X1 (by decide) (Or.inl q382) a0.2 dX1_sample_19 fun h9 => ?_
      refine J.getc (κ' := 4) (i' := 1) (κ := 5) (k := 0) hx rfl rfl rfl rfl rfl in_X8 (by decide) (Or.inr ⟨_, j_nl q339 rfl⟩) h9.2 dX1_sample_22 fun h10 => ?_
      refine J.getc (κ' := 32) (i' := 1) (κ := 4) (k := 0) hx rfl rfl rfl rfl rfl in_X7 (by decide) (Or.inr ⟨_, j_nl q319 rfl⟩) h10.2 dX1_sample_25 fun h11 => ?_
      refine J.iload_n hx dX1_sample_28 rfl 1 rfl ?_
      refine J.iald (κ := 32) hx rfl rfl h11.1 dX1_sample_29 fun v13 => ?_
      refine J.goto (tgt := 34) hx dX1_sample_30 (by decide) ?_
      exact J.iret hx rfl (Nat.le_of_ble_eq_true rfl) (Nat.le_of_ble_eq_true rfl) dX1_sample_34
theorem hd_X1_isKept : yX1_isKept.cls = RX1 ∧ yX1_isKept.cls ≠ "java/lang/invoke/MethodHandle" ∧ yX1_isKept.cls ≠ "java/lang/invoke/VarHandle" ∧ (parseMethodDescriptor yX1_isKept.desc).map (fun d => d.parameters.length) = some 1 := by decide +kernel
def f_X1_isKept (p1 : Int32) (w : j_St) : Option (Int32 × j_St) := jlt (jgr w 0 0 7) fun v1 => jcs v1 (some (0, w)) fun y3 => jcb (f_X1_found w) fun _ w6 => jlt (jgi w6 2 0 5) fun v9 => jcb (f_X1_isIn p1.toInt64 0 ((v9 - 1).toInt64) w6) fun v10 w11 => if v10 = 0 then some (0, w11) else jbd p1 48 fun a15 => jlt (jgr w11 27 0 a15) fun v16 => job v16 fun y18 => jlt (jgi w11 3 y18 6) fun v20 => if v20 = 0 then some (0, w11) else some (1, w11)
abbrev rm_X1_isKept : Room := { frames := 5, cells := 0, slots := 0, locals := 117 }
set_option maxRecDepth 100000 in
set_option maxHeartbeats 4000000 in
theorem mt_X1_isKept {g : j_G} {B : j_B} {p1 : Int32} {w w' : j_St} (a0 : B.2.1 0 0 ∧ B.2.2 0 0) {r : Int32} (h : f_X1_isKept p1 w = some (r, w')) : j_M g yX1_isKept cX1_isKept 2 (some FieldType.boolean) rm_X1_isKept B [.ref (B.1 0 0), .int p1] w w' (jri r) := by
  refine j_met (rv := jri) (by decide) (Nat.le_of_ble_eq_true rfl) (fun x hx => ?_) h
  unfold f_X1_isKept
  refine J.sub (lv' := [(0, .ref (B.1 0 0)), (1, .int p1)]) [0, 1] rfl ?_
  refine J.aload_n hx dX1_isKept_0 rfl 0 rfl ?_
  refine J.getr (κ' := 6) (κ := 0) (k := 7) hx rfl rfl rfl rfl in_X1 (by decide) (Or.inl q374) a0.1 dX1_isKept_1 fun v1 h2 => ?_
  refine J.ifnull (tgt := 45) hx dX1_isKept_4 (by decide) (fun e4n => ?_) (fun y3 e4 => ?_)
  · subst e4n
    refine J.iconst (v := 0) hx dX1_isKept_45 (by decide) ?_
    exact J.zret hx rfl rfl (Nat.le_of_ble_eq_true rfl) (Nat.le_of_ble_eq_true rfl) dX1_isKept_46
  · subst e4
    refine J.iload_n hx dX1_isKept_7 rfl 1 rfl ?_
    refine J.i2l hx dX1_isKept_8 ?_
    refine J.lconst (v := 0) hx dX1_isKept_9 (by decide) ?_
    refine J.aload_n hx dX1_isKept_10 rfl 0 rfl ?_
    refine J.callt hx (fun r z1 z => j_callV (κ := 0) hx rfl rfl a0.1 (mt_X1_found a0 z) (lw_V q1224 q1226 qs27 q120 q1227) hd_X1_found rfl ⟨Nat.le_of_ble_eq_true rfl, Nat.le_of_ble_eq_true rfl⟩ (Nat.le_of_ble_eq_true rfl) dX1_isKept_11) ⟨⟨rfl, rfl⟩, (Nat.le_of_ble_eq_true rfl), (Nat.le_of_ble_eq_true rfl)⟩ fun _ w6 e7 => ?_
    refine J.fact (j_pk0 a0) fun h8 => ?_
    refine J.geti (κ := 2) (k := 5) hx rfl rfl rfl in_X5 (by decide) (Or.inr ⟨_, j_nl q283 rfl⟩) h8.1 dX1_isKept_14 fun v9 => ?_
    refine J.iconst (v := 1) hx dX1_isKept_17 (by decide) ?_
    refine J.isub hx dX1_isKept_18 ?_
    refine J.i2l hx dX1_isKept_19 ?_
    refine J.calli hx (fun r z1 z => j_callS hx (mt_X1_isIn z) (lw_S q441 q442 q120 q443) hd_X1_isIn.2 rfl ⟨Nat.le_of_ble_eq_true rfl, Nat.le_of_ble_eq_true rfl⟩ (Nat.le_of_ble_eq_true rfl) dX1_isKept_20) ⟨⟨rfl, rfl⟩, (Nat.le_of_ble_eq_true rfl), (Nat.le_of_ble_eq_true rfl)⟩ fun v10 w11 e12 => ?_
    refine J.if_eq (tgt := 45) hx dX1_isKept_23 (by decide) ?_ ?_
    · refine J.iconst (v := 0) hx dX1_isKept_45 (by decide) ?_
      exact J.zret hx rfl rfl (Nat.le_of_ble_eq_true rfl) (Nat.le_of_ble_eq_true rfl) dX1_isKept_46
    · refine J.aload_n hx dX1_isKept_26 rfl 0 rfl ?_
      refine J.getc (κ' := 2) (i' := 0) (κ := 0) (k := 10) hx rfl rfl rfl rfl rfl in_X1 (by decide) (Or.inl q378) a0.2 dX1_isKept_27 fun h13 => ?_
      refine J.getc (κ' := 27) (i' := 0) (κ := 2) (k := 1) hx rfl rfl rfl rfl rfl in_X5 (by decide) (Or.inr ⟨_, j_nl q277 rfl⟩) h13.2 dX1_isKept_30 fun h14 => ?_
      refine J.iload_n hx dX1_isKept_33 rfl 1 rfl ?_
      refine J.aald (κ' := 3) (κ := 27) hx rfl rfl (by decide) rfl rfl h14.1 dX1_isKept_34 fun v16 h17 => ?_
      refine J.obU fun y18 e19 => ?_
      subst e19
      refine J.geti (κ := 3) (k := 6) hx rfl rfl rfl in_X6 (by decide) (Or.inr ⟨_, j_nl q256 rfl⟩) (h17 y18 rfl).1 dX1_isKept_35 fun v20 => ?_
      refine J.if_eq (tgt := 45) hx dX1_isKept_38 (by decide) ?_ ?_
      · refine J.iconst (v := 0) hx dX1_isKept_45 (by decide) ?_
        exact J.zret hx rfl rfl (Nat.le_of_ble_eq_true rfl) (Nat.le_of_ble_eq_true rfl) dX1_isKept_46
      · refine J.iconst (v := 1) hx dX1_isKept_41 (by decide) ?_
        refine J.goto (tgt := 46) hx dX1_isKept_42 (by decide) ?_
        exact J.zret hx rfl rfl (Nat.le_of_ble_eq_true rfl) (Nat.le_of_ble_eq_true rfl) dX1_isKept_46
theorem hd_X1_basin : yX1_basin.cls = RX1 ∧ yX1_basin.cls ≠ "java/lang/invoke/MethodHandle" ∧ yX1_basin.cls ≠ "java/lang/invoke/VarHandle" ∧ (parseMethodDescriptor yX1_basin.desc).map (fun d => d.parameters.length) = some 2 := by decide +kernel
def f_X1_basin (p1 : Int32) (p2 : Int32) (w : j_St) : Option (Int32 × j_St) := jcb (f_X1_isKept p1 w) fun v1 w2 => if v1 = 0 then some ((-1), w2) else if p2 = 0 then jcb (f_X5_first 0 p1 w2) fun v5 w6 => some (v5, w6) else if p2 = 1 then jcb (f_X5_last 0 p1 w2) fun v9 w10 => some (v9, w10) else if p2 = 2 then jcb (f_X5_area 0 p1 w2) fun v13 w14 => some (v13, w14) else if p2 = 3 then jcb (f_X5_width 0 p1 w2) fun v17 w18 => some (v17, w18) else some ((-1), w2)
abbrev rm_X1_basin : Room := { frames := 6, cells := 0, slots := 0, locals := 138 }
set_option maxRecDepth 100000 in
set_option maxHeartbeats 4000000 in
theorem mt_X1_basin {g : j_G} {B : j_B} {p1 : Int32} {p2 : Int32} {w w' : j_St} (a0 : B.2.1 0 0 ∧ B.2.2 0 0) {r : Int32} (h : f_X1_basin p1 p2 w = some (r, w')) : j_M g yX1_basin cX1_basin 3 (some FieldType.int) rm_X1_basin B [.ref (B.1 0 0), .int p1, .int p2] w w' (jri r) := by
  refine j_met (rv := jri) (by decide) (Nat.le_of_ble_eq_true rfl) (fun x hx => ?_) h
  unfold f_X1_basin
  refine J.sub (lv' := [(0, .ref (B.1 0 0)), (1, .int p1), (2, .int p2)]) [0, 1, 2] rfl ?_
  refine J.aload_n hx dX1_basin_0 rfl 0 rfl ?_
  refine J.iload_n hx dX1_basin_1 rfl 1 rfl ?_
  refine J.calli hx (fun r z1 z => j_callV (κ := 0) hx rfl rfl a0.1 (mt_X1_isKept a0 z) (lw_V q1243 q1245 qs28 q120 q1246) hd_X1_isKept rfl ⟨Nat.le_of_ble_eq_true rfl, Nat.le_of_ble_eq_true rfl⟩ (Nat.le_of_ble_eq_true rfl) dX1_basin_2) ⟨⟨rfl, rfl⟩, (Nat.le_of_ble_eq_true rfl), (Nat.le_of_ble_eq_true rfl)⟩ fun v1 w2 e3 => ?_
  refine J.if_ne (tgt := 10) hx dX1_basin_5 (by decide) ?_ ?_
  · refine J.iconst (v := (-1)) hx dX1_basin_8 (by decide) ?_
    exact J.iret hx rfl (Nat.le_of_ble_eq_true rfl) (Nat.le_of_ble_eq_true rfl) dX1_basin_9
  · refine J.iload_n hx dX1_basin_10 rfl 2 rfl ?_
    refine J.ite (fun e0 => ?_) (fun n0 => ?_)
    · refine J.tsw (off := 29) (tgt := 40) hx dX1_basin_11 (by rw [e0]; decide) (by rw [e0]; decide) (by rw [e0]; rfl) (by decide) ?_
      refine J.aload_n hx dX1_basin_40 rfl 0 rfl ?_
      refine J.getc (κ' := 2) (i' := 0) (κ := 0) (k := 10) hx rfl rfl rfl rfl rfl in_X1 (by decide) (Or.inl q378) a0.2 dX1_basin_41 fun h4 => ?_
      refine J.iload_n hx dX1_basin_44 rfl 1 rfl ?_
      refine J.calli hx (fun r z1 z => j_callV (κ := 2) hx rfl rfl h4.1 (mt_X5_first h4 z) (lw_V q1247 q1248 q1249 q125 q1250) hd_X5_first rfl ⟨Nat.le_of_ble_eq_true rfl, Nat.le_of_ble_eq_true rfl⟩ (Nat.le_of_ble_eq_true rfl) dX1_basin_45) ⟨⟨rfl, rfl⟩, (Nat.le_of_ble_eq_true rfl), (Nat.le_of_ble_eq_true rfl)⟩ fun v5 w6 e7 => ?_
      refine J.goto (tgt := 85) hx dX1_basin_48 (by decide) ?_
      exact J.iret hx rfl (Nat.le_of_ble_eq_true rfl) (Nat.le_of_ble_eq_true rfl) dX1_basin_85
    · refine J.ite (fun e1 => ?_) (fun n1 => ?_)
      · refine J.tsw (off := 40) (tgt := 51) hx dX1_basin_11 (by rw [e1]; decide) (by rw [e1]; decide) (by rw [e1]; rfl) (by decide) ?_
        refine J.aload_n hx dX1_basin_51 rfl 0 rfl ?_
        refine J.getc (κ' := 2) (i' := 0) (κ := 0) (k := 10) hx rfl rfl rfl rfl rfl in_X1 (by decide) (Or.inl q378) a0.2 dX1_basin_52 fun h8 => ?_
        refine J.iload_n hx dX1_basin_55 rfl 1 rfl ?_
        refine J.calli hx (fun r z1 z => j_callV (κ := 2) hx rfl rfl h8.1 (mt_X5_last h8 z) (lw_V q1263 q1264 q1265 q125 q1266) hd_X5_last rfl ⟨Nat.le_of_ble_eq_true rfl, Nat.le_of_ble_eq_true rfl⟩ (Nat.le_of_ble_eq_true rfl) dX1_basin_56) ⟨⟨rfl, rfl⟩, (Nat.le_of_ble_eq_true rfl), (Nat.le_of_ble_eq_true rfl)⟩ fun v9 w10 e11 => ?_
        refine J.goto (tgt := 85) hx dX1_basin_59 (by decide) ?_
        exact J.iret hx rfl (Nat.le_of_ble_eq_true rfl) (Nat.le_of_ble_eq_true rfl) dX1_basin_85
      · refine J.ite (fun e2 => ?_) (fun n2 => ?_)
        · refine J.tsw (off := 51) (tgt := 62) hx dX1_basin_11 (by rw [e2]; decide) (by rw [e2]; decide) (by rw [e2]; rfl) (by decide) ?_
          refine J.aload_n hx dX1_basin_62 rfl 0 rfl ?_
          refine J.getc (κ' := 2) (i' := 0) (κ := 0) (k := 10) hx rfl rfl rfl rfl rfl in_X1 (by decide) (Or.inl q378) a0.2 dX1_basin_63 fun h12 => ?_
          refine J.iload_n hx dX1_basin_66 rfl 1 rfl ?_
          refine J.calli hx (fun r z1 z => j_callV (κ := 2) hx rfl rfl h12.1 (mt_X5_area h12 z) (lw_V q1267 q1268 q1269 q125 q1270) hd_X5_area rfl ⟨Nat.le_of_ble_eq_true rfl, Nat.le_of_ble_eq_true rfl⟩ (Nat.le_of_ble_eq_true rfl) dX1_basin_67) ⟨⟨rfl, rfl⟩, (Nat.le_of_ble_eq_true rfl), (Nat.le_of_ble_eq_true rfl)⟩ fun v13 w14 e15 => ?_
          refine J.goto (tgt := 85) hx dX1_basin_70 (by decide) ?_
          exact J.iret hx rfl (Nat.le_of_ble_eq_true rfl) (Nat.le_of_ble_eq_true rfl) dX1_basin_85
        · refine J.ite (fun e3 => ?_) (fun n3 => ?_)
          · refine J.tsw (off := 62) (tgt := 73) hx dX1_basin_11 (by rw [e3]; decide) (by rw [e3]; decide) (by rw [e3]; rfl) (by decide) ?_
            refine J.aload_n hx dX1_basin_73 rfl 0 rfl ?_
            refine J.getc (κ' := 2) (i' := 0) (κ := 0) (k := 10) hx rfl rfl rfl rfl rfl in_X1 (by decide) (Or.inl q378) a0.2 dX1_basin_74 fun h16 => ?_
            refine J.iload_n hx dX1_basin_77 rfl 1 rfl ?_
            refine J.calli hx (fun r z1 z => j_callV (κ := 2) hx rfl rfl h16.1 (mt_X5_width h16 z) (lw_V q1274 q1275 q1276 q125 q1277) hd_X5_width rfl ⟨Nat.le_of_ble_eq_true rfl, Nat.le_of_ble_eq_true rfl⟩ (Nat.le_of_ble_eq_true rfl) dX1_basin_78) ⟨⟨rfl, rfl⟩, (Nat.le_of_ble_eq_true rfl), (Nat.le_of_ble_eq_true rfl)⟩ fun v17 w18 e19 => ?_
            refine J.goto (tgt := 85) hx dX1_basin_81 (by decide) ?_
            exact J.iret hx rfl (Nat.le_of_ble_eq_true rfl) (Nat.le_of_ble_eq_true rfl) dX1_basin_85
          · have z0 := j_neT n0 (a := 0) (by decide)
            have z1 := j_neT n1 (a := 1) (by decide)
            have z2 := j_neT n2 (a := 2) (by decide)
            have z3 := j_neT n3 (a := 3) (by decide)
            refine J.tswD (tgt := 84) hx dX1_basin_11 (by omega) (by decide) ?_
            refine J.iconst (v := (-1)) hx dX1_basin_84 (by decide) ?_
            exact J.iret hx rfl (Nat.le_of_ble_eq_true rfl) (Nat.le_of_ble_eq_true rfl) dX1_basin_85
theorem hd_X1_at : yX1_at.cls = RX1 ∧ yX1_at.cls ≠ "java/lang/invoke/MethodHandle" ∧ yX1_at.cls ≠ "java/lang/invoke/VarHandle" ∧ (parseMethodDescriptor yX1_at.desc).map (fun d => d.parameters.length) = some 2 := by decide +kernel
def f_X1_at_L48 (p1 : Int32)  : Nat → Int32 → j_St → Option (Int32 × j_St)
  | 0, _, _ => none
  | n48 + 1, v16, w17 => jlt (jgi w17 2 0 5) fun v18 => if v18 ≤ v16 then some ((-1), w17) else jbd v16 48 fun a20 => jlt (jgr w17 27 0 a20) fun v21 => job v21 fun y23 => jlt (jgi w17 3 y23 6) fun v25 => jlt (fun (w35 : j_St) => jlt (v16 + 1) fun v36 => f_X1_at_L48 p1 n48 v36 w35) fun K95 => if v25 = 0 then K95 w17 else jcb (f_X5_first 0 v16 w17) fun v26 w27 => jcb (f_X5_last 0 v16 w27) fun v29 w30 => jcb (f_X1_isIn p1.toInt64 v26.toInt64 v29.toInt64 w30) fun v32 w33 => if v32 = 0 then K95 w33 else some (v16, w33)
def f_X1_at (p1 : Int32) (p2 : Int32) (w : j_St) : Option (Int32 × j_St) := jlt (jgr w 0 0 7) fun v1 => jcs v1 (some ((-1), w)) fun y3 => jcb (f_X8_isPlace 0 p1 w) fun v6 w7 => if v6 = 0 then some ((-1), w7) else jcb (f_X1_isIn p2.toInt64 0 1 w7) fun v9 w10 => if v9 = 0 then some ((-1), w10) else jcb (f_X1_found w10) fun _ w13 => if p2 = 0 then jcb (f_X5_numberAt 0 p1 w13) fun v37 w38 => some (v37, w38) else f_X1_at_L48 p1 jFU 0 w13
abbrev rm_X1_at : Room := { frames := 5, cells := 0, slots := 0, locals := 117 }
set_option maxRecDepth 100000 in
set_option maxHeartbeats 4000000 in
theorem mt_X1_at {g : j_G} {B : j_B} {p1 : Int32} {p2 : Int32} {w w' : j_St} (a0 : B.2.1 0 0 ∧ B.2.2 0 0) {r : Int32} (h : f_X1_at p1 p2 w = some (r, w')) : j_M g yX1_at cX1_at 5 (some FieldType.int) rm_X1_at B [.ref (B.1 0 0), .int p1, .int p2] w w' (jri r) := by
  refine j_met (rv := jri) (by decide) (Nat.le_of_ble_eq_true rfl) (fun x hx => ?_) h
  unfold f_X1_at
  refine J.sub (lv' := [(0, .ref (B.1 0 0)), (1, .int p1), (2, .int p2)]) [0, 1, 2] rfl ?_
  refine J.aload_n hx dX1_at_0 rfl 0 rfl ?_
  refine J.getr (κ' := 6) (κ := 0) (k := 7) hx rfl rfl rfl rfl in_X1 (by decide) (Or.inl q374) a0.1 dX1_at_1 fun v1 h2 => ?_
  refine J.ifnull (tgt := 28) hx dX1_at_4 (by decide) (fun e4n => ?_) (fun y3 e4 => ?_)
  · subst e4n
    refine J.iconst (v := (-1)) hx dX1_at_28 (by decide) ?_
    exact J.iret hx rfl (Nat.le_of_ble_eq_true rfl) (Nat.le_of_ble_eq_true rfl) dX1_at_29
  · subst e4
    refine J.aload_n hx dX1_at_7 rfl 0 rfl ?_
    refine J.getc (κ' := 5) (i' := 0) (κ := 0) (k := 13) hx rfl rfl rfl rfl rfl in_X1 (by decide) (Or.inl q382) a0.2 dX1_at_8 fun h5 => ?_
    refine J.iload_n hx dX1_at_11 rfl 1 rfl ?_
    refine J.calli hx (fun r z1 z => j_callV (κ := 5) hx rfl rfl h5.1 (mt_X8_isPlace h5 z) (lw_V q1238 q1137 q1138 q128 q1139) hd_X8_isPlace rfl ⟨Nat.le_of_ble_eq_true rfl, Nat.le_of_ble_eq_true rfl⟩ (Nat.le_of_ble_eq_true rfl) dX1_at_12) ⟨⟨rfl, rfl⟩, (Nat.le_of_ble_eq_true rfl), (Nat.le_of_ble_eq_true rfl)⟩ fun v6 w7 e8 => ?_
    refine J.if_eq (tgt := 28) hx dX1_at_15 (by decide) ?_ ?_
    · refine J.iconst (v := (-1)) hx dX1_at_28 (by decide) ?_
      exact J.iret hx rfl (Nat.le_of_ble_eq_true rfl) (Nat.le_of_ble_eq_true rfl) dX1_at_29
    · refine J.iload_n hx dX1_at_18 rfl 2 rfl ?_
      refine J.i2l hx dX1_at_19 ?_
      refine J.lconst (v := 0) hx dX1_at_20 (by decide) ?_
      refine J.lconst (v := 1) hx dX1_at_21 (by decide) ?_
      refine J.calli hx (fun r z1 z => j_callS hx (mt_X1_isIn z) (lw_S q441 q442 q120 q443) hd_X1_isIn.2 rfl ⟨Nat.le_of_ble_eq_true rfl, Nat.le_of_ble_eq_true rfl⟩ (Nat.le_of_ble_eq_true rfl) dX1_at_22) ⟨⟨rfl, rfl⟩, (Nat.le_of_ble_eq_true rfl), (Nat.le_of_ble_eq_true rfl)⟩ fun v9 w10 e11 => ?_
      refine J.if_ne (tgt := 30) hx dX1_at_25 (by decide) ?_ ?_
      · refine J.iconst (v := (-1)) hx dX1_at_28 (by decide) ?_
        exact J.iret hx rfl (Nat.le_of_ble_eq_true rfl) (Nat.le_of_ble_eq_true rfl) dX1_at_29
      · refine J.aload_n hx dX1_at_30 rfl 0 rfl ?_
        refine J.callt hx (fun r z1 z => j_callV (κ := 0) hx rfl rfl a0.1 (mt_X1_found a0 z) (lw_V q1224 q1226 qs27 q120 q1227) hd_X1_found rfl ⟨Nat.le_of_ble_eq_true rfl, Nat.le_of_ble_eq_true rfl⟩ (Nat.le_of_ble_eq_true rfl) dX1_at_31) ⟨⟨rfl, rfl⟩, (Nat.le_of_ble_eq_true rfl), (Nat.le_of_ble_eq_true rfl)⟩ fun _ w13 e14 => ?_
        refine J.fact (j_pk0 a0) fun h15 => ?_
        refine J.astore_n (lv' := [(3, .ref (B.1 2 0)), (0, .ref (B.1 0 0)), (1, .int p1), (2, .int p2)]) hx dX1_at_34 rfl (by decide) rfl ?_
        refine J.iload_n hx dX1_at_35 rfl 3 rfl ?_
        refine J.if_ne (tgt := 45) hx dX1_at_36 (by decide) ?_ ?_
        · refine J.aload_n hx dX1_at_39 rfl 0 rfl ?_
          refine J.iload_n hx dX1_at_40 rfl 2 rfl ?_
          refine J.calli hx (fun r z1 z => j_callV (κ := 2) hx rfl rfl h15.1 (mt_X5_numberAt h15 z) (lw_V q1287 q1256 q1257 q125 q1258) hd_X5_numberAt rfl ⟨Nat.le_of_ble_eq_true rfl, Nat.le_of_ble_eq_true rfl⟩ (Nat.le_of_ble_eq_true rfl) dX1_at_41) ⟨⟨rfl, rfl⟩, (Nat.le_of_ble_eq_true rfl), (Nat.le_of_ble_eq_true rfl)⟩ fun v37 w38 e39 => ?_
          exact J.iret hx rfl (Nat.le_of_ble_eq_true rfl) (Nat.le_of_ble_eq_true rfl) dX1_at_44
        · refine J.iconst (v := 0) hx dX1_at_45 (by decide) ?_
          refine J.istore (lv' := [(4, .int 0), (3, .ref (B.1 2 0)), (0, .ref (B.1 0 0)), (1, .int p1), (2, .int p2)]) hx dX1_at_46 (by decide) rfl ?_
          have hL48 : ∀ (n48 : Nat) (v16 : Int32) (w17 : j_St), J g x 5 B (j_Q g x B rm_X1_at jri) 0 0 (f_X1_at_L48 p1 n48 v16 w17) 48 [(1, .int p1), (3, .ref (B.1 2 0)), (4, .int v16)] [] w17 := by
            intro n48
            induction n48 with
            | zero =>
              intro v16 w17
              rw [f_X1_at_L48]
              exact J.nne
            | succ n48 ih =>
              intro v16 w17
              rw [f_X1_at_L48]
              refine J.iload hx dX1_at_48 2 rfl ?_
              refine J.aload_n hx dX1_at_50 rfl 1 rfl ?_
              refine J.geti (κ := 2) (k := 5) hx rfl rfl rfl in_X5 (by decide) (Or.inr ⟨_, j_nl q283 rfl⟩) h15.1 dX1_at_51 fun v18 => ?_
              refine J.icmp_ge (tgt := 101) hx dX1_at_54 (by decide) ?_ ?_
              · refine J.iconst (v := (-1)) hx dX1_at_101 (by decide) ?_
                exact J.iret hx rfl (Nat.le_of_ble_eq_true rfl) (Nat.le_of_ble_eq_true rfl) dX1_at_102
              · refine J.aload_n hx dX1_at_57 rfl 1 rfl ?_
                refine J.getc (κ' := 27) (i' := 0) (κ := 2) (k := 1) hx rfl rfl rfl rfl rfl in_X5 (by decide) (Or.inr ⟨_, j_nl q277 rfl⟩) h15.2 dX1_at_58 fun h19 => ?_
                refine J.iload hx dX1_at_61 2 rfl ?_
                refine J.aald (κ' := 3) (κ := 27) hx rfl rfl (by decide) rfl rfl h19.1 dX1_at_63 fun v21 h22 => ?_
                refine J.obU fun y23 e24 => ?_
                subst e24
                refine J.geti (κ := 3) (k := 6) hx rfl rfl rfl in_X6 (by decide) (Or.inr ⟨_, j_nl q256 rfl⟩) (h22 y23 rfl).1 dX1_at_64 fun v25 => ?_
                refine J.fn (fun (K95 : j_St → Option (Int32 × j_St)) => ∀  (w35 : j_St), J g x 5 B (j_Q g x B rm_X1_at jri) 0 0 (K95 w35) 95 [(1, .int p1), (3, .ref (B.1 2 0)), (4, .int v16)] [] w35) ?_ ?_
                · intro w35
                  refine J.nmx fun v36 ev36 => ?_
                  refine J.iinc (p := 2) (v := v36) (lv' := [(4, .int v36), (1, .int p1), (3, .ref (B.1 2 0))]) hx dX1_at_95 rfl (by rw [ev36]; rfl) (by decide) rfl ?_
                  refine J.goto (tgt := 48) hx dX1_at_98 (by decide) ?_
                  exact J.sub [1, 2, 0] rfl (ih v36 w35)
                · intro K95 hK95
                  refine J.if_eq (tgt := 95) hx dX1_at_67 (by decide) ?_ ?_
                  · exact J.sub [0, 1, 2] rfl (hK95 w17)
                  · refine J.iload_n hx dX1_at_70 rfl 0 rfl ?_
                    refine J.i2l hx dX1_at_71 ?_
                    refine J.aload_n hx dX1_at_72 rfl 1 rfl ?_
                    refine J.iload hx dX1_at_73 2 rfl ?_
                    refine J.calli hx (fun r z1 z => j_callV (κ := 2) hx rfl rfl h15.1 (mt_X5_first h15 z) (lw_V q1247 q1248 q1249 q125 q1250) hd_X5_first rfl ⟨Nat.le_of_ble_eq_true rfl, Nat.le_of_ble_eq_true rfl⟩ (Nat.le_of_ble_eq_true rfl) dX1_at_75) ⟨⟨rfl, rfl⟩, (Nat.le_of_ble_eq_true rfl), (Nat.le_of_ble_eq_true rfl)⟩ fun v26 w27 e28 => ?_
                    refine J.i2l hx dX1_at_78 ?_
                    refine J.aload_n hx dX1_at_79 rfl 1 rfl ?_
                    refine J.iload hx dX1_at_80 2 rfl ?_
                    refine J.calli hx (fun r z1 z => j_callV (κ := 2) hx rfl rfl h15.1 (mt_X5_last h15 z) (lw_V q1263 q1264 q1265 q125 q1266) hd_X5_last rfl ⟨Nat.le_of_ble_eq_true rfl, Nat.le_of_ble_eq_true rfl⟩ (Nat.le_of_ble_eq_true rfl) dX1_at_82) ⟨⟨rfl, rfl⟩, (Nat.le_of_ble_eq_true rfl), (Nat.le_of_ble_eq_true rfl)⟩ fun v29 w30 e31 => ?_
                    refine J.i2l hx dX1_at_85 ?_
                    refine J.calli hx (fun r z1 z => j_callS hx (mt_X1_isIn z) (lw_S q441 q442 q120 q443) hd_X1_isIn.2 rfl ⟨Nat.le_of_ble_eq_true rfl, Nat.le_of_ble_eq_true rfl⟩ (Nat.le_of_ble_eq_true rfl) dX1_at_86) ⟨⟨rfl, rfl⟩, (Nat.le_of_ble_eq_true rfl), (Nat.le_of_ble_eq_true rfl)⟩ fun v32 w33 e34 => ?_
                    refine J.if_eq (tgt := 95) hx dX1_at_89 (by decide) ?_ ?_
                    · exact J.sub [0, 1, 2] rfl (hK95 w33)
                    · refine J.iload hx dX1_at_92 2 rfl ?_
                      exact J.iret hx rfl (Nat.le_of_ble_eq_true rfl) (Nat.le_of_ble_eq_true rfl) dX1_at_94
          refine J.sub [3, 1, 0] rfl (hL48 jFU 0 w13)
theorem hd_X1_noiseFor : yX1_noiseFor.cls = RX1 ∧ yX1_noiseFor.cls ≠ "java/lang/invoke/MethodHandle" ∧ yX1_noiseFor.cls ≠ "java/lang/invoke/VarHandle" ∧ (parseMethodDescriptor yX1_noiseFor.desc).map (fun d => d.parameters.length) = some 1 := by decide +kernel
def f_X1_noiseFor (p1 : Int32) (w : j_St) : Option (Int32 × j_St) := jlt (jgr w 0 0 7) fun v1 => jcs v1 (some ((-1), w)) fun y3 => jcb (f_X1_isIn p1.toInt64 1 48 w) fun v5 w6 => if v5 = 0 then some ((-1), w6) else jcb (f_X1_found w6) fun _ w9 => jlt (jgi w9 2 0 5) fun v12 => if v12 ≤ p1 then some (0, w9) else jbd p1 48 fun a15 => jlt (jgr w9 27 0 a15) fun v16 => job v16 fun y18 => jcb (f_X6_persistence y18 w9) fun v20 w21 => some (v20, w21)
abbrev rm_X1_noiseFor : Room := { frames := 5, cells := 0, slots := 0, locals := 117 }
set_option maxRecDepth 100000 in
set_option maxHeartbeats 4000000 in
theorem mt_X1_noiseFor {g : j_G} {B : j_B} {p1 : Int32} {w w' : j_St} (a0 : B.2.1 0 0 ∧ B.2.2 0 0) {r : Int32} (h : f_X1_noiseFor p1 w = some (r, w')) : j_M g yX1_noiseFor cX1_noiseFor 2 (some FieldType.int) rm_X1_noiseFor B [.ref (B.1 0 0), .int p1] w w' (jri r) := by
  refine j_met (rv := jri) (by decide) (Nat.le_of_ble_eq_true rfl) (fun x hx => ?_) h
  unfold f_X1_noiseFor
  refine J.sub (lv' := [(0, .ref (B.1 0 0)), (1, .int p1)]) [0, 1] rfl ?_
  refine J.aload_n hx dX1_noiseFor_0 rfl 0 rfl ?_
  refine J.getr (κ' := 6) (κ := 0) (k := 7) hx rfl rfl rfl rfl in_X1 (by decide) (Or.inl q374) a0.1 dX1_noiseFor_1 fun v1 h2 => ?_
  refine J.ifnull (tgt := 19) hx dX1_noiseFor_4 (by decide) (fun e4n => ?_) (fun y3 e4 => ?_)
  · subst e4n
    refine J.iconst (v := (-1)) hx dX1_noiseFor_19 (by decide) ?_
    exact J.iret hx rfl (Nat.le_of_ble_eq_true rfl) (Nat.le_of_ble_eq_true rfl) dX1_noiseFor_20
  · subst e4
    refine J.iload_n hx dX1_noiseFor_7 rfl 1 rfl ?_
    refine J.i2l hx dX1_noiseFor_8 ?_
    refine J.lconst (v := 1) hx dX1_noiseFor_9 (by decide) ?_
    refine J.ldc2 (v := 48) hx q1308 dX1_noiseFor_10 ?_
    refine J.calli hx (fun r z1 z => j_callS hx (mt_X1_isIn z) (lw_S q441 q442 q120 q443) hd_X1_isIn.2 rfl ⟨Nat.le_of_ble_eq_true rfl, Nat.le_of_ble_eq_true rfl⟩ (Nat.le_of_ble_eq_true rfl) dX1_noiseFor_13) ⟨⟨rfl, rfl⟩, (Nat.le_of_ble_eq_true rfl), (Nat.le_of_ble_eq_true rfl)⟩ fun v5 w6 e7 => ?_
    refine J.if_ne (tgt := 21) hx dX1_noiseFor_16 (by decide) ?_ ?_
    · refine J.iconst (v := (-1)) hx dX1_noiseFor_19 (by decide) ?_
      exact J.iret hx rfl (Nat.le_of_ble_eq_true rfl) (Nat.le_of_ble_eq_true rfl) dX1_noiseFor_20
    · refine J.iload_n hx dX1_noiseFor_21 rfl 1 rfl ?_
      refine J.aload_n hx dX1_noiseFor_22 rfl 0 rfl ?_
      refine J.callt hx (fun r z1 z => j_callV (κ := 0) hx rfl rfl a0.1 (mt_X1_found a0 z) (lw_V q1224 q1226 qs27 q120 q1227) hd_X1_found rfl ⟨Nat.le_of_ble_eq_true rfl, Nat.le_of_ble_eq_true rfl⟩ (Nat.le_of_ble_eq_true rfl) dX1_noiseFor_23) ⟨⟨rfl, rfl⟩, (Nat.le_of_ble_eq_true rfl), (Nat.le_of_ble_eq_true rfl)⟩ fun _ w9 e10 => ?_
      refine J.fact (j_pk0 a0) fun h11 => ?_
      refine J.geti (κ := 2) (k := 5) hx rfl rfl rfl in_X5 (by decide) (Or.inr ⟨_, j_nl q283 rfl⟩) h11.1 dX1_noiseFor_26 fun v12 => ?_
      refine J.icmp_ge (tgt := 47) hx dX1_noiseFor_29 (by decide) ?_ ?_
      · refine J.iconst (v := 0) hx dX1_noiseFor_47 (by decide) ?_
        exact J.iret hx rfl (Nat.le_of_ble_eq_true rfl) (Nat.le_of_ble_eq_true rfl) dX1_noiseFor_48
      · refine J.aload_n hx dX1_noiseFor_32 rfl 0 rfl ?_
        refine J.getc (κ' := 2) (i' := 0) (κ := 0) (k := 10) hx rfl rfl rfl rfl rfl in_X1 (by decide) (Or.inl q378) a0.2 dX1_noiseFor_33 fun h13 => ?_
        refine J.getc (κ' := 27) (i' := 0) (κ := 2) (k := 1) hx rfl rfl rfl rfl rfl in_X5 (by decide) (Or.inr ⟨_, j_nl q277 rfl⟩) h13.2 dX1_noiseFor_36 fun h14 => ?_
        refine J.iload_n hx dX1_noiseFor_39 rfl 1 rfl ?_
        refine J.aald (κ' := 3) (κ := 27) hx rfl rfl (by decide) rfl rfl h14.1 dX1_noiseFor_40 fun v16 h17 => ?_
        refine J.obU fun y18 e19 => ?_
        subst e19
        refine J.calli hx (fun r z1 z => j_callV (κ := 3) hx rfl rfl (h17 y18 rfl).1 (mt_X6_persistence (h17 y18 rfl) z) (lw_V q1309 q1046 q1047 q126 q1048) hd_X6_persistence rfl ⟨Nat.le_of_ble_eq_true rfl, Nat.le_of_ble_eq_true rfl⟩ (Nat.le_of_ble_eq_true rfl) dX1_noiseFor_41) ⟨⟨rfl, rfl⟩, (Nat.le_of_ble_eq_true rfl), (Nat.le_of_ble_eq_true rfl)⟩ fun v20 w21 e22 => ?_
        refine J.goto (tgt := 48) hx dX1_noiseFor_44 (by decide) ?_
        exact J.iret hx rfl (Nat.le_of_ble_eq_true rfl) (Nat.le_of_ble_eq_true rfl) dX1_noiseFor_48
theorem hd_X1_pieces : yX1_pieces.cls = RX1 ∧ yX1_pieces.cls ≠ "java/lang/invoke/MethodHandle" ∧ yX1_pieces.cls ≠ "java/lang/invoke/VarHandle" ∧ (parseMethodDescriptor yX1_pieces.desc).map (fun d => d.parameters.length) = some 1 := by decide +kernel
def f_X1_pieces_L25 (p1 : Int32)  : Nat → Int32 → Int32 → j_St → Option (Int32 × j_St)
  | 0, _, _, _ => none
  | n25 + 1, v8, v9, w10 => jlt (jgi w10 4 1 1) fun v13 => if v13 ≤ v9 then some (v8, w10) else jbd v9 48 fun a17 => jlt (jgi w10 32 1 a17) fun v18 => jlt (fun (v26 : Int32) (w27 : j_St) => jlt (v8 + v26) fun v28 => jlt (v9 + 1) fun v29 => f_X1_pieces_L25 p1 n25 v28 v29 w27) fun K83 => jlt (fun (w25 : j_St) => K83 0 w25) fun K82 => if v18 < p1 then K82 w10 else jlt (fun (w24 : j_St) => K83 1 w24) fun K78 => if v9 = 0 then K78 w10 else jbd (v9 - 1) 48 fun a22 => jlt (jgi w10 32 1 a22) fun v23 => if p1 ≤ v23 then K82 w10 else K78 w10
def f_X1_pieces (p1 : Int32) (w : j_St) : Option (Int32 × j_St) := jlt (jgr w 0 0 7) fun v1 => jcs v1 (some ((-1), w)) fun y3 => jcb (f_X1_isIn p1.toInt64 0 999 w) fun v5 w6 => if v5 = 0 then some ((-1), w6) else f_X1_pieces_L25 p1 jFU 0 0 w6
abbrev rm_X1_pieces : Room := { frames := 1, cells := 0, slots := 0, locals := 25 }
set_option maxRecDepth 100000 in
set_option maxHeartbeats 4000000 in
theorem mt_X1_pieces {g : j_G} {B : j_B} {p1 : Int32} {w w' : j_St} (a0 : B.2.1 0 0 ∧ B.2.2 0 0) {r : Int32} (h : f_X1_pieces p1 w = some (r, w')) : j_M g yX1_pieces cX1_pieces 4 (some FieldType.int) rm_X1_pieces B [.ref (B.1 0 0), .int p1] w w' (jri r) := by
  refine j_met (rv := jri) (by decide) (Nat.le_of_ble_eq_true rfl) (fun x hx => ?_) h
  unfold f_X1_pieces
  refine J.sub (lv' := [(0, .ref (B.1 0 0)), (1, .int p1)]) [0, 1] rfl ?_
  refine J.aload_n hx dX1_pieces_0 rfl 0 rfl ?_
  refine J.getr (κ' := 6) (κ := 0) (k := 7) hx rfl rfl rfl rfl in_X1 (by decide) (Or.inl q374) a0.1 dX1_pieces_1 fun v1 h2 => ?_
  refine J.ifnull (tgt := 19) hx dX1_pieces_4 (by decide) (fun e4n => ?_) (fun y3 e4 => ?_)
  · subst e4n
    refine J.iconst (v := (-1)) hx dX1_pieces_19 (by decide) ?_
    exact J.iret hx rfl (Nat.le_of_ble_eq_true rfl) (Nat.le_of_ble_eq_true rfl) dX1_pieces_20
  · subst e4
    refine J.iload_n hx dX1_pieces_7 rfl 1 rfl ?_
    refine J.i2l hx dX1_pieces_8 ?_
    refine J.lconst (v := 0) hx dX1_pieces_9 (by decide) ?_
    refine J.ldc2 (v := 999) hx q1314 dX1_pieces_10 ?_
    refine J.calli hx (fun r z1 z => j_callS hx (mt_X1_isIn z) (lw_S q441 q442 q120 q443) hd_X1_isIn.2 rfl ⟨Nat.le_of_ble_eq_true rfl, Nat.le_of_ble_eq_true rfl⟩ (Nat.le_of_ble_eq_true rfl) dX1_pieces_13) ⟨⟨rfl, rfl⟩, (Nat.le_of_ble_eq_true rfl), (Nat.le_of_ble_eq_true rfl)⟩ fun v5 w6 e7 => ?_
    refine J.if_ne (tgt := 21) hx dX1_pieces_16 (by decide) ?_ ?_
    · refine J.iconst (v := (-1)) hx dX1_pieces_19 (by decide) ?_
      exact J.iret hx rfl (Nat.le_of_ble_eq_true rfl) (Nat.le_of_ble_eq_true rfl) dX1_pieces_20
    · refine J.iconst (v := 0) hx dX1_pieces_21 (by decide) ?_
      refine J.istore_n (lv' := [(2, .int 0), (0, .ref (B.1 0 0)), (1, .int p1)]) hx dX1_pieces_22 rfl (by decide) rfl ?_
      refine J.iconst (v := 0) hx dX1_pieces_23 (by decide) ?_
      refine J.istore_n (lv' := [(3, .int 0), (2, .int 0), (0, .ref (B.1 0 0)), (1, .int p1)]) hx dX1_pieces_24 rfl (by decide) rfl ?_
      have hL25 : ∀ (n25 : Nat) (v8 : Int32) (v9 : Int32) (w10 : j_St), J g x 4 B (j_Q g x B rm_X1_pieces jri) 0 0 (f_X1_pieces_L25 p1 n25 v8 v9 w10) 25 [(0, .ref (B.1 0 0)), (1, .int p1), (2, .int v8), (3, .int v9)] [] w10 := by
        intro n25
        induction n25 with
        | zero =>
          intro v8 v9 w10
          rw [f_X1_pieces_L25]
          exact J.nne
        | succ n25 ih =>
          intro v8 v9 w10
          rw [f_X1_pieces_L25]
          refine J.iload_n hx dX1_pieces_25 rfl 3 rfl ?_
          refine J.aload_n hx dX1_pieces_26 rfl 0 rfl ?_
          refine J.getc (κ' := 5) (i' := 0) (κ := 0) (k := 13) hx rfl rfl rfl rfl rfl in_X1 (by decide) (Or.inl q382) a0.2 dX1_pieces_27 fun h11 => ?_
          refine J.getc (κ' := 4) (i' := 1) (κ := 5) (k := 0) hx rfl rfl rfl rfl rfl in_X8 (by decide) (Or.inr ⟨_, j_nl q339 rfl⟩) h11.2 dX1_pieces_30 fun h12 => ?_
          refine J.geti (κ := 4) (k := 1) hx rfl rfl rfl in_X7 (by decide) (Or.inr ⟨_, j_nl q324 rfl⟩) h12.1 dX1_pieces_33 fun v13 => ?_
          refine J.icmp_ge (tgt := 91) hx dX1_pieces_36 (by decide) ?_ ?_
          · refine J.iload_n hx dX1_pieces_91 rfl 2 rfl ?_
            exact J.iret hx rfl (Nat.le_of_ble_eq_true rfl) (Nat.le_of_ble_eq_true rfl) dX1_pieces_92
          · refine J.iload_n hx dX1_pieces_39 rfl 2 rfl ?_
            refine J.aload_n hx dX1_pieces_40 rfl 0 rfl ?_
            refine J.getc (κ' := 5) (i' := 0) (κ := 0) (k := 13) hx rfl rfl rfl rfl rfl in_X1 (by decide) (Or.inl q382) a0.2 dX1_pieces_41 fun h14 => ?_
            refine J.getc (κ' := 4) (i' := 1) (κ := 5) (k := 0) hx rfl rfl rfl rfl rfl in_X8 (by decide) (Or.inr ⟨_, j_nl q339 rfl⟩) h14.2 dX1_pieces_44 fun h15 => ?_
            refine J.getc (κ' := 32) (i' := 1) (κ := 4) (k := 0) hx rfl rfl rfl rfl rfl in_X7 (by decide) (Or.inr ⟨_, j_nl q319 rfl⟩) h15.2 dX1_pieces_47 fun h16 => ?_
            refine J.iload_n hx dX1_pieces_50 rfl 3 rfl ?_
            refine J.iald (κ := 32) hx rfl rfl h16.1 dX1_pieces_51 fun v18 => ?_
            refine J.iload_n hx dX1_pieces_52 rfl 1 rfl ?_
            refine J.fn (fun (K83 : Int32 → j_St → Option (Int32 × j_St)) => ∀ (v26 : Int32) (w27 : j_St), J g x 4 B (j_Q g x B rm_X1_pieces jri) 0 0 (K83 v26 w27) 83 [(0, .ref (B.1 0 0)), (1, .int p1), (3, .int v9)] [.int v26, .int v8] w27) ?_ ?_
            · intro v26 w27
              refine J.iadd hx dX1_pieces_83 ?_
              refine J.nmi fun v28 => ?_
              refine J.istore_n (lv' := [(2, .int v28), (0, .ref (B.1 0 0)), (1, .int p1), (3, .int v9)]) hx dX1_pieces_84 rfl (by decide) rfl ?_
              refine J.nmx fun v29 ev29 => ?_
              refine J.iinc (p := 3) (v := v29) (lv' := [(3, .int v29), (2, .int v28), (0, .ref (B.1 0 0)), (1, .int p1)]) hx dX1_pieces_85 rfl (by rw [ev29]; rfl) (by decide) rfl ?_
              refine J.goto (tgt := 25) hx dX1_pieces_88 (by decide) ?_
              exact J.sub [2, 3, 1, 0] rfl (ih v28 v29 w27)
            · intro K83 hK83
              refine J.fn (fun (K82 : j_St → Option (Int32 × j_St)) => ∀  (w25 : j_St), J g x 4 B (j_Q g x B rm_X1_pieces jri) 0 0 (K82 w25) 82 [(0, .ref (B.1 0 0)), (1, .int p1), (3, .int v9)] [.int v8] w25) ?_ ?_
              · intro w25
                refine J.iconst (v := 0) hx dX1_pieces_82 (by decide) ?_
                exact J.sub [0, 1, 2] rfl (hK83 0 w25)
              · intro K82 hK82
                refine J.icmp_lt (tgt := 82) hx dX1_pieces_53 (by decide) ?_ ?_
                · exact J.sub [0, 1, 3] rfl (hK82 w10)
                · refine J.iload_n hx dX1_pieces_56 rfl 3 rfl ?_
                  refine J.fn (fun (K78 : j_St → Option (Int32 × j_St)) => ∀  (w24 : j_St), J g x 4 B (j_Q g x B rm_X1_pieces jri) 0 0 (K78 w24) 78 [(0, .ref (B.1 0 0)), (1, .int p1), (3, .int v9)] [.int v8] w24) ?_ ?_
                  · intro w24
                    refine J.iconst (v := 1) hx dX1_pieces_78 (by decide) ?_
                    refine J.goto (tgt := 83) hx dX1_pieces_79 (by decide) ?_
                    exact J.sub [0, 1, 2] rfl (hK83 1 w24)
                  · intro K78 hK78
                    refine J.if_eq (tgt := 78) hx dX1_pieces_57 (by decide) ?_ ?_
                    · exact J.sub [0, 1, 3] rfl (hK78 w10)
                    · refine J.aload_n hx dX1_pieces_60 rfl 0 rfl ?_
                      refine J.getc (κ' := 5) (i' := 0) (κ := 0) (k := 13) hx rfl rfl rfl rfl rfl in_X1 (by decide) (Or.inl q382) a0.2 dX1_pieces_61 fun h19 => ?_
                      refine J.getc (κ' := 4) (i' := 1) (κ := 5) (k := 0) hx rfl rfl rfl rfl rfl in_X8 (by decide) (Or.inr ⟨_, j_nl q339 rfl⟩) h19.2 dX1_pieces_64 fun h20 => ?_
                      refine J.getc (κ' := 32) (i' := 1) (κ := 4) (k := 0) hx rfl rfl rfl rfl rfl in_X7 (by decide) (Or.inr ⟨_, j_nl q319 rfl⟩) h20.2 dX1_pieces_67 fun h21 => ?_
                      refine J.iload_n hx dX1_pieces_70 rfl 3 rfl ?_
                      refine J.iconst (v := 1) hx dX1_pieces_71 (by decide) ?_
                      refine J.isub hx dX1_pieces_72 ?_
                      refine J.iald (κ := 32) hx rfl rfl h21.1 dX1_pieces_73 fun v23 => ?_
                      refine J.iload_n hx dX1_pieces_74 rfl 1 rfl ?_
                      refine J.icmp_ge (tgt := 82) hx dX1_pieces_75 (by decide) ?_ ?_
                      · exact J.sub [0, 1, 3] rfl (hK82 w10)
                      · exact J.sub [0, 1, 3] rfl (hK78 w10)
      refine J.sub [2, 3, 1, 0] rfl (hL25 jFU 0 0 w6)
theorem hd_X1_room : yX1_room.cls = RX1 ∧ yX1_room.cls ≠ "java/lang/invoke/MethodHandle" ∧ yX1_room.cls ≠ "java/lang/invoke/VarHandle" ∧ (parseMethodDescriptor yX1_room.desc).map (fun d => d.parameters.length) = some 1 := by decide +kernel
def f_X1_room_L48  (k123 : Int32 → Int32 → j_St → Option (Int32 × j_St)) : Nat → Int32 → Int32 → Int32 → j_St → Option (Int32 × j_St)
  | 0, _, _, _, _ => none
  | n48 + 1, v17, v18, v19, w20 => jlt (jgi w20 2 0 5) fun v21 => if v21 ≤ v19 then k123 v17 v18 w20 else jbd v19 48 fun a23 => jlt (jgr w20 27 0 a23) fun v24 => job v24 fun y26 => jlt (jgi w20 3 y26 6) fun v28 => jlt (fun (v41 : Int32) (v42 : Int32) (w43 : j_St) => jlt (v19 + 1) fun v44 => f_X1_room_L48 k123 n48 v41 v42 v44 w43) fun K117 => if v28 = 0 then jlt (jgi w20 5 0 2) fun v30 => jcb (f_X5_at 0 v19 w20) fun v31 w32 => jlt (jmin v18 (v30 - v31)) fun v34 => K117 v17 v34 w32 else jcb (f_X5_at 0 v19 w20) fun v35 w36 => jlt (jgi w36 5 0 2) fun v39 => jlt (jmin v17 ((v35 - 1) - v39)) fun v40 => K117 v40 v18 w36
def f_X1_room (p1 : Int32) (w : j_St) : Option (Int32 × j_St) := jlt (jgr w 0 0 7) fun v1 => jcs v1 (some ((-1), w)) fun y3 => jcb (f_X1_isIn p1.toInt64 0 1 w) fun v5 w6 => if v5 = 0 then some ((-1), w6) else jlt (jgi w6 5 0 2) fun v9 => jlt (999 - v9) fun v10 => jlt (jgi w6 5 0 2) fun v12 => jcb (f_X1_found w6) fun _ w14 => f_X1_room_L48 (fun (v45 : Int32) (v46 : Int32) (w47 : j_St) => if p1 = 0 then some (v45, w47) else some (v46, w47)) jFU v10 v12 1 w14
abbrev rm_X1_room : Room := { frames := 5, cells := 0, slots := 0, locals := 117 }
set_option maxRecDepth 100000 in
set_option maxHeartbeats 4000000 in
theorem mt_X1_room {g : j_G} {B : j_B} {p1 : Int32} {w w' : j_St} (a0 : B.2.1 0 0 ∧ B.2.2 0 0) {r : Int32} (h : f_X1_room p1 w = some (r, w')) : j_M g yX1_room cX1_room 6 (some FieldType.int) rm_X1_room B [.ref (B.1 0 0), .int p1] w w' (jri r) := by
  refine j_met (rv := jri) (by decide) (Nat.le_of_ble_eq_true rfl) (fun x hx => ?_) h
  unfold f_X1_room
  refine J.sub (lv' := [(0, .ref (B.1 0 0)), (1, .int p1)]) [0, 1] rfl ?_
  refine J.aload_n hx dX1_room_0 rfl 0 rfl ?_
  refine J.getr (κ' := 6) (κ := 0) (k := 7) hx rfl rfl rfl rfl in_X1 (by decide) (Or.inl q374) a0.1 dX1_room_1 fun v1 h2 => ?_
  refine J.ifnull (tgt := 17) hx dX1_room_4 (by decide) (fun e4n => ?_) (fun y3 e4 => ?_)
  · subst e4n
    refine J.iconst (v := (-1)) hx dX1_room_17 (by decide) ?_
    exact J.iret hx rfl (Nat.le_of_ble_eq_true rfl) (Nat.le_of_ble_eq_true rfl) dX1_room_18
  · subst e4
    refine J.iload_n hx dX1_room_7 rfl 1 rfl ?_
    refine J.i2l hx dX1_room_8 ?_
    refine J.lconst (v := 0) hx dX1_room_9 (by decide) ?_
    refine J.lconst (v := 1) hx dX1_room_10 (by decide) ?_
    refine J.calli hx (fun r z1 z => j_callS hx (mt_X1_isIn z) (lw_S q441 q442 q120 q443) hd_X1_isIn.2 rfl ⟨Nat.le_of_ble_eq_true rfl, Nat.le_of_ble_eq_true rfl⟩ (Nat.le_of_ble_eq_true rfl) dX1_room_11) ⟨⟨rfl, rfl⟩, (Nat.le_of_ble_eq_true rfl), (Nat.le_of_ble_eq_true rfl)⟩ fun v5 w6 e7 => ?_
    refine J.if_ne (tgt := 19) hx dX1_room_14 (by decide) ?_ ?_
    · refine J.iconst (v := (-1)) hx dX1_room_17 (by decide) ?_
      exact J.iret hx rfl (Nat.le_of_ble_eq_true rfl) (Nat.le_of_ble_eq_true rfl) dX1_room_18
    · refine J.sipush (v := 999) hx dX1_room_19 (by decide) ?_
      refine J.aload_n hx dX1_room_22 rfl 0 rfl ?_
      refine J.getc (κ' := 5) (i' := 0) (κ := 0) (k := 13) hx rfl rfl rfl rfl rfl in_X1 (by decide) (Or.inl q382) a0.2 dX1_room_23 fun h8 => ?_
      refine J.geti (κ := 5) (k := 2) hx rfl rfl rfl in_X8 (by decide) (Or.inr ⟨_, j_nl q343 rfl⟩) h8.1 dX1_room_26 fun v9 => ?_
      refine J.isub hx dX1_room_29 ?_
      refine J.nmi fun v10 => ?_
      refine J.istore_n (lv' := [(2, .int v10), (0, .ref (B.1 0 0)), (1, .int p1)]) hx dX1_room_30 rfl (by decide) rfl ?_
      refine J.aload_n hx dX1_room_31 rfl 1 rfl ?_
      refine J.getc (κ' := 5) (i' := 0) (κ := 0) (k := 13) hx rfl rfl rfl rfl rfl in_X1 (by decide) (Or.inl q382) a0.2 dX1_room_32 fun h11 => ?_
      refine J.geti (κ := 5) (k := 2) hx rfl rfl rfl in_X8 (by decide) (Or.inr ⟨_, j_nl q343 rfl⟩) h11.1 dX1_room_35 fun v12 => ?_
      refine J.istore_n (lv' := [(3, .int v12), (2, .int v10), (0, .ref (B.1 0 0)), (1, .int p1)]) hx dX1_room_38 rfl (by decide) rfl ?_
      refine J.aload_n hx dX1_room_39 rfl 2 rfl ?_
      refine J.callt hx (fun r z1 z => j_callV (κ := 0) hx rfl rfl a0.1 (mt_X1_found a0 z) (lw_V q1224 q1226 qs27 q120 q1227) hd_X1_found rfl ⟨Nat.le_of_ble_eq_true rfl, Nat.le_of_ble_eq_true rfl⟩ (Nat.le_of_ble_eq_true rfl) dX1_room_40) ⟨⟨rfl, rfl⟩, (Nat.le_of_ble_eq_true rfl), (Nat.le_of_ble_eq_true rfl)⟩ fun _ w14 e15 => ?_
      refine J.fact (j_pk0 a0) fun h16 => ?_
      refine J.astore (lv' := [(4, .ref (B.1 2 0)), (3, .int v12), (2, .int v10), (0, .ref (B.1 0 0)), (1, .int p1)]) hx dX1_room_43 (by decide) rfl ?_
      refine J.iconst (v := 1) hx dX1_room_45 (by decide) ?_
      refine J.istore (lv' := [(5, .int 1), (4, .ref (B.1 2 0)), (3, .int v12), (2, .int v10), (0, .ref (B.1 0 0)), (1, .int p1)]) hx dX1_room_46 (by decide) rfl ?_
      have hL48 : ∀ (k123 : Int32 → Int32 → j_St → Option (Int32 × j_St)) (hk123 : ∀ (v45 : Int32) (v46 : Int32) (w47 : j_St), J g x 6 B (j_Q g x B rm_X1_room jri) 0 0 (k123 v45 v46 w47) 123 [(1, .int p1), (2, .int v45), (3, .int v46)] [] w47) (n48 : Nat) (v17 : Int32) (v18 : Int32) (v19 : Int32) (w20 : j_St), J g x 6 B (j_Q g x B rm_X1_room jri) 0 0 (f_X1_room_L48 k123 n48 v17 v18 v19 w20) 48 [(0, .ref (B.1 0 0)), (1, .int p1), (2, .int v17), (3, .int v18), (4, .ref (B.1 2 0)), (5, .int v19)] [] w20 := by
        intro k123 hk123 n48
        induction n48 with
        | zero =>
          intro v17 v18 v19 w20
          rw [f_X1_room_L48]
          exact J.nne
        | succ n48 ih =>
          intro v17 v18 v19 w20
          rw [f_X1_room_L48]
          refine J.iload hx dX1_room_48 5 rfl ?_
          refine J.aload hx dX1_room_50 4 rfl ?_
          refine J.geti (κ := 2) (k := 5) hx rfl rfl rfl in_X5 (by decide) (Or.inr ⟨_, j_nl q283 rfl⟩) h16.1 dX1_room_52 fun v21 => ?_
          refine J.icmp_ge (tgt := 123) hx dX1_room_55 (by decide) ?_ ?_
          · exact J.sub [1, 2, 3] rfl (hk123 v17 v18 w20)
          · refine J.aload hx dX1_room_58 4 rfl ?_
            refine J.getc (κ' := 27) (i' := 0) (κ := 2) (k := 1) hx rfl rfl rfl rfl rfl in_X5 (by decide) (Or.inr ⟨_, j_nl q277 rfl⟩) h16.2 dX1_room_60 fun h22 => ?_
            refine J.iload hx dX1_room_63 5 rfl ?_
            refine J.aald (κ' := 3) (κ := 27) hx rfl rfl (by decide) rfl rfl h22.1 dX1_room_65 fun v24 h25 => ?_
            refine J.obU fun y26 e27 => ?_
            subst e27
            refine J.geti (κ := 3) (k := 6) hx rfl rfl rfl in_X6 (by decide) (Or.inr ⟨_, j_nl q256 rfl⟩) (h25 y26 rfl).1 dX1_room_66 fun v28 => ?_
            refine J.fn (fun (K117 : Int32 → Int32 → j_St → Option (Int32 × j_St)) => ∀ (v41 : Int32) (v42 : Int32) (w43 : j_St), J g x 6 B (j_Q g x B rm_X1_room jri) 0 0 (K117 v41 v42 w43) 117 [(0, .ref (B.1 0 0)), (1, .int p1), (2, .int v41), (3, .int v42), (4, .ref (B.1 2 0)), (5, .int v19)] [] w43) ?_ ?_
            · intro v41 v42 w43
              refine J.nmx fun v44 ev44 => ?_
              refine J.iinc (p := 5) (v := v44) (lv' := [(5, .int v44), (0, .ref (B.1 0 0)), (1, .int p1), (2, .int v41), (3, .int v42), (4, .ref (B.1 2 0))]) hx dX1_room_117 rfl (by rw [ev44]; rfl) (by decide) rfl ?_
              refine J.goto (tgt := 48) hx dX1_room_120 (by decide) ?_
              exact J.sub [1, 2, 3, 4, 5, 0] rfl (ih v41 v42 v44 w43)
            · intro K117 hK117
              refine J.if_eq (tgt := 97) hx dX1_room_69 (by decide) ?_ ?_
              · refine J.iload_n hx dX1_room_97 rfl 3 rfl ?_
                refine J.aload_n hx dX1_room_98 rfl 0 rfl ?_
                refine J.getc (κ' := 5) (i' := 0) (κ := 0) (k := 13) hx rfl rfl rfl rfl rfl in_X1 (by decide) (Or.inl q382) a0.2 dX1_room_99 fun h29 => ?_
                refine J.geti (κ := 5) (k := 2) hx rfl rfl rfl in_X8 (by decide) (Or.inr ⟨_, j_nl q343 rfl⟩) h29.1 dX1_room_102 fun v30 => ?_
                refine J.aload hx dX1_room_105 4 rfl ?_
                refine J.iload hx dX1_room_107 5 rfl ?_
                refine J.calli hx (fun r z1 z => j_callV (κ := 2) hx rfl rfl h16.1 (mt_X5_at h16 z) (lw_V q1319 q1042 q2351 q125 q1044) hd_X5_at rfl ⟨Nat.le_of_ble_eq_true rfl, Nat.le_of_ble_eq_true rfl⟩ (Nat.le_of_ble_eq_true rfl) dX1_room_109) ⟨⟨rfl, rfl⟩, (Nat.le_of_ble_eq_true rfl), (Nat.le_of_ble_eq_true rfl)⟩ fun v31 w32 e33 => ?_
                refine J.isub hx dX1_room_112 ?_
                refine J.mmin hx q202 q192 q123 q193 ⟨Nat.le_of_ble_eq_true rfl, Nat.le_of_ble_eq_true rfl⟩ (Nat.le_of_ble_eq_true rfl) (Nat.le_of_ble_eq_true rfl) (Nat.le_of_ble_eq_true rfl) dX1_room_113 ?_
                refine J.nmi fun v34 => ?_
                refine J.istore_n (lv' := [(3, .int v34), (0, .ref (B.1 0 0)), (1, .int p1), (2, .int v17), (4, .ref (B.1 2 0)), (5, .int v19)]) hx dX1_room_116 rfl (by decide) rfl ?_
                exact J.sub [1, 2, 3, 0, 4, 5] rfl (hK117 v17 v34 w32)
              · refine J.iload_n hx dX1_room_72 rfl 2 rfl ?_
                refine J.aload hx dX1_room_73 4 rfl ?_
                refine J.iload hx dX1_room_75 5 rfl ?_
                refine J.calli hx (fun r z1 z => j_callV (κ := 2) hx rfl rfl h16.1 (mt_X5_at h16 z) (lw_V q1319 q1042 q2351 q125 q1044) hd_X5_at rfl ⟨Nat.le_of_ble_eq_true rfl, Nat.le_of_ble_eq_true rfl⟩ (Nat.le_of_ble_eq_true rfl) dX1_room_77) ⟨⟨rfl, rfl⟩, (Nat.le_of_ble_eq_true rfl), (Nat.le_of_ble_eq_true rfl)⟩ fun v35 w36 e37 => ?_
                refine J.iconst (v := 1) hx dX1_room_80 (by decide) ?_
                refine J.isub hx dX1_room_81 ?_
                refine J.aload_n hx dX1_room_82 rfl 0 rfl ?_
                refine J.getc (κ' := 5) (i' := 0) (κ := 0) (k := 13) hx rfl rfl rfl rfl rfl in_X1 (by decide) (Or.inl q382) a0.2 dX1_room_83 fun h38 => ?_
                refine J.geti (κ := 5) (k := 2) hx rfl rfl rfl in_X8 (by decide) (Or.inr ⟨_, j_nl q343 rfl⟩) h38.1 dX1_room_86 fun v39 => ?_
                refine J.isub hx dX1_room_89 ?_
                refine J.mmin hx q202 q192 q123 q193 ⟨Nat.le_of_ble_eq_true rfl, Nat.le_of_ble_eq_true rfl⟩ (Nat.le_of_ble_eq_true rfl) (Nat.le_of_ble_eq_true rfl) (Nat.le_of_ble_eq_true rfl) dX1_room_90 ?_
                refine J.nmi fun v40 => ?_
                refine J.istore_n (lv' := [(2, .int v40), (0, .ref (B.1 0 0)), (1, .int p1), (3, .int v18), (4, .ref (B.1 2 0)), (5, .int v19)]) hx dX1_room_93 rfl (by decide) rfl ?_
                refine J.goto (tgt := 117) hx dX1_room_94 (by decide) ?_
                exact J.sub [1, 2, 0, 3, 4, 5] rfl (hK117 v40 v18 w36)
      refine J.sub [4, 5, 3, 2, 1, 0] rfl (hL48 _ ?_ jFU v10 v12 1 w14)
      · intro v45 v46 w47
        refine J.iload_n hx dX1_room_123 rfl 0 rfl ?_
        refine J.if_ne (tgt := 131) hx dX1_room_124 (by decide) ?_ ?_
        · refine J.iload_n hx dX1_room_127 rfl 1 rfl ?_
          refine J.goto (tgt := 132) hx dX1_room_128 (by decide) ?_
          exact J.iret hx rfl (Nat.le_of_ble_eq_true rfl) (Nat.le_of_ble_eq_true rfl) dX1_room_132
        · refine J.iload_n hx dX1_room_131 rfl 2 rfl ?_
          exact J.iret hx rfl (Nat.le_of_ble_eq_true rfl) (Nat.le_of_ble_eq_true rfl) dX1_room_132
theorem hd_X1_unlike : yX1_unlike.cls = RX1 ∧ yX1_unlike.cls ≠ "java/lang/invoke/MethodHandle" ∧ yX1_unlike.cls ≠ "java/lang/invoke/VarHandle" ∧ (parseMethodDescriptor yX1_unlike.desc).map (fun d => d.parameters.length) = some 0 := by decide +kernel
def f_X1_unlike  (w : j_St) : Option (Int32 × j_St) := jlt (jgi w 0 0 21) fun v1 => if v1 = 0 then some ((-1), w) else jcb (f_X1_found w) fun _ w3 => jlt (jgi w3 5 1 2) fun v10 => jcb (f_X5_of 1 3 v10 w3) fun _ w12 => jcb (f_X3_apart 0 1 w12) fun v14 w15 => some (v14, w15)
abbrev rm_X1_unlike : Room := { frames := 5, cells := 0, slots := 0, locals := 117 }
set_option maxRecDepth 100000 in
set_option maxHeartbeats 4000000 in
theorem mt_X1_unlike {g : j_G} {B : j_B}  {w w' : j_St} (a0 : B.2.1 0 0 ∧ B.2.2 0 0) {r : Int32} (h : f_X1_unlike  w = some (r, w')) : j_M g yX1_unlike cX1_unlike 1 (some FieldType.int) rm_X1_unlike B [.ref (B.1 0 0)] w w' (jri r) := by
  refine j_met (rv := jri) (by decide) (Nat.le_of_ble_eq_true rfl) (fun x hx => ?_) h
  unfold f_X1_unlike
  refine J.sub (lv' := [(0, .ref (B.1 0 0))]) [0] rfl ?_
  refine J.aload_n hx dX1_unlike_0 rfl 0 rfl ?_
  refine J.geti (κ := 0) (k := 21) hx rfl rfl rfl in_X1 (by decide) (Or.inl q390) a0.1 dX1_unlike_1 fun v1 => ?_
  refine J.if_eq (tgt := 38) hx dX1_unlike_4 (by decide) ?_ ?_
  · refine J.iconst (v := (-1)) hx dX1_unlike_38 (by decide) ?_
    exact J.iret hx rfl (Nat.le_of_ble_eq_true rfl) (Nat.le_of_ble_eq_true rfl) dX1_unlike_39
  · refine J.aload_n hx dX1_unlike_7 rfl 0 rfl ?_
    refine J.callt hx (fun r z1 z => j_callV (κ := 0) hx rfl rfl a0.1 (mt_X1_found a0 z) (lw_V q1224 q1226 qs27 q120 q1227) hd_X1_found rfl ⟨Nat.le_of_ble_eq_true rfl, Nat.le_of_ble_eq_true rfl⟩ (Nat.le_of_ble_eq_true rfl) dX1_unlike_8) ⟨⟨rfl, rfl⟩, (Nat.le_of_ble_eq_true rfl), (Nat.le_of_ble_eq_true rfl)⟩ fun _ w3 e4 => ?_
    refine J.fact (j_pk0 a0) fun h5 => ?_
    refine J.aload_n hx dX1_unlike_11 rfl 0 rfl ?_
    refine J.getc (κ' := 2) (i' := 1) (κ := 0) (k := 11) hx rfl rfl rfl rfl rfl in_X1 (by decide) (Or.inl q379) a0.2 dX1_unlike_12 fun h6 => ?_
    refine J.aload_n hx dX1_unlike_15 rfl 0 rfl ?_
    refine J.getc (κ' := 5) (i' := 1) (κ := 0) (k := 14) hx rfl rfl rfl rfl rfl in_X1 (by decide) (Or.inl q383) a0.2 dX1_unlike_16 fun h7 => ?_
    refine J.getc (κ' := 4) (i' := 3) (κ := 5) (k := 0) hx rfl rfl rfl rfl rfl in_X8 (by decide) (Or.inr ⟨_, j_nl q339 rfl⟩) h7.2 dX1_unlike_19 fun h8 => ?_
    refine J.aload_n hx dX1_unlike_22 rfl 0 rfl ?_
    refine J.getc (κ' := 5) (i' := 1) (κ := 0) (k := 14) hx rfl rfl rfl rfl rfl in_X1 (by decide) (Or.inl q383) a0.2 dX1_unlike_23 fun h9 => ?_
    refine J.geti (κ := 5) (k := 2) hx rfl rfl rfl in_X8 (by decide) (Or.inr ⟨_, j_nl q343 rfl⟩) h9.1 dX1_unlike_26 fun v10 => ?_
    refine J.callt hx (fun r z1 z => j_callV (κ := 2) hx rfl rfl h6.1 (mt_X5_of h6 h8 z) (lw_V q1228 q1003 q1004 q125 q1005) hd_X5_of rfl ⟨Nat.le_of_ble_eq_true rfl, Nat.le_of_ble_eq_true rfl⟩ (Nat.le_of_ble_eq_true rfl) dX1_unlike_29) ⟨⟨rfl, rfl⟩, (Nat.le_of_ble_eq_true rfl), (Nat.le_of_ble_eq_true rfl)⟩ fun _ w12 e13 => ?_
    refine J.calli hx (fun r z1 z => j_callS hx (mt_X3_apart h5 h6 z) (lw_S q1324 q1325 q122 q1326) hd_X3_apart.2 rfl ⟨Nat.le_of_ble_eq_true rfl, Nat.le_of_ble_eq_true rfl⟩ (Nat.le_of_ble_eq_true rfl) dX1_unlike_32) ⟨⟨rfl, rfl⟩, (Nat.le_of_ble_eq_true rfl), (Nat.le_of_ble_eq_true rfl)⟩ fun v14 w15 e16 => ?_
    refine J.goto (tgt := 39) hx dX1_unlike_35 (by decide) ?_
    exact J.iret hx rfl (Nat.le_of_ble_eq_true rfl) (Nat.le_of_ble_eq_true rfl) dX1_unlike_39
theorem hd_X1_shift : yX1_shift.cls = RX1 ∧ yX1_shift.cls ≠ "java/lang/invoke/MethodHandle" ∧ yX1_shift.cls ≠ "java/lang/invoke/VarHandle" ∧ (parseMethodDescriptor yX1_shift.desc).map (fun d => d.parameters.length) = some 1 := by decide +kernel
def f_X1_shift_L51 (v21 : Int32) (k98 : Int32 → Int32 → j_St → Option (Int32 × j_St)) : Nat → Int32 → Int32 → Int32 → j_St → Option (Int32 × j_St)
  | 0, _, _, _, _ => none
  | n51 + 1, v23, v24, v25, w26 => if 1 < v25 then k98 v23 v24 w26 else jlt (jgr w26 0 0 7) fun v27 => job v27 fun y29 => jcb (f_X5_matches 0 y29 (v25 * v21) w26) fun v31 w32 => jlt (fun (v35 : Int32) (v36 : Int32) (w37 : j_St) => jlt (v25 + 2) fun v38 => f_X1_shift_L51 v21 k98 n51 v35 v36 v38 w37) fun K92 => if v24 < v31 then jlt (v25 * v21) fun v34 => K92 v34 v31 w32 else K92 v23 v24 w32
def f_X1_shift_L41  (k104 : Int32 → Int32 → j_St → Option (Int32 × j_St)) : Nat → Int32 → Int32 → Int32 → j_St → Option (Int32 × j_St)
  | 0, _, _, _, _ => none
  | n41 + 1, v19, v20, v21, w22 => if 9 < v21 then k104 v19 v20 w22 else f_X1_shift_L51 v21 (fun (v39 : Int32) (v40 : Int32) (w41 : j_St) => jlt (v21 + 1) fun v42 => f_X1_shift_L41 k104 n41 v39 v40 v42 w41) jFU v19 v20 (-1) w22
def f_X1_shift (p1 : Int32) (w : j_St) : Option (Int32 × j_St) := jlt (jgr w 0 0 7) fun v1 => jcs v1 (some ((-1000000), w)) fun y3 => jcb (f_X1_isIn p1.toInt64 0 1 w) fun v5 w6 => if v5 = 0 then some ((-1000000), w6) else jcb (f_X1_found w6) fun _ w9 => jlt (jgr w9 0 0 7) fun v12 => job v12 fun y14 => jcb (f_X5_matches 0 y14 0 w9) fun v16 w17 => f_X1_shift_L41 (fun (v43 : Int32) (v44 : Int32) (w45 : j_St) => if p1 = 0 then some (v43, w45) else some (v44, w45)) jFU 0 v16 1 w17
abbrev rm_X1_shift : Room := { frames := 5, cells := 0, slots := 0, locals := 117 }
set_option maxRecDepth 100000 in
set_option maxHeartbeats 4000000 in
theorem mt_X1_shift {g : j_G} {B : j_B} {p1 : Int32} {w w' : j_St} (a0 : B.2.1 0 0 ∧ B.2.2 0 0) {r : Int32} (h : f_X1_shift p1 w = some (r, w')) : j_M g yX1_shift cX1_shift 8 (some FieldType.int) rm_X1_shift B [.ref (B.1 0 0), .int p1] w w' (jri r) := by
  refine j_met (rv := jri) (by decide) (Nat.le_of_ble_eq_true rfl) (fun x hx => ?_) h
  unfold f_X1_shift
  refine J.sub (lv' := [(0, .ref (B.1 0 0)), (1, .int p1)]) [0, 1] rfl ?_
  refine J.aload_n hx dX1_shift_0 rfl 0 rfl ?_
  refine J.getr (κ' := 6) (κ := 0) (k := 7) hx rfl rfl rfl rfl in_X1 (by decide) (Or.inl q374) a0.1 dX1_shift_1 fun v1 h2 => ?_
  refine J.ifnull (tgt := 17) hx dX1_shift_4 (by decide) (fun e4n => ?_) (fun y3 e4 => ?_)
  · subst e4n
    refine J.ldc (v := (-1000000)) hx q1204 dX1_shift_17 ?_
    exact J.iret hx rfl (Nat.le_of_ble_eq_true rfl) (Nat.le_of_ble_eq_true rfl) dX1_shift_19
  · subst e4
    refine J.iload_n hx dX1_shift_7 rfl 1 rfl ?_
    refine J.i2l hx dX1_shift_8 ?_
    refine J.lconst (v := 0) hx dX1_shift_9 (by decide) ?_
    refine J.lconst (v := 1) hx dX1_shift_10 (by decide) ?_
    refine J.calli hx (fun r z1 z => j_callS hx (mt_X1_isIn z) (lw_S q441 q442 q120 q443) hd_X1_isIn.2 rfl ⟨Nat.le_of_ble_eq_true rfl, Nat.le_of_ble_eq_true rfl⟩ (Nat.le_of_ble_eq_true rfl) dX1_shift_11) ⟨⟨rfl, rfl⟩, (Nat.le_of_ble_eq_true rfl), (Nat.le_of_ble_eq_true rfl)⟩ fun v5 w6 e7 => ?_
    refine J.if_ne (tgt := 20) hx dX1_shift_14 (by decide) ?_ ?_
    · refine J.ldc (v := (-1000000)) hx q1204 dX1_shift_17 ?_
      exact J.iret hx rfl (Nat.le_of_ble_eq_true rfl) (Nat.le_of_ble_eq_true rfl) dX1_shift_19
    · refine J.aload_n hx dX1_shift_20 rfl 0 rfl ?_
      refine J.callt hx (fun r z1 z => j_callV (κ := 0) hx rfl rfl a0.1 (mt_X1_found a0 z) (lw_V q1224 q1226 qs27 q120 q1227) hd_X1_found rfl ⟨Nat.le_of_ble_eq_true rfl, Nat.le_of_ble_eq_true rfl⟩ (Nat.le_of_ble_eq_true rfl) dX1_shift_21) ⟨⟨rfl, rfl⟩, (Nat.le_of_ble_eq_true rfl), (Nat.le_of_ble_eq_true rfl)⟩ fun _ w9 e10 => ?_
      refine J.fact (j_pk0 a0) fun h11 => ?_
      refine J.astore_n (lv' := [(2, .ref (B.1 2 0)), (0, .ref (B.1 0 0)), (1, .int p1)]) hx dX1_shift_24 rfl (by decide) rfl ?_
      refine J.iconst (v := 0) hx dX1_shift_25 (by decide) ?_
      refine J.istore_n (lv' := [(3, .int 0), (2, .ref (B.1 2 0)), (0, .ref (B.1 0 0)), (1, .int p1)]) hx dX1_shift_26 rfl (by decide) rfl ?_
      refine J.aload_n hx dX1_shift_27 rfl 1 rfl ?_
      refine J.aload_n hx dX1_shift_28 rfl 2 rfl ?_
      refine J.getr (κ' := 6) (κ := 0) (k := 7) hx rfl rfl rfl rfl in_X1 (by decide) (Or.inl q374) a0.1 dX1_shift_29 fun v12 h13 => ?_
      refine J.iconst (v := 0) hx dX1_shift_32 (by decide) ?_
      refine J.obU fun y14 e15 => ?_
      subst e15
      refine J.calli hx (fun r z1 z => j_callV (κ := 2) hx rfl rfl h11.1 (mt_X5_matches h11 (h13 y14 rfl) z) (lw_V q1293 q1294 q1295 q125 q1296) hd_X5_matches rfl ⟨Nat.le_of_ble_eq_true rfl, Nat.le_of_ble_eq_true rfl⟩ (Nat.le_of_ble_eq_true rfl) dX1_shift_33) ⟨⟨rfl, rfl⟩, (Nat.le_of_ble_eq_true rfl), (Nat.le_of_ble_eq_true rfl)⟩ fun v16 w17 e18 => ?_
      refine J.istore (lv' := [(4, .int v16), (3, .int 0), (2, .ref (B.1 2 0)), (0, .ref (B.1 0 0)), (1, .int p1)]) hx dX1_shift_36 (by decide) rfl ?_
      refine J.iconst (v := 1) hx dX1_shift_38 (by decide) ?_
      refine J.istore (lv' := [(5, .int 1), (4, .int v16), (3, .int 0), (2, .ref (B.1 2 0)), (0, .ref (B.1 0 0)), (1, .int p1)]) hx dX1_shift_39 (by decide) rfl ?_
      have hL41 : ∀ (k104 : Int32 → Int32 → j_St → Option (Int32 × j_St)) (hk104 : ∀ (v43 : Int32) (v44 : Int32) (w45 : j_St), J g x 8 B (j_Q g x B rm_X1_shift jri) 0 0 (k104 v43 v44 w45) 104 [(1, .int p1), (3, .int v43), (4, .int v44)] [] w45) (n41 : Nat) (v19 : Int32) (v20 : Int32) (v21 : Int32) (w22 : j_St), J g x 8 B (j_Q g x B rm_X1_shift jri) 0 0 (f_X1_shift_L41 k104 n41 v19 v20 v21 w22) 41 [(0, .ref (B.1 0 0)), (1, .int p1), (2, .ref (B.1 2 0)), (3, .int v19), (4, .int v20), (5, .int v21)] [] w22 := by
        intro k104 hk104 n41
        induction n41 with
        | zero =>
          intro v19 v20 v21 w22
          rw [f_X1_shift_L41]
          exact J.nne
        | succ n41 ih =>
          intro v19 v20 v21 w22
          rw [f_X1_shift_L41]
          refine J.iload hx dX1_shift_41 5 rfl ?_
          refine J.bipush (v := 9) hx dX1_shift_43 (by decide) ?_
          refine J.icmp_gt (tgt := 104) hx dX1_shift_45 (by decide) ?_ ?_
          · exact J.sub [1, 3, 4] rfl (hk104 v19 v20 w22)
          · refine J.iconst (v := (-1)) hx dX1_shift_48 (by decide) ?_
            refine J.istore (lv' := [(6, .int (-1)), (0, .ref (B.1 0 0)), (1, .int p1), (2, .ref (B.1 2 0)), (3, .int v19), (4, .int v20), (5, .int v21)]) hx dX1_shift_49 (by decide) rfl ?_
            have hL51 : ∀ (k98 : Int32 → Int32 → j_St → Option (Int32 × j_St)) (hk98 : ∀ (v39 : Int32) (v40 : Int32) (w41 : j_St), J g x 8 B (j_Q g x B rm_X1_shift jri) 0 0 (k98 v39 v40 w41) 98 [(0, .ref (B.1 0 0)), (1, .int p1), (2, .ref (B.1 2 0)), (3, .int v39), (4, .int v40), (5, .int v21)] [] w41) (n51 : Nat) (v23 : Int32) (v24 : Int32) (v25 : Int32) (w26 : j_St), J g x 8 B (j_Q g x B rm_X1_shift jri) 0 0 (f_X1_shift_L51 v21 k98 n51 v23 v24 v25 w26) 51 [(0, .ref (B.1 0 0)), (1, .int p1), (2, .ref (B.1 2 0)), (3, .int v23), (4, .int v24), (5, .int v21), (6, .int v25)] [] w26 := by
              intro k98 hk98 n51
              induction n51 with
              | zero =>
                intro v23 v24 v25 w26
                rw [f_X1_shift_L51]
                exact J.nne
              | succ n51 ih =>
                intro v23 v24 v25 w26
                rw [f_X1_shift_L51]
                refine J.iload hx dX1_shift_51 6 rfl ?_
                refine J.iconst (v := 1) hx dX1_shift_53 (by decide) ?_
                refine J.icmp_gt (tgt := 98) hx dX1_shift_54 (by decide) ?_ ?_
                · exact J.sub [0, 1, 2, 3, 4, 5] rfl (hk98 v23 v24 w26)
                · refine J.aload_n hx dX1_shift_57 rfl 2 rfl ?_
                  refine J.aload_n hx dX1_shift_58 rfl 0 rfl ?_
                  refine J.getr (κ' := 6) (κ := 0) (k := 7) hx rfl rfl rfl rfl in_X1 (by decide) (Or.inl q374) a0.1 dX1_shift_59 fun v27 h28 => ?_
                  refine J.iload hx dX1_shift_62 6 rfl ?_
                  refine J.iload hx dX1_shift_64 5 rfl ?_
                  refine J.imul hx dX1_shift_66 ?_
                  refine J.obU fun y29 e30 => ?_
                  subst e30
                  refine J.calli hx (fun r z1 z => j_callV (κ := 2) hx rfl rfl h11.1 (mt_X5_matches h11 (h28 y29 rfl) z) (lw_V q1293 q1294 q1295 q125 q1296) hd_X5_matches rfl ⟨Nat.le_of_ble_eq_true rfl, Nat.le_of_ble_eq_true rfl⟩ (Nat.le_of_ble_eq_true rfl) dX1_shift_67) ⟨⟨rfl, rfl⟩, (Nat.le_of_ble_eq_true rfl), (Nat.le_of_ble_eq_true rfl)⟩ fun v31 w32 e33 => ?_
                  refine J.istore (lv' := [(7, .int v31), (0, .ref (B.1 0 0)), (1, .int p1), (2, .ref (B.1 2 0)), (3, .int v23), (4, .int v24), (5, .int v21), (6, .int v25)]) hx dX1_shift_70 (by decide) rfl ?_
                  refine J.iload hx dX1_shift_72 0 rfl ?_
                  refine J.iload hx dX1_shift_74 5 rfl ?_
                  refine J.fn (fun (K92 : Int32 → Int32 → j_St → Option (Int32 × j_St)) => ∀ (v35 : Int32) (v36 : Int32) (w37 : j_St), J g x 8 B (j_Q g x B rm_X1_shift jri) 0 0 (K92 v35 v36 w37) 92 [(0, .ref (B.1 0 0)), (1, .int p1), (2, .ref (B.1 2 0)), (3, .int v35), (4, .int v36), (5, .int v21), (6, .int v25)] [] w37) ?_ ?_
                  · intro v35 v36 w37
                    refine J.nmx fun v38 ev38 => ?_
                    refine J.iinc (p := 6) (v := v38) (lv' := [(6, .int v38), (0, .ref (B.1 0 0)), (1, .int p1), (2, .ref (B.1 2 0)), (3, .int v35), (4, .int v36), (5, .int v21)]) hx dX1_shift_92 rfl (by rw [ev38]; rfl) (by decide) rfl ?_
                    refine J.goto (tgt := 51) hx dX1_shift_95 (by decide) ?_
                    exact J.sub [1, 2, 3, 4, 5, 6, 0] rfl (ih v35 v36 v38 w37)
                  · intro K92 hK92
                    refine J.icmp_gt (tgt := 82) hx dX1_shift_76 (by decide) ?_ ?_
                    · refine J.iload hx dX1_shift_82 7 rfl ?_
                      refine J.iload hx dX1_shift_84 6 rfl ?_
                      refine J.imul hx dX1_shift_86 ?_
                      refine J.nmi fun v34 => ?_
                      refine J.istore_n (lv' := [(3, .int v34), (7, .int v31), (0, .ref (B.1 0 0)), (1, .int p1), (2, .ref (B.1 2 0)), (4, .int v24), (5, .int v21), (6, .int v25)]) hx dX1_shift_87 rfl (by decide) rfl ?_
                      refine J.iload hx dX1_shift_88 1 rfl ?_
                      refine J.istore (lv' := [(4, .int v31), (3, .int v34), (7, .int v31), (0, .ref (B.1 0 0)), (1, .int p1), (2, .ref (B.1 2 0)), (5, .int v21), (6, .int v25)]) hx dX1_shift_90 (by decide) rfl ?_
                      exact J.sub [3, 4, 5, 1, 0, 6, 7] rfl (hK92 v34 v31 w32)
                    · refine J.goto (tgt := 92) hx dX1_shift_79 (by decide) ?_
                      exact J.sub [1, 2, 3, 4, 5, 6, 7] rfl (hK92 v23 v24 w32)
            refine J.sub [1, 2, 3, 4, 5, 6, 0] rfl (hL51 _ ?_ jFU v19 v20 (-1) w22)
            · intro v39 v40 w41
              refine J.nmx fun v42 ev42 => ?_
              refine J.iinc (p := 5) (v := v42) (lv' := [(5, .int v42), (0, .ref (B.1 0 0)), (1, .int p1), (2, .ref (B.1 2 0)), (3, .int v39), (4, .int v40)]) hx dX1_shift_98 rfl (by rw [ev42]; rfl) (by decide) rfl ?_
              refine J.goto (tgt := 41) hx dX1_shift_101 (by decide) ?_
              exact J.sub [1, 2, 3, 4, 5, 0] rfl (ih v39 v40 v42 w41)
      refine J.sub [4, 5, 3, 2, 1, 0] rfl (hL41 _ ?_ jFU 0 v16 1 w17)
      · intro v43 v44 w45
        refine J.iload_n hx dX1_shift_104 rfl 0 rfl ?_
        refine J.if_ne (tgt := 112) hx dX1_shift_105 (by decide) ?_ ?_
        · refine J.iload_n hx dX1_shift_108 rfl 1 rfl ?_
          refine J.goto (tgt := 114) hx dX1_shift_109 (by decide) ?_
          exact J.iret hx rfl (Nat.le_of_ble_eq_true rfl) (Nat.le_of_ble_eq_true rfl) dX1_shift_114
        · refine J.iload hx dX1_shift_112 2 rfl ?_
          exact J.iret hx rfl (Nat.le_of_ble_eq_true rfl) (Nat.le_of_ble_eq_true rfl) dX1_shift_114
theorem hd_X1_lines : yX1_lines.cls = RX1 ∧ yX1_lines.cls ≠ "java/lang/invoke/MethodHandle" ∧ yX1_lines.cls ≠ "java/lang/invoke/VarHandle" ∧ (parseMethodDescriptor yX1_lines.desc).map (fun d => d.parameters.length) = some 1 := by decide +kernel
def f_X1_lines_L18 (p1 : Int32)  : Nat → Int32 → Int32 → j_St → Option (Int32 × j_St)
  | 0, _, _, _ => none
  | n18 + 1, v12, v13, w14 => jlt (jgr w14 0 0 7) fun v15 => job v15 fun y17 => jlt (jgi w14 6 y17 3) fun v19 => if v19 ≤ v13 then some (v12, w14) else jbd v13 8 fun a22 => jlt (jgi w14 30 0 a22) fun v23 => jlt (fun (v24 : Int32) (w25 : j_St) => jlt (fun (v26 : Int32) (w27 : j_St) => jlt (v12 ||| v26) fun v28 => jlt (v13 + 1) fun v29 => f_X1_lines_L18 p1 n18 v28 v29 w27) fun K62 => if v24 = p1 then K62 ((1 : Int32) <<< (v13 &&& 31)) w25 else K62 0 w25) fun K50 => if v23 = (-1) then K50 0 w14 else K50 1 w14
def f_X1_lines (p1 : Int32) (w : j_St) : Option (Int32 × j_St) := jcb (f_X1_found w) fun _ w2 => jlt (jgr w2 0 0 7) fun v5 => job v5 fun y7 => jcb (f_X5_matches 0 y7 0 w2) fun v9 w10 => f_X1_lines_L18 p1 jFU 0 0 w10
abbrev rm_X1_lines : Room := { frames := 5, cells := 0, slots := 0, locals := 117 }
set_option maxRecDepth 100000 in
set_option maxHeartbeats 4000000 in
theorem mt_X1_lines {g : j_G} {B : j_B} {p1 : Int32} {w w' : j_St} (a0 : B.2.1 0 0 ∧ B.2.2 0 0) {r : Int32} (h : f_X1_lines p1 w = some (r, w')) : j_M g yX1_lines cX1_lines 5 (some FieldType.int) rm_X1_lines B [.ref (B.1 0 0), .int p1] w w' (jri r) := by
  refine j_met (rv := jri) (by decide) (Nat.le_of_ble_eq_true rfl) (fun x hx => ?_) h
  unfold f_X1_lines
  refine J.sub (lv' := [(0, .ref (B.1 0 0)), (1, .int p1)]) [0, 1] rfl ?_
  refine J.aload_n hx dX1_lines_0 rfl 0 rfl ?_
  refine J.callt hx (fun r z1 z => j_callV (κ := 0) hx rfl rfl a0.1 (mt_X1_found a0 z) (lw_V q1224 q1226 qs27 q120 q1227) hd_X1_found rfl ⟨Nat.le_of_ble_eq_true rfl, Nat.le_of_ble_eq_true rfl⟩ (Nat.le_of_ble_eq_true rfl) dX1_lines_1) ⟨⟨rfl, rfl⟩, (Nat.le_of_ble_eq_true rfl), (Nat.le_of_ble_eq_true rfl)⟩ fun _ w2 e3 => ?_
  refine J.fact (j_pk0 a0) fun h4 => ?_
  refine J.aload_n hx dX1_lines_4 rfl 0 rfl ?_
  refine J.getr (κ' := 6) (κ := 0) (k := 7) hx rfl rfl rfl rfl in_X1 (by decide) (Or.inl q374) a0.1 dX1_lines_5 fun v5 h6 => ?_
  refine J.iconst (v := 0) hx dX1_lines_8 (by decide) ?_
  refine J.obU fun y7 e8 => ?_
  subst e8
  refine J.calli hx (fun r z1 z => j_callV (κ := 2) hx rfl rfl h4.1 (mt_X5_matches h4 (h6 y7 rfl) z) (lw_V q1293 q1294 q1295 q125 q1296) hd_X5_matches rfl ⟨Nat.le_of_ble_eq_true rfl, Nat.le_of_ble_eq_true rfl⟩ (Nat.le_of_ble_eq_true rfl) dX1_lines_9) ⟨⟨rfl, rfl⟩, (Nat.le_of_ble_eq_true rfl), (Nat.le_of_ble_eq_true rfl)⟩ fun v9 w10 e11 => ?_
  refine J.istore_n (lv' := [(2, .int v9), (0, .ref (B.1 0 0)), (1, .int p1)]) hx dX1_lines_12 rfl (by decide) rfl ?_
  refine J.iconst (v := 0) hx dX1_lines_13 (by decide) ?_
  refine J.istore_n (lv' := [(3, .int 0), (2, .int v9), (0, .ref (B.1 0 0)), (1, .int p1)]) hx dX1_lines_14 rfl (by decide) rfl ?_
  refine J.iconst (v := 0) hx dX1_lines_15 (by decide) ?_
  refine J.istore (lv' := [(4, .int 0), (3, .int 0), (2, .int v9), (0, .ref (B.1 0 0)), (1, .int p1)]) hx dX1_lines_16 (by decide) rfl ?_
  have hL18 : ∀ (n18 : Nat) (v12 : Int32) (v13 : Int32) (w14 : j_St), J g x 5 B (j_Q g x B rm_X1_lines jri) 0 0 (f_X1_lines_L18 p1 n18 v12 v13 w14) 18 [(0, .ref (B.1 0 0)), (1, .int p1), (3, .int v12), (4, .int v13)] [] w14 := by
    intro n18
    induction n18 with
    | zero =>
      intro v12 v13 w14
      rw [f_X1_lines_L18]
      exact J.nne
    | succ n18 ih =>
      intro v12 v13 w14
      rw [f_X1_lines_L18]
      refine J.iload hx dX1_lines_18 3 rfl ?_
      refine J.aload_n hx dX1_lines_20 rfl 0 rfl ?_
      refine J.getr (κ' := 6) (κ := 0) (k := 7) hx rfl rfl rfl rfl in_X1 (by decide) (Or.inl q374) a0.1 dX1_lines_21 fun v15 h16 => ?_
      refine J.obU fun y17 e18 => ?_
      subst e18
      refine J.geti (κ := 6) (k := 3) hx rfl rfl rfl in_X11 (by decide) (Or.inr ⟨_, j_nl q484 rfl⟩) (h16 y17 rfl).1 dX1_lines_24 fun v19 => ?_
      refine J.icmp_ge (tgt := 70) hx dX1_lines_27 (by decide) ?_ ?_
      · refine J.iload_n hx dX1_lines_70 rfl 2 rfl ?_
        exact J.iret hx rfl (Nat.le_of_ble_eq_true rfl) (Nat.le_of_ble_eq_true rfl) dX1_lines_71
      · refine J.iload_n hx dX1_lines_30 rfl 2 rfl ?_
        refine J.aload_n hx dX1_lines_31 rfl 0 rfl ?_
        refine J.getc (κ' := 2) (i' := 0) (κ := 0) (k := 10) hx rfl rfl rfl rfl rfl in_X1 (by decide) (Or.inl q378) a0.2 dX1_lines_32 fun h20 => ?_
        refine J.getc (κ' := 30) (i' := 0) (κ := 2) (k := 7) hx rfl rfl rfl rfl rfl in_X5 (by decide) (Or.inr ⟨_, j_nl q288 rfl⟩) h20.2 dX1_lines_35 fun h21 => ?_
        refine J.iload hx dX1_lines_38 3 rfl ?_
        refine J.iald (κ := 30) hx rfl rfl h21.1 dX1_lines_40 fun v23 => ?_
        refine J.iconst (v := (-1)) hx dX1_lines_41 (by decide) ?_
        refine J.fn (fun (K50 : Int32 → j_St → Option (Int32 × j_St)) => ∀ (v24 : Int32) (w25 : j_St), J g x 5 B (j_Q g x B rm_X1_lines jri) 0 0 (K50 v24 w25) 50 [(0, .ref (B.1 0 0)), (1, .int p1), (4, .int v13)] [.int v24, .int v12] w25) ?_ ?_
        · intro v24 w25
          refine J.iload_n hx dX1_lines_50 rfl 1 rfl ?_
          refine J.fn (fun (K62 : Int32 → j_St → Option (Int32 × j_St)) => ∀ (v26 : Int32) (w27 : j_St), J g x 5 B (j_Q g x B rm_X1_lines jri) 0 0 (K62 v26 w27) 62 [(0, .ref (B.1 0 0)), (1, .int p1), (4, .int v13)] [.int v26, .int v12] w27) ?_ ?_
          · intro v26 w27
            refine J.ior hx dX1_lines_62 ?_
            refine J.nmi fun v28 => ?_
            refine J.istore_n (lv' := [(3, .int v28), (0, .ref (B.1 0 0)), (1, .int p1), (4, .int v13)]) hx dX1_lines_63 rfl (by decide) rfl ?_
            refine J.nmx fun v29 ev29 => ?_
            refine J.iinc (p := 3) (v := v29) (lv' := [(4, .int v29), (3, .int v28), (0, .ref (B.1 0 0)), (1, .int p1)]) hx dX1_lines_64 rfl (by rw [ev29]; rfl) (by decide) rfl ?_
            refine J.goto (tgt := 18) hx dX1_lines_67 (by decide) ?_
            exact J.sub [2, 3, 1, 0] rfl (ih v28 v29 w27)
          · intro K62 hK62
            refine J.icmp_ne (tgt := 61) hx dX1_lines_51 (by decide) ?_ ?_
            · refine J.iconst (v := 1) hx dX1_lines_54 (by decide) ?_
              refine J.iload hx dX1_lines_55 2 rfl ?_
              refine J.ishl hx dX1_lines_57 ?_
              refine J.goto (tgt := 62) hx dX1_lines_58 (by decide) ?_
              exact J.sub [0, 1, 2] rfl (hK62 ((1 : Int32) <<< (v13 &&& 31)) w25)
            · refine J.iconst (v := 0) hx dX1_lines_61 (by decide) ?_
              exact J.sub [0, 1, 2] rfl (hK62 0 w25)
        · intro K50 hK50
          refine J.icmp_eq (tgt := 49) hx dX1_lines_42 (by decide) ?_ ?_
          · refine J.iconst (v := 0) hx dX1_lines_49 (by decide) ?_
            exact J.sub [0, 1, 3] rfl (hK50 0 w14)
          · refine J.iconst (v := 1) hx dX1_lines_45 (by decide) ?_
            refine J.goto (tgt := 50) hx dX1_lines_46 (by decide) ?_
            exact J.sub [0, 1, 3] rfl (hK50 1 w14)
  refine J.sub [3, 4, 1, 0] rfl (hL18 jFU 0 0 w10)
theorem hd_X1_missed : yX1_missed.cls = RX1 ∧ yX1_missed.cls ≠ "java/lang/invoke/MethodHandle" ∧ yX1_missed.cls ≠ "java/lang/invoke/VarHandle" ∧ (parseMethodDescriptor yX1_missed.desc).map (fun d => d.parameters.length) = some 0 := by decide +kernel
def f_X1_missed  (w : j_St) : Option (Int32 × j_St) := jlt (jgr w 0 0 7) fun v1 => jcs v1 (some ((-1), w)) fun y3 => jcb (f_X1_lines 0 w) fun v5 w6 => some (v5, w6)
abbrev rm_X1_missed : Room := { frames := 6, cells := 0, slots := 0, locals := 141 }
set_option maxRecDepth 100000 in
set_option maxHeartbeats 4000000 in
theorem mt_X1_missed {g : j_G} {B : j_B}  {w w' : j_St} (a0 : B.2.1 0 0 ∧ B.2.2 0 0) {r : Int32} (h : f_X1_missed  w = some (r, w')) : j_M g yX1_missed cX1_missed 1 (some FieldType.int) rm_X1_missed B [.ref (B.1 0 0)] w w' (jri r) := by
  refine j_met (rv := jri) (by decide) (Nat.le_of_ble_eq_true rfl) (fun x hx => ?_) h
  unfold f_X1_missed
  refine J.sub (lv' := [(0, .ref (B.1 0 0))]) [0] rfl ?_
  refine J.aload_n hx dX1_missed_0 rfl 0 rfl ?_
  refine J.getr (κ' := 6) (κ := 0) (k := 7) hx rfl rfl rfl rfl in_X1 (by decide) (Or.inl q374) a0.1 dX1_missed_1 fun v1 h2 => ?_
  refine J.ifnonnull (tgt := 11) hx dX1_missed_4 (by decide) (fun e4n => ?_) (fun y3 e4 => ?_)
  · subst e4n
    refine J.iconst (v := (-1)) hx dX1_missed_7 (by decide) ?_
    refine J.goto (tgt := 16) hx dX1_missed_8 (by decide) ?_
    exact J.iret hx rfl (Nat.le_of_ble_eq_true rfl) (Nat.le_of_ble_eq_true rfl) dX1_missed_16
  · subst e4
    refine J.aload_n hx dX1_missed_11 rfl 0 rfl ?_
    refine J.iconst (v := 0) hx dX1_missed_12 (by decide) ?_
    refine J.calli hx (fun r z1 z => j_callV (κ := 0) hx rfl rfl a0.1 (mt_X1_lines a0 z) (lw_V q1336 q1338 qs31 q120 q1339) hd_X1_lines rfl ⟨Nat.le_of_ble_eq_true rfl, Nat.le_of_ble_eq_true rfl⟩ (Nat.le_of_ble_eq_true rfl) dX1_missed_13) ⟨⟨rfl, rfl⟩, (Nat.le_of_ble_eq_true rfl), (Nat.le_of_ble_eq_true rfl)⟩ fun v5 w6 e7 => ?_
    exact J.iret hx rfl (Nat.le_of_ble_eq_true rfl) (Nat.le_of_ble_eq_true rfl) dX1_missed_16
theorem hd_X1_would : yX1_would.cls = RX1 ∧ yX1_would.cls ≠ "java/lang/invoke/MethodHandle" ∧ yX1_would.cls ≠ "java/lang/invoke/VarHandle" ∧ (parseMethodDescriptor yX1_would.desc).map (fun d => d.parameters.length) = some 3 := by decide +kernel
def f_X1_would (p1 : Int32) (p2 : Int32) (p3 : Int32) (w : j_St) : Option (Int32 × j_St) := jlt (jgr w 0 0 7) fun v1 => jcs v1 (some ((-1), w)) fun y3 => jcb (f_X1_isIn p3.toInt64 0 2 w) fun v5 w6 => if v5 = 0 then some ((-1), w6) else jcb (f_X8_sees 2 0 w6) fun _ w11 => jcb (f_X8_sets 2 p1 p2 w11) fun v14 w15 => if v14 = (-1) then jlt (jgi w15 5 2 2) fun v21 => jcb (f_X5_of 0 5 v21 w15) fun _ w23 => if p3 = 0 then jlt (jgi w23 2 0 6) fun v33 => some (v33, w23) else if p3 = 1 then jbd 0 48 fun a27 => jlt (jgr w23 27 0 a27) fun v28 => job v28 fun y30 => jlt (jgi w23 3 y30 0) fun v32 => some (v32, w23) else jlt (jgi w23 2 0 5) fun v25 => some (v25, w23) else some ((-1), w15)
abbrev rm_X1_would : Room := { frames := 4, cells := 0, slots := 0, locals := 102 }
set_option maxRecDepth 100000 in
set_option maxHeartbeats 4000000 in
theorem mt_X1_would {g : j_G} {B : j_B} {p1 : Int32} {p2 : Int32} {p3 : Int32} {w w' : j_St} (a0 : B.2.1 0 0 ∧ B.2.2 0 0) {r : Int32} (h : f_X1_would p1 p2 p3 w = some (r, w')) : j_M g yX1_would cX1_would 5 (some FieldType.int) rm_X1_would B [.ref (B.1 0 0), .int p1, .int p2, .int p3] w w' (jri r) := by
  refine j_met (rv := jri) (by decide) (Nat.le_of_ble_eq_true rfl) (fun x hx => ?_) h
  unfold f_X1_would
  refine J.sub (lv' := [(0, .ref (B.1 0 0)), (1, .int p1), (2, .int p2), (3, .int p3)]) [0, 1, 2, 3] rfl ?_
  refine J.aload_n hx dX1_would_0 rfl 0 rfl ?_
  refine J.getr (κ' := 6) (κ := 0) (k := 7) hx rfl rfl rfl rfl in_X1 (by decide) (Or.inl q374) a0.1 dX1_would_1 fun v1 h2 => ?_
  refine J.ifnull (tgt := 19) hx dX1_would_4 (by decide) (fun e4n => ?_) (fun y3 e4 => ?_)
  · subst e4n
    refine J.iconst (v := (-1)) hx dX1_would_19 (by decide) ?_
    exact J.iret hx rfl (Nat.le_of_ble_eq_true rfl) (Nat.le_of_ble_eq_true rfl) dX1_would_20
  · subst e4
    refine J.iload_n hx dX1_would_7 rfl 3 rfl ?_
    refine J.i2l hx dX1_would_8 ?_
    refine J.lconst (v := 0) hx dX1_would_9 (by decide) ?_
    refine J.ldc2 (v := 2) hx q1203 dX1_would_10 ?_
    refine J.calli hx (fun r z1 z => j_callS hx (mt_X1_isIn z) (lw_S q441 q442 q120 q443) hd_X1_isIn.2 rfl ⟨Nat.le_of_ble_eq_true rfl, Nat.le_of_ble_eq_true rfl⟩ (Nat.le_of_ble_eq_true rfl) dX1_would_13) ⟨⟨rfl, rfl⟩, (Nat.le_of_ble_eq_true rfl), (Nat.le_of_ble_eq_true rfl)⟩ fun v5 w6 e7 => ?_
    refine J.if_ne (tgt := 21) hx dX1_would_16 (by decide) ?_ ?_
    · refine J.iconst (v := (-1)) hx dX1_would_19 (by decide) ?_
      exact J.iret hx rfl (Nat.le_of_ble_eq_true rfl) (Nat.le_of_ble_eq_true rfl) dX1_would_20
    · refine J.aload_n hx dX1_would_21 rfl 0 rfl ?_
      refine J.getc (κ' := 5) (i' := 2) (κ := 0) (k := 15) hx rfl rfl rfl rfl rfl in_X1 (by decide) (Or.inl q384) a0.2 dX1_would_22 fun h8 => ?_
      refine J.aload_n hx dX1_would_25 rfl 0 rfl ?_
      refine J.getc (κ' := 5) (i' := 0) (κ := 0) (k := 13) hx rfl rfl rfl rfl rfl in_X1 (by decide) (Or.inl q382) a0.2 dX1_would_26 fun h9 => ?_
      refine J.callv hx (fun r z1 z => j_callV (κ := 5) hx rfl rfl h8.1 (mt_X8_sees h8 h9 z) (lw_V q1344 q976 q977 q128 q978) hd_X8_sees rfl ⟨Nat.le_of_ble_eq_true rfl, Nat.le_of_ble_eq_true rfl⟩ (Nat.le_of_ble_eq_true rfl) dX1_would_29) ⟨⟨rfl, rfl⟩, (Nat.le_of_ble_eq_true rfl), (Nat.le_of_ble_eq_true rfl)⟩ fun _ w11 e12 => ?_
      refine J.aload_n hx dX1_would_32 rfl 0 rfl ?_
      refine J.getc (κ' := 5) (i' := 2) (κ := 0) (k := 15) hx rfl rfl rfl rfl rfl in_X1 (by decide) (Or.inl q384) a0.2 dX1_would_33 fun h13 => ?_
      refine J.iload_n hx dX1_would_36 rfl 1 rfl ?_
      refine J.iload_n hx dX1_would_37 rfl 2 rfl ?_
      refine J.calli hx (fun r z1 z => j_callV (κ := 5) hx rfl rfl h13.1 (mt_X8_sets h13 z) (lw_V q1345 q1133 q1134 q128 q1135) hd_X8_sets rfl ⟨Nat.le_of_ble_eq_true rfl, Nat.le_of_ble_eq_true rfl⟩ (Nat.le_of_ble_eq_true rfl) dX1_would_38) ⟨⟨rfl, rfl⟩, (Nat.le_of_ble_eq_true rfl), (Nat.le_of_ble_eq_true rfl)⟩ fun v14 w15 e16 => ?_
      refine J.iconst (v := (-1)) hx dX1_would_41 (by decide) ?_
      refine J.icmp_eq (tgt := 47) hx dX1_would_42 (by decide) ?_ ?_
      · refine J.aload_n hx dX1_would_47 rfl 0 rfl ?_
        refine J.getc (κ' := 2) (i' := 0) (κ := 0) (k := 10) hx rfl rfl rfl rfl rfl in_X1 (by decide) (Or.inl q378) a0.2 dX1_would_48 fun h17 => ?_
        refine J.aload_n hx dX1_would_51 rfl 0 rfl ?_
        refine J.getc (κ' := 5) (i' := 2) (κ := 0) (k := 15) hx rfl rfl rfl rfl rfl in_X1 (by decide) (Or.inl q384) a0.2 dX1_would_52 fun h18 => ?_
        refine J.getc (κ' := 4) (i' := 5) (κ := 5) (k := 0) hx rfl rfl rfl rfl rfl in_X8 (by decide) (Or.inr ⟨_, j_nl q339 rfl⟩) h18.2 dX1_would_55 fun h19 => ?_
        refine J.aload_n hx dX1_would_58 rfl 0 rfl ?_
        refine J.getc (κ' := 5) (i' := 2) (κ := 0) (k := 15) hx rfl rfl rfl rfl rfl in_X1 (by decide) (Or.inl q384) a0.2 dX1_would_59 fun h20 => ?_
        refine J.geti (κ := 5) (k := 2) hx rfl rfl rfl in_X8 (by decide) (Or.inr ⟨_, j_nl q343 rfl⟩) h20.1 dX1_would_62 fun v21 => ?_
        refine J.callt hx (fun r z1 z => j_callV (κ := 2) hx rfl rfl h17.1 (mt_X5_of h17 h19 z) (lw_V q1228 q1003 q1004 q125 q1005) hd_X5_of rfl ⟨Nat.le_of_ble_eq_true rfl, Nat.le_of_ble_eq_true rfl⟩ (Nat.le_of_ble_eq_true rfl) dX1_would_65) ⟨⟨rfl, rfl⟩, (Nat.le_of_ble_eq_true rfl), (Nat.le_of_ble_eq_true rfl)⟩ fun _ w23 e24 => ?_
        refine J.astore (lv' := [(4, .ref (B.1 2 0)), (0, .ref (B.1 0 0)), (1, .int p1), (2, .int p2), (3, .int p3)]) hx dX1_would_68 (by decide) rfl ?_
        refine J.iload_n hx dX1_would_70 rfl 4 rfl ?_
        refine J.if_ne (tgt := 82) hx dX1_would_71 (by decide) ?_ ?_
        · refine J.aload hx dX1_would_74 0 rfl ?_
          refine J.geti (κ := 2) (k := 6) hx rfl rfl rfl in_X5 (by decide) (Or.inr ⟨_, j_nl q286 rfl⟩) h17.1 dX1_would_76 fun v33 => ?_
          refine J.goto (tgt := 105) hx dX1_would_79 (by decide) ?_
          exact J.iret hx rfl (Nat.le_of_ble_eq_true rfl) (Nat.le_of_ble_eq_true rfl) dX1_would_105
        · refine J.iload_n hx dX1_would_82 rfl 4 rfl ?_
          refine J.iconst (v := 1) hx dX1_would_83 (by decide) ?_
          refine J.icmp_ne (tgt := 100) hx dX1_would_84 (by decide) ?_ ?_
          · refine J.aload hx dX1_would_87 0 rfl ?_
            refine J.getc (κ' := 27) (i' := 0) (κ := 2) (k := 1) hx rfl rfl rfl rfl rfl in_X5 (by decide) (Or.inr ⟨_, j_nl q277 rfl⟩) h17.2 dX1_would_89 fun h26 => ?_
            refine J.iconst (v := 0) hx dX1_would_92 (by decide) ?_
            refine J.aald (κ' := 3) (κ := 27) hx rfl rfl (by decide) rfl rfl h26.1 dX1_would_93 fun v28 h29 => ?_
            refine J.obU fun y30 e31 => ?_
            subst e31
            refine J.geti (κ := 3) (k := 0) hx rfl rfl rfl in_X6 (by decide) (Or.inr ⟨_, j_nl q239 rfl⟩) (h29 y30 rfl).1 dX1_would_94 fun v32 => ?_
            refine J.goto (tgt := 105) hx dX1_would_97 (by decide) ?_
            exact J.iret hx rfl (Nat.le_of_ble_eq_true rfl) (Nat.le_of_ble_eq_true rfl) dX1_would_105
          · refine J.aload hx dX1_would_100 0 rfl ?_
            refine J.geti (κ := 2) (k := 5) hx rfl rfl rfl in_X5 (by decide) (Or.inr ⟨_, j_nl q283 rfl⟩) h17.1 dX1_would_102 fun v25 => ?_
            exact J.iret hx rfl (Nat.le_of_ble_eq_true rfl) (Nat.le_of_ble_eq_true rfl) dX1_would_105
      · refine J.iconst (v := (-1)) hx dX1_would_45 (by decide) ?_
        exact J.iret hx rfl (Nat.le_of_ble_eq_true rfl) (Nat.le_of_ble_eq_true rfl) dX1_would_46
theorem hd_X1_change : yX1_change.cls = RX1 ∧ yX1_change.cls ≠ "java/lang/invoke/MethodHandle" ∧ yX1_change.cls ≠ "java/lang/invoke/VarHandle" ∧ (parseMethodDescriptor yX1_change.desc).map (fun d => d.parameters.length) = some 1 := by decide +kernel
def f_X1_change_L27  (k97 : Int32 → Int32 → j_St → Option (Int32 × j_St)) : Nat → Int32 → Int32 → Int32 → j_St → Option (Int32 × j_St)
  | 0, _, _, _, _ => none
  | n27 + 1, v8, v9, v10, w11 => jlt (jgi w11 4 1 1) fun v14 => if v14 ≤ v10 then k97 v8 v9 w11 else jcb (f_X8_sees 2 0 w11) fun _ w18 => jbd v10 48 fun a24 => jlt (jsi w18 32 5 a24 0) fun w23 => jcb (f_X8_kept 2 w23) fun v26 w27 => jlt (fun (v29 : Int32) (v30 : Int32) (w31 : j_St) => jlt (v10 + 1) fun v32 => f_X1_change_L27 k97 n27 v29 v30 v32 w31) fun K91 => if v26 < v9 then K91 v10 v26 w27 else K91 v8 v9 w27
def f_X1_change (p1 : Int32) (w : j_St) : Option (Int32 × j_St) := jlt (jgr w 0 0 7) fun v1 => jcs v1 (some ((-1), w)) fun y3 => jcb (f_X1_isIn p1.toInt64 0 1 w) fun v5 w6 => if v5 = 0 then some ((-1), w6) else f_X1_change_L27 (fun (v33 : Int32) (v34 : Int32) (w35 : j_St) => if p1 = 0 then some (v33, w35) else some (v34, w35)) jFU (-1) 48 0 w6
abbrev rm_X1_change : Room := { frames := 5, cells := 0, slots := 0, locals := 117 }
set_option maxRecDepth 100000 in
set_option maxHeartbeats 4000000 in
theorem mt_X1_change {g : j_G} {B : j_B} {p1 : Int32} {w w' : j_St} (a0 : B.2.1 0 0 ∧ B.2.2 0 0) {r : Int32} (h : f_X1_change p1 w = some (r, w')) : j_M g yX1_change cX1_change 6 (some FieldType.int) rm_X1_change B [.ref (B.1 0 0), .int p1] w w' (jri r) := by
  refine j_met (rv := jri) (by decide) (Nat.le_of_ble_eq_true rfl) (fun x hx => ?_) h
  unfold f_X1_change
  refine J.sub (lv' := [(0, .ref (B.1 0 0)), (1, .int p1)]) [0, 1] rfl ?_
  refine J.aload_n hx dX1_change_0 rfl 0 rfl ?_
  refine J.getr (κ' := 6) (κ := 0) (k := 7) hx rfl rfl rfl rfl in_X1 (by decide) (Or.inl q374) a0.1 dX1_change_1 fun v1 h2 => ?_
  refine J.ifnull (tgt := 17) hx dX1_change_4 (by decide) (fun e4n => ?_) (fun y3 e4 => ?_)
  · subst e4n
    refine J.iconst (v := (-1)) hx dX1_change_17 (by decide) ?_
    exact J.iret hx rfl (Nat.le_of_ble_eq_true rfl) (Nat.le_of_ble_eq_true rfl) dX1_change_18
  · subst e4
    refine J.iload_n hx dX1_change_7 rfl 1 rfl ?_
    refine J.i2l hx dX1_change_8 ?_
    refine J.lconst (v := 0) hx dX1_change_9 (by decide) ?_
    refine J.lconst (v := 1) hx dX1_change_10 (by decide) ?_
    refine J.calli hx (fun r z1 z => j_callS hx (mt_X1_isIn z) (lw_S q441 q442 q120 q443) hd_X1_isIn.2 rfl ⟨Nat.le_of_ble_eq_true rfl, Nat.le_of_ble_eq_true rfl⟩ (Nat.le_of_ble_eq_true rfl) dX1_change_11) ⟨⟨rfl, rfl⟩, (Nat.le_of_ble_eq_true rfl), (Nat.le_of_ble_eq_true rfl)⟩ fun v5 w6 e7 => ?_
    refine J.if_ne (tgt := 19) hx dX1_change_14 (by decide) ?_ ?_
    · refine J.iconst (v := (-1)) hx dX1_change_17 (by decide) ?_
      exact J.iret hx rfl (Nat.le_of_ble_eq_true rfl) (Nat.le_of_ble_eq_true rfl) dX1_change_18
    · refine J.iconst (v := (-1)) hx dX1_change_19 (by decide) ?_
      refine J.istore_n (lv' := [(2, .int (-1)), (0, .ref (B.1 0 0)), (1, .int p1)]) hx dX1_change_20 rfl (by decide) rfl ?_
      refine J.bipush (v := 48) hx dX1_change_21 (by decide) ?_
      refine J.istore_n (lv' := [(3, .int 48), (2, .int (-1)), (0, .ref (B.1 0 0)), (1, .int p1)]) hx dX1_change_23 rfl (by decide) rfl ?_
      refine J.iconst (v := 0) hx dX1_change_24 (by decide) ?_
      refine J.istore (lv' := [(4, .int 0), (3, .int 48), (2, .int (-1)), (0, .ref (B.1 0 0)), (1, .int p1)]) hx dX1_change_25 (by decide) rfl ?_
      have hL27 : ∀ (k97 : Int32 → Int32 → j_St → Option (Int32 × j_St)) (hk97 : ∀ (v33 : Int32) (v34 : Int32) (w35 : j_St), J g x 6 B (j_Q g x B rm_X1_change jri) 0 0 (k97 v33 v34 w35) 97 [(1, .int p1), (2, .int v33), (3, .int v34)] [] w35) (n27 : Nat) (v8 : Int32) (v9 : Int32) (v10 : Int32) (w11 : j_St), J g x 6 B (j_Q g x B rm_X1_change jri) 0 0 (f_X1_change_L27 k97 n27 v8 v9 v10 w11) 27 [(0, .ref (B.1 0 0)), (1, .int p1), (2, .int v8), (3, .int v9), (4, .int v10)] [] w11 := by
        intro k97 hk97 n27
        induction n27 with
        | zero =>
          intro v8 v9 v10 w11
          rw [f_X1_change_L27]
          exact J.nne
        | succ n27 ih =>
          intro v8 v9 v10 w11
          rw [f_X1_change_L27]
          refine J.iload hx dX1_change_27 4 rfl ?_
          refine J.aload_n hx dX1_change_29 rfl 0 rfl ?_
          refine J.getc (κ' := 5) (i' := 0) (κ := 0) (k := 13) hx rfl rfl rfl rfl rfl in_X1 (by decide) (Or.inl q382) a0.2 dX1_change_30 fun h12 => ?_
          refine J.getc (κ' := 4) (i' := 1) (κ := 5) (k := 0) hx rfl rfl rfl rfl rfl in_X8 (by decide) (Or.inr ⟨_, j_nl q339 rfl⟩) h12.2 dX1_change_33 fun h13 => ?_
          refine J.geti (κ := 4) (k := 1) hx rfl rfl rfl in_X7 (by decide) (Or.inr ⟨_, j_nl q324 rfl⟩) h13.1 dX1_change_36 fun v14 => ?_
          refine J.icmp_ge (tgt := 97) hx dX1_change_39 (by decide) ?_ ?_
          · exact J.sub [1, 2, 3] rfl (hk97 v8 v9 w11)
          · refine J.aload_n hx dX1_change_42 rfl 0 rfl ?_
            refine J.getc (κ' := 5) (i' := 2) (κ := 0) (k := 15) hx rfl rfl rfl rfl rfl in_X1 (by decide) (Or.inl q384) a0.2 dX1_change_43 fun h15 => ?_
            refine J.aload_n hx dX1_change_46 rfl 0 rfl ?_
            refine J.getc (κ' := 5) (i' := 0) (κ := 0) (k := 13) hx rfl rfl rfl rfl rfl in_X1 (by decide) (Or.inl q382) a0.2 dX1_change_47 fun h16 => ?_
            refine J.callv hx (fun r z1 z => j_callV (κ := 5) hx rfl rfl h15.1 (mt_X8_sees h15 h16 z) (lw_V q1344 q976 q977 q128 q978) hd_X8_sees rfl ⟨Nat.le_of_ble_eq_true rfl, Nat.le_of_ble_eq_true rfl⟩ (Nat.le_of_ble_eq_true rfl) dX1_change_50) ⟨⟨rfl, rfl⟩, (Nat.le_of_ble_eq_true rfl), (Nat.le_of_ble_eq_true rfl)⟩ fun _ w18 e19 => ?_
            refine J.aload_n hx dX1_change_53 rfl 0 rfl ?_
            refine J.getc (κ' := 5) (i' := 2) (κ := 0) (k := 15) hx rfl rfl rfl rfl rfl in_X1 (by decide) (Or.inl q384) a0.2 dX1_change_54 fun h20 => ?_
            refine J.getc (κ' := 4) (i' := 5) (κ := 5) (k := 0) hx rfl rfl rfl rfl rfl in_X8 (by decide) (Or.inr ⟨_, j_nl q339 rfl⟩) h20.2 dX1_change_57 fun h21 => ?_
            refine J.getc (κ' := 32) (i' := 5) (κ := 4) (k := 0) hx rfl rfl rfl rfl rfl in_X7 (by decide) (Or.inr ⟨_, j_nl q319 rfl⟩) h21.2 dX1_change_60 fun h22 => ?_
            refine J.iload hx dX1_change_63 4 rfl ?_
            refine J.iconst (v := 0) hx dX1_change_65 (by decide) ?_
            refine J.iast (κ := 32) hx rfl rfl rfl h22.1 dX1_change_66 fun w23 => ?_
            refine J.aload_n hx dX1_change_67 rfl 0 rfl ?_
            refine J.getc (κ' := 5) (i' := 2) (κ := 0) (k := 15) hx rfl rfl rfl rfl rfl in_X1 (by decide) (Or.inl q384) a0.2 dX1_change_68 fun h25 => ?_
            refine J.calli hx (fun r z1 z => j_callV (κ := 5) hx rfl rfl h25.1 (mt_X8_kept h25 z) (lw_V q1150 q999 q1000 q128 q1001) hd_X8_kept rfl ⟨Nat.le_of_ble_eq_true rfl, Nat.le_of_ble_eq_true rfl⟩ (Nat.le_of_ble_eq_true rfl) dX1_change_71) ⟨⟨rfl, rfl⟩, (Nat.le_of_ble_eq_true rfl), (Nat.le_of_ble_eq_true rfl)⟩ fun v26 w27 e28 => ?_
            refine J.istore (lv' := [(5, .int v26), (0, .ref (B.1 0 0)), (1, .int p1), (2, .int v8), (3, .int v9), (4, .int v10)]) hx dX1_change_74 (by decide) rfl ?_
            refine J.iload hx dX1_change_76 0 rfl ?_
            refine J.iload_n hx dX1_change_78 rfl 4 rfl ?_
            refine J.fn (fun (K91 : Int32 → Int32 → j_St → Option (Int32 × j_St)) => ∀ (v29 : Int32) (v30 : Int32) (w31 : j_St), J g x 6 B (j_Q g x B rm_X1_change jri) 0 0 (K91 v29 v30 w31) 91 [(0, .ref (B.1 0 0)), (1, .int p1), (2, .int v29), (3, .int v30), (4, .int v10)] [] w31) ?_ ?_
            · intro v29 v30 w31
              refine J.nmx fun v32 ev32 => ?_
              refine J.iinc (p := 4) (v := v32) (lv' := [(4, .int v32), (0, .ref (B.1 0 0)), (1, .int p1), (2, .int v29), (3, .int v30)]) hx dX1_change_91 rfl (by rw [ev32]; rfl) (by decide) rfl ?_
              refine J.goto (tgt := 27) hx dX1_change_94 (by decide) ?_
              exact J.sub [1, 2, 3, 4, 0] rfl (ih v29 v30 v32 w31)
            · intro K91 hK91
              refine J.icmp_lt (tgt := 85) hx dX1_change_79 (by decide) ?_ ?_
              · refine J.iload hx dX1_change_85 5 rfl ?_
                refine J.istore_n (lv' := [(2, .int v10), (5, .int v26), (0, .ref (B.1 0 0)), (1, .int p1), (3, .int v9), (4, .int v10)]) hx dX1_change_87 rfl (by decide) rfl ?_
                refine J.iload hx dX1_change_88 1 rfl ?_
                refine J.istore_n (lv' := [(3, .int v26), (2, .int v10), (5, .int v26), (0, .ref (B.1 0 0)), (1, .int p1), (4, .int v10)]) hx dX1_change_90 rfl (by decide) rfl ?_
                exact J.sub [3, 4, 1, 0, 5] rfl (hK91 v10 v26 w27)
              · refine J.goto (tgt := 91) hx dX1_change_82 (by decide) ?_
                exact J.sub [1, 2, 3, 4, 5] rfl (hK91 v8 v9 w27)
      refine J.sub [3, 4, 2, 1, 0] rfl (hL27 _ ?_ jFU (-1) 48 0 w6)
      · intro v33 v34 w35
        refine J.iload_n hx dX1_change_97 rfl 0 rfl ?_
        refine J.if_ne (tgt := 105) hx dX1_change_98 (by decide) ?_ ?_
        · refine J.iload_n hx dX1_change_101 rfl 1 rfl ?_
          refine J.goto (tgt := 106) hx dX1_change_102 (by decide) ?_
          exact J.iret hx rfl (Nat.le_of_ble_eq_true rfl) (Nat.le_of_ble_eq_true rfl) dX1_change_106
        · refine J.iload_n hx dX1_change_105 rfl 2 rfl ?_
          exact J.iret hx rfl (Nat.le_of_ble_eq_true rfl) (Nat.le_of_ble_eq_true rfl) dX1_change_106
theorem hd_X1_isScript : yX1_isScript.cls = RX1 ∧ yX1_isScript.cls ≠ "java/lang/invoke/MethodHandle" ∧ yX1_isScript.cls ≠ "java/lang/invoke/VarHandle" ∧ (parseMethodDescriptor yX1_isScript.desc).map (fun d => d.parameters.length) = some 1 := by decide +kernel
def f_X1_isScript (p1 : Int32) (w : j_St) : Option (Int32 × j_St) := jlt (jgi w 0 0 6) fun v1 => jcb (f_X1_isIn p1.toInt64 0 ((v1 - 1).toInt64) w) fun v2 w3 => if v2 = 0 ∨ v2 = 1 then some (v2, w3) else none
abbrev rm_X1_isScript : Room := { frames := 1, cells := 0, slots := 0, locals := 25 }
set_option maxRecDepth 100000 in
set_option maxHeartbeats 4000000 in
theorem mt_X1_isScript {g : j_G} {B : j_B} {p1 : Int32} {w w' : j_St} (a0 : B.2.1 0 0 ∧ B.2.2 0 0) {r : Int32} (h : f_X1_isScript p1 w = some (r, w')) : j_M g yX1_isScript cX1_isScript 2 (some FieldType.boolean) rm_X1_isScript B [.ref (B.1 0 0), .int p1] w w' (jri r) := by
  refine j_met (rv := jri) (by decide) (Nat.le_of_ble_eq_true rfl) (fun x hx => ?_) h
  unfold f_X1_isScript
  refine J.sub (lv' := [(0, .ref (B.1 0 0)), (1, .int p1)]) [0, 1] rfl ?_
  refine J.iload_n hx dX1_isScript_0 rfl 1 rfl ?_
  refine J.i2l hx dX1_isScript_1 ?_
  refine J.lconst (v := 0) hx dX1_isScript_2 (by decide) ?_
  refine J.aload_n hx dX1_isScript_3 rfl 0 rfl ?_
  refine J.geti (κ := 0) (k := 6) hx rfl rfl rfl in_X1 (by decide) (Or.inl q373) a0.1 dX1_isScript_4 fun v1 => ?_
  refine J.iconst (v := 1) hx dX1_isScript_7 (by decide) ?_
  refine J.isub hx dX1_isScript_8 ?_
  refine J.i2l hx dX1_isScript_9 ?_
  refine J.calli hx (fun r z1 z => j_callS hx (mt_X1_isIn z) (lw_S q441 q442 q120 q443) hd_X1_isIn.2 rfl ⟨Nat.le_of_ble_eq_true rfl, Nat.le_of_ble_eq_true rfl⟩ (Nat.le_of_ble_eq_true rfl) dX1_isScript_10) ⟨⟨rfl, rfl⟩, (Nat.le_of_ble_eq_true rfl), (Nat.le_of_ble_eq_true rfl)⟩ fun v2 w3 e4 => ?_
  exact J.zretc hx rfl (Nat.le_of_ble_eq_true rfl) (Nat.le_of_ble_eq_true rfl) dX1_isScript_13
theorem hd_X13_number : yX13_number.cls = RX13 ∧ yX13_number.cls ≠ "java/lang/invoke/MethodHandle" ∧ yX13_number.cls ≠ "java/lang/invoke/VarHandle" ∧ (parseMethodDescriptor yX13_number.desc).map (fun d => d.parameters.length) = some 2 := by decide +kernel
def f_X13_number (i0 : Nat) (p1 : Int32) (p2 : Int32) (w : j_St) : Option (Int32 × j_St) := jbd ((2 * p1) + p2) 24 fun a2 => jlt (jgi w 37 i0 a2) fun v3 => some (v3, w)
abbrev rm_X13_number : Room := { frames := 0, cells := 0, slots := 0, locals := 0 }
set_option maxRecDepth 100000 in
set_option maxHeartbeats 4000000 in
theorem mt_X13_number {g : j_G} {B : j_B} {i0 : Nat} {p1 : Int32} {p2 : Int32} {w w' : j_St} (a0 : B.2.1 7 i0 ∧ B.2.2 7 i0) {r : Int32} (h : f_X13_number i0 p1 p2 w = some (r, w')) : j_M g yX13_number cX13_number 3 (some FieldType.int) rm_X13_number B [.ref (B.1 7 i0), .int p1, .int p2] w w' (jri r) := by
  refine j_met (rv := jri) (by decide) (Nat.le_of_ble_eq_true rfl) (fun x hx => ?_) h
  unfold f_X13_number
  refine J.sub (lv' := [(0, .ref (B.1 7 i0)), (1, .int p1), (2, .int p2)]) [0, 1, 2] rfl ?_
  refine J.aload_n hx dX13_number_0 rfl 0 rfl ?_
  refine J.getc (κ' := 37) (i' := i0) (κ := 7) (k := 1) hx rfl rfl rfl rfl rfl in_X13 (by decide) (Or.inl q909) a0.2 dX13_number_1 fun h1 => ?_
  refine J.iconst (v := 2) hx dX13_number_4 (by decide) ?_
  refine J.iload_n hx dX13_number_5 rfl 1 rfl ?_
  refine J.imul hx dX13_number_6 ?_
  refine J.iload_n hx dX13_number_7 rfl 2 rfl ?_
  refine J.iadd hx dX13_number_8 ?_
  refine J.iald (κ := 37) hx rfl rfl h1.1 dX13_number_9 fun v3 => ?_
  exact J.iret hx rfl (Nat.le_of_ble_eq_true rfl) (Nat.le_of_ble_eq_true rfl) dX13_number_10
theorem hd_X1_step : yX1_step.cls = RX1 ∧ yX1_step.cls ≠ "java/lang/invoke/MethodHandle" ∧ yX1_step.cls ≠ "java/lang/invoke/VarHandle" ∧ (parseMethodDescriptor yX1_step.desc).map (fun d => d.parameters.length) = some 3 := by decide +kernel
def f_X1_step (p1 : Int32) (p2 : Int32) (p3 : Int32) (w : j_St) : Option (Int32 × j_St) := jcb (f_X1_isScript p1 w) fun v1 w2 => if v1 = 0 then some ((-1000000), w2) else jbd p1 4 fun a5 => jlt (jgr w2 22 0 a5) fun v6 => job v6 fun y8 => jlt (jgi w2 7 y8 2) fun v10 => jcb (f_X1_isIn p2.toInt64 0 ((v10 - 1).toInt64) w2) fun v11 w12 => if v11 = 0 then some ((-1000000), w12) else jcb (f_X1_isIn p3.toInt64 0 2 w12) fun v14 w15 => if v14 = 0 then some ((-1000000), w15) else if p3 = 0 then jbd p1 4 fun a27 => jlt (jgr w15 22 0 a27) fun v28 => job v28 fun y30 => jbd p2 12 fun a33 => jlt (jgi w15 36 y30 a33) fun v34 => some (v34, w15) else jbd p1 4 fun a18 => jlt (jgr w15 22 0 a18) fun v19 => job v19 fun y21 => jcb (f_X13_number y21 p2 (p3 - 1) w15) fun v23 w24 => some (v23, w24)
abbrev rm_X1_step : Room := { frames := 2, cells := 0, slots := 0, locals := 46 }
set_option maxRecDepth 100000 in
set_option maxHeartbeats 4000000 in
theorem mt_X1_step {g : j_G} {B : j_B} {p1 : Int32} {p2 : Int32} {p3 : Int32} {w w' : j_St} (a0 : B.2.1 0 0 ∧ B.2.2 0 0) {r : Int32} (h : f_X1_step p1 p2 p3 w = some (r, w')) : j_M g yX1_step cX1_step 4 (some FieldType.int) rm_X1_step B [.ref (B.1 0 0), .int p1, .int p2, .int p3] w w' (jri r) := by
  refine j_met (rv := jri) (by decide) (Nat.le_of_ble_eq_true rfl) (fun x hx => ?_) h
  unfold f_X1_step
  refine J.sub (lv' := [(0, .ref (B.1 0 0)), (1, .int p1), (2, .int p2), (3, .int p3)]) [0, 1, 2, 3] rfl ?_
  refine J.aload_n hx dX1_step_0 rfl 0 rfl ?_
  refine J.iload_n hx dX1_step_1 rfl 1 rfl ?_
  refine J.calli hx (fun r z1 z => j_callV (κ := 0) hx rfl rfl a0.1 (mt_X1_isScript a0 z) (lw_V q1558 q1560 qs37 q120 q1561) hd_X1_isScript rfl ⟨Nat.le_of_ble_eq_true rfl, Nat.le_of_ble_eq_true rfl⟩ (Nat.le_of_ble_eq_true rfl) dX1_step_2) ⟨⟨rfl, rfl⟩, (Nat.le_of_ble_eq_true rfl), (Nat.le_of_ble_eq_true rfl)⟩ fun v1 w2 e3 => ?_
  refine J.if_eq (tgt := 41) hx dX1_step_5 (by decide) ?_ ?_
  · refine J.ldc (v := (-1000000)) hx q1204 dX1_step_41 ?_
    exact J.iret hx rfl (Nat.le_of_ble_eq_true rfl) (Nat.le_of_ble_eq_true rfl) dX1_step_43
  · refine J.iload_n hx dX1_step_8 rfl 2 rfl ?_
    refine J.i2l hx dX1_step_9 ?_
    refine J.lconst (v := 0) hx dX1_step_10 (by decide) ?_
    refine J.aload_n hx dX1_step_11 rfl 0 rfl ?_
    refine J.getc (κ' := 22) (i' := 0) (κ := 0) (k := 4) hx rfl rfl rfl rfl rfl in_X1 (by decide) (Or.inl q371) a0.2 dX1_step_12 fun h4 => ?_
    refine J.iload_n hx dX1_step_15 rfl 1 rfl ?_
    refine J.aald (κ' := 7) (κ := 22) hx rfl rfl (by decide) rfl rfl h4.1 dX1_step_16 fun v6 h7 => ?_
    refine J.obU fun y8 e9 => ?_
    subst e9
    refine J.geti (κ := 7) (k := 2) hx rfl rfl rfl in_X13 (by decide) (Or.inr ⟨_, j_nl q912 rfl⟩) (h7 y8 rfl).1 dX1_step_17 fun v10 => ?_
    refine J.iconst (v := 1) hx dX1_step_20 (by decide) ?_
    refine J.isub hx dX1_step_21 ?_
    refine J.i2l hx dX1_step_22 ?_
    refine J.calli hx (fun r z1 z => j_callS hx (mt_X1_isIn z) (lw_S q441 q442 q120 q443) hd_X1_isIn.2 rfl ⟨Nat.le_of_ble_eq_true rfl, Nat.le_of_ble_eq_true rfl⟩ (Nat.le_of_ble_eq_true rfl) dX1_step_23) ⟨⟨rfl, rfl⟩, (Nat.le_of_ble_eq_true rfl), (Nat.le_of_ble_eq_true rfl)⟩ fun v11 w12 e13 => ?_
    refine J.if_eq (tgt := 41) hx dX1_step_26 (by decide) ?_ ?_
    · refine J.ldc (v := (-1000000)) hx q1204 dX1_step_41 ?_
      exact J.iret hx rfl (Nat.le_of_ble_eq_true rfl) (Nat.le_of_ble_eq_true rfl) dX1_step_43
    · refine J.iload_n hx dX1_step_29 rfl 3 rfl ?_
      refine J.i2l hx dX1_step_30 ?_
      refine J.lconst (v := 0) hx dX1_step_31 (by decide) ?_
      refine J.ldc2 (v := 2) hx q1203 dX1_step_32 ?_
      refine J.calli hx (fun r z1 z => j_callS hx (mt_X1_isIn z) (lw_S q441 q442 q120 q443) hd_X1_isIn.2 rfl ⟨Nat.le_of_ble_eq_true rfl, Nat.le_of_ble_eq_true rfl⟩ (Nat.le_of_ble_eq_true rfl) dX1_step_35) ⟨⟨rfl, rfl⟩, (Nat.le_of_ble_eq_true rfl), (Nat.le_of_ble_eq_true rfl)⟩ fun v14 w15 e16 => ?_
      refine J.if_ne (tgt := 44) hx dX1_step_38 (by decide) ?_ ?_
      · refine J.ldc (v := (-1000000)) hx q1204 dX1_step_41 ?_
        exact J.iret hx rfl (Nat.le_of_ble_eq_true rfl) (Nat.le_of_ble_eq_true rfl) dX1_step_43
      · refine J.iload_n hx dX1_step_44 rfl 3 rfl ?_
        refine J.if_ne (tgt := 62) hx dX1_step_45 (by decide) ?_ ?_
        · refine J.aload_n hx dX1_step_48 rfl 0 rfl ?_
          refine J.getc (κ' := 22) (i' := 0) (κ := 0) (k := 4) hx rfl rfl rfl rfl rfl in_X1 (by decide) (Or.inl q371) a0.2 dX1_step_49 fun h26 => ?_
          refine J.iload_n hx dX1_step_52 rfl 1 rfl ?_
          refine J.aald (κ' := 7) (κ := 22) hx rfl rfl (by decide) rfl rfl h26.1 dX1_step_53 fun v28 h29 => ?_
          refine J.obU fun y30 e31 => ?_
          subst e31
          refine J.getc (κ' := 36) (i' := y30) (κ := 7) (k := 0) hx rfl rfl rfl rfl rfl in_X13 (by decide) (Or.inr ⟨_, j_nl q908 rfl⟩) (h29 y30 rfl).2 dX1_step_54 fun h32 => ?_
          refine J.iload_n hx dX1_step_57 rfl 2 rfl ?_
          refine J.iald (κ := 36) hx rfl rfl h32.1 dX1_step_58 fun v34 => ?_
          refine J.goto (tgt := 75) hx dX1_step_59 (by decide) ?_
          exact J.iret hx rfl (Nat.le_of_ble_eq_true rfl) (Nat.le_of_ble_eq_true rfl) dX1_step_75
        · refine J.aload_n hx dX1_step_62 rfl 0 rfl ?_
          refine J.getc (κ' := 22) (i' := 0) (κ := 0) (k := 4) hx rfl rfl rfl rfl rfl in_X1 (by decide) (Or.inl q371) a0.2 dX1_step_63 fun h17 => ?_
          refine J.iload_n hx dX1_step_66 rfl 1 rfl ?_
          refine J.aald (κ' := 7) (κ := 22) hx rfl rfl (by decide) rfl rfl h17.1 dX1_step_67 fun v19 h20 => ?_
          refine J.iload_n hx dX1_step_68 rfl 2 rfl ?_
          refine J.iload_n hx dX1_step_69 rfl 3 rfl ?_
          refine J.iconst (v := 1) hx dX1_step_70 (by decide) ?_
          refine J.isub hx dX1_step_71 ?_
          refine J.obU fun y21 e22 => ?_
          subst e22
          refine J.calli hx (fun r z1 z => j_callV (κ := 7) hx rfl rfl (h20 y21 rfl).1 (mt_X13_number (h20 y21 rfl) z) (lw_V q1562 q1563 q1564 q144 q1565) hd_X13_number rfl ⟨Nat.le_of_ble_eq_true rfl, Nat.le_of_ble_eq_true rfl⟩ (Nat.le_of_ble_eq_true rfl) dX1_step_72) ⟨⟨rfl, rfl⟩, (Nat.le_of_ble_eq_true rfl), (Nat.le_of_ble_eq_true rfl)⟩ fun v23 w24 e25 => ?_
          exact J.iret hx rfl (Nat.le_of_ble_eq_true rfl) (Nat.le_of_ble_eq_true rfl) dX1_step_75
theorem hd_X1_run : yX1_run.cls = RX1 ∧ yX1_run.cls ≠ "java/lang/invoke/MethodHandle" ∧ yX1_run.cls ≠ "java/lang/invoke/VarHandle" ∧ (parseMethodDescriptor yX1_run.desc).map (fun d => d.parameters.length) = some 2 := by decide +kernel
def f_X1_run_L49 (v13 : Option Nat) (k96 : Int32 → j_St → Option (Int32 × j_St)) : Nat → Int32 → j_St → Option (Int32 × j_St)
  | 0, _, _ => none
  | n49 + 1, v20, w21 => job v13 fun y22 => jlt (jgi w21 7 y22 2) fun v24 => if v24 ≤ v20 then k96 v20 w21 else jbd v20 12 fun a27 => jlt (jgi w21 36 y22 a27) fun v28 => jcb (f_X13_number y22 v20 0 w21) fun v29 w30 => jcb (f_X13_number y22 v20 1 w30) fun v32 w33 => jcb (f_X8_deed 2 v28 v29 v32 w33) fun v35 w36 => if v35 = (-1) then jlt (v20 + 1) fun v38 => f_X1_run_L49 v13 k96 n49 v38 w36 else k96 v20 w36
def f_X1_run (p1 : Int32) (p2 : Int32) (w : j_St) : Option (Int32 × j_St) := jcb (f_X1_isScript p1 w) fun v1 w2 => if v1 = 0 then some ((-1000000), w2) else jlt (jgr w2 0 0 7) fun v4 => jcs v4 (some ((-1000000), w2)) fun y6 => jcb (f_X1_isIn p2.toInt64 0 1 w2) fun v8 w9 => if v8 = 0 then some ((-1000000), w9) else jbd p1 4 fun a12 => jlt (jgr w9 22 0 a12) fun v13 => jcb (f_X8_sees 2 0 w9) fun _ w18 => f_X1_run_L49 v13 (fun (v39 : Int32) (w40 : j_St) => if p2 = 1 then jcb (f_X8_kept 2 w40) fun v45 w46 => some (v45, w46) else job v13 fun y41 => jlt (jgi w40 7 y41 2) fun v43 => if v39 = v43 then some ((-1), w40) else some (v39, w40)) jFU 0 w18
abbrev rm_X1_run : Room := { frames := 7, cells := 0, slots := 0, locals := 162 }
set_option maxRecDepth 100000 in
set_option maxHeartbeats 4000000 in
theorem mt_X1_run {g : j_G} {B : j_B} {p1 : Int32} {p2 : Int32} {w w' : j_St} (a0 : B.2.1 0 0 ∧ B.2.2 0 0) {r : Int32} (h : f_X1_run p1 p2 w = some (r, w')) : j_M g yX1_run cX1_run 5 (some FieldType.int) rm_X1_run B [.ref (B.1 0 0), .int p1, .int p2] w w' (jri r) := by
  refine j_met (rv := jri) (by decide) (Nat.le_of_ble_eq_true rfl) (fun x hx => ?_) h
  unfold f_X1_run
  refine J.sub (lv' := [(0, .ref (B.1 0 0)), (1, .int p1), (2, .int p2)]) [0, 1, 2] rfl ?_
  refine J.aload_n hx dX1_run_0 rfl 0 rfl ?_
  refine J.iload_n hx dX1_run_1 rfl 1 rfl ?_
  refine J.calli hx (fun r z1 z => j_callV (κ := 0) hx rfl rfl a0.1 (mt_X1_isScript a0 z) (lw_V q1558 q1560 qs37 q120 q1561) hd_X1_isScript rfl ⟨Nat.le_of_ble_eq_true rfl, Nat.le_of_ble_eq_true rfl⟩ (Nat.le_of_ble_eq_true rfl) dX1_run_2) ⟨⟨rfl, rfl⟩, (Nat.le_of_ble_eq_true rfl), (Nat.le_of_ble_eq_true rfl)⟩ fun v1 w2 e3 => ?_
  refine J.if_eq (tgt := 25) hx dX1_run_5 (by decide) ?_ ?_
  · refine J.ldc (v := (-1000000)) hx q1204 dX1_run_25 ?_
    exact J.iret hx rfl (Nat.le_of_ble_eq_true rfl) (Nat.le_of_ble_eq_true rfl) dX1_run_27
  · refine J.aload_n hx dX1_run_8 rfl 0 rfl ?_
    refine J.getr (κ' := 6) (κ := 0) (k := 7) hx rfl rfl rfl rfl in_X1 (by decide) (Or.inl q374) a0.1 dX1_run_9 fun v4 h5 => ?_
    refine J.ifnull (tgt := 25) hx dX1_run_12 (by decide) (fun e7n => ?_) (fun y6 e7 => ?_)
    · subst e7n
      refine J.ldc (v := (-1000000)) hx q1204 dX1_run_25 ?_
      exact J.iret hx rfl (Nat.le_of_ble_eq_true rfl) (Nat.le_of_ble_eq_true rfl) dX1_run_27
    · subst e7
      refine J.iload_n hx dX1_run_15 rfl 2 rfl ?_
      refine J.i2l hx dX1_run_16 ?_
      refine J.lconst (v := 0) hx dX1_run_17 (by decide) ?_
      refine J.lconst (v := 1) hx dX1_run_18 (by decide) ?_
      refine J.calli hx (fun r z1 z => j_callS hx (mt_X1_isIn z) (lw_S q441 q442 q120 q443) hd_X1_isIn.2 rfl ⟨Nat.le_of_ble_eq_true rfl, Nat.le_of_ble_eq_true rfl⟩ (Nat.le_of_ble_eq_true rfl) dX1_run_19) ⟨⟨rfl, rfl⟩, (Nat.le_of_ble_eq_true rfl), (Nat.le_of_ble_eq_true rfl)⟩ fun v8 w9 e10 => ?_
      refine J.if_ne (tgt := 28) hx dX1_run_22 (by decide) ?_ ?_
      · refine J.ldc (v := (-1000000)) hx q1204 dX1_run_25 ?_
        exact J.iret hx rfl (Nat.le_of_ble_eq_true rfl) (Nat.le_of_ble_eq_true rfl) dX1_run_27
      · refine J.aload_n hx dX1_run_28 rfl 0 rfl ?_
        refine J.getc (κ' := 22) (i' := 0) (κ := 0) (k := 4) hx rfl rfl rfl rfl rfl in_X1 (by decide) (Or.inl q371) a0.2 dX1_run_29 fun h11 => ?_
        refine J.iload_n hx dX1_run_32 rfl 1 rfl ?_
        refine J.aald (κ' := 7) (κ := 22) hx rfl rfl (by decide) rfl rfl h11.1 dX1_run_33 fun v13 h14 => ?_
        refine J.astore_nq (lv' := [(3, va_re (B.1 7) v13), (0, .ref (B.1 0 0)), (1, .int p1), (2, .int p2)]) hx dX1_run_34 rfl (by decide) rfl ?_
        refine J.aload_n hx dX1_run_35 rfl 1 rfl ?_
        refine J.getc (κ' := 5) (i' := 2) (κ := 0) (k := 15) hx rfl rfl rfl rfl rfl in_X1 (by decide) (Or.inl q384) a0.2 dX1_run_36 fun h15 => ?_
        refine J.aload_n hx dX1_run_39 rfl 1 rfl ?_
        refine J.getc (κ' := 5) (i' := 0) (κ := 0) (k := 13) hx rfl rfl rfl rfl rfl in_X1 (by decide) (Or.inl q382) a0.2 dX1_run_40 fun h16 => ?_
        refine J.callv hx (fun r z1 z => j_callV (κ := 5) hx rfl rfl h15.1 (mt_X8_sees h15 h16 z) (lw_V q1344 q976 q977 q128 q978) hd_X8_sees rfl ⟨Nat.le_of_ble_eq_true rfl, Nat.le_of_ble_eq_true rfl⟩ (Nat.le_of_ble_eq_true rfl) dX1_run_43) ⟨⟨rfl, rfl⟩, (Nat.le_of_ble_eq_true rfl), (Nat.le_of_ble_eq_true rfl)⟩ fun _ w18 e19 => ?_
        refine J.iconst (v := 0) hx dX1_run_46 (by decide) ?_
        refine J.istore (lv' := [(4, .int 0), (3, va_re (B.1 7) v13), (0, .ref (B.1 0 0)), (1, .int p1), (2, .int p2)]) hx dX1_run_47 (by decide) (by simp [va_re_cat, jct_i, jct_l, jct_r, jct_n]) ?_
        have hL49 : ∀ (k96 : Int32 → j_St → Option (Int32 × j_St)) (hk96 : ∀ (v39 : Int32) (w40 : j_St), J g x 5 B (j_Q g x B rm_X1_run jri) 0 0 (k96 v39 w40) 96 [(0, .ref (B.1 0 0)), (2, .int p2), (3, va_re (B.1 7) v13), (4, .int v39)] [] w40) (n49 : Nat) (v20 : Int32) (w21 : j_St), J g x 5 B (j_Q g x B rm_X1_run jri) 0 0 (f_X1_run_L49 v13 k96 n49 v20 w21) 49 [(0, .ref (B.1 0 0)), (2, .int p2), (3, va_re (B.1 7) v13), (4, .int v20)] [] w21 := by
          intro k96 hk96 n49
          induction n49 with
          | zero =>
            intro v20 w21
            rw [f_X1_run_L49]
            exact J.nne
          | succ n49 ih =>
            intro v20 w21
            rw [f_X1_run_L49]
            refine J.iload hx dX1_run_49 3 rfl ?_
            refine J.aload_nq hx dX1_run_51 rfl 2 rfl ?_
            refine J.obU fun y22 e23 => ?_
            subst e23
            refine J.geti (κ := 7) (k := 2) hx rfl rfl rfl in_X13 (by decide) (Or.inr ⟨_, j_nl q912 rfl⟩) (h14 y22 rfl).1 dX1_run_52 fun v24 => ?_
            refine J.icmp_ge (tgt := 96) hx dX1_run_55 (by decide) ?_ ?_
            · exact J.sub [0, 1, 2, 3] rfl (hk96 v20 w21)
            · refine J.aload_n hx dX1_run_58 rfl 0 rfl ?_
              refine J.getc (κ' := 5) (i' := 2) (κ := 0) (k := 15) hx rfl rfl rfl rfl rfl in_X1 (by decide) (Or.inl q384) a0.2 dX1_run_59 fun h25 => ?_
              refine J.aload_n hx dX1_run_62 rfl 2 rfl ?_
              refine J.getc (κ' := 36) (i' := y22) (κ := 7) (k := 0) hx rfl rfl rfl rfl rfl in_X13 (by decide) (Or.inr ⟨_, j_nl q908 rfl⟩) (h14 y22 rfl).2 dX1_run_63 fun h26 => ?_
              refine J.iload hx dX1_run_66 3 rfl ?_
              refine J.iald (κ := 36) hx rfl rfl h26.1 dX1_run_68 fun v28 => ?_
              refine J.aload_n hx dX1_run_69 rfl 2 rfl ?_
              refine J.iload hx dX1_run_70 3 rfl ?_
              refine J.iconst (v := 0) hx dX1_run_72 (by decide) ?_
              refine J.calli hx (fun r z1 z => j_callV (κ := 7) hx rfl rfl (h14 y22 rfl).1 (mt_X13_number (h14 y22 rfl) z) (lw_V q1562 q1563 q1564 q144 q1565) hd_X13_number rfl ⟨Nat.le_of_ble_eq_true rfl, Nat.le_of_ble_eq_true rfl⟩ (Nat.le_of_ble_eq_true rfl) dX1_run_73) ⟨⟨rfl, rfl⟩, (Nat.le_of_ble_eq_true rfl), (Nat.le_of_ble_eq_true rfl)⟩ fun v29 w30 e31 => ?_
              refine J.aload_n hx dX1_run_76 rfl 2 rfl ?_
              refine J.iload hx dX1_run_77 3 rfl ?_
              refine J.iconst (v := 1) hx dX1_run_79 (by decide) ?_
              refine J.calli hx (fun r z1 z => j_callV (κ := 7) hx rfl rfl (h14 y22 rfl).1 (mt_X13_number (h14 y22 rfl) z) (lw_V q1562 q1563 q1564 q144 q1565) hd_X13_number rfl ⟨Nat.le_of_ble_eq_true rfl, Nat.le_of_ble_eq_true rfl⟩ (Nat.le_of_ble_eq_true rfl) dX1_run_80) ⟨⟨rfl, rfl⟩, (Nat.le_of_ble_eq_true rfl), (Nat.le_of_ble_eq_true rfl)⟩ fun v32 w33 e34 => ?_
              refine J.calli hx (fun r z1 z => j_callV (κ := 5) hx rfl rfl h25.1 (mt_X8_deed h25 z) (lw_V q980 q981 q982 q128 q983) hd_X8_deed rfl ⟨Nat.le_of_ble_eq_true rfl, Nat.le_of_ble_eq_true rfl⟩ (Nat.le_of_ble_eq_true rfl) dX1_run_83) ⟨⟨rfl, rfl⟩, (Nat.le_of_ble_eq_true rfl), (Nat.le_of_ble_eq_true rfl)⟩ fun v35 w36 e37 => ?_
              refine J.iconst (v := (-1)) hx dX1_run_86 (by decide) ?_
              refine J.icmp_ne (tgt := 96) hx dX1_run_87 (by decide) ?_ ?_
              · refine J.nmx fun v38 ev38 => ?_
                refine J.iinc (p := 3) (v := v38) (lv' := [(4, .int v38), (0, .ref (B.1 0 0)), (2, .int p2), (3, .ref (B.1 7 y22))]) hx dX1_run_90 rfl (by rw [ev38]; rfl) (by decide) rfl ?_
                refine J.goto (tgt := 49) hx dX1_run_93 (by decide) ?_
                exact J.sub [1, 2, 3, 0] rfl (ih v38 w36)
              · exact J.sub [0, 1, 2, 3] rfl (hk96 v20 w36)
        refine J.sub [2, 4, 1, 0] rfl (hL49 _ ?_ jFU 0 w18)
        · intro v39 w40
          refine J.iload_n hx dX1_run_96 rfl 1 rfl ?_
          refine J.iconst (v := 1) hx dX1_run_97 (by decide) ?_
          refine J.icmp_ne (tgt := 111) hx dX1_run_98 (by decide) ?_ ?_
          · refine J.aload_n hx dX1_run_101 rfl 0 rfl ?_
            refine J.getc (κ' := 5) (i' := 2) (κ := 0) (k := 15) hx rfl rfl rfl rfl rfl in_X1 (by decide) (Or.inl q384) a0.2 dX1_run_102 fun h44 => ?_
            refine J.calli hx (fun r z1 z => j_callV (κ := 5) hx rfl rfl h44.1 (mt_X8_kept h44 z) (lw_V q1150 q999 q1000 q128 q1001) hd_X8_kept rfl ⟨Nat.le_of_ble_eq_true rfl, Nat.le_of_ble_eq_true rfl⟩ (Nat.le_of_ble_eq_true rfl) dX1_run_105) ⟨⟨rfl, rfl⟩, (Nat.le_of_ble_eq_true rfl), (Nat.le_of_ble_eq_true rfl)⟩ fun v45 w46 e47 => ?_
            refine J.goto (tgt := 126) hx dX1_run_108 (by decide) ?_
            exact J.iret hx rfl (Nat.le_of_ble_eq_true rfl) (Nat.le_of_ble_eq_true rfl) dX1_run_126
          · refine J.iload hx dX1_run_111 3 rfl ?_
            refine J.aload_nq hx dX1_run_113 rfl 2 rfl ?_
            refine J.obU fun y41 e42 => ?_
            subst e42
            refine J.geti (κ := 7) (k := 2) hx rfl rfl rfl in_X13 (by decide) (Or.inr ⟨_, j_nl q912 rfl⟩) (h14 y41 rfl).1 dX1_run_114 fun v43 => ?_
            refine J.icmp_ne (tgt := 124) hx dX1_run_117 (by decide) ?_ ?_
            · refine J.iconst (v := (-1)) hx dX1_run_120 (by decide) ?_
              refine J.goto (tgt := 126) hx dX1_run_121 (by decide) ?_
              exact J.iret hx rfl (Nat.le_of_ble_eq_true rfl) (Nat.le_of_ble_eq_true rfl) dX1_run_126
            · refine J.iload hx dX1_run_124 3 rfl ?_
              exact J.iret hx rfl (Nat.le_of_ble_eq_true rfl) (Nat.le_of_ble_eq_true rfl) dX1_run_126
theorem hd_X1_image : yX1_image.cls = RX1 ∧ yX1_image.cls ≠ "java/lang/invoke/MethodHandle" ∧ yX1_image.cls ≠ "java/lang/invoke/VarHandle" ∧ (parseMethodDescriptor yX1_image.desc).map (fun d => d.parameters.length) = some 0 := by decide +kernel
def f_X1_image  (w : j_St) : Option (Int32 × j_St) := jlt (jgr w 0 0 7) fun v1 => jcs v1 (some ((-1), w)) fun y3 => jcb (f_X8_becomes 1 0 w) fun _ w8 => jlt (jsi w8 0 0 21 1) fun w10 => jcb (f_X8_kept 0 w10) fun v12 w13 => some (v12, w13)
abbrev rm_X1_image : Room := { frames := 5, cells := 0, slots := 0, locals := 123 }
set_option maxRecDepth 100000 in
set_option maxHeartbeats 4000000 in
theorem mt_X1_image {g : j_G} {B : j_B}  {w w' : j_St} (a0 : B.2.1 0 0 ∧ B.2.2 0 0) {r : Int32} (h : f_X1_image  w = some (r, w')) : j_M g yX1_image cX1_image 1 (some FieldType.int) rm_X1_image B [.ref (B.1 0 0)] w w' (jri r) := by
  refine j_met (rv := jri) (by decide) (Nat.le_of_ble_eq_true rfl) (fun x hx => ?_) h
  unfold f_X1_image
  refine J.sub (lv' := [(0, .ref (B.1 0 0))]) [0] rfl ?_
  refine J.aload_n hx dX1_image_0 rfl 0 rfl ?_
  refine J.getr (κ' := 6) (κ := 0) (k := 7) hx rfl rfl rfl rfl in_X1 (by decide) (Or.inl q374) a0.1 dX1_image_1 fun v1 h2 => ?_
  refine J.ifnonnull (tgt := 9) hx dX1_image_4 (by decide) (fun e4n => ?_) (fun y3 e4 => ?_)
  · subst e4n
    refine J.iconst (v := (-1)) hx dX1_image_7 (by decide) ?_
    exact J.iret hx rfl (Nat.le_of_ble_eq_true rfl) (Nat.le_of_ble_eq_true rfl) dX1_image_8
  · subst e4
    refine J.aload_n hx dX1_image_9 rfl 0 rfl ?_
    refine J.getc (κ' := 5) (i' := 1) (κ := 0) (k := 14) hx rfl rfl rfl rfl rfl in_X1 (by decide) (Or.inl q383) a0.2 dX1_image_10 fun h5 => ?_
    refine J.aload_n hx dX1_image_13 rfl 0 rfl ?_
    refine J.getc (κ' := 5) (i' := 0) (κ := 0) (k := 13) hx rfl rfl rfl rfl rfl in_X1 (by decide) (Or.inl q382) a0.2 dX1_image_14 fun h6 => ?_
    refine J.callv hx (fun r z1 z => j_callV (κ := 5) hx rfl rfl h5.1 (mt_X8_becomes h5 h6 z) (lw_V q971 q972 q973 q128 q974) hd_X8_becomes rfl ⟨Nat.le_of_ble_eq_true rfl, Nat.le_of_ble_eq_true rfl⟩ (Nat.le_of_ble_eq_true rfl) dX1_image_17) ⟨⟨rfl, rfl⟩, (Nat.le_of_ble_eq_true rfl), (Nat.le_of_ble_eq_true rfl)⟩ fun _ w8 e9 => ?_
    refine J.aload_n hx dX1_image_20 rfl 0 rfl ?_
    refine J.iconst (v := 1) hx dX1_image_21 (by decide) ?_
    refine J.puti (κ := 0) (k := 21) hx rfl rfl rfl in_X1 tyX1_ok nmX1 (by decide) (Or.inl q390) rfl rfl a0.1 ⟨rfl, rfl⟩ dX1_image_22 fun w10 => ?_
    refine J.aload_n hx dX1_image_25 rfl 0 rfl ?_
    refine J.getc (κ' := 5) (i' := 0) (κ := 0) (k := 13) hx rfl rfl rfl rfl rfl in_X1 (by decide) (Or.inl q382) a0.2 dX1_image_26 fun h11 => ?_
    refine J.calli hx (fun r z1 z => j_callV (κ := 5) hx rfl rfl h11.1 (mt_X8_kept h11 z) (lw_V q1150 q999 q1000 q128 q1001) hd_X8_kept rfl ⟨Nat.le_of_ble_eq_true rfl, Nat.le_of_ble_eq_true rfl⟩ (Nat.le_of_ble_eq_true rfl) dX1_image_29) ⟨⟨rfl, rfl⟩, (Nat.le_of_ble_eq_true rfl), (Nat.le_of_ble_eq_true rfl)⟩ fun v12 w13 e14 => ?_
    exact J.iret hx rfl (Nat.le_of_ble_eq_true rfl) (Nat.le_of_ble_eq_true rfl) dX1_image_32
theorem hd_X1_back : yX1_back.cls = RX1 ∧ yX1_back.cls ≠ "java/lang/invoke/MethodHandle" ∧ yX1_back.cls ≠ "java/lang/invoke/VarHandle" ∧ (parseMethodDescriptor yX1_back.desc).map (fun d => d.parameters.length) = some 0 := by decide +kernel
def f_X1_back  (w : j_St) : Option (Int32 × j_St) := jlt (jgi w 0 0 21) fun v1 => if v1 = 0 then some ((-1), w) else jcb (f_X8_becomes 0 1 w) fun _ w5 => jlt (jsi w5 0 0 18 0) fun w7 => jcb (f_X8_kept 0 w7) fun v9 w10 => some (v9, w10)
abbrev rm_X1_back : Room := { frames := 5, cells := 0, slots := 0, locals := 123 }
set_option maxRecDepth 100000 in
set_option maxHeartbeats 4000000 in
theorem mt_X1_back {g : j_G} {B : j_B}  {w w' : j_St} (a0 : B.2.1 0 0 ∧ B.2.2 0 0) {r : Int32} (h : f_X1_back  w = some (r, w')) : j_M g yX1_back cX1_back 1 (some FieldType.int) rm_X1_back B [.ref (B.1 0 0)] w w' (jri r) := by
  refine j_met (rv := jri) (by decide) (Nat.le_of_ble_eq_true rfl) (fun x hx => ?_) h
  unfold f_X1_back
  refine J.sub (lv' := [(0, .ref (B.1 0 0))]) [0] rfl ?_
  refine J.aload_n hx dX1_back_0 rfl 0 rfl ?_
  refine J.geti (κ := 0) (k := 21) hx rfl rfl rfl in_X1 (by decide) (Or.inl q390) a0.1 dX1_back_1 fun v1 => ?_
  refine J.if_ne (tgt := 9) hx dX1_back_4 (by decide) ?_ ?_
  · refine J.iconst (v := (-1)) hx dX1_back_7 (by decide) ?_
    exact J.iret hx rfl (Nat.le_of_ble_eq_true rfl) (Nat.le_of_ble_eq_true rfl) dX1_back_8
  · refine J.aload_n hx dX1_back_9 rfl 0 rfl ?_
    refine J.getc (κ' := 5) (i' := 0) (κ := 0) (k := 13) hx rfl rfl rfl rfl rfl in_X1 (by decide) (Or.inl q382) a0.2 dX1_back_10 fun h2 => ?_
    refine J.aload_n hx dX1_back_13 rfl 0 rfl ?_
    refine J.getc (κ' := 5) (i' := 1) (κ := 0) (k := 14) hx rfl rfl rfl rfl rfl in_X1 (by decide) (Or.inl q383) a0.2 dX1_back_14 fun h3 => ?_
    refine J.callv hx (fun r z1 z => j_callV (κ := 5) hx rfl rfl h2.1 (mt_X8_becomes h2 h3 z) (lw_V q971 q972 q973 q128 q974) hd_X8_becomes rfl ⟨Nat.le_of_ble_eq_true rfl, Nat.le_of_ble_eq_true rfl⟩ (Nat.le_of_ble_eq_true rfl) dX1_back_17) ⟨⟨rfl, rfl⟩, (Nat.le_of_ble_eq_true rfl), (Nat.le_of_ble_eq_true rfl)⟩ fun _ w5 e6 => ?_
    refine J.aload_n hx dX1_back_20 rfl 0 rfl ?_
    refine J.iconst (v := 0) hx dX1_back_21 (by decide) ?_
    refine J.puti (κ := 0) (k := 18) hx rfl rfl rfl in_X1 tyX1_ok nmX1 (by decide) (Or.inl q387) rfl rfl a0.1 ⟨rfl, rfl⟩ dX1_back_22 fun w7 => ?_
    refine J.aload_n hx dX1_back_25 rfl 0 rfl ?_
    refine J.getc (κ' := 5) (i' := 0) (κ := 0) (k := 13) hx rfl rfl rfl rfl rfl in_X1 (by decide) (Or.inl q382) a0.2 dX1_back_26 fun h8 => ?_
    refine J.calli hx (fun r z1 z => j_callV (κ := 5) hx rfl rfl h8.1 (mt_X8_kept h8 z) (lw_V q1150 q999 q1000 q128 q1001) hd_X8_kept rfl ⟨Nat.le_of_ble_eq_true rfl, Nat.le_of_ble_eq_true rfl⟩ (Nat.le_of_ble_eq_true rfl) dX1_back_29) ⟨⟨rfl, rfl⟩, (Nat.le_of_ble_eq_true rfl), (Nat.le_of_ble_eq_true rfl)⟩ fun v9 w10 e11 => ?_
    exact J.iret hx rfl (Nat.le_of_ble_eq_true rfl) (Nat.le_of_ble_eq_true rfl) dX1_back_32
theorem hd_X1_held : yX1_held.cls = RX1 ∧ yX1_held.cls ≠ "java/lang/invoke/MethodHandle" ∧ yX1_held.cls ≠ "java/lang/invoke/VarHandle" ∧ (parseMethodDescriptor yX1_held.desc).map (fun d => d.parameters.length) = some 1 := by decide +kernel
def f_X1_held (p1 : Int32) (w : j_St) : Option (Int32 × j_St) := if p1 = 0 then jlt (jgr w 0 0 7) fun v1 => jcs v1 (some (0, w)) fun y3 => jlt (jgi w 4 1 1) fun v7 => some (v7, w) else if p1 = 1 then jlt (jgi w 0 0 6) fun v8 => some (v8, w) else if p1 = 2 then jlt (jgi w 0 0 3) fun v9 => some (v9, w) else if p1 = 3 then jlt (jgr w 0 0 7) fun v10 => jcs v10 (some (0, w)) fun y12 => jlt (jgi w 5 0 3) fun v15 => some (v15, w) else if p1 = 4 then jlt (jgi w 0 0 18) fun v16 => some (v16, w) else some ((-1000000), w)
abbrev rm_X1_held : Room := { frames := 0, cells := 0, slots := 0, locals := 0 }
set_option maxRecDepth 100000 in
set_option maxHeartbeats 4000000 in
theorem mt_X1_held {g : j_G} {B : j_B} {p1 : Int32} {w w' : j_St} (a0 : B.2.1 0 0 ∧ B.2.2 0 0) {r : Int32} (h : f_X1_held p1 w = some (r, w')) : j_M g yX1_held cX1_held 2 (some FieldType.int) rm_X1_held B [.ref (B.1 0 0), .int p1] w w' (jri r) := by
  refine j_met (rv := jri) (by decide) (Nat.le_of_ble_eq_true rfl) (fun x hx => ?_) h
  unfold f_X1_held
  refine J.sub (lv' := [(0, .ref (B.1 0 0)), (1, .int p1)]) [0, 1] rfl ?_
  refine J.iload_n hx dX1_held_0 rfl 1 rfl ?_
  refine J.ite (fun e0 => ?_) (fun n0 => ?_)
  · refine J.tsw (off := 35) (tgt := 36) hx dX1_held_1 (by rw [e0]; decide) (by rw [e0]; decide) (by rw [e0]; rfl) (by decide) ?_
    refine J.aload_n hx dX1_held_36 rfl 0 rfl ?_
    refine J.getr (κ' := 6) (κ := 0) (k := 7) hx rfl rfl rfl rfl in_X1 (by decide) (Or.inl q374) a0.1 dX1_held_37 fun v1 h2 => ?_
    refine J.ifnonnull (tgt := 47) hx dX1_held_40 (by decide) (fun e4n => ?_) (fun y3 e4 => ?_)
    · subst e4n
      refine J.iconst (v := 0) hx dX1_held_43 (by decide) ?_
      refine J.goto (tgt := 57) hx dX1_held_44 (by decide) ?_
      exact J.iret hx rfl (Nat.le_of_ble_eq_true rfl) (Nat.le_of_ble_eq_true rfl) dX1_held_57
    · subst e4
      refine J.aload_n hx dX1_held_47 rfl 0 rfl ?_
      refine J.getc (κ' := 5) (i' := 0) (κ := 0) (k := 13) hx rfl rfl rfl rfl rfl in_X1 (by decide) (Or.inl q382) a0.2 dX1_held_48 fun h5 => ?_
      refine J.getc (κ' := 4) (i' := 1) (κ := 5) (k := 0) hx rfl rfl rfl rfl rfl in_X8 (by decide) (Or.inr ⟨_, j_nl q339 rfl⟩) h5.2 dX1_held_51 fun h6 => ?_
      refine J.geti (κ := 4) (k := 1) hx rfl rfl rfl in_X7 (by decide) (Or.inr ⟨_, j_nl q324 rfl⟩) h6.1 dX1_held_54 fun v7 => ?_
      exact J.iret hx rfl (Nat.le_of_ble_eq_true rfl) (Nat.le_of_ble_eq_true rfl) dX1_held_57
  · refine J.ite (fun e1 => ?_) (fun n1 => ?_)
    · refine J.tsw (off := 57) (tgt := 58) hx dX1_held_1 (by rw [e1]; decide) (by rw [e1]; decide) (by rw [e1]; rfl) (by decide) ?_
      refine J.aload_n hx dX1_held_58 rfl 0 rfl ?_
      refine J.geti (κ := 0) (k := 6) hx rfl rfl rfl in_X1 (by decide) (Or.inl q373) a0.1 dX1_held_59 fun v8 => ?_
      exact J.iret hx rfl (Nat.le_of_ble_eq_true rfl) (Nat.le_of_ble_eq_true rfl) dX1_held_62
    · refine J.ite (fun e2 => ?_) (fun n2 => ?_)
      · refine J.tsw (off := 62) (tgt := 63) hx dX1_held_1 (by rw [e2]; decide) (by rw [e2]; decide) (by rw [e2]; rfl) (by decide) ?_
        refine J.aload_n hx dX1_held_63 rfl 0 rfl ?_
        refine J.geti (κ := 0) (k := 3) hx rfl rfl rfl in_X1 (by decide) (Or.inl q370) a0.1 dX1_held_64 fun v9 => ?_
        exact J.iret hx rfl (Nat.le_of_ble_eq_true rfl) (Nat.le_of_ble_eq_true rfl) dX1_held_67
      · refine J.ite (fun e3 => ?_) (fun n3 => ?_)
        · refine J.tsw (off := 67) (tgt := 68) hx dX1_held_1 (by rw [e3]; decide) (by rw [e3]; decide) (by rw [e3]; rfl) (by decide) ?_
          refine J.aload_n hx dX1_held_68 rfl 0 rfl ?_
          refine J.getr (κ' := 6) (κ := 0) (k := 7) hx rfl rfl rfl rfl in_X1 (by decide) (Or.inl q374) a0.1 dX1_held_69 fun v10 h11 => ?_
          refine J.ifnonnull (tgt := 79) hx dX1_held_72 (by decide) (fun e13n => ?_) (fun y12 e13 => ?_)
          · subst e13n
            refine J.iconst (v := 0) hx dX1_held_75 (by decide) ?_
            refine J.goto (tgt := 86) hx dX1_held_76 (by decide) ?_
            exact J.iret hx rfl (Nat.le_of_ble_eq_true rfl) (Nat.le_of_ble_eq_true rfl) dX1_held_86
          · subst e13
            refine J.aload_n hx dX1_held_79 rfl 0 rfl ?_
            refine J.getc (κ' := 5) (i' := 0) (κ := 0) (k := 13) hx rfl rfl rfl rfl rfl in_X1 (by decide) (Or.inl q382) a0.2 dX1_held_80 fun h14 => ?_
            refine J.geti (κ := 5) (k := 3) hx rfl rfl rfl in_X8 (by decide) (Or.inr ⟨_, j_nl q345 rfl⟩) h14.1 dX1_held_83 fun v15 => ?_
            exact J.iret hx rfl (Nat.le_of_ble_eq_true rfl) (Nat.le_of_ble_eq_true rfl) dX1_held_86
        · refine J.ite (fun e4 => ?_) (fun n4 => ?_)
          · refine J.tsw (off := 86) (tgt := 87) hx dX1_held_1 (by rw [e4]; decide) (by rw [e4]; decide) (by rw [e4]; rfl) (by decide) ?_
            refine J.aload_n hx dX1_held_87 rfl 0 rfl ?_
            refine J.geti (κ := 0) (k := 18) hx rfl rfl rfl in_X1 (by decide) (Or.inl q387) a0.1 dX1_held_88 fun v16 => ?_
            exact J.iret hx rfl (Nat.le_of_ble_eq_true rfl) (Nat.le_of_ble_eq_true rfl) dX1_held_91
          · have z0 := j_neT n0 (a := 0) (by decide)
            have z1 := j_neT n1 (a := 1) (by decide)
            have z2 := j_neT n2 (a := 2) (by decide)
            have z3 := j_neT n3 (a := 3) (by decide)
            have z4 := j_neT n4 (a := 4) (by decide)
            refine J.tswD (tgt := 92) hx dX1_held_1 (by omega) (by decide) ?_
            refine J.ldc (v := (-1000000)) hx q1204 dX1_held_92 ?_
            exact J.iret hx rfl (Nat.le_of_ble_eq_true rfl) (Nat.le_of_ble_eq_true rfl) dX1_held_94
theorem hd_X1_generations : yX1_generations.cls = RX1 ∧ yX1_generations.cls ≠ "java/lang/invoke/MethodHandle" ∧ yX1_generations.cls ≠ "java/lang/invoke/VarHandle" ∧ (parseMethodDescriptor yX1_generations.desc).map (fun d => d.parameters.length) = some 0 := by decide +kernel
def f_X1_generations_L4   : Nat → Int32 → Int32 → j_St → Option (Int32 × j_St)
  | 0, _, _, _ => none
  | n4 + 1, v1, v2, w3 => jlt (jgi w3 2 0 5) fun v5 => if v5 ≤ v2 then some (v1, w3) else jcb (f_X5_generation 0 v2 w3) fun v7 w8 => jlt (jmax v1 v7) fun v10 => jlt (v2 + 1) fun v11 => f_X1_generations_L4 n4 v10 v11 w8
def f_X1_generations  (w : j_St) : Option (Int32 × j_St) := f_X1_generations_L4 jFU 0 0 w
abbrev rm_X1_generations : Room := { frames := 1, cells := 0, slots := 0, locals := 23 }
set_option maxRecDepth 100000 in
set_option maxHeartbeats 4000000 in
theorem mt_X1_generations {g : j_G} {B : j_B}  {w w' : j_St} (a0 : B.2.1 0 0 ∧ B.2.2 0 0) {r : Int32} (h : f_X1_generations  w = some (r, w')) : j_M g yX1_generations cX1_generations 3 (some FieldType.int) rm_X1_generations B [.ref (B.1 0 0)] w w' (jri r) := by
  refine j_met (rv := jri) (by decide) (Nat.le_of_ble_eq_true rfl) (fun x hx => ?_) h
  unfold f_X1_generations
  refine J.sub (lv' := [(0, .ref (B.1 0 0))]) [0] rfl ?_
  refine J.iconst (v := 0) hx dX1_generations_0 (by decide) ?_
  refine J.istore_n (lv' := [(1, .int 0), (0, .ref (B.1 0 0))]) hx dX1_generations_1 rfl (by decide) rfl ?_
  refine J.iconst (v := 0) hx dX1_generations_2 (by decide) ?_
  refine J.istore_n (lv' := [(2, .int 0), (1, .int 0), (0, .ref (B.1 0 0))]) hx dX1_generations_3 rfl (by decide) rfl ?_
  have hL4 : ∀ (n4 : Nat) (v1 : Int32) (v2 : Int32) (w3 : j_St), J g x 3 B (j_Q g x B rm_X1_generations jri) 0 0 (f_X1_generations_L4 n4 v1 v2 w3) 4 [(0, .ref (B.1 0 0)), (1, .int v1), (2, .int v2)] [] w3 := by
    intro n4
    induction n4 with
    | zero =>
      intro v1 v2 w3
      rw [f_X1_generations_L4]
      exact J.nne
    | succ n4 ih =>
      intro v1 v2 w3
      rw [f_X1_generations_L4]
      refine J.iload_n hx dX1_generations_4 rfl 2 rfl ?_
      refine J.aload_n hx dX1_generations_5 rfl 0 rfl ?_
      refine J.getc (κ' := 2) (i' := 0) (κ := 0) (k := 10) hx rfl rfl rfl rfl rfl in_X1 (by decide) (Or.inl q378) a0.2 dX1_generations_6 fun h4 => ?_
      refine J.geti (κ := 2) (k := 5) hx rfl rfl rfl in_X5 (by decide) (Or.inr ⟨_, j_nl q283 rfl⟩) h4.1 dX1_generations_9 fun v5 => ?_
      refine J.icmp_ge (tgt := 34) hx dX1_generations_12 (by decide) ?_ ?_
      · refine J.iload_n hx dX1_generations_34 rfl 1 rfl ?_
        exact J.iret hx rfl (Nat.le_of_ble_eq_true rfl) (Nat.le_of_ble_eq_true rfl) dX1_generations_35
      · refine J.iload_n hx dX1_generations_15 rfl 1 rfl ?_
        refine J.aload_n hx dX1_generations_16 rfl 0 rfl ?_
        refine J.getc (κ' := 2) (i' := 0) (κ := 0) (k := 10) hx rfl rfl rfl rfl rfl in_X1 (by decide) (Or.inl q378) a0.2 dX1_generations_17 fun h6 => ?_
        refine J.iload_n hx dX1_generations_20 rfl 2 rfl ?_
        refine J.calli hx (fun r z1 z => j_callV (κ := 2) hx rfl rfl h6.1 (mt_X5_generation h6 z) (lw_V q1368 q1369 q1370 q125 q1371) hd_X5_generation rfl ⟨Nat.le_of_ble_eq_true rfl, Nat.le_of_ble_eq_true rfl⟩ (Nat.le_of_ble_eq_true rfl) dX1_generations_21) ⟨⟨rfl, rfl⟩, (Nat.le_of_ble_eq_true rfl), (Nat.le_of_ble_eq_true rfl)⟩ fun v7 w8 e9 => ?_
        refine J.mmax hx q218 q195 q123 q196 ⟨Nat.le_of_ble_eq_true rfl, Nat.le_of_ble_eq_true rfl⟩ (Nat.le_of_ble_eq_true rfl) (Nat.le_of_ble_eq_true rfl) (Nat.le_of_ble_eq_true rfl) dX1_generations_24 ?_
        refine J.nmi fun v10 => ?_
        refine J.istore_n (lv' := [(1, .int v10), (0, .ref (B.1 0 0)), (2, .int v2)]) hx dX1_generations_27 rfl (by decide) rfl ?_
        refine J.nmx fun v11 ev11 => ?_
        refine J.iinc (p := 2) (v := v11) (lv' := [(2, .int v11), (1, .int v10), (0, .ref (B.1 0 0))]) hx dX1_generations_28 rfl (by rw [ev11]; rfl) (by decide) rfl ?_
        refine J.goto (tgt := 4) hx dX1_generations_31 (by decide) ?_
        exact J.sub [2, 1, 0] rfl (ih v10 v11 w8)
  refine J.sub [2, 1, 0] rfl (hL4 jFU 0 0 w)
theorem hd_X1_matchOf : yX1_matchOf.cls = RX1 ∧ yX1_matchOf.cls ≠ "java/lang/invoke/MethodHandle" ∧ yX1_matchOf.cls ≠ "java/lang/invoke/VarHandle" ∧ (parseMethodDescriptor yX1_matchOf.desc).map (fun d => d.parameters.length) = some 2 := by decide +kernel
def f_X1_matchOf (i1 : Nat) (p2 : Int32) (w : j_St) : Option (Int32 × j_St) := jlt (jgr w 0 0 7) fun v1 => job v1 fun y3 => jcb (f_X5_matches i1 y3 0 w) fun v5 w6 => jbd p2 48 fun a9 => jlt (jgi w6 31 i1 a9) fun v10 => some (v10, w6)
abbrev rm_X1_matchOf : Room := { frames := 3, cells := 0, slots := 0, locals := 70 }
set_option maxRecDepth 100000 in
set_option maxHeartbeats 4000000 in
theorem mt_X1_matchOf {g : j_G} {B : j_B} {i1 : Nat} {p2 : Int32} {w w' : j_St} (a0 : B.2.1 0 0 ∧ B.2.2 0 0) (b1 : B.2.1 2 i1 ∧ B.2.2 2 i1) {r : Int32} (h : f_X1_matchOf i1 p2 w = some (r, w')) : j_M g yX1_matchOf cX1_matchOf 4 (some FieldType.int) rm_X1_matchOf B [.ref (B.1 0 0), .ref (B.1 2 i1), .int p2] w w' (jri r) := by
  refine j_met (rv := jri) (by decide) (Nat.le_of_ble_eq_true rfl) (fun x hx => ?_) h
  unfold f_X1_matchOf
  refine J.sub (lv' := [(0, .ref (B.1 0 0)), (1, .ref (B.1 2 i1)), (2, .int p2)]) [0, 1, 2] rfl ?_
  refine J.aload_n hx dX1_matchOf_0 rfl 1 rfl ?_
  refine J.aload_n hx dX1_matchOf_1 rfl 0 rfl ?_
  refine J.getr (κ' := 6) (κ := 0) (k := 7) hx rfl rfl rfl rfl in_X1 (by decide) (Or.inl q374) a0.1 dX1_matchOf_2 fun v1 h2 => ?_
  refine J.iconst (v := 0) hx dX1_matchOf_5 (by decide) ?_
  refine J.obU fun y3 e4 => ?_
  subst e4
  refine J.calli hx (fun r z1 z => j_callV (κ := 2) hx rfl rfl b1.1 (mt_X5_matches b1 (h2 y3 rfl) z) (lw_V q1293 q1294 q1295 q125 q1296) hd_X5_matches rfl ⟨Nat.le_of_ble_eq_true rfl, Nat.le_of_ble_eq_true rfl⟩ (Nat.le_of_ble_eq_true rfl) dX1_matchOf_6) ⟨⟨rfl, rfl⟩, (Nat.le_of_ble_eq_true rfl), (Nat.le_of_ble_eq_true rfl)⟩ fun v5 w6 e7 => ?_
  refine J.istore_n (lv' := [(3, .int v5), (0, .ref (B.1 0 0)), (1, .ref (B.1 2 i1)), (2, .int p2)]) hx dX1_matchOf_9 rfl (by decide) rfl ?_
  refine J.aload_n hx dX1_matchOf_10 rfl 2 rfl ?_
  refine J.getc (κ' := 31) (i' := i1) (κ := 2) (k := 8) hx rfl rfl rfl rfl rfl in_X5 (by decide) (Or.inr ⟨_, j_nl q290 rfl⟩) b1.2 dX1_matchOf_11 fun h8 => ?_
  refine J.iload_n hx dX1_matchOf_14 rfl 3 rfl ?_
  refine J.iald (κ := 31) hx rfl rfl h8.1 dX1_matchOf_15 fun v10 => ?_
  exact J.iret hx rfl (Nat.le_of_ble_eq_true rfl) (Nat.le_of_ble_eq_true rfl) dX1_matchOf_16
theorem hd_X1_lambda_most_3 : yX1_lambda_most_3.cls = RX1 ∧ yX1_lambda_most_3.cls ≠ "java/lang/invoke/MethodHandle" ∧ yX1_lambda_most_3.cls ≠ "java/lang/invoke/VarHandle" ∧ (parseMethodDescriptor yX1_lambda_most_3.desc).map (fun d => d.parameters.length) = some 1 := by decide +kernel
def f_X1_lambda_most_3 (p1 : Int32) (w : j_St) : Option (Int32 × j_St) := jbd p1 48 fun a3 => jlt (jgr w 27 0 a3) fun v4 => job v4 fun y6 => jlt (jgi w 3 y6 0) fun v8 => some (v8, w)
abbrev rm_X1_lambda_most_3 : Room := { frames := 0, cells := 0, slots := 0, locals := 0 }
set_option maxRecDepth 100000 in
set_option maxHeartbeats 4000000 in
theorem mt_X1_lambda_most_3 {g : j_G} {B : j_B} {p1 : Int32} {w w' : j_St} (a0 : B.2.1 0 0 ∧ B.2.2 0 0) {r : Int32} (h : f_X1_lambda_most_3 p1 w = some (r, w')) : j_M g yX1_lambda_most_3 cX1_lambda_most_3 2 (some FieldType.int) rm_X1_lambda_most_3 B [.ref (B.1 0 0), .int p1] w w' (jri r) := by
  refine j_met (rv := jri) (by decide) (Nat.le_of_ble_eq_true rfl) (fun x hx => ?_) h
  unfold f_X1_lambda_most_3
  refine J.sub (lv' := [(0, .ref (B.1 0 0)), (1, .int p1)]) [0, 1] rfl ?_
  refine J.aload_n hx dX1_lambda_most_3_0 rfl 0 rfl ?_
  refine J.getc (κ' := 2) (i' := 0) (κ := 0) (k := 10) hx rfl rfl rfl rfl rfl in_X1 (by decide) (Or.inl q378) a0.2 dX1_lambda_most_3_1 fun h1 => ?_
  refine J.getc (κ' := 27) (i' := 0) (κ := 2) (k := 1) hx rfl rfl rfl rfl rfl in_X5 (by decide) (Or.inr ⟨_, j_nl q277 rfl⟩) h1.2 dX1_lambda_most_3_4 fun h2 => ?_
  refine J.iload_n hx dX1_lambda_most_3_7 rfl 1 rfl ?_
  refine J.aald (κ' := 3) (κ := 27) hx rfl rfl (by decide) rfl rfl h2.1 dX1_lambda_most_3_8 fun v4 h5 => ?_
  refine J.obU fun y6 e7 => ?_
  subst e7
  refine J.geti (κ := 3) (k := 0) hx rfl rfl rfl in_X6 (by decide) (Or.inr ⟨_, j_nl q239 rfl⟩) (h5 y6 rfl).1 dX1_lambda_most_3_9 fun v8 => ?_
  exact J.iret hx rfl (Nat.le_of_ble_eq_true rfl) (Nat.le_of_ble_eq_true rfl) dX1_lambda_most_3_12
theorem hd_X1_lambda_most_4 : yX1_lambda_most_4.cls = RX1 ∧ yX1_lambda_most_4.cls ≠ "java/lang/invoke/MethodHandle" ∧ yX1_lambda_most_4.cls ≠ "java/lang/invoke/VarHandle" ∧ (parseMethodDescriptor yX1_lambda_most_4.desc).map (fun d => d.parameters.length) = some 1 := by decide +kernel
def f_X1_lambda_most_4 (p1 : Int32) (w : j_St) : Option (Int32 × j_St) := jcb (f_X5_at 0 p1 w) fun v2 w3 => some (v2, w3)
abbrev rm_X1_lambda_most_4 : Room := { frames := 2, cells := 0, slots := 0, locals := 41 }
set_option maxRecDepth 100000 in
set_option maxHeartbeats 4000000 in
theorem mt_X1_lambda_most_4 {g : j_G} {B : j_B} {p1 : Int32} {w w' : j_St} (a0 : B.2.1 0 0 ∧ B.2.2 0 0) {r : Int32} (h : f_X1_lambda_most_4 p1 w = some (r, w')) : j_M g yX1_lambda_most_4 cX1_lambda_most_4 2 (some FieldType.int) rm_X1_lambda_most_4 B [.ref (B.1 0 0), .int p1] w w' (jri r) := by
  refine j_met (rv := jri) (by decide) (Nat.le_of_ble_eq_true rfl) (fun x hx => ?_) h
  unfold f_X1_lambda_most_4
  refine J.sub (lv' := [(0, .ref (B.1 0 0)), (1, .int p1)]) [0, 1] rfl ?_
  refine J.aload_n hx dX1_lambda_most_4_0 rfl 0 rfl ?_
  refine J.getc (κ' := 2) (i' := 0) (κ := 0) (k := 10) hx rfl rfl rfl rfl rfl in_X1 (by decide) (Or.inl q378) a0.2 dX1_lambda_most_4_1 fun h1 => ?_
  refine J.iload_n hx dX1_lambda_most_4_4 rfl 1 rfl ?_
  refine J.calli hx (fun r z1 z => j_callV (κ := 2) hx rfl rfl h1.1 (mt_X5_at h1 z) (lw_V q1319 q1042 q2351 q125 q1044) hd_X5_at rfl ⟨Nat.le_of_ble_eq_true rfl, Nat.le_of_ble_eq_true rfl⟩ (Nat.le_of_ble_eq_true rfl) dX1_lambda_most_4_5) ⟨⟨rfl, rfl⟩, (Nat.le_of_ble_eq_true rfl), (Nat.le_of_ble_eq_true rfl)⟩ fun v2 w3 e4 => ?_
  exact J.iret hx rfl (Nat.le_of_ble_eq_true rfl) (Nat.le_of_ble_eq_true rfl) dX1_lambda_most_4_8
theorem hd_X1_lambda_most_5 : yX1_lambda_most_5.cls = RX1 ∧ yX1_lambda_most_5.cls ≠ "java/lang/invoke/MethodHandle" ∧ yX1_lambda_most_5.cls ≠ "java/lang/invoke/VarHandle" ∧ (parseMethodDescriptor yX1_lambda_most_5.desc).map (fun d => d.parameters.length) = some 1 := by decide +kernel
def f_X1_lambda_most_5 (p1 : Int32) (w : j_St) : Option (Int32 × j_St) := jcb (f_X5_area 0 p1 w) fun v2 w3 => some (v2, w3)
abbrev rm_X1_lambda_most_5 : Room := { frames := 4, cells := 0, slots := 0, locals := 91 }
set_option maxRecDepth 100000 in
set_option maxHeartbeats 4000000 in
theorem mt_X1_lambda_most_5 {g : j_G} {B : j_B} {p1 : Int32} {w w' : j_St} (a0 : B.2.1 0 0 ∧ B.2.2 0 0) {r : Int32} (h : f_X1_lambda_most_5 p1 w = some (r, w')) : j_M g yX1_lambda_most_5 cX1_lambda_most_5 2 (some FieldType.int) rm_X1_lambda_most_5 B [.ref (B.1 0 0), .int p1] w w' (jri r) := by
  refine j_met (rv := jri) (by decide) (Nat.le_of_ble_eq_true rfl) (fun x hx => ?_) h
  unfold f_X1_lambda_most_5
  refine J.sub (lv' := [(0, .ref (B.1 0 0)), (1, .int p1)]) [0, 1] rfl ?_
  refine J.aload_n hx dX1_lambda_most_5_0 rfl 0 rfl ?_
  refine J.getc (κ' := 2) (i' := 0) (κ := 0) (k := 10) hx rfl rfl rfl rfl rfl in_X1 (by decide) (Or.inl q378) a0.2 dX1_lambda_most_5_1 fun h1 => ?_
  refine J.iload_n hx dX1_lambda_most_5_4 rfl 1 rfl ?_
  refine J.calli hx (fun r z1 z => j_callV (κ := 2) hx rfl rfl h1.1 (mt_X5_area h1 z) (lw_V q1267 q1268 q1269 q125 q1270) hd_X5_area rfl ⟨Nat.le_of_ble_eq_true rfl, Nat.le_of_ble_eq_true rfl⟩ (Nat.le_of_ble_eq_true rfl) dX1_lambda_most_5_5) ⟨⟨rfl, rfl⟩, (Nat.le_of_ble_eq_true rfl), (Nat.le_of_ble_eq_true rfl)⟩ fun v2 w3 e4 => ?_
  exact J.iret hx rfl (Nat.le_of_ble_eq_true rfl) (Nat.le_of_ble_eq_true rfl) dX1_lambda_most_5_8
theorem hd_X1_lambda_most_6 : yX1_lambda_most_6.cls = RX1 ∧ yX1_lambda_most_6.cls ≠ "java/lang/invoke/MethodHandle" ∧ yX1_lambda_most_6.cls ≠ "java/lang/invoke/VarHandle" ∧ (parseMethodDescriptor yX1_lambda_most_6.desc).map (fun d => d.parameters.length) = some 1 := by decide +kernel
def f_X1_lambda_most_6 (p1 : Int32) (w : j_St) : Option (Int32 × j_St) := jbd p1 48 fun a3 => jlt (jgr w 27 0 a3) fun v4 => job v4 fun y6 => jlt (jgi w 3 y6 6) fun v8 => if v8 = 0 then some ((-1), w) else jcb (f_X5_width 0 p1 w) fun v10 w11 => some (v10, w11)
abbrev rm_X1_lambda_most_6 : Room := { frames := 3, cells := 0, slots := 0, locals := 66 }
set_option maxRecDepth 100000 in
set_option maxHeartbeats 4000000 in
theorem mt_X1_lambda_most_6 {g : j_G} {B : j_B} {p1 : Int32} {w w' : j_St} (a0 : B.2.1 0 0 ∧ B.2.2 0 0) {r : Int32} (h : f_X1_lambda_most_6 p1 w = some (r, w')) : j_M g yX1_lambda_most_6 cX1_lambda_most_6 2 (some FieldType.int) rm_X1_lambda_most_6 B [.ref (B.1 0 0), .int p1] w w' (jri r) := by
  refine j_met (rv := jri) (by decide) (Nat.le_of_ble_eq_true rfl) (fun x hx => ?_) h
  unfold f_X1_lambda_most_6
  refine J.sub (lv' := [(0, .ref (B.1 0 0)), (1, .int p1)]) [0, 1] rfl ?_
  refine J.aload_n hx dX1_lambda_most_6_0 rfl 0 rfl ?_
  refine J.getc (κ' := 2) (i' := 0) (κ := 0) (k := 10) hx rfl rfl rfl rfl rfl in_X1 (by decide) (Or.inl q378) a0.2 dX1_lambda_most_6_1 fun h1 => ?_
  refine J.getc (κ' := 27) (i' := 0) (κ := 2) (k := 1) hx rfl rfl rfl rfl rfl in_X5 (by decide) (Or.inr ⟨_, j_nl q277 rfl⟩) h1.2 dX1_lambda_most_6_4 fun h2 => ?_
  refine J.iload_n hx dX1_lambda_most_6_7 rfl 1 rfl ?_
  refine J.aald (κ' := 3) (κ := 27) hx rfl rfl (by decide) rfl rfl h2.1 dX1_lambda_most_6_8 fun v4 h5 => ?_
  refine J.obU fun y6 e7 => ?_
  subst e7
  refine J.geti (κ := 3) (k := 6) hx rfl rfl rfl in_X6 (by decide) (Or.inr ⟨_, j_nl q256 rfl⟩) (h5 y6 rfl).1 dX1_lambda_most_6_9 fun v8 => ?_
  refine J.if_eq (tgt := 26) hx dX1_lambda_most_6_12 (by decide) ?_ ?_
  · refine J.iconst (v := (-1)) hx dX1_lambda_most_6_26 (by decide) ?_
    exact J.iret hx rfl (Nat.le_of_ble_eq_true rfl) (Nat.le_of_ble_eq_true rfl) dX1_lambda_most_6_27
  · refine J.aload_n hx dX1_lambda_most_6_15 rfl 0 rfl ?_
    refine J.getc (κ' := 2) (i' := 0) (κ := 0) (k := 10) hx rfl rfl rfl rfl rfl in_X1 (by decide) (Or.inl q378) a0.2 dX1_lambda_most_6_16 fun h9 => ?_
    refine J.iload_n hx dX1_lambda_most_6_19 rfl 1 rfl ?_
    refine J.calli hx (fun r z1 z => j_callV (κ := 2) hx rfl rfl h9.1 (mt_X5_width h9 z) (lw_V q1274 q1275 q1276 q125 q1277) hd_X5_width rfl ⟨Nat.le_of_ble_eq_true rfl, Nat.le_of_ble_eq_true rfl⟩ (Nat.le_of_ble_eq_true rfl) dX1_lambda_most_6_20) ⟨⟨rfl, rfl⟩, (Nat.le_of_ble_eq_true rfl), (Nat.le_of_ble_eq_true rfl)⟩ fun v10 w11 e12 => ?_
    refine J.goto (tgt := 27) hx dX1_lambda_most_6_23 (by decide) ?_
    exact J.iret hx rfl (Nat.le_of_ble_eq_true rfl) (Nat.le_of_ble_eq_true rfl) dX1_lambda_most_6_27
theorem hd_X1_lambda_tallest_2 : yX1_lambda_tallest_2.cls = RX1 ∧ yX1_lambda_tallest_2.cls ≠ "java/lang/invoke/MethodHandle" ∧ yX1_lambda_tallest_2.cls ≠ "java/lang/invoke/VarHandle" ∧ (parseMethodDescriptor yX1_lambda_tallest_2.desc).map (fun d => d.parameters.length) = some 2 := by decide +kernel
def f_X1_lambda_tallest_2 (p1 : Int32) (p2 : Int32) (w : j_St) : Option (Int32 × j_St) := jcb (f_X5_generation 0 p2 w) fun v2 w3 => if v2 = p1 then jbd p2 48 fun a7 => jlt (jgr w3 27 0 a7) fun v8 => job v8 fun y10 => jlt (jgi w3 3 y10 1) fun v12 => some (v12, w3) else some ((-1), w3)
abbrev rm_X1_lambda_tallest_2 : Room := { frames := 1, cells := 0, slots := 0, locals := 23 }
set_option maxRecDepth 100000 in
set_option maxHeartbeats 4000000 in
theorem mt_X1_lambda_tallest_2 {g : j_G} {B : j_B} {p1 : Int32} {p2 : Int32} {w w' : j_St} (a0 : B.2.1 0 0 ∧ B.2.2 0 0) {r : Int32} (h : f_X1_lambda_tallest_2 p1 p2 w = some (r, w')) : j_M g yX1_lambda_tallest_2 cX1_lambda_tallest_2 3 (some FieldType.int) rm_X1_lambda_tallest_2 B [.ref (B.1 0 0), .int p1, .int p2] w w' (jri r) := by
  refine j_met (rv := jri) (by decide) (Nat.le_of_ble_eq_true rfl) (fun x hx => ?_) h
  unfold f_X1_lambda_tallest_2
  refine J.sub (lv' := [(0, .ref (B.1 0 0)), (1, .int p1), (2, .int p2)]) [0, 1, 2] rfl ?_
  refine J.aload_n hx dX1_lambda_tallest_2_0 rfl 0 rfl ?_
  refine J.getc (κ' := 2) (i' := 0) (κ := 0) (k := 10) hx rfl rfl rfl rfl rfl in_X1 (by decide) (Or.inl q378) a0.2 dX1_lambda_tallest_2_1 fun h1 => ?_
  refine J.iload_n hx dX1_lambda_tallest_2_4 rfl 2 rfl ?_
  refine J.calli hx (fun r z1 z => j_callV (κ := 2) hx rfl rfl h1.1 (mt_X5_generation h1 z) (lw_V q1368 q1369 q1370 q125 q1371) hd_X5_generation rfl ⟨Nat.le_of_ble_eq_true rfl, Nat.le_of_ble_eq_true rfl⟩ (Nat.le_of_ble_eq_true rfl) dX1_lambda_tallest_2_5) ⟨⟨rfl, rfl⟩, (Nat.le_of_ble_eq_true rfl), (Nat.le_of_ble_eq_true rfl)⟩ fun v2 w3 e4 => ?_
  refine J.iload_n hx dX1_lambda_tallest_2_8 rfl 1 rfl ?_
  refine J.icmp_ne (tgt := 27) hx dX1_lambda_tallest_2_9 (by decide) ?_ ?_
  · refine J.aload_n hx dX1_lambda_tallest_2_12 rfl 0 rfl ?_
    refine J.getc (κ' := 2) (i' := 0) (κ := 0) (k := 10) hx rfl rfl rfl rfl rfl in_X1 (by decide) (Or.inl q378) a0.2 dX1_lambda_tallest_2_13 fun h5 => ?_
    refine J.getc (κ' := 27) (i' := 0) (κ := 2) (k := 1) hx rfl rfl rfl rfl rfl in_X5 (by decide) (Or.inr ⟨_, j_nl q277 rfl⟩) h5.2 dX1_lambda_tallest_2_16 fun h6 => ?_
    refine J.iload_n hx dX1_lambda_tallest_2_19 rfl 2 rfl ?_
    refine J.aald (κ' := 3) (κ := 27) hx rfl rfl (by decide) rfl rfl h6.1 dX1_lambda_tallest_2_20 fun v8 h9 => ?_
    refine J.obU fun y10 e11 => ?_
    subst e11
    refine J.geti (κ := 3) (k := 1) hx rfl rfl rfl in_X6 (by decide) (Or.inr ⟨_, j_nl q242 rfl⟩) (h9 y10 rfl).1 dX1_lambda_tallest_2_21 fun v12 => ?_
    refine J.goto (tgt := 28) hx dX1_lambda_tallest_2_24 (by decide) ?_
    exact J.iret hx rfl (Nat.le_of_ble_eq_true rfl) (Nat.le_of_ble_eq_true rfl) dX1_lambda_tallest_2_28
  · refine J.iconst (v := (-1)) hx dX1_lambda_tallest_2_27 (by decide) ?_
    exact J.iret hx rfl (Nat.le_of_ble_eq_true rfl) (Nat.le_of_ble_eq_true rfl) dX1_lambda_tallest_2_28
theorem hd_X1_heightBut : yX1_heightBut.cls = RX1 ∧ yX1_heightBut.cls ≠ "java/lang/invoke/MethodHandle" ∧ yX1_heightBut.cls ≠ "java/lang/invoke/VarHandle" ∧ (parseMethodDescriptor yX1_heightBut.desc).map (fun d => d.parameters.length) = some 1 := by decide +kernel
def f_X1_heightBut (p1 : Int32) (w : j_St) : Option (Int32 × j_St) := if p1 = 0 then some ((-1), w) else jbd p1 48 fun a3 => jlt (jgr w 27 0 a3) fun v4 => job v4 fun y6 => jlt (jgi w 3 y6 1) fun v8 => some (v8, w)
abbrev rm_X1_heightBut : Room := { frames := 0, cells := 0, slots := 0, locals := 0 }
set_option maxRecDepth 100000 in
set_option maxHeartbeats 4000000 in
theorem mt_X1_heightBut {g : j_G} {B : j_B} {p1 : Int32} {w w' : j_St} (a0 : B.2.1 0 0 ∧ B.2.2 0 0) {r : Int32} (h : f_X1_heightBut p1 w = some (r, w')) : j_M g yX1_heightBut cX1_heightBut 2 (some FieldType.int) rm_X1_heightBut B [.ref (B.1 0 0), .int p1] w w' (jri r) := by
  refine j_met (rv := jri) (by decide) (Nat.le_of_ble_eq_true rfl) (fun x hx => ?_) h
  unfold f_X1_heightBut
  refine J.sub (lv' := [(0, .ref (B.1 0 0)), (1, .int p1)]) [0, 1] rfl ?_
  refine J.iload_n hx dX1_heightBut_0 rfl 1 rfl ?_
  refine J.if_ne (tgt := 8) hx dX1_heightBut_1 (by decide) ?_ ?_
  · refine J.iconst (v := (-1)) hx dX1_heightBut_4 (by decide) ?_
    refine J.goto (tgt := 20) hx dX1_heightBut_5 (by decide) ?_
    exact J.iret hx rfl (Nat.le_of_ble_eq_true rfl) (Nat.le_of_ble_eq_true rfl) dX1_heightBut_20
  · refine J.aload_n hx dX1_heightBut_8 rfl 0 rfl ?_
    refine J.getc (κ' := 2) (i' := 0) (κ := 0) (k := 10) hx rfl rfl rfl rfl rfl in_X1 (by decide) (Or.inl q378) a0.2 dX1_heightBut_9 fun h1 => ?_
    refine J.getc (κ' := 27) (i' := 0) (κ := 2) (k := 1) hx rfl rfl rfl rfl rfl in_X5 (by decide) (Or.inr ⟨_, j_nl q277 rfl⟩) h1.2 dX1_heightBut_12 fun h2 => ?_
    refine J.iload_n hx dX1_heightBut_15 rfl 1 rfl ?_
    refine J.aald (κ' := 3) (κ := 27) hx rfl rfl (by decide) rfl rfl h2.1 dX1_heightBut_16 fun v4 h5 => ?_
    refine J.obU fun y6 e7 => ?_
    subst e7
    refine J.geti (κ := 3) (k := 1) hx rfl rfl rfl in_X6 (by decide) (Or.inr ⟨_, j_nl q242 rfl⟩) (h5 y6 rfl).1 dX1_heightBut_17 fun v8 => ?_
    exact J.iret hx rfl (Nat.le_of_ble_eq_true rfl) (Nat.le_of_ble_eq_true rfl) dX1_heightBut_20
