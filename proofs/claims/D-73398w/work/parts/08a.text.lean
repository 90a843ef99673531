theorem hd_J7_canEncode : yJ7_canEncode.cls = RJ7 ∧ yJ7_canEncode.cls ≠ "java/lang/invoke/MethodHandle" ∧ yJ7_canEncode.cls ≠ "java/lang/invoke/VarHandle" ∧ (parseMethodDescriptor yJ7_canEncode.desc).map (fun d => d.parameters.length) = some 1 := by decide +kernel
def f_J7_canEncode (p0 : Int32) (w : j_St) : Option (Int32 × j_St) := if 255 < p0 then some (0, w) else some (1, w)
abbrev rm_J7_canEncode : Room := { frames := 0, cells := 0, slots := 0, locals := 0 }
set_option maxRecDepth 100000 in
set_option maxHeartbeats 4000000 in
theorem mt_J7_canEncode {g : j_G} {B : j_B} {p0 : Int32} {w w' : j_St}  {r : Int32} (h : f_J7_canEncode p0 w = some (r, w')) : j_M g yJ7_canEncode cJ7_canEncode 1 (some FieldType.boolean) rm_J7_canEncode B [.int p0] w w' (jri r) := by
  refine j_met (rv := jri) (by decide) (Nat.le_of_ble_eq_true rfl) (fun x hx => ?_) h
  unfold f_J7_canEncode
  refine J.sub (lv' := [(0, .int p0)]) [0] rfl ?_
  refine J.iload_n hx dJ7_canEncode_0 rfl 0 rfl ?_
  refine J.sipush (v := 255) hx dJ7_canEncode_1 (by decide) ?_
  refine J.icmp_gt (tgt := 11) hx dJ7_canEncode_4 (by decide) ?_ ?_
  · refine J.iconst (v := 0) hx dJ7_canEncode_11 (by decide) ?_
    exact J.zret hx rfl rfl (Nat.le_of_ble_eq_true rfl) (Nat.le_of_ble_eq_true rfl) dJ7_canEncode_12
  · refine J.iconst (v := 1) hx dJ7_canEncode_7 (by decide) ?_
    refine J.goto (tgt := 12) hx dJ7_canEncode_8 (by decide) ?_
    exact J.zret hx rfl rfl (Nat.le_of_ble_eq_true rfl) (Nat.le_of_ble_eq_true rfl) dJ7_canEncode_12
theorem hd_J1_isLatin1 : yJ1_isLatin1.cls = RJ1 ∧ yJ1_isLatin1.cls ≠ "java/lang/invoke/MethodHandle" ∧ yJ1_isLatin1.cls ≠ "java/lang/invoke/VarHandle" ∧ (parseMethodDescriptor yJ1_isLatin1.desc).map (fun d => d.parameters.length) = some 0 := by decide +kernel
def f_J1_isLatin1 (i0 : Nat) (w : j_St) : Option (Int32 × j_St) := if (1 : Int32) = 0 then some (0, w) else jlt (jgi w 16 i0 1) fun v1 => if v1 = 0 then some (1, w) else some (0, w)
abbrev rm_J1_isLatin1 : Room := { frames := 0, cells := 0, slots := 0, locals := 0 }
set_option maxRecDepth 100000 in
set_option maxHeartbeats 4000000 in
theorem mt_J1_isLatin1 {g : j_G} {B : j_B} {i0 : Nat} {w w' : j_St} (a0 : B.2.1 16 i0 ∧ B.2.2 16 i0) {r : Int32} (h : f_J1_isLatin1 i0 w = some (r, w')) : j_M g yJ1_isLatin1 cJ1_isLatin1 1 (some FieldType.boolean) rm_J1_isLatin1 B [.ref (B.1 16 i0)] w w' (jri r) := by
  refine j_met (rv := jri) (by decide) (Nat.le_of_ble_eq_true rfl) (fun x hx => ?_) h
  unfold f_J1_isLatin1
  refine J.sub (lv' := [(0, .ref (B.1 16 i0))]) [0] rfl ?_
  refine J.gets (t := 13) (v := .int 1) hx rfl q525 dJ1_isLatin1_0 ?_
  refine J.if_eq (tgt := 17) hx dJ1_isLatin1_3 (by decide) ?_ ?_
  · refine J.iconst (v := 0) hx dJ1_isLatin1_17 (by decide) ?_
    exact J.zret hx rfl rfl (Nat.le_of_ble_eq_true rfl) (Nat.le_of_ble_eq_true rfl) dJ1_isLatin1_18
  · refine J.aload_n hx dJ1_isLatin1_6 rfl 0 rfl ?_
    refine J.geti (κ := 16) (k := 1) hx rfl rfl rfl in_J2 (by decide) (Or.inl q535) a0.1 dJ1_isLatin1_7 fun v1 => ?_
    refine J.if_ne (tgt := 17) hx dJ1_isLatin1_10 (by decide) ?_ ?_
    · refine J.iconst (v := 1) hx dJ1_isLatin1_13 (by decide) ?_
      refine J.goto (tgt := 18) hx dJ1_isLatin1_14 (by decide) ?_
      exact J.zret hx rfl rfl (Nat.le_of_ble_eq_true rfl) (Nat.le_of_ble_eq_true rfl) dJ1_isLatin1_18
    · refine J.iconst (v := 0) hx dJ1_isLatin1_17 (by decide) ?_
      exact J.zret hx rfl rfl (Nat.le_of_ble_eq_true rfl) (Nat.le_of_ble_eq_true rfl) dJ1_isLatin1_18
theorem hd_J1_length : yJ1_length.cls = RJ1 ∧ yJ1_length.cls ≠ "java/lang/invoke/MethodHandle" ∧ yJ1_length.cls ≠ "java/lang/invoke/VarHandle" ∧ (parseMethodDescriptor yJ1_length.desc).map (fun d => d.parameters.length) = some 0 := by decide +kernel
def f_J1_length (i0 : Nat) (w : j_St) : Option (Int32 × j_St) := jlt (jgi w 16 i0 3) fun v1 => some (v1, w)
abbrev rm_J1_length : Room := { frames := 0, cells := 0, slots := 0, locals := 0 }
set_option maxRecDepth 100000 in
set_option maxHeartbeats 4000000 in
theorem mt_J1_length {g : j_G} {B : j_B} {i0 : Nat} {w w' : j_St} (a0 : B.2.1 16 i0 ∧ B.2.2 16 i0) {r : Int32} (h : f_J1_length i0 w = some (r, w')) : j_M g yJ1_length cJ1_length 1 (some FieldType.int) rm_J1_length B [.ref (B.1 16 i0)] w w' (jri r) := by
  refine j_met (rv := jri) (by decide) (Nat.le_of_ble_eq_true rfl) (fun x hx => ?_) h
  unfold f_J1_length
  refine J.sub (lv' := [(0, .ref (B.1 16 i0))]) [0] rfl ?_
  refine J.aload_n hx dJ1_length_0 rfl 0 rfl ?_
  refine J.geti (κ := 16) (k := 3) hx rfl rfl rfl in_J2 (by decide) (Or.inl q537) a0.1 dJ1_length_1 fun v1 => ?_
  exact J.iret hx rfl (Nat.le_of_ble_eq_true rfl) (Nat.le_of_ble_eq_true rfl) dJ1_length_4
theorem hd_J2_length : yJ2_length.cls = RJ2 ∧ yJ2_length.cls ≠ "java/lang/invoke/MethodHandle" ∧ yJ2_length.cls ≠ "java/lang/invoke/VarHandle" ∧ (parseMethodDescriptor yJ2_length.desc).map (fun d => d.parameters.length) = some 0 := by decide +kernel
def f_J2_length (i0 : Nat) (w : j_St) : Option (Int32 × j_St) := jcb (f_J1_length i0 w) fun v1 w2 => some (v1, w2)
abbrev rm_J2_length : Room := { frames := 1, cells := 0, slots := 0, locals := 20 }
set_option maxRecDepth 100000 in
set_option maxHeartbeats 4000000 in
theorem mt_J2_length {g : j_G} {B : j_B} {i0 : Nat} {w w' : j_St} (a0 : B.2.1 16 i0 ∧ B.2.2 16 i0) {r : Int32} (h : f_J2_length i0 w = some (r, w')) : j_M g yJ2_length cJ2_length 1 (some FieldType.int) rm_J2_length B [.ref (B.1 16 i0)] w w' (jri r) := by
  refine j_met (rv := jri) (by decide) (Nat.le_of_ble_eq_true rfl) (fun x hx => ?_) h
  unfold f_J2_length
  refine J.sub (lv' := [(0, .ref (B.1 16 i0))]) [0] rfl ?_
  refine J.aload_n hx dJ2_length_0 rfl 0 rfl ?_
  refine J.calli hx (fun r z1 z => j_callSU (κ := 16) hx rfl rfl a0.1 (mt_J1_length a0 z) (j_wSU q678 q674 q546 q673 q132 q679) ⟨by decide +kernel, hd_J1_length.2.2.2⟩ rfl ⟨Nat.le_of_ble_eq_true rfl, Nat.le_of_ble_eq_true rfl⟩ (Nat.le_of_ble_eq_true rfl) dJ2_length_1) ⟨⟨rfl, rfl⟩, (Nat.le_of_ble_eq_true rfl), (Nat.le_of_ble_eq_true rfl)⟩ fun v1 w2 e3 => ?_
  exact J.iret hx rfl (Nat.le_of_ble_eq_true rfl) (Nat.le_of_ble_eq_true rfl) dJ2_length_4
theorem hd_J1_getValue : yJ1_getValue.cls = RJ1 ∧ yJ1_getValue.cls ≠ "java/lang/invoke/MethodHandle" ∧ yJ1_getValue.cls ≠ "java/lang/invoke/VarHandle" ∧ (parseMethodDescriptor yJ1_getValue.desc).map (fun d => d.parameters.length) = some 0 := by decide +kernel
def f_J1_getValue (i0 : Nat) (w : j_St) : Option (Option Nat × j_St) := jlt (jgr w 16 i0 0) fun v1 => some (v1, w)
abbrev rm_J1_getValue : Room := { frames := 0, cells := 0, slots := 0, locals := 0 }
set_option maxRecDepth 100000 in
set_option maxHeartbeats 4000000 in
theorem mt_J1_getValue {g : j_G} {B : j_B} {i0 : Nat} {w w' : j_St} (a0 : B.2.1 16 i0 ∧ B.2.2 16 i0) {r : Option Nat} (h : f_J1_getValue i0 w = some (r, w')) : j_M g yJ1_getValue cJ1_getValue 1 (some (FieldType.array FieldType.byte)) rm_J1_getValue B [.ref (B.1 16 i0)] w w' ((jro_ B 70) r) := by
  refine j_met (rv := (jro_ B 70)) (by decide) (Nat.le_of_ble_eq_true rfl) (fun x hx => ?_) h
  unfold f_J1_getValue
  refine J.sub (lv' := [(0, .ref (B.1 16 i0))]) [0] rfl ?_
  refine J.aload_n hx dJ1_getValue_0 rfl 0 rfl ?_
  refine J.getr (κ' := 70) (κ := 16) (k := 0) hx rfl rfl rfl rfl in_J2 (by decide) (Or.inl q534) a0.1 dJ1_getValue_1 fun v1 h2 => ?_
  exact J.aretq (κ := 70) (q := v1) hx rfl (Or.inr ⟨_, rfl⟩) (Nat.le_of_ble_eq_true rfl) (Nat.le_of_ble_eq_true rfl) dJ1_getValue_4
theorem mq_J1_getValue {g : j_G} {B : j_B} {i0 : Nat} {w w1 : j_St} {r : Option Nat} (a0 : B.2.1 16 i0 ∧ B.2.2 16 i0) (h : f_J1_getValue i0 w = some (r, w1)) : ∀ H, j_R g B w1 H → ∀ q, r = some q → B.2.1 70 q ∧ B.2.2 70 q := by
  intro H hR q hq
  simp only [f_J1_getValue, jlt, Option.some.injEq, Prod.mk.injEq] at h
  obtain ⟨rfl, rfl⟩ := h
  exact ⟨hR.2.2.2.2.2.1 16 i0 _ q a0.1 hq, hR.2.2.2.2.2.2.1 16 i0 _ q a0.1 hq rfl⟩

theorem hd_J5_newLength : yJ5_newLength.cls = RJ5 ∧ yJ5_newLength.cls ≠ "java/lang/invoke/MethodHandle" ∧ yJ5_newLength.cls ≠ "java/lang/invoke/VarHandle" ∧ (parseMethodDescriptor yJ5_newLength.desc).map (fun d => d.parameters.length) = some 3 := by decide +kernel
def f_J5_newLength (p0 : Int32) (p1 : Int32) (p2 : Int32) (w : j_St) : Option (Int32 × j_St) := jlt (p0 + (jmax p1 p2)) fun v1 => if v1 ≤ 0 then none else if 2147483639 < v1 then none else some (v1, w)
abbrev rm_J5_newLength : Room := { frames := 1, cells := 0, slots := 0, locals := 21 }
set_option maxRecDepth 100000 in
set_option maxHeartbeats 4000000 in
theorem mt_J5_newLength {g : j_G} {B : j_B} {p0 : Int32} {p1 : Int32} {p2 : Int32} {w w' : j_St}  {r : Int32} (h : f_J5_newLength p0 p1 p2 w = some (r, w')) : j_M g yJ5_newLength cJ5_newLength 4 (some FieldType.int) rm_J5_newLength B [.int p0, .int p1, .int p2] w w' (jri r) := by
  refine j_met (rv := jri) (by decide) (Nat.le_of_ble_eq_true rfl) (fun x hx => ?_) h
  unfold f_J5_newLength
  refine J.sub (lv' := [(0, .int p0), (1, .int p1), (2, .int p2)]) [0, 1, 2] rfl ?_
  refine J.iload_n hx dJ5_newLength_0 rfl 0 rfl ?_
  refine J.iload_n hx dJ5_newLength_1 rfl 1 rfl ?_
  refine J.iload_n hx dJ5_newLength_2 rfl 2 rfl ?_
  refine J.mmax hx q569 q195 q123 q196 ⟨Nat.le_of_ble_eq_true rfl, Nat.le_of_ble_eq_true rfl⟩ (Nat.le_of_ble_eq_true rfl) (Nat.le_of_ble_eq_true rfl) (Nat.le_of_ble_eq_true rfl) dJ5_newLength_3 ?_
  refine J.iadd hx dJ5_newLength_6 ?_
  refine J.nmi fun v1 => ?_
  refine J.istore_n (lv' := [(3, .int v1), (0, .int p0), (1, .int p1), (2, .int p2)]) hx dJ5_newLength_7 rfl (by decide) rfl ?_
  refine J.iconst (v := 0) hx dJ5_newLength_8 (by decide) ?_
  refine J.iload_n hx dJ5_newLength_9 rfl 0 rfl ?_
  refine J.icmp_ge (tgt := 21) hx dJ5_newLength_10 (by decide) ?_ ?_
  · exact J.nne
  · refine J.iload_n hx dJ5_newLength_13 rfl 0 rfl ?_
    refine J.ldc (v := 2147483639) hx q570 dJ5_newLength_14 ?_
    refine J.icmp_gt (tgt := 21) hx dJ5_newLength_16 (by decide) ?_ ?_
    · exact J.nne
    · refine J.iload_n hx dJ5_newLength_19 rfl 0 rfl ?_
      exact J.iret hx rfl (Nat.le_of_ble_eq_true rfl) (Nat.le_of_ble_eq_true rfl) dJ5_newLength_20
theorem hd_J1_newCapacity : yJ1_newCapacity.cls = RJ1 ∧ yJ1_newCapacity.cls ≠ "java/lang/invoke/MethodHandle" ∧ yJ1_newCapacity.cls ≠ "java/lang/invoke/VarHandle" ∧ (parseMethodDescriptor yJ1_newCapacity.desc).map (fun d => d.parameters.length) = some 1 := by decide +kernel
def f_J1_newCapacity (i0 : Nat) (p1 : Int32) (w : j_St) : Option (Int32 × j_St) := jlt (jgr w 16 i0 0) fun v1 => job v1 fun y3 => jlt (Int32.ofNat (jgn w 70 y3)) fun v5 => jlt (jgi w 16 i0 1) fun v6 => jlt (p1 <<< (v6 &&& 31)) fun v7 => jlt (v7 - v5) fun v8 => jlt (jgi w 16 i0 1) fun v9 => jcb (f_J5_newLength v5 v8 (v5 + ((2 : Int32) <<< (v9 &&& 31))) w) fun v10 w11 => if v10 = 2147483647 then none else jlt (jgi w11 16 i0 1) fun v13 => some (v10 >>> (v13 &&& 31), w11)
abbrev rm_J1_newCapacity : Room := { frames := 2, cells := 0, slots := 0, locals := 44 }
set_option maxRecDepth 100000 in
set_option maxHeartbeats 4000000 in
theorem mt_J1_newCapacity {g : j_G} {B : j_B} {i0 : Nat} {p1 : Int32} {w w' : j_St} (a0 : B.2.1 16 i0 ∧ B.2.2 16 i0) {r : Int32} (h : f_J1_newCapacity i0 p1 w = some (r, w')) : j_M g yJ1_newCapacity cJ1_newCapacity 6 (some FieldType.int) rm_J1_newCapacity B [.ref (B.1 16 i0), .int p1] w w' (jri r) := by
  refine j_met (rv := jri) (by decide) (Nat.le_of_ble_eq_true rfl) (fun x hx => ?_) h
  unfold f_J1_newCapacity
  refine J.sub (lv' := [(0, .ref (B.1 16 i0)), (1, .int p1)]) [0, 1] rfl ?_
  refine J.aload_n hx dJ1_newCapacity_0 rfl 0 rfl ?_
  refine J.getr (κ' := 70) (κ := 16) (k := 0) hx rfl rfl rfl rfl in_J2 (by decide) (Or.inl q534) a0.1 dJ1_newCapacity_1 fun v1 h2 => ?_
  refine J.obU fun y3 e4 => ?_
  subst e4
  refine J.alen (κ := 70) (v := Int32.ofNat (jgn w 70 y3)) hx ⟨by decide, by decide⟩ (by decide) rfl rfl (h2 y3 rfl).1 dJ1_newCapacity_4 ?_
  refine J.nmi fun v5 => ?_
  refine J.istore_n (lv' := [(2, .int v5), (0, .ref (B.1 16 i0)), (1, .int p1)]) hx dJ1_newCapacity_5 rfl (by decide) rfl ?_
  refine J.iload_n hx dJ1_newCapacity_6 rfl 2 rfl ?_
  refine J.aload_n hx dJ1_newCapacity_7 rfl 1 rfl ?_
  refine J.geti (κ := 16) (k := 1) hx rfl rfl rfl in_J2 (by decide) (Or.inl q535) a0.1 dJ1_newCapacity_8 fun v6 => ?_
  refine J.ishl hx dJ1_newCapacity_11 ?_
  refine J.nmi fun v7 => ?_
  refine J.istore_n (lv' := [(3, .int v7), (2, .int v5), (0, .ref (B.1 16 i0)), (1, .int p1)]) hx dJ1_newCapacity_12 rfl (by decide) rfl ?_
  refine J.iload_n hx dJ1_newCapacity_13 rfl 0 rfl ?_
  refine J.iload_n hx dJ1_newCapacity_14 rfl 1 rfl ?_
  refine J.isub hx dJ1_newCapacity_15 ?_
  refine J.nmi fun v8 => ?_
  refine J.istore (lv' := [(4, .int v8), (3, .int v7), (2, .int v5), (0, .ref (B.1 16 i0)), (1, .int p1)]) hx dJ1_newCapacity_16 (by decide) rfl ?_
  refine J.iload_n hx dJ1_newCapacity_18 rfl 2 rfl ?_
  refine J.iload hx dJ1_newCapacity_19 0 rfl ?_
  refine J.iload_n hx dJ1_newCapacity_21 rfl 2 rfl ?_
  refine J.iconst (v := 2) hx dJ1_newCapacity_22 (by decide) ?_
  refine J.aload_n hx dJ1_newCapacity_23 rfl 3 rfl ?_
  refine J.geti (κ := 16) (k := 1) hx rfl rfl rfl in_J2 (by decide) (Or.inl q535) a0.1 dJ1_newCapacity_24 fun v9 => ?_
  refine J.ishl hx dJ1_newCapacity_27 ?_
  refine J.iadd hx dJ1_newCapacity_28 ?_
  refine J.calli hx (fun r z1 z => j_callS hx (mt_J5_newLength z) (lw_S q566 q567 q136 q568) hd_J5_newLength.2 rfl ⟨Nat.le_of_ble_eq_true rfl, Nat.le_of_ble_eq_true rfl⟩ (Nat.le_of_ble_eq_true rfl) dJ1_newCapacity_29) ⟨⟨rfl, rfl⟩, (Nat.le_of_ble_eq_true rfl), (Nat.le_of_ble_eq_true rfl)⟩ fun v10 w11 e12 => ?_
  refine J.istore (lv' := [(5, .int v10), (4, .int v8), (3, .int v7), (2, .int v5), (0, .ref (B.1 16 i0)), (1, .int p1)]) hx dJ1_newCapacity_32 (by decide) rfl ?_
  refine J.iload hx dJ1_newCapacity_34 0 rfl ?_
  refine J.ldc (v := 2147483647) hx q574 dJ1_newCapacity_36 ?_
  refine J.icmp_ne (tgt := 51) hx dJ1_newCapacity_38 (by decide) ?_ ?_
  · exact J.nne
  · refine J.iload hx dJ1_newCapacity_51 0 rfl ?_
    refine J.aload_n hx dJ1_newCapacity_53 rfl 4 rfl ?_
    refine J.geti (κ := 16) (k := 1) hx rfl rfl rfl in_J2 (by decide) (Or.inl q535) a0.1 dJ1_newCapacity_54 fun v13 => ?_
    refine J.ishr hx dJ1_newCapacity_57 ?_
    exact J.iret hx rfl (Nat.le_of_ble_eq_true rfl) (Nat.le_of_ble_eq_true rfl) dJ1_newCapacity_58
theorem hd_J6_copyOf : yJ6_copyOf.cls = RJ6 ∧ yJ6_copyOf.cls ≠ "java/lang/invoke/MethodHandle" ∧ yJ6_copyOf.cls ≠ "java/lang/invoke/VarHandle" ∧ (parseMethodDescriptor yJ6_copyOf.desc).map (fun d => d.parameters.length) = some 2 := by decide +kernel
def f_J6_copyOf (i0 : Nat) (p1 : Int32) (w : j_St) : Option (Nat × j_St) := if p1 = Int32.ofNat (jgn w 70 i0) then none else jlt (jgn w 170 0) fun n1 => jlt (jbump w 70) fun w3 => if 0 ≤ p1.toInt ∧ p1.toInt ≤ (600 : Int) then jlt (jnw w3 70 n1 p1.toInt.toNat) fun w8 => if 0 ≤ (0 : Int32).toInt ∧ 0 ≤ (0 : Int32).toInt ∧ 0 ≤ (jmin (Int32.ofNat (jgn w8 70 i0)) p1).toInt ∧ (0 : Int32).toInt + (jmin (Int32.ofNat (jgn w8 70 i0)) p1).toInt ≤ ((jgn w8 70 i0) : Int) ∧ (0 : Int32).toInt + (jmin (Int32.ofNat (jgn w8 70 i0)) p1).toInt ≤ ((jgn w8 70 n1) : Int) ∧ jbyt w8 70 i0 (0 : Int32).toInt.toNat (jmin (Int32.ofNat (jgn w8 70 i0)) p1).toInt.toNat = true then jlt (jcp w8 70 i0 (0 : Int32).toInt.toNat 70 n1 (0 : Int32).toInt.toNat (jmin (Int32.ofNat (jgn w8 70 i0)) p1).toInt.toNat) fun w10 => some (n1, w10) else none else none
abbrev rm_J6_copyOf : Room := { frames := 1, cells := 1, slots := 600, locals := 60 }
set_option maxRecDepth 100000 in
set_option maxHeartbeats 4000000 in
theorem mt_J6_copyOf {g : j_G} {B : j_B} {i0 : Nat} {p1 : Int32} {w w' : j_St} (b0 : B.2.1 70 i0 ∧ B.2.2 70 i0)  {r : Nat} (h : f_J6_copyOf i0 p1 w = some (r, w')) : j_MA g yJ6_copyOf cJ6_copyOf 3 (some (FieldType.array FieldType.byte)) rm_J6_copyOf B [.ref (B.1 70 i0), .int p1] w w' ((fun r B => jrr B 70 r) r) ((fun r _ B9 => B9.2.1 70 r ∧ B9.2.2 70 r) r w') := by
  refine j_metA (rv := (fun r B => jrr B 70 r)) (PB := (fun r _ B9 => B9.2.1 70 r ∧ B9.2.2 70 r)) (by decide) (Nat.le_of_ble_eq_true rfl) (fun x hx hnm => ?_) h
  unfold f_J6_copyOf
  refine J.sub (lv' := [(0, .ref (B.1 70 i0)), (1, .int p1)]) [0, 1] rfl ?_
  refine J.iload_n hx dJ6_copyOf_0 rfl 1 rfl ?_
  refine J.aload_n hx dJ6_copyOf_1 rfl 0 rfl ?_
  refine J.alen (κ := 70) (v := Int32.ofNat (jgn w 70 i0)) hx ⟨by decide, by decide⟩ (by decide) rfl rfl b0.1 dJ6_copyOf_2 ?_
  refine J.icmp_ne (tgt := 14) hx dJ6_copyOf_3 (by decide) ?_ ?_
  · exact J.nne
  · refine J.iload_n hx dJ6_copyOf_14 rfl 1 rfl ?_
    refine J.nmx fun n1 e2 => ?_
    refine J.fact (P := ¬ B.2.1 70 n1) (fun H hR z => by have h9 := hR.2.2.2.2.2.2.2.2.2 _ _ z; simp only [jcnt] at h9; simp at h9; omega) fun h5 => ?_
    refine J.bumpe fun w3 e4 => ?_
    refine J.fact (P := ¬ B.2.2 70 n1) (fun H hR z => h5 (hR.2.2.2.2.2.2.2.2.1 _ _ z)) fun h6 => ?_
    refine J.newD hx 600 (i := n1) (by decide) h5 h6 (by rw [e4, e2]; simp [jcnt, jbump, jgn]) q272 ⟨Nat.le_of_ble_eq_true rfl, Nat.le_of_ble_eq_true rfl⟩ dJ6_copyOf_15 fun z9 w8 => ?_
    refine J.cv (lv' := [(0, .ref ((jbN B 70 n1 z9).1 70 i0)), (1, .int p1)]) (st' := [.ref ((jbN B 70 n1 z9).1 70 n1)]) (by first | rfl | (simp only [(jN_ext (q := z9) h5).ad b0]; done) | (simp only [(jN_ext (q := z9) h5).ad b0]; rfl)) (by first | rfl | (simp only [(jN_ext (q := z9) h5).ad b0]; done) | (simp only [(jN_ext (q := z9) h5).ad b0]; rfl)) ?_
    refine J.astore_n (lv' := [(2, .ref ((jbN B 70 n1 z9).1 70 n1)), (0, .ref ((jbN B 70 n1 z9).1 70 i0)), (1, .int p1)]) hx dJ6_copyOf_17 rfl (by decide) rfl ?_
    refine J.aload_n hx dJ6_copyOf_18 rfl 1 rfl ?_
    refine J.iconst (v := 0) hx dJ6_copyOf_19 (by decide) ?_
    refine J.aload_n hx dJ6_copyOf_20 rfl 0 rfl ?_
    refine J.iconst (v := 0) hx dJ6_copyOf_21 (by decide) ?_
    refine J.aload_n hx dJ6_copyOf_22 rfl 1 rfl ?_
    refine J.alen (κ := 70) (v := Int32.ofNat (jgn w8 70 i0)) hx ⟨by decide, by decide⟩ (by decide) rfl rfl (jN_old b0).1 dJ6_copyOf_23 ?_
    refine J.iload_n hx dJ6_copyOf_24 rfl 2 rfl ?_
    refine J.mmin hx q585 q192 q123 q193 ⟨Nat.le_of_ble_eq_true rfl, Nat.le_of_ble_eq_true rfl⟩ (Nat.le_of_ble_eq_true rfl) (Nat.le_of_ble_eq_true rfl) (Nat.le_of_ble_eq_true rfl) dJ6_copyOf_25 ?_
    refine J.acopyb (κ := 70) (κ' := 70) hx rfl rfl rfl rfl rfl (jN_old b0).1 jN_al.1 q586 q588 q587 q138 (Nat.le_of_ble_eq_true rfl) (Nat.le_of_ble_eq_true rfl) (Nat.le_of_ble_eq_true rfl) dJ6_copyOf_28 fun w10 => ?_
    refine J.aload_n hx dJ6_copyOf_31 rfl 0 rfl ?_
    exact J.aretA (κ := 70) (q := n1) hx (j_ext.rf.tr (jN_ext h5)) jN_al rfl (Or.inr ⟨_, rfl⟩) (Nat.le_of_ble_eq_true rfl) (Nat.le_of_ble_eq_true rfl) dJ6_copyOf_32
theorem hd_J1_ensureCapacityInternal : yJ1_ensureCapacityInternal.cls = RJ1 ∧ yJ1_ensureCapacityInternal.cls ≠ "java/lang/invoke/MethodHandle" ∧ yJ1_ensureCapacityInternal.cls ≠ "java/lang/invoke/VarHandle" ∧ (parseMethodDescriptor yJ1_ensureCapacityInternal.desc).map (fun d => d.parameters.length) = some 1 := by decide +kernel
def f_J1_ensureCapacityInternal (i0 : Nat) (p1 : Int32) (w : j_St) : Option (Unit × j_St) := jlt (jgr w 16 i0 0) fun v1 => job v1 fun y3 => jlt (jgi w 16 i0 1) fun v5 => jlt ((Int32.ofNat (jgn w 70 y3)) >>> (v5 &&& 31)) fun v6 => if p1 - v6 ≤ 0 then some ((), w) else jlt (jgr w 16 i0 0) fun v7 => jcb (f_J1_newCapacity i0 p1 w) fun v9 w10 => jlt (jgi w10 16 i0 1) fun v12 => job v7 fun y13 => jcb (f_J6_copyOf y13 (v9 <<< (v12 &&& 31)) w10) fun v15 w16 => jlt (jsr w16 16 i0 0 (some v15)) fun w21 => some ((), w21)
abbrev rm_J1_ensureCapacityInternal : Room := { frames := 3, cells := 1, slots := 600, locals := 82 }
set_option maxRecDepth 100000 in
set_option maxHeartbeats 4000000 in
theorem mt_J1_ensureCapacityInternal {g : j_G} {B : j_B} {i0 : Nat} {p1 : Int32} {w w' : j_St} (a0 : B.2.1 16 i0 ∧ B.2.2 16 i0)  {r : Unit} (h : f_J1_ensureCapacityInternal i0 p1 w = some (r, w')) : j_MA g yJ1_ensureCapacityInternal cJ1_ensureCapacityInternal 3 none rm_J1_ensureCapacityInternal B [.ref (B.1 16 i0), .int p1] w w' ((fun _ _ => none) r) ((fun _ _ _ => True) r w') := by
  refine j_metA (rv := (fun _ _ => none)) (PB := (fun _ _ _ => True)) (by decide) (Nat.le_of_ble_eq_true rfl) (fun x hx hnm => ?_) h
  unfold f_J1_ensureCapacityInternal
  refine J.sub (lv' := [(0, .ref (B.1 16 i0)), (1, .int p1)]) [0, 1] rfl ?_
  refine J.aload_n hx dJ1_ensureCapacityInternal_0 rfl 0 rfl ?_
  refine J.getr (κ' := 70) (κ := 16) (k := 0) hx rfl rfl rfl rfl in_J2 (by decide) (Or.inl q534) a0.1 dJ1_ensureCapacityInternal_1 fun v1 h2 => ?_
  refine J.obU fun y3 e4 => ?_
  subst e4
  refine J.alen (κ := 70) (v := Int32.ofNat (jgn w 70 y3)) hx ⟨by decide, by decide⟩ (by decide) rfl rfl (h2 y3 rfl).1 dJ1_ensureCapacityInternal_4 ?_
  refine J.aload_n hx dJ1_ensureCapacityInternal_5 rfl 0 rfl ?_
  refine J.geti (κ := 16) (k := 1) hx rfl rfl rfl in_J2 (by decide) (Or.inl q535) a0.1 dJ1_ensureCapacityInternal_6 fun v5 => ?_
  refine J.ishr hx dJ1_ensureCapacityInternal_9 ?_
  refine J.nmi fun v6 => ?_
  refine J.istore_n (lv' := [(2, .int v6), (0, .ref (B.1 16 i0)), (1, .int p1)]) hx dJ1_ensureCapacityInternal_10 rfl (by decide) rfl ?_
  refine J.iload_n hx dJ1_ensureCapacityInternal_11 rfl 2 rfl ?_
  refine J.iload_n hx dJ1_ensureCapacityInternal_12 rfl 0 rfl ?_
  refine J.isub hx dJ1_ensureCapacityInternal_13 ?_
  refine J.if_le (tgt := 38) hx dJ1_ensureCapacityInternal_14 (by decide) ?_ ?_
  · exact J.vretA hx j_ext.rf trivial rfl (Nat.le_of_ble_eq_true rfl) (Nat.le_of_ble_eq_true rfl) dJ1_ensureCapacityInternal_38
  · refine J.aload_n hx dJ1_ensureCapacityInternal_17 rfl 1 rfl ?_
    refine J.aload_n hx dJ1_ensureCapacityInternal_18 rfl 1 rfl ?_
    refine J.getr (κ' := 70) (κ := 16) (k := 0) hx rfl rfl rfl rfl in_J2 (by decide) (Or.inl q534) a0.1 dJ1_ensureCapacityInternal_19 fun v7 h8 => ?_
    refine J.aload_n hx dJ1_ensureCapacityInternal_22 rfl 1 rfl ?_
    refine J.iload_n hx dJ1_ensureCapacityInternal_23 rfl 2 rfl ?_
    refine J.calli hx (fun r z1 z => j_callP (κ := 16) (y0 := yJ1_isLatin1) hx rfl rfl a0.1 (mt_J1_newCapacity a0 z) (lw_meth q565) q562 q564 q132 (j_nl q563 rfl) q592 rfl q2347 hd_J1_newCapacity.2 rfl ⟨Nat.le_of_ble_eq_true rfl, Nat.le_of_ble_eq_true rfl⟩ (by simp [va_re_cat, jct_i, jct_l, jct_r, jct_n]) dJ1_ensureCapacityInternal_24) ⟨⟨rfl, rfl⟩, (Nat.le_of_ble_eq_true rfl), (Nat.le_of_ble_eq_true rfl)⟩ fun v9 w10 e11 => ?_
    refine J.aload_n hx dJ1_ensureCapacityInternal_27 rfl 1 rfl ?_
    refine J.geti (κ := 16) (k := 1) hx rfl rfl rfl in_J2 (by decide) (Or.inl q535) a0.1 dJ1_ensureCapacityInternal_28 fun v12 => ?_
    refine J.ishl hx dJ1_ensureCapacityInternal_31 ?_
    refine J.obU fun y13 e14 => ?_
    subst e14
    refine J.callAr (κ := 70) hx (fun r z1 z => j_callA_of (j_runS hx (mt_J6_copyOf (h8 y13 rfl) z) (lw_S q575 q576 q137 q577) hd_J6_copyOf.2 rfl ⟨Nat.le_of_ble_eq_true rfl, Nat.le_of_ble_eq_true rfl⟩ (Nat.le_of_ble_eq_true rfl) dJ1_ensureCapacityInternal_32)) ⟨Nat.le_of_ble_eq_true rfl, Nat.le_of_ble_eq_true rfl⟩ fun v15 w16 B18 e17 x19 x20 => ?_
    refine J.cv (lv' := [(2, .int v6), (0, .ref (B18.1 16 i0)), (1, .int p1)]) (st' := [.ref (B18.1 70 v15), .ref (B18.1 16 i0)]) (by first | rfl | (simp only [x19.ad a0]; done) | (simp only [x19.ad a0]; rfl)) (by first | rfl | (simp only [x19.ad a0]; done) | (simp only [x19.ad a0]; rfl)) ?_
    refine J.putr (κ' := 70) (v := (some v15)) (κ := 16) (k := 0) hx rfl rfl rfl rfl in_J2 tyJ2_ok nmJ2 (by decide) (Or.inl q534) rfl rfl (x19.mv a0).1 (fun _ => ⟨rfl, rfl, rfl, rfl⟩) (j_sm x20) dJ1_ensureCapacityInternal_35 fun w21 => ?_
    exact J.vretA hx (j_ext.rf.tr x19) trivial rfl (Nat.le_of_ble_eq_true rfl) (Nat.le_of_ble_eq_true rfl) dJ1_ensureCapacityInternal_38
theorem hd_J1_append : yJ1_append.cls = RJ1 ∧ yJ1_append.cls ≠ "java/lang/invoke/MethodHandle" ∧ yJ1_append.cls ≠ "java/lang/invoke/VarHandle" ∧ (parseMethodDescriptor yJ1_append.desc).map (fun d => d.parameters.length) = some 1 := by decide +kernel
def f_J1_append (i0 : Nat) (p1 : Int32) (w : j_St) : Option (Nat × j_St) := jlt (jgi w 16 i0 3) fun v1 => jcb (f_J1_ensureCapacityInternal i0 (v1 + 1) w) fun _ w3 => jcb (f_J1_isLatin1 i0 w3) fun v8 w9 => if v8 = 0 then none else jcb (f_J7_canEncode p1 w9) fun v11 w12 => if v11 = 0 then none else jlt (jgr w12 16 i0 0) fun v14 => jlt (jgi w12 16 i0 3) fun v16 => jlt (jsi w12 16 i0 3 (v16 + 1)) fun w17 => job v14 fun y18 => jbd v16 (jgn w17 70 y18) fun a21 => jlt (jsi w17 70 y18 a21 p1.toInt8.toInt32.toInt8.toInt32) fun w20 => some (i0, w20)
abbrev rm_J1_append : Room := { frames := 4, cells := 1, slots := 600, locals := 104 }
set_option maxRecDepth 100000 in
set_option maxHeartbeats 4000000 in
theorem mt_J1_append {g : j_G} {B : j_B} {i0 : Nat} {p1 : Int32} {w w' : j_St} (a0 : B.2.1 16 i0 ∧ B.2.2 16 i0)  {r : Nat} (h : f_J1_append i0 p1 w = some (r, w')) : j_MA g yJ1_append cJ1_append 2 (some (FieldType.object "java/lang/AbstractStringBuilder")) rm_J1_append B [.ref (B.1 16 i0), .int p1] w w' ((fun r B => jrr B 16 r) r) ((fun r _ B9 => B9.2.1 16 r ∧ B9.2.2 16 r) r w') := by
  refine j_metA (rv := (fun r B => jrr B 16 r)) (PB := (fun r _ B9 => B9.2.1 16 r ∧ B9.2.2 16 r)) (by decide) (Nat.le_of_ble_eq_true rfl) (fun x hx hnm => ?_) h
  unfold f_J1_append
  refine J.sub (lv' := [(0, .ref (B.1 16 i0)), (1, .int p1)]) [0, 1] rfl ?_
  refine J.aload_n hx dJ1_append_0 rfl 0 rfl ?_
  refine J.aload_n hx dJ1_append_1 rfl 0 rfl ?_
  refine J.geti (κ := 16) (k := 3) hx rfl rfl rfl in_J2 (by decide) (Or.inl q537) a0.1 dJ1_append_2 fun v1 => ?_
  refine J.iconst (v := 1) hx dJ1_append_5 (by decide) ?_
  refine J.iadd hx dJ1_append_6 ?_
  refine J.callAv hx (fun r z1 z => j_callA_of (j_runP (κ := 16) (y0 := yJ1_isLatin1) hx rfl rfl a0.1 (mt_J1_ensureCapacityInternal a0 z) (lw_meth q561) q558 q560 q132 (j_nl q559 rfl) q592 rfl q2346 hd_J1_ensureCapacityInternal.2 rfl ⟨Nat.le_of_ble_eq_true rfl, Nat.le_of_ble_eq_true rfl⟩ (Nat.le_of_ble_eq_true rfl) dJ1_append_7)) ⟨Nat.le_of_ble_eq_true rfl, Nat.le_of_ble_eq_true rfl⟩ fun _ w3 B5 e4 x6 x7 => ?_
  refine J.cv (lv' := [(0, .ref (B5.1 16 i0)), (1, .int p1)]) (st' := []) (by first | rfl | (simp only [x6.ad a0]; done) | (simp only [x6.ad a0]; rfl)) (by first | rfl | (simp only [x6.ad a0]; done) | (simp only [x6.ad a0]; rfl)) ?_
  refine J.aload_n hx dJ1_append_10 rfl 0 rfl ?_
  refine J.calli hx (fun r z1 z => j_callU (κ := 16) (owner := "java/lang/AbstractStringBuilder") (z := ⟨"java/lang/AbstractStringBuilder", "isLatin1", "()Z"⟩) hx rfl rfl (x6.mv a0).1 (mt_J1_isLatin1 (x6.mv a0) z) (j_wU q589 q591 q592 q590 q132 q593) rfl hd_J1_isLatin1.2 rfl ⟨Nat.le_of_ble_eq_true rfl, Nat.le_of_ble_eq_true rfl⟩ (Nat.le_of_ble_eq_true rfl) dJ1_append_11) ⟨⟨rfl, rfl⟩, (Nat.le_of_ble_eq_true rfl), (Nat.le_of_ble_eq_true rfl)⟩ fun v8 w9 e10 => ?_
  refine J.if_eq (tgt := 45) hx dJ1_append_14 (by decide) ?_ ?_
  · exact J.nne
  · refine J.iload_n hx dJ1_append_17 rfl 1 rfl ?_
    refine J.calli hx (fun r z1 z => j_callS hx (mt_J7_canEncode z) (lw_S q594 q595 q139 q596) hd_J7_canEncode.2 rfl ⟨Nat.le_of_ble_eq_true rfl, Nat.le_of_ble_eq_true rfl⟩ (Nat.le_of_ble_eq_true rfl) dJ1_append_18) ⟨⟨rfl, rfl⟩, (Nat.le_of_ble_eq_true rfl), (Nat.le_of_ble_eq_true rfl)⟩ fun v11 w12 e13 => ?_
    refine J.if_eq (tgt := 45) hx dJ1_append_21 (by decide) ?_ ?_
    · exact J.nne
    · refine J.aload_n hx dJ1_append_24 rfl 0 rfl ?_
      refine J.getr (κ' := 70) (κ := 16) (k := 0) hx rfl rfl rfl rfl in_J2 (by decide) (Or.inl q534) (x6.mv a0).1 dJ1_append_25 fun v14 h15 => ?_
      refine J.aload_n hx dJ1_append_28 rfl 0 rfl ?_
      refine J.dup hx dJ1_append_29 rfl ?_
      refine J.geti (κ := 16) (k := 3) hx rfl rfl rfl in_J2 (by decide) (Or.inl q537) (x6.mv a0).1 dJ1_append_30 fun v16 => ?_
      refine J.dup_x1 hx dJ1_append_33 rfl rfl ?_
      refine J.iconst (v := 1) hx dJ1_append_34 (by decide) ?_
      refine J.iadd hx dJ1_append_35 ?_
      refine J.puti (κ := 16) (k := 3) hx rfl rfl rfl in_J2 tyJ2_ok nmJ2 (by decide) (Or.inl q537) rfl rfl (x6.mv a0).1 ⟨rfl, rfl⟩ dJ1_append_36 fun w17 => ?_
      refine J.iload_n hx dJ1_append_39 rfl 1 rfl ?_
      refine J.i2b hx dJ1_append_40 ?_
      refine J.obU fun y18 e19 => ?_
      subst e19
      refine J.bast (κ := 70) hx rfl rfl rfl (h15 y18 rfl).1 dJ1_append_41 fun w20 => ?_
      refine J.goto (tgt := 75) hx dJ1_append_42 (by decide) ?_
      refine J.aload_n hx dJ1_append_75 rfl 0 rfl ?_
      exact J.aretA (κ := 16) (q := i0) hx (j_ext.rf.tr x6) (x6.mv a0) rfl (Or.inl ⟨_, rfl⟩) (Nat.le_of_ble_eq_true rfl) (Nat.le_of_ble_eq_true rfl) dJ1_append_76
theorem hd_J2_append : yJ2_append.cls = RJ2 ∧ yJ2_append.cls ≠ "java/lang/invoke/MethodHandle" ∧ yJ2_append.cls ≠ "java/lang/invoke/VarHandle" ∧ (parseMethodDescriptor yJ2_append.desc).map (fun d => d.parameters.length) = some 1 := by decide +kernel
def f_J2_append (i0 : Nat) (p1 : Int32) (w : j_St) : Option (Nat × j_St) := jcb (f_J1_append i0 p1 w) fun v1 w2 => some (i0, w2)
abbrev rm_J2_append : Room := { frames := 5, cells := 1, slots := 600, locals := 125 }
set_option maxRecDepth 100000 in
set_option maxHeartbeats 4000000 in
theorem mt_J2_append {g : j_G} {B : j_B} {i0 : Nat} {p1 : Int32} {w w' : j_St} (a0 : B.2.1 16 i0 ∧ B.2.2 16 i0)  {r : Nat} (h : f_J2_append i0 p1 w = some (r, w')) : j_MA g yJ2_append cJ2_append 2 (some (FieldType.object "java/lang/StringBuilder")) rm_J2_append B [.ref (B.1 16 i0), .int p1] w w' ((fun r B => jrr B 16 r) r) ((fun r _ B9 => B9.2.1 16 r ∧ B9.2.2 16 r) r w') := by
  refine j_metA (rv := (fun r B => jrr B 16 r)) (PB := (fun r _ B9 => B9.2.1 16 r ∧ B9.2.2 16 r)) (by decide) (Nat.le_of_ble_eq_true rfl) (fun x hx hnm => ?_) h
  unfold f_J2_append
  refine J.sub (lv' := [(0, .ref (B.1 16 i0)), (1, .int p1)]) [0, 1] rfl ?_
  refine J.aload_n hx dJ2_append_0 rfl 0 rfl ?_
  refine J.iload_n hx dJ2_append_1 rfl 1 rfl ?_
  refine J.callAr (κ := 16) hx (fun r z1 z => j_callA_of (j_runSU (κ := 16) hx rfl rfl a0.1 (mt_J1_append a0 z) (j_wSU q555 q2345 q546 q556 q132 q557) ⟨by decide +kernel, hd_J1_append.2.2.2⟩ rfl ⟨Nat.le_of_ble_eq_true rfl, Nat.le_of_ble_eq_true rfl⟩ (Nat.le_of_ble_eq_true rfl) dJ2_append_2)) ⟨Nat.le_of_ble_eq_true rfl, Nat.le_of_ble_eq_true rfl⟩ fun v1 w2 B4 e3 x5 x6 => ?_
  refine J.cv (lv' := [(0, .ref (B4.1 16 i0)), (1, .int p1)]) (st' := [.ref (B4.1 16 v1)]) (by first | rfl | (simp only [x5.ad a0]; done) | (simp only [x5.ad a0]; rfl)) (by first | rfl | (simp only [x5.ad a0]; done) | (simp only [x5.ad a0]; rfl)) ?_
  refine J.pop hx dJ2_append_5 rfl ?_
  refine J.aload_n hx dJ2_append_6 rfl 0 rfl ?_
  exact J.aretA (κ := 16) (q := i0) hx (j_ext.rf.tr x5) (x5.mv a0) rfl (Or.inl ⟨_, rfl⟩) (Nat.le_of_ble_eq_true rfl) (Nat.le_of_ble_eq_true rfl) dJ2_append_7
theorem hd_J1_init : yJ1_init.cls = RJ1 ∧ yJ1_init.cls ≠ "java/lang/invoke/MethodHandle" ∧ yJ1_init.cls ≠ "java/lang/invoke/VarHandle" ∧ (parseMethodDescriptor yJ1_init.desc).map (fun d => d.parameters.length) = some 1 := by decide +kernel
def f_J1_init (i0 : Nat) (p1 : Int32) (w : j_St) : Option (Unit × j_St) := if (1 : Int32) = 0 then none else jlt (jgn w 170 0) fun n1 => jlt (jbump w 70) fun w3 => if 0 ≤ p1.toInt ∧ p1.toInt ≤ (16 : Int) then jlt (jnw w3 70 n1 p1.toInt.toNat) fun w8 => jlt (jsr w8 16 i0 0 (some n1)) fun w10 => jlt (jsi w10 16 i0 1 0) fun w11 => some ((), w11) else none
abbrev rm_J1_init : Room := { frames := 1, cells := 1, slots := 16, locals := 20 }
set_option maxRecDepth 100000 in
set_option maxHeartbeats 4000000 in
theorem mt_J1_init {g : j_G} {B : j_B} {i0 : Nat} {p1 : Int32} {w w' : j_St} (a0 : B.2.1 16 i0 ∧ True)  {r : Unit} (h : f_J1_init i0 p1 w = some (r, w')) : j_MA g yJ1_init cJ1_init 2 none rm_J1_init B [.ref (B.1 16 i0), .int p1] w w' ((fun _ _ => none) r) ((fun _ _ _ => True) r w') := by
  refine j_metA (rv := (fun _ _ => none)) (PB := (fun _ _ _ => True)) (by decide) (Nat.le_of_ble_eq_true rfl) (fun x hx hnm => ?_) h
  unfold f_J1_init
  refine J.sub (lv' := [(0, .ref (B.1 16 i0)), (1, .int p1)]) [0, 1] rfl ?_
  refine J.aload_n hx dJ1_init_0 rfl 0 rfl ?_
  refine J.objInit hx q524 q170 q171 ⟨Nat.le_of_ble_eq_true rfl, Nat.le_of_ble_eq_true rfl⟩ (Nat.le_of_ble_eq_true rfl) dJ1_init_1 ?_
  refine J.gets (t := 13) (v := .int 1) hx rfl q525 dJ1_init_4 ?_
  refine J.if_eq (tgt := 25) hx dJ1_init_7 (by decide) ?_ ?_
  · exact J.nne
  · refine J.aload_n hx dJ1_init_10 rfl 0 rfl ?_
    refine J.iload_n hx dJ1_init_11 rfl 1 rfl ?_
    refine J.nmx fun n1 e2 => ?_
    refine J.fact (P := ¬ B.2.1 70 n1) (fun H hR z => by have h9 := hR.2.2.2.2.2.2.2.2.2 _ _ z; simp only [jcnt] at h9; simp at h9; omega) fun h5 => ?_
    refine J.bumpe fun w3 e4 => ?_
    refine J.fact (P := ¬ B.2.2 70 n1) (fun H hR z => h5 (hR.2.2.2.2.2.2.2.2.1 _ _ z)) fun h6 => ?_
    refine J.newD hx 16 (i := n1) (by decide) h5 h6 (by rw [e4, e2]; simp [jcnt, jbump, jgn]) q272 ⟨Nat.le_of_ble_eq_true rfl, Nat.le_of_ble_eq_true rfl⟩ dJ1_init_12 fun z9 w8 => ?_
    refine J.putr (κ' := 70) (v := (some n1)) (κ := 16) (k := 0) hx rfl rfl rfl rfl in_J2 tyJ2_ok nmJ2 (by decide) (Or.inl q534) rfl rfl (jN_oldh a0).1 (fun _ => ⟨rfl, rfl, rfl, rfl⟩) (j_sm jN_al) dJ1_init_14 fun w10 => ?_
    refine J.aload_n hx dJ1_init_17 rfl 0 rfl ?_
    refine J.iconst (v := 0) hx dJ1_init_18 (by decide) ?_
    refine J.puti (κ := 16) (k := 1) hx rfl rfl rfl in_J2 tyJ2_ok nmJ2 (by decide) (Or.inl q535) rfl rfl (jN_oldh a0).1 ⟨rfl, rfl⟩ dJ1_init_19 fun w11 => ?_
    refine J.goto (tgt := 38) hx dJ1_init_22 (by decide) ?_
    exact J.vretA hx (j_ext.rf.tr (jN_ext h5)) trivial rfl (Nat.le_of_ble_eq_true rfl) (Nat.le_of_ble_eq_true rfl) dJ1_init_38
theorem hd_J2_init : yJ2_init.cls = RJ2 ∧ yJ2_init.cls ≠ "java/lang/invoke/MethodHandle" ∧ yJ2_init.cls ≠ "java/lang/invoke/VarHandle" ∧ (parseMethodDescriptor yJ2_init.desc).map (fun d => d.parameters.length) = some 0 := by decide +kernel
def f_J2_init (i0 : Nat) (w : j_St) : Option (Unit × j_St) := jcb (f_J1_init i0 16 w) fun _ w2 => some ((), w2)
abbrev rm_J2_init : Room := { frames := 2, cells := 1, slots := 16, locals := 41 }
set_option maxRecDepth 100000 in
set_option maxHeartbeats 4000000 in
theorem mt_J2_init {g : j_G} {B : j_B} {i0 : Nat} {w w' : j_St} (a0 : B.2.1 16 i0 ∧ True)  {r : Unit} (h : f_J2_init i0 w = some (r, w')) : j_MA g yJ2_init cJ2_init 1 none rm_J2_init B [.ref (B.1 16 i0)] w w' ((fun _ _ => none) r) ((fun _ _ _ => True) r w') := by
  refine j_metA (rv := (fun _ _ => none)) (PB := (fun _ _ _ => True)) (by decide) (Nat.le_of_ble_eq_true rfl) (fun x hx hnm => ?_) h
  unfold f_J2_init
  refine J.sub (lv' := [(0, .ref (B.1 16 i0))]) [0] rfl ?_
  refine J.aload_n hx dJ2_init_0 rfl 0 rfl ?_
  refine J.bipush (v := 16) hx dJ2_init_1 (by decide) ?_
  refine J.callAv hx (fun r z1 z => j_callA_of (j_runI (κ := 16) hx (mt_J1_init a0 z) (lw_meth q523) q521 q522 q132 rfl hd_J1_init.2 rfl ⟨Nat.le_of_ble_eq_true rfl, Nat.le_of_ble_eq_true rfl⟩ (Nat.le_of_ble_eq_true rfl) dJ2_init_3)) ⟨Nat.le_of_ble_eq_true rfl, Nat.le_of_ble_eq_true rfl⟩ fun _ w2 B4 e3 x5 x6 => ?_
  refine J.cv (lv' := [(0, .ref (B4.1 16 i0))]) (st' := []) (by first | rfl | (simp only [x5.adh a0]; done) | (simp only [x5.adh a0]; rfl)) (by first | rfl | (simp only [x5.adh a0]; done) | (simp only [x5.adh a0]; rfl)) ?_
  exact J.vretA hx (j_ext.rf.tr x5) trivial rfl (Nat.le_of_ble_eq_true rfl) (Nat.le_of_ble_eq_true rfl) dJ2_init_6
theorem hd_J6_checkLength : yJ6_checkLength.cls = RJ6 ∧ yJ6_checkLength.cls ≠ "java/lang/invoke/MethodHandle" ∧ yJ6_checkLength.cls ≠ "java/lang/invoke/VarHandle" ∧ (parseMethodDescriptor yJ6_checkLength.desc).map (fun d => d.parameters.length) = some 2 := by decide +kernel
def f_J6_checkLength (p0 : Int32) (p1 : Int32) (w : j_St) : Option (Unit × j_St) := if p0 ≤ p1 then some ((), w) else none
abbrev rm_J6_checkLength : Room := { frames := 0, cells := 0, slots := 0, locals := 0 }
set_option maxRecDepth 100000 in
set_option maxHeartbeats 4000000 in
theorem mt_J6_checkLength {g : j_G} {B : j_B} {p0 : Int32} {p1 : Int32} {w w' : j_St}  {r : Unit} (h : f_J6_checkLength p0 p1 w = some (r, w')) : j_M g yJ6_checkLength cJ6_checkLength 2 none rm_J6_checkLength B [.int p0, .int p1] w w' (jrv r) := by
  refine j_met (rv := jrv) (by decide) (Nat.le_of_ble_eq_true rfl) (fun x hx => ?_) h
  unfold f_J6_checkLength
  refine J.sub (lv' := [(0, .int p0), (1, .int p1)]) [0, 1] rfl ?_
  refine J.iload_n hx dJ6_checkLength_0 rfl 1 rfl ?_
  refine J.iload_n hx dJ6_checkLength_1 rfl 0 rfl ?_
  refine J.icmp_ge (tgt := 37) hx dJ6_checkLength_2 (by decide) ?_ ?_
  · exact J.vret hx rfl (Nat.le_of_ble_eq_true rfl) (Nat.le_of_ble_eq_true rfl) dJ6_checkLength_37
  · exact J.nne
theorem hd_J6_copyOfRangeByte : yJ6_copyOfRangeByte.cls = RJ6 ∧ yJ6_copyOfRangeByte.cls ≠ "java/lang/invoke/MethodHandle" ∧ yJ6_copyOfRangeByte.cls ≠ "java/lang/invoke/VarHandle" ∧ (parseMethodDescriptor yJ6_copyOfRangeByte.desc).map (fun d => d.parameters.length) = some 3 := by decide +kernel
def f_J6_copyOfRangeByte (i0 : Nat) (p1 : Int32) (p2 : Int32) (w : j_St) : Option (Nat × j_St) := jcb (f_J6_checkLength p1 p2 w) fun _ w2 => jlt (p2 - p1) fun v4 => jlt (jgn w2 170 0) fun n5 => jlt (jbump w2 70) fun w7 => if 0 ≤ v4.toInt ∧ v4.toInt ≤ (600 : Int) then jlt (jnw w7 70 n5 v4.toInt.toNat) fun w12 => if 0 ≤ p1.toInt ∧ 0 ≤ (0 : Int32).toInt ∧ 0 ≤ (jmin ((Int32.ofNat (jgn w12 70 i0)) - p1) v4).toInt ∧ p1.toInt + (jmin ((Int32.ofNat (jgn w12 70 i0)) - p1) v4).toInt ≤ ((jgn w12 70 i0) : Int) ∧ (0 : Int32).toInt + (jmin ((Int32.ofNat (jgn w12 70 i0)) - p1) v4).toInt ≤ ((jgn w12 70 n5) : Int) ∧ jbyt w12 70 i0 p1.toInt.toNat (jmin ((Int32.ofNat (jgn w12 70 i0)) - p1) v4).toInt.toNat = true then jlt (jcp w12 70 i0 p1.toInt.toNat 70 n5 (0 : Int32).toInt.toNat (jmin ((Int32.ofNat (jgn w12 70 i0)) - p1) v4).toInt.toNat) fun w14 => some (n5, w14) else none else none
abbrev rm_J6_copyOfRangeByte : Room := { frames := 1, cells := 1, slots := 600, locals := 60 }
set_option maxRecDepth 100000 in
set_option maxHeartbeats 4000000 in
theorem mt_J6_copyOfRangeByte {g : j_G} {B : j_B} {i0 : Nat} {p1 : Int32} {p2 : Int32} {w w' : j_St} (b0 : B.2.1 70 i0 ∧ B.2.2 70 i0)  {r : Nat} (h : f_J6_copyOfRangeByte i0 p1 p2 w = some (r, w')) : j_MA g yJ6_copyOfRangeByte cJ6_copyOfRangeByte 5 (some (FieldType.array FieldType.byte)) rm_J6_copyOfRangeByte B [.ref (B.1 70 i0), .int p1, .int p2] w w' ((fun r B => jrr B 70 r) r) ((fun r _ B9 => B9.2.1 70 r ∧ B9.2.2 70 r) r w') := by
  refine j_metA (rv := (fun r B => jrr B 70 r)) (PB := (fun r _ B9 => B9.2.1 70 r ∧ B9.2.2 70 r)) (by decide) (Nat.le_of_ble_eq_true rfl) (fun x hx hnm => ?_) h
  unfold f_J6_copyOfRangeByte
  refine J.sub (lv' := [(0, .ref (B.1 70 i0)), (1, .int p1), (2, .int p2)]) [0, 1, 2] rfl ?_
  refine J.iload_n hx dJ6_copyOfRangeByte_0 rfl 1 rfl ?_
  refine J.iload_n hx dJ6_copyOfRangeByte_1 rfl 2 rfl ?_
  refine J.callv hx (fun r z1 z => j_callS hx (mt_J6_checkLength z) (lw_S q687 q688 q137 q689) hd_J6_checkLength.2 rfl ⟨Nat.le_of_ble_eq_true rfl, Nat.le_of_ble_eq_true rfl⟩ (Nat.le_of_ble_eq_true rfl) dJ6_copyOfRangeByte_2) ⟨⟨rfl, rfl⟩, (Nat.le_of_ble_eq_true rfl), (Nat.le_of_ble_eq_true rfl)⟩ fun _ w2 e3 => ?_
  refine J.iload_n hx dJ6_copyOfRangeByte_5 rfl 2 rfl ?_
  refine J.iload_n hx dJ6_copyOfRangeByte_6 rfl 1 rfl ?_
  refine J.isub hx dJ6_copyOfRangeByte_7 ?_
  refine J.nmi fun v4 => ?_
  refine J.istore_n (lv' := [(3, .int v4), (0, .ref (B.1 70 i0)), (1, .int p1), (2, .int p2)]) hx dJ6_copyOfRangeByte_8 rfl (by decide) rfl ?_
  refine J.iload_n hx dJ6_copyOfRangeByte_9 rfl 0 rfl ?_
  refine J.nmx fun n5 e6 => ?_
  refine J.fact (P := ¬ B.2.1 70 n5) (fun H hR z => by have h9 := hR.2.2.2.2.2.2.2.2.2 _ _ z; simp only [jcnt] at h9; simp at h9; omega) fun h9 => ?_
  refine J.bumpe fun w7 e8 => ?_
  refine J.fact (P := ¬ B.2.2 70 n5) (fun H hR z => h9 (hR.2.2.2.2.2.2.2.2.1 _ _ z)) fun h10 => ?_
  refine J.newD hx 600 (i := n5) (by decide) h9 h10 (by rw [e8, e6]; simp [jcnt, jbump, jgn]) q272 ⟨Nat.le_of_ble_eq_true rfl, Nat.le_of_ble_eq_true rfl⟩ dJ6_copyOfRangeByte_10 fun z13 w12 => ?_
  refine J.cv (lv' := [(3, .int v4), (0, .ref ((jbN B 70 n5 z13).1 70 i0)), (1, .int p1), (2, .int p2)]) (st' := [.ref ((jbN B 70 n5 z13).1 70 n5)]) (by first | rfl | (simp only [(jN_ext (q := z13) h9).ad b0]; done) | (simp only [(jN_ext (q := z13) h9).ad b0]; rfl)) (by first | rfl | (simp only [(jN_ext (q := z13) h9).ad b0]; done) | (simp only [(jN_ext (q := z13) h9).ad b0]; rfl)) ?_
  refine J.astore (lv' := [(4, .ref ((jbN B 70 n5 z13).1 70 n5)), (3, .int v4), (0, .ref ((jbN B 70 n5 z13).1 70 i0)), (1, .int p1), (2, .int p2)]) hx dJ6_copyOfRangeByte_12 (by decide) rfl ?_
  refine J.aload_n hx dJ6_copyOfRangeByte_14 rfl 2 rfl ?_
  refine J.iload_n hx dJ6_copyOfRangeByte_15 rfl 3 rfl ?_
  refine J.aload hx dJ6_copyOfRangeByte_16 0 rfl ?_
  refine J.iconst (v := 0) hx dJ6_copyOfRangeByte_18 (by decide) ?_
  refine J.aload_n hx dJ6_copyOfRangeByte_19 rfl 2 rfl ?_
  refine J.alen (κ := 70) (v := Int32.ofNat (jgn w12 70 i0)) hx ⟨by decide, by decide⟩ (by decide) rfl rfl (jN_old b0).1 dJ6_copyOfRangeByte_20 ?_
  refine J.iload_n hx dJ6_copyOfRangeByte_21 rfl 3 rfl ?_
  refine J.isub hx dJ6_copyOfRangeByte_22 ?_
  refine J.iload_n hx dJ6_copyOfRangeByte_23 rfl 1 rfl ?_
  refine J.mmin hx q585 q192 q123 q193 ⟨Nat.le_of_ble_eq_true rfl, Nat.le_of_ble_eq_true rfl⟩ (Nat.le_of_ble_eq_true rfl) (Nat.le_of_ble_eq_true rfl) (Nat.le_of_ble_eq_true rfl) dJ6_copyOfRangeByte_24 ?_
  refine J.acopyb (κ := 70) (κ' := 70) hx rfl rfl rfl rfl rfl (jN_old b0).1 jN_al.1 q586 q588 q587 q138 (Nat.le_of_ble_eq_true rfl) (Nat.le_of_ble_eq_true rfl) (Nat.le_of_ble_eq_true rfl) dJ6_copyOfRangeByte_27 fun w14 => ?_
  refine J.aload hx dJ6_copyOfRangeByte_30 0 rfl ?_
  exact J.aretA (κ := 70) (q := n5) hx (j_ext.rf.tr (jN_ext h9)) jN_al rfl (Or.inr ⟨_, rfl⟩) (Nat.le_of_ble_eq_true rfl) (Nat.le_of_ble_eq_true rfl) dJ6_copyOfRangeByte_32
theorem hd_J6_copyOfRange : yJ6_copyOfRange.cls = RJ6 ∧ yJ6_copyOfRange.cls ≠ "java/lang/invoke/MethodHandle" ∧ yJ6_copyOfRange.cls ≠ "java/lang/invoke/VarHandle" ∧ (parseMethodDescriptor yJ6_copyOfRange.desc).map (fun d => d.parameters.length) = some 3 := by decide +kernel
def f_J6_copyOfRange (i0 : Nat) (p1 : Int32) (p2 : Int32) (w : j_St) : Option (Nat × j_St) := jlt (fun (w10 : j_St) => jcb (f_J6_copyOfRangeByte i0 p1 p2 w10) fun v13 w14 => some (v13, w14)) fun K10 => if p1 = 0 then if p2 = Int32.ofNat (jgn w 70 i0) then jlt (jgn w 170 0) fun n1 => jlt (jbump w 70) fun w3 => if jgn w3 70 i0 ≤ 600 ∧ jbyt w3 70 i0 0 (jgn w3 70 i0) = true then jlt (jcp (jnw w3 70 n1 (jgn w3 70 i0)) 70 i0 0 70 n1 0 (jgn w3 70 i0)) fun w8 => some (n1, w8) else none else K10 w else K10 w
abbrev rm_J6_copyOfRange : Room := { frames := 2, cells := 1, slots := 600, locals := 84 }
set_option maxRecDepth 100000 in
set_option maxHeartbeats 4000000 in
theorem mt_J6_copyOfRange {g : j_G} {B : j_B} {i0 : Nat} {p1 : Int32} {p2 : Int32} {w w' : j_St} (b0 : B.2.1 70 i0 ∧ B.2.2 70 i0)  {r : Nat} (h : f_J6_copyOfRange i0 p1 p2 w = some (r, w')) : j_MA g yJ6_copyOfRange cJ6_copyOfRange 3 (some (FieldType.array FieldType.byte)) rm_J6_copyOfRange B [.ref (B.1 70 i0), .int p1, .int p2] w w' ((fun r B => jrr B 70 r) r) ((fun r _ B9 => B9.2.1 70 r ∧ B9.2.2 70 r) r w') := by
  refine j_metA (rv := (fun r B => jrr B 70 r)) (PB := (fun r _ B9 => B9.2.1 70 r ∧ B9.2.2 70 r)) (by decide) (Nat.le_of_ble_eq_true rfl) (fun x hx hnm => ?_) h
  unfold f_J6_copyOfRange
  refine J.sub (lv' := [(0, .ref (B.1 70 i0)), (1, .int p1), (2, .int p2)]) [0, 1, 2] rfl ?_
  refine J.iload_n hx dJ6_copyOfRange_0 rfl 1 rfl ?_
  refine J.fn (fun (K10 : j_St → Option (Nat × j_St)) => ∀  (B11 : j_B) (x12 : j_ext B B11) (w10 : j_St), J g x 3 B11 (j_QA g x B rm_J6_copyOfRange (fun r B => jrr B 70 r) (fun r _ B9 => B9.2.1 70 r ∧ B9.2.2 70 r)) 0 0 (K10 w10) 10 [(0, .ref (B11.1 70 i0)), (1, .int p1), (2, .int p2)] [] w10) ?_ ?_
  · intro B11 x12 w10
    refine J.aload_n hx dJ6_copyOfRange_10 rfl 0 rfl ?_
    refine J.iload_n hx dJ6_copyOfRange_11 rfl 1 rfl ?_
    refine J.iload_n hx dJ6_copyOfRange_12 rfl 2 rfl ?_
    refine J.callAr (κ := 70) hx (fun r z1 z => j_callA_of (j_runS hx (mt_J6_copyOfRangeByte (x12.mv b0) z) (lw_S q684 q685 q137 q686) hd_J6_copyOfRangeByte.2 rfl ⟨Nat.le_of_ble_eq_true rfl, Nat.le_of_ble_eq_true rfl⟩ (Nat.le_of_ble_eq_true rfl) dJ6_copyOfRange_13)) ⟨Nat.le_of_ble_eq_true rfl, Nat.le_of_ble_eq_true rfl⟩ fun v13 w14 B16 e15 x17 x18 => ?_
    refine J.cv (lv' := [(0, .ref (B16.1 70 i0)), (1, .int p1), (2, .int p2)]) (st' := [.ref (B16.1 70 v13)]) (by first | rfl | (simp only [x17.ad (x12.mv b0)]; done) | (simp only [x17.ad (x12.mv b0)]; rfl)) (by first | rfl | (simp only [x17.ad (x12.mv b0)]; done) | (simp only [x17.ad (x12.mv b0)]; rfl)) ?_
    exact J.aretA (κ := 70) (q := v13) hx ((j_ext.rf.tr x12).tr x17) x18 rfl (Or.inr ⟨_, rfl⟩) (Nat.le_of_ble_eq_true rfl) (Nat.le_of_ble_eq_true rfl) dJ6_copyOfRange_16
  · intro K10 hK10
    refine J.if_ne (tgt := 10) hx dJ6_copyOfRange_1 (by decide) ?_ ?_
    · refine J.iload_n hx dJ6_copyOfRange_4 rfl 2 rfl ?_
      refine J.aload_n hx dJ6_copyOfRange_5 rfl 0 rfl ?_
      refine J.alen (κ := 70) (v := Int32.ofNat (jgn w 70 i0)) hx ⟨by decide, by decide⟩ (by decide) rfl rfl b0.1 dJ6_copyOfRange_6 ?_
      refine J.icmp_eq (tgt := 17) hx dJ6_copyOfRange_7 (by decide) ?_ ?_
      · refine J.aload_n hx dJ6_copyOfRange_17 rfl 0 rfl ?_
        refine J.nmx fun n1 e2 => ?_
        refine J.fact (P := ¬ B.2.1 70 n1) (fun H hR z => by have h9 := hR.2.2.2.2.2.2.2.2.2 _ _ z; simp only [jcnt] at h9; simp at h9; omega) fun h5 => ?_
        refine J.bumpe fun w3 e4 => ?_
        refine J.fact (P := ¬ B.2.2 70 n1) (fun H hR z => h5 (hR.2.2.2.2.2.2.2.2.1 _ _ z)) fun h6 => ?_
        refine J.clone hx 600 (ix := n1) b0.1 h5 h6 (by rw [e4, e2]; simp [jcnt, jbump, jgn]) q578 q579 q580 q581 q582 (j_nl q583 rfl) ⟨Nat.le_of_ble_eq_true rfl, Nat.le_of_ble_eq_true rfl⟩ (Nat.le_of_ble_eq_true rfl) ⟨Nat.le_of_ble_eq_true rfl, Nat.le_of_ble_eq_true rfl⟩ dJ6_copyOfRange_18 fun z9 w8 => ?_
        refine J.castB (κ := 70) hx rfl jN_al.1 q584 dJ6_copyOfRange_21 ?_
        exact J.aretA (κ := 70) (q := n1) hx (j_ext.rf.tr (jN_ext h5)) jN_al rfl (Or.inr ⟨_, rfl⟩) (Nat.le_of_ble_eq_true rfl) (Nat.le_of_ble_eq_true rfl) dJ6_copyOfRange_24
      · exact J.sub [0, 1, 2] rfl (hK10 B j_ext.rf w)
    · exact J.sub [0, 1, 2] rfl (hK10 B j_ext.rf w)
theorem hd_J3_init_2 : yJ3_init_2.cls = RJ3 ∧ yJ3_init_2.cls ≠ "java/lang/invoke/MethodHandle" ∧ yJ3_init_2.cls ≠ "java/lang/invoke/VarHandle" ∧ (parseMethodDescriptor yJ3_init_2.desc).map (fun d => d.parameters.length) = some 2 := by decide +kernel
def f_J3_init_2 (i0 : Nat) (i1 : Nat) (q2 : Option Nat) (w : j_St) : Option (Unit × j_St) := jcb (f_J1_getValue i1 w) fun v1 w2 => jcb (f_J2_length i1 w2) fun v6 w7 => jcb (f_J1_isLatin1 i1 w7) fun v9 w10 => if v9 = 0 then none else jlt (jsi w10 15 i0 1 0) fun w12 => job v1 fun y13 => jcb (f_J6_copyOfRange y13 0 v6 w12) fun v15 w16 => jlt (jsr w16 15 i0 0 (some v15)) fun w21 => some ((), w21)
abbrev rm_J3_init_2 : Room := { frames := 3, cells := 1, slots := 600, locals := 106 }
set_option maxRecDepth 100000 in
set_option maxHeartbeats 4000000 in
theorem mt_J3_init_2 {g : j_G} {B : j_B} {i0 : Nat} {i1 : Nat} {q2 : Option Nat} {w w' : j_St} (a0 : B.2.1 15 i0 ∧ True) (b1 : B.2.1 16 i1 ∧ B.2.2 16 i1) (b2 : ∀ q, q2 = some q → B.2.1 18 q ∧ B.2.2 18 q)  {r : Unit} (h : f_J3_init_2 i0 i1 q2 w = some (r, w')) : j_MA g yJ3_init_2 cJ3_init_2 5 none rm_J3_init_2 B [.ref (B.1 15 i0), .ref (B.1 16 i1), va_re (B.1 18) q2] w w' ((fun _ _ => none) r) ((fun _ _ _ => True) r w') := by
  refine j_metA (rv := (fun _ _ => none)) (PB := (fun _ _ _ => True)) (by decide) (by simp [lg_sl, va_re_cat, jct_i, jct_l, jct_r, jct_n]) (fun x hx hnm => ?_) h
  unfold f_J3_init_2
  rw [show lv_args 0 [.ref (B.1 15 i0), .ref (B.1 16 i1), va_re (B.1 18) q2] = [(0, .ref (B.1 15 i0)), (1, .ref (B.1 16 i1)), (2, va_re (B.1 18) q2)] from by simp [lv_args, va_re_cat, jct_i, jct_l, jct_r, jct_n]]
  refine J.sub (lv' := [(0, .ref (B.1 15 i0)), (1, .ref (B.1 16 i1)), (2, va_re (B.1 18) q2)]) [0, 1, 2] rfl ?_
  refine J.aload_n hx dJ3_init_2_0 rfl 0 rfl ?_
  refine J.objInit hx q666 q170 q171 ⟨Nat.le_of_ble_eq_true rfl, Nat.le_of_ble_eq_true rfl⟩ (Nat.le_of_ble_eq_true rfl) dJ3_init_2_1 ?_
  refine J.aload_n hx dJ3_init_2_4 rfl 1 rfl ?_
  refine J.callq hx (fun r z1 z => j_callU (κ := 16) (owner := "java/lang/AbstractStringBuilder") (z := ⟨"java/lang/AbstractStringBuilder", "getValue", "()[B"⟩) hx rfl rfl b1.1 (mt_J1_getValue b1 z) (j_wU q667 q669 q670 q668 q132 q671) rfl hd_J1_getValue.2 rfl ⟨Nat.le_of_ble_eq_true rfl, Nat.le_of_ble_eq_true rfl⟩ (Nat.le_of_ble_eq_true rfl) dJ3_init_2_5) ⟨⟨rfl, rfl⟩, (Nat.le_of_ble_eq_true rfl), (Nat.le_of_ble_eq_true rfl)⟩ fun v1 w2 e3 => ?_
  refine J.fact (mq_J1_getValue b1 e3) fun h5 => ?_
  refine J.astore_nq (lv' := [(3, va_re (B.1 70) v1), (0, .ref (B.1 15 i0)), (1, .ref (B.1 16 i1)), (2, va_re (B.1 18) q2)]) hx dJ3_init_2_8 rfl (by decide) (by first | (simp [va_re_cat, jct_i, jct_l, jct_r, jct_n]; done) | (simp [va_re_cat, jct_i, jct_l, jct_r, jct_n]; decide)) ?_
  refine J.aload_n hx dJ3_init_2_9 rfl 2 rfl ?_
  refine J.calli hx (fun r z1 z => j_callO (κ := 16) (owner := "java/lang/AbstractStringBuilder") (z := ⟨"java/lang/AbstractStringBuilder", "length", "()I"⟩) hx rfl rfl b1.1 (mt_J2_length b1 z) (j_wO q672 q674 q673 q675 q676 q133 q677) q679 (by decide +kernel) rfl ⟨Nat.le_of_ble_eq_true rfl, Nat.le_of_ble_eq_true rfl⟩ (Nat.le_of_ble_eq_true rfl) dJ3_init_2_10) ⟨⟨rfl, rfl⟩, (Nat.le_of_ble_eq_true rfl), (Nat.le_of_ble_eq_true rfl)⟩ fun v6 w7 e8 => ?_
  refine J.istore (lv' := [(4, .int v6), (3, va_re (B.1 70) v1), (0, .ref (B.1 15 i0)), (1, .ref (B.1 16 i1)), (2, va_re (B.1 18) q2)]) hx dJ3_init_2_13 (by decide) (by simp [va_re_cat, jct_i, jct_l, jct_r, jct_n]) ?_
  refine J.aload_n hx dJ3_init_2_15 rfl 3 rfl ?_
  refine J.calli hx (fun r z1 z => j_callU (κ := 16) (owner := "java/lang/AbstractStringBuilder") (z := ⟨"java/lang/AbstractStringBuilder", "isLatin1", "()Z"⟩) hx rfl rfl b1.1 (mt_J1_isLatin1 b1 z) (j_wU q680 q591 q592 q590 q132 q593) rfl hd_J1_isLatin1.2 rfl ⟨Nat.le_of_ble_eq_true rfl, Nat.le_of_ble_eq_true rfl⟩ (Nat.le_of_ble_eq_true rfl) dJ3_init_2_16) ⟨⟨rfl, rfl⟩, (Nat.le_of_ble_eq_true rfl), (Nat.le_of_ble_eq_true rfl)⟩ fun v9 w10 e11 => ?_
  refine J.if_eq (tgt := 41) hx dJ3_init_2_19 (by decide) ?_ ?_
  · exact J.nne
  · refine J.aload_n hx dJ3_init_2_22 rfl 2 rfl ?_
    refine J.iconst (v := 0) hx dJ3_init_2_23 (by decide) ?_
    refine J.putFi (κ := 15) (k := 1) hx hnm rfl rfl rfl in_J3 tyJ3_ok nmJ3 (by decide) q705 rfl rfl rfl a0.1 ⟨rfl, rfl⟩ dJ3_init_2_24 fun w12 => ?_
    refine J.aload_n hx dJ3_init_2_27 rfl 2 rfl ?_
    refine J.aload_nq hx dJ3_init_2_28 rfl 1 rfl ?_
    refine J.iconst (v := 0) hx dJ3_init_2_29 (by decide) ?_
    refine J.iload hx dJ3_init_2_30 0 rfl ?_
    refine J.obU fun y13 e14 => ?_
    subst e14
    refine J.callAr (κ := 70) hx (fun r z1 z => j_callA_of (j_runS hx (mt_J6_copyOfRange (h5 y13 rfl) z) (lw_S q681 q682 q137 q683) hd_J6_copyOfRange.2 rfl ⟨Nat.le_of_ble_eq_true rfl, Nat.le_of_ble_eq_true rfl⟩ (Nat.le_of_ble_eq_true rfl) dJ3_init_2_32)) ⟨Nat.le_of_ble_eq_true rfl, Nat.le_of_ble_eq_true rfl⟩ fun v15 w16 B18 e17 x19 x20 => ?_
    refine J.cv (lv' := [(4, .int v6), (3, .ref (B18.1 70 y13)), (0, .ref (B18.1 15 i0)), (1, .ref (B18.1 16 i1)), (2, va_re (B18.1 18) q2)]) (st' := [.ref (B18.1 70 v15), .ref (B18.1 15 i0)]) (by first | rfl | (simp only [x19.ad (h5 y13 rfl), x19.adh a0, x19.ad b1, x19.re b2]; done) | (simp only [x19.ad (h5 y13 rfl), x19.adh a0, x19.ad b1, x19.re b2]; rfl)) (by first | rfl | (simp only [x19.ad (h5 y13 rfl), x19.adh a0, x19.ad b1, x19.re b2]; done) | (simp only [x19.ad (h5 y13 rfl), x19.adh a0, x19.ad b1, x19.re b2]; rfl)) ?_
    refine J.putFq (κ' := 70) (v := (some v15)) (κ := 15) (k := 0) hx hnm rfl rfl rfl rfl in_J3 tyJ3_ok nmJ3 (by decide) q704 rfl rfl rfl (x19.mvh a0).1 (fun _ => ⟨rfl, rfl, rfl, rfl⟩) (j_sm x20) dJ3_init_2_35 fun w21 => ?_
    refine J.goto (tgt := 97) hx dJ3_init_2_38 (by decide) ?_
    exact J.vretA hx (j_ext.rf.tr x19) trivial rfl (Nat.le_of_ble_eq_true rfl) (Nat.le_of_ble_eq_true rfl) dJ3_init_2_97
theorem hd_J3_init : yJ3_init.cls = RJ3 ∧ yJ3_init.cls ≠ "java/lang/invoke/MethodHandle" ∧ yJ3_init.cls ≠ "java/lang/invoke/VarHandle" ∧ (parseMethodDescriptor yJ3_init.desc).map (fun d => d.parameters.length) = some 1 := by decide +kernel
def f_J3_init (i0 : Nat) (i1 : Nat) (w : j_St) : Option (Unit × j_St) := jcb (f_J3_init_2 i0 i1 none w) fun _ w2 => some ((), w2)
abbrev rm_J3_init : Room := { frames := 4, cells := 1, slots := 600, locals := 130 }
set_option maxRecDepth 100000 in
set_option maxHeartbeats 4000000 in
theorem mt_J3_init {g : j_G} {B : j_B} {i0 : Nat} {i1 : Nat} {w w' : j_St} (a0 : B.2.1 15 i0 ∧ True) (b1 : B.2.1 16 i1 ∧ B.2.2 16 i1)  {r : Unit} (h : f_J3_init i0 i1 w = some (r, w')) : j_MA g yJ3_init cJ3_init 2 none rm_J3_init B [.ref (B.1 15 i0), .ref (B.1 16 i1)] w w' ((fun _ _ => none) r) ((fun _ _ _ => True) r w') := by
  refine j_metA (rv := (fun _ _ => none)) (PB := (fun _ _ _ => True)) (by decide) (Nat.le_of_ble_eq_true rfl) (fun x hx hnm => ?_) h
  unfold f_J3_init
  refine J.sub (lv' := [(0, .ref (B.1 15 i0)), (1, .ref (B.1 16 i1))]) [0, 1] rfl ?_
  refine J.aload_n hx dJ3_init_0 rfl 0 rfl ?_
  refine J.aload_n hx dJ3_init_1 rfl 1 rfl ?_
  refine J.null (ad := fun _ => 0) hx dJ3_init_2 ?_
  refine J.callAv hx (fun r z1 z => j_callA_of (j_runI (κ := 15) hx (mt_J3_init_2 a0 b1 j_nn z) (lw_meth q665) q663 q664 q134 rfl hd_J3_init_2.2 rfl ⟨Nat.le_of_ble_eq_true rfl, Nat.le_of_ble_eq_true rfl⟩ (Nat.le_of_ble_eq_true rfl) dJ3_init_3)) ⟨Nat.le_of_ble_eq_true rfl, Nat.le_of_ble_eq_true rfl⟩ fun _ w2 B4 e3 x5 x6 => ?_
  refine J.cv (lv' := [(0, .ref (B4.1 15 i0)), (1, .ref (B4.1 16 i1))]) (st' := []) (by first | rfl | (simp only [x5.adh a0, x5.ad b1]; done) | (simp only [x5.adh a0, x5.ad b1]; rfl)) (by first | rfl | (simp only [x5.adh a0, x5.ad b1]; done) | (simp only [x5.adh a0, x5.ad b1]; rfl)) ?_
  exact J.vretA hx (j_ext.rf.tr x5) trivial rfl (Nat.le_of_ble_eq_true rfl) (Nat.le_of_ble_eq_true rfl) dJ3_init_6
theorem hd_J2_toString : yJ2_toString.cls = RJ2 ∧ yJ2_toString.cls ≠ "java/lang/invoke/MethodHandle" ∧ yJ2_toString.cls ≠ "java/lang/invoke/VarHandle" ∧ (parseMethodDescriptor yJ2_toString.desc).map (fun d => d.parameters.length) = some 0 := by decide +kernel
def f_J2_toString (i0 : Nat) (w : j_St) : Option (Nat × j_St) := jlt (jgn w 115 0) fun n1 => jlt (jbump w 15) fun w3 => jlt (jnw w3 15 n1 0) fun w8 => jcb (f_J3_init n1 i0 w8) fun _ w11 => some (n1, w11)
abbrev rm_J2_toString : Room := { frames := 5, cells := 2, slots := 604, locals := 151 }
set_option maxRecDepth 100000 in
set_option maxHeartbeats 4000000 in
theorem mt_J2_toString {g : j_G} {B : j_B} {i0 : Nat} {w w' : j_St} (a0 : B.2.1 16 i0 ∧ B.2.2 16 i0)  {r : Nat} (h : f_J2_toString i0 w = some (r, w')) : j_MA g yJ2_toString cJ2_toString 1 (some (FieldType.object "java/lang/String")) rm_J2_toString B [.ref (B.1 16 i0)] w w' ((fun r B => jrr B 15 r) r) ((fun r _ B9 => B9.2.1 15 r ∧ B9.2.2 15 r) r w') := by
  refine j_metA (rv := (fun r B => jrr B 15 r)) (PB := (fun r _ B9 => B9.2.1 15 r ∧ B9.2.2 15 r)) (by decide) (Nat.le_of_ble_eq_true rfl) (fun x hx hnm => ?_) h
  unfold f_J2_toString
  refine J.sub (lv' := [(0, .ref (B.1 16 i0))]) [0] rfl ?_
  refine J.nmx fun n1 e2 => ?_
  refine J.fact (P := ¬ B.2.1 15 n1) (fun H hR z => by have h9 := hR.2.2.2.2.2.2.2.2.2 _ _ z; simp only [jcnt] at h9; simp at h9; omega) fun h5 => ?_
  refine J.bumpe fun w3 e4 => ?_
  refine J.fact (P := ¬ B.2.2 15 n1) (fun H hR z => h5 (hR.2.2.2.2.2.2.2.2.1 _ _ z)) fun h6 => ?_
  refine J.newB (κ := 15) (i := n1) hx rfl rfl in_J3 tyJ3_ok (by decide +kernel) (by decide) h5 h6 (by rw [e4, e2]; simp [jcnt, jbump, jgn]) jn3_15 q658 q659 q134 ⟨Nat.le_of_ble_eq_true rfl, Nat.le_of_ble_eq_true rfl⟩ dJ2_toString_0 fun z9 w8 => ?_
  refine J.dup hx dJ2_toString_3 rfl ?_
  refine J.aload_n hx dJ2_toString_4 rfl 0 rfl ?_
  refine J.callAv hx (fun r z1 z => j_callA_of (j_runI (κ := 15) hx (mt_J3_init (j_hf2 jN_al) (jN_old a0) z) (lw_meth q662) q660 q661 q134 rfl hd_J3_init.2 rfl ⟨Nat.le_of_ble_eq_true rfl, Nat.le_of_ble_eq_true rfl⟩ (Nat.le_of_ble_eq_true rfl) dJ2_toString_5)) ⟨Nat.le_of_ble_eq_true rfl, Nat.le_of_ble_eq_true rfl⟩ fun _ w11 B13 e12 x14 x15 => ?_
  refine J.cv (lv' := [(0, .ref (B13.1 16 i0))]) (st' := [.ref (B13.1 15 n1)]) (by first | rfl | (simp only [x14.ad (jN_old a0), x14.ad jN_al]; done) | (simp only [x14.ad (jN_old a0), x14.ad jN_al]; rfl)) (by first | rfl | (simp only [x14.ad (jN_old a0), x14.ad jN_al]; done) | (simp only [x14.ad (jN_old a0), x14.ad jN_al]; rfl)) ?_
  exact J.aretA (κ := 15) (q := n1) hx ((j_ext.rf.tr (jN_ext h5)).tr x14) (x14.mv jN_al) rfl (Or.inl ⟨_, rfl⟩) (Nat.le_of_ble_eq_true rfl) (Nat.le_of_ble_eq_true rfl) dJ2_toString_8
theorem hd_J3_isLatin1 : yJ3_isLatin1.cls = RJ3 ∧ yJ3_isLatin1.cls ≠ "java/lang/invoke/MethodHandle" ∧ yJ3_isLatin1.cls ≠ "java/lang/invoke/VarHandle" ∧ (parseMethodDescriptor yJ3_isLatin1.desc).map (fun d => d.parameters.length) = some 0 := by decide +kernel
def f_J3_isLatin1 (i0 : Nat) (w : j_St) : Option (Int32 × j_St) := if (1 : Int32) = 0 then some (0, w) else jlt (jgi w 15 i0 1) fun v1 => if v1 = 0 then some (1, w) else some (0, w)
abbrev rm_J3_isLatin1 : Room := { frames := 0, cells := 0, slots := 0, locals := 0 }
set_option maxRecDepth 100000 in
set_option maxHeartbeats 4000000 in
theorem mt_J3_isLatin1 {g : j_G} {B : j_B} {i0 : Nat} {w w' : j_St} (a0 : B.2.1 15 i0 ∧ B.2.2 15 i0) {r : Int32} (h : f_J3_isLatin1 i0 w = some (r, w')) : j_M g yJ3_isLatin1 cJ3_isLatin1 1 (some FieldType.boolean) rm_J3_isLatin1 B [.ref (B.1 15 i0)] w w' (jri r) := by
  refine j_met (rv := jri) (by decide) (Nat.le_of_ble_eq_true rfl) (fun x hx => ?_) h
  unfold f_J3_isLatin1
  refine J.sub (lv' := [(0, .ref (B.1 15 i0))]) [0] rfl ?_
  refine J.gets (t := 13) (v := .int 1) hx rfl q690 dJ3_isLatin1_0 ?_
  refine J.if_eq (tgt := 17) hx dJ3_isLatin1_3 (by decide) ?_ ?_
  · refine J.iconst (v := 0) hx dJ3_isLatin1_17 (by decide) ?_
    exact J.zret hx rfl rfl (Nat.le_of_ble_eq_true rfl) (Nat.le_of_ble_eq_true rfl) dJ3_isLatin1_18
  · refine J.aload_n hx dJ3_isLatin1_6 rfl 0 rfl ?_
    refine J.geti (κ := 15) (k := 1) hx rfl rfl rfl in_J3 (by decide) (Or.inl q705) a0.1 dJ3_isLatin1_7 fun v1 => ?_
    refine J.if_ne (tgt := 17) hx dJ3_isLatin1_10 (by decide) ?_ ?_
    · refine J.iconst (v := 1) hx dJ3_isLatin1_13 (by decide) ?_
      refine J.goto (tgt := 18) hx dJ3_isLatin1_14 (by decide) ?_
      exact J.zret hx rfl rfl (Nat.le_of_ble_eq_true rfl) (Nat.le_of_ble_eq_true rfl) dJ3_isLatin1_18
    · refine J.iconst (v := 0) hx dJ3_isLatin1_17 (by decide) ?_
      exact J.zret hx rfl rfl (Nat.le_of_ble_eq_true rfl) (Nat.le_of_ble_eq_true rfl) dJ3_isLatin1_18
theorem hd_J5_signedHashCode : yJ5_signedHashCode.cls = RJ5 ∧ yJ5_signedHashCode.cls ≠ "java/lang/invoke/MethodHandle" ∧ yJ5_signedHashCode.cls ≠ "java/lang/invoke/VarHandle" ∧ (parseMethodDescriptor yJ5_signedHashCode.desc).map (fun d => d.parameters.length) = some 4 := by decide +kernel
def f_J5_signedHashCode_L8 (i1 : Nat) (v1 : Int32)  : Nat → Int32 → Int32 → j_St → Option (Int32 × j_St)
  | 0, _, _, _ => none
  | n8 + 1, v2, v3, w4 => if v1 ≤ v3 then some (v2, w4) else jbd v3 (jgn w4 70 i1) fun a5 => jlt (jgi w4 70 i1 a5) fun v6 => jlt ((31 * v2) + (v6 &&& 255)) fun v7 => jlt (v3 + 1) fun v8 => f_J5_signedHashCode_L8 i1 v1 n8 v7 v8 w4
def f_J5_signedHashCode (p0 : Int32) (i1 : Nat) (p2 : Int32) (p3 : Int32) (w : j_St) : Option (Int32 × j_St) := jlt (p2 + p3) fun v1 => f_J5_signedHashCode_L8 i1 v1 jFU p0 p2 w
abbrev rm_J5_signedHashCode : Room := { frames := 0, cells := 0, slots := 0, locals := 0 }
set_option maxRecDepth 100000 in
set_option maxHeartbeats 4000000 in
theorem mt_J5_signedHashCode {g : j_G} {B : j_B} {p0 : Int32} {i1 : Nat} {p2 : Int32} {p3 : Int32} {w w' : j_St} (b1 : B.2.1 70 i1 ∧ B.2.2 70 i1) {r : Int32} (h : f_J5_signedHashCode p0 i1 p2 p3 w = some (r, w')) : j_M g yJ5_signedHashCode cJ5_signedHashCode 6 (some FieldType.int) rm_J5_signedHashCode B [.int p0, .ref (B.1 70 i1), .int p2, .int p3] w w' (jri r) := by
  refine j_met (rv := jri) (by decide) (Nat.le_of_ble_eq_true rfl) (fun x hx => ?_) h
  unfold f_J5_signedHashCode
  refine J.sub (lv' := [(0, .int p0), (1, .ref (B.1 70 i1)), (2, .int p2), (3, .int p3)]) [0, 1, 2, 3] rfl ?_
  refine J.iload_n hx dJ5_signedHashCode_0 rfl 2 rfl ?_
  refine J.iload_n hx dJ5_signedHashCode_1 rfl 3 rfl ?_
  refine J.iadd hx dJ5_signedHashCode_2 ?_
  refine J.nmi fun v1 => ?_
  refine J.istore (lv' := [(4, .int v1), (0, .int p0), (1, .ref (B.1 70 i1)), (2, .int p2), (3, .int p3)]) hx dJ5_signedHashCode_3 (by decide) rfl ?_
  refine J.iload_n hx dJ5_signedHashCode_5 rfl 3 rfl ?_
  refine J.istore (lv' := [(5, .int p2), (4, .int v1), (0, .int p0), (1, .ref (B.1 70 i1)), (2, .int p2), (3, .int p3)]) hx dJ5_signedHashCode_6 (by decide) rfl ?_
  have hL8 : ∀ (n8 : Nat) (v2 : Int32) (v3 : Int32) (w4 : j_St), J g x 6 B (j_Q g x B rm_J5_signedHashCode jri) 0 0 (f_J5_signedHashCode_L8 i1 v1 n8 v2 v3 w4) 8 [(0, .int v2), (1, .ref (B.1 70 i1)), (4, .int v1), (5, .int v3)] [] w4 := by
    intro n8
    induction n8 with
    | zero =>
      intro v2 v3 w4
      rw [f_J5_signedHashCode_L8]
      exact J.nne
    | succ n8 ih =>
      intro v2 v3 w4
      rw [f_J5_signedHashCode_L8]
      refine J.iload hx dJ5_signedHashCode_8 3 rfl ?_
      refine J.iload hx dJ5_signedHashCode_10 2 rfl ?_
      refine J.icmp_ge (tgt := 35) hx dJ5_signedHashCode_12 (by decide) ?_ ?_
      · refine J.iload_n hx dJ5_signedHashCode_35 rfl 0 rfl ?_
        exact J.iret hx rfl (Nat.le_of_ble_eq_true rfl) (Nat.le_of_ble_eq_true rfl) dJ5_signedHashCode_36
      · refine J.bipush (v := 31) hx dJ5_signedHashCode_15 (by decide) ?_
        refine J.iload_n hx dJ5_signedHashCode_17 rfl 0 rfl ?_
        refine J.imul hx dJ5_signedHashCode_18 ?_
        refine J.aload_n hx dJ5_signedHashCode_19 rfl 1 rfl ?_
        refine J.iload hx dJ5_signedHashCode_20 3 rfl ?_
        refine J.bald (κ := 70) hx rfl rfl b1.1 dJ5_signedHashCode_22 fun v6 => ?_
        refine J.sipush (v := 255) hx dJ5_signedHashCode_23 (by decide) ?_
        refine J.iand hx dJ5_signedHashCode_26 ?_
        refine J.iadd hx dJ5_signedHashCode_27 ?_
        refine J.nmi fun v7 => ?_
        refine J.istore_n (lv' := [(0, .int v7), (1, .ref (B.1 70 i1)), (4, .int v1), (5, .int v3)]) hx dJ5_signedHashCode_28 rfl (by decide) rfl ?_
        refine J.nmx fun v8 ev8 => ?_
        refine J.iinc (p := 3) (v := v8) (lv' := [(5, .int v8), (0, .int v7), (1, .ref (B.1 70 i1)), (4, .int v1)]) hx dJ5_signedHashCode_29 rfl (by rw [ev8]; rfl) (by decide) rfl ?_
        refine J.goto (tgt := 8) hx dJ5_signedHashCode_32 (by decide) ?_
        exact J.sub [1, 2, 3, 0] rfl (ih v7 v8 w4)
  refine J.sub [2, 3, 1, 0] rfl (hL8 jFU p0 p2 w)
theorem hd_J5_vectorizedHashCode : yJ5_vectorizedHashCode.cls = RJ5 ∧ yJ5_vectorizedHashCode.cls ≠ "java/lang/invoke/MethodHandle" ∧ yJ5_vectorizedHashCode.cls ≠ "java/lang/invoke/VarHandle" ∧ (parseMethodDescriptor yJ5_vectorizedHashCode.desc).map (fun d => d.parameters.length) = some 5 := by decide +kernel
def f_J5_vectorizedHashCode (i0 : Nat) (p1 : Int32) (p2 : Int32) (p3 : Int32) (p4 : Int32) (w : j_St) : Option (Int32 × j_St) := if p4 = 4 then jcb (f_J5_signedHashCode p3 i0 p1 p2 w) fun v1 w2 => some (v1, w2) else if p4 = 5 then none else if p4 = 8 then none else if p4 = 9 then none else if p4 = 10 then none else none
abbrev rm_J5_vectorizedHashCode : Room := { frames := 1, cells := 0, slots := 0, locals := 25 }
set_option maxRecDepth 100000 in
set_option maxHeartbeats 4000000 in
theorem mt_J5_vectorizedHashCode {g : j_G} {B : j_B} {i0 : Nat} {p1 : Int32} {p2 : Int32} {p3 : Int32} {p4 : Int32} {w w' : j_St} (b0 : B.2.1 70 i0 ∧ B.2.2 70 i0) {r : Int32} (h : f_J5_vectorizedHashCode i0 p1 p2 p3 p4 w = some (r, w')) : j_M g yJ5_vectorizedHashCode cJ5_vectorizedHashCode 5 (some FieldType.int) rm_J5_vectorizedHashCode B [.ref (B.1 70 i0), .int p1, .int p2, .int p3, .int p4] w w' (jri r) := by
  refine j_met (rv := jri) (by decide) (Nat.le_of_ble_eq_true rfl) (fun x hx => ?_) h
  unfold f_J5_vectorizedHashCode
  refine J.sub (lv' := [(0, .ref (B.1 70 i0)), (1, .int p1), (2, .int p2), (3, .int p3), (4, .int p4)]) [0, 1, 2, 3, 4] rfl ?_
  refine J.iload hx dJ5_vectorizedHashCode_0 4 rfl ?_
  refine J.ite (fun e4 => ?_) (fun n4 => ?_)
  · refine J.tsw (off := 42) (tgt := 44) hx dJ5_vectorizedHashCode_2 (by rw [e4]; decide) (by rw [e4]; decide) (by rw [e4]; rfl) (by decide) ?_
    refine J.iload_n hx dJ5_vectorizedHashCode_44 rfl 3 rfl ?_
    refine J.aload_n hx dJ5_vectorizedHashCode_45 rfl 0 rfl ?_
    refine J.castB (κ := 70) hx rfl b0.1 q731 dJ5_vectorizedHashCode_46 ?_
    refine J.iload_n hx dJ5_vectorizedHashCode_49 rfl 1 rfl ?_
    refine J.iload_n hx dJ5_vectorizedHashCode_50 rfl 2 rfl ?_
    refine J.calli hx (fun r z1 z => j_callS hx (mt_J5_signedHashCode b0 z) (lw_S q732 q733 q136 q734) hd_J5_signedHashCode.2 rfl ⟨Nat.le_of_ble_eq_true rfl, Nat.le_of_ble_eq_true rfl⟩ (Nat.le_of_ble_eq_true rfl) dJ5_vectorizedHashCode_51) ⟨⟨rfl, rfl⟩, (Nat.le_of_ble_eq_true rfl), (Nat.le_of_ble_eq_true rfl)⟩ fun v1 w2 e3 => ?_
    refine J.goto (tgt := 157) hx dJ5_vectorizedHashCode_54 (by decide) ?_
    exact J.iret hx rfl (Nat.le_of_ble_eq_true rfl) (Nat.le_of_ble_eq_true rfl) dJ5_vectorizedHashCode_157
  · refine J.ite (fun e5 => ?_) (fun n5 => ?_)
    · refine J.tsw (off := 55) (tgt := 57) hx dJ5_vectorizedHashCode_2 (by rw [e5]; decide) (by rw [e5]; decide) (by rw [e5]; rfl) (by decide) ?_
      exact J.nne
    · refine J.ite (fun e8 => ?_) (fun n8 => ?_)
      · refine J.tsw (off := 88) (tgt := 90) hx dJ5_vectorizedHashCode_2 (by rw [e8]; decide) (by rw [e8]; decide) (by rw [e8]; rfl) (by decide) ?_
        exact J.nne
      · refine J.ite (fun e9 => ?_) (fun n9 => ?_)
        · refine J.tsw (off := 101) (tgt := 103) hx dJ5_vectorizedHashCode_2 (by rw [e9]; decide) (by rw [e9]; decide) (by rw [e9]; rfl) (by decide) ?_
          exact J.nne
        · refine J.ite (fun e10 => ?_) (fun n10 => ?_)
          · refine J.tsw (off := 114) (tgt := 116) hx dJ5_vectorizedHashCode_2 (by rw [e10]; decide) (by rw [e10]; decide) (by rw [e10]; rfl) (by decide) ?_
            exact J.nne
          · have z4 := j_neT n4 (a := 4) (by decide)
            have z5 := j_neT n5 (a := 5) (by decide)
            have z8 := j_neT n8 (a := 8) (by decide)
            have z9 := j_neT n9 (a := 9) (by decide)
            have z10 := j_neT n10 (a := 10) (by decide)
            have z9 : p4.toInt < 4 ∨ 10 < p4.toInt ∨ p4.toInt = 6 ∨ p4.toInt = 7 := by omega
            refine J.tswD2 (tgt := 129) hx dJ5_vectorizedHashCode_2 (by
              rcases z9 with q9 | q9 | q9 | q9
              · exact Or.inl (Or.inl q9)
              · exact Or.inl (Or.inr q9)
              · exact Or.inr (by rw [q9]; rfl)
              · exact Or.inr (by rw [q9]; rfl)) (by decide) ?_
            exact J.nne
theorem hd_J7_hashCode : yJ7_hashCode.cls = RJ7 ∧ yJ7_hashCode.cls ≠ "java/lang/invoke/MethodHandle" ∧ yJ7_hashCode.cls ≠ "java/lang/invoke/VarHandle" ∧ (parseMethodDescriptor yJ7_hashCode.desc).map (fun d => d.parameters.length) = some 1 := by decide +kernel
def f_J7_hashCode (i0 : Nat) (w : j_St) : Option (Int32 × j_St) := jlt (Int32.ofNat (jgn w 70 i0)) fun v1 => if v1 = 0 then some (0, w) else if v1 = 1 then jbd 0 (jgn w 70 i0) fun a2 => jlt (jgi w 70 i0 a2) fun v3 => some (v3 &&& 255, w) else jcb (f_J5_vectorizedHashCode i0 0 (Int32.ofNat (jgn w 70 i0)) 0 4 w) fun v4 w5 => some (v4, w5)
abbrev rm_J7_hashCode : Room := { frames := 2, cells := 0, slots := 0, locals := 49 }
set_option maxRecDepth 100000 in
set_option maxHeartbeats 4000000 in
theorem mt_J7_hashCode {g : j_G} {B : j_B} {i0 : Nat} {w w' : j_St} (b0 : B.2.1 70 i0 ∧ B.2.2 70 i0) {r : Int32} (h : f_J7_hashCode i0 w = some (r, w')) : j_M g yJ7_hashCode cJ7_hashCode 1 (some FieldType.int) rm_J7_hashCode B [.ref (B.1 70 i0)] w w' (jri r) := by
  refine j_met (rv := jri) (by decide) (Nat.le_of_ble_eq_true rfl) (fun x hx => ?_) h
  unfold f_J7_hashCode
  refine J.sub (lv' := [(0, .ref (B.1 70 i0))]) [0] rfl ?_
  refine J.aload_n hx dJ7_hashCode_0 rfl 0 rfl ?_
  refine J.alen (κ := 70) (v := Int32.ofNat (jgn w 70 i0)) hx ⟨by decide, by decide⟩ (by decide) rfl rfl b0.1 dJ7_hashCode_1 ?_
  refine J.nmi fun v1 => ?_
  refine J.ite (fun e0 => ?_) (fun n0 => ?_)
  · refine J.lsw (off := 26) (tgt := 28) hx dJ7_hashCode_2 (by decide) (by rw [e0] <;> rfl) (by decide) ?_
    refine J.iconst (v := 0) hx dJ7_hashCode_28 (by decide) ?_
    refine J.goto (tgt := 51) hx dJ7_hashCode_29 (by decide) ?_
    exact J.iret hx rfl (Nat.le_of_ble_eq_true rfl) (Nat.le_of_ble_eq_true rfl) dJ7_hashCode_51
  · refine J.ite (fun e1 => ?_) (fun n1 => ?_)
    · refine J.lsw (off := 30) (tgt := 32) hx dJ7_hashCode_2 (by decide) (by rw [e1] <;> rfl) (by decide) ?_
      refine J.aload_n hx dJ7_hashCode_32 rfl 0 rfl ?_
      refine J.iconst (v := 0) hx dJ7_hashCode_33 (by decide) ?_
      refine J.bald (κ := 70) hx rfl rfl b0.1 dJ7_hashCode_34 fun v3 => ?_
      refine J.sipush (v := 255) hx dJ7_hashCode_35 (by decide) ?_
      refine J.iand hx dJ7_hashCode_38 ?_
      refine J.goto (tgt := 51) hx dJ7_hashCode_39 (by decide) ?_
      exact J.iret hx rfl (Nat.le_of_ble_eq_true rfl) (Nat.le_of_ble_eq_true rfl) dJ7_hashCode_51
    · refine J.lsw (off := 40) (tgt := 42) hx dJ7_hashCode_2 (by decide) ((lv_osw n0 (by decide)).trans ((lv_osw n1 (by decide)).trans rfl)) (by decide) ?_
      refine J.aload_n hx dJ7_hashCode_42 rfl 0 rfl ?_
      refine J.iconst (v := 0) hx dJ7_hashCode_43 (by decide) ?_
      refine J.aload_n hx dJ7_hashCode_44 rfl 0 rfl ?_
      refine J.alen (κ := 70) (v := Int32.ofNat (jgn w 70 i0)) hx ⟨by decide, by decide⟩ (by decide) rfl rfl b0.1 dJ7_hashCode_45 ?_
      refine J.iconst (v := 0) hx dJ7_hashCode_46 (by decide) ?_
      refine J.iconst (v := 4) hx dJ7_hashCode_47 (by decide) ?_
      refine J.calli hx (fun r z1 z => j_callS hx (mt_J5_vectorizedHashCode b0 z) (lw_S q728 q729 q136 q730) hd_J5_vectorizedHashCode.2 rfl ⟨Nat.le_of_ble_eq_true rfl, Nat.le_of_ble_eq_true rfl⟩ (Nat.le_of_ble_eq_true rfl) dJ7_hashCode_48) ⟨⟨rfl, rfl⟩, (Nat.le_of_ble_eq_true rfl), (Nat.le_of_ble_eq_true rfl)⟩ fun v4 w5 e6 => ?_
      exact J.iret hx rfl (Nat.le_of_ble_eq_true rfl) (Nat.le_of_ble_eq_true rfl) dJ7_hashCode_51
theorem hd_J3_hashCode : yJ3_hashCode.cls = RJ3 ∧ yJ3_hashCode.cls ≠ "java/lang/invoke/MethodHandle" ∧ yJ3_hashCode.cls ≠ "java/lang/invoke/VarHandle" ∧ (parseMethodDescriptor yJ3_hashCode.desc).map (fun d => d.parameters.length) = some 0 := by decide +kernel
def f_J3_hashCode (i0 : Nat) (w : j_St) : Option (Int32 × j_St) := jlt (jgi w 15 i0 2) fun v1 => if v1 = 0 then jlt (jgi w 15 i0 3) fun v2 => if v2 = 0 then jcb (f_J3_isLatin1 i0 w) fun v3 w4 => if v3 = 0 then none else jlt (jgr w4 15 i0 0) fun v6 => job v6 fun y8 => jcb (f_J7_hashCode y8 w4) fun v10 w11 => if v10 = 0 then jlt (jsi w11 15 i0 3 1) fun w14 => some (v10, w14) else jlt (jsi w11 15 i0 2 v10) fun w13 => some (v10, w13) else some (v1, w) else some (v1, w)
abbrev rm_J3_hashCode : Room := { frames := 3, cells := 0, slots := 0, locals := 69 }
set_option maxRecDepth 100000 in
set_option maxHeartbeats 4000000 in
theorem mt_J3_hashCode {g : j_G} {B : j_B} {i0 : Nat} {w w' : j_St} (a0 : B.2.1 15 i0 ∧ B.2.2 15 i0) {r : Int32} (h : f_J3_hashCode i0 w = some (r, w')) : j_M g yJ3_hashCode cJ3_hashCode 2 (some FieldType.int) rm_J3_hashCode B [.ref (B.1 15 i0)] w w' (jri r) := by
  refine j_met (rv := jri) (by decide) (Nat.le_of_ble_eq_true rfl) (fun x hx => ?_) h
  unfold f_J3_hashCode
  refine J.sub (lv' := [(0, .ref (B.1 15 i0))]) [0] rfl ?_
  refine J.aload_n hx dJ3_hashCode_0 rfl 0 rfl ?_
  refine J.geti (κ := 15) (k := 2) hx rfl rfl rfl in_J3 (by decide) (Or.inl q706) a0.1 dJ3_hashCode_1 fun v1 => ?_
  refine J.istore_n (lv' := [(1, .int v1), (0, .ref (B.1 15 i0))]) hx dJ3_hashCode_4 rfl (by decide) rfl ?_
  refine J.iload_n hx dJ3_hashCode_5 rfl 0 rfl ?_
  refine J.if_ne (tgt := 58) hx dJ3_hashCode_6 (by decide) ?_ ?_
  · refine J.aload_n hx dJ3_hashCode_9 rfl 1 rfl ?_
    refine J.geti (κ := 15) (k := 3) hx rfl rfl rfl in_J3 (by decide) (Or.inl q707) a0.1 dJ3_hashCode_10 fun v2 => ?_
    refine J.if_ne (tgt := 58) hx dJ3_hashCode_13 (by decide) ?_ ?_
    · refine J.aload_n hx dJ3_hashCode_16 rfl 1 rfl ?_
      refine J.calli hx (fun r z1 z => j_callV (κ := 15) hx rfl rfl a0.1 (mt_J3_isLatin1 a0 z) (lw_V q721 q722 q723 q134 q724) hd_J3_isLatin1 rfl ⟨Nat.le_of_ble_eq_true rfl, Nat.le_of_ble_eq_true rfl⟩ (Nat.le_of_ble_eq_true rfl) dJ3_hashCode_17) ⟨⟨rfl, rfl⟩, (Nat.le_of_ble_eq_true rfl), (Nat.le_of_ble_eq_true rfl)⟩ fun v3 w4 e5 => ?_
      refine J.if_eq (tgt := 33) hx dJ3_hashCode_20 (by decide) ?_ ?_
      · exact J.nne
      · refine J.aload_n hx dJ3_hashCode_23 rfl 1 rfl ?_
        refine J.getr (κ' := 70) (κ := 15) (k := 0) hx rfl rfl rfl rfl in_J3 (by decide) (Or.inl q704) a0.1 dJ3_hashCode_24 fun v6 h7 => ?_
        refine J.obU fun y8 e9 => ?_
        subst e9
        refine J.calli hx (fun r z1 z => j_callS hx (mt_J7_hashCode (h7 y8 rfl) z) (lw_S q725 q726 q139 q727) hd_J7_hashCode.2 rfl ⟨Nat.le_of_ble_eq_true rfl, Nat.le_of_ble_eq_true rfl⟩ (Nat.le_of_ble_eq_true rfl) dJ3_hashCode_27) ⟨⟨rfl, rfl⟩, (Nat.le_of_ble_eq_true rfl), (Nat.le_of_ble_eq_true rfl)⟩ fun v10 w11 e12 => ?_
        refine J.goto (tgt := 40) hx dJ3_hashCode_30 (by decide) ?_
        refine J.istore_n (lv' := [(1, .int v10), (0, .ref (B.1 15 i0))]) hx dJ3_hashCode_40 rfl (by decide) rfl ?_
        refine J.iload_n hx dJ3_hashCode_41 rfl 0 rfl ?_
        refine J.if_ne (tgt := 53) hx dJ3_hashCode_42 (by decide) ?_ ?_
        · refine J.aload_n hx dJ3_hashCode_45 rfl 1 rfl ?_
          refine J.iconst (v := 1) hx dJ3_hashCode_46 (by decide) ?_
          refine J.puti (κ := 15) (k := 3) hx rfl rfl rfl in_J3 tyJ3_ok nmJ3 (by decide) (Or.inl q707) rfl rfl a0.1 ⟨rfl, rfl⟩ dJ3_hashCode_47 fun w14 => ?_
          refine J.goto (tgt := 58) hx dJ3_hashCode_50 (by decide) ?_
          refine J.iload_n hx dJ3_hashCode_58 rfl 0 rfl ?_
          exact J.iret hx rfl (Nat.le_of_ble_eq_true rfl) (Nat.le_of_ble_eq_true rfl) dJ3_hashCode_59
        · refine J.aload_n hx dJ3_hashCode_53 rfl 1 rfl ?_
          refine J.iload_n hx dJ3_hashCode_54 rfl 0 rfl ?_
          refine J.puti (κ := 15) (k := 2) hx rfl rfl rfl in_J3 tyJ3_ok nmJ3 (by decide) (Or.inl q706) rfl rfl a0.1 ⟨rfl, rfl⟩ dJ3_hashCode_55 fun w13 => ?_
          refine J.iload_n hx dJ3_hashCode_58 rfl 0 rfl ?_
          exact J.iret hx rfl (Nat.le_of_ble_eq_true rfl) (Nat.le_of_ble_eq_true rfl) dJ3_hashCode_59
    · refine J.iload_n hx dJ3_hashCode_58 rfl 0 rfl ?_
      exact J.iret hx rfl (Nat.le_of_ble_eq_true rfl) (Nat.le_of_ble_eq_true rfl) dJ3_hashCode_59
  · refine J.iload_n hx dJ3_hashCode_58 rfl 0 rfl ?_
    exact J.iret hx rfl (Nat.le_of_ble_eq_true rfl) (Nat.le_of_ble_eq_true rfl) dJ3_hashCode_59
theorem hd_J3_coder : yJ3_coder.cls = RJ3 ∧ yJ3_coder.cls ≠ "java/lang/invoke/MethodHandle" ∧ yJ3_coder.cls ≠ "java/lang/invoke/VarHandle" ∧ (parseMethodDescriptor yJ3_coder.desc).map (fun d => d.parameters.length) = some 0 := by decide +kernel
def f_J3_coder_k15 (i0 : Nat) (w : j_St) : Option (Int32 × j_St) := if (1 : Int32) = 0 then none else jlt (jgi w 15 i0 1) fun v1 => if v1.toInt8.toInt32 = v1 then some (v1, w) else none
abbrev rm_J3_coder_k15 : Room := { frames := 0, cells := 0, slots := 0, locals := 0 }
set_option maxRecDepth 100000 in
set_option maxHeartbeats 4000000 in
theorem mt_J3_coder_k15 {g : j_G} {B : j_B} {i0 : Nat} {w w' : j_St} (a0 : B.2.1 15 i0 ∧ B.2.2 15 i0) {r : Int32} (h : f_J3_coder_k15 i0 w = some (r, w')) : j_M g yJ3_coder cJ3_coder 1 (some FieldType.byte) rm_J3_coder_k15 B [.ref (B.1 15 i0)] w w' (jri r) := by
  refine j_met (rv := jri) (by decide) (Nat.le_of_ble_eq_true rfl) (fun x hx => ?_) h
  unfold f_J3_coder_k15
  refine J.sub (lv' := [(0, .ref (B.1 15 i0))]) [0] rfl ?_
  refine J.gets (t := 13) (v := .int 1) hx rfl q690 dJ3_coder_0 ?_
  refine J.if_eq (tgt := 13) hx dJ3_coder_3 (by decide) ?_ ?_
  · exact J.nne
  · refine J.aload_n hx dJ3_coder_6 rfl 0 rfl ?_
    refine J.geti (κ := 15) (k := 1) hx rfl rfl rfl in_J3 (by decide) (Or.inl q705) a0.1 dJ3_coder_7 fun v1 => ?_
    refine J.goto (tgt := 14) hx dJ3_coder_10 (by decide) ?_
    exact J.bretc hx rfl (Nat.le_of_ble_eq_true rfl) (Nat.le_of_ble_eq_true rfl) dJ3_coder_14
theorem hd_J3_length : yJ3_length.cls = RJ3 ∧ yJ3_length.cls ≠ "java/lang/invoke/MethodHandle" ∧ yJ3_length.cls ≠ "java/lang/invoke/VarHandle" ∧ (parseMethodDescriptor yJ3_length.desc).map (fun d => d.parameters.length) = some 0 := by decide +kernel
def f_J3_length_k15 (i0 : Nat) (w : j_St) : Option (Int32 × j_St) := jlt (jgr w 15 i0 0) fun v1 => job v1 fun y3 => jcb (f_J3_coder_k15 i0 w) fun v5 w6 => some ((Int32.ofNat (jgn w 70 y3)) >>> (v5 &&& 31), w6)
abbrev rm_J3_length_k15 : Room := { frames := 1, cells := 0, slots := 0, locals := 20 }
set_option maxRecDepth 100000 in
set_option maxHeartbeats 4000000 in
theorem mt_J3_length_k15 {g : j_G} {B : j_B} {i0 : Nat} {w w' : j_St} (a0 : B.2.1 15 i0 ∧ B.2.2 15 i0) {r : Int32} (h : f_J3_length_k15 i0 w = some (r, w')) : j_M g yJ3_length cJ3_length 1 (some FieldType.int) rm_J3_length_k15 B [.ref (B.1 15 i0)] w w' (jri r) := by
  refine j_met (rv := jri) (by decide) (Nat.le_of_ble_eq_true rfl) (fun x hx => ?_) h
  unfold f_J3_length_k15
  refine J.sub (lv' := [(0, .ref (B.1 15 i0))]) [0] rfl ?_
  refine J.aload_n hx dJ3_length_0 rfl 0 rfl ?_
  refine J.getr (κ' := 70) (κ := 15) (k := 0) hx rfl rfl rfl rfl in_J3 (by decide) (Or.inl q704) a0.1 dJ3_length_1 fun v1 h2 => ?_
  refine J.obU fun y3 e4 => ?_
  subst e4
  refine J.alen (κ := 70) (v := Int32.ofNat (jgn w 70 y3)) hx ⟨by decide, by decide⟩ (by decide) rfl rfl (h2 y3 rfl).1 dJ3_length_4 ?_
  refine J.aload_n hx dJ3_length_5 rfl 0 rfl ?_
  refine J.calli hx (fun r z1 z => j_callV (κ := 15) hx rfl rfl a0.1 (mt_J3_coder_k15 a0 z) (lw_V q877 q878 q879 q134 q880) hd_J3_coder rfl ⟨Nat.le_of_ble_eq_true rfl, Nat.le_of_ble_eq_true rfl⟩ (Nat.le_of_ble_eq_true rfl) dJ3_length_6) ⟨⟨rfl, rfl⟩, (Nat.le_of_ble_eq_true rfl), (Nat.le_of_ble_eq_true rfl)⟩ fun v5 w6 e7 => ?_
  refine J.ishr hx dJ3_length_9 ?_
  exact J.iret hx rfl (Nat.le_of_ble_eq_true rfl) (Nat.le_of_ble_eq_true rfl) dJ3_length_10
theorem hd_J3_getBytes : yJ3_getBytes.cls = RJ3 ∧ yJ3_getBytes.cls ≠ "java/lang/invoke/MethodHandle" ∧ yJ3_getBytes.cls ≠ "java/lang/invoke/VarHandle" ∧ (parseMethodDescriptor yJ3_getBytes.desc).map (fun d => d.parameters.length) = some 3 := by decide +kernel
def f_J3_getBytes_k15 (i0 : Nat) (i1 : Nat) (p2 : Int32) (p3 : Int32) (w : j_St) : Option (Unit × j_St) := jcb (f_J3_coder_k15 i0 w) fun v1 w2 => if v1 = p3 then jlt (jgr w2 15 i0 0) fun v4 => jlt (jgr w2 15 i0 0) fun v6 => job v6 fun y8 => job v4 fun y10 => if 0 ≤ (0 : Int32).toInt ∧ 0 ≤ (p2 <<< (p3 &&& 31)).toInt ∧ 0 ≤ (Int32.ofNat (jgn w2 70 y8)).toInt ∧ (0 : Int32).toInt + (Int32.ofNat (jgn w2 70 y8)).toInt ≤ ((jgn w2 70 y10) : Int) ∧ (p2 <<< (p3 &&& 31)).toInt + (Int32.ofNat (jgn w2 70 y8)).toInt ≤ ((jgn w2 70 i1) : Int) ∧ jbyt w2 70 y10 (0 : Int32).toInt.toNat (Int32.ofNat (jgn w2 70 y8)).toInt.toNat = true then jlt (jcp w2 70 y10 (0 : Int32).toInt.toNat 70 i1 (p2 <<< (p3 &&& 31)).toInt.toNat (Int32.ofNat (jgn w2 70 y8)).toInt.toNat) fun w12 => some ((), w12) else none else none
abbrev rm_J3_getBytes_k15 : Room := { frames := 1, cells := 0, slots := 0, locals := 60 }
set_option maxRecDepth 100000 in
set_option maxHeartbeats 4000000 in
theorem mt_J3_getBytes_k15 {g : j_G} {B : j_B} {i0 : Nat} {i1 : Nat} {p2 : Int32} {p3 : Int32} {w w' : j_St} (a0 : B.2.1 15 i0 ∧ B.2.2 15 i0) (b1 : B.2.1 70 i1 ∧ B.2.2 70 i1) {r : Unit} (h : f_J3_getBytes_k15 i0 i1 p2 p3 w = some (r, w')) : j_M g yJ3_getBytes cJ3_getBytes 4 none rm_J3_getBytes_k15 B [.ref (B.1 15 i0), .ref (B.1 70 i1), .int p2, .int p3] w w' (jrv r) := by
  refine j_met (rv := jrv) (by decide) (Nat.le_of_ble_eq_true rfl) (fun x hx => ?_) h
  unfold f_J3_getBytes_k15
  refine J.sub (lv' := [(0, .ref (B.1 15 i0)), (1, .ref (B.1 70 i1)), (2, .int p2), (3, .int p3)]) [0, 1, 2, 3] rfl ?_
  refine J.aload_n hx dJ3_getBytes_0 rfl 0 rfl ?_
  refine J.calli hx (fun r z1 z => j_callV (κ := 15) hx rfl rfl a0.1 (mt_J3_coder_k15 a0 z) (lw_V q877 q878 q879 q134 q880) hd_J3_coder rfl ⟨Nat.le_of_ble_eq_true rfl, Nat.le_of_ble_eq_true rfl⟩ (Nat.le_of_ble_eq_true rfl) dJ3_getBytes_1) ⟨⟨rfl, rfl⟩, (Nat.le_of_ble_eq_true rfl), (Nat.le_of_ble_eq_true rfl)⟩ fun v1 w2 e3 => ?_
  refine J.iload_n hx dJ3_getBytes_4 rfl 3 rfl ?_
  refine J.icmp_ne (tgt := 28) hx dJ3_getBytes_5 (by decide) ?_ ?_
  · refine J.aload_n hx dJ3_getBytes_8 rfl 0 rfl ?_
    refine J.getr (κ' := 70) (κ := 15) (k := 0) hx rfl rfl rfl rfl in_J3 (by decide) (Or.inl q704) a0.1 dJ3_getBytes_9 fun v4 h5 => ?_
    refine J.iconst (v := 0) hx dJ3_getBytes_12 (by decide) ?_
    refine J.aload_n hx dJ3_getBytes_13 rfl 1 rfl ?_
    refine J.iload_n hx dJ3_getBytes_14 rfl 2 rfl ?_
    refine J.iload_n hx dJ3_getBytes_15 rfl 3 rfl ?_
    refine J.ishl hx dJ3_getBytes_16 ?_
    refine J.aload_n hx dJ3_getBytes_17 rfl 0 rfl ?_
    refine J.getr (κ' := 70) (κ := 15) (k := 0) hx rfl rfl rfl rfl in_J3 (by decide) (Or.inl q704) a0.1 dJ3_getBytes_18 fun v6 h7 => ?_
    refine J.obU fun y8 e9 => ?_
    subst e9
    refine J.alen (κ := 70) (v := Int32.ofNat (jgn w2 70 y8)) hx ⟨by decide, by decide⟩ (by decide) rfl rfl (h7 y8 rfl).1 dJ3_getBytes_21 ?_
    refine J.obU fun y10 e11 => ?_
    subst e11
    refine J.acopyb (κ := 70) (κ' := 70) hx rfl rfl rfl rfl rfl (h5 y10 rfl).1 b1.1 q1428 q588 q587 q138 (Nat.le_of_ble_eq_true rfl) (Nat.le_of_ble_eq_true rfl) (Nat.le_of_ble_eq_true rfl) dJ3_getBytes_22 fun w12 => ?_
    refine J.goto (tgt := 43) hx dJ3_getBytes_25 (by decide) ?_
    exact J.vret hx rfl (Nat.le_of_ble_eq_true rfl) (Nat.le_of_ble_eq_true rfl) dJ3_getBytes_43
  · exact J.nne
def f_J3_coder_k17 (i0 : Nat) (w : j_St) : Option (Int32 × j_St) := if (1 : Int32) = 0 then none else jlt (jgi w 17 i0 1) fun v1 => if v1.toInt8.toInt32 = v1 then some (v1, w) else none
abbrev rm_J3_coder_k17 : Room := { frames := 0, cells := 0, slots := 0, locals := 0 }
set_option maxRecDepth 100000 in
set_option maxHeartbeats 4000000 in
theorem mt_J3_coder_k17 {g : j_G} {B : j_B} {i0 : Nat} {w w' : j_St} (a0 : B.2.1 17 i0 ∧ B.2.2 17 i0) {r : Int32} (h : f_J3_coder_k17 i0 w = some (r, w')) : j_M g yJ3_coder cJ3_coder 1 (some FieldType.byte) rm_J3_coder_k17 B [.ref (B.1 17 i0)] w w' (jri r) := by
  refine j_met (rv := jri) (by decide) (Nat.le_of_ble_eq_true rfl) (fun x hx => ?_) h
  unfold f_J3_coder_k17
  refine J.sub (lv' := [(0, .ref (B.1 17 i0))]) [0] rfl ?_
  refine J.gets (t := 13) (v := .int 1) hx rfl q690 dJ3_coder_0 ?_
  refine J.if_eq (tgt := 13) hx dJ3_coder_3 (by decide) ?_ ?_
  · exact J.nne
  · refine J.aload_n hx dJ3_coder_6 rfl 0 rfl ?_
    refine J.geti9 (κ := 17) (k := 1) hx rfl rfl rfl in_J3 (by decide) q705 a0.1 dJ3_coder_7 fun v1 => ?_
    refine J.goto (tgt := 14) hx dJ3_coder_10 (by decide) ?_
    exact J.bretc hx rfl (Nat.le_of_ble_eq_true rfl) (Nat.le_of_ble_eq_true rfl) dJ3_coder_14
def f_J3_length_k17 (i0 : Nat) (w : j_St) : Option (Int32 × j_St) := jlt (jgr w 17 i0 0) fun v1 => job v1 fun y3 => jcb (f_J3_coder_k17 i0 w) fun v5 w6 => some ((Int32.ofNat (jgn w 71 y3)) >>> (v5 &&& 31), w6)
abbrev rm_J3_length_k17 : Room := { frames := 1, cells := 0, slots := 0, locals := 20 }
set_option maxRecDepth 100000 in
set_option maxHeartbeats 4000000 in
theorem mt_J3_length_k17 {g : j_G} {B : j_B} {i0 : Nat} {w w' : j_St} (a0 : B.2.1 17 i0 ∧ B.2.2 17 i0) {r : Int32} (h : f_J3_length_k17 i0 w = some (r, w')) : j_M g yJ3_length cJ3_length 1 (some FieldType.int) rm_J3_length_k17 B [.ref (B.1 17 i0)] w w' (jri r) := by
  refine j_met (rv := jri) (by decide) (Nat.le_of_ble_eq_true rfl) (fun x hx => ?_) h
  unfold f_J3_length_k17
  refine J.sub (lv' := [(0, .ref (B.1 17 i0))]) [0] rfl ?_
  refine J.aload_n hx dJ3_length_0 rfl 0 rfl ?_
  refine J.getr9 (κ' := 71) (κ := 17) (k := 0) hx rfl rfl rfl rfl in_J3 (by decide) q704 a0.1 dJ3_length_1 fun v1 h2 => ?_
  refine J.obU fun y3 e4 => ?_
  subst e4
  refine J.alen8 (κ := 71) (v := Int32.ofNat (jgn w 71 y3)) hx rfl rfl rfl (h2 y3 rfl).1 dJ3_length_4 ?_
  refine J.aload_n hx dJ3_length_5 rfl 0 rfl ?_
  refine J.calli hx (fun r z1 z => j_callV9 (κ := 17) hx rfl rfl a0.1 (mt_J3_coder_k17 a0 z) (lw_V q877 q878 q879 q134 q880) hd_J3_coder rfl ⟨Nat.le_of_ble_eq_true rfl, Nat.le_of_ble_eq_true rfl⟩ (Nat.le_of_ble_eq_true rfl) dJ3_length_6) ⟨⟨rfl, rfl⟩, (Nat.le_of_ble_eq_true rfl), (Nat.le_of_ble_eq_true rfl)⟩ fun v5 w6 e7 => ?_
  refine J.ishr hx dJ3_length_9 ?_
  exact J.iret hx rfl (Nat.le_of_ble_eq_true rfl) (Nat.le_of_ble_eq_true rfl) dJ3_length_10
def f_J3_getBytes_k17 (i0 : Nat) (i1 : Nat) (p2 : Int32) (p3 : Int32) (w : j_St) : Option (Unit × j_St) := jcb (f_J3_coder_k17 i0 w) fun v1 w2 => if v1 = p3 then jlt (jgr w2 17 i0 0) fun v4 => jlt (jgr w2 17 i0 0) fun v6 => job v6 fun y8 => job v4 fun y10 => if 0 ≤ (0 : Int32).toInt ∧ 0 ≤ (p2 <<< (p3 &&& 31)).toInt ∧ 0 ≤ (Int32.ofNat (jgn w2 71 y8)).toInt ∧ (0 : Int32).toInt + (Int32.ofNat (jgn w2 71 y8)).toInt ≤ ((jgn w2 71 y10) : Int) ∧ (p2 <<< (p3 &&& 31)).toInt + (Int32.ofNat (jgn w2 71 y8)).toInt ≤ ((jgn w2 70 i1) : Int) ∧ jbyt w2 71 y10 (0 : Int32).toInt.toNat (Int32.ofNat (jgn w2 71 y8)).toInt.toNat = true then jlt (jcp w2 71 y10 (0 : Int32).toInt.toNat 70 i1 (p2 <<< (p3 &&& 31)).toInt.toNat (Int32.ofNat (jgn w2 71 y8)).toInt.toNat) fun w12 => some ((), w12) else none else none
abbrev rm_J3_getBytes_k17 : Room := { frames := 1, cells := 0, slots := 0, locals := 60 }
set_option maxRecDepth 100000 in
set_option maxHeartbeats 4000000 in
theorem mt_J3_getBytes_k17 {g : j_G} {B : j_B} {i0 : Nat} {i1 : Nat} {p2 : Int32} {p3 : Int32} {w w' : j_St} (a0 : B.2.1 17 i0 ∧ B.2.2 17 i0) (b1 : B.2.1 70 i1 ∧ B.2.2 70 i1) {r : Unit} (h : f_J3_getBytes_k17 i0 i1 p2 p3 w = some (r, w')) : j_M g yJ3_getBytes cJ3_getBytes 4 none rm_J3_getBytes_k17 B [.ref (B.1 17 i0), .ref (B.1 70 i1), .int p2, .int p3] w w' (jrv r) := by
  refine j_met (rv := jrv) (by decide) (Nat.le_of_ble_eq_true rfl) (fun x hx => ?_) h
  unfold f_J3_getBytes_k17
  refine J.sub (lv' := [(0, .ref (B.1 17 i0)), (1, .ref (B.1 70 i1)), (2, .int p2), (3, .int p3)]) [0, 1, 2, 3] rfl ?_
  refine J.aload_n hx dJ3_getBytes_0 rfl 0 rfl ?_
  refine J.calli hx (fun r z1 z => j_callV9 (κ := 17) hx rfl rfl a0.1 (mt_J3_coder_k17 a0 z) (lw_V q877 q878 q879 q134 q880) hd_J3_coder rfl ⟨Nat.le_of_ble_eq_true rfl, Nat.le_of_ble_eq_true rfl⟩ (Nat.le_of_ble_eq_true rfl) dJ3_getBytes_1) ⟨⟨rfl, rfl⟩, (Nat.le_of_ble_eq_true rfl), (Nat.le_of_ble_eq_true rfl)⟩ fun v1 w2 e3 => ?_
  refine J.iload_n hx dJ3_getBytes_4 rfl 3 rfl ?_
  refine J.icmp_ne (tgt := 28) hx dJ3_getBytes_5 (by decide) ?_ ?_
  · refine J.aload_n hx dJ3_getBytes_8 rfl 0 rfl ?_
    refine J.getr9 (κ' := 71) (κ := 17) (k := 0) hx rfl rfl rfl rfl in_J3 (by decide) q704 a0.1 dJ3_getBytes_9 fun v4 h5 => ?_
    refine J.iconst (v := 0) hx dJ3_getBytes_12 (by decide) ?_
    refine J.aload_n hx dJ3_getBytes_13 rfl 1 rfl ?_
    refine J.iload_n hx dJ3_getBytes_14 rfl 2 rfl ?_
    refine J.iload_n hx dJ3_getBytes_15 rfl 3 rfl ?_
    refine J.ishl hx dJ3_getBytes_16 ?_
    refine J.aload_n hx dJ3_getBytes_17 rfl 0 rfl ?_
    refine J.getr9 (κ' := 71) (κ := 17) (k := 0) hx rfl rfl rfl rfl in_J3 (by decide) q704 a0.1 dJ3_getBytes_18 fun v6 h7 => ?_
    refine J.obU fun y8 e9 => ?_
    subst e9
    refine J.alen8 (κ := 71) (v := Int32.ofNat (jgn w2 71 y8)) hx rfl rfl rfl (h7 y8 rfl).1 dJ3_getBytes_21 ?_
    refine J.obU fun y10 e11 => ?_
    subst e11
    refine J.acopyb8 (κ := 71) (κ' := 70) hx rfl rfl rfl rfl rfl rfl (h5 y10 rfl).1 b1.1 q1428 q588 q587 q138 (Nat.le_of_ble_eq_true rfl) (Nat.le_of_ble_eq_true rfl) (Nat.le_of_ble_eq_true rfl) dJ3_getBytes_22 fun w12 => ?_
    refine J.goto (tgt := 43) hx dJ3_getBytes_25 (by decide) ?_
    exact J.vret hx rfl (Nat.le_of_ble_eq_true rfl) (Nat.le_of_ble_eq_true rfl) dJ3_getBytes_43
  · exact J.nne
theorem hd_J7_equals : yJ7_equals.cls = RJ7 ∧ yJ7_equals.cls ≠ "java/lang/invoke/MethodHandle" ∧ yJ7_equals.cls ≠ "java/lang/invoke/VarHandle" ∧ (parseMethodDescriptor yJ7_equals.desc).map (fun d => d.parameters.length) = some 2 := by decide +kernel
def f_J7_equals_a70_L9 (i0 : Nat) (i1 : Nat)  : Nat → Int32 → j_St → Option (Int32 × j_St)
  | 0, _, _ => none
  | n9 + 1, v1, w2 => if Int32.ofNat (jgn w2 70 i0) ≤ v1 then some (1, w2) else jbd v1 (jgn w2 70 i0) fun a3 => jlt (jgi w2 70 i0 a3) fun v4 => jbd v1 (jgn w2 70 i1) fun a5 => jlt (jgi w2 70 i1 a5) fun v6 => if v4 = v6 then jlt (v1 + 1) fun v7 => f_J7_equals_a70_L9 i0 i1 n9 v7 w2 else some (0, w2)
def f_J7_equals_a70 (i0 : Nat) (i1 : Nat) (w : j_St) : Option (Int32 × j_St) := if Int32.ofNat (jgn w 70 i0) = Int32.ofNat (jgn w 70 i1) then f_J7_equals_a70_L9 i0 i1 jFU 0 w else some (0, w)
abbrev rm_J7_equals_a70 : Room := { frames := 0, cells := 0, slots := 0, locals := 0 }
set_option maxRecDepth 100000 in
set_option maxHeartbeats 4000000 in
theorem mt_J7_equals_a70 {g : j_G} {B : j_B} {i0 : Nat} {i1 : Nat} {w w' : j_St} (b0 : B.2.1 70 i0 ∧ B.2.2 70 i0) (b1 : B.2.1 70 i1 ∧ B.2.2 70 i1) {r : Int32} (h : f_J7_equals_a70 i0 i1 w = some (r, w')) : j_M g yJ7_equals cJ7_equals 3 (some FieldType.boolean) rm_J7_equals_a70 B [.ref (B.1 70 i0), .ref (B.1 70 i1)] w w' (jri r) := by
  refine j_met (rv := jri) (by decide) (Nat.le_of_ble_eq_true rfl) (fun x hx => ?_) h
  unfold f_J7_equals_a70
  refine J.sub (lv' := [(0, .ref (B.1 70 i0)), (1, .ref (B.1 70 i1))]) [0, 1] rfl ?_
  refine J.aload_n hx dJ7_equals_0 rfl 0 rfl ?_
  refine J.alen (κ := 70) (v := Int32.ofNat (jgn w 70 i0)) hx ⟨by decide, by decide⟩ (by decide) rfl rfl b0.1 dJ7_equals_1 ?_
  refine J.aload_n hx dJ7_equals_2 rfl 1 rfl ?_
  refine J.alen (κ := 70) (v := Int32.ofNat (jgn w 70 i1)) hx ⟨by decide, by decide⟩ (by decide) rfl rfl b1.1 dJ7_equals_3 ?_
  refine J.icmp_ne (tgt := 34) hx dJ7_equals_4 (by decide) ?_ ?_
  · refine J.iconst (v := 0) hx dJ7_equals_7 (by decide) ?_
    refine J.istore_n (lv' := [(2, .int 0), (0, .ref (B.1 70 i0)), (1, .ref (B.1 70 i1))]) hx dJ7_equals_8 rfl (by decide) rfl ?_
    have hL9 : ∀ (n9 : Nat) (v1 : Int32) (w2 : j_St), J g x 3 B (j_Q g x B rm_J7_equals_a70 jri) 0 0 (f_J7_equals_a70_L9 i0 i1 n9 v1 w2) 9 [(0, .ref (B.1 70 i0)), (1, .ref (B.1 70 i1)), (2, .int v1)] [] w2 := by
      intro n9
      induction n9 with
      | zero =>
        intro v1 w2
        rw [f_J7_equals_a70_L9]
        exact J.nne
      | succ n9 ih =>
        intro v1 w2
        rw [f_J7_equals_a70_L9]
        refine J.iload_n hx dJ7_equals_9 rfl 2 rfl ?_
        refine J.aload_n hx dJ7_equals_10 rfl 0 rfl ?_
        refine J.alen (κ := 70) (v := Int32.ofNat (jgn w2 70 i0)) hx ⟨by decide, by decide⟩ (by decide) rfl rfl b0.1 dJ7_equals_11 ?_
        refine J.icmp_ge (tgt := 32) hx dJ7_equals_12 (by decide) ?_ ?_
        · refine J.iconst (v := 1) hx dJ7_equals_32 (by decide) ?_
          exact J.zret hx rfl rfl (Nat.le_of_ble_eq_true rfl) (Nat.le_of_ble_eq_true rfl) dJ7_equals_33
        · refine J.aload_n hx dJ7_equals_15 rfl 0 rfl ?_
          refine J.iload_n hx dJ7_equals_16 rfl 2 rfl ?_
          refine J.bald (κ := 70) hx rfl rfl b0.1 dJ7_equals_17 fun v4 => ?_
          refine J.aload_n hx dJ7_equals_18 rfl 1 rfl ?_
          refine J.iload_n hx dJ7_equals_19 rfl 2 rfl ?_
          refine J.bald (κ := 70) hx rfl rfl b1.1 dJ7_equals_20 fun v6 => ?_
          refine J.icmp_eq (tgt := 26) hx dJ7_equals_21 (by decide) ?_ ?_
          · refine J.nmx fun v7 ev7 => ?_
            refine J.iinc (p := 2) (v := v7) (lv' := [(2, .int v7), (0, .ref (B.1 70 i0)), (1, .ref (B.1 70 i1))]) hx dJ7_equals_26 rfl (by rw [ev7]; rfl) (by decide) rfl ?_
            refine J.goto (tgt := 9) hx dJ7_equals_29 (by decide) ?_
            exact J.sub [1, 2, 0] rfl (ih v7 w2)
          · refine J.iconst (v := 0) hx dJ7_equals_24 (by decide) ?_
            exact J.zret hx rfl rfl (Nat.le_of_ble_eq_true rfl) (Nat.le_of_ble_eq_true rfl) dJ7_equals_25
    refine J.sub [1, 2, 0] rfl (hL9 jFU 0 w)
  · refine J.iconst (v := 0) hx dJ7_equals_34 (by decide) ?_
    exact J.zret hx rfl rfl (Nat.le_of_ble_eq_true rfl) (Nat.le_of_ble_eq_true rfl) dJ7_equals_35
theorem hd_J3_equals : yJ3_equals.cls = RJ3 ∧ yJ3_equals.cls ≠ "java/lang/invoke/MethodHandle" ∧ yJ3_equals.cls ≠ "java/lang/invoke/VarHandle" ∧ (parseMethodDescriptor yJ3_equals.desc).map (fun d => d.parameters.length) = some 1 := by decide +kernel
def f_J3_equals_a15 (i0 : Nat) (i1 : Nat) (w : j_St) : Option (Int32 × j_St) := if (some i0) = (some i1) then some (1, w) else if (1 : Int32) = 0 then some (0, w) else jlt (fun (w3 : j_St) => jlt (jgr w3 15 i0 0) fun v4 => jlt (jgr w3 15 i1 0) fun v6 => job v4 fun y8 => job v6 fun y10 => jcb (f_J7_equals_a70 y8 y10 w3) fun v12 w13 => if v12 = 0 then some (0, w13) else some (1, w13)) fun K36 => if (1 : Int32) = 0 then K36 w else jlt (jgi w 15 i0 1) fun v1 => jlt (jgi w 15 i1 1) fun v2 => if v1 = v2 then K36 w else some (0, w)
abbrev rm_J3_equals_a15 : Room := { frames := 1, cells := 0, slots := 0, locals := 22 }
set_option maxRecDepth 100000 in
set_option maxHeartbeats 4000000 in
theorem mt_J3_equals_a15 {g : j_G} {B : j_B} {i0 : Nat} {i1 : Nat} {w w' : j_St} (a0 : B.2.1 15 i0 ∧ B.2.2 15 i0) (b1 : B.2.1 15 i1 ∧ B.2.2 15 i1) {r : Int32} (h : f_J3_equals_a15 i0 i1 w = some (r, w')) : j_M g yJ3_equals cJ3_equals 3 (some FieldType.boolean) rm_J3_equals_a15 B [.ref (B.1 15 i0), .ref (B.1 15 i1)] w w' (jri r) := by
  refine j_met (rv := jri) (by decide) (Nat.le_of_ble_eq_true rfl) (fun x hx => ?_) h
  unfold f_J3_equals_a15
  refine J.sub (lv' := [(0, .ref (B.1 15 i0)), (1, .ref (B.1 15 i1))]) [0, 1] rfl ?_
  refine J.aload_n hx dJ3_equals_0 rfl 0 rfl ?_
  refine J.aload_n hx dJ3_equals_1 rfl 1 rfl ?_
  refine J.acmp_ne (κ := 15) (a := (some i0)) (b := (some i1)) (tgt := 7) hx dJ3_equals_2 (by decide) (fun q h => ((j_sm a0) q h).1) (fun q h => ((j_sm b1) q h).1) ?_ ?_
  · refine J.iconst (v := 1) hx dJ3_equals_5 (by decide) ?_
    exact J.zret hx rfl rfl (Nat.le_of_ble_eq_true rfl) (Nat.le_of_ble_eq_true rfl) dJ3_equals_6
  · refine J.aload_n hx dJ3_equals_7 rfl 1 rfl ?_
    refine J.instS (κ := 15) hx rfl rfl b1.1 q775 dJ3_equals_8 ?_
    refine J.if_eq (tgt := 54) hx dJ3_equals_11 (by decide) ?_ ?_
    · refine J.iconst (v := 0) hx dJ3_equals_54 (by decide) ?_
      exact J.zret hx rfl rfl (Nat.le_of_ble_eq_true rfl) (Nat.le_of_ble_eq_true rfl) dJ3_equals_55
    · refine J.aload_n hx dJ3_equals_14 rfl 1 rfl ?_
      refine J.castS (κ := 15) hx rfl rfl b1.1 q775 dJ3_equals_15 ?_
      refine J.astore_n (lv' := [(2, .ref (B.1 15 i1)), (0, .ref (B.1 15 i0)), (1, .ref (B.1 15 i1))]) hx dJ3_equals_18 rfl (by decide) rfl ?_
      refine J.gets (t := 13) (v := .int 1) hx rfl q690 dJ3_equals_19 ?_
      refine J.fn (fun (K36 : j_St → Option (Int32 × j_St)) => ∀  (w3 : j_St), J g x 3 B (j_Q g x B rm_J3_equals_a15 jri) 0 0 (K36 w3) 36 [(0, .ref (B.1 15 i0)), (2, .ref (B.1 15 i1))] [] w3) ?_ ?_
      · intro w3
        refine J.aload_n hx dJ3_equals_36 rfl 0 rfl ?_
        refine J.getr (κ' := 70) (κ := 15) (k := 0) hx rfl rfl rfl rfl in_J3 (by decide) (Or.inl q704) a0.1 dJ3_equals_37 fun v4 h5 => ?_
        refine J.aload_n hx dJ3_equals_40 rfl 1 rfl ?_
        refine J.getr (κ' := 70) (κ := 15) (k := 0) hx rfl rfl rfl rfl in_J3 (by decide) (Or.inl q704) b1.1 dJ3_equals_41 fun v6 h7 => ?_
        refine J.obU fun y8 e9 => ?_
        subst e9
        refine J.obU fun y10 e11 => ?_
        subst e11
        refine J.calli hx (fun r z1 z => j_callS hx (mt_J7_equals_a70 (h5 y8 rfl) (h7 y10 rfl) z) (lw_S q776 q777 q139 q778) hd_J7_equals.2 rfl ⟨Nat.le_of_ble_eq_true rfl, Nat.le_of_ble_eq_true rfl⟩ (Nat.le_of_ble_eq_true rfl) dJ3_equals_44) ⟨⟨rfl, rfl⟩, (Nat.le_of_ble_eq_true rfl), (Nat.le_of_ble_eq_true rfl)⟩ fun v12 w13 e14 => ?_
        refine J.if_eq (tgt := 54) hx dJ3_equals_47 (by decide) ?_ ?_
        · refine J.iconst (v := 0) hx dJ3_equals_54 (by decide) ?_
          exact J.zret hx rfl rfl (Nat.le_of_ble_eq_true rfl) (Nat.le_of_ble_eq_true rfl) dJ3_equals_55
        · refine J.iconst (v := 1) hx dJ3_equals_50 (by decide) ?_
          refine J.goto (tgt := 55) hx dJ3_equals_51 (by decide) ?_
          exact J.zret hx rfl rfl (Nat.le_of_ble_eq_true rfl) (Nat.le_of_ble_eq_true rfl) dJ3_equals_55
      · intro K36 hK36
        refine J.if_eq (tgt := 36) hx dJ3_equals_22 (by decide) ?_ ?_
        · exact J.sub [1, 0] rfl (hK36 w)
        · refine J.aload_n hx dJ3_equals_25 rfl 1 rfl ?_
          refine J.geti (κ := 15) (k := 1) hx rfl rfl rfl in_J3 (by decide) (Or.inl q705) a0.1 dJ3_equals_26 fun v1 => ?_
          refine J.aload_n hx dJ3_equals_29 rfl 0 rfl ?_
          refine J.geti (κ := 15) (k := 1) hx rfl rfl rfl in_J3 (by decide) (Or.inl q705) b1.1 dJ3_equals_30 fun v2 => ?_
          refine J.icmp_ne (tgt := 54) hx dJ3_equals_33 (by decide) ?_ ?_
          · exact J.sub [1, 0] rfl (hK36 w)
          · refine J.iconst (v := 0) hx dJ3_equals_54 (by decide) ?_
            exact J.zret hx rfl rfl (Nat.le_of_ble_eq_true rfl) (Nat.le_of_ble_eq_true rfl) dJ3_equals_55
def f_J7_equals_a71_L9 (i0 : Nat) (i1 : Nat)  : Nat → Int32 → j_St → Option (Int32 × j_St)
  | 0, _, _ => none
  | n9 + 1, v1, w2 => if Int32.ofNat (jgn w2 70 i0) ≤ v1 then some (1, w2) else jbd v1 (jgn w2 70 i0) fun a3 => jlt (jgi w2 70 i0 a3) fun v4 => jbd v1 (jgn w2 71 i1) fun a5 => jlt (jgi w2 71 i1 a5) fun v6 => if v4 = v6 then jlt (v1 + 1) fun v7 => f_J7_equals_a71_L9 i0 i1 n9 v7 w2 else some (0, w2)
def f_J7_equals_a71 (i0 : Nat) (i1 : Nat) (w : j_St) : Option (Int32 × j_St) := if Int32.ofNat (jgn w 70 i0) = Int32.ofNat (jgn w 71 i1) then f_J7_equals_a71_L9 i0 i1 jFU 0 w else some (0, w)
abbrev rm_J7_equals_a71 : Room := { frames := 0, cells := 0, slots := 0, locals := 0 }
set_option maxRecDepth 100000 in
set_option maxHeartbeats 4000000 in
theorem mt_J7_equals_a71 {g : j_G} {B : j_B} {i0 : Nat} {i1 : Nat} {w w' : j_St} (b0 : B.2.1 70 i0 ∧ B.2.2 70 i0) (b1 : B.2.1 71 i1 ∧ B.2.2 71 i1) {r : Int32} (h : f_J7_equals_a71 i0 i1 w = some (r, w')) : j_M g yJ7_equals cJ7_equals 3 (some FieldType.boolean) rm_J7_equals_a71 B [.ref (B.1 70 i0), .ref (B.1 71 i1)] w w' (jri r) := by
  refine j_met (rv := jri) (by decide) (Nat.le_of_ble_eq_true rfl) (fun x hx => ?_) h
  unfold f_J7_equals_a71
  refine J.sub (lv' := [(0, .ref (B.1 70 i0)), (1, .ref (B.1 71 i1))]) [0, 1] rfl ?_
  refine J.aload_n hx dJ7_equals_0 rfl 0 rfl ?_
  refine J.alen (κ := 70) (v := Int32.ofNat (jgn w 70 i0)) hx ⟨by decide, by decide⟩ (by decide) rfl rfl b0.1 dJ7_equals_1 ?_
  refine J.aload_n hx dJ7_equals_2 rfl 1 rfl ?_
  refine J.alen8 (κ := 71) (v := Int32.ofNat (jgn w 71 i1)) hx rfl rfl rfl b1.1 dJ7_equals_3 ?_
  refine J.icmp_ne (tgt := 34) hx dJ7_equals_4 (by decide) ?_ ?_
  · refine J.iconst (v := 0) hx dJ7_equals_7 (by decide) ?_
    refine J.istore_n (lv' := [(2, .int 0), (0, .ref (B.1 70 i0)), (1, .ref (B.1 71 i1))]) hx dJ7_equals_8 rfl (by decide) rfl ?_
    have hL9 : ∀ (n9 : Nat) (v1 : Int32) (w2 : j_St), J g x 3 B (j_Q g x B rm_J7_equals_a71 jri) 0 0 (f_J7_equals_a71_L9 i0 i1 n9 v1 w2) 9 [(0, .ref (B.1 70 i0)), (1, .ref (B.1 71 i1)), (2, .int v1)] [] w2 := by
      intro n9
      induction n9 with
      | zero =>
        intro v1 w2
        rw [f_J7_equals_a71_L9]
        exact J.nne
      | succ n9 ih =>
        intro v1 w2
        rw [f_J7_equals_a71_L9]
        refine J.iload_n hx dJ7_equals_9 rfl 2 rfl ?_
        refine J.aload_n hx dJ7_equals_10 rfl 0 rfl ?_
        refine J.alen (κ := 70) (v := Int32.ofNat (jgn w2 70 i0)) hx ⟨by decide, by decide⟩ (by decide) rfl rfl b0.1 dJ7_equals_11 ?_
        refine J.icmp_ge (tgt := 32) hx dJ7_equals_12 (by decide) ?_ ?_
        · refine J.iconst (v := 1) hx dJ7_equals_32 (by decide) ?_
          exact J.zret hx rfl rfl (Nat.le_of_ble_eq_true rfl) (Nat.le_of_ble_eq_true rfl) dJ7_equals_33
        · refine J.aload_n hx dJ7_equals_15 rfl 0 rfl ?_
          refine J.iload_n hx dJ7_equals_16 rfl 2 rfl ?_
          refine J.bald (κ := 70) hx rfl rfl b0.1 dJ7_equals_17 fun v4 => ?_
          refine J.aload_n hx dJ7_equals_18 rfl 1 rfl ?_
          refine J.iload_n hx dJ7_equals_19 rfl 2 rfl ?_
          refine J.bald8 (κ := 71) hx rfl rfl rfl b1.1 dJ7_equals_20 fun v6 => ?_
          refine J.icmp_eq (tgt := 26) hx dJ7_equals_21 (by decide) ?_ ?_
          · refine J.nmx fun v7 ev7 => ?_
            refine J.iinc (p := 2) (v := v7) (lv' := [(2, .int v7), (0, .ref (B.1 70 i0)), (1, .ref (B.1 71 i1))]) hx dJ7_equals_26 rfl (by rw [ev7]; rfl) (by decide) rfl ?_
            refine J.goto (tgt := 9) hx dJ7_equals_29 (by decide) ?_
            exact J.sub [1, 2, 0] rfl (ih v7 w2)
          · refine J.iconst (v := 0) hx dJ7_equals_24 (by decide) ?_
            exact J.zret hx rfl rfl (Nat.le_of_ble_eq_true rfl) (Nat.le_of_ble_eq_true rfl) dJ7_equals_25
    refine J.sub [1, 2, 0] rfl (hL9 jFU 0 w)
  · refine J.iconst (v := 0) hx dJ7_equals_34 (by decide) ?_
    exact J.zret hx rfl rfl (Nat.le_of_ble_eq_true rfl) (Nat.le_of_ble_eq_true rfl) dJ7_equals_35
def f_J3_equals_a17 (i0 : Nat) (i1 : Nat) (w : j_St) : Option (Int32 × j_St) := if (1 : Int32) = 0 then some (0, w) else jlt (fun (w3 : j_St) => jlt (jgr w3 15 i0 0) fun v4 => jlt (jgr w3 17 i1 0) fun v6 => job v4 fun y8 => job v6 fun y10 => jcb (f_J7_equals_a71 y8 y10 w3) fun v12 w13 => if v12 = 0 then some (0, w13) else some (1, w13)) fun K36 => if (1 : Int32) = 0 then K36 w else jlt (jgi w 15 i0 1) fun v1 => jlt (jgi w 17 i1 1) fun v2 => if v1 = v2 then K36 w else some (0, w)
abbrev rm_J3_equals_a17 : Room := { frames := 1, cells := 0, slots := 0, locals := 22 }
set_option maxRecDepth 100000 in
set_option maxHeartbeats 4000000 in
theorem mt_J3_equals_a17 {g : j_G} {B : j_B} {i0 : Nat} {i1 : Nat} {w w' : j_St} (a0 : B.2.1 15 i0 ∧ B.2.2 15 i0) (b1 : B.2.1 17 i1 ∧ B.2.2 17 i1) {r : Int32} (h : f_J3_equals_a17 i0 i1 w = some (r, w')) : j_M g yJ3_equals cJ3_equals 3 (some FieldType.boolean) rm_J3_equals_a17 B [.ref (B.1 15 i0), .ref (B.1 17 i1)] w w' (jri r) := by
  refine j_met (rv := jri) (by decide) (Nat.le_of_ble_eq_true rfl) (fun x hx => ?_) h
  unfold f_J3_equals_a17
  refine J.sub (lv' := [(0, .ref (B.1 15 i0)), (1, .ref (B.1 17 i1))]) [0, 1] rfl ?_
  refine J.aload_n hx dJ3_equals_0 rfl 0 rfl ?_
  refine J.aload_n hx dJ3_equals_1 rfl 1 rfl ?_
  refine J.acmp_neD (κ := 15) (κ' := 17) (tgt := 7) hx dJ3_equals_2 (by decide) (by decide) a0.1 b1.1 ?_
  refine J.aload_n hx dJ3_equals_7 rfl 1 rfl ?_
  refine J.instS9 (κ := 17) hx rfl rfl b1.1 q775 dJ3_equals_8 ?_
  refine J.if_eq (tgt := 54) hx dJ3_equals_11 (by decide) ?_ ?_
  · refine J.iconst (v := 0) hx dJ3_equals_54 (by decide) ?_
    exact J.zret hx rfl rfl (Nat.le_of_ble_eq_true rfl) (Nat.le_of_ble_eq_true rfl) dJ3_equals_55
  · refine J.aload_n hx dJ3_equals_14 rfl 1 rfl ?_
    refine J.castS9 (κ := 17) hx rfl rfl b1.1 q775 dJ3_equals_15 ?_
    refine J.astore_n (lv' := [(2, .ref (B.1 17 i1)), (0, .ref (B.1 15 i0)), (1, .ref (B.1 17 i1))]) hx dJ3_equals_18 rfl (by decide) rfl ?_
    refine J.gets (t := 13) (v := .int 1) hx rfl q690 dJ3_equals_19 ?_
    refine J.fn (fun (K36 : j_St → Option (Int32 × j_St)) => ∀  (w3 : j_St), J g x 3 B (j_Q g x B rm_J3_equals_a17 jri) 0 0 (K36 w3) 36 [(0, .ref (B.1 15 i0)), (2, .ref (B.1 17 i1))] [] w3) ?_ ?_
    · intro w3
      refine J.aload_n hx dJ3_equals_36 rfl 0 rfl ?_
      refine J.getr (κ' := 70) (κ := 15) (k := 0) hx rfl rfl rfl rfl in_J3 (by decide) (Or.inl q704) a0.1 dJ3_equals_37 fun v4 h5 => ?_
      refine J.aload_n hx dJ3_equals_40 rfl 1 rfl ?_
      refine J.getr9 (κ' := 71) (κ := 17) (k := 0) hx rfl rfl rfl rfl in_J3 (by decide) q704 b1.1 dJ3_equals_41 fun v6 h7 => ?_
      refine J.obU fun y8 e9 => ?_
      subst e9
      refine J.obU fun y10 e11 => ?_
      subst e11
      refine J.calli hx (fun r z1 z => j_callS hx (mt_J7_equals_a71 (h5 y8 rfl) (h7 y10 rfl) z) (lw_S q776 q777 q139 q778) hd_J7_equals.2 rfl ⟨Nat.le_of_ble_eq_true rfl, Nat.le_of_ble_eq_true rfl⟩ (Nat.le_of_ble_eq_true rfl) dJ3_equals_44) ⟨⟨rfl, rfl⟩, (Nat.le_of_ble_eq_true rfl), (Nat.le_of_ble_eq_true rfl)⟩ fun v12 w13 e14 => ?_
      refine J.if_eq (tgt := 54) hx dJ3_equals_47 (by decide) ?_ ?_
      · refine J.iconst (v := 0) hx dJ3_equals_54 (by decide) ?_
        exact J.zret hx rfl rfl (Nat.le_of_ble_eq_true rfl) (Nat.le_of_ble_eq_true rfl) dJ3_equals_55
      · refine J.iconst (v := 1) hx dJ3_equals_50 (by decide) ?_
        refine J.goto (tgt := 55) hx dJ3_equals_51 (by decide) ?_
        exact J.zret hx rfl rfl (Nat.le_of_ble_eq_true rfl) (Nat.le_of_ble_eq_true rfl) dJ3_equals_55
    · intro K36 hK36
      refine J.if_eq (tgt := 36) hx dJ3_equals_22 (by decide) ?_ ?_
      · exact J.sub [1, 0] rfl (hK36 w)
      · refine J.aload_n hx dJ3_equals_25 rfl 1 rfl ?_
        refine J.geti (κ := 15) (k := 1) hx rfl rfl rfl in_J3 (by decide) (Or.inl q705) a0.1 dJ3_equals_26 fun v1 => ?_
        refine J.aload_n hx dJ3_equals_29 rfl 0 rfl ?_
        refine J.geti9 (κ := 17) (k := 1) hx rfl rfl rfl in_J3 (by decide) q705 b1.1 dJ3_equals_30 fun v2 => ?_
        refine J.icmp_ne (tgt := 54) hx dJ3_equals_33 (by decide) ?_ ?_
        · exact J.sub [1, 0] rfl (hK36 w)
        · refine J.iconst (v := 0) hx dJ3_equals_54 (by decide) ?_
          exact J.zret hx rfl rfl (Nat.le_of_ble_eq_true rfl) (Nat.le_of_ble_eq_true rfl) dJ3_equals_55
theorem hd_J7_charAt : yJ7_charAt.cls = RJ7 ∧ yJ7_charAt.cls ≠ "java/lang/invoke/MethodHandle" ∧ yJ7_charAt.cls ≠ "java/lang/invoke/VarHandle" ∧ (parseMethodDescriptor yJ7_charAt.desc).map (fun d => d.parameters.length) = some 2 := by decide +kernel
def f_J7_charAt (i0 : Nat) (p1 : Int32) (w : j_St) : Option (Int32 × j_St) := jcb (f_J3_checkIndex p1 (Int32.ofNat (jgn w 70 i0)) w) fun _ w2 => jbd p1 (jgn w2 70 i0) fun a4 => jlt (jgi w2 70 i0 a4) fun v5 => if (((v5 &&& 255).toUInt32 % 65536).toInt32).toUInt32.toUInt16.toUInt32.toInt32 = ((v5 &&& 255).toUInt32 % 65536).toInt32 then some (((v5 &&& 255).toUInt32 % 65536).toInt32, w2) else none
abbrev rm_J7_charAt : Room := { frames := 2, cells := 0, slots := 0, locals := 43 }
set_option maxRecDepth 100000 in
set_option maxHeartbeats 4000000 in
theorem mt_J7_charAt {g : j_G} {B : j_B} {i0 : Nat} {p1 : Int32} {w w' : j_St} (b0 : B.2.1 70 i0 ∧ B.2.2 70 i0) {r : Int32} (h : f_J7_charAt i0 p1 w = some (r, w')) : j_M g yJ7_charAt cJ7_charAt 2 (some FieldType.char) rm_J7_charAt B [.ref (B.1 70 i0), .int p1] w w' (jri r) := by
  refine j_met (rv := jri) (by decide) (Nat.le_of_ble_eq_true rfl) (fun x hx => ?_) h
  unfold f_J7_charAt
  refine J.sub (lv' := [(0, .ref (B.1 70 i0)), (1, .int p1)]) [0, 1] rfl ?_
  refine J.iload_n hx dJ7_charAt_0 rfl 1 rfl ?_
  refine J.aload_n hx dJ7_charAt_1 rfl 0 rfl ?_
  refine J.alen (κ := 70) (v := Int32.ofNat (jgn w 70 i0)) hx ⟨by decide, by decide⟩ (by decide) rfl rfl b0.1 dJ7_charAt_2 ?_
  refine J.callv hx (fun r z1 z => j_callS hx (mt_J3_checkIndex z) (lw_S q1539 q637 q134 q638) hd_J3_checkIndex.2 rfl ⟨Nat.le_of_ble_eq_true rfl, Nat.le_of_ble_eq_true rfl⟩ (Nat.le_of_ble_eq_true rfl) dJ7_charAt_3) ⟨⟨rfl, rfl⟩, (Nat.le_of_ble_eq_true rfl), (Nat.le_of_ble_eq_true rfl)⟩ fun _ w2 e3 => ?_
  refine J.aload_n hx dJ7_charAt_6 rfl 0 rfl ?_
  refine J.iload_n hx dJ7_charAt_7 rfl 1 rfl ?_
  refine J.bald (κ := 70) hx rfl rfl b0.1 dJ7_charAt_8 fun v5 => ?_
  refine J.sipush (v := 255) hx dJ7_charAt_9 (by decide) ?_
  refine J.iand hx dJ7_charAt_12 ?_
  refine J.i2c hx dJ7_charAt_13 ?_
  exact J.cretc hx rfl (Nat.le_of_ble_eq_true rfl) (Nat.le_of_ble_eq_true rfl) dJ7_charAt_14
theorem hd_J3_charAt : yJ3_charAt.cls = RJ3 ∧ yJ3_charAt.cls ≠ "java/lang/invoke/MethodHandle" ∧ yJ3_charAt.cls ≠ "java/lang/invoke/VarHandle" ∧ (parseMethodDescriptor yJ3_charAt.desc).map (fun d => d.parameters.length) = some 1 := by decide +kernel
def f_J3_charAt (i0 : Nat) (p1 : Int32) (w : j_St) : Option (Int32 × j_St) := jcb (f_J3_isLatin1 i0 w) fun v1 w2 => if v1 = 0 then none else jlt (jgr w2 15 i0 0) fun v4 => job v4 fun y6 => jcb (f_J7_charAt y6 p1 w2) fun v8 w9 => if v8.toUInt32.toUInt16.toUInt32.toInt32 = v8 then some (v8, w9) else none
abbrev rm_J3_charAt : Room := { frames := 3, cells := 0, slots := 0, locals := 64 }
set_option maxRecDepth 100000 in
set_option maxHeartbeats 4000000 in
theorem mt_J3_charAt {g : j_G} {B : j_B} {i0 : Nat} {p1 : Int32} {w w' : j_St} (a0 : B.2.1 15 i0 ∧ B.2.2 15 i0) {r : Int32} (h : f_J3_charAt i0 p1 w = some (r, w')) : j_M g yJ3_charAt cJ3_charAt 2 (some FieldType.char) rm_J3_charAt B [.ref (B.1 15 i0), .int p1] w w' (jri r) := by
  refine j_met (rv := jri) (by decide) (Nat.le_of_ble_eq_true rfl) (fun x hx => ?_) h
  unfold f_J3_charAt
  refine J.sub (lv' := [(0, .ref (B.1 15 i0)), (1, .int p1)]) [0, 1] rfl ?_
  refine J.aload_n hx dJ3_charAt_0 rfl 0 rfl ?_
  refine J.calli hx (fun r z1 z => j_callV (κ := 15) hx rfl rfl a0.1 (mt_J3_isLatin1 a0 z) (lw_V q721 q722 q723 q134 q724) hd_J3_isLatin1 rfl ⟨Nat.le_of_ble_eq_true rfl, Nat.le_of_ble_eq_true rfl⟩ (Nat.le_of_ble_eq_true rfl) dJ3_charAt_1) ⟨⟨rfl, rfl⟩, (Nat.le_of_ble_eq_true rfl), (Nat.le_of_ble_eq_true rfl)⟩ fun v1 w2 e3 => ?_
  refine J.if_eq (tgt := 16) hx dJ3_charAt_4 (by decide) ?_ ?_
  · exact J.nne
  · refine J.aload_n hx dJ3_charAt_7 rfl 0 rfl ?_
    refine J.getr (κ' := 70) (κ := 15) (k := 0) hx rfl rfl rfl rfl in_J3 (by decide) (Or.inl q704) a0.1 dJ3_charAt_8 fun v4 h5 => ?_
    refine J.iload_n hx dJ3_charAt_11 rfl 1 rfl ?_
    refine J.obU fun y6 e7 => ?_
    subst e7
    refine J.calli hx (fun r z1 z => j_callS hx (mt_J7_charAt (h5 y6 rfl) z) (lw_S q1536 q1537 q139 q1538) hd_J7_charAt.2 rfl ⟨Nat.le_of_ble_eq_true rfl, Nat.le_of_ble_eq_true rfl⟩ (Nat.le_of_ble_eq_true rfl) dJ3_charAt_12) ⟨⟨rfl, rfl⟩, (Nat.le_of_ble_eq_true rfl), (Nat.le_of_ble_eq_true rfl)⟩ fun v8 w9 e10 => ?_
    exact J.cretc hx rfl (Nat.le_of_ble_eq_true rfl) (Nat.le_of_ble_eq_true rfl) dJ3_charAt_15
theorem hd_J1_inflateIfNeededFor : yJ1_inflateIfNeededFor.cls = RJ1 ∧ yJ1_inflateIfNeededFor.cls ≠ "java/lang/invoke/MethodHandle" ∧ yJ1_inflateIfNeededFor.cls ≠ "java/lang/invoke/VarHandle" ∧ (parseMethodDescriptor yJ1_inflateIfNeededFor.desc).map (fun d => d.parameters.length) = some 1 := by decide +kernel
def f_J1_inflateIfNeededFor_a15 (i0 : Nat) (i1 : Nat) (w : j_St) : Option (Unit × j_St) := if (1 : Int32) = 0 then some ((), w) else jlt (jgi w 16 i0 1) fun v1 => jcb (f_J3_coder_k15 i1 w) fun v2 w3 => if v1 = v2 then some ((), w3) else none
abbrev rm_J1_inflateIfNeededFor_a15 : Room := { frames := 1, cells := 0, slots := 0, locals := 20 }
set_option maxRecDepth 100000 in
set_option maxHeartbeats 4000000 in
theorem mt_J1_inflateIfNeededFor_a15 {g : j_G} {B : j_B} {i0 : Nat} {i1 : Nat} {w w' : j_St} (a0 : B.2.1 16 i0 ∧ B.2.2 16 i0) (b1 : B.2.1 15 i1 ∧ B.2.2 15 i1) {r : Unit} (h : f_J1_inflateIfNeededFor_a15 i0 i1 w = some (r, w')) : j_M g yJ1_inflateIfNeededFor cJ1_inflateIfNeededFor 2 none rm_J1_inflateIfNeededFor_a15 B [.ref (B.1 16 i0), .ref (B.1 15 i1)] w w' (jrv r) := by
  refine j_met (rv := jrv) (by decide) (Nat.le_of_ble_eq_true rfl) (fun x hx => ?_) h
  unfold f_J1_inflateIfNeededFor_a15
  refine J.sub (lv' := [(0, .ref (B.1 16 i0)), (1, .ref (B.1 15 i1))]) [0, 1] rfl ?_
  refine J.gets (t := 13) (v := .int 1) hx rfl q525 dJ1_inflateIfNeededFor_0 ?_
  refine J.if_eq (tgt := 21) hx dJ1_inflateIfNeededFor_3 (by decide) ?_ ?_
  · exact J.vret hx rfl (Nat.le_of_ble_eq_true rfl) (Nat.le_of_ble_eq_true rfl) dJ1_inflateIfNeededFor_21
  · refine J.aload_n hx dJ1_inflateIfNeededFor_6 rfl 0 rfl ?_
    refine J.geti (κ := 16) (k := 1) hx rfl rfl rfl in_J2 (by decide) (Or.inl q535) a0.1 dJ1_inflateIfNeededFor_7 fun v1 => ?_
    refine J.aload_n hx dJ1_inflateIfNeededFor_10 rfl 1 rfl ?_
    refine J.calli hx (fun r z1 z => j_callV (κ := 15) hx rfl rfl b1.1 (mt_J3_coder_k15 b1 z) (lw_V q1423 q878 q879 q134 q880) hd_J3_coder rfl ⟨Nat.le_of_ble_eq_true rfl, Nat.le_of_ble_eq_true rfl⟩ (Nat.le_of_ble_eq_true rfl) dJ1_inflateIfNeededFor_11) ⟨⟨rfl, rfl⟩, (Nat.le_of_ble_eq_true rfl), (Nat.le_of_ble_eq_true rfl)⟩ fun v2 w3 e4 => ?_
    refine J.icmp_eq (tgt := 21) hx dJ1_inflateIfNeededFor_14 (by decide) ?_ ?_
    · exact J.vret hx rfl (Nat.le_of_ble_eq_true rfl) (Nat.le_of_ble_eq_true rfl) dJ1_inflateIfNeededFor_21
    · exact J.nne
theorem hd_J1_putStringAt : yJ1_putStringAt.cls = RJ1 ∧ yJ1_putStringAt.cls ≠ "java/lang/invoke/MethodHandle" ∧ yJ1_putStringAt.cls ≠ "java/lang/invoke/VarHandle" ∧ (parseMethodDescriptor yJ1_putStringAt.desc).map (fun d => d.parameters.length) = some 2 := by decide +kernel
def f_J1_putStringAt_a15 (i0 : Nat) (p1 : Int32) (i2 : Nat) (w : j_St) : Option (Unit × j_St) := jcb (f_J1_inflateIfNeededFor_a15 i0 i2 w) fun _ w2 => jlt (jgr w2 16 i0 0) fun v4 => jlt (jgi w2 16 i0 1) fun v6 => job v4 fun y7 => jcb (f_J3_getBytes_k15 i2 y7 p1 v6 w2) fun _ w10 => some ((), w10)
abbrev rm_J1_putStringAt_a15 : Room := { frames := 2, cells := 0, slots := 0, locals := 83 }
set_option maxRecDepth 100000 in
set_option maxHeartbeats 4000000 in
theorem mt_J1_putStringAt_a15 {g : j_G} {B : j_B} {i0 : Nat} {p1 : Int32} {i2 : Nat} {w w' : j_St} (a0 : B.2.1 16 i0 ∧ B.2.2 16 i0) (b2 : B.2.1 15 i2 ∧ B.2.2 15 i2) {r : Unit} (h : f_J1_putStringAt_a15 i0 p1 i2 w = some (r, w')) : j_M g yJ1_putStringAt cJ1_putStringAt 3 none rm_J1_putStringAt_a15 B [.ref (B.1 16 i0), .int p1, .ref (B.1 15 i2)] w w' (jrv r) := by
  refine j_met (rv := jrv) (by decide) (Nat.le_of_ble_eq_true rfl) (fun x hx => ?_) h
  unfold f_J1_putStringAt_a15
  refine J.sub (lv' := [(0, .ref (B.1 16 i0)), (1, .int p1), (2, .ref (B.1 15 i2))]) [0, 1, 2] rfl ?_
  refine J.aload_n hx dJ1_putStringAt_0 rfl 0 rfl ?_
  refine J.aload_n hx dJ1_putStringAt_1 rfl 2 rfl ?_
  refine J.callv hx (fun r z1 z => j_callP (κ := 16) (y0 := yJ1_isLatin1) hx rfl rfl a0.1 (mt_J1_inflateIfNeededFor_a15 a0 b2 z) (lw_meth q1422) q1419 q1421 q132 (j_nl q1420 rfl) q592 rfl q2355 hd_J1_inflateIfNeededFor.2 rfl ⟨Nat.le_of_ble_eq_true rfl, Nat.le_of_ble_eq_true rfl⟩ (Nat.le_of_ble_eq_true rfl) dJ1_putStringAt_2) ⟨⟨rfl, rfl⟩, (Nat.le_of_ble_eq_true rfl), (Nat.le_of_ble_eq_true rfl)⟩ fun _ w2 e3 => ?_
  refine J.aload_n hx dJ1_putStringAt_5 rfl 2 rfl ?_
  refine J.aload_n hx dJ1_putStringAt_6 rfl 0 rfl ?_
  refine J.getr (κ' := 70) (κ := 16) (k := 0) hx rfl rfl rfl rfl in_J2 (by decide) (Or.inl q534) a0.1 dJ1_putStringAt_7 fun v4 h5 => ?_
  refine J.iload_n hx dJ1_putStringAt_10 rfl 1 rfl ?_
  refine J.aload_n hx dJ1_putStringAt_11 rfl 0 rfl ?_
  refine J.geti (κ := 16) (k := 1) hx rfl rfl rfl in_J2 (by decide) (Or.inl q535) a0.1 dJ1_putStringAt_12 fun v6 => ?_
  refine J.obU fun y7 e8 => ?_
  subst e8
  refine J.callv hx (fun r z1 z => j_callV (κ := 15) hx rfl rfl b2.1 (mt_J3_getBytes_k15 b2 (h5 y7 rfl) z) (lw_V q1424 q1425 q1426 q134 q1427) hd_J3_getBytes rfl ⟨Nat.le_of_ble_eq_true rfl, Nat.le_of_ble_eq_true rfl⟩ (Nat.le_of_ble_eq_true rfl) dJ1_putStringAt_15) ⟨⟨rfl, rfl⟩, (Nat.le_of_ble_eq_true rfl), (Nat.le_of_ble_eq_true rfl)⟩ fun _ w10 e11 => ?_
  exact J.vret hx rfl (Nat.le_of_ble_eq_true rfl) (Nat.le_of_ble_eq_true rfl) dJ1_putStringAt_18
theorem hd_J1_append_2 : yJ1_append_2.cls = RJ1 ∧ yJ1_append_2.cls ≠ "java/lang/invoke/MethodHandle" ∧ yJ1_append_2.cls ≠ "java/lang/invoke/VarHandle" ∧ (parseMethodDescriptor yJ1_append_2.desc).map (fun d => d.parameters.length) = some 1 := by decide +kernel
def f_J1_append_2_a15 (i0 : Nat) (i1 : Nat) (w : j_St) : Option (Nat × j_St) := jcb (f_J3_length_k15 i1 w) fun v1 w2 => jlt (jgi w2 16 i0 3) fun v4 => jcb (f_J1_ensureCapacityInternal i0 (v4 + v1) w2) fun _ w6 => jlt (jgi w6 16 i0 3) fun v11 => jcb (f_J1_putStringAt_a15 i0 v11 i1 w6) fun _ w13 => jlt (jgi w13 16 i0 3) fun v15 => jlt (jsi w13 16 i0 3 (v15 + v1)) fun w16 => some (i0, w16)
abbrev rm_J1_append_2_a15 : Room := { frames := 4, cells := 1, slots := 600, locals := 105 }
set_option maxRecDepth 100000 in
set_option maxHeartbeats 4000000 in
theorem mt_J1_append_2_a15 {g : j_G} {B : j_B} {i0 : Nat} {i1 : Nat} {w w' : j_St} (a0 : B.2.1 16 i0 ∧ B.2.2 16 i0) (b1 : B.2.1 15 i1 ∧ B.2.2 15 i1)  {r : Nat} (h : f_J1_append_2_a15 i0 i1 w = some (r, w')) : j_MA g yJ1_append_2 cJ1_append_2 3 (some (FieldType.object "java/lang/AbstractStringBuilder")) rm_J1_append_2_a15 B [.ref (B.1 16 i0), .ref (B.1 15 i1)] w w' ((fun r B => jrr B 16 r) r) ((fun r _ B9 => B9.2.1 16 r ∧ B9.2.2 16 r) r w') := by
  refine j_metA (rv := (fun r B => jrr B 16 r)) (PB := (fun r _ B9 => B9.2.1 16 r ∧ B9.2.2 16 r)) (by decide) (Nat.le_of_ble_eq_true rfl) (fun x hx hnm => ?_) h
  unfold f_J1_append_2_a15
  refine J.sub (lv' := [(0, .ref (B.1 16 i0)), (1, .ref (B.1 15 i1))]) [0, 1] rfl ?_
  refine J.aload_n hx dJ1_append_2_0 rfl 1 rfl ?_
  refine J.ifnonnullR (tgt := 9) hx dJ1_append_2_1 (by decide) ?_
  refine J.aload_n hx dJ1_append_2_9 rfl 1 rfl ?_
  refine J.calli hx (fun r z1 z => j_callV (κ := 15) hx rfl rfl b1.1 (mt_J3_length_k15 b1 z) (lw_V q1414 q874 q2350 q134 q876) hd_J3_length rfl ⟨Nat.le_of_ble_eq_true rfl, Nat.le_of_ble_eq_true rfl⟩ (Nat.le_of_ble_eq_true rfl) dJ1_append_2_10) ⟨⟨rfl, rfl⟩, (Nat.le_of_ble_eq_true rfl), (Nat.le_of_ble_eq_true rfl)⟩ fun v1 w2 e3 => ?_
  refine J.istore_n (lv' := [(2, .int v1), (0, .ref (B.1 16 i0)), (1, .ref (B.1 15 i1))]) hx dJ1_append_2_13 rfl (by decide) rfl ?_
  refine J.aload_n hx dJ1_append_2_14 rfl 1 rfl ?_
  refine J.aload_n hx dJ1_append_2_15 rfl 1 rfl ?_
  refine J.geti (κ := 16) (k := 3) hx rfl rfl rfl in_J2 (by decide) (Or.inl q537) a0.1 dJ1_append_2_16 fun v4 => ?_
  refine J.iload_n hx dJ1_append_2_19 rfl 0 rfl ?_
  refine J.iadd hx dJ1_append_2_20 ?_
  refine J.callAv hx (fun r z1 z => j_callA_of (j_runP (κ := 16) (y0 := yJ1_isLatin1) hx rfl rfl a0.1 (mt_J1_ensureCapacityInternal a0 z) (lw_meth q561) q558 q560 q132 (j_nl q559 rfl) q592 rfl q2346 hd_J1_ensureCapacityInternal.2 rfl ⟨Nat.le_of_ble_eq_true rfl, Nat.le_of_ble_eq_true rfl⟩ (Nat.le_of_ble_eq_true rfl) dJ1_append_2_21)) ⟨Nat.le_of_ble_eq_true rfl, Nat.le_of_ble_eq_true rfl⟩ fun _ w6 B8 e7 x9 x10 => ?_
  refine J.cv (lv' := [(2, .int v1), (0, .ref (B8.1 16 i0)), (1, .ref (B8.1 15 i1))]) (st' := []) (by first | rfl | (simp only [x9.ad a0, x9.ad b1]; done) | (simp only [x9.ad a0, x9.ad b1]; rfl)) (by first | rfl | (simp only [x9.ad a0, x9.ad b1]; done) | (simp only [x9.ad a0, x9.ad b1]; rfl)) ?_
  refine J.aload_n hx dJ1_append_2_24 rfl 1 rfl ?_
  refine J.aload_n hx dJ1_append_2_25 rfl 1 rfl ?_
  refine J.geti (κ := 16) (k := 3) hx rfl rfl rfl in_J2 (by decide) (Or.inl q537) (x9.mv a0).1 dJ1_append_2_26 fun v11 => ?_
  refine J.aload_n hx dJ1_append_2_29 rfl 2 rfl ?_
  refine J.callv hx (fun r z1 z => j_callP (κ := 16) (y0 := yJ1_isLatin1) hx rfl rfl (x9.mv a0).1 (mt_J1_putStringAt_a15 (x9.mv a0) (x9.mv b1) z) (lw_meth q1418) q1415 q1417 q132 (j_nl q1416 rfl) q592 rfl q2354 hd_J1_putStringAt.2 rfl ⟨Nat.le_of_ble_eq_true rfl, Nat.le_of_ble_eq_true rfl⟩ (Nat.le_of_ble_eq_true rfl) dJ1_append_2_30) ⟨⟨rfl, rfl⟩, (Nat.le_of_ble_eq_true rfl), (Nat.le_of_ble_eq_true rfl)⟩ fun _ w13 e14 => ?_
  refine J.aload_n hx dJ1_append_2_33 rfl 1 rfl ?_
  refine J.dup hx dJ1_append_2_34 rfl ?_
  refine J.geti (κ := 16) (k := 3) hx rfl rfl rfl in_J2 (by decide) (Or.inl q537) (x9.mv a0).1 dJ1_append_2_35 fun v15 => ?_
  refine J.iload_n hx dJ1_append_2_38 rfl 0 rfl ?_
  refine J.iadd hx dJ1_append_2_39 ?_
  refine J.puti (κ := 16) (k := 3) hx rfl rfl rfl in_J2 tyJ2_ok nmJ2 (by decide) (Or.inl q537) rfl rfl (x9.mv a0).1 ⟨rfl, rfl⟩ dJ1_append_2_40 fun w16 => ?_
  refine J.aload_n hx dJ1_append_2_43 rfl 1 rfl ?_
  exact J.aretA (κ := 16) (q := i0) hx (j_ext.rf.tr x9) (x9.mv a0) rfl (Or.inl ⟨_, rfl⟩) (Nat.le_of_ble_eq_true rfl) (Nat.le_of_ble_eq_true rfl) dJ1_append_2_44
theorem hd_J2_append_2 : yJ2_append_2.cls = RJ2 ∧ yJ2_append_2.cls ≠ "java/lang/invoke/MethodHandle" ∧ yJ2_append_2.cls ≠ "java/lang/invoke/VarHandle" ∧ (parseMethodDescriptor yJ2_append_2.desc).map (fun d => d.parameters.length) = some 1 := by decide +kernel
def f_J2_append_2_a15 (i0 : Nat) (i1 : Nat) (w : j_St) : Option (Nat × j_St) := jcb (f_J1_append_2_a15 i0 i1 w) fun v1 w2 => some (i0, w2)
abbrev rm_J2_append_2_a15 : Room := { frames := 5, cells := 1, slots := 600, locals := 127 }
set_option maxRecDepth 100000 in
set_option maxHeartbeats 4000000 in
theorem mt_J2_append_2_a15 {g : j_G} {B : j_B} {i0 : Nat} {i1 : Nat} {w w' : j_St} (a0 : B.2.1 16 i0 ∧ B.2.2 16 i0) (b1 : B.2.1 15 i1 ∧ B.2.2 15 i1)  {r : Nat} (h : f_J2_append_2_a15 i0 i1 w = some (r, w')) : j_MA g yJ2_append_2 cJ2_append_2 2 (some (FieldType.object "java/lang/StringBuilder")) rm_J2_append_2_a15 B [.ref (B.1 16 i0), .ref (B.1 15 i1)] w w' ((fun r B => jrr B 16 r) r) ((fun r _ B9 => B9.2.1 16 r ∧ B9.2.2 16 r) r w') := by
  refine j_metA (rv := (fun r B => jrr B 16 r)) (PB := (fun r _ B9 => B9.2.1 16 r ∧ B9.2.2 16 r)) (by decide) (Nat.le_of_ble_eq_true rfl) (fun x hx hnm => ?_) h
  unfold f_J2_append_2_a15
  refine J.sub (lv' := [(0, .ref (B.1 16 i0)), (1, .ref (B.1 15 i1))]) [0, 1] rfl ?_
  refine J.aload_n hx dJ2_append_2_0 rfl 0 rfl ?_
  refine J.aload_n hx dJ2_append_2_1 rfl 1 rfl ?_
  refine J.callAr (κ := 16) hx (fun r z1 z => j_callA_of (j_runSU (κ := 16) hx rfl rfl a0.1 (mt_J1_append_2_a15 a0 b1 z) (j_wSU q1395 q2352 q546 q1396 q132 q1397) ⟨by decide +kernel, hd_J1_append_2.2.2.2⟩ rfl ⟨Nat.le_of_ble_eq_true rfl, Nat.le_of_ble_eq_true rfl⟩ (Nat.le_of_ble_eq_true rfl) dJ2_append_2_2)) ⟨Nat.le_of_ble_eq_true rfl, Nat.le_of_ble_eq_true rfl⟩ fun v1 w2 B4 e3 x5 x6 => ?_
  refine J.cv (lv' := [(0, .ref (B4.1 16 i0)), (1, .ref (B4.1 15 i1))]) (st' := [.ref (B4.1 16 v1)]) (by first | rfl | (simp only [x5.ad a0, x5.ad b1]; done) | (simp only [x5.ad a0, x5.ad b1]; rfl)) (by first | rfl | (simp only [x5.ad a0, x5.ad b1]; done) | (simp only [x5.ad a0, x5.ad b1]; rfl)) ?_
  refine J.pop hx dJ2_append_2_5 rfl ?_
  refine J.aload_n hx dJ2_append_2_6 rfl 0 rfl ?_
  exact J.aretA (κ := 16) (q := i0) hx (j_ext.rf.tr x5) (x5.mv a0) rfl (Or.inl ⟨_, rfl⟩) (Nat.le_of_ble_eq_true rfl) (Nat.le_of_ble_eq_true rfl) dJ2_append_2_7
def f_J1_inflateIfNeededFor_a17 (i0 : Nat) (i1 : Nat) (w : j_St) : Option (Unit × j_St) := if (1 : Int32) = 0 then some ((), w) else jlt (jgi w 16 i0 1) fun v1 => jcb (f_J3_coder_k17 i1 w) fun v2 w3 => if v1 = v2 then some ((), w3) else none
abbrev rm_J1_inflateIfNeededFor_a17 : Room := { frames := 1, cells := 0, slots := 0, locals := 20 }
set_option maxRecDepth 100000 in
set_option maxHeartbeats 4000000 in
theorem mt_J1_inflateIfNeededFor_a17 {g : j_G} {B : j_B} {i0 : Nat} {i1 : Nat} {w w' : j_St} (a0 : B.2.1 16 i0 ∧ B.2.2 16 i0) (b1 : B.2.1 17 i1 ∧ B.2.2 17 i1) {r : Unit} (h : f_J1_inflateIfNeededFor_a17 i0 i1 w = some (r, w')) : j_M g yJ1_inflateIfNeededFor cJ1_inflateIfNeededFor 2 none rm_J1_inflateIfNeededFor_a17 B [.ref (B.1 16 i0), .ref (B.1 17 i1)] w w' (jrv r) := by
  refine j_met (rv := jrv) (by decide) (Nat.le_of_ble_eq_true rfl) (fun x hx => ?_) h
  unfold f_J1_inflateIfNeededFor_a17
  refine J.sub (lv' := [(0, .ref (B.1 16 i0)), (1, .ref (B.1 17 i1))]) [0, 1] rfl ?_
  refine J.gets (t := 13) (v := .int 1) hx rfl q525 dJ1_inflateIfNeededFor_0 ?_
  refine J.if_eq (tgt := 21) hx dJ1_inflateIfNeededFor_3 (by decide) ?_ ?_
  · exact J.vret hx rfl (Nat.le_of_ble_eq_true rfl) (Nat.le_of_ble_eq_true rfl) dJ1_inflateIfNeededFor_21
  · refine J.aload_n hx dJ1_inflateIfNeededFor_6 rfl 0 rfl ?_
    refine J.geti (κ := 16) (k := 1) hx rfl rfl rfl in_J2 (by decide) (Or.inl q535) a0.1 dJ1_inflateIfNeededFor_7 fun v1 => ?_
    refine J.aload_n hx dJ1_inflateIfNeededFor_10 rfl 1 rfl ?_
    refine J.calli hx (fun r z1 z => j_callV9 (κ := 17) hx rfl rfl b1.1 (mt_J3_coder_k17 b1 z) (lw_V q1423 q878 q879 q134 q880) hd_J3_coder rfl ⟨Nat.le_of_ble_eq_true rfl, Nat.le_of_ble_eq_true rfl⟩ (Nat.le_of_ble_eq_true rfl) dJ1_inflateIfNeededFor_11) ⟨⟨rfl, rfl⟩, (Nat.le_of_ble_eq_true rfl), (Nat.le_of_ble_eq_true rfl)⟩ fun v2 w3 e4 => ?_
    refine J.icmp_eq (tgt := 21) hx dJ1_inflateIfNeededFor_14 (by decide) ?_ ?_
    · exact J.vret hx rfl (Nat.le_of_ble_eq_true rfl) (Nat.le_of_ble_eq_true rfl) dJ1_inflateIfNeededFor_21
    · exact J.nne
def f_J1_putStringAt_a17 (i0 : Nat) (p1 : Int32) (i2 : Nat) (w : j_St) : Option (Unit × j_St) := jcb (f_J1_inflateIfNeededFor_a17 i0 i2 w) fun _ w2 => jlt (jgr w2 16 i0 0) fun v4 => jlt (jgi w2 16 i0 1) fun v6 => job v4 fun y7 => jcb (f_J3_getBytes_k17 i2 y7 p1 v6 w2) fun _ w10 => some ((), w10)
abbrev rm_J1_putStringAt_a17 : Room := { frames := 2, cells := 0, slots := 0, locals := 83 }
set_option maxRecDepth 100000 in
set_option maxHeartbeats 4000000 in
theorem mt_J1_putStringAt_a17 {g : j_G} {B : j_B} {i0 : Nat} {p1 : Int32} {i2 : Nat} {w w' : j_St} (a0 : B.2.1 16 i0 ∧ B.2.2 16 i0) (b2 : B.2.1 17 i2 ∧ B.2.2 17 i2) {r : Unit} (h : f_J1_putStringAt_a17 i0 p1 i2 w = some (r, w')) : j_M g yJ1_putStringAt cJ1_putStringAt 3 none rm_J1_putStringAt_a17 B [.ref (B.1 16 i0), .int p1, .ref (B.1 17 i2)] w w' (jrv r) := by
  refine j_met (rv := jrv) (by decide) (Nat.le_of_ble_eq_true rfl) (fun x hx => ?_) h
  unfold f_J1_putStringAt_a17
  refine J.sub (lv' := [(0, .ref (B.1 16 i0)), (1, .int p1), (2, .ref (B.1 17 i2))]) [0, 1, 2] rfl ?_
  refine J.aload_n hx dJ1_putStringAt_0 rfl 0 rfl ?_
  refine J.aload_n hx dJ1_putStringAt_1 rfl 2 rfl ?_
  refine J.callv hx (fun r z1 z => j_callP (κ := 16) (y0 := yJ1_isLatin1) hx rfl rfl a0.1 (mt_J1_inflateIfNeededFor_a17 a0 b2 z) (lw_meth q1422) q1419 q1421 q132 (j_nl q1420 rfl) q592 rfl q2355 hd_J1_inflateIfNeededFor.2 rfl ⟨Nat.le_of_ble_eq_true rfl, Nat.le_of_ble_eq_true rfl⟩ (Nat.le_of_ble_eq_true rfl) dJ1_putStringAt_2) ⟨⟨rfl, rfl⟩, (Nat.le_of_ble_eq_true rfl), (Nat.le_of_ble_eq_true rfl)⟩ fun _ w2 e3 => ?_
  refine J.aload_n hx dJ1_putStringAt_5 rfl 2 rfl ?_
  refine J.aload_n hx dJ1_putStringAt_6 rfl 0 rfl ?_
  refine J.getr (κ' := 70) (κ := 16) (k := 0) hx rfl rfl rfl rfl in_J2 (by decide) (Or.inl q534) a0.1 dJ1_putStringAt_7 fun v4 h5 => ?_
  refine J.iload_n hx dJ1_putStringAt_10 rfl 1 rfl ?_
  refine J.aload_n hx dJ1_putStringAt_11 rfl 0 rfl ?_
  refine J.geti (κ := 16) (k := 1) hx rfl rfl rfl in_J2 (by decide) (Or.inl q535) a0.1 dJ1_putStringAt_12 fun v6 => ?_
  refine J.obU fun y7 e8 => ?_
  subst e8
  refine J.callv hx (fun r z1 z => j_callV9 (κ := 17) hx rfl rfl b2.1 (mt_J3_getBytes_k17 b2 (h5 y7 rfl) z) (lw_V q1424 q1425 q1426 q134 q1427) hd_J3_getBytes rfl ⟨Nat.le_of_ble_eq_true rfl, Nat.le_of_ble_eq_true rfl⟩ (Nat.le_of_ble_eq_true rfl) dJ1_putStringAt_15) ⟨⟨rfl, rfl⟩, (Nat.le_of_ble_eq_true rfl), (Nat.le_of_ble_eq_true rfl)⟩ fun _ w10 e11 => ?_
  exact J.vret hx rfl (Nat.le_of_ble_eq_true rfl) (Nat.le_of_ble_eq_true rfl) dJ1_putStringAt_18
def f_J1_append_2_a17 (i0 : Nat) (i1 : Nat) (w : j_St) : Option (Nat × j_St) := jcb (f_J3_length_k17 i1 w) fun v1 w2 => jlt (jgi w2 16 i0 3) fun v4 => jcb (f_J1_ensureCapacityInternal i0 (v4 + v1) w2) fun _ w6 => jlt (jgi w6 16 i0 3) fun v11 => jcb (f_J1_putStringAt_a17 i0 v11 i1 w6) fun _ w13 => jlt (jgi w13 16 i0 3) fun v15 => jlt (jsi w13 16 i0 3 (v15 + v1)) fun w16 => some (i0, w16)
abbrev rm_J1_append_2_a17 : Room := { frames := 4, cells := 1, slots := 600, locals := 105 }
set_option maxRecDepth 100000 in
set_option maxHeartbeats 4000000 in
theorem mt_J1_append_2_a17 {g : j_G} {B : j_B} {i0 : Nat} {i1 : Nat} {w w' : j_St} (a0 : B.2.1 16 i0 ∧ B.2.2 16 i0) (b1 : B.2.1 17 i1 ∧ B.2.2 17 i1)  {r : Nat} (h : f_J1_append_2_a17 i0 i1 w = some (r, w')) : j_MA g yJ1_append_2 cJ1_append_2 3 (some (FieldType.object "java/lang/AbstractStringBuilder")) rm_J1_append_2_a17 B [.ref (B.1 16 i0), .ref (B.1 17 i1)] w w' ((fun r B => jrr B 16 r) r) ((fun r _ B9 => B9.2.1 16 r ∧ B9.2.2 16 r) r w') := by
  refine j_metA (rv := (fun r B => jrr B 16 r)) (PB := (fun r _ B9 => B9.2.1 16 r ∧ B9.2.2 16 r)) (by decide) (Nat.le_of_ble_eq_true rfl) (fun x hx hnm => ?_) h
  unfold f_J1_append_2_a17
  refine J.sub (lv' := [(0, .ref (B.1 16 i0)), (1, .ref (B.1 17 i1))]) [0, 1] rfl ?_
  refine J.aload_n hx dJ1_append_2_0 rfl 1 rfl ?_
  refine J.ifnonnullR (tgt := 9) hx dJ1_append_2_1 (by decide) ?_
  refine J.aload_n hx dJ1_append_2_9 rfl 1 rfl ?_
  refine J.calli hx (fun r z1 z => j_callV9 (κ := 17) hx rfl rfl b1.1 (mt_J3_length_k17 b1 z) (lw_V q1414 q874 q2350 q134 q876) hd_J3_length rfl ⟨Nat.le_of_ble_eq_true rfl, Nat.le_of_ble_eq_true rfl⟩ (Nat.le_of_ble_eq_true rfl) dJ1_append_2_10) ⟨⟨rfl, rfl⟩, (Nat.le_of_ble_eq_true rfl), (Nat.le_of_ble_eq_true rfl)⟩ fun v1 w2 e3 => ?_
  refine J.istore_n (lv' := [(2, .int v1), (0, .ref (B.1 16 i0)), (1, .ref (B.1 17 i1))]) hx dJ1_append_2_13 rfl (by decide) rfl ?_
  refine J.aload_n hx dJ1_append_2_14 rfl 1 rfl ?_
  refine J.aload_n hx dJ1_append_2_15 rfl 1 rfl ?_
  refine J.geti (κ := 16) (k := 3) hx rfl rfl rfl in_J2 (by decide) (Or.inl q537) a0.1 dJ1_append_2_16 fun v4 => ?_
  refine J.iload_n hx dJ1_append_2_19 rfl 0 rfl ?_
  refine J.iadd hx dJ1_append_2_20 ?_
  refine J.callAv hx (fun r z1 z => j_callA_of (j_runP (κ := 16) (y0 := yJ1_isLatin1) hx rfl rfl a0.1 (mt_J1_ensureCapacityInternal a0 z) (lw_meth q561) q558 q560 q132 (j_nl q559 rfl) q592 rfl q2346 hd_J1_ensureCapacityInternal.2 rfl ⟨Nat.le_of_ble_eq_true rfl, Nat.le_of_ble_eq_true rfl⟩ (Nat.le_of_ble_eq_true rfl) dJ1_append_2_21)) ⟨Nat.le_of_ble_eq_true rfl, Nat.le_of_ble_eq_true rfl⟩ fun _ w6 B8 e7 x9 x10 => ?_
  refine J.cv (lv' := [(2, .int v1), (0, .ref (B8.1 16 i0)), (1, .ref (B8.1 17 i1))]) (st' := []) (by first | rfl | (simp only [x9.ad a0, x9.ad b1]; done) | (simp only [x9.ad a0, x9.ad b1]; rfl)) (by first | rfl | (simp only [x9.ad a0, x9.ad b1]; done) | (simp only [x9.ad a0, x9.ad b1]; rfl)) ?_
  refine J.aload_n hx dJ1_append_2_24 rfl 1 rfl ?_
  refine J.aload_n hx dJ1_append_2_25 rfl 1 rfl ?_
  refine J.geti (κ := 16) (k := 3) hx rfl rfl rfl in_J2 (by decide) (Or.inl q537) (x9.mv a0).1 dJ1_append_2_26 fun v11 => ?_
  refine J.aload_n hx dJ1_append_2_29 rfl 2 rfl ?_
  refine J.callv hx (fun r z1 z => j_callP (κ := 16) (y0 := yJ1_isLatin1) hx rfl rfl (x9.mv a0).1 (mt_J1_putStringAt_a17 (x9.mv a0) (x9.mv b1) z) (lw_meth q1418) q1415 q1417 q132 (j_nl q1416 rfl) q592 rfl q2354 hd_J1_putStringAt.2 rfl ⟨Nat.le_of_ble_eq_true rfl, Nat.le_of_ble_eq_true rfl⟩ (Nat.le_of_ble_eq_true rfl) dJ1_append_2_30) ⟨⟨rfl, rfl⟩, (Nat.le_of_ble_eq_true rfl), (Nat.le_of_ble_eq_true rfl)⟩ fun _ w13 e14 => ?_
  refine J.aload_n hx dJ1_append_2_33 rfl 1 rfl ?_
  refine J.dup hx dJ1_append_2_34 rfl ?_
  refine J.geti (κ := 16) (k := 3) hx rfl rfl rfl in_J2 (by decide) (Or.inl q537) (x9.mv a0).1 dJ1_append_2_35 fun v15 => ?_
  refine J.iload_n hx dJ1_append_2_38 rfl 0 rfl ?_
  refine J.iadd hx dJ1_append_2_39 ?_
  refine J.puti (κ := 16) (k := 3) hx rfl rfl rfl in_J2 tyJ2_ok nmJ2 (by decide) (Or.inl q537) rfl rfl (x9.mv a0).1 ⟨rfl, rfl⟩ dJ1_append_2_40 fun w16 => ?_
  refine J.aload_n hx dJ1_append_2_43 rfl 1 rfl ?_
  exact J.aretA (κ := 16) (q := i0) hx (j_ext.rf.tr x9) (x9.mv a0) rfl (Or.inl ⟨_, rfl⟩) (Nat.le_of_ble_eq_true rfl) (Nat.le_of_ble_eq_true rfl) dJ1_append_2_44
def f_J2_append_2_a17 (i0 : Nat) (i1 : Nat) (w : j_St) : Option (Nat × j_St) := jcb (f_J1_append_2_a17 i0 i1 w) fun v1 w2 => some (i0, w2)
abbrev rm_J2_append_2_a17 : Room := { frames := 5, cells := 1, slots := 600, locals := 127 }
set_option maxRecDepth 100000 in
set_option maxHeartbeats 4000000 in
theorem mt_J2_append_2_a17 {g : j_G} {B : j_B} {i0 : Nat} {i1 : Nat} {w w' : j_St} (a0 : B.2.1 16 i0 ∧ B.2.2 16 i0) (b1 : B.2.1 17 i1 ∧ B.2.2 17 i1)  {r : Nat} (h : f_J2_append_2_a17 i0 i1 w = some (r, w')) : j_MA g yJ2_append_2 cJ2_append_2 2 (some (FieldType.object "java/lang/StringBuilder")) rm_J2_append_2_a17 B [.ref (B.1 16 i0), .ref (B.1 17 i1)] w w' ((fun r B => jrr B 16 r) r) ((fun r _ B9 => B9.2.1 16 r ∧ B9.2.2 16 r) r w') := by
  refine j_metA (rv := (fun r B => jrr B 16 r)) (PB := (fun r _ B9 => B9.2.1 16 r ∧ B9.2.2 16 r)) (by decide) (Nat.le_of_ble_eq_true rfl) (fun x hx hnm => ?_) h
  unfold f_J2_append_2_a17
  refine J.sub (lv' := [(0, .ref (B.1 16 i0)), (1, .ref (B.1 17 i1))]) [0, 1] rfl ?_
  refine J.aload_n hx dJ2_append_2_0 rfl 0 rfl ?_
  refine J.aload_n hx dJ2_append_2_1 rfl 1 rfl ?_
  refine J.callAr (κ := 16) hx (fun r z1 z => j_callA_of (j_runSU (κ := 16) hx rfl rfl a0.1 (mt_J1_append_2_a17 a0 b1 z) (j_wSU q1395 q2352 q546 q1396 q132 q1397) ⟨by decide +kernel, hd_J1_append_2.2.2.2⟩ rfl ⟨Nat.le_of_ble_eq_true rfl, Nat.le_of_ble_eq_true rfl⟩ (Nat.le_of_ble_eq_true rfl) dJ2_append_2_2)) ⟨Nat.le_of_ble_eq_true rfl, Nat.le_of_ble_eq_true rfl⟩ fun v1 w2 B4 e3 x5 x6 => ?_
  refine J.cv (lv' := [(0, .ref (B4.1 16 i0)), (1, .ref (B4.1 17 i1))]) (st' := [.ref (B4.1 16 v1)]) (by first | rfl | (simp only [x5.ad a0, x5.ad b1]; done) | (simp only [x5.ad a0, x5.ad b1]; rfl)) (by first | rfl | (simp only [x5.ad a0, x5.ad b1]; done) | (simp only [x5.ad a0, x5.ad b1]; rfl)) ?_
  refine J.pop hx dJ2_append_2_5 rfl ?_
  refine J.aload_n hx dJ2_append_2_6 rfl 0 rfl ?_
  exact J.aretA (κ := 16) (q := i0) hx (j_ext.rf.tr x5) (x5.mv a0) rfl (Or.inl ⟨_, rfl⟩) (Nat.le_of_ble_eq_true rfl) (Nat.le_of_ble_eq_true rfl) dJ2_append_2_7
theorem hd_J3_valueOf : yJ3_valueOf.cls = RJ3 ∧ yJ3_valueOf.cls ≠ "java/lang/invoke/MethodHandle" ∧ yJ3_valueOf.cls ≠ "java/lang/invoke/VarHandle" ∧ (parseMethodDescriptor yJ3_valueOf.desc).map (fun d => d.parameters.length) = some 1 := by decide +kernel
def f_J3_valueOf (i0 : Nat) (w : j_St) : Option (Nat × j_St) := jcb (f_J2_toString i0 w) fun v1 w2 => some (v1, w2)
abbrev rm_J3_valueOf : Room := { frames := 6, cells := 2, slots := 604, locals := 171 }
set_option maxRecDepth 100000 in
set_option maxHeartbeats 4000000 in
theorem mt_J3_valueOf {g : j_G} {B : j_B} {i0 : Nat} {w w' : j_St} (b0 : B.2.1 16 i0 ∧ B.2.2 16 i0)  {r : Nat} (h : f_J3_valueOf i0 w = some (r, w')) : j_MA g yJ3_valueOf cJ3_valueOf 1 (some (FieldType.object "java/lang/String")) rm_J3_valueOf B [.ref (B.1 16 i0)] w w' ((fun r B => jrr B 15 r) r) ((fun r _ B9 => B9.2.1 15 r ∧ B9.2.2 15 r) r w') := by
  refine j_metA (rv := (fun r B => jrr B 15 r)) (PB := (fun r _ B9 => B9.2.1 15 r ∧ B9.2.2 15 r)) (by decide) (Nat.le_of_ble_eq_true rfl) (fun x hx hnm => ?_) h
  unfold f_J3_valueOf
  refine J.sub (lv' := [(0, .ref (B.1 16 i0))]) [0] rfl ?_
  refine J.aload_n hx dJ3_valueOf_0 rfl 0 rfl ?_
  refine J.ifnonnullR (tgt := 10) hx dJ3_valueOf_1 (by decide) ?_
  refine J.aload_n hx dJ3_valueOf_10 rfl 0 rfl ?_
  refine J.callAr (κ := 15) hx (fun r z1 z => j_callA_of (j_runOD (κ := 16) (owner := "java/lang/Object") (z := ⟨"java/lang/Object", "toString", "()Ljava/lang/String;"⟩) hx rfl rfl b0.1 (mt_J2_toString b0 z) (j_wO q1439 q1441 q1440 q1494 q655 q133 q657) (j_nl q1438 rfl) (by decide +kernel) rfl ⟨Nat.le_of_ble_eq_true rfl, Nat.le_of_ble_eq_true rfl⟩ (Nat.le_of_ble_eq_true rfl) dJ3_valueOf_11)) ⟨Nat.le_of_ble_eq_true rfl, Nat.le_of_ble_eq_true rfl⟩ fun v1 w2 B4 e3 x5 x6 => ?_
  refine J.cv (lv' := [(0, .ref (B4.1 16 i0))]) (st' := [.ref (B4.1 15 v1)]) (by first | rfl | (simp only [x5.ad b0]; done) | (simp only [x5.ad b0]; rfl)) (by first | rfl | (simp only [x5.ad b0]; done) | (simp only [x5.ad b0]; rfl)) ?_
  exact J.aretA (κ := 15) (q := v1) hx (j_ext.rf.tr x5) x6 rfl (Or.inl ⟨_, rfl⟩) (Nat.le_of_ble_eq_true rfl) (Nat.le_of_ble_eq_true rfl) dJ3_valueOf_14
theorem hd_J2_append_3 : yJ2_append_3.cls = RJ2 ∧ yJ2_append_3.cls ≠ "java/lang/invoke/MethodHandle" ∧ yJ2_append_3.cls ≠ "java/lang/invoke/VarHandle" ∧ (parseMethodDescriptor yJ2_append_3.desc).map (fun d => d.parameters.length) = some 1 := by decide +kernel
def f_J2_append_3 (i0 : Nat) (i1 : Nat) (w : j_St) : Option (Nat × j_St) := jcb (f_J3_valueOf i1 w) fun v1 w2 => jcb (f_J2_append_2_a15 i0 v1 w2) fun v7 w8 => some (v7, w8)
abbrev rm_J2_append_3 : Room := { frames := 7, cells := 3, slots := 1204, locals := 191 }
set_option maxRecDepth 100000 in
set_option maxHeartbeats 4000000 in
theorem mt_J2_append_3 {g : j_G} {B : j_B} {i0 : Nat} {i1 : Nat} {w w' : j_St} (a0 : B.2.1 16 i0 ∧ B.2.2 16 i0) (b1 : B.2.1 16 i1 ∧ B.2.2 16 i1)  {r : Nat} (h : f_J2_append_3 i0 i1 w = some (r, w')) : j_MA g yJ2_append_3 cJ2_append_3 2 (some (FieldType.object "java/lang/StringBuilder")) rm_J2_append_3 B [.ref (B.1 16 i0), .ref (B.1 16 i1)] w w' ((fun r B => jrr B 16 r) r) ((fun r _ B9 => B9.2.1 16 r ∧ B9.2.2 16 r) r w') := by
  refine j_metA (rv := (fun r B => jrr B 16 r)) (PB := (fun r _ B9 => B9.2.1 16 r ∧ B9.2.2 16 r)) (by decide) (Nat.le_of_ble_eq_true rfl) (fun x hx hnm => ?_) h
  unfold f_J2_append_3
  refine J.sub (lv' := [(0, .ref (B.1 16 i0)), (1, .ref (B.1 16 i1))]) [0, 1] rfl ?_
  refine J.aload_n hx dJ2_append_3_0 rfl 0 rfl ?_
  refine J.aload_n hx dJ2_append_3_1 rfl 1 rfl ?_
  refine J.callAr (κ := 15) hx (fun r z1 z => j_callA_of (j_runS hx (mt_J3_valueOf b1 z) (lw_S q1434 q1435 q134 q1436) hd_J3_valueOf.2 rfl ⟨Nat.le_of_ble_eq_true rfl, Nat.le_of_ble_eq_true rfl⟩ (Nat.le_of_ble_eq_true rfl) dJ2_append_3_2)) ⟨Nat.le_of_ble_eq_true rfl, Nat.le_of_ble_eq_true rfl⟩ fun v1 w2 B4 e3 x5 x6 => ?_
  refine J.cv (lv' := [(0, .ref (B4.1 16 i0)), (1, .ref (B4.1 16 i1))]) (st' := [.ref (B4.1 15 v1), .ref (B4.1 16 i0)]) (by first | rfl | (simp only [x5.ad a0, x5.ad b1]; done) | (simp only [x5.ad a0, x5.ad b1]; rfl)) (by first | rfl | (simp only [x5.ad a0, x5.ad b1]; done) | (simp only [x5.ad a0, x5.ad b1]; rfl)) ?_
  refine J.callAr (κ := 16) hx (fun r z1 z => j_callA_of (j_runV (κ := 16) hx rfl rfl (x5.mv a0).1 (mt_J2_append_2_a15 (x5.mv a0) x6 z) (lw_V q1496 q1392 q1393 q133 q1394) hd_J2_append_2 rfl ⟨Nat.le_of_ble_eq_true rfl, Nat.le_of_ble_eq_true rfl⟩ (Nat.le_of_ble_eq_true rfl) dJ2_append_3_5)) ⟨Nat.le_of_ble_eq_true rfl, Nat.le_of_ble_eq_true rfl⟩ fun v7 w8 B10 e9 x11 x12 => ?_
  refine J.cv (lv' := [(0, .ref (B10.1 16 i0)), (1, .ref (B10.1 16 i1))]) (st' := [.ref (B10.1 16 v7)]) (by first | rfl | (simp only [x11.ad (x5.mv a0), x11.ad (x5.mv b1)]; done) | (simp only [x11.ad (x5.mv a0), x11.ad (x5.mv b1)]; rfl)) (by first | rfl | (simp only [x11.ad (x5.mv a0), x11.ad (x5.mv b1)]; done) | (simp only [x11.ad (x5.mv a0), x11.ad (x5.mv b1)]; rfl)) ?_
  exact J.aretA (κ := 16) (q := v7) hx ((j_ext.rf.tr x5).tr x11) x12 rfl (Or.inl ⟨_, rfl⟩) (Nat.le_of_ble_eq_true rfl) (Nat.le_of_ble_eq_true rfl) dJ2_append_3_8
theorem hd_J13_stringSize : yJ13_stringSize.cls = RJ13 ∧ yJ13_stringSize.cls ≠ "java/lang/invoke/MethodHandle" ∧ yJ13_stringSize.cls ≠ "java/lang/invoke/VarHandle" ∧ (parseMethodDescriptor yJ13_stringSize.desc).map (fun d => d.parameters.length) = some 1 := by decide +kernel
def f_J13_stringSize_L16 (v2 : Int32) (k27 : Int32 → j_St → Option (Int32 × j_St)) (k42 : j_St → Option (Int32 × j_St)) : Nat → Int32 → Int32 → j_St → Option (Int32 × j_St)
  | 0, _, _, _ => none
  | n16 + 1, v5, v6, w7 => if 10 ≤ v6 then k42 w7 else if v2 ≤ v5 then jlt (10 * v5) fun v8 => jlt (v6 + 1) fun v9 => f_J13_stringSize_L16 v2 k27 k42 n16 v8 v9 w7 else k27 v6 w7
def f_J13_stringSize (p0 : Int32) (w : j_St) : Option (Int32 × j_St) := jlt (fun (v2 : Int32) (v3 : Int32) (w4 : j_St) => f_J13_stringSize_L16 v2 (fun (v10 : Int32) (w11 : j_St) => some (v10 + v3, w11)) (fun (w12 : j_St) => some (10 + v3, w12)) jFU (-10) 1 w4) fun K11 => if p0 < 0 then K11 p0 1 w else jlt (-p0) fun v1 => K11 v1 0 w
abbrev rm_J13_stringSize : Room := { frames := 0, cells := 0, slots := 0, locals := 0 }
set_option maxRecDepth 100000 in
set_option maxHeartbeats 4000000 in
theorem mt_J13_stringSize {g : j_G} {B : j_B} {p0 : Int32} {w w' : j_St}  {r : Int32} (h : f_J13_stringSize p0 w = some (r, w')) : j_M g yJ13_stringSize cJ13_stringSize 4 (some FieldType.int) rm_J13_stringSize B [.int p0] w w' (jri r) := by
  refine j_met (rv := jri) (by decide) (Nat.le_of_ble_eq_true rfl) (fun x hx => ?_) h
  unfold f_J13_stringSize
  refine J.sub (lv' := [(0, .int p0)]) [0] rfl ?_
  refine J.iconst (v := 1) hx dJ13_stringSize_0 (by decide) ?_
  refine J.istore_n (lv' := [(1, .int 1), (0, .int p0)]) hx dJ13_stringSize_1 rfl (by decide) rfl ?_
  refine J.iload_n hx dJ13_stringSize_2 rfl 1 rfl ?_
  refine J.fn (fun (K11 : Int32 → Int32 → j_St → Option (Int32 × j_St)) => ∀ (v2 : Int32) (v3 : Int32) (w4 : j_St), J g x 4 B (j_Q g x B rm_J13_stringSize jri) 0 0 (K11 v2 v3 w4) 11 [(0, .int v2), (1, .int v3)] [] w4) ?_ ?_
  · intro v2 v3 w4
    refine J.bipush (v := (-10)) hx dJ13_stringSize_11 (by decide) ?_
    refine J.istore_n (lv' := [(2, .int (-10)), (0, .int v2), (1, .int v3)]) hx dJ13_stringSize_13 rfl (by decide) rfl ?_
    refine J.iconst (v := 1) hx dJ13_stringSize_14 (by decide) ?_
    refine J.istore_n (lv' := [(3, .int 1), (2, .int (-10)), (0, .int v2), (1, .int v3)]) hx dJ13_stringSize_15 rfl (by decide) rfl ?_
    have hL16 : ∀ (k27 : Int32 → j_St → Option (Int32 × j_St)) (hk27 : ∀ (v10 : Int32) (w11 : j_St), J g x 4 B (j_Q g x B rm_J13_stringSize jri) 0 0 (k27 v10 w11) 27 [(1, .int v3), (3, .int v10)] [] w11) (k42 : j_St → Option (Int32 × j_St)) (hk42 : ∀  (w12 : j_St), J g x 4 B (j_Q g x B rm_J13_stringSize jri) 0 0 (k42 w12) 42 [(1, .int v3)] [] w12) (n16 : Nat) (v5 : Int32) (v6 : Int32) (w7 : j_St), J g x 4 B (j_Q g x B rm_J13_stringSize jri) 0 0 (f_J13_stringSize_L16 v2 k27 k42 n16 v5 v6 w7) 16 [(0, .int v2), (1, .int v3), (2, .int v5), (3, .int v6)] [] w7 := by
      intro k27 hk27 k42 hk42 n16
      induction n16 with
      | zero =>
        intro v5 v6 w7
        rw [f_J13_stringSize_L16]
        exact J.nne
      | succ n16 ih =>
        intro v5 v6 w7
        rw [f_J13_stringSize_L16]
        refine J.iload_n hx dJ13_stringSize_16 rfl 3 rfl ?_
        refine J.bipush (v := 10) hx dJ13_stringSize_17 (by decide) ?_
        refine J.icmp_ge (tgt := 42) hx dJ13_stringSize_19 (by decide) ?_ ?_
        · exact J.sub [1] rfl (hk42 w7)
        · refine J.iload_n hx dJ13_stringSize_22 rfl 0 rfl ?_
          refine J.iload_n hx dJ13_stringSize_23 rfl 2 rfl ?_
          refine J.icmp_le (tgt := 31) hx dJ13_stringSize_24 (by decide) ?_ ?_
          · refine J.bipush (v := 10) hx dJ13_stringSize_31 (by decide) ?_
            refine J.iload_n hx dJ13_stringSize_33 rfl 2 rfl ?_
            refine J.imul hx dJ13_stringSize_34 ?_
            refine J.nmi fun v8 => ?_
            refine J.istore_n (lv' := [(2, .int v8), (0, .int v2), (1, .int v3), (3, .int v6)]) hx dJ13_stringSize_35 rfl (by decide) rfl ?_
            refine J.nmx fun v9 ev9 => ?_
            refine J.iinc (p := 3) (v := v9) (lv' := [(3, .int v9), (2, .int v8), (0, .int v2), (1, .int v3)]) hx dJ13_stringSize_36 rfl (by rw [ev9]; rfl) (by decide) rfl ?_
            refine J.goto (tgt := 16) hx dJ13_stringSize_39 (by decide) ?_
            exact J.sub [2, 3, 1, 0] rfl (ih v8 v9 w7)
          · exact J.sub [1, 3] rfl (hk27 v6 w7)
    refine J.sub [2, 3, 1, 0] rfl (hL16 _ ?_ _ ?_ jFU (-10) 1 w4)
    · intro v10 w11
      refine J.iload_n hx dJ13_stringSize_27 rfl 1 rfl ?_
      refine J.iload_n hx dJ13_stringSize_28 rfl 0 rfl ?_
      refine J.iadd hx dJ13_stringSize_29 ?_
      exact J.iret hx rfl (Nat.le_of_ble_eq_true rfl) (Nat.le_of_ble_eq_true rfl) dJ13_stringSize_30
    · intro w12
      refine J.bipush (v := 10) hx dJ13_stringSize_42 (by decide) ?_
      refine J.iload_n hx dJ13_stringSize_44 rfl 0 rfl ?_
      refine J.iadd hx dJ13_stringSize_45 ?_
      exact J.iret hx rfl (Nat.le_of_ble_eq_true rfl) (Nat.le_of_ble_eq_true rfl) dJ13_stringSize_46
  · intro K11 hK11
    refine J.if_lt (tgt := 11) hx dJ13_stringSize_3 (by decide) ?_ ?_
    · exact J.sub [1, 0] rfl (hK11 p0 1 w)
    · refine J.iconst (v := 0) hx dJ13_stringSize_6 (by decide) ?_
      refine J.istore_n (lv' := [(1, .int 0), (0, .int p0)]) hx dJ13_stringSize_7 rfl (by decide) rfl ?_
      refine J.iload_n hx dJ13_stringSize_8 rfl 1 rfl ?_
      refine J.ineg hx dJ13_stringSize_9 ?_
      refine J.nmi fun v1 => ?_
      refine J.istore_n (lv' := [(0, .int v1), (1, .int 0)]) hx dJ13_stringSize_10 rfl (by decide) rfl ?_
      exact J.sub [0, 1] rfl (hK11 v1 0 w)
theorem hd_J13_getChars : yJ13_getChars.cls = RJ13 ∧ yJ13_getChars.cls ≠ "java/lang/invoke/MethodHandle" ∧ yJ13_getChars.cls ≠ "java/lang/invoke/VarHandle" ∧ (parseMethodDescriptor yJ13_getChars.desc).map (fun d => d.parameters.length) = some 3 := by decide +kernel
def f_J13_getChars_L22 (i2 : Nat) (k72 : Int32 → Int32 → j_St → Option (Int32 × j_St)) : Nat → Int32 → Int32 → j_St → Option (Int32 × j_St)
  | 0, _, _, _ => none
  | n22 + 1, v6, v7, w8 => if (-100) < v6 then k72 v6 v7 w8 else jlt (v6 / 100) fun v9 => jlt ((v9 * 100) - v6) fun v10 => jlt (v7 + (-1)) fun v11 => jbd v10 (jgn w8 72 0) fun a12 => jlt (jgi w8 72 0 a12) fun v13 => jbd v11 (jgn w8 70 i2) fun a15 => jlt (jsi w8 70 i2 a15 v13.toInt8.toInt32) fun w14 => jlt (v11 + (-1)) fun v16 => jbd v10 (jgn w14 72 1) fun a17 => jlt (jgi w14 72 1 a17) fun v18 => jbd v16 (jgn w14 70 i2) fun a20 => jlt (jsi w14 70 i2 a20 v18.toInt8.toInt32) fun w19 => f_J13_getChars_L22 i2 k72 n22 v9 v16 w19
def f_J13_getChars (p0 : Int32) (p1 : Int32) (i2 : Nat) (w : j_St) : Option (Int32 × j_St) := jlt (fun (v1 : Int32) (w2 : j_St) => jlt (fun (v4 : Int32) (w5 : j_St) => f_J13_getChars_L22 i2 (fun (v21 : Int32) (v22 : Int32) (w23 : j_St) => jlt (v22 + (-1)) fun v24 => jbd (-v21) (jgn w23 72 0) fun a25 => jlt (jgi w23 72 0 a25) fun v26 => jbd v24 (jgn w23 70 i2) fun a28 => jlt (jsi w23 70 i2 a28 v26.toInt8.toInt32) fun w27 => jlt (fun (v34 : Int32) (w35 : j_St) => if v1 = 0 then some (v34, w35) else jlt (v34 + (-1)) fun v36 => jbd v36 (jgn w35 70 i2) fun a38 => jlt (jsi w35 70 i2 a38 (45 : Int32).toInt8.toInt32) fun w37 => some (v36, w37)) fun K104 => if (-9) ≤ v21 then K104 v24 w27 else jlt (v24 + (-1)) fun v29 => jbd (-v21) (jgn w27 72 1) fun a30 => jlt (jgi w27 72 1 a30) fun v31 => jbd v29 (jgn w27 70 i2) fun a33 => jlt (jsi w27 70 i2 a33 v31.toInt8.toInt32) fun w32 => K104 v29 w32) jFU v4 p1 w5) fun K22 => if v1 = 0 then jlt (-p0) fun v3 => K22 v3 w2 else K22 p0 w2) fun K12 => if 0 ≤ p0 then K12 0 w else K12 1 w
abbrev rm_J13_getChars : Room := { frames := 0, cells := 0, slots := 0, locals := 0 }
set_option maxRecDepth 100000 in
set_option maxHeartbeats 4000000 in
theorem mt_J13_getChars {g : j_G} {B : j_B} {p0 : Int32} {p1 : Int32} {i2 : Nat} {w w' : j_St} (b2 : B.2.1 70 i2 ∧ B.2.2 70 i2) (hL : j_lit g B) {r : Int32} (h : f_J13_getChars p0 p1 i2 w = some (r, w')) : j_M g yJ13_getChars cJ13_getChars 7 (some FieldType.int) rm_J13_getChars B [.int p0, .int p1, .ref (B.1 70 i2)] w w' (jri r) := by
  refine j_met (rv := jri) (by decide) (Nat.le_of_ble_eq_true rfl) (fun x hx => ?_) h
  unfold f_J13_getChars
  refine J.sub (lv' := [(0, .int p0), (1, .int p1), (2, .ref (B.1 70 i2))]) [0, 1, 2] rfl ?_
  refine J.iload_n hx dJ13_getChars_0 rfl 1 rfl ?_
  refine J.istore (lv' := [(5, .int p1), (0, .int p0), (1, .int p1), (2, .ref (B.1 70 i2))]) hx dJ13_getChars_1 (by decide) rfl ?_
  refine J.iload_n hx dJ13_getChars_3 rfl 1 rfl ?_
  refine J.fn (fun (K12 : Int32 → j_St → Option (Int32 × j_St)) => ∀ (v1 : Int32) (w2 : j_St), J g x 7 B (j_Q g x B rm_J13_getChars jri) 0 0 (K12 v1 w2) 12 [(0, .int p0), (2, .ref (B.1 70 i2)), (5, .int p1)] [.int v1] w2) ?_ ?_
  · intro v1 w2
    refine J.istore (lv' := [(6, .int v1), (0, .int p0), (2, .ref (B.1 70 i2)), (5, .int p1)]) hx dJ13_getChars_12 (by decide) rfl ?_
    refine J.iload hx dJ13_getChars_14 0 rfl ?_
    refine J.fn (fun (K22 : Int32 → j_St → Option (Int32 × j_St)) => ∀ (v4 : Int32) (w5 : j_St), J g x 7 B (j_Q g x B rm_J13_getChars jri) 0 0 (K22 v4 w5) 22 [(0, .int v4), (2, .ref (B.1 70 i2)), (5, .int p1), (6, .int v1)] [] w5) ?_ ?_
    · intro v4 w5
      have hL22 : ∀ (k72 : Int32 → Int32 → j_St → Option (Int32 × j_St)) (hk72 : ∀ (v21 : Int32) (v22 : Int32) (w23 : j_St), J g x 7 B (j_Q g x B rm_J13_getChars jri) 0 0 (k72 v21 v22 w23) 72 [(0, .int v21), (2, .ref (B.1 70 i2)), (5, .int v22), (6, .int v1)] [] w23) (n22 : Nat) (v6 : Int32) (v7 : Int32) (w8 : j_St), J g x 7 B (j_Q g x B rm_J13_getChars jri) 0 0 (f_J13_getChars_L22 i2 k72 n22 v6 v7 w8) 22 [(0, .int v6), (2, .ref (B.1 70 i2)), (5, .int v7), (6, .int v1)] [] w8 := by
        intro k72 hk72 n22
        induction n22 with
        | zero =>
          intro v6 v7 w8
          rw [f_J13_getChars_L22]
          exact J.nne
        | succ n22 ih =>
          intro v6 v7 w8
          rw [f_J13_getChars_L22]
          refine J.iload_n hx dJ13_getChars_22 rfl 0 rfl ?_
          refine J.bipush (v := (-100)) hx dJ13_getChars_23 (by decide) ?_
          refine J.icmp_gt (tgt := 72) hx dJ13_getChars_25 (by decide) ?_ ?_
          · exact J.sub [0, 1, 2, 3] rfl (hk72 v6 v7 w8)
          · refine J.iload_n hx dJ13_getChars_28 rfl 0 rfl ?_
            refine J.bipush (v := 100) hx dJ13_getChars_29 (by decide) ?_
            refine J.idiv0 hx dJ13_getChars_31 (by decide) ?_
            refine J.nmi fun v9 => ?_
            refine J.istore_n (lv' := [(3, .int v9), (0, .int v6), (2, .ref (B.1 70 i2)), (5, .int v7), (6, .int v1)]) hx dJ13_getChars_32 rfl (by decide) rfl ?_
            refine J.iload_n hx dJ13_getChars_33 rfl 0 rfl ?_
            refine J.bipush (v := 100) hx dJ13_getChars_34 (by decide) ?_
            refine J.imul hx dJ13_getChars_36 ?_
            refine J.iload_n hx dJ13_getChars_37 rfl 1 rfl ?_
            refine J.isub hx dJ13_getChars_38 ?_
            refine J.nmi fun v10 => ?_
            refine J.istore (lv' := [(4, .int v10), (3, .int v9), (0, .int v6), (2, .ref (B.1 70 i2)), (5, .int v7), (6, .int v1)]) hx dJ13_getChars_39 (by decide) rfl ?_
            refine J.iload_n hx dJ13_getChars_41 rfl 1 rfl ?_
            refine J.istore_n (lv' := [(0, .int v9), (4, .int v10), (3, .int v9), (2, .ref (B.1 70 i2)), (5, .int v7), (6, .int v1)]) hx dJ13_getChars_42 rfl (by decide) rfl ?_
            refine J.aload_n hx dJ13_getChars_43 rfl 3 rfl ?_
            refine J.nmx fun v11 ev11 => ?_
            refine J.iinc (p := 4) (v := v11) (lv' := [(5, .int v11), (0, .int v9), (4, .int v10), (3, .int v9), (2, .ref (B.1 70 i2)), (6, .int v1)]) hx dJ13_getChars_44 rfl (by rw [ev11]; rfl) (by decide) rfl ?_
            refine J.iload hx dJ13_getChars_47 0 rfl ?_
            refine J.getsD (i := 0) hx "DigitOnes" (List.mem_of_getElem? (i := 0) rfl) (by decide) hL q1511 dJ13_getChars_49 ?_
            refine J.iload hx dJ13_getChars_52 2 rfl ?_
            refine J.bald8 (κ := 72) hx rfl rfl rfl (hL.2 0 (by decide)).1.1 dJ13_getChars_54 fun v13 => ?_
            refine J.bast (κ := 70) hx rfl rfl rfl b2.1 dJ13_getChars_55 fun w14 => ?_
            refine J.aload_n hx dJ13_getChars_56 rfl 4 rfl ?_
            refine J.nmx fun v16 ev16 => ?_
            refine J.iinc (p := 0) (v := v16) (lv' := [(5, .int v16), (0, .int v9), (4, .int v10), (3, .int v9), (2, .ref (B.1 70 i2)), (6, .int v1)]) hx dJ13_getChars_57 rfl (by rw [ev16]; rfl) (by decide) rfl ?_
            refine J.iload hx dJ13_getChars_60 0 rfl ?_
            refine J.getsD (i := 1) hx "DigitTens" (List.mem_of_getElem? (i := 1) rfl) (by decide) hL q1513 dJ13_getChars_62 ?_
            refine J.iload hx dJ13_getChars_65 2 rfl ?_
            refine J.bald8 (κ := 72) hx rfl rfl rfl (hL.2 1 (by decide)).1.1 dJ13_getChars_67 fun v18 => ?_
            refine J.bast (κ := 70) hx rfl rfl rfl b2.1 dJ13_getChars_68 fun w19 => ?_
            refine J.goto (tgt := 22) hx dJ13_getChars_69 (by decide) ?_
            exact J.sub [1, 4, 0, 5] rfl (ih v9 v16 w19)
      refine J.sub [0, 1, 2, 3] rfl (hL22 _ ?_ jFU v4 p1 w5)
      · intro v21 v22 w23
        refine J.aload_n hx dJ13_getChars_72 rfl 1 rfl ?_
        refine J.nmx fun v24 ev24 => ?_
        refine J.iinc (p := 2) (v := v24) (lv' := [(5, .int v24), (0, .int v21), (2, .ref (B.1 70 i2)), (6, .int v1)]) hx dJ13_getChars_73 rfl (by rw [ev24]; rfl) (by decide) rfl ?_
        refine J.iload hx dJ13_getChars_76 0 rfl ?_
        refine J.getsD (i := 0) hx "DigitOnes" (List.mem_of_getElem? (i := 0) rfl) (by decide) hL q1511 dJ13_getChars_78 ?_
        refine J.iload_n hx dJ13_getChars_81 rfl 1 rfl ?_
        refine J.ineg hx dJ13_getChars_82 ?_
        refine J.bald8 (κ := 72) hx rfl rfl rfl (hL.2 0 (by decide)).1.1 dJ13_getChars_83 fun v26 => ?_
        refine J.bast (κ := 70) hx rfl rfl rfl b2.1 dJ13_getChars_84 fun w27 => ?_
        refine J.iload_n hx dJ13_getChars_85 rfl 1 rfl ?_
        refine J.bipush (v := (-9)) hx dJ13_getChars_86 (by decide) ?_
        refine J.fn (fun (K104 : Int32 → j_St → Option (Int32 × j_St)) => ∀ (v34 : Int32) (w35 : j_St), J g x 7 B (j_Q g x B rm_J13_getChars jri) 0 0 (K104 v34 w35) 104 [(2, .ref (B.1 70 i2)), (5, .int v34), (6, .int v1)] [] w35) ?_ ?_
        · intro v34 w35
          refine J.iload hx dJ13_getChars_104 2 rfl ?_
          refine J.if_eq (tgt := 118) hx dJ13_getChars_106 (by decide) ?_ ?_
          · refine J.iload hx dJ13_getChars_118 1 rfl ?_
            exact J.iret hx rfl (Nat.le_of_ble_eq_true rfl) (Nat.le_of_ble_eq_true rfl) dJ13_getChars_120
          · refine J.aload_n hx dJ13_getChars_109 rfl 0 rfl ?_
            refine J.nmx fun v36 ev36 => ?_
            refine J.iinc (p := 1) (v := v36) (lv' := [(5, .int v36), (2, .ref (B.1 70 i2)), (6, .int v1)]) hx dJ13_getChars_110 rfl (by rw [ev36]; rfl) (by decide) rfl ?_
            refine J.iload hx dJ13_getChars_113 0 rfl ?_
            refine J.bipush (v := 45) hx dJ13_getChars_115 (by decide) ?_
            refine J.bast (κ := 70) hx rfl rfl rfl b2.1 dJ13_getChars_117 fun w37 => ?_
            refine J.iload hx dJ13_getChars_118 0 rfl ?_
            exact J.iret hx rfl (Nat.le_of_ble_eq_true rfl) (Nat.le_of_ble_eq_true rfl) dJ13_getChars_120
        · intro K104 hK104
          refine J.icmp_ge (tgt := 104) hx dJ13_getChars_88 (by decide) ?_ ?_
          · exact J.sub [2, 0, 3] rfl (hK104 v24 w27)
          · refine J.aload_n hx dJ13_getChars_91 rfl 2 rfl ?_
            refine J.nmx fun v29 ev29 => ?_
            refine J.iinc (p := 0) (v := v29) (lv' := [(5, .int v29), (0, .int v21), (2, .ref (B.1 70 i2)), (6, .int v1)]) hx dJ13_getChars_92 rfl (by rw [ev29]; rfl) (by decide) rfl ?_
            refine J.iload hx dJ13_getChars_95 0 rfl ?_
            refine J.getsD (i := 1) hx "DigitTens" (List.mem_of_getElem? (i := 1) rfl) (by decide) hL q1513 dJ13_getChars_97 ?_
            refine J.iload_n hx dJ13_getChars_100 rfl 1 rfl ?_
            refine J.ineg hx dJ13_getChars_101 ?_
            refine J.bald8 (κ := 72) hx rfl rfl rfl (hL.2 1 (by decide)).1.1 dJ13_getChars_102 fun v31 => ?_
            refine J.bast (κ := 70) hx rfl rfl rfl b2.1 dJ13_getChars_103 fun w32 => ?_
            exact J.sub [2, 0, 3] rfl (hK104 v29 w32)
    · intro K22 hK22
      refine J.if_ne (tgt := 22) hx dJ13_getChars_16 (by decide) ?_ ?_
      · refine J.iload_n hx dJ13_getChars_19 rfl 1 rfl ?_
        refine J.ineg hx dJ13_getChars_20 ?_
        refine J.nmi fun v3 => ?_
        refine J.istore_n (lv' := [(0, .int v3), (6, .int v1), (2, .ref (B.1 70 i2)), (5, .int p1)]) hx dJ13_getChars_21 rfl (by decide) rfl ?_
        exact J.sub [0, 2, 3, 1] rfl (hK22 v3 w2)
      · exact J.sub [1, 2, 3, 0] rfl (hK22 p0 w2)
  · intro K12 hK12
    refine J.if_ge (tgt := 11) hx dJ13_getChars_4 (by decide) ?_ ?_
    · refine J.iconst (v := 0) hx dJ13_getChars_11 (by decide) ?_
      exact J.sub [1, 3, 0] rfl (hK12 0 w)
    · refine J.iconst (v := 1) hx dJ13_getChars_7 (by decide) ?_
      refine J.goto (tgt := 12) hx dJ13_getChars_8 (by decide) ?_
      exact J.sub [1, 3, 0] rfl (hK12 1 w)
theorem hd_J1_append_3 : yJ1_append_3.cls = RJ1 ∧ yJ1_append_3.cls ≠ "java/lang/invoke/MethodHandle" ∧ yJ1_append_3.cls ≠ "java/lang/invoke/VarHandle" ∧ (parseMethodDescriptor yJ1_append_3.desc).map (fun d => d.parameters.length) = some 1 := by decide +kernel
def f_J1_append_3 (i0 : Nat) (p1 : Int32) (w : j_St) : Option (Nat × j_St) := jlt (jgi w 16 i0 3) fun v1 => jcb (f_J13_stringSize p1 w) fun v2 w3 => jlt (v1 + v2) fun v5 => jcb (f_J1_ensureCapacityInternal i0 v5 w3) fun _ w7 => jcb (f_J1_isLatin1 i0 w7) fun v12 w13 => if v12 = 0 then none else jlt (jgr w13 16 i0 0) fun v15 => job v15 fun y17 => jcb (f_J13_getChars p1 v5 y17 w13) fun v19 w20 => jlt (jsi w20 16 i0 3 v5) fun w22 => some (i0, w22)
abbrev rm_J1_append_3 : Room := { frames := 4, cells := 1, slots := 600, locals := 104 }
set_option maxRecDepth 100000 in
set_option maxHeartbeats 4000000 in
theorem mt_J1_append_3 {g : j_G} {B : j_B} {i0 : Nat} {p1 : Int32} {w w' : j_St} (a0 : B.2.1 16 i0 ∧ B.2.2 16 i0) (hL : j_lit g B)  {r : Nat} (h : f_J1_append_3 i0 p1 w = some (r, w')) : j_MA g yJ1_append_3 cJ1_append_3 4 (some (FieldType.object "java/lang/AbstractStringBuilder")) rm_J1_append_3 B [.ref (B.1 16 i0), .int p1] w w' ((fun r B => jrr B 16 r) r) ((fun r _ B9 => B9.2.1 16 r ∧ B9.2.2 16 r) r w') := by
  refine j_metA (rv := (fun r B => jrr B 16 r)) (PB := (fun r _ B9 => B9.2.1 16 r ∧ B9.2.2 16 r)) (by decide) (Nat.le_of_ble_eq_true rfl) (fun x hx hnm => ?_) h
  unfold f_J1_append_3
  refine J.sub (lv' := [(0, .ref (B.1 16 i0)), (1, .int p1)]) [0, 1] rfl ?_
  refine J.aload_n hx dJ1_append_3_0 rfl 0 rfl ?_
  refine J.geti (κ := 16) (k := 3) hx rfl rfl rfl in_J2 (by decide) (Or.inl q537) a0.1 dJ1_append_3_1 fun v1 => ?_
  refine J.istore_n (lv' := [(2, .int v1), (0, .ref (B.1 16 i0)), (1, .int p1)]) hx dJ1_append_3_4 rfl (by decide) rfl ?_
  refine J.iload_n hx dJ1_append_3_5 rfl 0 rfl ?_
  refine J.iload_n hx dJ1_append_3_6 rfl 2 rfl ?_
  refine J.calli hx (fun r z1 z => j_callS hx (mt_J13_stringSize z) (lw_S q1505 q1506 q148 q1507) hd_J13_stringSize.2 rfl ⟨Nat.le_of_ble_eq_true rfl, Nat.le_of_ble_eq_true rfl⟩ (Nat.le_of_ble_eq_true rfl) dJ1_append_3_7) ⟨⟨rfl, rfl⟩, (Nat.le_of_ble_eq_true rfl), (Nat.le_of_ble_eq_true rfl)⟩ fun v2 w3 e4 => ?_
  refine J.iadd hx dJ1_append_3_10 ?_
  refine J.nmi fun v5 => ?_
  refine J.istore_n (lv' := [(3, .int v5), (2, .int v1), (0, .ref (B.1 16 i0)), (1, .int p1)]) hx dJ1_append_3_11 rfl (by decide) rfl ?_
  refine J.aload_n hx dJ1_append_3_12 rfl 2 rfl ?_
  refine J.iload_n hx dJ1_append_3_13 rfl 0 rfl ?_
  refine J.callAv hx (fun r z1 z => j_callA_of (j_runP (κ := 16) (y0 := yJ1_isLatin1) hx rfl rfl a0.1 (mt_J1_ensureCapacityInternal a0 z) (lw_meth q561) q558 q560 q132 (j_nl q559 rfl) q592 rfl q2346 hd_J1_ensureCapacityInternal.2 rfl ⟨Nat.le_of_ble_eq_true rfl, Nat.le_of_ble_eq_true rfl⟩ (Nat.le_of_ble_eq_true rfl) dJ1_append_3_14)) ⟨Nat.le_of_ble_eq_true rfl, Nat.le_of_ble_eq_true rfl⟩ fun _ w7 B9 e8 x10 x11 => ?_
  refine J.cv (lv' := [(3, .int v5), (2, .int v1), (0, .ref (B9.1 16 i0)), (1, .int p1)]) (st' := []) (by first | rfl | (simp only [x10.ad a0]; done) | (simp only [x10.ad a0]; rfl)) (by first | rfl | (simp only [x10.ad a0]; done) | (simp only [x10.ad a0]; rfl)) ?_
  refine J.aload_n hx dJ1_append_3_17 rfl 2 rfl ?_
  refine J.calli hx (fun r z1 z => j_callU (κ := 16) (owner := "java/lang/AbstractStringBuilder") (z := ⟨"java/lang/AbstractStringBuilder", "isLatin1", "()Z"⟩) hx rfl rfl (x10.mv a0).1 (mt_J1_isLatin1 (x10.mv a0) z) (j_wU q589 q591 q592 q590 q132 q593) rfl hd_J1_isLatin1.2 rfl ⟨Nat.le_of_ble_eq_true rfl, Nat.le_of_ble_eq_true rfl⟩ (Nat.le_of_ble_eq_true rfl) dJ1_append_3_18) ⟨⟨rfl, rfl⟩, (Nat.le_of_ble_eq_true rfl), (Nat.le_of_ble_eq_true rfl)⟩ fun v12 w13 e14 => ?_
  refine J.if_eq (tgt := 37) hx dJ1_append_3_21 (by decide) ?_ ?_
  · exact J.nne
  · refine J.iload_n hx dJ1_append_3_24 rfl 3 rfl ?_
    refine J.iload_n hx dJ1_append_3_25 rfl 0 rfl ?_
    refine J.aload_n hx dJ1_append_3_26 rfl 2 rfl ?_
    refine J.getr (κ' := 70) (κ := 16) (k := 0) hx rfl rfl rfl rfl in_J2 (by decide) (Or.inl q534) (x10.mv a0).1 dJ1_append_3_27 fun v15 h16 => ?_
    refine J.obU fun y17 e18 => ?_
    subst e18
    refine J.calli hx (fun r z1 z => j_callS hx (mt_J13_getChars (h16 y17 rfl) (hL.mv (j_ext.rf.tr x10)) z) (lw_S q1508 q1509 q148 q1510) hd_J13_getChars.2 rfl ⟨Nat.le_of_ble_eq_true rfl, Nat.le_of_ble_eq_true rfl⟩ (Nat.le_of_ble_eq_true rfl) dJ1_append_3_30) ⟨⟨rfl, rfl⟩, (Nat.le_of_ble_eq_true rfl), (Nat.le_of_ble_eq_true rfl)⟩ fun v19 w20 e21 => ?_
    refine J.pop hx dJ1_append_3_33 rfl ?_
    refine J.goto (tgt := 48) hx dJ1_append_3_34 (by decide) ?_
    refine J.aload_n hx dJ1_append_3_48 rfl 2 rfl ?_
    refine J.iload_n hx dJ1_append_3_49 rfl 0 rfl ?_
    refine J.puti (κ := 16) (k := 3) hx rfl rfl rfl in_J2 tyJ2_ok nmJ2 (by decide) (Or.inl q537) rfl rfl (x10.mv a0).1 ⟨rfl, rfl⟩ dJ1_append_3_50 fun w22 => ?_
    refine J.aload_n hx dJ1_append_3_53 rfl 2 rfl ?_
    exact J.aretA (κ := 16) (q := i0) hx (j_ext.rf.tr x10) (x10.mv a0) rfl (Or.inl ⟨_, rfl⟩) (Nat.le_of_ble_eq_true rfl) (Nat.le_of_ble_eq_true rfl) dJ1_append_3_54
theorem hd_J2_append_4 : yJ2_append_4.cls = RJ2 ∧ yJ2_append_4.cls ≠ "java/lang/invoke/MethodHandle" ∧ yJ2_append_4.cls ≠ "java/lang/invoke/VarHandle" ∧ (parseMethodDescriptor yJ2_append_4.desc).map (fun d => d.parameters.length) = some 1 := by decide +kernel
def f_J2_append_4 (i0 : Nat) (p1 : Int32) (w : j_St) : Option (Nat × j_St) := jcb (f_J1_append_3 i0 p1 w) fun v1 w2 => some (i0, w2)
abbrev rm_J2_append_4 : Room := { frames := 5, cells := 1, slots := 600, locals := 127 }
set_option maxRecDepth 100000 in
set_option maxHeartbeats 4000000 in
theorem mt_J2_append_4 {g : j_G} {B : j_B} {i0 : Nat} {p1 : Int32} {w w' : j_St} (a0 : B.2.1 16 i0 ∧ B.2.2 16 i0) (hL : j_lit g B)  {r : Nat} (h : f_J2_append_4 i0 p1 w = some (r, w')) : j_MA g yJ2_append_4 cJ2_append_4 2 (some (FieldType.object "java/lang/StringBuilder")) rm_J2_append_4 B [.ref (B.1 16 i0), .int p1] w w' ((fun r B => jrr B 16 r) r) ((fun r _ B9 => B9.2.1 16 r ∧ B9.2.2 16 r) r w') := by
  refine j_metA (rv := (fun r B => jrr B 16 r)) (PB := (fun r _ B9 => B9.2.1 16 r ∧ B9.2.2 16 r)) (by decide) (Nat.le_of_ble_eq_true rfl) (fun x hx hnm => ?_) h
  unfold f_J2_append_4
  refine J.sub (lv' := [(0, .ref (B.1 16 i0)), (1, .int p1)]) [0, 1] rfl ?_
  refine J.aload_n hx dJ2_append_4_0 rfl 0 rfl ?_
  refine J.iload_n hx dJ2_append_4_1 rfl 1 rfl ?_
  refine J.callAr (κ := 16) hx (fun r z1 z => j_callA_of (j_runSU (κ := 16) hx rfl rfl a0.1 (mt_J1_append_3 a0 (hL.mv j_ext.rf) z) (j_wSU q1502 q2357 q546 q1503 q132 q1504) ⟨by decide +kernel, hd_J1_append_3.2.2.2⟩ rfl ⟨Nat.le_of_ble_eq_true rfl, Nat.le_of_ble_eq_true rfl⟩ (Nat.le_of_ble_eq_true rfl) dJ2_append_4_2)) ⟨Nat.le_of_ble_eq_true rfl, Nat.le_of_ble_eq_true rfl⟩ fun v1 w2 B4 e3 x5 x6 => ?_
  refine J.cv (lv' := [(0, .ref (B4.1 16 i0)), (1, .int p1)]) (st' := [.ref (B4.1 16 v1)]) (by first | rfl | (simp only [x5.ad a0]; done) | (simp only [x5.ad a0]; rfl)) (by first | rfl | (simp only [x5.ad a0]; done) | (simp only [x5.ad a0]; rfl)) ?_
  refine J.pop hx dJ2_append_4_5 rfl ?_
  refine J.aload_n hx dJ2_append_4_6 rfl 0 rfl ?_
  exact J.aretA (κ := 16) (q := i0) hx (j_ext.rf.tr x5) (x5.mv a0) rfl (Or.inl ⟨_, rfl⟩) (Nat.le_of_ble_eq_true rfl) (Nat.le_of_ble_eq_true rfl) dJ2_append_4_7
