def f_J1_ensureCapacityInternal_n (i0 : Nat) (p1 : Int32) (w : j_St) : Option (Unit × j_St) := jlt (jgr w 16 i0 0) fun v1 => job v1 fun y3 => jlt (jgi w 16 i0 1) fun v5 => jlt ((Int32.ofNat (jgn w 70 y3)) >>> (v5 &&& 31)) fun v6 => if p1 - v6 ≤ 0 then some ((), w) else none
abbrev rm_J1_ensureCapacityInternal_n : Room := { frames := 0, cells := 0, slots := 0, locals := 0 }
set_option maxRecDepth 100000 in
set_option maxHeartbeats 4000000 in
theorem mt_J1_ensureCapacityInternal_n {g : j_G} {B : j_B} {i0 : Nat} {p1 : Int32} {w w' : j_St} (a0 : B.2.1 16 i0 ∧ B.2.2 16 i0)  {r : Unit} (h : f_J1_ensureCapacityInternal_n i0 p1 w = some (r, w')) : j_MA g yJ1_ensureCapacityInternal cJ1_ensureCapacityInternal 3 none rm_J1_ensureCapacityInternal_n B [.ref (B.1 16 i0), .int p1] w w' ((fun _ _ => none) r) ((fun _ _ _ => True) r w') := by
  refine j_metA (rv := (fun _ _ => none)) (PB := (fun _ _ _ => True)) (by decide) (Nat.le_of_ble_eq_true rfl) (fun x hx hnm => ?_) h
  unfold f_J1_ensureCapacityInternal_n
  refine J.sub (lv' := [(0, .ref (B.1 16 i0)), (1, .int p1)]) [0, 1] rfl ?_
  refine J.aload_n hx dJ1_ensureCapacityInternal_0 rfl 0 rfl ?_
  refine J.getr (κ' := 70) (κ := 16) (k := 0) hx rfl rfl rfl rfl in_J2 (by decide) (Or.inl q534) a0.1 dJ1_ensureCapacityInternal_1 fun v1 h2 => ?_
  refine J.obU fun y3 e4 => ?_
  subst e4
  refine J.alen (κ := 70) (v := Int32.ofNat (jgn w 70 y3)) hx ⟨by decide, by decide⟩ (by decide) rfl rfl (h2 y3 rfl).1 dJ1_ensureCapacityInternal_4 ?_
  refine J.aload_n hx dJ1_ensureCapacityInternal_5 rfl 0 rfl ?_
  refine J.geti (κ := 16) (k := 1) hx rfl rfl rfl in_J2 (by decide) (Or.inl q535) a0.1 dJ1_ensureCapacityInternal_6 fun v5 => ?_
  refine J.ishr hx dJ1_ensureCapacityInternal_9 ?_
  refine J.nmi fun v6 => ?_
  refine J.istore_n (lv' := [(2, .int v6), (0, .ref (B.1 16 i0)), (1, .int p1)]) hx dJ1_ensureCapacityInternal_10 rfl (by decide) rfl ?_
  refine J.iload_n hx dJ1_ensureCapacityInternal_11 rfl 2 rfl ?_
  refine J.iload_n hx dJ1_ensureCapacityInternal_12 rfl 0 rfl ?_
  refine J.isub hx dJ1_ensureCapacityInternal_13 ?_
  refine J.if_le (tgt := 38) hx dJ1_ensureCapacityInternal_14 (by decide) ?_ ?_
  · exact J.vretA hx j_ext.rf trivial rfl (Nat.le_of_ble_eq_true rfl) (Nat.le_of_ble_eq_true rfl) dJ1_ensureCapacityInternal_38
  · exact J.nne
def f_J1_append_n (i0 : Nat) (p1 : Int32) (w : j_St) : Option (Nat × j_St) := jlt (jgi w 16 i0 3) fun v1 => jcb (f_J1_ensureCapacityInternal_n i0 (v1 + 1) w) fun _ w3 => jcb (f_J1_isLatin1 i0 w3) fun v8 w9 => if v8 = 0 then none else jcb (f_J7_canEncode p1 w9) fun v11 w12 => if v11 = 0 then none else jlt (jgr w12 16 i0 0) fun v14 => jlt (jgi w12 16 i0 3) fun v16 => jlt (jsi w12 16 i0 3 (v16 + 1)) fun w17 => job v14 fun y18 => jbd v16 (jgn w17 70 y18) fun a21 => jlt (jsi w17 70 y18 a21 p1.toInt8.toInt32.toInt8.toInt32) fun w20 => some (i0, w20)
abbrev rm_J1_append_n : Room := { frames := 1, cells := 0, slots := 0, locals := 22 }
set_option maxRecDepth 100000 in
set_option maxHeartbeats 4000000 in
theorem mt_J1_append_n {g : j_G} {B : j_B} {i0 : Nat} {p1 : Int32} {w w' : j_St} (a0 : B.2.1 16 i0 ∧ B.2.2 16 i0)  {r : Nat} (h : f_J1_append_n i0 p1 w = some (r, w')) : j_MA g yJ1_append cJ1_append 2 (some (FieldType.object "java/lang/AbstractStringBuilder")) rm_J1_append_n B [.ref (B.1 16 i0), .int p1] w w' ((fun r B => jrr B 16 r) r) ((fun r _ B9 => B9.2.1 16 r ∧ B9.2.2 16 r) r w') := by
  refine j_metA (rv := (fun r B => jrr B 16 r)) (PB := (fun r _ B9 => B9.2.1 16 r ∧ B9.2.2 16 r)) (by decide) (Nat.le_of_ble_eq_true rfl) (fun x hx hnm => ?_) h
  unfold f_J1_append_n
  refine J.sub (lv' := [(0, .ref (B.1 16 i0)), (1, .int p1)]) [0, 1] rfl ?_
  refine J.aload_n hx dJ1_append_0 rfl 0 rfl ?_
  refine J.aload_n hx dJ1_append_1 rfl 0 rfl ?_
  refine J.geti (κ := 16) (k := 3) hx rfl rfl rfl in_J2 (by decide) (Or.inl q537) a0.1 dJ1_append_2 fun v1 => ?_
  refine J.iconst (v := 1) hx dJ1_append_5 (by decide) ?_
  refine J.iadd hx dJ1_append_6 ?_
  refine J.callAv hx (fun r z1 z => j_callA_of (j_runP (κ := 16) (y0 := yJ1_isLatin1) hx rfl rfl a0.1 (mt_J1_ensureCapacityInternal_n a0 z) (lw_meth q561) q558 q560 q132 (j_nl q559 rfl) q592 rfl q2346 hd_J1_ensureCapacityInternal.2 rfl ⟨Nat.le_of_ble_eq_true rfl, Nat.le_of_ble_eq_true rfl⟩ (Nat.le_of_ble_eq_true rfl) dJ1_append_7)) ⟨Nat.le_of_ble_eq_true rfl, Nat.le_of_ble_eq_true rfl⟩ fun _ w3 B5 e4 x6 x7 => ?_
  refine J.cv (lv' := [(0, .ref (B5.1 16 i0)), (1, .int p1)]) (st' := []) (by first | rfl | (simp only [x6.ad a0]; done) | (simp only [x6.ad a0]; rfl)) (by first | rfl | (simp only [x6.ad a0]; done) | (simp only [x6.ad a0]; rfl)) ?_
  refine J.aload_n hx dJ1_append_10 rfl 0 rfl ?_
  refine J.calli hx (fun r z1 z => j_callU (κ := 16) (owner := "java/lang/AbstractStringBuilder") (z := ⟨"java/lang/AbstractStringBuilder", "isLatin1", "()Z"⟩) hx rfl rfl (x6.mv a0).1 (mt_J1_isLatin1 (x6.mv a0) z) (j_wU q589 q591 q592 q590 q132 q593) rfl hd_J1_isLatin1.2 rfl ⟨Nat.le_of_ble_eq_true rfl, Nat.le_of_ble_eq_true rfl⟩ (Nat.le_of_ble_eq_true rfl) dJ1_append_11) ⟨⟨rfl, rfl⟩, (Nat.le_of_ble_eq_true rfl), (Nat.le_of_ble_eq_true rfl)⟩ fun v8 w9 e10 => ?_
  refine J.if_eq (tgt := 45) hx dJ1_append_14 (by decide) ?_ ?_
  · exact J.nne
  · refine J.iload_n hx dJ1_append_17 rfl 1 rfl ?_
    refine J.calli hx (fun r z1 z => j_callS hx (mt_J7_canEncode z) (lw_S q594 q595 q139 q596) hd_J7_canEncode.2 rfl ⟨Nat.le_of_ble_eq_true rfl, Nat.le_of_ble_eq_true rfl⟩ (Nat.le_of_ble_eq_true rfl) dJ1_append_18) ⟨⟨rfl, rfl⟩, (Nat.le_of_ble_eq_true rfl), (Nat.le_of_ble_eq_true rfl)⟩ fun v11 w12 e13 => ?_
    refine J.if_eq (tgt := 45) hx dJ1_append_21 (by decide) ?_ ?_
    · exact J.nne
    · refine J.aload_n hx dJ1_append_24 rfl 0 rfl ?_
      refine J.getr (κ' := 70) (κ := 16) (k := 0) hx rfl rfl rfl rfl in_J2 (by decide) (Or.inl q534) (x6.mv a0).1 dJ1_append_25 fun v14 h15 => ?_
      refine J.aload_n hx dJ1_append_28 rfl 0 rfl ?_
      refine J.dup hx dJ1_append_29 rfl ?_
      refine J.geti (κ := 16) (k := 3) hx rfl rfl rfl in_J2 (by decide) (Or.inl q537) (x6.mv a0).1 dJ1_append_30 fun v16 => ?_
      refine J.dup_x1 hx dJ1_append_33 rfl rfl ?_
      refine J.iconst (v := 1) hx dJ1_append_34 (by decide) ?_
      refine J.iadd hx dJ1_append_35 ?_
      refine J.puti (κ := 16) (k := 3) hx rfl rfl rfl in_J2 tyJ2_ok nmJ2 (by decide) (Or.inl q537) rfl rfl (x6.mv a0).1 ⟨rfl, rfl⟩ dJ1_append_36 fun w17 => ?_
      refine J.iload_n hx dJ1_append_39 rfl 1 rfl ?_
      refine J.i2b hx dJ1_append_40 ?_
      refine J.obU fun y18 e19 => ?_
      subst e19
      refine J.bast (κ := 70) hx rfl rfl rfl (h15 y18 rfl).1 dJ1_append_41 fun w20 => ?_
      refine J.goto (tgt := 75) hx dJ1_append_42 (by decide) ?_
      refine J.aload_n hx dJ1_append_75 rfl 0 rfl ?_
      exact J.aretA (κ := 16) (q := i0) hx (j_ext.rf.tr x6) (x6.mv a0) rfl (Or.inl ⟨_, rfl⟩) (Nat.le_of_ble_eq_true rfl) (Nat.le_of_ble_eq_true rfl) dJ1_append_76
def f_J2_append_n (i0 : Nat) (p1 : Int32) (w : j_St) : Option (Nat × j_St) := jcb (f_J1_append_n i0 p1 w) fun v1 w2 => some (i0, w2)
abbrev rm_J2_append_n : Room := { frames := 2, cells := 0, slots := 0, locals := 43 }
set_option maxRecDepth 100000 in
set_option maxHeartbeats 4000000 in
theorem mt_J2_append_n {g : j_G} {B : j_B} {i0 : Nat} {p1 : Int32} {w w' : j_St} (a0 : B.2.1 16 i0 ∧ B.2.2 16 i0)  {r : Nat} (h : f_J2_append_n i0 p1 w = some (r, w')) : j_MA g yJ2_append cJ2_append 2 (some (FieldType.object "java/lang/StringBuilder")) rm_J2_append_n B [.ref (B.1 16 i0), .int p1] w w' ((fun r B => jrr B 16 r) r) ((fun r _ B9 => B9.2.1 16 r ∧ B9.2.2 16 r) r w') := by
  refine j_metA (rv := (fun r B => jrr B 16 r)) (PB := (fun r _ B9 => B9.2.1 16 r ∧ B9.2.2 16 r)) (by decide) (Nat.le_of_ble_eq_true rfl) (fun x hx hnm => ?_) h
  unfold f_J2_append_n
  refine J.sub (lv' := [(0, .ref (B.1 16 i0)), (1, .int p1)]) [0, 1] rfl ?_
  refine J.aload_n hx dJ2_append_0 rfl 0 rfl ?_
  refine J.iload_n hx dJ2_append_1 rfl 1 rfl ?_
  refine J.callAr (κ := 16) hx (fun r z1 z => j_callA_of (j_runSU (κ := 16) hx rfl rfl a0.1 (mt_J1_append_n a0 z) (j_wSU q555 q2345 q546 q556 q132 q557) ⟨by decide +kernel, hd_J1_append.2.2.2⟩ rfl ⟨Nat.le_of_ble_eq_true rfl, Nat.le_of_ble_eq_true rfl⟩ (Nat.le_of_ble_eq_true rfl) dJ2_append_2)) ⟨Nat.le_of_ble_eq_true rfl, Nat.le_of_ble_eq_true rfl⟩ fun v1 w2 B4 e3 x5 x6 => ?_
  refine J.cv (lv' := [(0, .ref (B4.1 16 i0)), (1, .int p1)]) (st' := [.ref (B4.1 16 v1)]) (by first | rfl | (simp only [x5.ad a0]; done) | (simp only [x5.ad a0]; rfl)) (by first | rfl | (simp only [x5.ad a0]; done) | (simp only [x5.ad a0]; rfl)) ?_
  refine J.pop hx dJ2_append_5 rfl ?_
  refine J.aload_n hx dJ2_append_6 rfl 0 rfl ?_
  exact J.aretA (κ := 16) (q := i0) hx (j_ext.rf.tr x5) (x5.mv a0) rfl (Or.inl ⟨_, rfl⟩) (Nat.le_of_ble_eq_true rfl) (Nat.le_of_ble_eq_true rfl) dJ2_append_7
