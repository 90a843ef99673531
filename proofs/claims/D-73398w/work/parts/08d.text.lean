theorem hd_X1_fault : yX1_fault.cls = RX1 ∧ yX1_fault.cls ≠ "java/lang/invoke/MethodHandle" ∧ yX1_fault.cls ≠ "java/lang/invoke/VarHandle" ∧ (parseMethodDescriptor yX1_fault.desc).map (fun d => d.parameters.length) = some 1 := by decide +kernel
def f_X1_fault (p1 : Int32) (w : j_St) : Option (Int32 × j_St) := jcb (f_X1_isIn p1.toInt64 0 1 w) fun v1 w2 => if v1 = 0 then some ((-2), w2) else jlt (jgn w2 108 0) fun n4 => jlt (jbump w2 8) fun w6 => jlt (jnw w6 8 n4 0) fun w11 => jcb (f_X10_init n4 w11) fun _ w14 => if p1 = 0 then jch (f_X10_trace n4 w14) (fun n40 w41 => jlt (jgi w41 9 n40 6) fun v46 => some (v46, w41)) fun v33 w34 => jlt (jsr w34 0 0 8 (some v33)) fun w39 => some ((-1), w39) else jch (f_X10_script n4 w14) (fun n26 w27 => jlt (jgi w27 9 n26 6) fun v32 => some (v32, w27)) fun v19 w20 => jlt (jsr w20 0 0 9 (some v19)) fun w25 => some ((-1), w25)
abbrev rm_X1_fault : Room := { frames := 10, cells := 810, slots := 192400, locals := 267 }
set_option maxRecDepth 100000 in
set_option maxHeartbeats 4000000 in
theorem mt_X1_fault {g : j_G} {B : j_B} {p1 : Int32} {w w' : j_St} (a0 : B.2.1 0 0 ∧ B.2.2 0 0) (hL : j_lit g B)  {r : Int32} (h : f_X1_fault p1 w = some (r, w')) : j_MAW g yX1_fault cX1_fault 3 (some FieldType.int) [(13, 46, 47, 183)] rm_X1_fault B [.ref (B.1 0 0), .int p1] w w' ((fun r _ => jri r) r) ((fun _ _ _ => True) r w') := by
  refine j_metAW (rv := (fun r _ => jri r)) (PB := (fun _ _ _ => True)) (by decide) (Nat.le_of_ble_eq_true rfl) (fun x hx htab => ?_) h
  unfold f_X1_fault
  refine J.sub (lv' := [(0, .ref (B.1 0 0)), (1, .int p1)]) [0, 1] rfl ?_
  refine J.iload_n hx dX1_fault_0 rfl 1 rfl ?_
  refine J.i2l hx dX1_fault_1 ?_
  refine J.lconst (v := 0) hx dX1_fault_2 (by decide) ?_
  refine J.lconst (v := 1) hx dX1_fault_3 (by decide) ?_
  refine J.calli hx (fun r z1 z => j_callS hx (mt_X1_isIn z) (lw_S q441 q442 q120 q443) hd_X1_isIn.2 rfl ⟨Nat.le_of_ble_eq_true rfl, Nat.le_of_ble_eq_true rfl⟩ (Nat.le_of_ble_eq_true rfl) dX1_fault_4) ⟨⟨rfl, rfl⟩, (Nat.le_of_ble_eq_true rfl), (Nat.le_of_ble_eq_true rfl)⟩ fun v1 w2 e3 => ?_
  refine J.if_ne (tgt := 13) hx dX1_fault_7 (by decide) ?_ ?_
  · refine J.bipush (v := (-2)) hx dX1_fault_10 (by decide) ?_
    exact J.iretA hx j_ext.rf trivial rfl (Nat.le_of_ble_eq_true rfl) (Nat.le_of_ble_eq_true rfl) dX1_fault_12
  · refine J.nmx fun n4 e5 => ?_
    refine J.fact (P := ¬ B.2.1 8 n4) (fun H hR z => by have h9 := hR.2.2.2.2.2.2.2.2.2 _ _ z; simp only [jcnt] at h9; simp at h9; omega) fun h8 => ?_
    refine J.bumpe fun w6 e7 => ?_
    refine J.fact (P := ¬ B.2.2 8 n4) (fun H hR z => h8 (hR.2.2.2.2.2.2.2.2.1 _ _ z)) fun h9 => ?_
    refine J.new (κ := 8) (i := n4) hx rfl rfl in_X10 tyX10_ok (by decide +kernel) (by decide) h8 h9 (by rw [e7, e5]; simp [jcnt, jbump, jgn]) q444 q445 q130 ⟨Nat.le_of_ble_eq_true rfl, Nat.le_of_ble_eq_true rfl⟩ dX1_fault_13 fun z12 w11 => ?_
    refine J.dup hx dX1_fault_16 rfl ?_
    refine J.aload_n hx dX1_fault_17 rfl 0 rfl ?_
    refine J.callAv hx (fun r z1 z => j_callA_of (j_runIN (κ := 8) hx (mt_X10_init jbn_alh (j_hf (jbn_old a0)) h9 z) (lw_meth q448) (j_nl q446 rfl) q447 q130 rfl hd_X10_init.2 rfl ⟨Nat.le_of_ble_eq_true rfl, Nat.le_of_ble_eq_true rfl⟩ (Nat.le_of_ble_eq_true rfl) dX1_fault_18)) ⟨Nat.le_of_ble_eq_true rfl, Nat.le_of_ble_eq_true rfl⟩ fun _ w14 B16 e15 x17 x18 => ?_
    refine J.cv (lv' := [(0, .ref (B16.1 0 0)), (1, .int p1)]) (st' := [.ref (B16.1 8 n4)]) (by first | rfl | (simp only [x17.ad (jbn_old a0), x17.adh jbn_alh]; done) | (simp only [x17.ad (jbn_old a0), x17.adh jbn_alh]; rfl)) (by first | rfl | (simp only [x17.ad (jbn_old a0), x17.adh jbn_alh]; done) | (simp only [x17.ad (jbn_old a0), x17.adh jbn_alh]; rfl)) ?_
    refine J.built (jS8 n4) (jb_X10 e15 (x17.mvh jbn_alh) x18 (x17.mv (jbn_old a0))) ?_
    refine J.astore_n (lv' := [(2, .ref ((jbb B16 (jS8 n4)).1 8 n4)), (0, .ref ((jbb B16 (jS8 n4)).1 0 0)), (1, .int p1)]) hx dX1_fault_21 rfl (by decide) rfl ?_
    refine J.iload_n hx dX1_fault_22 rfl 2 rfl ?_
    refine J.if_ne (tgt := 37) hx dX1_fault_23 (by decide) ?_ ?_
    · refine J.aload_n hx dX1_fault_26 rfl 1 rfl ?_
      refine J.aload_n hx dX1_fault_27 rfl 0 rfl ?_
      refine J.callH (rvY := (fun r B => jrr B 6 r)) (z := ⟨13, 46, 47, 183⟩) hx (fun r z1 z => j_callVX (κ := 8) hx rfl rfl (jbb_own (S := jS8 n4) (x17.mvh jbn_alh).1 jS8_o).1 (mt_X10_trace (jbb_own (S := jS8 n4) (x17.mvh jbn_alh).1 jS8_o) (hL.mv (((j_ext.rf.tr (jbn_ext h8)).tr x17).tr jbb_ext)) z) (lw_V q457 q458 q459 q130 q460) hd_X10_trace rfl ⟨Nat.le_of_ble_eq_true rfl, Nat.le_of_ble_eq_true rfl⟩ (Nat.le_of_ble_eq_true rfl) dX1_fault_28) ⟨Nat.le_of_ble_eq_true rfl, Nat.le_of_ble_eq_true rfl⟩ (htab.trans rfl) (by decide) (by decide) q440 (fun n40 w41 B42 e43 x44 h45 => ?_) fun v33 w34 B36 e35 x37 x38 => ?_
      · refine J.cv (lv' := [(2, .ref (B42.1 8 n4)), (0, .ref (B42.1 0 0)), (1, .int p1)]) (st' := [.ref (B42.1 9 n40)]) (by first | rfl | (simp only [x44.ad (jbb_own (S := jS8 n4) (x17.mvh jbn_alh).1 jS8_o), x44.ad (jbb_ext.mv (x17.mv (jbn_old a0)))]; done) | (simp only [x44.ad (jbb_own (S := jS8 n4) (x17.mvh jbn_alh).1 jS8_o), x44.ad (jbb_ext.mv (x17.mv (jbn_old a0)))]; rfl)) (by first | rfl | (simp only [x44.ad (jbb_own (S := jS8 n4) (x17.mvh jbn_alh).1 jS8_o), x44.ad (jbb_ext.mv (x17.mv (jbn_old a0)))]; done) | (simp only [x44.ad (jbb_own (S := jS8 n4) (x17.mvh jbn_alh).1 jS8_o), x44.ad (jbb_ext.mv (x17.mv (jbn_old a0)))]; rfl)) ?_
        refine J.astore_n (lv' := [(2, .ref (B42.1 9 n40)), (0, .ref (B42.1 0 0)), (1, .int p1)]) hx dX1_fault_47 rfl (by decide) rfl ?_
        refine J.aload_n hx dX1_fault_48 rfl 0 rfl ?_
        refine J.geti (κ := 9) (k := 6) hx rfl rfl rfl in_X12 (by decide) (Or.inr ⟨_, j_nl q830 rfl⟩) h45.1 dX1_fault_49 fun v46 => ?_
        exact J.iretA hx ((((j_ext.rf.tr (jbn_ext h8)).tr x17).tr jbb_ext).tr x44) trivial rfl (Nat.le_of_ble_eq_true rfl) (Nat.le_of_ble_eq_true rfl) dX1_fault_52
      · refine J.cv (lv' := [(2, .ref (B36.1 8 n4)), (0, .ref (B36.1 0 0)), (1, .int p1)]) (st' := [.ref (B36.1 6 v33), .ref (B36.1 0 0)]) (by first | rfl | (simp only [x37.ad (jbb_own (S := jS8 n4) (x17.mvh jbn_alh).1 jS8_o), x37.ad (jbb_ext.mv (x17.mv (jbn_old a0)))]; done) | (simp only [x37.ad (jbb_own (S := jS8 n4) (x17.mvh jbn_alh).1 jS8_o), x37.ad (jbb_ext.mv (x17.mv (jbn_old a0)))]; rfl)) (by first | rfl | (simp only [x37.ad (jbb_own (S := jS8 n4) (x17.mvh jbn_alh).1 jS8_o), x37.ad (jbb_ext.mv (x17.mv (jbn_old a0)))]; done) | (simp only [x37.ad (jbb_own (S := jS8 n4) (x17.mvh jbn_alh).1 jS8_o), x37.ad (jbb_ext.mv (x17.mv (jbn_old a0)))]; rfl)) ?_
        refine J.putr (κ' := 6) (v := (some v33)) (κ := 0) (k := 8) hx rfl rfl rfl rfl in_X1 tyX1_ok nmX1 (by decide) (Or.inl q375) rfl rfl (x37.mv (jbb_ext.mv (x17.mv (jbn_old a0)))).1 (fun _ => ⟨rfl, rfl, rfl, rfl⟩) (j_sm x38) dX1_fault_31 fun w39 => ?_
        refine J.goto (tgt := 45) hx dX1_fault_34 (by decide) ?_
        refine J.iconst (v := (-1)) hx dX1_fault_45 (by decide) ?_
        exact J.iretA hx ((((j_ext.rf.tr (jbn_ext h8)).tr x17).tr jbb_ext).tr x37) trivial rfl (Nat.le_of_ble_eq_true rfl) (Nat.le_of_ble_eq_true rfl) dX1_fault_46
    · refine J.aload_n hx dX1_fault_37 rfl 1 rfl ?_
      refine J.aload_n hx dX1_fault_38 rfl 0 rfl ?_
      refine J.callH (rvY := (fun r B => jrr B 7 r)) (z := ⟨13, 46, 47, 183⟩) hx (fun r z1 z => j_callVX (κ := 8) hx rfl rfl (jbb_own (S := jS8 n4) (x17.mvh jbn_alh).1 jS8_o).1 (mt_X10_script (jbb_own (S := jS8 n4) (x17.mvh jbn_alh).1 jS8_o) (hL.mv (((j_ext.rf.tr (jbn_ext h8)).tr x17).tr jbb_ext)) z) (lw_V q896 q897 q898 q130 q899) hd_X10_script rfl ⟨Nat.le_of_ble_eq_true rfl, Nat.le_of_ble_eq_true rfl⟩ (Nat.le_of_ble_eq_true rfl) dX1_fault_39) ⟨Nat.le_of_ble_eq_true rfl, Nat.le_of_ble_eq_true rfl⟩ (htab.trans rfl) (by decide) (by decide) q440 (fun n26 w27 B28 e29 x30 h31 => ?_) fun v19 w20 B22 e21 x23 x24 => ?_
      · refine J.cv (lv' := [(2, .ref (B28.1 8 n4)), (0, .ref (B28.1 0 0)), (1, .int p1)]) (st' := [.ref (B28.1 9 n26)]) (by first | rfl | (simp only [x30.ad (jbb_own (S := jS8 n4) (x17.mvh jbn_alh).1 jS8_o), x30.ad (jbb_ext.mv (x17.mv (jbn_old a0)))]; done) | (simp only [x30.ad (jbb_own (S := jS8 n4) (x17.mvh jbn_alh).1 jS8_o), x30.ad (jbb_ext.mv (x17.mv (jbn_old a0)))]; rfl)) (by first | rfl | (simp only [x30.ad (jbb_own (S := jS8 n4) (x17.mvh jbn_alh).1 jS8_o), x30.ad (jbb_ext.mv (x17.mv (jbn_old a0)))]; done) | (simp only [x30.ad (jbb_own (S := jS8 n4) (x17.mvh jbn_alh).1 jS8_o), x30.ad (jbb_ext.mv (x17.mv (jbn_old a0)))]; rfl)) ?_
        refine J.astore_n (lv' := [(2, .ref (B28.1 9 n26)), (0, .ref (B28.1 0 0)), (1, .int p1)]) hx dX1_fault_47 rfl (by decide) rfl ?_
        refine J.aload_n hx dX1_fault_48 rfl 0 rfl ?_
        refine J.geti (κ := 9) (k := 6) hx rfl rfl rfl in_X12 (by decide) (Or.inr ⟨_, j_nl q830 rfl⟩) h31.1 dX1_fault_49 fun v32 => ?_
        exact J.iretA hx ((((j_ext.rf.tr (jbn_ext h8)).tr x17).tr jbb_ext).tr x30) trivial rfl (Nat.le_of_ble_eq_true rfl) (Nat.le_of_ble_eq_true rfl) dX1_fault_52
      · refine J.cv (lv' := [(2, .ref (B22.1 8 n4)), (0, .ref (B22.1 0 0)), (1, .int p1)]) (st' := [.ref (B22.1 7 v19), .ref (B22.1 0 0)]) (by first | rfl | (simp only [x23.ad (jbb_own (S := jS8 n4) (x17.mvh jbn_alh).1 jS8_o), x23.ad (jbb_ext.mv (x17.mv (jbn_old a0)))]; done) | (simp only [x23.ad (jbb_own (S := jS8 n4) (x17.mvh jbn_alh).1 jS8_o), x23.ad (jbb_ext.mv (x17.mv (jbn_old a0)))]; rfl)) (by first | rfl | (simp only [x23.ad (jbb_own (S := jS8 n4) (x17.mvh jbn_alh).1 jS8_o), x23.ad (jbb_ext.mv (x17.mv (jbn_old a0)))]; done) | (simp only [x23.ad (jbb_own (S := jS8 n4) (x17.mvh jbn_alh).1 jS8_o), x23.ad (jbb_ext.mv (x17.mv (jbn_old a0)))]; rfl)) ?_
        refine J.putr (κ' := 7) (v := (some v19)) (κ := 0) (k := 9) hx rfl rfl rfl rfl in_X1 tyX1_ok nmX1 (by decide) (Or.inl q376) rfl rfl (x23.mv (jbb_ext.mv (x17.mv (jbn_old a0)))).1 (fun _ => ⟨rfl, rfl, rfl, rfl⟩) (j_sm x24) dX1_fault_42 fun w25 => ?_
        refine J.iconst (v := (-1)) hx dX1_fault_45 (by decide) ?_
        exact J.iretA hx ((((j_ext.rf.tr (jbn_ext h8)).tr x17).tr jbb_ext).tr x23) trivial rfl (Nat.le_of_ble_eq_true rfl) (Nat.le_of_ble_eq_true rfl) dX1_fault_46
theorem hd_X1_text : yX1_text.cls = RX1 ∧ yX1_text.cls ≠ "java/lang/invoke/MethodHandle" ∧ yX1_text.cls ≠ "java/lang/invoke/VarHandle" ∧ (parseMethodDescriptor yX1_text.desc).map (fun d => d.parameters.length) = some 1 := by decide +kernel
def f_X1_text (p1 : Int32) (w : j_St) : Option (Int32 × j_St) := jcb (f_X1_isIn p1.toInt64 0 1 w) fun v1 w2 => if v1 = 0 then some ((-1), w2) else jlt (fun (w5 : j_St) => jcb (f_X1_fault p1 w5) fun v8 w9 => if v8 = (-1) then jlt (jsi w9 0 0 3 0) fun w14 => if p1 = 1 then jlt (jgi w14 0 0 6) fun v32 => jlt (jgr w14 0 0 9) fun v33 => jbd v32 4 fun a36 => jlt (jsr w14 22 0 a36 v33) fun w35 => jlt (jgi w35 0 0 6) fun v37 => jlt (jsi w35 0 0 6 (v37 + 1)) fun w38 => jlt (jgi w38 0 0 6) fun v39 => some (v39 - 1, w38) else jlt (jgr w14 0 0 8) fun v15 => jlt (jsr w14 0 0 7 v15) fun w17 => jlt (jgr w17 0 0 7) fun v19 => job v19 fun y21 => jcb (f_X8_starts 0 y21 w17) fun _ w24 => jlt (jsi w24 0 0 18 0) fun w26 => jlt (jsi w26 0 0 21 0) fun w27 => jlt (jgi w27 4 1 1) fun v30 => some (v30, w27) else some ((-1), w9)) fun K23 => if p1 = 1 then jlt (jgi w2 0 0 6) fun v4 => if v4 = 4 then some ((-1), w2) else K23 w2 else K23 w2
abbrev rm_X1_text : Room := { frames := 11, cells := 810, slots := 192400, locals := 289 }
set_option maxRecDepth 100000 in
set_option maxHeartbeats 4000000 in
theorem mt_X1_text {g : j_G} {B : j_B} {p1 : Int32} {w w' : j_St} (a0 : B.2.1 0 0 ∧ B.2.2 0 0) (hL : j_lit g B)  {r : Int32} (h : f_X1_text p1 w = some (r, w')) : j_MA g yX1_text cX1_text 2 (some FieldType.int) rm_X1_text B [.ref (B.1 0 0), .int p1] w w' ((fun r _ => jri r) r) ((fun _ _ _ => True) r w') := by
  refine j_metA (rv := (fun r _ => jri r)) (PB := (fun _ _ _ => True)) (by decide) (Nat.le_of_ble_eq_true rfl) (fun x hx hnm => ?_) h
  unfold f_X1_text
  refine J.sub (lv' := [(0, .ref (B.1 0 0)), (1, .int p1)]) [0, 1] rfl ?_
  refine J.iload_n hx dX1_text_0 rfl 1 rfl ?_
  refine J.i2l hx dX1_text_1 ?_
  refine J.lconst (v := 0) hx dX1_text_2 (by decide) ?_
  refine J.lconst (v := 1) hx dX1_text_3 (by decide) ?_
  refine J.calli hx (fun r z1 z => j_callS hx (mt_X1_isIn z) (lw_S q441 q442 q120 q443) hd_X1_isIn.2 rfl ⟨Nat.le_of_ble_eq_true rfl, Nat.le_of_ble_eq_true rfl⟩ (Nat.le_of_ble_eq_true rfl) dX1_text_4) ⟨⟨rfl, rfl⟩, (Nat.le_of_ble_eq_true rfl), (Nat.le_of_ble_eq_true rfl)⟩ fun v1 w2 e3 => ?_
  refine J.if_eq (tgt := 32) hx dX1_text_7 (by decide) ?_ ?_
  · refine J.iconst (v := (-1)) hx dX1_text_32 (by decide) ?_
    exact J.iretA hx j_ext.rf trivial rfl (Nat.le_of_ble_eq_true rfl) (Nat.le_of_ble_eq_true rfl) dX1_text_33
  · refine J.iload_n hx dX1_text_10 rfl 1 rfl ?_
    refine J.iconst (v := 1) hx dX1_text_11 (by decide) ?_
    refine J.fn (fun (K23 : j_St → Option (Int32 × j_St)) => ∀  (B6 : j_B) (x7 : j_ext B B6) (w5 : j_St), J g x 2 B6 (j_QA g x B rm_X1_text (fun r _ => jri r) (fun _ _ _ => True)) 0 0 (K23 w5) 23 [(0, .ref (B6.1 0 0)), (1, .int p1)] [] w5) ?_ ?_
    · intro B6 x7 w5
      refine J.aload_n hx dX1_text_23 rfl 0 rfl ?_
      refine J.iload_n hx dX1_text_24 rfl 1 rfl ?_
      refine J.callAi hx (fun r z1 z => j_callA_of (j_runVW (κ := 0) hx rfl rfl (x7.mv a0).1 (mt_X1_fault (x7.mv a0) (hL.mv (j_ext.rf.tr x7)) z) (lw_VW q949 q437 q438 q120 q439) hd_X1_fault rfl ⟨Nat.le_of_ble_eq_true rfl, Nat.le_of_ble_eq_true rfl⟩ (Nat.le_of_ble_eq_true rfl) dX1_text_25)) ⟨Nat.le_of_ble_eq_true rfl, Nat.le_of_ble_eq_true rfl⟩ fun v8 w9 B11 e10 x12 x13 => ?_
      refine J.cv (lv' := [(0, .ref (B11.1 0 0)), (1, .int p1)]) (st' := [.int v8]) (by first | rfl | (simp only [x12.ad (x7.mv a0)]; done) | (simp only [x12.ad (x7.mv a0)]; rfl)) (by first | rfl | (simp only [x12.ad (x7.mv a0)]; done) | (simp only [x12.ad (x7.mv a0)]; rfl)) ?_
      refine J.iconst (v := (-1)) hx dX1_text_28 (by decide) ?_
      refine J.icmp_eq (tgt := 34) hx dX1_text_29 (by decide) ?_ ?_
      · refine J.aload_n hx dX1_text_34 rfl 0 rfl ?_
        refine J.iconst (v := 0) hx dX1_text_35 (by decide) ?_
        refine J.puti (κ := 0) (k := 3) hx rfl rfl rfl in_X1 tyX1_ok nmX1 (by decide) (Or.inl q370) rfl rfl (x12.mv (x7.mv a0)).1 ⟨rfl, rfl⟩ dX1_text_36 fun w14 => ?_
        refine J.iload_n hx dX1_text_39 rfl 1 rfl ?_
        refine J.iconst (v := 1) hx dX1_text_40 (by decide) ?_
        refine J.icmp_ne (tgt := 74) hx dX1_text_41 (by decide) ?_ ?_
        · refine J.aload_n hx dX1_text_44 rfl 0 rfl ?_
          refine J.getc (κ' := 22) (i' := 0) (κ := 0) (k := 4) hx rfl rfl rfl rfl rfl in_X1 (by decide) (Or.inl q371) (x12.mv (x7.mv a0)).2 dX1_text_45 fun h31 => ?_
          refine J.aload_n hx dX1_text_48 rfl 0 rfl ?_
          refine J.geti (κ := 0) (k := 6) hx rfl rfl rfl in_X1 (by decide) (Or.inl q373) (x12.mv (x7.mv a0)).1 dX1_text_49 fun v32 => ?_
          refine J.aload_n hx dX1_text_52 rfl 0 rfl ?_
          refine J.getr (κ' := 7) (κ := 0) (k := 9) hx rfl rfl rfl rfl in_X1 (by decide) (Or.inl q376) (x12.mv (x7.mv a0)).1 dX1_text_53 fun v33 h34 => ?_
          refine J.aast (κ' := 7) (v := v33) (κ := 22) hx rfl rfl (by decide) rfl rfl rfl rfl rfl h31.1 h34 dX1_text_56 fun w35 => ?_
          refine J.aload_n hx dX1_text_57 rfl 0 rfl ?_
          refine J.dup hx dX1_text_58 rfl ?_
          refine J.geti (κ := 0) (k := 6) hx rfl rfl rfl in_X1 (by decide) (Or.inl q373) (x12.mv (x7.mv a0)).1 dX1_text_59 fun v37 => ?_
          refine J.iconst (v := 1) hx dX1_text_62 (by decide) ?_
          refine J.iadd hx dX1_text_63 ?_
          refine J.puti (κ := 0) (k := 6) hx rfl rfl rfl in_X1 tyX1_ok nmX1 (by decide) (Or.inl q373) rfl rfl (x12.mv (x7.mv a0)).1 ⟨rfl, rfl⟩ dX1_text_64 fun w38 => ?_
          refine J.aload_n hx dX1_text_67 rfl 0 rfl ?_
          refine J.geti (κ := 0) (k := 6) hx rfl rfl rfl in_X1 (by decide) (Or.inl q373) (x12.mv (x7.mv a0)).1 dX1_text_68 fun v39 => ?_
          refine J.iconst (v := 1) hx dX1_text_71 (by decide) ?_
          refine J.isub hx dX1_text_72 ?_
          exact J.iretA hx ((j_ext.rf.tr x7).tr x12) trivial rfl (Nat.le_of_ble_eq_true rfl) (Nat.le_of_ble_eq_true rfl) dX1_text_73
        · refine J.aload_n hx dX1_text_74 rfl 0 rfl ?_
          refine J.aload_n hx dX1_text_75 rfl 0 rfl ?_
          refine J.getr (κ' := 6) (κ := 0) (k := 8) hx rfl rfl rfl rfl in_X1 (by decide) (Or.inl q375) (x12.mv (x7.mv a0)).1 dX1_text_76 fun v15 h16 => ?_
          refine J.putr (κ' := 6) (v := v15) (κ := 0) (k := 7) hx rfl rfl rfl rfl in_X1 tyX1_ok nmX1 (by decide) (Or.inl q374) rfl rfl (x12.mv (x7.mv a0)).1 (fun _ => ⟨rfl, rfl, rfl, rfl⟩) h16 dX1_text_79 fun w17 => ?_
          refine J.aload_n hx dX1_text_82 rfl 0 rfl ?_
          refine J.getc (κ' := 5) (i' := 0) (κ := 0) (k := 13) hx rfl rfl rfl rfl rfl in_X1 (by decide) (Or.inl q382) (x12.mv (x7.mv a0)).2 dX1_text_83 fun h18 => ?_
          refine J.aload_n hx dX1_text_86 rfl 0 rfl ?_
          refine J.getr (κ' := 6) (κ := 0) (k := 7) hx rfl rfl rfl rfl in_X1 (by decide) (Or.inl q374) (x12.mv (x7.mv a0)).1 dX1_text_87 fun v19 h20 => ?_
          refine J.obU fun y21 e22 => ?_
          subst e22
          refine J.callv hx (fun r z1 z => j_callV (κ := 5) hx rfl rfl h18.1 (mt_X8_starts h18 (h20 y21 rfl) z) (lw_V q950 q951 q952 q128 q953) hd_X8_starts rfl ⟨Nat.le_of_ble_eq_true rfl, Nat.le_of_ble_eq_true rfl⟩ (Nat.le_of_ble_eq_true rfl) dX1_text_90) ⟨⟨rfl, rfl⟩, (Nat.le_of_ble_eq_true rfl), (Nat.le_of_ble_eq_true rfl)⟩ fun _ w24 e25 => ?_
          refine J.aload_n hx dX1_text_93 rfl 0 rfl ?_
          refine J.iconst (v := 0) hx dX1_text_94 (by decide) ?_
          refine J.puti (κ := 0) (k := 18) hx rfl rfl rfl in_X1 tyX1_ok nmX1 (by decide) (Or.inl q387) rfl rfl (x12.mv (x7.mv a0)).1 ⟨rfl, rfl⟩ dX1_text_95 fun w26 => ?_
          refine J.aload_n hx dX1_text_98 rfl 0 rfl ?_
          refine J.iconst (v := 0) hx dX1_text_99 (by decide) ?_
          refine J.puti (κ := 0) (k := 21) hx rfl rfl rfl in_X1 tyX1_ok nmX1 (by decide) (Or.inl q390) rfl rfl (x12.mv (x7.mv a0)).1 ⟨rfl, rfl⟩ dX1_text_100 fun w27 => ?_
          refine J.aload_n hx dX1_text_103 rfl 0 rfl ?_
          refine J.getc (κ' := 5) (i' := 0) (κ := 0) (k := 13) hx rfl rfl rfl rfl rfl in_X1 (by decide) (Or.inl q382) (x12.mv (x7.mv a0)).2 dX1_text_104 fun h28 => ?_
          refine J.getc (κ' := 4) (i' := 1) (κ := 5) (k := 0) hx rfl rfl rfl rfl rfl in_X8 (by decide) (Or.inr ⟨_, j_nl q339 rfl⟩) h28.2 dX1_text_107 fun h29 => ?_
          refine J.geti (κ := 4) (k := 1) hx rfl rfl rfl in_X7 (by decide) (Or.inr ⟨_, j_nl q324 rfl⟩) h29.1 dX1_text_110 fun v30 => ?_
          exact J.iretA hx ((j_ext.rf.tr x7).tr x12) trivial rfl (Nat.le_of_ble_eq_true rfl) (Nat.le_of_ble_eq_true rfl) dX1_text_113
      · refine J.iconst (v := (-1)) hx dX1_text_32 (by decide) ?_
        exact J.iretA hx ((j_ext.rf.tr x7).tr x12) trivial rfl (Nat.le_of_ble_eq_true rfl) (Nat.le_of_ble_eq_true rfl) dX1_text_33
    · intro K23 hK23
      refine J.icmp_ne (tgt := 23) hx dX1_text_12 (by decide) ?_ ?_
      · refine J.aload_n hx dX1_text_15 rfl 0 rfl ?_
        refine J.geti (κ := 0) (k := 6) hx rfl rfl rfl in_X1 (by decide) (Or.inl q373) a0.1 dX1_text_16 fun v4 => ?_
        refine J.iconst (v := 4) hx dX1_text_19 (by decide) ?_
        refine J.icmp_eq (tgt := 32) hx dX1_text_20 (by decide) ?_ ?_
        · refine J.iconst (v := (-1)) hx dX1_text_32 (by decide) ?_
          exact J.iretA hx j_ext.rf trivial rfl (Nat.le_of_ble_eq_true rfl) (Nat.le_of_ble_eq_true rfl) dX1_text_33
        · exact J.sub [0, 1] rfl (hK23 B j_ext.rf w2)
      · exact J.sub [0, 1] rfl (hK23 B j_ext.rf w2)
theorem hd_X1_spelled : yX1_spelled.cls = RX1 ∧ yX1_spelled.cls ≠ "java/lang/invoke/MethodHandle" ∧ yX1_spelled.cls ≠ "java/lang/invoke/VarHandle" ∧ (parseMethodDescriptor yX1_spelled.desc).map (fun d => d.parameters.length) = some 1 := by decide +kernel
def f_X1_spelled (p1 : Int32) (w : j_St) : Option (Nat × j_St) := jcb (f_X1_matchOf 0 p1 w) fun v2 w3 => jlt (jgn w3 116 0) fun n5 => jlt (jbump w3 16) fun w7 => jlt (jnw w7 16 n5 0) fun w12 => jcb (f_J2_init n5 w12) fun _ w15 => jlt (fun (w42 : j_St) => jbd p1 48 fun a47 => jlt (jgr w42 27 0 a47) fun v48 => jlt (jgn w42 116 0) fun n50 => jlt (jbump w42 16) fun w52 => jlt (jnw w52 16 n50 0) fun w57 => jcb (f_J2_init n50 w57) fun _ w60 => jcb (f_J2_append_3 n50 n5 w60) fun v65 w66 => jcb (f_J2_append_2_a17 v65 13 w66) fun v71 w72 => job v48 fun y77 => jlt (jgi w72 3 y77 0) fun v79 => jcb (f_J2_append_4 v71 v79 w72) fun v80 w81 => jcb (f_J2_append_2_a17 v80 14 w81) fun v86 w87 => jlt (jgi w87 3 y77 1) fun v92 => jcb (f_J2_append_4 v86 v92 w87) fun v93 w94 => jcb (f_J2_toString v93 w94) fun v99 w100 => some (v99, w100)) fun K47 => if v2 = (-1) then jcb (f_J2_append n5 63 w15) fun v36 w37 => K47 w37 else jlt (jgr w15 0 0 7) fun v20 => job v20 fun y22 => jbd v2 8 fun a25 => jlt (jgr w15 34 y22 a25) fun v26 => job v26 fun y28 => jcb (f_J2_append_2_a15 n5 y28 w15) fun v30 w31 => K47 w31
abbrev rm_X1_spelled : Room := { frames := 8, cells := 20, slots := 8000, locals := 212 }
set_option maxRecDepth 100000 in
set_option maxHeartbeats 4000000 in
theorem mt_X1_spelled {g : j_G} {B : j_B} {p1 : Int32} {w w' : j_St} (a0 : B.2.1 0 0 ∧ B.2.2 0 0) (hL : j_lit g B)  {r : Nat} (h : f_X1_spelled p1 w = some (r, w')) : j_MA g yX1_spelled cX1_spelled 5 (some (FieldType.object "java/lang/CharSequence")) rm_X1_spelled B [.ref (B.1 0 0), .int p1] w w' ((fun r B => jrr B 15 r) r) ((fun r _ B9 => B9.2.1 15 r ∧ B9.2.2 15 r) r w') := by
  refine j_metA (rv := (fun r B => jrr B 15 r)) (PB := (fun r _ B9 => B9.2.1 15 r ∧ B9.2.2 15 r)) (by decide) (Nat.le_of_ble_eq_true rfl) (fun x hx hnm => ?_) h
  unfold f_X1_spelled
  refine J.sub (lv' := [(0, .ref (B.1 0 0)), (1, .int p1)]) [0, 1] rfl ?_
  refine J.aload_n hx dX1_spelled_0 rfl 0 rfl ?_
  refine J.aload_n hx dX1_spelled_1 rfl 0 rfl ?_
  refine J.getc (κ' := 2) (i' := 0) (κ := 0) (k := 10) hx rfl rfl rfl rfl rfl in_X1 (by decide) (Or.inl q378) a0.2 dX1_spelled_2 fun h1 => ?_
  refine J.iload_n hx dX1_spelled_5 rfl 1 rfl ?_
  refine J.calli hx (fun r z1 z => j_callV (κ := 0) hx rfl rfl a0.1 (mt_X1_matchOf a0 h1 z) (lw_V q1384 q1386 qs36 q120 q1387) hd_X1_matchOf rfl ⟨Nat.le_of_ble_eq_true rfl, Nat.le_of_ble_eq_true rfl⟩ (Nat.le_of_ble_eq_true rfl) dX1_spelled_6) ⟨⟨rfl, rfl⟩, (Nat.le_of_ble_eq_true rfl), (Nat.le_of_ble_eq_true rfl)⟩ fun v2 w3 e4 => ?_
  refine J.istore_n (lv' := [(2, .int v2), (0, .ref (B.1 0 0)), (1, .int p1)]) hx dX1_spelled_9 rfl (by decide) rfl ?_
  refine J.nmx fun n5 e6 => ?_
  refine J.fact (P := ¬ B.2.1 16 n5) (fun H hR z => by have h9 := hR.2.2.2.2.2.2.2.2.2 _ _ z; simp only [jcnt] at h9; simp at h9; omega) fun h9 => ?_
  refine J.bumpe fun w7 e8 => ?_
  refine J.fact (P := ¬ B.2.2 16 n5) (fun H hR z => h9 (hR.2.2.2.2.2.2.2.2.1 _ _ z)) fun h10 => ?_
  refine J.newB (κ := 16) (i := n5) hx rfl rfl in_J2 tyJ2_ok (by decide +kernel) (by decide) h9 h10 (by rw [e8, e6]; simp [jcnt, jbump, jgn]) jn3_16 q1388 q517 q133 ⟨Nat.le_of_ble_eq_true rfl, Nat.le_of_ble_eq_true rfl⟩ dX1_spelled_10 fun z13 w12 => ?_
  refine J.dup hx dX1_spelled_13 rfl ?_
  refine J.callAv hx (fun r z1 z => j_callA_of (j_runI (κ := 16) hx (mt_J2_init (j_hf2 jN_al) z) (lw_meth q520) q1389 q519 q133 rfl hd_J2_init.2 rfl ⟨Nat.le_of_ble_eq_true rfl, Nat.le_of_ble_eq_true rfl⟩ (Nat.le_of_ble_eq_true rfl) dX1_spelled_14)) ⟨Nat.le_of_ble_eq_true rfl, Nat.le_of_ble_eq_true rfl⟩ fun _ w15 B17 e16 x18 x19 => ?_
  refine J.cv (lv' := [(2, .int v2), (0, .ref (B17.1 0 0)), (1, .int p1)]) (st' := [.ref (B17.1 16 n5)]) (by first | rfl | (simp only [x18.ad (jN_old a0), x18.ad jN_al]; done) | (simp only [x18.ad (jN_old a0), x18.ad jN_al]; rfl)) (by first | rfl | (simp only [x18.ad (jN_old a0), x18.ad jN_al]; done) | (simp only [x18.ad (jN_old a0), x18.ad jN_al]; rfl)) ?_
  refine J.astore_n (lv' := [(3, .ref (B17.1 16 n5)), (2, .int v2), (0, .ref (B17.1 0 0)), (1, .int p1)]) hx dX1_spelled_17 rfl (by decide) rfl ?_
  refine J.iload_n hx dX1_spelled_18 rfl 1 rfl ?_
  refine J.iconst (v := (-1)) hx dX1_spelled_19 (by decide) ?_
  refine J.fn (fun (K47 : j_St → Option (Nat × j_St)) => ∀  (B43 : j_B) (x44 : j_ext B17 B43) (w42 : j_St), J g x 5 B43 (j_QA g x B rm_X1_spelled (fun r B => jrr B 15 r) (fun r _ B9 => B9.2.1 15 r ∧ B9.2.2 15 r)) 3 620 (K47 w42) 47 [(0, .ref (B43.1 0 0)), (1, .int p1), (3, .ref (B43.1 16 n5))] [] w42) ?_ ?_
  · intro B43 x44 w42
    refine J.aload_n hx dX1_spelled_47 rfl 0 rfl ?_
    refine J.getc (κ' := 2) (i' := 0) (κ := 0) (k := 10) hx rfl rfl rfl rfl rfl in_X1 (by decide) (Or.inl q378) (x44.mv (x18.mv (jN_old a0))).2 dX1_spelled_48 fun h45 => ?_
    refine J.getc (κ' := 27) (i' := 0) (κ := 2) (k := 1) hx rfl rfl rfl rfl rfl in_X5 (by decide) (Or.inr ⟨_, j_nl q277 rfl⟩) h45.2 dX1_spelled_51 fun h46 => ?_
    refine J.iload_n hx dX1_spelled_54 rfl 1 rfl ?_
    refine J.aald (κ' := 3) (κ := 27) hx rfl rfl (by decide) rfl rfl h46.1 dX1_spelled_55 fun v48 h49 => ?_
    refine J.astoreq (lv' := [(4, va_re (B43.1 3) v48), (0, .ref (B43.1 0 0)), (1, .int p1), (3, .ref (B43.1 16 n5))]) hx dX1_spelled_56 (by decide) rfl ?_
    refine J.nmx fun n50 e51 => ?_
    refine J.fact (P := ¬ B43.2.1 16 n50) (fun H hR z => by have h9 := hR.2.2.2.2.2.2.2.2.2 _ _ z; simp only [jcnt] at h9; simp at h9; omega) fun h54 => ?_
    refine J.bumpe fun w52 e53 => ?_
    refine J.fact (P := ¬ B43.2.2 16 n50) (fun H hR z => h54 (hR.2.2.2.2.2.2.2.2.1 _ _ z)) fun h55 => ?_
    refine J.newB (κ := 16) (i := n50) hx rfl rfl in_J2 tyJ2_ok (by decide +kernel) (by decide) h54 h55 (by rw [e53, e51]; simp [jcnt, jbump, jgn]) jn3_16 q1388 q517 q133 ⟨Nat.le_of_ble_eq_true rfl, Nat.le_of_ble_eq_true rfl⟩ dX1_spelled_58 fun z58 w57 => ?_
    refine J.cv (lv' := [(4, va_re (B43.1 3) v48), (0, .ref (B43.1 0 0)), (1, .int p1), (3, .ref ((jbN B43 16 n50 z58).1 16 n5))]) (st' := [.ref ((jbN B43 16 n50 z58).1 16 n50)]) (by first | rfl | (simp only [(jN_ext (q := z58) h54).ad (x44.mv (x18.mv jN_al))]; done) | (simp only [(jN_ext (q := z58) h54).ad (x44.mv (x18.mv jN_al))]; rfl)) (by first | rfl | (simp only [(jN_ext (q := z58) h54).ad (x44.mv (x18.mv jN_al))]; done) | (simp only [(jN_ext (q := z58) h54).ad (x44.mv (x18.mv jN_al))]; rfl)) ?_
    refine J.dup hx dX1_spelled_61 rfl ?_
    refine J.callAv hx (fun r z1 z => j_callA_of (j_runI (κ := 16) hx (mt_J2_init (j_hf2 jN_al) z) (lw_meth q520) q1389 q519 q133 rfl hd_J2_init.2 rfl ⟨Nat.le_of_ble_eq_true rfl, Nat.le_of_ble_eq_true rfl⟩ (Nat.le_of_ble_eq_true rfl) dX1_spelled_62)) ⟨Nat.le_of_ble_eq_true rfl, Nat.le_of_ble_eq_true rfl⟩ fun _ w60 B62 e61 x63 x64 => ?_
    refine J.cv (lv' := [(4, va_re (B62.1 3) v48), (0, .ref (B62.1 0 0)), (1, .int p1), (3, .ref (B62.1 16 n5))]) (st' := [.ref (B62.1 16 n50)]) (by first | rfl | (simp only [x63.re (jN_oldq h49), x63.ad (jN_old (x44.mv (x18.mv (jN_old a0)))), x63.ad (jN_old (x44.mv (x18.mv jN_al))), x63.ad jN_al]; done) | (simp only [x63.re (jN_oldq h49), x63.ad (jN_old (x44.mv (x18.mv (jN_old a0)))), x63.ad (jN_old (x44.mv (x18.mv jN_al))), x63.ad jN_al]; rfl)) (by first | rfl | (simp only [x63.re (jN_oldq h49), x63.ad (jN_old (x44.mv (x18.mv (jN_old a0)))), x63.ad (jN_old (x44.mv (x18.mv jN_al))), x63.ad jN_al]; done) | (simp only [x63.re (jN_oldq h49), x63.ad (jN_old (x44.mv (x18.mv (jN_old a0)))), x63.ad (jN_old (x44.mv (x18.mv jN_al))), x63.ad jN_al]; rfl)) ?_
    refine J.aload_n hx dX1_spelled_65 rfl 3 rfl ?_
    refine J.callAr (κ := 16) hx (fun r z1 z => j_callA_of (j_runV (κ := 16) hx rfl rfl (x63.mv jN_al).1 (mt_J2_append_3 (x63.mv jN_al) (x63.mv (jN_old (x44.mv (x18.mv jN_al)))) z) (lw_V q1430 q1431 q1432 q133 q1433) hd_J2_append_3 rfl ⟨Nat.le_of_ble_eq_true rfl, Nat.le_of_ble_eq_true rfl⟩ (Nat.le_of_ble_eq_true rfl) dX1_spelled_66)) ⟨Nat.le_of_ble_eq_true rfl, Nat.le_of_ble_eq_true rfl⟩ fun v65 w66 B68 e67 x69 x70 => ?_
    refine J.cv (lv' := [(4, va_re (B68.1 3) v48), (0, .ref (B68.1 0 0)), (1, .int p1), (3, .ref (B68.1 16 n5))]) (st' := [.ref (B68.1 16 v65)]) (by first | rfl | (simp only [x69.re (x63.mvq (jN_oldq h49)), x69.ad (x63.mv (jN_old (x44.mv (x18.mv (jN_old a0))))), x69.ad (x63.mv (jN_old (x44.mv (x18.mv jN_al))))]; done) | (simp only [x69.re (x63.mvq (jN_oldq h49)), x69.ad (x63.mv (jN_old (x44.mv (x18.mv (jN_old a0))))), x69.ad (x63.mv (jN_old (x44.mv (x18.mv jN_al))))]; rfl)) (by first | rfl | (simp only [x69.re (x63.mvq (jN_oldq h49)), x69.ad (x63.mv (jN_old (x44.mv (x18.mv (jN_old a0))))), x69.ad (x63.mv (jN_old (x44.mv (x18.mv jN_al))))]; done) | (simp only [x69.re (x63.mvq (jN_oldq h49)), x69.ad (x63.mv (jN_old (x44.mv (x18.mv (jN_old a0))))), x69.ad (x63.mv (jN_old (x44.mv (x18.mv jN_al))))]; rfl)) ?_
    refine J.ldcSw (own := "TracePeaks") (index := 422) (n := 13) hx "@" (List.mem_of_getElem? (i := 14) rfl) (hL.mv ((((((j_ext.rf.tr (jN_ext h9)).tr x18).tr x44).tr (jN_ext h54)).tr x63).tr x69)) (by decide) dX1_spelled_69 ?_
    refine J.callAr (κ := 16) hx (fun r z1 z => j_callA_of (j_runV (κ := 16) hx rfl rfl x70.1 (mt_J2_append_2_a17 x70 ((hL.mv ((((((j_ext.rf.tr (jN_ext h9)).tr x18).tr x44).tr (jN_ext h54)).tr x63).tr x69)).1 13 (by decide)).1 z) (lw_V q1391 q1392 q1393 q133 q1394) hd_J2_append_2 rfl ⟨Nat.le_of_ble_eq_true rfl, Nat.le_of_ble_eq_true rfl⟩ (Nat.le_of_ble_eq_true rfl) dX1_spelled_72)) ⟨Nat.le_of_ble_eq_true rfl, Nat.le_of_ble_eq_true rfl⟩ fun v71 w72 B74 e73 x75 x76 => ?_
    refine J.cv (lv' := [(4, va_re (B74.1 3) v48), (0, .ref (B74.1 0 0)), (1, .int p1), (3, .ref (B74.1 16 n5))]) (st' := [.ref (B74.1 16 v71)]) (by first | rfl | (simp only [x75.re (x69.mvq (x63.mvq (jN_oldq h49))), x75.ad (x69.mv (x63.mv (jN_old (x44.mv (x18.mv (jN_old a0)))))), x75.ad (x69.mv (x63.mv (jN_old (x44.mv (x18.mv jN_al)))))]; done) | (simp only [x75.re (x69.mvq (x63.mvq (jN_oldq h49))), x75.ad (x69.mv (x63.mv (jN_old (x44.mv (x18.mv (jN_old a0)))))), x75.ad (x69.mv (x63.mv (jN_old (x44.mv (x18.mv jN_al)))))]; rfl)) (by first | rfl | (simp only [x75.re (x69.mvq (x63.mvq (jN_oldq h49))), x75.ad (x69.mv (x63.mv (jN_old (x44.mv (x18.mv (jN_old a0)))))), x75.ad (x69.mv (x63.mv (jN_old (x44.mv (x18.mv jN_al)))))]; done) | (simp only [x75.re (x69.mvq (x63.mvq (jN_oldq h49))), x75.ad (x69.mv (x63.mv (jN_old (x44.mv (x18.mv (jN_old a0)))))), x75.ad (x69.mv (x63.mv (jN_old (x44.mv (x18.mv jN_al)))))]; rfl)) ?_
    refine J.aloadq hx dX1_spelled_75 0 rfl ?_
    refine J.obU fun y77 e78 => ?_
    subst e78
    refine J.geti (κ := 3) (k := 0) hx rfl rfl rfl in_X6 (by decide) (Or.inr ⟨_, j_nl q239 rfl⟩) ((x75.mvq (x69.mvq (x63.mvq (jN_oldq h49)))) y77 rfl).1 dX1_spelled_77 fun v79 => ?_
    refine J.callAr (κ := 16) hx (fun r z1 z => j_callA_of (j_runV (κ := 16) hx rfl rfl x76.1 (mt_J2_append_4 x76 (hL.mv (((((((j_ext.rf.tr (jN_ext h9)).tr x18).tr x44).tr (jN_ext h54)).tr x63).tr x69).tr x75)) z) (lw_V q1498 q1499 q1500 q133 q1501) hd_J2_append_4 rfl ⟨Nat.le_of_ble_eq_true rfl, Nat.le_of_ble_eq_true rfl⟩ (Nat.le_of_ble_eq_true rfl) dX1_spelled_80)) ⟨Nat.le_of_ble_eq_true rfl, Nat.le_of_ble_eq_true rfl⟩ fun v80 w81 B83 e82 x84 x85 => ?_
    refine J.cv (lv' := [(4, .ref (B83.1 3 y77)), (0, .ref (B83.1 0 0)), (1, .int p1), (3, .ref (B83.1 16 n5))]) (st' := [.ref (B83.1 16 v80)]) (by first | rfl | (simp only [x84.ad ((x75.mvq (x69.mvq (x63.mvq (jN_oldq h49)))) y77 rfl), x84.ad (x75.mv (x69.mv (x63.mv (jN_old (x44.mv (x18.mv (jN_old a0))))))), x84.ad (x75.mv (x69.mv (x63.mv (jN_old (x44.mv (x18.mv jN_al))))))]; done) | (simp only [x84.ad ((x75.mvq (x69.mvq (x63.mvq (jN_oldq h49)))) y77 rfl), x84.ad (x75.mv (x69.mv (x63.mv (jN_old (x44.mv (x18.mv (jN_old a0))))))), x84.ad (x75.mv (x69.mv (x63.mv (jN_old (x44.mv (x18.mv jN_al))))))]; rfl)) (by first | rfl | (simp only [x84.ad ((x75.mvq (x69.mvq (x63.mvq (jN_oldq h49)))) y77 rfl), x84.ad (x75.mv (x69.mv (x63.mv (jN_old (x44.mv (x18.mv (jN_old a0))))))), x84.ad (x75.mv (x69.mv (x63.mv (jN_old (x44.mv (x18.mv jN_al))))))]; done) | (simp only [x84.ad ((x75.mvq (x69.mvq (x63.mvq (jN_oldq h49)))) y77 rfl), x84.ad (x75.mv (x69.mv (x63.mv (jN_old (x44.mv (x18.mv (jN_old a0))))))), x84.ad (x75.mv (x69.mv (x63.mv (jN_old (x44.mv (x18.mv jN_al))))))]; rfl)) ?_
    refine J.ldcSw (own := "TracePeaks") (index := 427) (n := 14) hx ":" (List.mem_of_getElem? (i := 15) rfl) (hL.mv ((((((((j_ext.rf.tr (jN_ext h9)).tr x18).tr x44).tr (jN_ext h54)).tr x63).tr x69).tr x75).tr x84)) (by decide) dX1_spelled_83 ?_
    refine J.callAr (κ := 16) hx (fun r z1 z => j_callA_of (j_runV (κ := 16) hx rfl rfl x85.1 (mt_J2_append_2_a17 x85 ((hL.mv ((((((((j_ext.rf.tr (jN_ext h9)).tr x18).tr x44).tr (jN_ext h54)).tr x63).tr x69).tr x75).tr x84)).1 14 (by decide)).1 z) (lw_V q1391 q1392 q1393 q133 q1394) hd_J2_append_2 rfl ⟨Nat.le_of_ble_eq_true rfl, Nat.le_of_ble_eq_true rfl⟩ (Nat.le_of_ble_eq_true rfl) dX1_spelled_86)) ⟨Nat.le_of_ble_eq_true rfl, Nat.le_of_ble_eq_true rfl⟩ fun v86 w87 B89 e88 x90 x91 => ?_
    refine J.cv (lv' := [(4, .ref (B89.1 3 y77)), (0, .ref (B89.1 0 0)), (1, .int p1), (3, .ref (B89.1 16 n5))]) (st' := [.ref (B89.1 16 v86)]) (by first | rfl | (simp only [x90.ad (x84.mv ((x75.mvq (x69.mvq (x63.mvq (jN_oldq h49)))) y77 rfl)), x90.ad (x84.mv (x75.mv (x69.mv (x63.mv (jN_old (x44.mv (x18.mv (jN_old a0)))))))), x90.ad (x84.mv (x75.mv (x69.mv (x63.mv (jN_old (x44.mv (x18.mv jN_al)))))))]; done) | (simp only [x90.ad (x84.mv ((x75.mvq (x69.mvq (x63.mvq (jN_oldq h49)))) y77 rfl)), x90.ad (x84.mv (x75.mv (x69.mv (x63.mv (jN_old (x44.mv (x18.mv (jN_old a0)))))))), x90.ad (x84.mv (x75.mv (x69.mv (x63.mv (jN_old (x44.mv (x18.mv jN_al)))))))]; rfl)) (by first | rfl | (simp only [x90.ad (x84.mv ((x75.mvq (x69.mvq (x63.mvq (jN_oldq h49)))) y77 rfl)), x90.ad (x84.mv (x75.mv (x69.mv (x63.mv (jN_old (x44.mv (x18.mv (jN_old a0)))))))), x90.ad (x84.mv (x75.mv (x69.mv (x63.mv (jN_old (x44.mv (x18.mv jN_al)))))))]; done) | (simp only [x90.ad (x84.mv ((x75.mvq (x69.mvq (x63.mvq (jN_oldq h49)))) y77 rfl)), x90.ad (x84.mv (x75.mv (x69.mv (x63.mv (jN_old (x44.mv (x18.mv (jN_old a0)))))))), x90.ad (x84.mv (x75.mv (x69.mv (x63.mv (jN_old (x44.mv (x18.mv jN_al)))))))]; rfl)) ?_
    refine J.aload hx dX1_spelled_89 0 rfl ?_
    refine J.geti (κ := 3) (k := 1) hx rfl rfl rfl in_X6 (by decide) (Or.inr ⟨_, j_nl q242 rfl⟩) (x90.mv (x84.mv ((x75.mvq (x69.mvq (x63.mvq (jN_oldq h49)))) y77 rfl))).1 dX1_spelled_91 fun v92 => ?_
    refine J.callAr (κ := 16) hx (fun r z1 z => j_callA_of (j_runV (κ := 16) hx rfl rfl x91.1 (mt_J2_append_4 x91 (hL.mv (((((((((j_ext.rf.tr (jN_ext h9)).tr x18).tr x44).tr (jN_ext h54)).tr x63).tr x69).tr x75).tr x84).tr x90)) z) (lw_V q1498 q1499 q1500 q133 q1501) hd_J2_append_4 rfl ⟨Nat.le_of_ble_eq_true rfl, Nat.le_of_ble_eq_true rfl⟩ (Nat.le_of_ble_eq_true rfl) dX1_spelled_94)) ⟨Nat.le_of_ble_eq_true rfl, Nat.le_of_ble_eq_true rfl⟩ fun v93 w94 B96 e95 x97 x98 => ?_
    refine J.cv (lv' := [(4, .ref (B96.1 3 y77)), (0, .ref (B96.1 0 0)), (1, .int p1), (3, .ref (B96.1 16 n5))]) (st' := [.ref (B96.1 16 v93)]) (by first | rfl | (simp only [x97.ad (x90.mv (x84.mv ((x75.mvq (x69.mvq (x63.mvq (jN_oldq h49)))) y77 rfl))), x97.ad (x90.mv (x84.mv (x75.mv (x69.mv (x63.mv (jN_old (x44.mv (x18.mv (jN_old a0))))))))), x97.ad (x90.mv (x84.mv (x75.mv (x69.mv (x63.mv (jN_old (x44.mv (x18.mv jN_al))))))))]; done) | (simp only [x97.ad (x90.mv (x84.mv ((x75.mvq (x69.mvq (x63.mvq (jN_oldq h49)))) y77 rfl))), x97.ad (x90.mv (x84.mv (x75.mv (x69.mv (x63.mv (jN_old (x44.mv (x18.mv (jN_old a0))))))))), x97.ad (x90.mv (x84.mv (x75.mv (x69.mv (x63.mv (jN_old (x44.mv (x18.mv jN_al))))))))]; rfl)) (by first | rfl | (simp only [x97.ad (x90.mv (x84.mv ((x75.mvq (x69.mvq (x63.mvq (jN_oldq h49)))) y77 rfl))), x97.ad (x90.mv (x84.mv (x75.mv (x69.mv (x63.mv (jN_old (x44.mv (x18.mv (jN_old a0))))))))), x97.ad (x90.mv (x84.mv (x75.mv (x69.mv (x63.mv (jN_old (x44.mv (x18.mv jN_al))))))))]; done) | (simp only [x97.ad (x90.mv (x84.mv ((x75.mvq (x69.mvq (x63.mvq (jN_oldq h49)))) y77 rfl))), x97.ad (x90.mv (x84.mv (x75.mv (x69.mv (x63.mv (jN_old (x44.mv (x18.mv (jN_old a0))))))))), x97.ad (x90.mv (x84.mv (x75.mv (x69.mv (x63.mv (jN_old (x44.mv (x18.mv jN_al))))))))]; rfl)) ?_
    refine J.callAr (κ := 15) hx (fun r z1 z => j_callA_of (j_runV (κ := 16) hx rfl rfl x98.1 (mt_J2_toString x98 z) (lw_V q1524 q655 q2356 q133 q657) hd_J2_toString rfl ⟨Nat.le_of_ble_eq_true rfl, Nat.le_of_ble_eq_true rfl⟩ (Nat.le_of_ble_eq_true rfl) dX1_spelled_97)) ⟨Nat.le_of_ble_eq_true rfl, Nat.le_of_ble_eq_true rfl⟩ fun v99 w100 B102 e101 x103 x104 => ?_
    refine J.cv (lv' := [(4, .ref (B102.1 3 y77)), (0, .ref (B102.1 0 0)), (1, .int p1), (3, .ref (B102.1 16 n5))]) (st' := [.ref (B102.1 15 v99)]) (by first | rfl | (simp only [x103.ad (x97.mv (x90.mv (x84.mv ((x75.mvq (x69.mvq (x63.mvq (jN_oldq h49)))) y77 rfl)))), x103.ad (x97.mv (x90.mv (x84.mv (x75.mv (x69.mv (x63.mv (jN_old (x44.mv (x18.mv (jN_old a0)))))))))), x103.ad (x97.mv (x90.mv (x84.mv (x75.mv (x69.mv (x63.mv (jN_old (x44.mv (x18.mv jN_al)))))))))]; done) | (simp only [x103.ad (x97.mv (x90.mv (x84.mv ((x75.mvq (x69.mvq (x63.mvq (jN_oldq h49)))) y77 rfl)))), x103.ad (x97.mv (x90.mv (x84.mv (x75.mv (x69.mv (x63.mv (jN_old (x44.mv (x18.mv (jN_old a0)))))))))), x103.ad (x97.mv (x90.mv (x84.mv (x75.mv (x69.mv (x63.mv (jN_old (x44.mv (x18.mv jN_al)))))))))]; rfl)) (by first | rfl | (simp only [x103.ad (x97.mv (x90.mv (x84.mv ((x75.mvq (x69.mvq (x63.mvq (jN_oldq h49)))) y77 rfl)))), x103.ad (x97.mv (x90.mv (x84.mv (x75.mv (x69.mv (x63.mv (jN_old (x44.mv (x18.mv (jN_old a0)))))))))), x103.ad (x97.mv (x90.mv (x84.mv (x75.mv (x69.mv (x63.mv (jN_old (x44.mv (x18.mv jN_al)))))))))]; done) | (simp only [x103.ad (x97.mv (x90.mv (x84.mv ((x75.mvq (x69.mvq (x63.mvq (jN_oldq h49)))) y77 rfl)))), x103.ad (x97.mv (x90.mv (x84.mv (x75.mv (x69.mv (x63.mv (jN_old (x44.mv (x18.mv (jN_old a0)))))))))), x103.ad (x97.mv (x90.mv (x84.mv (x75.mv (x69.mv (x63.mv (jN_old (x44.mv (x18.mv jN_al)))))))))]; rfl)) ?_
    exact J.aretA (κ := 15) (q := v99) hx (((((((((((j_ext.rf.tr (jN_ext h9)).tr x18).tr x44).tr (jN_ext h54)).tr x63).tr x69).tr x75).tr x84).tr x90).tr x97).tr x103) x104 rfl (Or.inl ⟨_, rfl⟩) (Nat.le_of_ble_eq_true rfl) (Nat.le_of_ble_eq_true rfl) dX1_spelled_100
  · intro K47 hK47
    refine J.icmp_ne (tgt := 33) hx dX1_spelled_20 (by decide) ?_ ?_
    · refine J.aload_n hx dX1_spelled_23 rfl 0 rfl ?_
      refine J.bipush (v := 63) hx dX1_spelled_24 (by decide) ?_
      refine J.callAr (κ := 16) hx (fun r z1 z => j_callA_of (j_runV (κ := 16) hx rfl rfl (x18.mv jN_al).1 (mt_J2_append (x18.mv jN_al) z) (lw_V q1390 q552 q553 q133 q554) hd_J2_append rfl ⟨Nat.le_of_ble_eq_true rfl, Nat.le_of_ble_eq_true rfl⟩ (Nat.le_of_ble_eq_true rfl) dX1_spelled_26)) ⟨Nat.le_of_ble_eq_true rfl, Nat.le_of_ble_eq_true rfl⟩ fun v36 w37 B39 e38 x40 x41 => ?_
      refine J.cv (lv' := [(3, .ref (B39.1 16 n5)), (2, .int v2), (0, .ref (B39.1 0 0)), (1, .int p1)]) (st' := [.ref (B39.1 16 v36)]) (by first | rfl | (simp only [x40.ad (x18.mv jN_al), x40.ad (x18.mv (jN_old a0))]; done) | (simp only [x40.ad (x18.mv jN_al), x40.ad (x18.mv (jN_old a0))]; rfl)) (by first | rfl | (simp only [x40.ad (x18.mv jN_al), x40.ad (x18.mv (jN_old a0))]; done) | (simp only [x40.ad (x18.mv jN_al), x40.ad (x18.mv (jN_old a0))]; rfl)) ?_
      refine J.pop hx dX1_spelled_29 rfl ?_
      refine J.goto (tgt := 47) hx dX1_spelled_30 (by decide) ?_
      exact J.sub [2, 3, 0] rfl (hK47 B39 x40 w37)
    · refine J.aload_n hx dX1_spelled_33 rfl 0 rfl ?_
      refine J.aload_n hx dX1_spelled_34 rfl 2 rfl ?_
      refine J.getr (κ' := 6) (κ := 0) (k := 7) hx rfl rfl rfl rfl in_X1 (by decide) (Or.inl q374) (x18.mv (jN_old a0)).1 dX1_spelled_35 fun v20 h21 => ?_
      refine J.obU fun y22 e23 => ?_
      subst e23
      refine J.getc (κ' := 34) (i' := y22) (κ := 6) (k := 1) hx rfl rfl rfl rfl rfl in_X11 (by decide) (Or.inr ⟨_, j_nl q476 rfl⟩) (h21 y22 rfl).2 dX1_spelled_38 fun h24 => ?_
      refine J.iload_n hx dX1_spelled_41 rfl 1 rfl ?_
      refine J.aald (κ' := 15) (κ := 34) hx rfl rfl (by decide) rfl rfl h24.1 dX1_spelled_42 fun v26 h27 => ?_
      refine J.obU fun y28 e29 => ?_
      subst e29
      refine J.callAr (κ := 16) hx (fun r z1 z => j_callA_of (j_runV (κ := 16) hx rfl rfl (x18.mv jN_al).1 (mt_J2_append_2_a15 (x18.mv jN_al) (h27 y28 rfl) z) (lw_V q1391 q1392 q1393 q133 q1394) hd_J2_append_2 rfl ⟨Nat.le_of_ble_eq_true rfl, Nat.le_of_ble_eq_true rfl⟩ (Nat.le_of_ble_eq_true rfl) dX1_spelled_43)) ⟨Nat.le_of_ble_eq_true rfl, Nat.le_of_ble_eq_true rfl⟩ fun v30 w31 B33 e32 x34 x35 => ?_
      refine J.cv (lv' := [(3, .ref (B33.1 16 n5)), (2, .int v2), (0, .ref (B33.1 0 0)), (1, .int p1)]) (st' := [.ref (B33.1 16 v30)]) (by first | rfl | (simp only [x34.ad (x18.mv jN_al), x34.ad (x18.mv (jN_old a0))]; done) | (simp only [x34.ad (x18.mv jN_al), x34.ad (x18.mv (jN_old a0))]; rfl)) (by first | rfl | (simp only [x34.ad (x18.mv jN_al), x34.ad (x18.mv (jN_old a0))]; done) | (simp only [x34.ad (x18.mv jN_al), x34.ad (x18.mv (jN_old a0))]; rfl)) ?_
      refine J.pop hx dX1_spelled_46 rfl ?_
      exact J.sub [2, 3, 0] rfl (hK47 B33 x34 w31)
theorem hd_X1_spell : yX1_spell.cls = RX1 ∧ yX1_spell.cls ≠ "java/lang/invoke/MethodHandle" ∧ yX1_spell.cls ≠ "java/lang/invoke/VarHandle" ∧ (parseMethodDescriptor yX1_spell.desc).map (fun d => d.parameters.length) = some 2 := by decide +kernel
def f_X1_spell (p1 : Int32) (p2 : Int32) (w : j_St) : Option (Int32 × j_St) := jcb (f_X1_isKept p1 w) fun v1 w2 => if v1 = 0 then some ((-1), w2) else jcb (f_X1_spelled p1 w2) fun v4 w5 => if p2 = (-1) then jcb (f_J3_length_k15 v4 w5) fun v19 w20 => some (v19, w20) else jcb (f_J3_length_k15 v4 w5) fun v10 w11 => jcb (f_X1_isIn p2.toInt64 0 ((v10 - 1).toInt64) w11) fun v13 w14 => if v13 = 0 then some ((-1), w14) else jcb (f_J3_charAt v4 p2 w14) fun v16 w17 => some (v16, w17)
abbrev rm_X1_spell : Room := { frames := 9, cells := 20, slots := 8000, locals := 236 }
set_option maxRecDepth 100000 in
set_option maxHeartbeats 4000000 in
theorem mt_X1_spell {g : j_G} {B : j_B} {p1 : Int32} {p2 : Int32} {w w' : j_St} (a0 : B.2.1 0 0 ∧ B.2.2 0 0) (hL : j_lit g B)  {r : Int32} (h : f_X1_spell p1 p2 w = some (r, w')) : j_MA g yX1_spell cX1_spell 4 (some FieldType.int) rm_X1_spell B [.ref (B.1 0 0), .int p1, .int p2] w w' ((fun r _ => jri r) r) ((fun _ _ _ => True) r w') := by
  refine j_metA (rv := (fun r _ => jri r)) (PB := (fun _ _ _ => True)) (by decide) (Nat.le_of_ble_eq_true rfl) (fun x hx hnm => ?_) h
  unfold f_X1_spell
  refine J.sub (lv' := [(0, .ref (B.1 0 0)), (1, .int p1), (2, .int p2)]) [0, 1, 2] rfl ?_
  refine J.aload_n hx dX1_spell_0 rfl 0 rfl ?_
  refine J.iload_n hx dX1_spell_1 rfl 1 rfl ?_
  refine J.calli hx (fun r z1 z => j_callV (κ := 0) hx rfl rfl a0.1 (mt_X1_isKept a0 z) (lw_V q1243 q1245 qs28 q120 q1246) hd_X1_isKept rfl ⟨Nat.le_of_ble_eq_true rfl, Nat.le_of_ble_eq_true rfl⟩ (Nat.le_of_ble_eq_true rfl) dX1_spell_2) ⟨⟨rfl, rfl⟩, (Nat.le_of_ble_eq_true rfl), (Nat.le_of_ble_eq_true rfl)⟩ fun v1 w2 e3 => ?_
  refine J.if_ne (tgt := 10) hx dX1_spell_5 (by decide) ?_ ?_
  · refine J.iconst (v := (-1)) hx dX1_spell_8 (by decide) ?_
    exact J.iretA hx j_ext.rf trivial rfl (Nat.le_of_ble_eq_true rfl) (Nat.le_of_ble_eq_true rfl) dX1_spell_9
  · refine J.aload_n hx dX1_spell_10 rfl 0 rfl ?_
    refine J.iload_n hx dX1_spell_11 rfl 1 rfl ?_
    refine J.callAr (κ := 15) hx (fun r z1 z => j_callA_of (j_runV (κ := 0) hx rfl rfl a0.1 (mt_X1_spelled a0 (hL.mv j_ext.rf) z) (lw_V q1380 q1382 qs35 q120 q1383) hd_X1_spelled rfl ⟨Nat.le_of_ble_eq_true rfl, Nat.le_of_ble_eq_true rfl⟩ (Nat.le_of_ble_eq_true rfl) dX1_spell_12)) ⟨Nat.le_of_ble_eq_true rfl, Nat.le_of_ble_eq_true rfl⟩ fun v4 w5 B7 e6 x8 x9 => ?_
    refine J.cv (lv' := [(0, .ref (B7.1 0 0)), (1, .int p1), (2, .int p2)]) (st' := [.ref (B7.1 15 v4)]) (by first | rfl | (simp only [x8.ad a0]; done) | (simp only [x8.ad a0]; rfl)) (by first | rfl | (simp only [x8.ad a0]; done) | (simp only [x8.ad a0]; rfl)) ?_
    refine J.astore_n (lv' := [(3, .ref (B7.1 15 v4)), (0, .ref (B7.1 0 0)), (1, .int p1), (2, .int p2)]) hx dX1_spell_15 rfl (by decide) rfl ?_
    refine J.iload_n hx dX1_spell_16 rfl 3 rfl ?_
    refine J.iconst (v := (-1)) hx dX1_spell_17 (by decide) ?_
    refine J.icmp_ne (tgt := 28) hx dX1_spell_18 (by decide) ?_ ?_
    · refine J.aload_n hx dX1_spell_21 rfl 0 rfl ?_
      refine J.calli hx (fun r z1 z => j_callF (n := 0) (κ := 15) hx rfl rfl x9.1 (mt_J3_length_k15 x9 z) (j_wF q1526 q872 q874 q134 q876) (List.mem_of_getElem? (i := 6) rfl) (by decide +kernel) rfl ⟨Nat.le_of_ble_eq_true rfl, Nat.le_of_ble_eq_true rfl⟩ (Nat.le_of_ble_eq_true rfl) dX1_spell_22) ⟨⟨rfl, rfl⟩, (Nat.le_of_ble_eq_true rfl), (Nat.le_of_ble_eq_true rfl)⟩ fun v19 w20 e21 => ?_
      exact J.iretA hx (j_ext.rf.tr x8) trivial rfl (Nat.le_of_ble_eq_true rfl) (Nat.le_of_ble_eq_true rfl) dX1_spell_27
    · refine J.iload_n hx dX1_spell_28 rfl 3 rfl ?_
      refine J.i2l hx dX1_spell_29 ?_
      refine J.lconst (v := 0) hx dX1_spell_30 (by decide) ?_
      refine J.aload_n hx dX1_spell_31 rfl 0 rfl ?_
      refine J.calli hx (fun r z1 z => j_callF (n := 0) (κ := 15) hx rfl rfl x9.1 (mt_J3_length_k15 x9 z) (j_wF q1526 q872 q874 q134 q876) (List.mem_of_getElem? (i := 6) rfl) (by decide +kernel) rfl ⟨Nat.le_of_ble_eq_true rfl, Nat.le_of_ble_eq_true rfl⟩ (Nat.le_of_ble_eq_true rfl) dX1_spell_32) ⟨⟨rfl, rfl⟩, (Nat.le_of_ble_eq_true rfl), (Nat.le_of_ble_eq_true rfl)⟩ fun v10 w11 e12 => ?_
      refine J.iconst (v := 1) hx dX1_spell_37 (by decide) ?_
      refine J.isub hx dX1_spell_38 ?_
      refine J.i2l hx dX1_spell_39 ?_
      refine J.calli hx (fun r z1 z => j_callS hx (mt_X1_isIn z) (lw_S q441 q442 q120 q443) hd_X1_isIn.2 rfl ⟨Nat.le_of_ble_eq_true rfl, Nat.le_of_ble_eq_true rfl⟩ (Nat.le_of_ble_eq_true rfl) dX1_spell_40) ⟨⟨rfl, rfl⟩, (Nat.le_of_ble_eq_true rfl), (Nat.le_of_ble_eq_true rfl)⟩ fun v13 w14 e15 => ?_
      refine J.if_eq (tgt := 56) hx dX1_spell_43 (by decide) ?_ ?_
      · refine J.iconst (v := (-1)) hx dX1_spell_56 (by decide) ?_
        exact J.iretA hx (j_ext.rf.tr x8) trivial rfl (Nat.le_of_ble_eq_true rfl) (Nat.le_of_ble_eq_true rfl) dX1_spell_57
      · refine J.aload_n hx dX1_spell_46 rfl 0 rfl ?_
        refine J.iload_n hx dX1_spell_47 rfl 3 rfl ?_
        refine J.calli hx (fun r z1 z => j_callF (n := 1) (κ := 15) hx rfl rfl x9.1 (mt_J3_charAt x9 z) (j_wF q1528 q1531 q1533 q134 q1535) (List.mem_of_getElem? (i := 7) rfl) (by decide +kernel) rfl ⟨Nat.le_of_ble_eq_true rfl, Nat.le_of_ble_eq_true rfl⟩ (Nat.le_of_ble_eq_true rfl) dX1_spell_48) ⟨⟨rfl, rfl⟩, (Nat.le_of_ble_eq_true rfl), (Nat.le_of_ble_eq_true rfl)⟩ fun v16 w17 e18 => ?_
        refine J.goto (tgt := 57) hx dX1_spell_53 (by decide) ?_
        exact J.iretA hx (j_ext.rf.tr x8) trivial rfl (Nat.le_of_ble_eq_true rfl) (Nat.le_of_ble_eq_true rfl) dX1_spell_57
theorem hd_X1_peak : yX1_peak.cls = RX1 ∧ yX1_peak.cls ≠ "java/lang/invoke/MethodHandle" ∧ yX1_peak.cls ≠ "java/lang/invoke/VarHandle" ∧ (parseMethodDescriptor yX1_peak.desc).map (fun d => d.parameters.length) = some 2 := by decide +kernel
def f_X1_peak (p1 : Int32) (p2 : Int32) (w : j_St) : Option ((Nat ⊕ Int32) × j_St) := jlt (jgr w 0 0 7) fun v1 => jlt (fun (w61 : j_St) => some (.inl 0, w61)) fun K38 => jcs v1 (K38 w) fun y3 => jcb (f_X1_found w) fun _ w6 => jlt (jgi w6 2 0 5) fun v9 => jcb (f_X1_isIn p1.toInt64 0 ((v9 - 1).toInt64) w6) fun v10 w11 => if v10 = 0 then K38 w11 else jcb (f_X1_isIn p2.toInt64 0 8 w11) fun v13 w14 => if v13 = 0 then K38 w14 else jbd p1 48 fun a18 => jlt (jgr w14 27 0 a18) fun v19 => if p2 = 0 then job v19 fun y21 => jlt (jgi w14 3 y21 0) fun v23 => some (.inr v23, w14) else if p2 = 1 then job v19 fun y24 => jlt (jgi w14 3 y24 1) fun v26 => some (.inr v26, w14) else if p2 = 2 then job v19 fun y27 => jlt (jgi w14 3 y27 2) fun v29 => some (.inr v29, w14) else if p2 = 3 then job v19 fun y30 => jlt (jgi w14 3 y30 3) fun v32 => some (.inr v32, w14) else if p2 = 4 then job v19 fun y33 => jcb (f_X6_persistence y33 w14) fun v35 w36 => some (.inr v35, w36) else if p2 = 5 then job v19 fun y38 => jlt (jgr w14 3 y38 5) fun v40 => jcs v40 (some (.inr (-1), w14)) fun y42 => jlt (jgr w14 3 y38 5) fun v45 => jcb (f_X5_numberOf 0 v45 w14) fun v47 w48 => some (.inr v47, w48) else if p2 = 6 then job v19 fun y50 => jlt (jgi w14 3 y50 6) fun v52 => if v52 = 0 then some (.inr 0, w14) else some (.inr 1, w14) else if p2 = 7 then jcb (f_X5_generation 0 p1 w14) fun v54 w55 => some (.inr v54, w55) else jcb (f_X1_matchOf 0 p1 w14) fun v58 w59 => some (.inr v58, w59)
abbrev rm_X1_peak : Room := { frames := 6, cells := 1, slots := 6, locals := 117 }
set_option maxRecDepth 100000 in
set_option maxHeartbeats 4000000 in
theorem mt_X1_peak {g : j_G} {B : j_B} {p1 : Int32} {p2 : Int32} {w w' : j_St} (a0 : B.2.1 0 0 ∧ B.2.2 0 0) {r : (Nat ⊕ Int32)} (h : f_X1_peak p1 p2 w = some (r, w')) : j_MN g yX1_peak cX1_peak 4 (some FieldType.int) rm_X1_peak B [.ref (B.1 0 0), .int p1, .int p2] w w' r := by
  refine j_metN (by decide) (Nat.le_of_ble_eq_true rfl) (fun x hx hnt hsz => ?_) h
  unfold f_X1_peak
  refine J.sub (lv' := [(0, .ref (B.1 0 0)), (1, .int p1), (2, .int p2)]) [0, 1, 2] rfl ?_
  refine J.aload_n hx dX1_peak_0 rfl 0 rfl ?_
  refine J.getr (κ' := 6) (κ := 0) (k := 7) hx rfl rfl rfl rfl in_X1 (by decide) (Or.inl q374) a0.1 dX1_peak_1 fun v1 h2 => ?_
  refine J.fn (fun (K38 : j_St → Option ((Nat ⊕ Int32) × j_St)) => ∀  (w61 : j_St), J g x 4 B (j_QN g x B rm_X1_peak) 0 0 (K38 w61) 38 [] [] w61) ?_ ?_
  · intro w61
    exact J.throwN hx hnt hsz q1620 q146 ⟨by decide +kernel, by decide +kernel⟩ dX1_peak_38 dX1_peak_41 dX1_peak_42 dX1_peak_45 (Nat.le_of_ble_eq_true rfl) ⟨Nat.le_of_ble_eq_true rfl, Nat.le_of_ble_eq_true rfl⟩ (Nat.le_of_ble_eq_true rfl) (Nat.le_of_ble_eq_true rfl)
  · intro K38 hK38
    refine J.ifnull (tgt := 38) hx dX1_peak_4 (by decide) (fun e4n => ?_) (fun y3 e4 => ?_)
    · subst e4n
      exact J.sub [] rfl (hK38 w)
    · subst e4
      refine J.iload_n hx dX1_peak_7 rfl 1 rfl ?_
      refine J.i2l hx dX1_peak_8 ?_
      refine J.lconst (v := 0) hx dX1_peak_9 (by decide) ?_
      refine J.aload_n hx dX1_peak_10 rfl 0 rfl ?_
      refine J.callt hx (fun r z1 z => j_callV (κ := 0) hx rfl rfl a0.1 (mt_X1_found a0 z) (lw_V q1224 q1226 qs27 q120 q1227) hd_X1_found rfl ⟨Nat.le_of_ble_eq_true rfl, Nat.le_of_ble_eq_true rfl⟩ (Nat.le_of_ble_eq_true rfl) dX1_peak_11) ⟨⟨rfl, rfl⟩, (Nat.le_of_ble_eq_true rfl), (Nat.le_of_ble_eq_true rfl)⟩ fun _ w6 e7 => ?_
      refine J.fact (j_pk0 a0) fun h8 => ?_
      refine J.geti (κ := 2) (k := 5) hx rfl rfl rfl in_X5 (by decide) (Or.inr ⟨_, j_nl q283 rfl⟩) h8.1 dX1_peak_14 fun v9 => ?_
      refine J.iconst (v := 1) hx dX1_peak_17 (by decide) ?_
      refine J.isub hx dX1_peak_18 ?_
      refine J.i2l hx dX1_peak_19 ?_
      refine J.calli hx (fun r z1 z => j_callS hx (mt_X1_isIn z) (lw_S q441 q442 q120 q443) hd_X1_isIn.2 rfl ⟨Nat.le_of_ble_eq_true rfl, Nat.le_of_ble_eq_true rfl⟩ (Nat.le_of_ble_eq_true rfl) dX1_peak_20) ⟨⟨rfl, rfl⟩, (Nat.le_of_ble_eq_true rfl), (Nat.le_of_ble_eq_true rfl)⟩ fun v10 w11 e12 => ?_
      refine J.if_eq (tgt := 38) hx dX1_peak_23 (by decide) ?_ ?_
      · exact J.sub [] rfl (hK38 w11)
      · refine J.iload_n hx dX1_peak_26 rfl 2 rfl ?_
        refine J.i2l hx dX1_peak_27 ?_
        refine J.lconst (v := 0) hx dX1_peak_28 (by decide) ?_
        refine J.ldc2 (v := 8) hx q1619 dX1_peak_29 ?_
        refine J.calli hx (fun r z1 z => j_callS hx (mt_X1_isIn z) (lw_S q441 q442 q120 q443) hd_X1_isIn.2 rfl ⟨Nat.le_of_ble_eq_true rfl, Nat.le_of_ble_eq_true rfl⟩ (Nat.le_of_ble_eq_true rfl) dX1_peak_32) ⟨⟨rfl, rfl⟩, (Nat.le_of_ble_eq_true rfl), (Nat.le_of_ble_eq_true rfl)⟩ fun v13 w14 e15 => ?_
        refine J.if_ne (tgt := 46) hx dX1_peak_35 (by decide) ?_ ?_
        · exact J.sub [] rfl (hK38 w14)
        · refine J.aload_n hx dX1_peak_46 rfl 0 rfl ?_
          refine J.getc (κ' := 2) (i' := 0) (κ := 0) (k := 10) hx rfl rfl rfl rfl rfl in_X1 (by decide) (Or.inl q378) a0.2 dX1_peak_47 fun h16 => ?_
          refine J.getc (κ' := 27) (i' := 0) (κ := 2) (k := 1) hx rfl rfl rfl rfl rfl in_X5 (by decide) (Or.inr ⟨_, j_nl q277 rfl⟩) h16.2 dX1_peak_50 fun h17 => ?_
          refine J.iload_n hx dX1_peak_53 rfl 1 rfl ?_
          refine J.aald (κ' := 3) (κ := 27) hx rfl rfl (by decide) rfl rfl h17.1 dX1_peak_54 fun v19 h20 => ?_
          refine J.astore_nq (lv' := [(3, va_re (B.1 3) v19), (0, .ref (B.1 0 0)), (1, .int p1), (2, .int p2)]) hx dX1_peak_55 rfl (by decide) rfl ?_
          refine J.iload_n hx dX1_peak_56 rfl 3 rfl ?_
          refine J.ite (fun e0 => ?_) (fun n0 => ?_)
          · refine J.tsw (off := 47) (tgt := 104) hx dX1_peak_57 (by rw [e0]; decide) (by rw [e0]; decide) (by rw [e0]; rfl) (by decide) ?_
            refine J.aload_nq hx dX1_peak_104 rfl 0 rfl ?_
            refine J.obU fun y21 e22 => ?_
            subst e22
            refine J.geti (κ := 3) (k := 0) hx rfl rfl rfl in_X6 (by decide) (Or.inr ⟨_, j_nl q239 rfl⟩) (h20 y21 rfl).1 dX1_peak_105 fun v23 => ?_
            refine J.goto (tgt := 199) hx dX1_peak_108 (by decide) ?_
            exact J.iretN hx rfl (Nat.le_of_ble_eq_true rfl) (Nat.le_of_ble_eq_true rfl) dX1_peak_199
          · refine J.ite (fun e1 => ?_) (fun n1 => ?_)
            · refine J.tsw (off := 54) (tgt := 111) hx dX1_peak_57 (by rw [e1]; decide) (by rw [e1]; decide) (by rw [e1]; rfl) (by decide) ?_
              refine J.aload_nq hx dX1_peak_111 rfl 0 rfl ?_
              refine J.obU fun y24 e25 => ?_
              subst e25
              refine J.geti (κ := 3) (k := 1) hx rfl rfl rfl in_X6 (by decide) (Or.inr ⟨_, j_nl q242 rfl⟩) (h20 y24 rfl).1 dX1_peak_112 fun v26 => ?_
              refine J.goto (tgt := 199) hx dX1_peak_115 (by decide) ?_
              exact J.iretN hx rfl (Nat.le_of_ble_eq_true rfl) (Nat.le_of_ble_eq_true rfl) dX1_peak_199
            · refine J.ite (fun e2 => ?_) (fun n2 => ?_)
              · refine J.tsw (off := 61) (tgt := 118) hx dX1_peak_57 (by rw [e2]; decide) (by rw [e2]; decide) (by rw [e2]; rfl) (by decide) ?_
                refine J.aload_nq hx dX1_peak_118 rfl 0 rfl ?_
                refine J.obU fun y27 e28 => ?_
                subst e28
                refine J.geti (κ := 3) (k := 2) hx rfl rfl rfl in_X6 (by decide) (Or.inr ⟨_, j_nl q244 rfl⟩) (h20 y27 rfl).1 dX1_peak_119 fun v29 => ?_
                refine J.goto (tgt := 199) hx dX1_peak_122 (by decide) ?_
                exact J.iretN hx rfl (Nat.le_of_ble_eq_true rfl) (Nat.le_of_ble_eq_true rfl) dX1_peak_199
              · refine J.ite (fun e3 => ?_) (fun n3 => ?_)
                · refine J.tsw (off := 68) (tgt := 125) hx dX1_peak_57 (by rw [e3]; decide) (by rw [e3]; decide) (by rw [e3]; rfl) (by decide) ?_
                  refine J.aload_nq hx dX1_peak_125 rfl 0 rfl ?_
                  refine J.obU fun y30 e31 => ?_
                  subst e31
                  refine J.geti (κ := 3) (k := 3) hx rfl rfl rfl in_X6 (by decide) (Or.inr ⟨_, j_nl q248 rfl⟩) (h20 y30 rfl).1 dX1_peak_126 fun v32 => ?_
                  refine J.goto (tgt := 199) hx dX1_peak_129 (by decide) ?_
                  exact J.iretN hx rfl (Nat.le_of_ble_eq_true rfl) (Nat.le_of_ble_eq_true rfl) dX1_peak_199
                · refine J.ite (fun e4 => ?_) (fun n4 => ?_)
                  · refine J.tsw (off := 75) (tgt := 132) hx dX1_peak_57 (by rw [e4]; decide) (by rw [e4]; decide) (by rw [e4]; rfl) (by decide) ?_
                    refine J.aload_nq hx dX1_peak_132 rfl 0 rfl ?_
                    refine J.obU fun y33 e34 => ?_
                    subst e34
                    refine J.calli hx (fun r z1 z => j_callV (κ := 3) hx rfl rfl (h20 y33 rfl).1 (mt_X6_persistence (h20 y33 rfl) z) (lw_V q1309 q1046 q1047 q126 q1048) hd_X6_persistence rfl ⟨Nat.le_of_ble_eq_true rfl, Nat.le_of_ble_eq_true rfl⟩ (Nat.le_of_ble_eq_true rfl) dX1_peak_133) ⟨⟨rfl, rfl⟩, (Nat.le_of_ble_eq_true rfl), (Nat.le_of_ble_eq_true rfl)⟩ fun v35 w36 e37 => ?_
                    refine J.goto (tgt := 199) hx dX1_peak_136 (by decide) ?_
                    exact J.iretN hx rfl (Nat.le_of_ble_eq_true rfl) (Nat.le_of_ble_eq_true rfl) dX1_peak_199
                  · refine J.ite (fun e5 => ?_) (fun n5 => ?_)
                    · refine J.tsw (off := 82) (tgt := 139) hx dX1_peak_57 (by rw [e5]; decide) (by rw [e5]; decide) (by rw [e5]; rfl) (by decide) ?_
                      refine J.aload_nq hx dX1_peak_139 rfl 0 rfl ?_
                      refine J.obU fun y38 e39 => ?_
                      subst e39
                      refine J.getr (κ' := 3) (κ := 3) (k := 5) hx rfl rfl rfl rfl in_X6 (by decide) (Or.inr ⟨_, j_nl q253 rfl⟩) (h20 y38 rfl).1 dX1_peak_140 fun v40 h41 => ?_
                      refine J.ifnonnull (tgt := 150) hx dX1_peak_143 (by decide) (fun e43n => ?_) (fun y42 e43 => ?_)
                      · subst e43n
                        refine J.iconst (v := (-1)) hx dX1_peak_146 (by decide) ?_
                        refine J.goto (tgt := 199) hx dX1_peak_147 (by decide) ?_
                        exact J.iretN hx rfl (Nat.le_of_ble_eq_true rfl) (Nat.le_of_ble_eq_true rfl) dX1_peak_199
                      · subst e43
                        refine J.aload_n hx dX1_peak_150 rfl 1 rfl ?_
                        refine J.getc (κ' := 2) (i' := 0) (κ := 0) (k := 10) hx rfl rfl rfl rfl rfl in_X1 (by decide) (Or.inl q378) a0.2 dX1_peak_151 fun h44 => ?_
                        refine J.aload_n hx dX1_peak_154 rfl 0 rfl ?_
                        refine J.getr (κ' := 3) (κ := 3) (k := 5) hx rfl rfl rfl rfl in_X6 (by decide) (Or.inr ⟨_, j_nl q253 rfl⟩) (h20 y38 rfl).1 dX1_peak_155 fun v45 h46 => ?_
                        refine J.calli hx (fun r z1 z => j_callV (κ := 2) hx rfl rfl h44.1 (mt_X5_numberOf h44 h46 z) (lw_V q1643 q1644 q1645 q125 q1646) hd_X5_numberOf rfl ⟨Nat.le_of_ble_eq_true rfl, Nat.le_of_ble_eq_true rfl⟩ (Nat.le_of_ble_eq_true rfl) dX1_peak_158) ⟨⟨rfl, rfl⟩, (Nat.le_of_ble_eq_true rfl), (Nat.le_of_ble_eq_true rfl)⟩ fun v47 w48 e49 => ?_
                        refine J.goto (tgt := 199) hx dX1_peak_161 (by decide) ?_
                        exact J.iretN hx rfl (Nat.le_of_ble_eq_true rfl) (Nat.le_of_ble_eq_true rfl) dX1_peak_199
                    · refine J.ite (fun e6 => ?_) (fun n6 => ?_)
                      · refine J.tsw (off := 107) (tgt := 164) hx dX1_peak_57 (by rw [e6]; decide) (by rw [e6]; decide) (by rw [e6]; rfl) (by decide) ?_
                        refine J.aload_nq hx dX1_peak_164 rfl 0 rfl ?_
                        refine J.obU fun y50 e51 => ?_
                        subst e51
                        refine J.geti (κ := 3) (k := 6) hx rfl rfl rfl in_X6 (by decide) (Or.inr ⟨_, j_nl q256 rfl⟩) (h20 y50 rfl).1 dX1_peak_165 fun v52 => ?_
                        refine J.if_eq (tgt := 175) hx dX1_peak_168 (by decide) ?_ ?_
                        · refine J.iconst (v := 0) hx dX1_peak_175 (by decide) ?_
                          refine J.goto (tgt := 199) hx dX1_peak_176 (by decide) ?_
                          exact J.iretN hx rfl (Nat.le_of_ble_eq_true rfl) (Nat.le_of_ble_eq_true rfl) dX1_peak_199
                        · refine J.iconst (v := 1) hx dX1_peak_171 (by decide) ?_
                          refine J.goto (tgt := 199) hx dX1_peak_172 (by decide) ?_
                          exact J.iretN hx rfl (Nat.le_of_ble_eq_true rfl) (Nat.le_of_ble_eq_true rfl) dX1_peak_199
                      · refine J.ite (fun e7 => ?_) (fun n7 => ?_)
                        · refine J.tsw (off := 122) (tgt := 179) hx dX1_peak_57 (by rw [e7]; decide) (by rw [e7]; decide) (by rw [e7]; rfl) (by decide) ?_
                          refine J.aload_n hx dX1_peak_179 rfl 1 rfl ?_
                          refine J.getc (κ' := 2) (i' := 0) (κ := 0) (k := 10) hx rfl rfl rfl rfl rfl in_X1 (by decide) (Or.inl q378) a0.2 dX1_peak_180 fun h53 => ?_
                          refine J.iload_n hx dX1_peak_183 rfl 2 rfl ?_
                          refine J.calli hx (fun r z1 z => j_callV (κ := 2) hx rfl rfl h53.1 (mt_X5_generation h53 z) (lw_V q1368 q1369 q1370 q125 q1371) hd_X5_generation rfl ⟨Nat.le_of_ble_eq_true rfl, Nat.le_of_ble_eq_true rfl⟩ (Nat.le_of_ble_eq_true rfl) dX1_peak_184) ⟨⟨rfl, rfl⟩, (Nat.le_of_ble_eq_true rfl), (Nat.le_of_ble_eq_true rfl)⟩ fun v54 w55 e56 => ?_
                          refine J.goto (tgt := 199) hx dX1_peak_187 (by decide) ?_
                          exact J.iretN hx rfl (Nat.le_of_ble_eq_true rfl) (Nat.le_of_ble_eq_true rfl) dX1_peak_199
                        · have z0 := j_neT n0 (a := 0) (by decide)
                          have z1 := j_neT n1 (a := 1) (by decide)
                          have z2 := j_neT n2 (a := 2) (by decide)
                          have z3 := j_neT n3 (a := 3) (by decide)
                          have z4 := j_neT n4 (a := 4) (by decide)
                          have z5 := j_neT n5 (a := 5) (by decide)
                          have z6 := j_neT n6 (a := 6) (by decide)
                          have z7 := j_neT n7 (a := 7) (by decide)
                          refine J.tswD (tgt := 190) hx dX1_peak_57 (by omega) (by decide) ?_
                          refine J.aload_n hx dX1_peak_190 rfl 1 rfl ?_
                          refine J.aload_n hx dX1_peak_191 rfl 1 rfl ?_
                          refine J.getc (κ' := 2) (i' := 0) (κ := 0) (k := 10) hx rfl rfl rfl rfl rfl in_X1 (by decide) (Or.inl q378) a0.2 dX1_peak_192 fun h57 => ?_
                          refine J.iload_n hx dX1_peak_195 rfl 2 rfl ?_
                          refine J.calli hx (fun r z1 z => j_callV (κ := 0) hx rfl rfl a0.1 (mt_X1_matchOf a0 h57 z) (lw_V q1384 q1386 qs36 q120 q1387) hd_X1_matchOf rfl ⟨Nat.le_of_ble_eq_true rfl, Nat.le_of_ble_eq_true rfl⟩ (Nat.le_of_ble_eq_true rfl) dX1_peak_196) ⟨⟨rfl, rfl⟩, (Nat.le_of_ble_eq_true rfl), (Nat.le_of_ble_eq_true rfl)⟩ fun v58 w59 e60 => ?_
                          exact J.iretN hx rfl (Nat.le_of_ble_eq_true rfl) (Nat.le_of_ble_eq_true rfl) dX1_peak_199
theorem hd_X1_line : yX1_line.cls = RX1 ∧ yX1_line.cls ≠ "java/lang/invoke/MethodHandle" ∧ yX1_line.cls ≠ "java/lang/invoke/VarHandle" ∧ (parseMethodDescriptor yX1_line.desc).map (fun d => d.parameters.length) = some 2 := by decide +kernel
def f_X1_line (p1 : Int32) (p2 : Int32) (w : j_St) : Option (Int32 × j_St) := jlt (jgr w 0 0 7) fun v1 => jcs v1 (some ((-1), w)) fun y3 => jlt (jgr w 0 0 7) fun v5 => job v5 fun y7 => jlt (jgi w 6 y7 3) fun v9 => jcb (f_X1_isIn p1.toInt64 0 ((v9 - 1).toInt64) w) fun v10 w11 => if v10 = 0 then some ((-1), w11) else jcb (f_X1_isIn p2.toInt64 0 2 w11) fun v13 w14 => if v13 = 0 then some ((-1), w14) else if p2 = 0 then jlt (jgr w14 0 0 7) fun v44 => job v44 fun y46 => jbd p1 8 fun a49 => jlt (jgi w14 35 y46 a49) fun v50 => some (v50, w14) else if p2 = 2 then jlt (jgr w14 0 0 7) fun v31 => job v31 fun y33 => jbd p1 8 fun a36 => jlt (jgr w14 34 y33 a36) fun v37 => job v37 fun y39 => jcb (f_J3_length_k15 y39 w14) fun v41 w42 => some (v41, w42) else jcb (f_X1_found w14) fun _ w17 => jlt (jgr w17 0 0 7) fun v20 => job v20 fun y22 => jcb (f_X5_matches 0 y22 0 w17) fun v24 w25 => jbd p1 8 fun a29 => jlt (jgi w25 30 0 a29) fun v30 => some (v30, w25)
abbrev rm_X1_line : Room := { frames := 5, cells := 0, slots := 0, locals := 117 }
set_option maxRecDepth 100000 in
set_option maxHeartbeats 4000000 in
theorem mt_X1_line {g : j_G} {B : j_B} {p1 : Int32} {p2 : Int32} {w w' : j_St} (a0 : B.2.1 0 0 ∧ B.2.2 0 0)  {r : Int32} (h : f_X1_line p1 p2 w = some (r, w')) : j_MA g yX1_line cX1_line 4 (some FieldType.int) rm_X1_line B [.ref (B.1 0 0), .int p1, .int p2] w w' ((fun r _ => jri r) r) ((fun _ _ _ => True) r w') := by
  refine j_metA (rv := (fun r _ => jri r)) (PB := (fun _ _ _ => True)) (by decide) (Nat.le_of_ble_eq_true rfl) (fun x hx hnm => ?_) h
  unfold f_X1_line
  refine J.sub (lv' := [(0, .ref (B.1 0 0)), (1, .int p1), (2, .int p2)]) [0, 1, 2] rfl ?_
  refine J.aload_n hx dX1_line_0 rfl 0 rfl ?_
  refine J.getr (κ' := 6) (κ := 0) (k := 7) hx rfl rfl rfl rfl in_X1 (by decide) (Or.inl q374) a0.1 dX1_line_1 fun v1 h2 => ?_
  refine J.ifnull (tgt := 38) hx dX1_line_4 (by decide) (fun e4n => ?_) (fun y3 e4 => ?_)
  · subst e4n
    refine J.iconst (v := (-1)) hx dX1_line_38 (by decide) ?_
    exact J.iretA hx j_ext.rf trivial rfl (Nat.le_of_ble_eq_true rfl) (Nat.le_of_ble_eq_true rfl) dX1_line_39
  · subst e4
    refine J.iload_n hx dX1_line_7 rfl 1 rfl ?_
    refine J.i2l hx dX1_line_8 ?_
    refine J.lconst (v := 0) hx dX1_line_9 (by decide) ?_
    refine J.aload_n hx dX1_line_10 rfl 0 rfl ?_
    refine J.getr (κ' := 6) (κ := 0) (k := 7) hx rfl rfl rfl rfl in_X1 (by decide) (Or.inl q374) a0.1 dX1_line_11 fun v5 h6 => ?_
    refine J.obU fun y7 e8 => ?_
    subst e8
    refine J.geti (κ := 6) (k := 3) hx rfl rfl rfl in_X11 (by decide) (Or.inr ⟨_, j_nl q484 rfl⟩) (h6 y7 rfl).1 dX1_line_14 fun v9 => ?_
    refine J.iconst (v := 1) hx dX1_line_17 (by decide) ?_
    refine J.isub hx dX1_line_18 ?_
    refine J.i2l hx dX1_line_19 ?_
    refine J.calli hx (fun r z1 z => j_callS hx (mt_X1_isIn z) (lw_S q441 q442 q120 q443) hd_X1_isIn.2 rfl ⟨Nat.le_of_ble_eq_true rfl, Nat.le_of_ble_eq_true rfl⟩ (Nat.le_of_ble_eq_true rfl) dX1_line_20) ⟨⟨rfl, rfl⟩, (Nat.le_of_ble_eq_true rfl), (Nat.le_of_ble_eq_true rfl)⟩ fun v10 w11 e12 => ?_
    refine J.if_eq (tgt := 38) hx dX1_line_23 (by decide) ?_ ?_
    · refine J.iconst (v := (-1)) hx dX1_line_38 (by decide) ?_
      exact J.iretA hx j_ext.rf trivial rfl (Nat.le_of_ble_eq_true rfl) (Nat.le_of_ble_eq_true rfl) dX1_line_39
    · refine J.iload_n hx dX1_line_26 rfl 2 rfl ?_
      refine J.i2l hx dX1_line_27 ?_
      refine J.lconst (v := 0) hx dX1_line_28 (by decide) ?_
      refine J.ldc2 (v := 2) hx q1203 dX1_line_29 ?_
      refine J.calli hx (fun r z1 z => j_callS hx (mt_X1_isIn z) (lw_S q441 q442 q120 q443) hd_X1_isIn.2 rfl ⟨Nat.le_of_ble_eq_true rfl, Nat.le_of_ble_eq_true rfl⟩ (Nat.le_of_ble_eq_true rfl) dX1_line_32) ⟨⟨rfl, rfl⟩, (Nat.le_of_ble_eq_true rfl), (Nat.le_of_ble_eq_true rfl)⟩ fun v13 w14 e15 => ?_
      refine J.if_ne (tgt := 40) hx dX1_line_35 (by decide) ?_ ?_
      · refine J.iconst (v := (-1)) hx dX1_line_38 (by decide) ?_
        exact J.iretA hx j_ext.rf trivial rfl (Nat.le_of_ble_eq_true rfl) (Nat.le_of_ble_eq_true rfl) dX1_line_39
      · refine J.iload_n hx dX1_line_40 rfl 2 rfl ?_
        refine J.if_ne (tgt := 54) hx dX1_line_41 (by decide) ?_ ?_
        · refine J.aload_n hx dX1_line_44 rfl 0 rfl ?_
          refine J.getr (κ' := 6) (κ := 0) (k := 7) hx rfl rfl rfl rfl in_X1 (by decide) (Or.inl q374) a0.1 dX1_line_45 fun v44 h45 => ?_
          refine J.obU fun y46 e47 => ?_
          subst e47
          refine J.getc (κ' := 35) (i' := y46) (κ := 6) (k := 2) hx rfl rfl rfl rfl rfl in_X11 (by decide) (Or.inr ⟨_, j_nl q480 rfl⟩) (h45 y46 rfl).2 dX1_line_48 fun h48 => ?_
          refine J.iload_n hx dX1_line_51 rfl 1 rfl ?_
          refine J.iald (κ := 35) hx rfl rfl h48.1 dX1_line_52 fun v50 => ?_
          exact J.iretA hx j_ext.rf trivial rfl (Nat.le_of_ble_eq_true rfl) (Nat.le_of_ble_eq_true rfl) dX1_line_53
        · refine J.iload_n hx dX1_line_54 rfl 2 rfl ?_
          refine J.iconst (v := 2) hx dX1_line_55 (by decide) ?_
          refine J.icmp_ne (tgt := 72) hx dX1_line_56 (by decide) ?_ ?_
          · refine J.aload_n hx dX1_line_59 rfl 0 rfl ?_
            refine J.getr (κ' := 6) (κ := 0) (k := 7) hx rfl rfl rfl rfl in_X1 (by decide) (Or.inl q374) a0.1 dX1_line_60 fun v31 h32 => ?_
            refine J.obU fun y33 e34 => ?_
            subst e34
            refine J.getc (κ' := 34) (i' := y33) (κ := 6) (k := 1) hx rfl rfl rfl rfl rfl in_X11 (by decide) (Or.inr ⟨_, j_nl q476 rfl⟩) (h32 y33 rfl).2 dX1_line_63 fun h35 => ?_
            refine J.iload_n hx dX1_line_66 rfl 1 rfl ?_
            refine J.aald (κ' := 15) (κ := 34) hx rfl rfl (by decide) rfl rfl h35.1 dX1_line_67 fun v37 h38 => ?_
            refine J.obU fun y39 e40 => ?_
            subst e40
            refine J.calli hx (fun r z1 z => j_callV (κ := 15) hx rfl rfl (h38 y39 rfl).1 (mt_J3_length_k15 (h38 y39 rfl) z) (lw_V q1292 q874 q2350 q134 q876) hd_J3_length rfl ⟨Nat.le_of_ble_eq_true rfl, Nat.le_of_ble_eq_true rfl⟩ (Nat.le_of_ble_eq_true rfl) dX1_line_68) ⟨⟨rfl, rfl⟩, (Nat.le_of_ble_eq_true rfl), (Nat.le_of_ble_eq_true rfl)⟩ fun v41 w42 e43 => ?_
            exact J.iretA hx j_ext.rf trivial rfl (Nat.le_of_ble_eq_true rfl) (Nat.le_of_ble_eq_true rfl) dX1_line_71
          · refine J.aload_n hx dX1_line_72 rfl 0 rfl ?_
            refine J.callt hx (fun r z1 z => j_callV (κ := 0) hx rfl rfl a0.1 (mt_X1_found a0 z) (lw_V q1224 q1226 qs27 q120 q1227) hd_X1_found rfl ⟨Nat.le_of_ble_eq_true rfl, Nat.le_of_ble_eq_true rfl⟩ (Nat.le_of_ble_eq_true rfl) dX1_line_73) ⟨⟨rfl, rfl⟩, (Nat.le_of_ble_eq_true rfl), (Nat.le_of_ble_eq_true rfl)⟩ fun _ w17 e18 => ?_
            refine J.fact (j_pk0 a0) fun h19 => ?_
            refine J.aload_n hx dX1_line_76 rfl 0 rfl ?_
            refine J.getr (κ' := 6) (κ := 0) (k := 7) hx rfl rfl rfl rfl in_X1 (by decide) (Or.inl q374) a0.1 dX1_line_77 fun v20 h21 => ?_
            refine J.iconst (v := 0) hx dX1_line_80 (by decide) ?_
            refine J.obU fun y22 e23 => ?_
            subst e23
            refine J.calli hx (fun r z1 z => j_callV (κ := 2) hx rfl rfl h19.1 (mt_X5_matches h19 (h21 y22 rfl) z) (lw_V q1293 q1294 q1295 q125 q1296) hd_X5_matches rfl ⟨Nat.le_of_ble_eq_true rfl, Nat.le_of_ble_eq_true rfl⟩ (Nat.le_of_ble_eq_true rfl) dX1_line_81) ⟨⟨rfl, rfl⟩, (Nat.le_of_ble_eq_true rfl), (Nat.le_of_ble_eq_true rfl)⟩ fun v24 w25 e26 => ?_
            refine J.istore_n (lv' := [(3, .int v24), (0, .ref (B.1 0 0)), (1, .int p1), (2, .int p2)]) hx dX1_line_84 rfl (by decide) rfl ?_
            refine J.aload_n hx dX1_line_85 rfl 1 rfl ?_
            refine J.getc (κ' := 2) (i' := 0) (κ := 0) (k := 10) hx rfl rfl rfl rfl rfl in_X1 (by decide) (Or.inl q378) a0.2 dX1_line_86 fun h27 => ?_
            refine J.getc (κ' := 30) (i' := 0) (κ := 2) (k := 7) hx rfl rfl rfl rfl rfl in_X5 (by decide) (Or.inr ⟨_, j_nl q288 rfl⟩) h27.2 dX1_line_89 fun h28 => ?_
            refine J.iload_n hx dX1_line_92 rfl 2 rfl ?_
            refine J.iald (κ := 30) hx rfl rfl h28.1 dX1_line_93 fun v30 => ?_
            exact J.iretA hx j_ext.rf trivial rfl (Nat.le_of_ble_eq_true rfl) (Nat.le_of_ble_eq_true rfl) dX1_line_94
