theorem hd_X1_solo : yX1_solo.cls = RX1 ∧ yX1_solo.cls ≠ "java/lang/invoke/MethodHandle" ∧ yX1_solo.cls ≠ "java/lang/invoke/VarHandle" ∧ (parseMethodDescriptor yX1_solo.desc).map (fun d => d.parameters.length) = some 0 := by decide +kernel
def f_X1_solo  (w : j_St) : Option (Int32 × j_St) := jlt (jgr w 0 0 7) fun v1 => jlt (fun (w21 : j_St) => some ((-1), w21)) fun K18 => jcs v1 (K18 w) fun y3 => jcb (f_X1_found w) fun _ w6 => jlt (jgi w6 2 0 5) fun v9 => if v9 = 1 then K18 w6 else jlt (jgn w6 114 0) fun n10 => jlt (jb6 w6) fun w12 => jlt (jm1 w12 14 (6 * n10 + 0)) fun w16 => jcb (f_X1_best (6 * n10 + 0) w16) fun v18 w19 => some (v18, w19)
abbrev rm_X1_solo : Room := { frames := 7, cells := 1, slots := 2, locals := 3080 }
set_option maxRecDepth 100000 in
set_option maxHeartbeats 4000000 in
theorem mt_X1_solo {g : j_G} {B : j_B}  {w w' : j_St} (a0 : B.2.1 0 0 ∧ B.2.2 0 0)  {r : Int32} (h : f_X1_solo  w = some (r, w')) : j_MA g yX1_solo cX1_solo 1 (some FieldType.int) rm_X1_solo B [.ref (B.1 0 0)] w w' ((fun r _ => jri r) r) ((fun _ _ _ => True) r w') := by
  refine j_metA2 (rv := (fun r _ => jri r)) (PB := (fun _ _ _ => True)) (by decide) (Nat.le_of_ble_eq_true rfl) (fun x hx hnm hnd => ?_) h
  unfold f_X1_solo
  refine J.sub (lv' := [(0, .ref (B.1 0 0))]) [0] rfl ?_
  refine J.aload_n hx dX1_solo_0 rfl 0 rfl ?_
  refine J.getr (κ' := 6) (κ := 0) (k := 7) hx rfl rfl rfl rfl in_X1 (by decide) (Or.inl q374) a0.1 dX1_solo_1 fun v1 h2 => ?_
  refine J.fn (fun (K18 : j_St → Option (Int32 × j_St)) => ∀  (B22 : j_B) (x23 : j_ext B B22) (w21 : j_St), J g x 1 B22 (j_QA g x B rm_X1_solo (fun r _ => jri r) (fun _ _ _ => True)) 0 0 (K18 w21) 18 [] [] w21) ?_ ?_
  · intro B22 x23 w21
    refine J.iconst (v := (-1)) hx dX1_solo_18 (by decide) ?_
    refine J.goto (tgt := 32) hx dX1_solo_19 (by decide) ?_
    exact J.iretA hx (j_ext.rf.tr x23) trivial rfl (Nat.le_of_ble_eq_true rfl) (Nat.le_of_ble_eq_true rfl) dX1_solo_32
  · intro K18 hK18
    refine J.ifnull (tgt := 18) hx dX1_solo_4 (by decide) (fun e4n => ?_) (fun y3 e4 => ?_)
    · subst e4n
      exact J.sub [] rfl (hK18 B j_ext.rf w)
    · subst e4
      refine J.aload_n hx dX1_solo_7 rfl 0 rfl ?_
      refine J.callt hx (fun r z1 z => j_callV (κ := 0) hx rfl rfl a0.1 (mt_X1_found a0 z) (lw_V q1224 q1226 qs27 q120 q1227) hd_X1_found rfl ⟨Nat.le_of_ble_eq_true rfl, Nat.le_of_ble_eq_true rfl⟩ (Nat.le_of_ble_eq_true rfl) dX1_solo_8) ⟨⟨rfl, rfl⟩, (Nat.le_of_ble_eq_true rfl), (Nat.le_of_ble_eq_true rfl)⟩ fun _ w6 e7 => ?_
      refine J.fact (j_pk0 a0) fun h8 => ?_
      refine J.geti (κ := 2) (k := 5) hx rfl rfl rfl in_X5 (by decide) (Or.inr ⟨_, j_nl q283 rfl⟩) h8.1 dX1_solo_11 fun v9 => ?_
      refine J.iconst (v := 1) hx dX1_solo_14 (by decide) ?_
      refine J.icmp_ne (tgt := 22) hx dX1_solo_15 (by decide) ?_ ?_
      · exact J.sub [] rfl (hK18 B j_ext.rf w6)
      · refine J.aload_n hx dX1_solo_22 rfl 0 rfl ?_
        refine J.aload_n hx dX1_solo_23 rfl 0 rfl ?_
        refine J.nmx fun n10 e11 => ?_
        refine J.fact (P := ¬ B.2.1 14 (6 * n10 + 0)) (j14_fr (by decide) e11) fun h14 => ?_
        refine J.fact (P := ¬ B.2.2 14 (6 * n10 + 0)) (fun H hR z => h14 (hR.2.2.2.2.2.2.2.2.1 _ _ z)) fun h15 => ?_
        refine J.bump6 fun w12 e13 => ?_
        refine J.indyR1 hx hnd rfl (n := n10) (s := 0) ⟨by decide, by decide⟩ (List.mem_of_getElem? (i := 5) rfl) (σ := jsh siteWord_1_6) rfl rfl (by decide +kernel) a0 h14 h15 (by rw [e13]; exact j14_cnt (by decide) e11) (Nat.le_of_ble_eq_true rfl) ⟨Nat.le_of_ble_eq_true rfl, Nat.le_of_ble_eq_true rfl⟩ (Nat.le_of_ble_eq_true rfl) dX1_solo_24 fun z17 w16 => ?_
        refine J.calli hx (fun r z1 z => j_callV (κ := 0) hx rfl rfl (j14_old a0).1 (mt_X1_best (j14_old a0) j14_al z) (lw_V q1353 q1355 qs33 q120 q1356) hd_X1_best rfl ⟨Nat.le_of_ble_eq_true rfl, Nat.le_of_ble_eq_true rfl⟩ (Nat.le_of_ble_eq_true rfl) dX1_solo_29) ⟨⟨rfl, rfl⟩, (Nat.le_of_ble_eq_true rfl), (Nat.le_of_ble_eq_true rfl)⟩ fun v18 w19 e20 => ?_
        exact J.iretA hx (j_ext.rf.tr (j14_ext h14)) trivial rfl (Nat.le_of_ble_eq_true rfl) (Nat.le_of_ble_eq_true rfl) dX1_solo_32
theorem hd_X1_tallest : yX1_tallest.cls = RX1 ∧ yX1_tallest.cls ≠ "java/lang/invoke/MethodHandle" ∧ yX1_tallest.cls ≠ "java/lang/invoke/VarHandle" ∧ (parseMethodDescriptor yX1_tallest.desc).map (fun d => d.parameters.length) = some 1 := by decide +kernel
def f_X1_tallest (p1 : Int32) (w : j_St) : Option (Int32 × j_St) := jlt (jgr w 0 0 7) fun v1 => jcs v1 (some ((-1), w)) fun y3 => jcb (f_X1_found w) fun _ w6 => jlt (jgi w6 2 0 5) fun v9 => if v9 = 0 then some ((-1), w6) else jlt (jgn w6 114 0) fun n10 => jlt (jb6 w6) fun w12 => jlt (jm2 w12 (6 * n10 + 1) p1) fun w16 => jcb (f_X1_best (6 * n10 + 1) w16) fun v18 w19 => some (v18, w19)
abbrev rm_X1_tallest : Room := { frames := 7, cells := 1, slots := 2, locals := 3080 }
set_option maxRecDepth 100000 in
set_option maxHeartbeats 4000000 in
theorem mt_X1_tallest {g : j_G} {B : j_B} {p1 : Int32} {w w' : j_St} (a0 : B.2.1 0 0 ∧ B.2.2 0 0)  {r : Int32} (h : f_X1_tallest p1 w = some (r, w')) : j_MA g yX1_tallest cX1_tallest 2 (some FieldType.int) rm_X1_tallest B [.ref (B.1 0 0), .int p1] w w' ((fun r _ => jri r) r) ((fun _ _ _ => True) r w') := by
  refine j_metA2 (rv := (fun r _ => jri r)) (PB := (fun _ _ _ => True)) (by decide) (Nat.le_of_ble_eq_true rfl) (fun x hx hnm hnd => ?_) h
  unfold f_X1_tallest
  refine J.sub (lv' := [(0, .ref (B.1 0 0)), (1, .int p1)]) [0, 1] rfl ?_
  refine J.aload_n hx dX1_tallest_0 rfl 0 rfl ?_
  refine J.getr (κ' := 6) (κ := 0) (k := 7) hx rfl rfl rfl rfl in_X1 (by decide) (Or.inl q374) a0.1 dX1_tallest_1 fun v1 h2 => ?_
  refine J.ifnull (tgt := 17) hx dX1_tallest_4 (by decide) (fun e4n => ?_) (fun y3 e4 => ?_)
  · subst e4n
    refine J.iconst (v := (-1)) hx dX1_tallest_17 (by decide) ?_
    exact J.iretA hx j_ext.rf trivial rfl (Nat.le_of_ble_eq_true rfl) (Nat.le_of_ble_eq_true rfl) dX1_tallest_18
  · subst e4
    refine J.aload_n hx dX1_tallest_7 rfl 0 rfl ?_
    refine J.callt hx (fun r z1 z => j_callV (κ := 0) hx rfl rfl a0.1 (mt_X1_found a0 z) (lw_V q1224 q1226 qs27 q120 q1227) hd_X1_found rfl ⟨Nat.le_of_ble_eq_true rfl, Nat.le_of_ble_eq_true rfl⟩ (Nat.le_of_ble_eq_true rfl) dX1_tallest_8) ⟨⟨rfl, rfl⟩, (Nat.le_of_ble_eq_true rfl), (Nat.le_of_ble_eq_true rfl)⟩ fun _ w6 e7 => ?_
    refine J.fact (j_pk0 a0) fun h8 => ?_
    refine J.geti (κ := 2) (k := 5) hx rfl rfl rfl in_X5 (by decide) (Or.inr ⟨_, j_nl q283 rfl⟩) h8.1 dX1_tallest_11 fun v9 => ?_
    refine J.if_ne (tgt := 19) hx dX1_tallest_14 (by decide) ?_ ?_
    · refine J.iconst (v := (-1)) hx dX1_tallest_17 (by decide) ?_
      exact J.iretA hx j_ext.rf trivial rfl (Nat.le_of_ble_eq_true rfl) (Nat.le_of_ble_eq_true rfl) dX1_tallest_18
    · refine J.aload_n hx dX1_tallest_19 rfl 0 rfl ?_
      refine J.aload_n hx dX1_tallest_20 rfl 0 rfl ?_
      refine J.iload_n hx dX1_tallest_21 rfl 1 rfl ?_
      refine J.nmx fun n10 e11 => ?_
      refine J.fact (P := ¬ B.2.1 14 (6 * n10 + 1)) (j14_fr (by decide) e11) fun h14 => ?_
      refine J.fact (P := ¬ B.2.2 14 (6 * n10 + 1)) (fun H hR z => h14 (hR.2.2.2.2.2.2.2.2.1 _ _ z)) fun h15 => ?_
      refine J.bump6 fun w12 e13 => ?_
      refine J.indyR2 hx hnd rfl (n := n10) (s := 1) rfl (List.mem_of_getElem? (i := 6) rfl) (σ := jsh siteWord_1_7) rfl rfl (by decide +kernel) a0 h14 h15 (by rw [e13]; exact j14_cnt (by decide) e11) (Nat.le_of_ble_eq_true rfl) ⟨Nat.le_of_ble_eq_true rfl, Nat.le_of_ble_eq_true rfl⟩ (Nat.le_of_ble_eq_true rfl) dX1_tallest_22 fun z17 w16 => ?_
      refine J.calli hx (fun r z1 z => j_callV (κ := 0) hx rfl rfl (j14_old a0).1 (mt_X1_best (j14_old a0) j14_al z) (lw_V q1353 q1355 qs33 q120 q1356) hd_X1_best rfl ⟨Nat.le_of_ble_eq_true rfl, Nat.le_of_ble_eq_true rfl⟩ (Nat.le_of_ble_eq_true rfl) dX1_tallest_27) ⟨⟨rfl, rfl⟩, (Nat.le_of_ble_eq_true rfl), (Nat.le_of_ble_eq_true rfl)⟩ fun v18 w19 e20 => ?_
      exact J.iretA hx (j_ext.rf.tr (j14_ext h14)) trivial rfl (Nat.le_of_ble_eq_true rfl) (Nat.le_of_ble_eq_true rfl) dX1_tallest_30
theorem hd_X1_most : yX1_most.cls = RX1 ∧ yX1_most.cls ≠ "java/lang/invoke/MethodHandle" ∧ yX1_most.cls ≠ "java/lang/invoke/VarHandle" ∧ (parseMethodDescriptor yX1_most.desc).map (fun d => d.parameters.length) = some 1 := by decide +kernel
def f_X1_most (p1 : Int32) (w : j_St) : Option (Int32 × j_St) := jlt (jgr w 0 0 7) fun v1 => jcs v1 (some ((-1000000), w)) fun y3 => jcb (f_X1_found w) fun _ w6 => jlt (jgi w6 2 0 5) fun v9 => if v9 = 0 then some ((-1000000), w6) else if p1 = 0 then jlt (jgn w6 114 0) fun n10 => jlt (jb6 w6) fun w12 => jlt (jm1 w12 14 (6 * n10 + 2)) fun w16 => jcb (f_X1_sum (6 * n10 + 2) 1 w16) fun v18 w19 => some (v18, w19) else if p1 = 1 then jcb (f_X3_sum_k2 0 w6) fun v22 w23 => some (v22, w23) else if p1 = 2 then jlt (jgn w6 114 0) fun n25 => jlt (jb6 w6) fun w27 => jlt (jm1 w27 14 (6 * n25 + 3)) fun w31 => jcb (f_X1_sum (6 * n25 + 3) 1 w31) fun v33 w34 => some (v33, w34) else if p1 = 3 then jlt (jgn w6 114 0) fun n36 => jlt (jb6 w6) fun w38 => jlt (jm1 w38 14 (6 * n36 + 4)) fun w42 => jcb (f_X1_sum (6 * n36 + 4) 1 w42) fun v44 w45 => some (v44, w45) else if p1 = 4 then jcb (f_X1_generations w6) fun v47 w48 => some (v47, w48) else if p1 = 5 then jcb (f_X1_lines 1 w6) fun v50 w51 => some (v50, w51) else if p1 = 6 then jlt (jgn w6 114 0) fun n53 => jlt (jb6 w6) fun w55 => jlt (jm1 w55 14 (6 * n53 + 5)) fun w59 => jcb (f_X1_best (6 * n53 + 5) w59) fun v61 w62 => some (v61, w62) else if p1 = 7 then jcb (f_X3_greatest_k4 1 w6) fun v66 w67 => some (v66, w67) else some ((-1000000), w6)
abbrev rm_X1_most : Room := { frames := 7, cells := 1, slots := 2, locals := 3080 }
set_option maxRecDepth 100000 in
set_option maxHeartbeats 4000000 in
theorem mt_X1_most {g : j_G} {B : j_B} {p1 : Int32} {w w' : j_St} (a0 : B.2.1 0 0 ∧ B.2.2 0 0)  {r : Int32} (h : f_X1_most p1 w = some (r, w')) : j_MA g yX1_most cX1_most 2 (some FieldType.int) rm_X1_most B [.ref (B.1 0 0), .int p1] w w' ((fun r _ => jri r) r) ((fun _ _ _ => True) r w') := by
  refine j_metA2 (rv := (fun r _ => jri r)) (PB := (fun _ _ _ => True)) (by decide) (Nat.le_of_ble_eq_true rfl) (fun x hx hnm hnd => ?_) h
  unfold f_X1_most
  refine J.sub (lv' := [(0, .ref (B.1 0 0)), (1, .int p1)]) [0, 1] rfl ?_
  refine J.aload_n hx dX1_most_0 rfl 0 rfl ?_
  refine J.getr (κ' := 6) (κ := 0) (k := 7) hx rfl rfl rfl rfl in_X1 (by decide) (Or.inl q374) a0.1 dX1_most_1 fun v1 h2 => ?_
  refine J.ifnull (tgt := 17) hx dX1_most_4 (by decide) (fun e4n => ?_) (fun y3 e4 => ?_)
  · subst e4n
    refine J.ldc (v := (-1000000)) hx q1204 dX1_most_17 ?_
    exact J.iretA hx j_ext.rf trivial rfl (Nat.le_of_ble_eq_true rfl) (Nat.le_of_ble_eq_true rfl) dX1_most_19
  · subst e4
    refine J.aload_n hx dX1_most_7 rfl 0 rfl ?_
    refine J.callt hx (fun r z1 z => j_callV (κ := 0) hx rfl rfl a0.1 (mt_X1_found a0 z) (lw_V q1224 q1226 qs27 q120 q1227) hd_X1_found rfl ⟨Nat.le_of_ble_eq_true rfl, Nat.le_of_ble_eq_true rfl⟩ (Nat.le_of_ble_eq_true rfl) dX1_most_8) ⟨⟨rfl, rfl⟩, (Nat.le_of_ble_eq_true rfl), (Nat.le_of_ble_eq_true rfl)⟩ fun _ w6 e7 => ?_
    refine J.fact (j_pk0 a0) fun h8 => ?_
    refine J.geti (κ := 2) (k := 5) hx rfl rfl rfl in_X5 (by decide) (Or.inr ⟨_, j_nl q283 rfl⟩) h8.1 dX1_most_11 fun v9 => ?_
    refine J.if_ne (tgt := 20) hx dX1_most_14 (by decide) ?_ ?_
    · refine J.ldc (v := (-1000000)) hx q1204 dX1_most_17 ?_
      exact J.iretA hx j_ext.rf trivial rfl (Nat.le_of_ble_eq_true rfl) (Nat.le_of_ble_eq_true rfl) dX1_most_19
    · refine J.iload_n hx dX1_most_20 rfl 1 rfl ?_
      refine J.ite (fun e0 => ?_) (fun n0 => ?_)
      · refine J.tsw (off := 47) (tgt := 68) hx dX1_most_21 (by rw [e0]; decide) (by rw [e0]; decide) (by rw [e0]; rfl) (by decide) ?_
        refine J.aload_n hx dX1_most_68 rfl 0 rfl ?_
        refine J.aload_n hx dX1_most_69 rfl 0 rfl ?_
        refine J.nmx fun n10 e11 => ?_
        refine J.fact (P := ¬ B.2.1 14 (6 * n10 + 2)) (j14_fr (by decide) e11) fun h14 => ?_
        refine J.fact (P := ¬ B.2.2 14 (6 * n10 + 2)) (fun H hR z => h14 (hR.2.2.2.2.2.2.2.2.1 _ _ z)) fun h15 => ?_
        refine J.bump6 fun w12 e13 => ?_
        refine J.indyR1 hx hnd rfl (n := n10) (s := 2) ⟨by decide, by decide⟩ (List.mem_of_getElem? (i := 7) rfl) (σ := jsh siteWord_1_8) rfl rfl (by decide +kernel) a0 h14 h15 (by rw [e13]; exact j14_cnt (by decide) e11) (Nat.le_of_ble_eq_true rfl) ⟨Nat.le_of_ble_eq_true rfl, Nat.le_of_ble_eq_true rfl⟩ (Nat.le_of_ble_eq_true rfl) dX1_most_70 fun z17 w16 => ?_
        refine J.iconst (v := 1) hx dX1_most_75 (by decide) ?_
        refine J.calli hx (fun r z1 z => j_callV (κ := 0) hx rfl rfl (j14_old a0).1 (mt_X1_sum (j14_old a0) j14_al z) (lw_V q1581 q1583 qs39 q120 q1584) hd_X1_sum rfl ⟨Nat.le_of_ble_eq_true rfl, Nat.le_of_ble_eq_true rfl⟩ (Nat.le_of_ble_eq_true rfl) dX1_most_76) ⟨⟨rfl, rfl⟩, (Nat.le_of_ble_eq_true rfl), (Nat.le_of_ble_eq_true rfl)⟩ fun v18 w19 e20 => ?_
        refine J.goto (tgt := 163) hx dX1_most_79 (by decide) ?_
        exact J.iretA hx (j_ext.rf.tr (j14_ext h14)) trivial rfl (Nat.le_of_ble_eq_true rfl) (Nat.le_of_ble_eq_true rfl) dX1_most_163
      · refine J.ite (fun e1 => ?_) (fun n1 => ?_)
        · refine J.tsw (off := 61) (tgt := 82) hx dX1_most_21 (by rw [e1]; decide) (by rw [e1]; decide) (by rw [e1]; rfl) (by decide) ?_
          refine J.aload_n hx dX1_most_82 rfl 0 rfl ?_
          refine J.getc (κ' := 2) (i' := 0) (κ := 0) (k := 10) hx rfl rfl rfl rfl rfl in_X1 (by decide) (Or.inl q378) a0.2 dX1_most_83 fun h21 => ?_
          refine J.calli hx (fun r z1 z => j_callD (κ := 2) (nm := "sum") (ds := "()I") hx rfl rfl h21.1 (mt_X3_sum_k2 h21 z) (lw_meth q1233) (List.mem_of_getElem? (i := 10) rfl) (List.mem_of_getElem? (i := 11) rfl) (List.mem_of_getElem? (i := 4) rfl) q1231 q122 hd_X3_sum.2.2.2 rfl ⟨Nat.le_of_ble_eq_true rfl, Nat.le_of_ble_eq_true rfl⟩ (Nat.le_of_ble_eq_true rfl) dX1_most_86) ⟨⟨rfl, rfl⟩, (Nat.le_of_ble_eq_true rfl), (Nat.le_of_ble_eq_true rfl)⟩ fun v22 w23 e24 => ?_
          refine J.goto (tgt := 163) hx dX1_most_89 (by decide) ?_
          exact J.iretA hx j_ext.rf trivial rfl (Nat.le_of_ble_eq_true rfl) (Nat.le_of_ble_eq_true rfl) dX1_most_163
        · refine J.ite (fun e2 => ?_) (fun n2 => ?_)
          · refine J.tsw (off := 71) (tgt := 92) hx dX1_most_21 (by rw [e2]; decide) (by rw [e2]; decide) (by rw [e2]; rfl) (by decide) ?_
            refine J.aload_n hx dX1_most_92 rfl 0 rfl ?_
            refine J.aload_n hx dX1_most_93 rfl 0 rfl ?_
            refine J.nmx fun n25 e26 => ?_
            refine J.fact (P := ¬ B.2.1 14 (6 * n25 + 3)) (j14_fr (by decide) e26) fun h29 => ?_
            refine J.fact (P := ¬ B.2.2 14 (6 * n25 + 3)) (fun H hR z => h29 (hR.2.2.2.2.2.2.2.2.1 _ _ z)) fun h30 => ?_
            refine J.bump6 fun w27 e28 => ?_
            refine J.indyR1 hx hnd rfl (n := n25) (s := 3) ⟨by decide, by decide⟩ (List.mem_of_getElem? (i := 8) rfl) (σ := jsh siteWord_1_9) rfl rfl (by decide +kernel) a0 h29 h30 (by rw [e28]; exact j14_cnt (by decide) e26) (Nat.le_of_ble_eq_true rfl) ⟨Nat.le_of_ble_eq_true rfl, Nat.le_of_ble_eq_true rfl⟩ (Nat.le_of_ble_eq_true rfl) dX1_most_94 fun z32 w31 => ?_
            refine J.iconst (v := 1) hx dX1_most_99 (by decide) ?_
            refine J.calli hx (fun r z1 z => j_callV (κ := 0) hx rfl rfl (j14_old a0).1 (mt_X1_sum (j14_old a0) j14_al z) (lw_V q1581 q1583 qs39 q120 q1584) hd_X1_sum rfl ⟨Nat.le_of_ble_eq_true rfl, Nat.le_of_ble_eq_true rfl⟩ (Nat.le_of_ble_eq_true rfl) dX1_most_100) ⟨⟨rfl, rfl⟩, (Nat.le_of_ble_eq_true rfl), (Nat.le_of_ble_eq_true rfl)⟩ fun v33 w34 e35 => ?_
            refine J.goto (tgt := 163) hx dX1_most_103 (by decide) ?_
            exact J.iretA hx (j_ext.rf.tr (j14_ext h29)) trivial rfl (Nat.le_of_ble_eq_true rfl) (Nat.le_of_ble_eq_true rfl) dX1_most_163
          · refine J.ite (fun e3 => ?_) (fun n3 => ?_)
            · refine J.tsw (off := 85) (tgt := 106) hx dX1_most_21 (by rw [e3]; decide) (by rw [e3]; decide) (by rw [e3]; rfl) (by decide) ?_
              refine J.aload_n hx dX1_most_106 rfl 0 rfl ?_
              refine J.aload_n hx dX1_most_107 rfl 0 rfl ?_
              refine J.nmx fun n36 e37 => ?_
              refine J.fact (P := ¬ B.2.1 14 (6 * n36 + 4)) (j14_fr (by decide) e37) fun h40 => ?_
              refine J.fact (P := ¬ B.2.2 14 (6 * n36 + 4)) (fun H hR z => h40 (hR.2.2.2.2.2.2.2.2.1 _ _ z)) fun h41 => ?_
              refine J.bump6 fun w38 e39 => ?_
              refine J.indyR1 hx hnd rfl (n := n36) (s := 4) ⟨by decide, by decide⟩ (List.mem_of_getElem? (i := 9) rfl) (σ := jsh siteWord_1_10) rfl rfl (by decide +kernel) a0 h40 h41 (by rw [e39]; exact j14_cnt (by decide) e37) (Nat.le_of_ble_eq_true rfl) ⟨Nat.le_of_ble_eq_true rfl, Nat.le_of_ble_eq_true rfl⟩ (Nat.le_of_ble_eq_true rfl) dX1_most_108 fun z43 w42 => ?_
              refine J.iconst (v := 1) hx dX1_most_113 (by decide) ?_
              refine J.calli hx (fun r z1 z => j_callV (κ := 0) hx rfl rfl (j14_old a0).1 (mt_X1_sum (j14_old a0) j14_al z) (lw_V q1581 q1583 qs39 q120 q1584) hd_X1_sum rfl ⟨Nat.le_of_ble_eq_true rfl, Nat.le_of_ble_eq_true rfl⟩ (Nat.le_of_ble_eq_true rfl) dX1_most_114) ⟨⟨rfl, rfl⟩, (Nat.le_of_ble_eq_true rfl), (Nat.le_of_ble_eq_true rfl)⟩ fun v44 w45 e46 => ?_
              refine J.goto (tgt := 163) hx dX1_most_117 (by decide) ?_
              exact J.iretA hx (j_ext.rf.tr (j14_ext h40)) trivial rfl (Nat.le_of_ble_eq_true rfl) (Nat.le_of_ble_eq_true rfl) dX1_most_163
            · refine J.ite (fun e4 => ?_) (fun n4 => ?_)
              · refine J.tsw (off := 99) (tgt := 120) hx dX1_most_21 (by rw [e4]; decide) (by rw [e4]; decide) (by rw [e4]; rfl) (by decide) ?_
                refine J.aload_n hx dX1_most_120 rfl 0 rfl ?_
                refine J.calli hx (fun r z1 z => j_callV (κ := 0) hx rfl rfl a0.1 (mt_X1_generations a0 z) (lw_V q1592 q1594 qs42 q120 q1595) hd_X1_generations rfl ⟨Nat.le_of_ble_eq_true rfl, Nat.le_of_ble_eq_true rfl⟩ (Nat.le_of_ble_eq_true rfl) dX1_most_121) ⟨⟨rfl, rfl⟩, (Nat.le_of_ble_eq_true rfl), (Nat.le_of_ble_eq_true rfl)⟩ fun v47 w48 e49 => ?_
                refine J.goto (tgt := 163) hx dX1_most_124 (by decide) ?_
                exact J.iretA hx j_ext.rf trivial rfl (Nat.le_of_ble_eq_true rfl) (Nat.le_of_ble_eq_true rfl) dX1_most_163
              · refine J.ite (fun e5 => ?_) (fun n5 => ?_)
                · refine J.tsw (off := 106) (tgt := 127) hx dX1_most_21 (by rw [e5]; decide) (by rw [e5]; decide) (by rw [e5]; rfl) (by decide) ?_
                  refine J.aload_n hx dX1_most_127 rfl 0 rfl ?_
                  refine J.iconst (v := 1) hx dX1_most_128 (by decide) ?_
                  refine J.calli hx (fun r z1 z => j_callV (κ := 0) hx rfl rfl a0.1 (mt_X1_lines a0 z) (lw_V q1336 q1338 qs31 q120 q1339) hd_X1_lines rfl ⟨Nat.le_of_ble_eq_true rfl, Nat.le_of_ble_eq_true rfl⟩ (Nat.le_of_ble_eq_true rfl) dX1_most_129) ⟨⟨rfl, rfl⟩, (Nat.le_of_ble_eq_true rfl), (Nat.le_of_ble_eq_true rfl)⟩ fun v50 w51 e52 => ?_
                  refine J.goto (tgt := 163) hx dX1_most_132 (by decide) ?_
                  exact J.iretA hx j_ext.rf trivial rfl (Nat.le_of_ble_eq_true rfl) (Nat.le_of_ble_eq_true rfl) dX1_most_163
                · refine J.ite (fun e6 => ?_) (fun n6 => ?_)
                  · refine J.tsw (off := 114) (tgt := 135) hx dX1_most_21 (by rw [e6]; decide) (by rw [e6]; decide) (by rw [e6]; rfl) (by decide) ?_
                    refine J.aload_n hx dX1_most_135 rfl 0 rfl ?_
                    refine J.aload_n hx dX1_most_136 rfl 0 rfl ?_
                    refine J.nmx fun n53 e54 => ?_
                    refine J.fact (P := ¬ B.2.1 14 (6 * n53 + 5)) (j14_fr (by decide) e54) fun h57 => ?_
                    refine J.fact (P := ¬ B.2.2 14 (6 * n53 + 5)) (fun H hR z => h57 (hR.2.2.2.2.2.2.2.2.1 _ _ z)) fun h58 => ?_
                    refine J.bump6 fun w55 e56 => ?_
                    refine J.indyR1 hx hnd rfl (n := n53) (s := 5) ⟨by decide, by decide⟩ (List.mem_of_getElem? (i := 10) rfl) (σ := jsh siteWord_1_11) rfl rfl (by decide +kernel) a0 h57 h58 (by rw [e56]; exact j14_cnt (by decide) e54) (Nat.le_of_ble_eq_true rfl) ⟨Nat.le_of_ble_eq_true rfl, Nat.le_of_ble_eq_true rfl⟩ (Nat.le_of_ble_eq_true rfl) dX1_most_137 fun z60 w59 => ?_
                    refine J.calli hx (fun r z1 z => j_callV (κ := 0) hx rfl rfl (j14_old a0).1 (mt_X1_best (j14_old a0) j14_al z) (lw_V q1353 q1355 qs33 q120 q1356) hd_X1_best rfl ⟨Nat.le_of_ble_eq_true rfl, Nat.le_of_ble_eq_true rfl⟩ (Nat.le_of_ble_eq_true rfl) dX1_most_142) ⟨⟨rfl, rfl⟩, (Nat.le_of_ble_eq_true rfl), (Nat.le_of_ble_eq_true rfl)⟩ fun v61 w62 e63 => ?_
                    refine J.goto (tgt := 163) hx dX1_most_145 (by decide) ?_
                    exact J.iretA hx (j_ext.rf.tr (j14_ext h57)) trivial rfl (Nat.le_of_ble_eq_true rfl) (Nat.le_of_ble_eq_true rfl) dX1_most_163
                  · refine J.ite (fun e7 => ?_) (fun n7 => ?_)
                    · refine J.tsw (off := 127) (tgt := 148) hx dX1_most_21 (by rw [e7]; decide) (by rw [e7]; decide) (by rw [e7]; rfl) (by decide) ?_
                      refine J.aload_n hx dX1_most_148 rfl 0 rfl ?_
                      refine J.getc (κ' := 5) (i' := 0) (κ := 0) (k := 13) hx rfl rfl rfl rfl rfl in_X1 (by decide) (Or.inl q382) a0.2 dX1_most_149 fun h64 => ?_
                      refine J.getc (κ' := 4) (i' := 1) (κ := 5) (k := 0) hx rfl rfl rfl rfl rfl in_X8 (by decide) (Or.inr ⟨_, j_nl q339 rfl⟩) h64.2 dX1_most_152 fun h65 => ?_
                      refine J.calli hx (fun r z1 z => j_callD (κ := 4) (nm := "greatest") (ds := "()I") hx rfl rfl h65.1 (mt_X3_greatest_k4 h65 z) (lw_meth q1131) (List.mem_of_getElem? (i := 12) rfl) (List.mem_of_getElem? (i := 4) rfl) (List.mem_of_getElem? (i := 1) rfl) q1129 q122 hd_X3_greatest.2.2.2 rfl ⟨Nat.le_of_ble_eq_true rfl, Nat.le_of_ble_eq_true rfl⟩ (Nat.le_of_ble_eq_true rfl) dX1_most_155) ⟨⟨rfl, rfl⟩, (Nat.le_of_ble_eq_true rfl), (Nat.le_of_ble_eq_true rfl)⟩ fun v66 w67 e68 => ?_
                      refine J.goto (tgt := 163) hx dX1_most_158 (by decide) ?_
                      exact J.iretA hx j_ext.rf trivial rfl (Nat.le_of_ble_eq_true rfl) (Nat.le_of_ble_eq_true rfl) dX1_most_163
                    · have z0 := j_neT n0 (a := 0) (by decide)
                      have z1 := j_neT n1 (a := 1) (by decide)
                      have z2 := j_neT n2 (a := 2) (by decide)
                      have z3 := j_neT n3 (a := 3) (by decide)
                      have z4 := j_neT n4 (a := 4) (by decide)
                      have z5 := j_neT n5 (a := 5) (by decide)
                      have z6 := j_neT n6 (a := 6) (by decide)
                      have z7 := j_neT n7 (a := 7) (by decide)
                      refine J.tswD (tgt := 161) hx dX1_most_21 (by omega) (by decide) ?_
                      refine J.ldc (v := (-1000000)) hx q1204 dX1_most_161 ?_
                      exact J.iretA hx j_ext.rf trivial rfl (Nat.le_of_ble_eq_true rfl) (Nat.le_of_ble_eq_true rfl) dX1_most_163
