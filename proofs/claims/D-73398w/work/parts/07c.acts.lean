theorem hd_X1_acts : yX1_acts.cls = RX1 ∧ yX1_acts.cls ≠ "java/lang/invoke/MethodHandle" ∧ yX1_acts.cls ≠ "java/lang/invoke/VarHandle" ∧ (parseMethodDescriptor yX1_acts.desc).map (fun d => d.parameters.length) = some 3 := by decide +kernel
def f_X1_acts (p1 : Int32) (p2 : Int32) (p3 : Int32) (w : j_St) : Option (Int32 × j_St) := jcb (f_X8_becomes 3 0 w) fun _ w4 => jcb (f_X8_deed 0 p1 p2 p3 w4) fun v7 w8 => if v7 = (-1) then jlt (jgi w8 0 0 19) fun v11 => jbd v11 40 fun a12 => jlt (jgr w8 23 0 a12) fun v13 => jlt (fun (w39 : j_St) => jlt (jgi w39 0 0 19) fun v43 => jbd v43 40 fun a44 => jlt (jgr w39 23 0 a44) fun v45 => job v45 fun y48 => jcb (f_X8_becomes y48 3 w39) fun _ w51 => jlt (jgi w51 0 0 19) fun v53 => jlt (v53 + 1) fun v55 => jlt 40 fun v54 => if v54 = 0 then none else jlt (jsi w51 0 0 19 (v55 - v55 / v54 * v54)) fun w56 => jlt (jgi w56 0 0 18) fun v57 => jlt (jsi w56 0 0 18 (jmin 40 (v57 + 1))) fun w58 => jcb (f_X1_numbersOf p1 w58) fun v60 w61 => jlt (fun (v63 : Int32) (w64 : j_St) => jcb (f_X8_kept 0 w64) fun v68 w69 => jcb (f_X8_notes 0 p1 v63 v68 w69) fun _ w72 => some ((-1), w72)) fun K122 => if v60 = 0 then K122 0 w61 else K122 p2 w61) fun K61 => jcs v13 (jlt (jgi w8 0 0 19) fun v18 => jlt (jgn w8 105 0) fun n19 => jlt (jbump w8 5) fun w21 => jlt (jnw w21 5 n19 0) fun w29 => jcb (f_X8_init n19 w29) fun _ w32 => jbd v18 40 fun a38 => jlt (jsr w32 23 0 a38 (some n19)) fun w37 => K61 w37) fun y15 => K61 w8 else some (v7, w8)
abbrev rm_X1_acts : Room := { frames := 7, cells := 4, slots := 236, locals := 162 }
set_option maxRecDepth 100000 in
set_option maxHeartbeats 4000000 in
theorem mt_X1_acts {g : j_G} {B : j_B} {p1 : Int32} {p2 : Int32} {p3 : Int32} {w w' : j_St} (a0 : B.2.1 0 0 ∧ B.2.2 0 0)  {r : Int32} (h : f_X1_acts p1 p2 p3 w = some (r, w')) : j_MA g yX1_acts cX1_acts 5 (some FieldType.int) rm_X1_acts B [.ref (B.1 0 0), .int p1, .int p2, .int p3] w w' ((fun r _ => jri r) r) ((fun _ _ _ => True) r w') := by
  refine j_metA (rv := (fun r _ => jri r)) (PB := (fun _ _ _ => True)) (by decide) (Nat.le_of_ble_eq_true rfl) (fun x hx hnm => ?_) h
  unfold f_X1_acts
  refine J.sub (lv' := [(0, .ref (B.1 0 0)), (1, .int p1), (2, .int p2), (3, .int p3)]) [0, 1, 2, 3] rfl ?_
  refine J.aload_n hx dX1_acts_0 rfl 0 rfl ?_
  refine J.getc (κ' := 5) (i' := 3) (κ := 0) (k := 16) hx rfl rfl rfl rfl rfl in_X1 (by decide) (Or.inl q385) a0.2 dX1_acts_1 fun h1 => ?_
  refine J.aload_n hx dX1_acts_4 rfl 0 rfl ?_
  refine J.getc (κ' := 5) (i' := 0) (κ := 0) (k := 13) hx rfl rfl rfl rfl rfl in_X1 (by decide) (Or.inl q382) a0.2 dX1_acts_5 fun h2 => ?_
  refine J.callv hx (fun r z1 z => j_callV (κ := 5) hx rfl rfl h1.1 (mt_X8_becomes h1 h2 z) (lw_V q971 q972 q973 q128 q974) hd_X8_becomes rfl ⟨Nat.le_of_ble_eq_true rfl, Nat.le_of_ble_eq_true rfl⟩ (Nat.le_of_ble_eq_true rfl) dX1_acts_8) ⟨⟨rfl, rfl⟩, (Nat.le_of_ble_eq_true rfl), (Nat.le_of_ble_eq_true rfl)⟩ fun _ w4 e5 => ?_
  refine J.aload_n hx dX1_acts_11 rfl 0 rfl ?_
  refine J.getc (κ' := 5) (i' := 0) (κ := 0) (k := 13) hx rfl rfl rfl rfl rfl in_X1 (by decide) (Or.inl q382) a0.2 dX1_acts_12 fun h6 => ?_
  refine J.iload_n hx dX1_acts_15 rfl 1 rfl ?_
  refine J.iload_n hx dX1_acts_16 rfl 2 rfl ?_
  refine J.iload_n hx dX1_acts_17 rfl 3 rfl ?_
  refine J.calli hx (fun r z1 z => j_callV (κ := 5) hx rfl rfl h6.1 (mt_X8_deed h6 z) (lw_V q980 q981 q982 q128 q983) hd_X8_deed rfl ⟨Nat.le_of_ble_eq_true rfl, Nat.le_of_ble_eq_true rfl⟩ (Nat.le_of_ble_eq_true rfl) dX1_acts_18) ⟨⟨rfl, rfl⟩, (Nat.le_of_ble_eq_true rfl), (Nat.le_of_ble_eq_true rfl)⟩ fun v7 w8 e9 => ?_
  refine J.istore (lv' := [(4, .int v7), (0, .ref (B.1 0 0)), (1, .int p1), (2, .int p2), (3, .int p3)]) hx dX1_acts_21 (by decide) rfl ?_
  refine J.iload hx dX1_acts_23 0 rfl ?_
  refine J.iconst (v := (-1)) hx dX1_acts_25 (by decide) ?_
  refine J.icmp_eq (tgt := 32) hx dX1_acts_26 (by decide) ?_ ?_
  · refine J.aload_n hx dX1_acts_32 rfl 1 rfl ?_
    refine J.getc (κ' := 23) (i' := 0) (κ := 0) (k := 17) hx rfl rfl rfl rfl rfl in_X1 (by decide) (Or.inl q386) a0.2 dX1_acts_33 fun h10 => ?_
    refine J.aload_n hx dX1_acts_36 rfl 1 rfl ?_
    refine J.geti (κ := 0) (k := 19) hx rfl rfl rfl in_X1 (by decide) (Or.inl q388) a0.1 dX1_acts_37 fun v11 => ?_
    refine J.aald (κ' := 5) (κ := 23) hx rfl rfl (by decide) rfl rfl h10.1 dX1_acts_40 fun v13 h14 => ?_
    refine J.fn (fun (K61 : j_St → Option (Int32 × j_St)) => ∀  (B40 : j_B) (x41 : j_ext B B40) (w39 : j_St), J g x 5 B40 (j_QA g x B rm_X1_acts (fun r _ => jri r) (fun _ _ _ => True)) 4 236 (K61 w39) 61 [(0, .ref (B40.1 0 0)), (1, .int p1), (2, .int p2)] [] w39) ?_ ?_
    · intro B40 x41 w39
      refine J.aload_n hx dX1_acts_61 rfl 0 rfl ?_
      refine J.getc (κ' := 23) (i' := 0) (κ := 0) (k := 17) hx rfl rfl rfl rfl rfl in_X1 (by decide) (Or.inl q386) (x41.mv a0).2 dX1_acts_62 fun h42 => ?_
      refine J.aload_n hx dX1_acts_65 rfl 0 rfl ?_
      refine J.geti (κ := 0) (k := 19) hx rfl rfl rfl in_X1 (by decide) (Or.inl q388) (x41.mv a0).1 dX1_acts_66 fun v43 => ?_
      refine J.aald (κ' := 5) (κ := 23) hx rfl rfl (by decide) rfl rfl h42.1 dX1_acts_69 fun v45 h46 => ?_
      refine J.aload_n hx dX1_acts_70 rfl 0 rfl ?_
      refine J.getc (κ' := 5) (i' := 3) (κ := 0) (k := 16) hx rfl rfl rfl rfl rfl in_X1 (by decide) (Or.inl q385) (x41.mv a0).2 dX1_acts_71 fun h47 => ?_
      refine J.obU fun y48 e49 => ?_
      subst e49
      refine J.callv hx (fun r z1 z => j_callV (κ := 5) hx rfl rfl (h46 y48 rfl).1 (mt_X8_becomes (h46 y48 rfl) h47 z) (lw_V q971 q972 q973 q128 q974) hd_X8_becomes rfl ⟨Nat.le_of_ble_eq_true rfl, Nat.le_of_ble_eq_true rfl⟩ (Nat.le_of_ble_eq_true rfl) dX1_acts_74) ⟨⟨rfl, rfl⟩, (Nat.le_of_ble_eq_true rfl), (Nat.le_of_ble_eq_true rfl)⟩ fun _ w51 e52 => ?_
      refine J.aload_n hx dX1_acts_77 rfl 0 rfl ?_
      refine J.aload_n hx dX1_acts_78 rfl 0 rfl ?_
      refine J.geti (κ := 0) (k := 19) hx rfl rfl rfl in_X1 (by decide) (Or.inl q388) (x41.mv a0).1 dX1_acts_79 fun v53 => ?_
      refine J.iconst (v := 1) hx dX1_acts_82 (by decide) ?_
      refine J.iadd hx dX1_acts_83 ?_
      refine J.bipush (v := 40) hx dX1_acts_84 (by decide) ?_
      refine J.nm2i fun v55 v54 => ?_
      refine J.irem hx dX1_acts_86 ?_
      refine J.puti (κ := 0) (k := 19) hx rfl rfl rfl in_X1 tyX1_ok nmX1 (by decide) (Or.inl q388) rfl rfl (x41.mv a0).1 ⟨rfl, rfl⟩ dX1_acts_87 fun w56 => ?_
      refine J.aload_n hx dX1_acts_90 rfl 0 rfl ?_
      refine J.bipush (v := 40) hx dX1_acts_91 (by decide) ?_
      refine J.aload_n hx dX1_acts_93 rfl 0 rfl ?_
      refine J.geti (κ := 0) (k := 18) hx rfl rfl rfl in_X1 (by decide) (Or.inl q387) (x41.mv a0).1 dX1_acts_94 fun v57 => ?_
      refine J.iconst (v := 1) hx dX1_acts_97 (by decide) ?_
      refine J.iadd hx dX1_acts_98 ?_
      refine J.mmin hx q202 q192 q123 q193 ⟨Nat.le_of_ble_eq_true rfl, Nat.le_of_ble_eq_true rfl⟩ (Nat.le_of_ble_eq_true rfl) (Nat.le_of_ble_eq_true rfl) (Nat.le_of_ble_eq_true rfl) dX1_acts_99 ?_
      refine J.puti (κ := 0) (k := 18) hx rfl rfl rfl in_X1 tyX1_ok nmX1 (by decide) (Or.inl q387) rfl rfl (x41.mv a0).1 ⟨rfl, rfl⟩ dX1_acts_102 fun w58 => ?_
      refine J.aload_n hx dX1_acts_105 rfl 0 rfl ?_
      refine J.getc (κ' := 5) (i' := 0) (κ := 0) (k := 13) hx rfl rfl rfl rfl rfl in_X1 (by decide) (Or.inl q382) (x41.mv a0).2 dX1_acts_106 fun h59 => ?_
      refine J.iload_n hx dX1_acts_109 rfl 1 rfl ?_
      refine J.iload_n hx dX1_acts_110 rfl 1 rfl ?_
      refine J.calli hx (fun r z1 z => j_callS hx (mt_X1_numbersOf z) (lw_S q1149 q942 q120 q943) hd_X1_numbersOf.2 rfl ⟨Nat.le_of_ble_eq_true rfl, Nat.le_of_ble_eq_true rfl⟩ (Nat.le_of_ble_eq_true rfl) dX1_acts_111) ⟨⟨rfl, rfl⟩, (Nat.le_of_ble_eq_true rfl), (Nat.le_of_ble_eq_true rfl)⟩ fun v60 w61 e62 => ?_
      refine J.fn (fun (K122 : Int32 → j_St → Option (Int32 × j_St)) => ∀ (v63 : Int32) (B65 : j_B) (x66 : j_ext B40 B65) (w64 : j_St), J g x 5 B65 (j_QA g x B rm_X1_acts (fun r _ => jri r) (fun _ _ _ => True)) 4 236 (K122 v63 w64) 122 [(0, .ref (B65.1 0 0))] [.int v63, .int p1, .ref (B65.1 5 0)] w64) ?_ ?_
      · intro v63 B65 x66 w64
        refine J.aload_n hx dX1_acts_122 rfl 0 rfl ?_
        refine J.getc (κ' := 5) (i' := 0) (κ := 0) (k := 13) hx rfl rfl rfl rfl rfl in_X1 (by decide) (Or.inl q382) (x66.mv (x41.mv a0)).2 dX1_acts_123 fun h67 => ?_
        refine J.calli hx (fun r z1 z => j_callV (κ := 5) hx rfl rfl h67.1 (mt_X8_kept h67 z) (lw_V q1150 q999 q1000 q128 q1001) hd_X8_kept rfl ⟨Nat.le_of_ble_eq_true rfl, Nat.le_of_ble_eq_true rfl⟩ (Nat.le_of_ble_eq_true rfl) dX1_acts_126) ⟨⟨rfl, rfl⟩, (Nat.le_of_ble_eq_true rfl), (Nat.le_of_ble_eq_true rfl)⟩ fun v68 w69 e70 => ?_
        refine J.callv hx (fun r z1 z => j_callV (κ := 5) hx rfl rfl (x66.mv h59).1 (mt_X8_notes (x66.mv h59) z) (lw_V q1151 q1152 q1153 q128 q1154) hd_X8_notes rfl ⟨Nat.le_of_ble_eq_true rfl, Nat.le_of_ble_eq_true rfl⟩ (Nat.le_of_ble_eq_true rfl) dX1_acts_129) ⟨⟨rfl, rfl⟩, (Nat.le_of_ble_eq_true rfl), (Nat.le_of_ble_eq_true rfl)⟩ fun _ w72 e73 => ?_
        refine J.iconst (v := (-1)) hx dX1_acts_132 (by decide) ?_
        exact J.iretA hx ((j_ext.rf.tr x41).tr x66) trivial rfl (Nat.le_of_ble_eq_true rfl) (Nat.le_of_ble_eq_true rfl) dX1_acts_133
      · intro K122 hK122
        refine J.if_ne (tgt := 121) hx dX1_acts_114 (by decide) ?_ ?_
        · refine J.iconst (v := 0) hx dX1_acts_117 (by decide) ?_
          refine J.goto (tgt := 122) hx dX1_acts_118 (by decide) ?_
          exact J.sub [0] rfl (hK122 0 B40 j_ext.rf w61)
        · refine J.iload_n hx dX1_acts_121 rfl 2 rfl ?_
          exact J.sub [0] rfl (hK122 p2 B40 j_ext.rf w61)
    · intro K61 hK61
      refine J.ifnonnull (tgt := 61) hx dX1_acts_41 (by decide) (fun e16n => ?_) (fun y15 e16 => ?_)
      · subst e16n
        refine J.aload_n hx dX1_acts_44 rfl 1 rfl ?_
        refine J.getc (κ' := 23) (i' := 0) (κ := 0) (k := 17) hx rfl rfl rfl rfl rfl in_X1 (by decide) (Or.inl q386) a0.2 dX1_acts_45 fun h17 => ?_
        refine J.aload_n hx dX1_acts_48 rfl 1 rfl ?_
        refine J.geti (κ := 0) (k := 19) hx rfl rfl rfl in_X1 (by decide) (Or.inl q388) a0.1 dX1_acts_49 fun v18 => ?_
        refine J.nmx fun n19 e20 => ?_
        refine J.fact (P := ¬ B.2.1 5 n19) (fun H hR z => by have h9 := hR.2.2.2.2.2.2.2.2.2 _ _ z; simp only [jcnt] at h9; simp at h9; omega) fun h23 => ?_
        refine J.fact (P := ¬ B.2.1 4 (2 * n19 + 1)) (fun H hR z => by have h9 := hR.2.2.2.2.2.2.2.2.2 _ _ z; simp only [jcnt] at h9; simp at h9; omega) fun h24 => ?_
        refine J.fact (P := ¬ B.2.1 32 (2 * n19 + 1)) (fun H hR z => by have h9 := hR.2.2.2.2.2.2.2.2.2 _ _ z; simp only [jcnt] at h9; simp at h9; omega) fun h25 => ?_
        refine J.fact (P := ¬ B.2.1 33 n19) (fun H hR z => by have h9 := hR.2.2.2.2.2.2.2.2.2 _ _ z; simp only [jcnt] at h9; simp at h9; omega) fun h26 => ?_
        refine J.bumpe fun w21 e22 => ?_
        refine J.fact (P := ¬ B.2.2 5 n19) (fun H hR z => h23 (hR.2.2.2.2.2.2.2.2.1 _ _ z)) fun h27 => ?_
        refine J.new (κ := 5) (i := n19) hx rfl rfl in_X8 tyX8_ok (by decide +kernel) (by decide) h23 h27 (by rw [e22, e20]; simp [jcnt, jbump, jgn]) q330 q331 q128 ⟨Nat.le_of_ble_eq_true rfl, Nat.le_of_ble_eq_true rfl⟩ dX1_acts_52 fun z30 w29 => ?_
        refine J.dup hx dX1_acts_55 rfl ?_
        refine J.aload_n hx dX1_acts_56 rfl 1 rfl ?_
        refine J.callAv hx (fun r z1 z => j_callA_of (j_runIN (κ := 5) hx (mt_X8_init jbn_alh (j_hf (jbn_old a0)) (jbn_noK h24 (by decide)) (jbn_noK h25 (by decide)) (jbn_noK h26 (by decide)) h27 z) (lw_meth q334) (j_nl q332 rfl) q333 q128 rfl hd_X8_init.2 rfl ⟨Nat.le_of_ble_eq_true rfl, Nat.le_of_ble_eq_true rfl⟩ (Nat.le_of_ble_eq_true rfl) dX1_acts_57)) ⟨Nat.le_of_ble_eq_true rfl, Nat.le_of_ble_eq_true rfl⟩ fun _ w32 B34 e33 x35 x36 => ?_
        refine J.cv (lv' := [(4, .int v7), (0, .ref (B34.1 0 0)), (1, .int p1), (2, .int p2), (3, .int p3)]) (st' := [.ref (B34.1 5 n19), .int v18, .ref (B34.1 23 0)]) (by first | rfl | (simp only [x35.ad (jbn_old a0), x35.adh jbn_alh, x35.ad (jbn_old h17)]; done) | (simp only [x35.ad (jbn_old a0), x35.adh jbn_alh, x35.ad (jbn_old h17)]; rfl)) (by first | rfl | (simp only [x35.ad (jbn_old a0), x35.adh jbn_alh, x35.ad (jbn_old h17)]; done) | (simp only [x35.ad (jbn_old a0), x35.adh jbn_alh, x35.ad (jbn_old h17)]; rfl)) ?_
        refine J.built (jS5 n19) (jb_X8 e33 (x35.mvh jbn_alh) x36 (x35.mv (jbn_old a0))) ?_
        refine J.aast (κ' := 5) (v := (some n19)) (κ := 23) hx rfl rfl (by decide) rfl rfl rfl rfl rfl (jbb_ext.mv (x35.mv (jbn_old h17))).1 (j_sm ⟨(x35.mvh jbn_alh).1, Or.inr jS5_5⟩) dX1_acts_60 fun w37 => ?_
        exact J.sub [1, 2, 3] rfl (hK61 (jbb B34 (jS5 n19)) (((jbn_ext h23).tr x35).tr jbb_ext) w37)
      · subst e16
        exact J.widen (Nat.le_of_ble_eq_true rfl) (Nat.le_of_ble_eq_true rfl) (J.sub [1, 2, 3] rfl (hK61 B j_ext.rf w8))
  · refine J.iload hx dX1_acts_29 0 rfl ?_
    exact J.iretA hx j_ext.rf trivial rfl (Nat.le_of_ble_eq_true rfl) (Nat.le_of_ble_eq_true rfl) dX1_acts_31
theorem hd_X1_act : yX1_act.cls = RX1 ∧ yX1_act.cls ≠ "java/lang/invoke/MethodHandle" ∧ yX1_act.cls ≠ "java/lang/invoke/VarHandle" ∧ (parseMethodDescriptor yX1_act.desc).map (fun d => d.parameters.length) = some 3 := by decide +kernel
def f_X1_act (p1 : Int32) (p2 : Int32) (p3 : Int32) (w : j_St) : Option (Int32 × j_St) := jlt (jgr w 0 0 7) fun v1 => jlt (fun (v11 : Int32) (w12 : j_St) => if v11 = (-1) then jlt (jgi w12 5 0 4) fun v21 => some (v21, w12) else jbd v11 2 fun a16 => jlt (jgi w12 21 0 a16) fun v17 => jbd v11 2 fun a19 => jlt (jsi w12 21 0 a19 (v17 + 1)) fun w18 => some ((-1), w18)) fun K18 => jcs v1 (K18 0 w) fun y3 => jcb (f_X1_acts p1 p2 p3 w) fun v5 w6 => K18 v5 w6
abbrev rm_X1_act : Room := { frames := 8, cells := 4, slots := 236, locals := 186 }
set_option maxRecDepth 100000 in
set_option maxHeartbeats 4000000 in
theorem mt_X1_act {g : j_G} {B : j_B} {p1 : Int32} {p2 : Int32} {p3 : Int32} {w w' : j_St} (a0 : B.2.1 0 0 ∧ B.2.2 0 0)  {r : Int32} (h : f_X1_act p1 p2 p3 w = some (r, w')) : j_MA g yX1_act cX1_act 5 (some FieldType.int) rm_X1_act B [.ref (B.1 0 0), .int p1, .int p2, .int p3] w w' ((fun r _ => jri r) r) ((fun _ _ _ => True) r w') := by
  refine j_metA (rv := (fun r _ => jri r)) (PB := (fun _ _ _ => True)) (by decide) (Nat.le_of_ble_eq_true rfl) (fun x hx hnm => ?_) h
  unfold f_X1_act
  refine J.sub (lv' := [(0, .ref (B.1 0 0)), (1, .int p1), (2, .int p2), (3, .int p3)]) [0, 1, 2, 3] rfl ?_
  refine J.aload_n hx dX1_act_0 rfl 0 rfl ?_
  refine J.getr (κ' := 6) (κ := 0) (k := 7) hx rfl rfl rfl rfl in_X1 (by decide) (Or.inl q374) a0.1 dX1_act_1 fun v1 h2 => ?_
  refine J.fn (fun (K18 : Int32 → j_St → Option (Int32 × j_St)) => ∀ (v11 : Int32) (B13 : j_B) (x14 : j_ext B B13) (w12 : j_St), J g x 5 B13 (j_QA g x B rm_X1_act (fun r _ => jri r) (fun _ _ _ => True)) 4 236 (K18 v11 w12) 18 [(0, .ref (B13.1 0 0))] [.int v11] w12) ?_ ?_
  · intro v11 B13 x14 w12
    refine J.istore (lv' := [(4, .int v11), (0, .ref (B13.1 0 0))]) hx dX1_act_18 (by decide) rfl ?_
    refine J.iload hx dX1_act_20 0 rfl ?_
    refine J.iconst (v := (-1)) hx dX1_act_22 (by decide) ?_
    refine J.icmp_ne (tgt := 34) hx dX1_act_23 (by decide) ?_ ?_
    · refine J.aload_n hx dX1_act_26 rfl 1 rfl ?_
      refine J.getc (κ' := 5) (i' := 0) (κ := 0) (k := 13) hx rfl rfl rfl rfl rfl in_X1 (by decide) (Or.inl q382) (x14.mv a0).2 dX1_act_27 fun h20 => ?_
      refine J.geti (κ := 5) (k := 4) hx rfl rfl rfl in_X8 (by decide) (Or.inr ⟨_, j_nl q347 rfl⟩) h20.1 dX1_act_30 fun v21 => ?_
      exact J.iretA hx (j_ext.rf.tr x14) trivial rfl (Nat.le_of_ble_eq_true rfl) (Nat.le_of_ble_eq_true rfl) dX1_act_33
    · refine J.aload_n hx dX1_act_34 rfl 1 rfl ?_
      refine J.getc (κ' := 21) (i' := 0) (κ := 0) (k := 5) hx rfl rfl rfl rfl rfl in_X1 (by decide) (Or.inl q372) (x14.mv a0).2 dX1_act_35 fun h15 => ?_
      refine J.iload hx dX1_act_38 0 rfl ?_
      refine J.dup2_11 hx dX1_act_40 rfl rfl ?_
      refine J.iald (κ := 21) hx rfl rfl h15.1 dX1_act_41 fun v17 => ?_
      refine J.iconst (v := 1) hx dX1_act_42 (by decide) ?_
      refine J.iadd hx dX1_act_43 ?_
      refine J.iast (κ := 21) hx rfl rfl rfl h15.1 dX1_act_44 fun w18 => ?_
      refine J.iconst (v := (-1)) hx dX1_act_45 (by decide) ?_
      exact J.iretA hx (j_ext.rf.tr x14) trivial rfl (Nat.le_of_ble_eq_true rfl) (Nat.le_of_ble_eq_true rfl) dX1_act_46
  · intro K18 hK18
    refine J.ifnonnull (tgt := 11) hx dX1_act_4 (by decide) (fun e4n => ?_) (fun y3 e4 => ?_)
    · subst e4n
      refine J.iconst (v := 0) hx dX1_act_7 (by decide) ?_
      refine J.goto (tgt := 18) hx dX1_act_8 (by decide) ?_
      exact J.widen (Nat.le_of_ble_eq_true rfl) (Nat.le_of_ble_eq_true rfl) (J.sub [0] rfl (hK18 0 B j_ext.rf w))
    · subst e4
      refine J.aload_n hx dX1_act_11 rfl 0 rfl ?_
      refine J.iload_n hx dX1_act_12 rfl 1 rfl ?_
      refine J.iload_n hx dX1_act_13 rfl 2 rfl ?_
      refine J.iload_n hx dX1_act_14 rfl 3 rfl ?_
      refine J.callAi hx (fun r z1 z => j_callA_of (j_runV (κ := 0) hx rfl rfl a0.1 (mt_X1_acts a0 z) (lw_V q967 q969 qs14 q120 q970) hd_X1_acts rfl ⟨Nat.le_of_ble_eq_true rfl, Nat.le_of_ble_eq_true rfl⟩ (Nat.le_of_ble_eq_true rfl) dX1_act_15)) ⟨Nat.le_of_ble_eq_true rfl, Nat.le_of_ble_eq_true rfl⟩ fun v5 w6 B8 e7 x9 x10 => ?_
      refine J.cv (lv' := [(0, .ref (B8.1 0 0)), (1, .int p1), (2, .int p2), (3, .int p3)]) (st' := [.int v5]) (by first | rfl | (simp only [x9.ad a0]; done) | (simp only [x9.ad a0]; rfl)) (by first | rfl | (simp only [x9.ad a0]; done) | (simp only [x9.ad a0]; rfl)) ?_
      exact J.sub [0] rfl (hK18 v5 B8 x9 w6)
theorem hd_X1_smooth : yX1_smooth.cls = RX1 ∧ yX1_smooth.cls ≠ "java/lang/invoke/MethodHandle" ∧ yX1_smooth.cls ≠ "java/lang/invoke/VarHandle" ∧ (parseMethodDescriptor yX1_smooth.desc).map (fun d => d.parameters.length) = some 0 := by decide +kernel
def f_X1_smooth  (w : j_St) : Option (Int32 × j_St) := jcb (f_X1_act 0 0 0 w) fun v1 w2 => some (v1, w2)
abbrev rm_X1_smooth : Room := { frames := 9, cells := 4, slots := 236, locals := 210 }
set_option maxRecDepth 100000 in
set_option maxHeartbeats 4000000 in
theorem mt_X1_smooth {g : j_G} {B : j_B}  {w w' : j_St} (a0 : B.2.1 0 0 ∧ B.2.2 0 0)  {r : Int32} (h : f_X1_smooth  w = some (r, w')) : j_MA g yX1_smooth cX1_smooth 1 (some FieldType.int) rm_X1_smooth B [.ref (B.1 0 0)] w w' ((fun r _ => jri r) r) ((fun _ _ _ => True) r w') := by
  refine j_metA (rv := (fun r _ => jri r)) (PB := (fun _ _ _ => True)) (by decide) (Nat.le_of_ble_eq_true rfl) (fun x hx hnm => ?_) h
  unfold f_X1_smooth
  refine J.sub (lv' := [(0, .ref (B.1 0 0))]) [0] rfl ?_
  refine J.aload_n hx dX1_smooth_0 rfl 0 rfl ?_
  refine J.iconst (v := 0) hx dX1_smooth_1 (by decide) ?_
  refine J.iconst (v := 0) hx dX1_smooth_2 (by decide) ?_
  refine J.iconst (v := 0) hx dX1_smooth_3 (by decide) ?_
  refine J.callAi hx (fun r z1 z => j_callA_of (j_runV (κ := 0) hx rfl rfl a0.1 (mt_X1_act a0 z) (lw_V q963 q965 qs13 q120 q966) hd_X1_act rfl ⟨Nat.le_of_ble_eq_true rfl, Nat.le_of_ble_eq_true rfl⟩ (Nat.le_of_ble_eq_true rfl) dX1_smooth_4)) ⟨Nat.le_of_ble_eq_true rfl, Nat.le_of_ble_eq_true rfl⟩ fun v1 w2 B4 e3 x5 x6 => ?_
  refine J.cv (lv' := [(0, .ref (B4.1 0 0))]) (st' := [.int v1]) (by first | rfl | (simp only [x5.ad a0]; done) | (simp only [x5.ad a0]; rfl)) (by first | rfl | (simp only [x5.ad a0]; done) | (simp only [x5.ad a0]; rfl)) ?_
  exact J.iretA hx (j_ext.rf.tr x5) trivial rfl (Nat.le_of_ble_eq_true rfl) (Nat.le_of_ble_eq_true rfl) dX1_smooth_7
theorem hd_X1_median : yX1_median.cls = RX1 ∧ yX1_median.cls ≠ "java/lang/invoke/MethodHandle" ∧ yX1_median.cls ≠ "java/lang/invoke/VarHandle" ∧ (parseMethodDescriptor yX1_median.desc).map (fun d => d.parameters.length) = some 0 := by decide +kernel
def f_X1_median  (w : j_St) : Option (Int32 × j_St) := jcb (f_X1_act 1 0 0 w) fun v1 w2 => some (v1, w2)
abbrev rm_X1_median : Room := { frames := 9, cells := 4, slots := 236, locals := 210 }
set_option maxRecDepth 100000 in
set_option maxHeartbeats 4000000 in
theorem mt_X1_median {g : j_G} {B : j_B}  {w w' : j_St} (a0 : B.2.1 0 0 ∧ B.2.2 0 0)  {r : Int32} (h : f_X1_median  w = some (r, w')) : j_MA g yX1_median cX1_median 1 (some FieldType.int) rm_X1_median B [.ref (B.1 0 0)] w w' ((fun r _ => jri r) r) ((fun _ _ _ => True) r w') := by
  refine j_metA (rv := (fun r _ => jri r)) (PB := (fun _ _ _ => True)) (by decide) (Nat.le_of_ble_eq_true rfl) (fun x hx hnm => ?_) h
  unfold f_X1_median
  refine J.sub (lv' := [(0, .ref (B.1 0 0))]) [0] rfl ?_
  refine J.aload_n hx dX1_median_0 rfl 0 rfl ?_
  refine J.iconst (v := 1) hx dX1_median_1 (by decide) ?_
  refine J.iconst (v := 0) hx dX1_median_2 (by decide) ?_
  refine J.iconst (v := 0) hx dX1_median_3 (by decide) ?_
  refine J.callAi hx (fun r z1 z => j_callA_of (j_runV (κ := 0) hx rfl rfl a0.1 (mt_X1_act a0 z) (lw_V q963 q965 qs13 q120 q966) hd_X1_act rfl ⟨Nat.le_of_ble_eq_true rfl, Nat.le_of_ble_eq_true rfl⟩ (Nat.le_of_ble_eq_true rfl) dX1_median_4)) ⟨Nat.le_of_ble_eq_true rfl, Nat.le_of_ble_eq_true rfl⟩ fun v1 w2 B4 e3 x5 x6 => ?_
  refine J.cv (lv' := [(0, .ref (B4.1 0 0))]) (st' := [.int v1]) (by first | rfl | (simp only [x5.ad a0]; done) | (simp only [x5.ad a0]; rfl)) (by first | rfl | (simp only [x5.ad a0]; done) | (simp only [x5.ad a0]; rfl)) ?_
  exact J.iretA hx (j_ext.rf.tr x5) trivial rfl (Nat.le_of_ble_eq_true rfl) (Nat.le_of_ble_eq_true rfl) dX1_median_7
theorem hd_X1_flat : yX1_flat.cls = RX1 ∧ yX1_flat.cls ≠ "java/lang/invoke/MethodHandle" ∧ yX1_flat.cls ≠ "java/lang/invoke/VarHandle" ∧ (parseMethodDescriptor yX1_flat.desc).map (fun d => d.parameters.length) = some 0 := by decide +kernel
def f_X1_flat  (w : j_St) : Option (Int32 × j_St) := jcb (f_X1_act 2 0 0 w) fun v1 w2 => some (v1, w2)
abbrev rm_X1_flat : Room := { frames := 9, cells := 4, slots := 236, locals := 210 }
set_option maxRecDepth 100000 in
set_option maxHeartbeats 4000000 in
theorem mt_X1_flat {g : j_G} {B : j_B}  {w w' : j_St} (a0 : B.2.1 0 0 ∧ B.2.2 0 0)  {r : Int32} (h : f_X1_flat  w = some (r, w')) : j_MA g yX1_flat cX1_flat 1 (some FieldType.int) rm_X1_flat B [.ref (B.1 0 0)] w w' ((fun r _ => jri r) r) ((fun _ _ _ => True) r w') := by
  refine j_metA (rv := (fun r _ => jri r)) (PB := (fun _ _ _ => True)) (by decide) (Nat.le_of_ble_eq_true rfl) (fun x hx hnm => ?_) h
  unfold f_X1_flat
  refine J.sub (lv' := [(0, .ref (B.1 0 0))]) [0] rfl ?_
  refine J.aload_n hx dX1_flat_0 rfl 0 rfl ?_
  refine J.iconst (v := 2) hx dX1_flat_1 (by decide) ?_
  refine J.iconst (v := 0) hx dX1_flat_2 (by decide) ?_
  refine J.iconst (v := 0) hx dX1_flat_3 (by decide) ?_
  refine J.callAi hx (fun r z1 z => j_callA_of (j_runV (κ := 0) hx rfl rfl a0.1 (mt_X1_act a0 z) (lw_V q963 q965 qs13 q120 q966) hd_X1_act rfl ⟨Nat.le_of_ble_eq_true rfl, Nat.le_of_ble_eq_true rfl⟩ (Nat.le_of_ble_eq_true rfl) dX1_flat_4)) ⟨Nat.le_of_ble_eq_true rfl, Nat.le_of_ble_eq_true rfl⟩ fun v1 w2 B4 e3 x5 x6 => ?_
  refine J.cv (lv' := [(0, .ref (B4.1 0 0))]) (st' := [.int v1]) (by first | rfl | (simp only [x5.ad a0]; done) | (simp only [x5.ad a0]; rfl)) (by first | rfl | (simp only [x5.ad a0]; done) | (simp only [x5.ad a0]; rfl)) ?_
  exact J.iretA hx (j_ext.rf.tr x5) trivial rfl (Nat.le_of_ble_eq_true rfl) (Nat.le_of_ble_eq_true rfl) dX1_flat_7
theorem hd_X1_turn : yX1_turn.cls = RX1 ∧ yX1_turn.cls ≠ "java/lang/invoke/MethodHandle" ∧ yX1_turn.cls ≠ "java/lang/invoke/VarHandle" ∧ (parseMethodDescriptor yX1_turn.desc).map (fun d => d.parameters.length) = some 0 := by decide +kernel
def f_X1_turn  (w : j_St) : Option (Int32 × j_St) := jcb (f_X1_act 3 0 0 w) fun v1 w2 => some (v1, w2)
abbrev rm_X1_turn : Room := { frames := 9, cells := 4, slots := 236, locals := 210 }
set_option maxRecDepth 100000 in
set_option maxHeartbeats 4000000 in
theorem mt_X1_turn {g : j_G} {B : j_B}  {w w' : j_St} (a0 : B.2.1 0 0 ∧ B.2.2 0 0)  {r : Int32} (h : f_X1_turn  w = some (r, w')) : j_MA g yX1_turn cX1_turn 1 (some FieldType.int) rm_X1_turn B [.ref (B.1 0 0)] w w' ((fun r _ => jri r) r) ((fun _ _ _ => True) r w') := by
  refine j_metA (rv := (fun r _ => jri r)) (PB := (fun _ _ _ => True)) (by decide) (Nat.le_of_ble_eq_true rfl) (fun x hx hnm => ?_) h
  unfold f_X1_turn
  refine J.sub (lv' := [(0, .ref (B.1 0 0))]) [0] rfl ?_
  refine J.aload_n hx dX1_turn_0 rfl 0 rfl ?_
  refine J.iconst (v := 3) hx dX1_turn_1 (by decide) ?_
  refine J.iconst (v := 0) hx dX1_turn_2 (by decide) ?_
  refine J.iconst (v := 0) hx dX1_turn_3 (by decide) ?_
  refine J.callAi hx (fun r z1 z => j_callA_of (j_runV (κ := 0) hx rfl rfl a0.1 (mt_X1_act a0 z) (lw_V q963 q965 qs13 q120 q966) hd_X1_act rfl ⟨Nat.le_of_ble_eq_true rfl, Nat.le_of_ble_eq_true rfl⟩ (Nat.le_of_ble_eq_true rfl) dX1_turn_4)) ⟨Nat.le_of_ble_eq_true rfl, Nat.le_of_ble_eq_true rfl⟩ fun v1 w2 B4 e3 x5 x6 => ?_
  refine J.cv (lv' := [(0, .ref (B4.1 0 0))]) (st' := [.int v1]) (by first | rfl | (simp only [x5.ad a0]; done) | (simp only [x5.ad a0]; rfl)) (by first | rfl | (simp only [x5.ad a0]; done) | (simp only [x5.ad a0]; rfl)) ?_
  exact J.iretA hx (j_ext.rf.tr x5) trivial rfl (Nat.le_of_ble_eq_true rfl) (Nat.le_of_ble_eq_true rfl) dX1_turn_7
theorem hd_X1_clip : yX1_clip.cls = RX1 ∧ yX1_clip.cls ≠ "java/lang/invoke/MethodHandle" ∧ yX1_clip.cls ≠ "java/lang/invoke/VarHandle" ∧ (parseMethodDescriptor yX1_clip.desc).map (fun d => d.parameters.length) = some 1 := by decide +kernel
def f_X1_clip (p1 : Int32) (w : j_St) : Option (Int32 × j_St) := jcb (f_X1_act 4 p1 0 w) fun v1 w2 => some (v1, w2)
abbrev rm_X1_clip : Room := { frames := 9, cells := 4, slots := 236, locals := 210 }
set_option maxRecDepth 100000 in
set_option maxHeartbeats 4000000 in
theorem mt_X1_clip {g : j_G} {B : j_B} {p1 : Int32} {w w' : j_St} (a0 : B.2.1 0 0 ∧ B.2.2 0 0)  {r : Int32} (h : f_X1_clip p1 w = some (r, w')) : j_MA g yX1_clip cX1_clip 2 (some FieldType.int) rm_X1_clip B [.ref (B.1 0 0), .int p1] w w' ((fun r _ => jri r) r) ((fun _ _ _ => True) r w') := by
  refine j_metA (rv := (fun r _ => jri r)) (PB := (fun _ _ _ => True)) (by decide) (Nat.le_of_ble_eq_true rfl) (fun x hx hnm => ?_) h
  unfold f_X1_clip
  refine J.sub (lv' := [(0, .ref (B.1 0 0)), (1, .int p1)]) [0, 1] rfl ?_
  refine J.aload_n hx dX1_clip_0 rfl 0 rfl ?_
  refine J.iconst (v := 4) hx dX1_clip_1 (by decide) ?_
  refine J.iload_n hx dX1_clip_2 rfl 1 rfl ?_
  refine J.iconst (v := 0) hx dX1_clip_3 (by decide) ?_
  refine J.callAi hx (fun r z1 z => j_callA_of (j_runV (κ := 0) hx rfl rfl a0.1 (mt_X1_act a0 z) (lw_V q963 q965 qs13 q120 q966) hd_X1_act rfl ⟨Nat.le_of_ble_eq_true rfl, Nat.le_of_ble_eq_true rfl⟩ (Nat.le_of_ble_eq_true rfl) dX1_clip_4)) ⟨Nat.le_of_ble_eq_true rfl, Nat.le_of_ble_eq_true rfl⟩ fun v1 w2 B4 e3 x5 x6 => ?_
  refine J.cv (lv' := [(0, .ref (B4.1 0 0)), (1, .int p1)]) (st' := [.int v1]) (by first | rfl | (simp only [x5.ad a0]; done) | (simp only [x5.ad a0]; rfl)) (by first | rfl | (simp only [x5.ad a0]; done) | (simp only [x5.ad a0]; rfl)) ?_
  exact J.iretA hx (j_ext.rf.tr x5) trivial rfl (Nat.le_of_ble_eq_true rfl) (Nat.le_of_ble_eq_true rfl) dX1_clip_7
theorem hd_X1_lift : yX1_lift.cls = RX1 ∧ yX1_lift.cls ≠ "java/lang/invoke/MethodHandle" ∧ yX1_lift.cls ≠ "java/lang/invoke/VarHandle" ∧ (parseMethodDescriptor yX1_lift.desc).map (fun d => d.parameters.length) = some 1 := by decide +kernel
def f_X1_lift (p1 : Int32) (w : j_St) : Option (Int32 × j_St) := jcb (f_X1_act 5 p1 0 w) fun v1 w2 => some (v1, w2)
abbrev rm_X1_lift : Room := { frames := 9, cells := 4, slots := 236, locals := 210 }
set_option maxRecDepth 100000 in
set_option maxHeartbeats 4000000 in
theorem mt_X1_lift {g : j_G} {B : j_B} {p1 : Int32} {w w' : j_St} (a0 : B.2.1 0 0 ∧ B.2.2 0 0)  {r : Int32} (h : f_X1_lift p1 w = some (r, w')) : j_MA g yX1_lift cX1_lift 2 (some FieldType.int) rm_X1_lift B [.ref (B.1 0 0), .int p1] w w' ((fun r _ => jri r) r) ((fun _ _ _ => True) r w') := by
  refine j_metA (rv := (fun r _ => jri r)) (PB := (fun _ _ _ => True)) (by decide) (Nat.le_of_ble_eq_true rfl) (fun x hx hnm => ?_) h
  unfold f_X1_lift
  refine J.sub (lv' := [(0, .ref (B.1 0 0)), (1, .int p1)]) [0, 1] rfl ?_
  refine J.aload_n hx dX1_lift_0 rfl 0 rfl ?_
  refine J.iconst (v := 5) hx dX1_lift_1 (by decide) ?_
  refine J.iload_n hx dX1_lift_2 rfl 1 rfl ?_
  refine J.iconst (v := 0) hx dX1_lift_3 (by decide) ?_
  refine J.callAi hx (fun r z1 z => j_callA_of (j_runV (κ := 0) hx rfl rfl a0.1 (mt_X1_act a0 z) (lw_V q963 q965 qs13 q120 q966) hd_X1_act rfl ⟨Nat.le_of_ble_eq_true rfl, Nat.le_of_ble_eq_true rfl⟩ (Nat.le_of_ble_eq_true rfl) dX1_lift_4)) ⟨Nat.le_of_ble_eq_true rfl, Nat.le_of_ble_eq_true rfl⟩ fun v1 w2 B4 e3 x5 x6 => ?_
  refine J.cv (lv' := [(0, .ref (B4.1 0 0)), (1, .int p1)]) (st' := [.int v1]) (by first | rfl | (simp only [x5.ad a0]; done) | (simp only [x5.ad a0]; rfl)) (by first | rfl | (simp only [x5.ad a0]; done) | (simp only [x5.ad a0]; rfl)) ?_
  exact J.iretA hx (j_ext.rf.tr x5) trivial rfl (Nat.le_of_ble_eq_true rfl) (Nat.le_of_ble_eq_true rfl) dX1_lift_7
theorem hd_X1_scale : yX1_scale.cls = RX1 ∧ yX1_scale.cls ≠ "java/lang/invoke/MethodHandle" ∧ yX1_scale.cls ≠ "java/lang/invoke/VarHandle" ∧ (parseMethodDescriptor yX1_scale.desc).map (fun d => d.parameters.length) = some 2 := by decide +kernel
def f_X1_scale (p1 : Int32) (p2 : Int32) (w : j_St) : Option (Int32 × j_St) := jcb (f_X1_act 6 p1 p2 w) fun v1 w2 => some (v1, w2)
abbrev rm_X1_scale : Room := { frames := 9, cells := 4, slots := 236, locals := 210 }
set_option maxRecDepth 100000 in
set_option maxHeartbeats 4000000 in
theorem mt_X1_scale {g : j_G} {B : j_B} {p1 : Int32} {p2 : Int32} {w w' : j_St} (a0 : B.2.1 0 0 ∧ B.2.2 0 0)  {r : Int32} (h : f_X1_scale p1 p2 w = some (r, w')) : j_MA g yX1_scale cX1_scale 3 (some FieldType.int) rm_X1_scale B [.ref (B.1 0 0), .int p1, .int p2] w w' ((fun r _ => jri r) r) ((fun _ _ _ => True) r w') := by
  refine j_metA (rv := (fun r _ => jri r)) (PB := (fun _ _ _ => True)) (by decide) (Nat.le_of_ble_eq_true rfl) (fun x hx hnm => ?_) h
  unfold f_X1_scale
  refine J.sub (lv' := [(0, .ref (B.1 0 0)), (1, .int p1), (2, .int p2)]) [0, 1, 2] rfl ?_
  refine J.aload_n hx dX1_scale_0 rfl 0 rfl ?_
  refine J.bipush (v := 6) hx dX1_scale_1 (by decide) ?_
  refine J.iload_n hx dX1_scale_3 rfl 1 rfl ?_
  refine J.iload_n hx dX1_scale_4 rfl 2 rfl ?_
  refine J.callAi hx (fun r z1 z => j_callA_of (j_runV (κ := 0) hx rfl rfl a0.1 (mt_X1_act a0 z) (lw_V q963 q965 qs13 q120 q966) hd_X1_act rfl ⟨Nat.le_of_ble_eq_true rfl, Nat.le_of_ble_eq_true rfl⟩ (Nat.le_of_ble_eq_true rfl) dX1_scale_5)) ⟨Nat.le_of_ble_eq_true rfl, Nat.le_of_ble_eq_true rfl⟩ fun v1 w2 B4 e3 x5 x6 => ?_
  refine J.cv (lv' := [(0, .ref (B4.1 0 0)), (1, .int p1), (2, .int p2)]) (st' := [.int v1]) (by first | rfl | (simp only [x5.ad a0]; done) | (simp only [x5.ad a0]; rfl)) (by first | rfl | (simp only [x5.ad a0]; done) | (simp only [x5.ad a0]; rfl)) ?_
  exact J.iretA hx (j_ext.rf.tr x5) trivial rfl (Nat.le_of_ble_eq_true rfl) (Nat.le_of_ble_eq_true rfl) dX1_scale_8
theorem hd_X1_set : yX1_set.cls = RX1 ∧ yX1_set.cls ≠ "java/lang/invoke/MethodHandle" ∧ yX1_set.cls ≠ "java/lang/invoke/VarHandle" ∧ (parseMethodDescriptor yX1_set.desc).map (fun d => d.parameters.length) = some 2 := by decide +kernel
def f_X1_set (p1 : Int32) (p2 : Int32) (w : j_St) : Option (Int32 × j_St) := jcb (f_X1_act 7 p1 p2 w) fun v1 w2 => some (v1, w2)
abbrev rm_X1_set : Room := { frames := 9, cells := 4, slots := 236, locals := 210 }
set_option maxRecDepth 100000 in
set_option maxHeartbeats 4000000 in
theorem mt_X1_set {g : j_G} {B : j_B} {p1 : Int32} {p2 : Int32} {w w' : j_St} (a0 : B.2.1 0 0 ∧ B.2.2 0 0)  {r : Int32} (h : f_X1_set p1 p2 w = some (r, w')) : j_MA g yX1_set cX1_set 3 (some FieldType.int) rm_X1_set B [.ref (B.1 0 0), .int p1, .int p2] w w' ((fun r _ => jri r) r) ((fun _ _ _ => True) r w') := by
  refine j_metA (rv := (fun r _ => jri r)) (PB := (fun _ _ _ => True)) (by decide) (Nat.le_of_ble_eq_true rfl) (fun x hx hnm => ?_) h
  unfold f_X1_set
  refine J.sub (lv' := [(0, .ref (B.1 0 0)), (1, .int p1), (2, .int p2)]) [0, 1, 2] rfl ?_
  refine J.aload_n hx dX1_set_0 rfl 0 rfl ?_
  refine J.bipush (v := 7) hx dX1_set_1 (by decide) ?_
  refine J.iload_n hx dX1_set_3 rfl 1 rfl ?_
  refine J.iload_n hx dX1_set_4 rfl 2 rfl ?_
  refine J.callAi hx (fun r z1 z => j_callA_of (j_runV (κ := 0) hx rfl rfl a0.1 (mt_X1_act a0 z) (lw_V q963 q965 qs13 q120 q966) hd_X1_act rfl ⟨Nat.le_of_ble_eq_true rfl, Nat.le_of_ble_eq_true rfl⟩ (Nat.le_of_ble_eq_true rfl) dX1_set_5)) ⟨Nat.le_of_ble_eq_true rfl, Nat.le_of_ble_eq_true rfl⟩ fun v1 w2 B4 e3 x5 x6 => ?_
  refine J.cv (lv' := [(0, .ref (B4.1 0 0)), (1, .int p1), (2, .int p2)]) (st' := [.int v1]) (by first | rfl | (simp only [x5.ad a0]; done) | (simp only [x5.ad a0]; rfl)) (by first | rfl | (simp only [x5.ad a0]; done) | (simp only [x5.ad a0]; rfl)) ?_
  exact J.iretA hx (j_ext.rf.tr x5) trivial rfl (Nat.le_of_ble_eq_true rfl) (Nat.le_of_ble_eq_true rfl) dX1_set_8
theorem hd_X1_noise : yX1_noise.cls = RX1 ∧ yX1_noise.cls ≠ "java/lang/invoke/MethodHandle" ∧ yX1_noise.cls ≠ "java/lang/invoke/VarHandle" ∧ (parseMethodDescriptor yX1_noise.desc).map (fun d => d.parameters.length) = some 1 := by decide +kernel
def f_X1_noise (p1 : Int32) (w : j_St) : Option (Int32 × j_St) := jcb (f_X1_act 8 p1 0 w) fun v1 w2 => some (v1, w2)
abbrev rm_X1_noise : Room := { frames := 9, cells := 4, slots := 236, locals := 210 }
set_option maxRecDepth 100000 in
set_option maxHeartbeats 4000000 in
theorem mt_X1_noise {g : j_G} {B : j_B} {p1 : Int32} {w w' : j_St} (a0 : B.2.1 0 0 ∧ B.2.2 0 0)  {r : Int32} (h : f_X1_noise p1 w = some (r, w')) : j_MA g yX1_noise cX1_noise 2 (some FieldType.int) rm_X1_noise B [.ref (B.1 0 0), .int p1] w w' ((fun r _ => jri r) r) ((fun _ _ _ => True) r w') := by
  refine j_metA (rv := (fun r _ => jri r)) (PB := (fun _ _ _ => True)) (by decide) (Nat.le_of_ble_eq_true rfl) (fun x hx hnm => ?_) h
  unfold f_X1_noise
  refine J.sub (lv' := [(0, .ref (B.1 0 0)), (1, .int p1)]) [0, 1] rfl ?_
  refine J.aload_n hx dX1_noise_0 rfl 0 rfl ?_
  refine J.bipush (v := 8) hx dX1_noise_1 (by decide) ?_
  refine J.iload_n hx dX1_noise_3 rfl 1 rfl ?_
  refine J.iconst (v := 0) hx dX1_noise_4 (by decide) ?_
  refine J.callAi hx (fun r z1 z => j_callA_of (j_runV (κ := 0) hx rfl rfl a0.1 (mt_X1_act a0 z) (lw_V q963 q965 qs13 q120 q966) hd_X1_act rfl ⟨Nat.le_of_ble_eq_true rfl, Nat.le_of_ble_eq_true rfl⟩ (Nat.le_of_ble_eq_true rfl) dX1_noise_5)) ⟨Nat.le_of_ble_eq_true rfl, Nat.le_of_ble_eq_true rfl⟩ fun v1 w2 B4 e3 x5 x6 => ?_
  refine J.cv (lv' := [(0, .ref (B4.1 0 0)), (1, .int p1)]) (st' := [.int v1]) (by first | rfl | (simp only [x5.ad a0]; done) | (simp only [x5.ad a0]; rfl)) (by first | rfl | (simp only [x5.ad a0]; done) | (simp only [x5.ad a0]; rfl)) ?_
  exact J.iretA hx (j_ext.rf.tr x5) trivial rfl (Nat.le_of_ble_eq_true rfl) (Nat.le_of_ble_eq_true rfl) dX1_noise_8
theorem hd_X1_cut : yX1_cut.cls = RX1 ∧ yX1_cut.cls ≠ "java/lang/invoke/MethodHandle" ∧ yX1_cut.cls ≠ "java/lang/invoke/VarHandle" ∧ (parseMethodDescriptor yX1_cut.desc).map (fun d => d.parameters.length) = some 2 := by decide +kernel
def f_X1_cut (p1 : Int32) (p2 : Int32) (w : j_St) : Option (Int32 × j_St) := jcb (f_X1_act 9 p1 p2 w) fun v1 w2 => some (v1, w2)
abbrev rm_X1_cut : Room := { frames := 9, cells := 4, slots := 236, locals := 210 }
set_option maxRecDepth 100000 in
set_option maxHeartbeats 4000000 in
theorem mt_X1_cut {g : j_G} {B : j_B} {p1 : Int32} {p2 : Int32} {w w' : j_St} (a0 : B.2.1 0 0 ∧ B.2.2 0 0)  {r : Int32} (h : f_X1_cut p1 p2 w = some (r, w')) : j_MA g yX1_cut cX1_cut 3 (some FieldType.int) rm_X1_cut B [.ref (B.1 0 0), .int p1, .int p2] w w' ((fun r _ => jri r) r) ((fun _ _ _ => True) r w') := by
  refine j_metA (rv := (fun r _ => jri r)) (PB := (fun _ _ _ => True)) (by decide) (Nat.le_of_ble_eq_true rfl) (fun x hx hnm => ?_) h
  unfold f_X1_cut
  refine J.sub (lv' := [(0, .ref (B.1 0 0)), (1, .int p1), (2, .int p2)]) [0, 1, 2] rfl ?_
  refine J.aload_n hx dX1_cut_0 rfl 0 rfl ?_
  refine J.bipush (v := 9) hx dX1_cut_1 (by decide) ?_
  refine J.iload_n hx dX1_cut_3 rfl 1 rfl ?_
  refine J.iload_n hx dX1_cut_4 rfl 2 rfl ?_
  refine J.callAi hx (fun r z1 z => j_callA_of (j_runV (κ := 0) hx rfl rfl a0.1 (mt_X1_act a0 z) (lw_V q963 q965 qs13 q120 q966) hd_X1_act rfl ⟨Nat.le_of_ble_eq_true rfl, Nat.le_of_ble_eq_true rfl⟩ (Nat.le_of_ble_eq_true rfl) dX1_cut_5)) ⟨Nat.le_of_ble_eq_true rfl, Nat.le_of_ble_eq_true rfl⟩ fun v1 w2 B4 e3 x5 x6 => ?_
  refine J.cv (lv' := [(0, .ref (B4.1 0 0)), (1, .int p1), (2, .int p2)]) (st' := [.int v1]) (by first | rfl | (simp only [x5.ad a0]; done) | (simp only [x5.ad a0]; rfl)) (by first | rfl | (simp only [x5.ad a0]; done) | (simp only [x5.ad a0]; rfl)) ?_
  exact J.iretA hx (j_ext.rf.tr x5) trivial rfl (Nat.le_of_ble_eq_true rfl) (Nat.le_of_ble_eq_true rfl) dX1_cut_8
theorem hd_X1_happens : yX1_happens.cls = RX1 ∧ yX1_happens.cls ≠ "java/lang/invoke/MethodHandle" ∧ yX1_happens.cls ≠ "java/lang/invoke/VarHandle" ∧ (parseMethodDescriptor yX1_happens.desc).map (fun d => d.parameters.length) = some 0 := by decide +kernel
def f_X1_happens  (w : j_St) : Option (Int32 × j_St) := jcb (f_X1_draw 8 w) fun v1 w2 => if 2 < v1 then if v1 = 6 then jcb (f_X1_draw 200 w2) fun v32 w33 => jcb (f_X1_acts 8 v32 0 w33) fun v35 w36 => some (v35, w36) else jlt (fun (v7 : Int32) (w8 : j_St) => jcb (f_X1_draw v7 w8) fun v11 w12 => if v1 = 7 then jcb (f_X1_draw 9 w12) fun v23 w24 => jcb (f_X1_acts 6 v11 (v23 + 1) w24) fun v26 w27 => some (v26, w27) else jcb (f_X1_draw 1000 w12) fun v14 w15 => jcb (f_X1_acts 7 v11 v14 w15) fun v17 w18 => some (v17, w18)) fun K63 => if v1 = 7 then K63 100 w2 else jlt (jgi w2 4 1 1) fun v6 => K63 v6 w2 else jcb (f_X1_acts v1 0 0 w2) fun v41 w42 => some (v41, w42)
abbrev rm_X1_happens : Room := { frames := 8, cells := 4, slots := 236, locals := 186 }
set_option maxRecDepth 100000 in
set_option maxHeartbeats 4000000 in
theorem mt_X1_happens {g : j_G} {B : j_B}  {w w' : j_St} (a0 : B.2.1 0 0 ∧ B.2.2 0 0)  {r : Int32} (h : f_X1_happens  w = some (r, w')) : j_MA g yX1_happens cX1_happens 3 (some FieldType.int) rm_X1_happens B [.ref (B.1 0 0)] w w' ((fun r _ => jri r) r) ((fun _ _ _ => True) r w') := by
  refine j_metA (rv := (fun r _ => jri r)) (PB := (fun _ _ _ => True)) (by decide) (Nat.le_of_ble_eq_true rfl) (fun x hx hnm => ?_) h
  unfold f_X1_happens
  refine J.sub (lv' := [(0, .ref (B.1 0 0))]) [0] rfl ?_
  refine J.aload_n hx dX1_happens_0 rfl 0 rfl ?_
  refine J.bipush (v := 8) hx dX1_happens_1 (by decide) ?_
  refine J.calli hx (fun r z1 z => j_callV (κ := 0) hx rfl rfl a0.1 (mt_X1_draw a0 z) (lw_V q1214 q1216 qs26 q120 q1217) hd_X1_draw rfl ⟨Nat.le_of_ble_eq_true rfl, Nat.le_of_ble_eq_true rfl⟩ (Nat.le_of_ble_eq_true rfl) dX1_happens_3) ⟨⟨rfl, rfl⟩, (Nat.le_of_ble_eq_true rfl), (Nat.le_of_ble_eq_true rfl)⟩ fun v1 w2 e3 => ?_
  refine J.istore_n (lv' := [(1, .int v1), (0, .ref (B.1 0 0))]) hx dX1_happens_6 rfl (by decide) rfl ?_
  refine J.iload_n hx dX1_happens_7 rfl 0 rfl ?_
  refine J.iconst (v := 2) hx dX1_happens_8 (by decide) ?_
  refine J.icmp_gt (tgt := 20) hx dX1_happens_9 (by decide) ?_ ?_
  · refine J.iload_n hx dX1_happens_20 rfl 0 rfl ?_
    refine J.bipush (v := 6) hx dX1_happens_21 (by decide) ?_
    refine J.icmp_ne (tgt := 41) hx dX1_happens_23 (by decide) ?_ ?_
    · refine J.aload_n hx dX1_happens_26 rfl 1 rfl ?_
      refine J.bipush (v := 8) hx dX1_happens_27 (by decide) ?_
      refine J.aload_n hx dX1_happens_29 rfl 1 rfl ?_
      refine J.sipush (v := 200) hx dX1_happens_30 (by decide) ?_
      refine J.calli hx (fun r z1 z => j_callV (κ := 0) hx rfl rfl a0.1 (mt_X1_draw a0 z) (lw_V q1214 q1216 qs26 q120 q1217) hd_X1_draw rfl ⟨Nat.le_of_ble_eq_true rfl, Nat.le_of_ble_eq_true rfl⟩ (Nat.le_of_ble_eq_true rfl) dX1_happens_33) ⟨⟨rfl, rfl⟩, (Nat.le_of_ble_eq_true rfl), (Nat.le_of_ble_eq_true rfl)⟩ fun v32 w33 e34 => ?_
      refine J.iconst (v := 0) hx dX1_happens_36 (by decide) ?_
      refine J.callAi hx (fun r z1 z => j_callA_of (j_runV (κ := 0) hx rfl rfl a0.1 (mt_X1_acts a0 z) (lw_V q967 q969 qs14 q120 q970) hd_X1_acts rfl ⟨Nat.le_of_ble_eq_true rfl, Nat.le_of_ble_eq_true rfl⟩ (Nat.le_of_ble_eq_true rfl) dX1_happens_37)) ⟨Nat.le_of_ble_eq_true rfl, Nat.le_of_ble_eq_true rfl⟩ fun v35 w36 B38 e37 x39 x40 => ?_
      refine J.cv (lv' := [(1, .int v1), (0, .ref (B38.1 0 0))]) (st' := [.int v35]) (by first | rfl | (simp only [x39.ad a0]; done) | (simp only [x39.ad a0]; rfl)) (by first | rfl | (simp only [x39.ad a0]; done) | (simp only [x39.ad a0]; rfl)) ?_
      exact J.iretA hx (j_ext.rf.tr x39) trivial rfl (Nat.le_of_ble_eq_true rfl) (Nat.le_of_ble_eq_true rfl) dX1_happens_40
    · refine J.aload_n hx dX1_happens_41 rfl 1 rfl ?_
      refine J.iload_n hx dX1_happens_42 rfl 0 rfl ?_
      refine J.bipush (v := 7) hx dX1_happens_43 (by decide) ?_
      refine J.fn (fun (K63 : Int32 → j_St → Option (Int32 × j_St)) => ∀ (v7 : Int32) (B9 : j_B) (x10 : j_ext B B9) (w8 : j_St), J g x 3 B9 (j_QA g x B rm_X1_happens (fun r _ => jri r) (fun _ _ _ => True)) 0 0 (K63 v7 w8) 63 [(0, .ref (B9.1 0 0)), (1, .int v1)] [.int v7, .ref (B9.1 0 0)] w8) ?_ ?_
      · intro v7 B9 x10 w8
        refine J.calli hx (fun r z1 z => j_callV (κ := 0) hx rfl rfl (x10.mv a0).1 (mt_X1_draw (x10.mv a0) z) (lw_V q1214 q1216 qs26 q120 q1217) hd_X1_draw rfl ⟨Nat.le_of_ble_eq_true rfl, Nat.le_of_ble_eq_true rfl⟩ (Nat.le_of_ble_eq_true rfl) dX1_happens_63) ⟨⟨rfl, rfl⟩, (Nat.le_of_ble_eq_true rfl), (Nat.le_of_ble_eq_true rfl)⟩ fun v11 w12 e13 => ?_
        refine J.istore_n (lv' := [(2, .int v11), (0, .ref (B9.1 0 0)), (1, .int v1)]) hx dX1_happens_66 rfl (by decide) rfl ?_
        refine J.iload_n hx dX1_happens_67 rfl 2 rfl ?_
        refine J.bipush (v := 7) hx dX1_happens_68 (by decide) ?_
        refine J.icmp_ne (tgt := 91) hx dX1_happens_70 (by decide) ?_ ?_
        · refine J.aload_n hx dX1_happens_73 rfl 1 rfl ?_
          refine J.bipush (v := 6) hx dX1_happens_74 (by decide) ?_
          refine J.iload_n hx dX1_happens_76 rfl 0 rfl ?_
          refine J.aload_n hx dX1_happens_77 rfl 1 rfl ?_
          refine J.bipush (v := 9) hx dX1_happens_78 (by decide) ?_
          refine J.calli hx (fun r z1 z => j_callV (κ := 0) hx rfl rfl (x10.mv a0).1 (mt_X1_draw (x10.mv a0) z) (lw_V q1214 q1216 qs26 q120 q1217) hd_X1_draw rfl ⟨Nat.le_of_ble_eq_true rfl, Nat.le_of_ble_eq_true rfl⟩ (Nat.le_of_ble_eq_true rfl) dX1_happens_80) ⟨⟨rfl, rfl⟩, (Nat.le_of_ble_eq_true rfl), (Nat.le_of_ble_eq_true rfl)⟩ fun v23 w24 e25 => ?_
          refine J.iconst (v := 1) hx dX1_happens_83 (by decide) ?_
          refine J.iadd hx dX1_happens_84 ?_
          refine J.callAi hx (fun r z1 z => j_callA_of (j_runV (κ := 0) hx rfl rfl (x10.mv a0).1 (mt_X1_acts (x10.mv a0) z) (lw_V q967 q969 qs14 q120 q970) hd_X1_acts rfl ⟨Nat.le_of_ble_eq_true rfl, Nat.le_of_ble_eq_true rfl⟩ (Nat.le_of_ble_eq_true rfl) dX1_happens_85)) ⟨Nat.le_of_ble_eq_true rfl, Nat.le_of_ble_eq_true rfl⟩ fun v26 w27 B29 e28 x30 x31 => ?_
          refine J.cv (lv' := [(2, .int v11), (0, .ref (B29.1 0 0)), (1, .int v1)]) (st' := [.int v26]) (by first | rfl | (simp only [x30.ad (x10.mv a0)]; done) | (simp only [x30.ad (x10.mv a0)]; rfl)) (by first | rfl | (simp only [x30.ad (x10.mv a0)]; done) | (simp only [x30.ad (x10.mv a0)]; rfl)) ?_
          refine J.goto (tgt := 105) hx dX1_happens_88 (by decide) ?_
          exact J.iretA hx ((j_ext.rf.tr x10).tr x30) trivial rfl (Nat.le_of_ble_eq_true rfl) (Nat.le_of_ble_eq_true rfl) dX1_happens_105
        · refine J.aload_n hx dX1_happens_91 rfl 1 rfl ?_
          refine J.bipush (v := 7) hx dX1_happens_92 (by decide) ?_
          refine J.iload_n hx dX1_happens_94 rfl 0 rfl ?_
          refine J.aload_n hx dX1_happens_95 rfl 1 rfl ?_
          refine J.sipush (v := 1000) hx dX1_happens_96 (by decide) ?_
          refine J.calli hx (fun r z1 z => j_callV (κ := 0) hx rfl rfl (x10.mv a0).1 (mt_X1_draw (x10.mv a0) z) (lw_V q1214 q1216 qs26 q120 q1217) hd_X1_draw rfl ⟨Nat.le_of_ble_eq_true rfl, Nat.le_of_ble_eq_true rfl⟩ (Nat.le_of_ble_eq_true rfl) dX1_happens_99) ⟨⟨rfl, rfl⟩, (Nat.le_of_ble_eq_true rfl), (Nat.le_of_ble_eq_true rfl)⟩ fun v14 w15 e16 => ?_
          refine J.callAi hx (fun r z1 z => j_callA_of (j_runV (κ := 0) hx rfl rfl (x10.mv a0).1 (mt_X1_acts (x10.mv a0) z) (lw_V q967 q969 qs14 q120 q970) hd_X1_acts rfl ⟨Nat.le_of_ble_eq_true rfl, Nat.le_of_ble_eq_true rfl⟩ (Nat.le_of_ble_eq_true rfl) dX1_happens_102)) ⟨Nat.le_of_ble_eq_true rfl, Nat.le_of_ble_eq_true rfl⟩ fun v17 w18 B20 e19 x21 x22 => ?_
          refine J.cv (lv' := [(2, .int v11), (0, .ref (B20.1 0 0)), (1, .int v1)]) (st' := [.int v17]) (by first | rfl | (simp only [x21.ad (x10.mv a0)]; done) | (simp only [x21.ad (x10.mv a0)]; rfl)) (by first | rfl | (simp only [x21.ad (x10.mv a0)]; done) | (simp only [x21.ad (x10.mv a0)]; rfl)) ?_
          exact J.iretA hx ((j_ext.rf.tr x10).tr x21) trivial rfl (Nat.le_of_ble_eq_true rfl) (Nat.le_of_ble_eq_true rfl) dX1_happens_105
      · intro K63 hK63
        refine J.icmp_ne (tgt := 53) hx dX1_happens_45 (by decide) ?_ ?_
        · refine J.bipush (v := 100) hx dX1_happens_48 (by decide) ?_
          refine J.goto (tgt := 63) hx dX1_happens_50 (by decide) ?_
          exact J.sub [1, 0] rfl (hK63 100 B j_ext.rf w2)
        · refine J.aload_n hx dX1_happens_53 rfl 1 rfl ?_
          refine J.getc (κ' := 5) (i' := 0) (κ := 0) (k := 13) hx rfl rfl rfl rfl rfl in_X1 (by decide) (Or.inl q382) a0.2 dX1_happens_54 fun h4 => ?_
          refine J.getc (κ' := 4) (i' := 1) (κ := 5) (k := 0) hx rfl rfl rfl rfl rfl in_X8 (by decide) (Or.inr ⟨_, j_nl q339 rfl⟩) h4.2 dX1_happens_57 fun h5 => ?_
          refine J.geti (κ := 4) (k := 1) hx rfl rfl rfl in_X7 (by decide) (Or.inr ⟨_, j_nl q324 rfl⟩) h5.1 dX1_happens_60 fun v6 => ?_
          exact J.sub [1, 0] rfl (hK63 v6 B j_ext.rf w2)
  · refine J.aload_n hx dX1_happens_12 rfl 1 rfl ?_
    refine J.iload_n hx dX1_happens_13 rfl 0 rfl ?_
    refine J.iconst (v := 0) hx dX1_happens_14 (by decide) ?_
    refine J.iconst (v := 0) hx dX1_happens_15 (by decide) ?_
    refine J.callAi hx (fun r z1 z => j_callA_of (j_runV (κ := 0) hx rfl rfl a0.1 (mt_X1_acts a0 z) (lw_V q967 q969 qs14 q120 q970) hd_X1_acts rfl ⟨Nat.le_of_ble_eq_true rfl, Nat.le_of_ble_eq_true rfl⟩ (Nat.le_of_ble_eq_true rfl) dX1_happens_16)) ⟨Nat.le_of_ble_eq_true rfl, Nat.le_of_ble_eq_true rfl⟩ fun v41 w42 B44 e43 x45 x46 => ?_
    refine J.cv (lv' := [(1, .int v1), (0, .ref (B44.1 0 0))]) (st' := [.int v41]) (by first | rfl | (simp only [x45.ad a0]; done) | (simp only [x45.ad a0]; rfl)) (by first | rfl | (simp only [x45.ad a0]; done) | (simp only [x45.ad a0]; rfl)) ?_
    exact J.iretA hx (j_ext.rf.tr x45) trivial rfl (Nat.le_of_ble_eq_true rfl) (Nat.le_of_ble_eq_true rfl) dX1_happens_19
theorem hd_X1_ways : yX1_ways.cls = RX1 ∧ yX1_ways.cls ≠ "java/lang/invoke/MethodHandle" ∧ yX1_ways.cls ≠ "java/lang/invoke/VarHandle" ∧ (parseMethodDescriptor yX1_ways.desc).map (fun d => d.parameters.length) = some 2 := by decide +kernel
def f_X1_ways_L29 (p1 : Int32) (k47 : Nat → Nat → j_St → Option (Int32 × j_St)) : Nat → Int32 → Nat → Nat → j_St → Option (Int32 × j_St)
  | 0, _, _, _, _ => none
  | n29 + 1, v9, c13, c14, w10 => if p1 ≤ v9 then k47 c13 c14 w10 else if c13 + 4 ≤ 160 ∧ c14 + 236 ≤ 9440 then jcb (f_X1_happens w10) fun v15 w16 => jlt (v9 + 1) fun v22 => f_X1_ways_L29 p1 k47 n29 v22 (c13 + 4) (c14 + 236) w16 else none
def f_X1_ways (p1 : Int32) (p2 : Int64) (w : j_St) : Option (Int32 × j_St) := jlt (jgr w 0 0 7) fun v1 => jcs v1 (some ((-1), w)) fun y3 => jcb (f_X1_isIn p1.toInt64 1 40 w) fun v5 w6 => if v5 = 0 then some ((-1), w6) else jlt (jsl w6 0 0 20 p2) fun w8 => f_X1_ways_L29 p1 (fun (c26 : Nat) (c27 : Nat) (w23 : j_St) => if c26 ≤ 160 ∧ c27 ≤ 9440 then jcb (f_X8_kept 0 w23) fun v29 w30 => if c26 ≤ 160 ∧ c27 ≤ 9440 then some (v29, w30) else none else none) jFU 0 0 0 w8
abbrev rm_X1_ways : Room := { frames := 9, cells := 160, slots := 9440, locals := 208 }
set_option maxRecDepth 100000 in
set_option maxHeartbeats 4000000 in
theorem mt_X1_ways {g : j_G} {B : j_B} {p1 : Int32} {p2 : Int64} {w w' : j_St} (a0 : B.2.1 0 0 ∧ B.2.2 0 0)  {r : Int32} (h : f_X1_ways p1 p2 w = some (r, w')) : j_MA g yX1_ways cX1_ways 6 (some FieldType.int) rm_X1_ways B [.ref (B.1 0 0), .int p1, .long p2] w w' ((fun r _ => jri r) r) ((fun _ _ _ => True) r w') := by
  refine j_metA (rv := (fun r _ => jri r)) (PB := (fun _ _ _ => True)) (by decide) (Nat.le_of_ble_eq_true rfl) (fun x hx hnm => ?_) h
  unfold f_X1_ways
  refine J.sub (lv' := [(0, .ref (B.1 0 0)), (1, .int p1), (2, .long p2)]) [0, 1, 2] rfl ?_
  refine J.aload_n hx dX1_ways_0 rfl 0 rfl ?_
  refine J.getr (κ' := 6) (κ := 0) (k := 7) hx rfl rfl rfl rfl in_X1 (by decide) (Or.inl q374) a0.1 dX1_ways_1 fun v1 h2 => ?_
  refine J.ifnull (tgt := 19) hx dX1_ways_4 (by decide) (fun e4n => ?_) (fun y3 e4 => ?_)
  · subst e4n
    refine J.iconst (v := (-1)) hx dX1_ways_19 (by decide) ?_
    exact J.iretA hx j_ext.rf trivial rfl (Nat.le_of_ble_eq_true rfl) (Nat.le_of_ble_eq_true rfl) dX1_ways_20
  · subst e4
    refine J.iload_n hx dX1_ways_7 rfl 1 rfl ?_
    refine J.i2l hx dX1_ways_8 ?_
    refine J.lconst (v := 1) hx dX1_ways_9 (by decide) ?_
    refine J.ldc2 (v := 40) hx q1209 dX1_ways_10 ?_
    refine J.calli hx (fun r z1 z => j_callS hx (mt_X1_isIn z) (lw_S q441 q442 q120 q443) hd_X1_isIn.2 rfl ⟨Nat.le_of_ble_eq_true rfl, Nat.le_of_ble_eq_true rfl⟩ (Nat.le_of_ble_eq_true rfl) dX1_ways_13) ⟨⟨rfl, rfl⟩, (Nat.le_of_ble_eq_true rfl), (Nat.le_of_ble_eq_true rfl)⟩ fun v5 w6 e7 => ?_
    refine J.if_ne (tgt := 21) hx dX1_ways_16 (by decide) ?_ ?_
    · refine J.iconst (v := (-1)) hx dX1_ways_19 (by decide) ?_
      exact J.iretA hx j_ext.rf trivial rfl (Nat.le_of_ble_eq_true rfl) (Nat.le_of_ble_eq_true rfl) dX1_ways_20
    · refine J.aload_n hx dX1_ways_21 rfl 0 rfl ?_
      refine J.lload_n hx dX1_ways_22 rfl 2 rfl ?_
      refine J.putl (κ := 0) (k := 20) hx rfl rfl rfl in_X1 tyX1_ok nmX1 (by decide) (Or.inl q389) rfl rfl a0.1 rfl dX1_ways_23 fun w8 => ?_
      refine J.iconst (v := 0) hx dX1_ways_26 (by decide) ?_
      refine J.istore (lv' := [(4, .int 0), (0, .ref (B.1 0 0)), (1, .int p1), (2, .long p2)]) hx dX1_ways_27 (by decide) rfl ?_
      have hL29 : ∀ (k47 : Nat → Nat → j_St → Option (Int32 × j_St)) (hk47 : ∀  (c26 : Nat) (c27 : Nat) (B24 : j_B) (x25 : j_ext B B24) (w23 : j_St), J g x 6 B24 (j_QA g x B rm_X1_ways (fun r _ => jri r) (fun _ _ _ => True)) c26 c27 (k47 c26 c27 w23) 47 [(0, .ref (B24.1 0 0))] [] w23) (n29 : Nat) (v9 : Int32) (c13 c14 : Nat) (B11 : j_B) (x12 : j_ext B B11) (w10 : j_St), J g x 6 B11 (j_QA g x B rm_X1_ways (fun r _ => jri r) (fun _ _ _ => True)) c13 c14 (f_X1_ways_L29 p1 k47 n29 v9 c13 c14 w10) 29 [(0, .ref (B11.1 0 0)), (1, .int p1), (4, .int v9)] [] w10 := by
        intro k47 hk47 n29
        induction n29 with
        | zero =>
          intro v9 c13 c14 B11 x12 w10
          rw [f_X1_ways_L29]
          exact J.nne
        | succ n29 ih =>
          intro v9 c13 c14 B11 x12 w10
          rw [f_X1_ways_L29]
          refine J.iload hx dX1_ways_29 2 rfl ?_
          refine J.iload_n hx dX1_ways_31 rfl 1 rfl ?_
          refine J.icmp_ge (tgt := 47) hx dX1_ways_32 (by decide) ?_ ?_
          · exact J.sub [0] rfl (hk47 c13 c14 B11 x12 w10)
          · refine J.aload_n hx dX1_ways_35 rfl 0 rfl ?_
            refine J.ite (fun h18 => ?_) (fun _ => J.nne)
            refine J.callAi hx (fun r z1 z => j_callA_of (j_runV (κ := 0) hx rfl rfl (x12.mv a0).1 (mt_X1_happens (x12.mv a0) z) (lw_V q1210 q1212 qs25 q120 q1213) hd_X1_happens rfl ⟨Nat.le_of_ble_eq_true rfl, Nat.le_of_ble_eq_true rfl⟩ (Nat.le_of_ble_eq_true rfl) dX1_ways_36)) h18 fun v15 w16 B19 e17 x20 x21 => ?_
            refine J.cv (lv' := [(0, .ref (B19.1 0 0)), (1, .int p1), (4, .int v9)]) (st' := [.int v15]) (by first | rfl | (simp only [x20.ad (x12.mv a0)]; done) | (simp only [x20.ad (x12.mv a0)]; rfl)) (by first | rfl | (simp only [x20.ad (x12.mv a0)]; done) | (simp only [x20.ad (x12.mv a0)]; rfl)) ?_
            refine J.istore (lv' := [(5, .int v15), (0, .ref (B19.1 0 0)), (1, .int p1), (4, .int v9)]) hx dX1_ways_39 (by decide) rfl ?_
            refine J.nmx fun v22 ev22 => ?_
            refine J.iinc (p := 3) (v := v22) (lv' := [(4, .int v22), (5, .int v15), (0, .ref (B19.1 0 0)), (1, .int p1)]) hx dX1_ways_41 rfl (by rw [ev22]; rfl) (by decide) rfl ?_
            refine J.goto (tgt := 29) hx dX1_ways_44 (by decide) ?_
            exact J.sub [2, 3, 0] rfl (ih v22 (c13 + 4) (c14 + 236) B19 (x12.tr x20) w16)
      refine J.sub [1, 2, 0] rfl (hL29 _ ?_ jFU 0 0 0 B j_ext.rf w8)
      · intro c26 c27 B24 x25 w23
        refine J.aload_n hx dX1_ways_47 rfl 0 rfl ?_
        refine J.getc (κ' := 5) (i' := 0) (κ := 0) (k := 13) hx rfl rfl rfl rfl rfl in_X1 (by decide) (Or.inl q382) (x25.mv a0).2 dX1_ways_48 fun h28 => ?_
        refine J.ite (fun h32 => ?_) (fun _ => J.nne)
        refine J.calli hx (fun r z1 z => j_callV (κ := 5) hx rfl rfl h28.1 (mt_X8_kept h28 z) (lw_V q1150 q999 q1000 q128 q1001) hd_X8_kept rfl ⟨Nat.le_of_ble_eq_true rfl, Nat.le_of_ble_eq_true rfl⟩ (Nat.le_of_ble_eq_true rfl) dX1_ways_51) ⟨⟨rfl, rfl⟩, h32.1, h32.2⟩ fun v29 w30 e31 => ?_
        refine J.ite (fun h33 => ?_) (fun _ => J.nne)
        exact J.iretA hx (j_ext.rf.tr x25) trivial rfl h33.1 h33.2 dX1_ways_54
theorem hd_X1_perform : yX1_perform.cls = RX1 ∧ yX1_perform.cls ≠ "java/lang/invoke/MethodHandle" ∧ yX1_perform.cls ≠ "java/lang/invoke/VarHandle" ∧ (parseMethodDescriptor yX1_perform.desc).map (fun d => d.parameters.length) = some 1 := by decide +kernel
def f_X1_perform_L26 (v10 : Option Nat)  : Nat → Int32 → Nat → Nat → j_St → Option (Int32 × j_St)
  | 0, _, _, _, _ => none
  | n26 + 1, v12, c16, c17, w13 => job v10 fun y18 => jlt (jgi w13 7 y18 2) fun v20 => if v20 ≤ v12 then if c16 ≤ 48 ∧ c17 ≤ 2832 then some (v12, w13) else none else jbd v12 12 fun a23 => jlt (jgi w13 36 y18 a23) fun v24 => if c16 ≤ 48 ∧ c17 ≤ 2832 then jcb (f_X13_number y18 v12 0 w13) fun v25 w26 => if c16 ≤ 48 ∧ c17 ≤ 2832 then jcb (f_X13_number y18 v12 1 w26) fun v29 w30 => if c16 + 4 ≤ 48 ∧ c17 + 236 ≤ 2832 then jcb (f_X1_acts v24 v25 v29 w30) fun v33 w34 => if v33 = (-1) then jlt (v12 + 1) fun v41 => f_X1_perform_L26 v10 n26 v41 (c16 + 4) (c17 + 236) w34 else if c16 + 4 ≤ 48 ∧ c17 + 236 ≤ 2832 then some (v12, w34) else none else none else none else none
def f_X1_perform (p1 : Int32) (w : j_St) : Option (Int32 × j_St) := jcb (f_X1_isScript p1 w) fun v1 w2 => if v1 = 0 then some ((-1), w2) else jlt (jgr w2 0 0 7) fun v4 => jcs v4 (some ((-1), w2)) fun y6 => jbd p1 4 fun a9 => jlt (jgr w2 22 0 a9) fun v10 => f_X1_perform_L26 v10 jFU 0 0 0 w2
abbrev rm_X1_perform : Room := { frames := 8, cells := 48, slots := 2832, locals := 186 }
set_option maxRecDepth 100000 in
set_option maxHeartbeats 4000000 in
theorem mt_X1_perform {g : j_G} {B : j_B} {p1 : Int32} {w w' : j_St} (a0 : B.2.1 0 0 ∧ B.2.2 0 0)  {r : Int32} (h : f_X1_perform p1 w = some (r, w')) : j_MA g yX1_perform cX1_perform 4 (some FieldType.int) rm_X1_perform B [.ref (B.1 0 0), .int p1] w w' ((fun r _ => jri r) r) ((fun _ _ _ => True) r w') := by
  refine j_metA (rv := (fun r _ => jri r)) (PB := (fun _ _ _ => True)) (by decide) (Nat.le_of_ble_eq_true rfl) (fun x hx hnm => ?_) h
  unfold f_X1_perform
  refine J.sub (lv' := [(0, .ref (B.1 0 0)), (1, .int p1)]) [0, 1] rfl ?_
  refine J.aload_n hx dX1_perform_0 rfl 0 rfl ?_
  refine J.iload_n hx dX1_perform_1 rfl 1 rfl ?_
  refine J.calli hx (fun r z1 z => j_callV (κ := 0) hx rfl rfl a0.1 (mt_X1_isScript a0 z) (lw_V q1558 q1560 qs37 q120 q1561) hd_X1_isScript rfl ⟨Nat.le_of_ble_eq_true rfl, Nat.le_of_ble_eq_true rfl⟩ (Nat.le_of_ble_eq_true rfl) dX1_perform_2) ⟨⟨rfl, rfl⟩, (Nat.le_of_ble_eq_true rfl), (Nat.le_of_ble_eq_true rfl)⟩ fun v1 w2 e3 => ?_
  refine J.if_eq (tgt := 15) hx dX1_perform_5 (by decide) ?_ ?_
  · refine J.iconst (v := (-1)) hx dX1_perform_15 (by decide) ?_
    exact J.iretA hx j_ext.rf trivial rfl (Nat.le_of_ble_eq_true rfl) (Nat.le_of_ble_eq_true rfl) dX1_perform_16
  · refine J.aload_n hx dX1_perform_8 rfl 0 rfl ?_
    refine J.getr (κ' := 6) (κ := 0) (k := 7) hx rfl rfl rfl rfl in_X1 (by decide) (Or.inl q374) a0.1 dX1_perform_9 fun v4 h5 => ?_
    refine J.ifnonnull (tgt := 17) hx dX1_perform_12 (by decide) (fun e7n => ?_) (fun y6 e7 => ?_)
    · subst e7n
      refine J.iconst (v := (-1)) hx dX1_perform_15 (by decide) ?_
      exact J.iretA hx j_ext.rf trivial rfl (Nat.le_of_ble_eq_true rfl) (Nat.le_of_ble_eq_true rfl) dX1_perform_16
    · subst e7
      refine J.aload_n hx dX1_perform_17 rfl 0 rfl ?_
      refine J.getc (κ' := 22) (i' := 0) (κ := 0) (k := 4) hx rfl rfl rfl rfl rfl in_X1 (by decide) (Or.inl q371) a0.2 dX1_perform_18 fun h8 => ?_
      refine J.iload_n hx dX1_perform_21 rfl 1 rfl ?_
      refine J.aald (κ' := 7) (κ := 22) hx rfl rfl (by decide) rfl rfl h8.1 dX1_perform_22 fun v10 h11 => ?_
      refine J.astore_nq (lv' := [(2, va_re (B.1 7) v10), (0, .ref (B.1 0 0)), (1, .int p1)]) hx dX1_perform_23 rfl (by decide) rfl ?_
      refine J.iconst (v := 0) hx dX1_perform_24 (by decide) ?_
      refine J.istore_n (lv' := [(3, .int 0), (2, va_re (B.1 7) v10), (0, .ref (B.1 0 0)), (1, .int p1)]) hx dX1_perform_25 rfl (by decide) (by first | (simp [va_re_cat, jct_i, jct_l, jct_r, jct_n]; done) | (simp [va_re_cat, jct_i, jct_l, jct_r, jct_n]; decide)) ?_
      have hL26 : ∀ (n26 : Nat) (v12 : Int32) (c16 c17 : Nat) (B14 : j_B) (x15 : j_ext B B14) (w13 : j_St), J g x 4 B14 (j_QA g x B rm_X1_perform (fun r _ => jri r) (fun _ _ _ => True)) c16 c17 (f_X1_perform_L26 v10 n26 v12 c16 c17 w13) 26 [(0, .ref (B14.1 0 0)), (2, va_re (B14.1 7) v10), (3, .int v12)] [] w13 := by
        intro n26
        induction n26 with
        | zero =>
          intro v12 c16 c17 B14 x15 w13
          rw [f_X1_perform_L26]
          exact J.nne
        | succ n26 ih =>
          intro v12 c16 c17 B14 x15 w13
          rw [f_X1_perform_L26]
          refine J.iload_n hx dX1_perform_26 rfl 2 rfl ?_
          refine J.aload_nq hx dX1_perform_27 rfl 1 rfl ?_
          refine J.obU fun y18 e19 => ?_
          subst e19
          refine J.geti (κ := 7) (k := 2) hx rfl rfl rfl in_X13 (by decide) (Or.inr ⟨_, j_nl q912 rfl⟩) ((x15.mvq h11) y18 rfl).1 dX1_perform_28 fun v20 => ?_
          refine J.icmp_ge (tgt := 66) hx dX1_perform_31 (by decide) ?_ ?_
          · refine J.iload_n hx dX1_perform_66 rfl 2 rfl ?_
            refine J.ite (fun h21 => ?_) (fun _ => J.nne)
            exact J.iretA hx (j_ext.rf.tr x15) trivial rfl h21.1 h21.2 dX1_perform_67
          · refine J.aload_n hx dX1_perform_34 rfl 0 rfl ?_
            refine J.aload_n hx dX1_perform_35 rfl 1 rfl ?_
            refine J.getc (κ' := 36) (i' := y18) (κ := 7) (k := 0) hx rfl rfl rfl rfl rfl in_X13 (by decide) (Or.inr ⟨_, j_nl q908 rfl⟩) ((x15.mvq h11) y18 rfl).2 dX1_perform_36 fun h22 => ?_
            refine J.iload_n hx dX1_perform_39 rfl 2 rfl ?_
            refine J.iald (κ := 36) hx rfl rfl h22.1 dX1_perform_40 fun v24 => ?_
            refine J.aload_n hx dX1_perform_41 rfl 1 rfl ?_
            refine J.iload_n hx dX1_perform_42 rfl 2 rfl ?_
            refine J.iconst (v := 0) hx dX1_perform_43 (by decide) ?_
            refine J.ite (fun h28 => ?_) (fun _ => J.nne)
            refine J.calli hx (fun r z1 z => j_callV (κ := 7) hx rfl rfl ((x15.mvq h11) y18 rfl).1 (mt_X13_number ((x15.mvq h11) y18 rfl) z) (lw_V q1562 q1563 q1564 q144 q1565) hd_X13_number rfl ⟨Nat.le_of_ble_eq_true rfl, Nat.le_of_ble_eq_true rfl⟩ (Nat.le_of_ble_eq_true rfl) dX1_perform_44) ⟨⟨rfl, rfl⟩, h28.1, h28.2⟩ fun v25 w26 e27 => ?_
            refine J.aload_n hx dX1_perform_47 rfl 1 rfl ?_
            refine J.iload_n hx dX1_perform_48 rfl 2 rfl ?_
            refine J.iconst (v := 1) hx dX1_perform_49 (by decide) ?_
            refine J.ite (fun h32 => ?_) (fun _ => J.nne)
            refine J.calli hx (fun r z1 z => j_callV (κ := 7) hx rfl rfl ((x15.mvq h11) y18 rfl).1 (mt_X13_number ((x15.mvq h11) y18 rfl) z) (lw_V q1562 q1563 q1564 q144 q1565) hd_X13_number rfl ⟨Nat.le_of_ble_eq_true rfl, Nat.le_of_ble_eq_true rfl⟩ (Nat.le_of_ble_eq_true rfl) dX1_perform_50) ⟨⟨rfl, rfl⟩, h32.1, h32.2⟩ fun v29 w30 e31 => ?_
            refine J.ite (fun h36 => ?_) (fun _ => J.nne)
            refine J.callAi hx (fun r z1 z => j_callA_of (j_runV (κ := 0) hx rfl rfl (x15.mv a0).1 (mt_X1_acts (x15.mv a0) z) (lw_V q967 q969 qs14 q120 q970) hd_X1_acts rfl ⟨Nat.le_of_ble_eq_true rfl, Nat.le_of_ble_eq_true rfl⟩ (Nat.le_of_ble_eq_true rfl) dX1_perform_53)) h36 fun v33 w34 B37 e35 x38 x39 => ?_
            refine J.cv (lv' := [(0, .ref (B37.1 0 0)), (2, .ref (B37.1 7 y18)), (3, .int v12)]) (st' := [.int v33]) (by first | rfl | (simp only [x38.ad (x15.mv a0), x38.ad ((x15.mvq h11) y18 rfl)]; done) | (simp only [x38.ad (x15.mv a0), x38.ad ((x15.mvq h11) y18 rfl)]; rfl)) (by first | rfl | (simp only [x38.ad (x15.mv a0), x38.ad ((x15.mvq h11) y18 rfl)]; done) | (simp only [x38.ad (x15.mv a0), x38.ad ((x15.mvq h11) y18 rfl)]; rfl)) ?_
            refine J.iconst (v := (-1)) hx dX1_perform_56 (by decide) ?_
            refine J.icmp_ne (tgt := 66) hx dX1_perform_57 (by decide) ?_ ?_
            · refine J.nmx fun v41 ev41 => ?_
              refine J.iinc (p := 2) (v := v41) (lv' := [(3, .int v41), (0, .ref (B37.1 0 0)), (2, .ref (B37.1 7 y18))]) hx dX1_perform_60 rfl (by rw [ev41]; rfl) (by decide) rfl ?_
              refine J.goto (tgt := 26) hx dX1_perform_63 (by decide) ?_
              exact J.sub [1, 2, 0] rfl (ih v41 (c16 + 4) (c17 + 236) B37 (x15.tr x38) w34)
            · refine J.iload_n hx dX1_perform_66 rfl 2 rfl ?_
              refine J.ite (fun h40 => ?_) (fun _ => J.nne)
              exact J.iretA hx ((j_ext.rf.tr x15).tr x38) trivial rfl h40.1 h40.2 dX1_perform_67
      refine J.sub [2, 1, 0] rfl (hL26 jFU 0 0 0 B j_ext.rf w2)
