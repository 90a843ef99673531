theorem hd_X11_init : yX11_init.cls = RX11 ∧ yX11_init.cls ≠ "java/lang/invoke/MethodHandle" ∧ yX11_init.cls ≠ "java/lang/invoke/VarHandle" ∧ (parseMethodDescriptor yX11_init.desc).map (fun d => d.parameters.length) = some 0 := by decide +kernel
def f_X11_init (i0 : Nat) (w : j_St) : Option (Unit × j_St) := jlt (jnw w 4 (2 * i0 + 2) 0) fun w3 => jcb (f_X7_init (2 * i0 + 2) w3) fun _ w6 => jlt (jsr w6 6 i0 0 (some (2 * i0 + 2))) fun w11 => jlt (jnw w11 34 i0 0) fun w14 => jlt (jsr w14 6 i0 1 (some i0)) fun w16 => jlt (jnw w16 35 i0 0) fun w19 => jlt (jsr w19 6 i0 2 (some i0)) fun w21 => jlt (jsi w21 6 i0 5 1) fun w22 => some ((), w22)
abbrev rm_X11_init : Room := { frames := 2, cells := 4, slots := 66, locals := 40 }
set_option maxRecDepth 100000 in
set_option maxHeartbeats 4000000 in
theorem mt_X11_init {g : j_G} {B : j_B} {i0 : Nat} {w w' : j_St} (a0 : B.2.1 6 i0 ∧ True) (f4 : ¬ B.2.1 4 (2 * i0 + 2)) (f32 : ¬ B.2.1 32 (2 * i0 + 2)) (f34 : ¬ B.2.1 34 i0) (f35 : ¬ B.2.1 35 i0) (n0 : ¬ B.2.2 6 i0) {r : Unit} (h : f_X11_init i0 w = some (r, w')) : j_MA g yX11_init cX11_init 1 none rm_X11_init B [.ref (B.1 6 i0)] w w' ((fun _ _ => none) r) ((fun _ _ B9 => jadd B [(4, (2 * i0 + 2)), (32, (2 * i0 + 2)), (34, i0), (35, i0)] B9) r w') := by
  refine j_metA (rv := (fun _ _ => none)) (PB := (fun _ _ B9 => jadd B [(4, (2 * i0 + 2)), (32, (2 * i0 + 2)), (34, i0), (35, i0)] B9)) (by decide) (Nat.le_of_ble_eq_true rfl) (fun x hx hnm => ?_) h
  unfold f_X11_init
  refine J.sub (lv' := [(0, .ref (B.1 6 i0))]) [0] rfl ?_
  refine J.aload_n hx dX11_init_0 rfl 0 rfl ?_
  refine J.objInit hx q466 q170 q171 ⟨Nat.le_of_ble_eq_true rfl, Nat.le_of_ble_eq_true rfl⟩ (Nat.le_of_ble_eq_true rfl) dX11_init_1 ?_
  refine J.aload_n hx dX11_init_4 rfl 0 rfl ?_
  refine J.fact (P := ¬ B.2.2 4 (2 * i0 + 2)) (fun H hR z => f4 (hR.2.2.2.2.2.2.2.2.1 _ _ z)) fun h1 => ?_
  refine J.fact (P := jcnt w 4 (2 * i0 + 2)) (fun H hR => (jcnt_64 (hR.2.2.2.2.2.2.2.2.2 _ _ a0.1))) fun h2 => ?_
  refine J.new (κ := 4) (i := (2 * i0 + 2)) hx rfl rfl in_X7 tyX7_ok (by decide +kernel) (by decide) f4 h1 h2 q467 q311 q127 ⟨Nat.le_of_ble_eq_true rfl, Nat.le_of_ble_eq_true rfl⟩ dX11_init_5 fun z4 w3 => ?_
  refine J.dup hx dX11_init_8 rfl ?_
  refine J.callAv hx (fun r z1 z => j_callA_of (j_runIN (κ := 4) hx (mt_X7_init jbn_alh (jbn_noK f32 (by decide)) h1 z) (lw_meth q314) (j_nl q468 rfl) q313 q127 rfl hd_X7_init.2 rfl ⟨Nat.le_of_ble_eq_true rfl, Nat.le_of_ble_eq_true rfl⟩ (Nat.le_of_ble_eq_true rfl) dX11_init_9)) ⟨Nat.le_of_ble_eq_true rfl, Nat.le_of_ble_eq_true rfl⟩ fun _ w6 B8 e7 x9 x10 => ?_
  refine J.cv (lv' := [(0, .ref (B8.1 6 i0))]) (st' := [.ref (B8.1 4 (2 * i0 + 2)), .ref (B8.1 6 i0)]) (by first | rfl | (simp only [x9.adh (jbn_oldh a0), x9.adh jbn_alh]; done) | (simp only [x9.adh (jbn_oldh a0), x9.adh jbn_alh]; rfl)) (by first | rfl | (simp only [x9.adh (jbn_oldh a0), x9.adh jbn_alh]; done) | (simp only [x9.adh (jbn_oldh a0), x9.adh jbn_alh]; rfl)) ?_
  refine J.putFr (κ' := 4) (κ := 6) (i := i0) (v := (2 * i0 + 2)) (k := 0) hx hnm rfl rfl rfl rfl in_X11 tyX11_ok nmX11 (by decide) q471 rfl rfl rfl (x9.mvh (jbn_oldh a0)).1 (fun _ => ⟨rfl, rfl⟩) (x9.mvh jbn_alh).1 (x10.nb n0) dX11_init_12 fun w11 => ?_
  refine J.aload_n hx dX11_init_15 rfl 0 rfl ?_
  refine J.bipush (v := 8) hx dX11_init_16 (by decide) ?_
  refine J.fact (P := ¬ B8.2.2 34 i0) (fun H hR z => (x10.no (jbn_noK f34 (by decide)) (by simp)) (hR.2.2.2.2.2.2.2.2.1 _ _ z)) fun h12 => ?_
  refine J.fact (P := jcnt w11 34 i0) (fun H hR => (jcnt_634 (hR.2.2.2.2.2.2.2.2.2 _ _ (x9.mvh (jbn_oldh a0)).1)).1) fun h13 => ?_
  refine J.newq (κ := 34) (i := i0) (m := 0) (n := 8) (C := "java/lang/String") hx ⟨by decide, by decide⟩ rfl (by decide) rfl (by decide) (by decide) rfl (fun _ => ⟨Iff.rfl, Iff.rfl⟩) (by decide) (x10.no (jbn_noK f34 (by decide)) (by simp)) h12 h13 q469 (by simp) (by decide) ⟨Nat.le_of_ble_eq_true rfl, Nat.le_of_ble_eq_true rfl⟩ dX11_init_18 fun z15 w14 => ?_
  refine J.putFr (κ' := 34) (κ := 6) (i := i0) (v := i0) (k := 1) hx hnm rfl rfl rfl rfl in_X11 tyX11_ok nmX11 (by decide) q474 rfl rfl rfl (jbn_oldh (x9.mvh (jbn_oldh a0))).1 (fun _ => ⟨rfl, rfl⟩) jbn_alh.1 (x10.nb n0) dX11_init_21 fun w16 => ?_
  refine J.aload_n hx dX11_init_24 rfl 0 rfl ?_
  refine J.bipush (v := 8) hx dX11_init_25 (by decide) ?_
  refine J.fact (P := ¬ (jbn B8 34 i0 z15).2.2 35 i0) (fun H hR z => (jbn_noK (x10.no (jbn_noK f35 (by decide)) (by simp)) (by decide)) (hR.2.2.2.2.2.2.2.2.1 _ _ z)) fun h17 => ?_
  refine J.fact (P := jcnt w16 35 i0) (fun H hR => (jcnt_634 (hR.2.2.2.2.2.2.2.2.2 _ _ (jbn_oldh (x9.mvh (jbn_oldh a0))).1)).2) fun h18 => ?_
  refine J.newa (κ := 35) (i := i0) (m := 0) (n := 8) (ty := .int) hx ⟨by decide, by decide⟩ rfl rfl (fun _ _ => rfl) (by decide) rfl (by decide) (by decide) rfl (fun _ => ⟨Iff.rfl, Iff.rfl⟩) (by decide) (jbn_noK (x10.no (jbn_noK f35 (by decide)) (by simp)) (by decide)) h17 h18 q273 (by decide) ⟨Nat.le_of_ble_eq_true rfl, Nat.le_of_ble_eq_true rfl⟩ dX11_init_27 fun z20 w19 => ?_
  refine J.putFr (κ' := 35) (κ := 6) (i := i0) (v := i0) (k := 2) hx hnm rfl rfl rfl rfl in_X11 tyX11_ok nmX11 (by decide) q477 rfl rfl rfl (jbn_oldh (jbn_oldh (x9.mvh (jbn_oldh a0)))).1 (fun _ => ⟨rfl, rfl⟩) jbn_alh.1 (x10.nb n0) dX11_init_29 fun w21 => ?_
  refine J.aload_n hx dX11_init_32 rfl 0 rfl ?_
  refine J.iconst (v := 1) hx dX11_init_33 (by decide) ?_
  refine J.puti (κ := 6) (k := 5) hx rfl rfl rfl in_X11 tyX11_ok nmX11 (by decide) (Or.inl q487) rfl rfl (jbn_oldh (jbn_oldh (x9.mvh (jbn_oldh a0)))).1 ⟨rfl, rfl⟩ dX11_init_34 fun w22 => ?_
  exact J.vretA hx ((((j_ext.rf.tr (jbn_ext f4)).tr x9).tr (jbn_ext (x10.no (jbn_noK f34 (by decide)) (by simp)))).tr (jbn_ext (jbn_noK (x10.no (jbn_noK f35 (by decide)) (by simp)) (by decide)))) (jadd.n (jadd.n ((jadd.n jadd.rf).tr x10))) rfl (Nat.le_of_ble_eq_true rfl) (Nat.le_of_ble_eq_true rfl) dX11_init_37
theorem hd_X13_init : yX13_init.cls = RX13 ∧ yX13_init.cls ≠ "java/lang/invoke/MethodHandle" ∧ yX13_init.cls ≠ "java/lang/invoke/VarHandle" ∧ (parseMethodDescriptor yX13_init.desc).map (fun d => d.parameters.length) = some 0 := by decide +kernel
def f_X13_init (i0 : Nat) (w : j_St) : Option (Unit × j_St) := jlt (jnw w 36 i0 0) fun w3 => jlt (jsr w3 7 i0 0 (some i0)) fun w5 => jlt (jnw w5 37 i0 0) fun w8 => jlt (jsr w8 7 i0 1 (some i0)) fun w10 => some ((), w10)
abbrev rm_X13_init : Room := { frames := 1, cells := 2, slots := 36, locals := 20 }
set_option maxRecDepth 100000 in
set_option maxHeartbeats 4000000 in
theorem mt_X13_init {g : j_G} {B : j_B} {i0 : Nat} {w w' : j_St} (a0 : B.2.1 7 i0 ∧ True) (f36 : ¬ B.2.1 36 i0) (f37 : ¬ B.2.1 37 i0) (n0 : ¬ B.2.2 7 i0) {r : Unit} (h : f_X13_init i0 w = some (r, w')) : j_MA g yX13_init cX13_init 1 none rm_X13_init B [.ref (B.1 7 i0)] w w' ((fun _ _ => none) r) ((fun _ _ B9 => jadd B [(36, i0), (37, i0)] B9) r w') := by
  refine j_metA (rv := (fun _ _ => none)) (PB := (fun _ _ B9 => jadd B [(36, i0), (37, i0)] B9)) (by decide) (Nat.le_of_ble_eq_true rfl) (fun x hx hnm => ?_) h
  unfold f_X13_init
  refine J.sub (lv' := [(0, .ref (B.1 7 i0))]) [0] rfl ?_
  refine J.aload_n hx dX13_init_0 rfl 0 rfl ?_
  refine J.objInit hx q905 q170 q171 ⟨Nat.le_of_ble_eq_true rfl, Nat.le_of_ble_eq_true rfl⟩ (Nat.le_of_ble_eq_true rfl) dX13_init_1 ?_
  refine J.aload_n hx dX13_init_4 rfl 0 rfl ?_
  refine J.bipush (v := 12) hx dX13_init_5 (by decide) ?_
  refine J.fact (P := ¬ B.2.2 36 i0) (fun H hR z => f36 (hR.2.2.2.2.2.2.2.2.1 _ _ z)) fun h1 => ?_
  refine J.fact (P := jcnt w 36 i0) (fun H hR => (jcnt_736 (hR.2.2.2.2.2.2.2.2.2 _ _ a0.1)).1) fun h2 => ?_
  refine J.newa (κ := 36) (i := i0) (m := 0) (n := 12) (ty := .int) hx ⟨by decide, by decide⟩ rfl rfl (fun _ _ => rfl) (by decide) rfl (by decide) (by decide) rfl (fun _ => ⟨Iff.rfl, Iff.rfl⟩) (by decide) f36 h1 h2 q273 (by decide) ⟨Nat.le_of_ble_eq_true rfl, Nat.le_of_ble_eq_true rfl⟩ dX13_init_7 fun z4 w3 => ?_
  refine J.putFr (κ' := 36) (κ := 7) (i := i0) (v := i0) (k := 0) hx hnm rfl rfl rfl rfl in_X13 tyX13_ok nmX13 (by decide) q906 rfl rfl rfl (jbn_oldh a0).1 (fun _ => ⟨rfl, rfl⟩) jbn_alh.1 n0 dX13_init_9 fun w5 => ?_
  refine J.aload_n hx dX13_init_12 rfl 0 rfl ?_
  refine J.bipush (v := 24) hx dX13_init_13 (by decide) ?_
  refine J.fact (P := ¬ (jbn B 36 i0 z4).2.2 37 i0) (fun H hR z => (jbn_noK f37 (by decide)) (hR.2.2.2.2.2.2.2.2.1 _ _ z)) fun h6 => ?_
  refine J.fact (P := jcnt w5 37 i0) (fun H hR => (jcnt_736 (hR.2.2.2.2.2.2.2.2.2 _ _ (jbn_oldh a0).1)).2) fun h7 => ?_
  refine J.newa (κ := 37) (i := i0) (m := 0) (n := 24) (ty := .int) hx ⟨by decide, by decide⟩ rfl rfl (fun _ _ => rfl) (by decide) rfl (by decide) (by decide) rfl (fun _ => ⟨Iff.rfl, Iff.rfl⟩) (by decide) (jbn_noK f37 (by decide)) h6 h7 q273 (by decide) ⟨Nat.le_of_ble_eq_true rfl, Nat.le_of_ble_eq_true rfl⟩ dX13_init_15 fun z9 w8 => ?_
  refine J.putFr (κ' := 37) (κ := 7) (i := i0) (v := i0) (k := 1) hx hnm rfl rfl rfl rfl in_X13 tyX13_ok nmX13 (by decide) q909 rfl rfl rfl (jbn_oldh (jbn_oldh a0)).1 (fun _ => ⟨rfl, rfl⟩) jbn_alh.1 n0 dX13_init_17 fun w10 => ?_
  exact J.vretA hx ((j_ext.rf.tr (jbn_ext f36)).tr (jbn_ext (jbn_noK f37 (by decide)))) (jadd.n (jadd.n jadd.rf)) rfl (Nat.le_of_ble_eq_true rfl) (Nat.le_of_ble_eq_true rfl) dX13_init_20
theorem hd_X10_init : yX10_init.cls = RX10 ∧ yX10_init.cls ≠ "java/lang/invoke/MethodHandle" ∧ yX10_init.cls ≠ "java/lang/invoke/VarHandle" ∧ (parseMethodDescriptor yX10_init.desc).map (fun d => d.parameters.length) = some 1 := by decide +kernel
def f_X10_init (i0 : Nat) (w : j_St) : Option (Unit × j_St) := jlt (jsr w 8 i0 1 (some 0)) fun w1 => some ((), w1)
abbrev rm_X10_init : Room := { frames := 1, cells := 0, slots := 0, locals := 20 }
set_option maxRecDepth 100000 in
set_option maxHeartbeats 4000000 in
theorem mt_X10_init {g : j_G} {B : j_B} {i0 : Nat} {w w' : j_St} (a0 : B.2.1 8 i0 ∧ True) (b1 : B.2.1 0 0 ∧ True) (n0 : ¬ B.2.2 8 i0) {r : Unit} (h : f_X10_init i0 w = some (r, w')) : j_MA g yX10_init cX10_init 2 none rm_X10_init B [.ref (B.1 8 i0), .ref (B.1 0 0)] w w' ((fun _ _ => none) r) ((fun _ _ B9 => jadd B [] B9) r w') := by
  refine j_metA (rv := (fun _ _ => none)) (PB := (fun _ _ B9 => jadd B [] B9)) (by decide) (Nat.le_of_ble_eq_true rfl) (fun x hx hnm => ?_) h
  unfold f_X10_init
  refine J.sub (lv' := [(0, .ref (B.1 8 i0)), (1, .ref (B.1 0 0))]) [0, 1] rfl ?_
  refine J.aload_n hx dX10_init_0 rfl 0 rfl ?_
  refine J.aload_n hx dX10_init_1 rfl 1 rfl ?_
  refine J.putFr (κ' := 0) (κ := 8) (i := i0) (v := 0) (k := 1) hx hnm rfl rfl rfl rfl in_X10 tyX10_ok nmX10 (by decide) q451 rfl rfl rfl a0.1 (fun _ => ⟨rfl, rfl⟩) b1.1 n0 dX10_init_2 fun w1 => ?_
  refine J.aload_n hx dX10_init_5 rfl 0 rfl ?_
  refine J.objInit hx q449 q170 q171 ⟨Nat.le_of_ble_eq_true rfl, Nat.le_of_ble_eq_true rfl⟩ (Nat.le_of_ble_eq_true rfl) dX10_init_6 ?_
  exact J.vretA hx j_ext.rf jadd.rf rfl (Nat.le_of_ble_eq_true rfl) (Nat.le_of_ble_eq_true rfl) dX10_init_9
