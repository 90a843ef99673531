theorem hd_X1_init : yX1_init.cls = RX1 ∧ yX1_init.cls ≠ "java/lang/invoke/MethodHandle" ∧ yX1_init.cls ≠ "java/lang/invoke/VarHandle" ∧ (parseMethodDescriptor yX1_init.desc).map (fun d => d.parameters.length) = some 0 := by decide +kernel
def f_X1_init  (w : j_St) : Option (Unit × j_St) := jlt (jnw w 24 0 0) fun w3 => jlt (jnw w3 10 0 0) fun w15 => jcb (f_X2_init 0 0 w15) fun _ w29 => jbd 0 2 fun a45 => jlt (jsr w29 24 0 a45 (some 0)) fun w44 => jlt (jnw w44 10 1 0) fun w48 => jcb (f_X2_init 1 1 w48) fun _ w63 => jbd 1 2 fun a80 => jlt (jsr w63 24 0 a80 (some 1)) fun w79 => jlt (jsr w79 0 0 0 (some 0)) fun w81 => jlt (jnw w81 25 0 0) fun w84 => jlt (jnw w84 11 0 0) fun w99 => jcb (f_X4_init 0 0 w99) fun _ w116 => jbd 0 3 fun a135 => jlt (jsr w116 25 0 a135 (some 0)) fun w134 => jlt (jnw w134 11 1 0) fun w138 => jlt (jm1 w138 13 1) fun w156 => jcb (f_X4_init 1 1 w156) fun _ w177 => jbd 1 3 fun a198 => jlt (jsr w177 25 0 a198 (some 1)) fun w197 => jlt (jnw w197 11 2 0) fun w201 => jcb (f_X4_init 2 2 w201) fun _ w221 => jbd 2 3 fun a243 => jlt (jsr w221 25 0 a243 (some 2)) fun w242 => jlt (jsr w242 0 0 1 (some 0)) fun w244 => jlt (jnw w244 20 0 0) fun w247 => jlt (jsr w247 0 0 2 (some 0)) fun w265 => jlt (jnw w265 22 0 0) fun w268 => jlt (jsr w268 0 0 4 (some 0)) fun w287 => jlt (jnw w287 21 0 0) fun w290 => jlt (jsr w290 0 0 5 (some 0)) fun w310 => jlt (jnw w310 2 0 0) fun w313 => jcb (f_X5_init 0 w313) fun _ w335 => jlt (jsr w335 0 0 10 (some 0)) fun w358 => jlt (jnw w358 2 1 0) fun w361 => jcb (f_X5_init 1 w361) fun _ w384 => jlt (jsr w384 0 0 11 (some 1)) fun w408 => jlt (jnw w408 4 0 0) fun w411 => jcb (f_X7_init 0 w411) fun _ w435 => jlt (jsr w435 0 0 12 (some 0)) fun w460 => if jgn w460 105 0 = 0 then jlt (jbump w460 5) fun w462 => jlt (jnw w462 5 0 0) fun w466 => jcb (f_X8_init 0 w466) fun _ w491 => jlt (jsr w491 0 0 13 (some 0)) fun w517 => if jgn w517 105 0 = 1 then jlt (jbump w517 5) fun w519 => jlt (jnw w519 5 1 0) fun w523 => jcb (f_X8_init 1 w523) fun _ w549 => jlt (jsr w549 0 0 14 (some 1)) fun w576 => if jgn w576 105 0 = 2 then jlt (jbump w576 5) fun w578 => jlt (jnw w578 5 2 0) fun w582 => jcb (f_X8_init 2 w582) fun _ w609 => jlt (jsr w609 0 0 15 (some 2)) fun w637 => if jgn w637 105 0 = 3 then jlt (jbump w637 5) fun w639 => jlt (jnw w639 5 3 0) fun w643 => jcb (f_X8_init 3 w643) fun _ w671 => jlt (jsr w671 0 0 16 (some 3)) fun w700 => jlt (jnw w700 23 0 0) fun w703 => jlt (jsr w703 0 0 17 (some 0)) fun w731 => jlt (jsr w731 0 0 7 none) fun w732 => some ((), w732) else none else none else none else none
abbrev rm_X1_init : Room := { frames := 3, cells := 2000, slots := 30000, locals := 3080 }
set_option maxRecDepth 100000 in
set_option maxHeartbeats 4000000 in
theorem mt_X1_init {g : j_G} {B : j_B}  {w w' : j_St} (a0 : B.2.1 0 0 ∧ True) (f24_0 : ¬ B.2.1 24 0) (f10_0 : ¬ B.2.1 10 0) (f10_1 : ¬ B.2.1 10 1) (f25_0 : ¬ B.2.1 25 0) (f11_0 : ¬ B.2.1 11 0) (f11_1 : ¬ B.2.1 11 1) (f11_2 : ¬ B.2.1 11 2) (f13_1 : ¬ B.2.1 13 1) (f20_0 : ¬ B.2.1 20 0) (f22_0 : ¬ B.2.1 22 0) (f21_0 : ¬ B.2.1 21 0) (f2_0 : ¬ B.2.1 2 0) (f2_1 : ¬ B.2.1 2 1) (f4_0 : ¬ B.2.1 4 0) (f32_0 : ¬ B.2.1 32 0) (f23_0 : ¬ B.2.1 23 0) (f26_0 : ¬ B.2.1 26 0) (f27_0 : ¬ B.2.1 27 0) (f28_0 : ¬ B.2.1 28 0) (f29_0 : ¬ B.2.1 29 0) (f30_0 : ¬ B.2.1 30 0) (f31_0 : ¬ B.2.1 31 0) (f26_1 : ¬ B.2.1 26 1) (f27_1 : ¬ B.2.1 27 1) (f28_1 : ¬ B.2.1 28 1) (f29_1 : ¬ B.2.1 29 1) (f30_1 : ¬ B.2.1 30 1) (f31_1 : ¬ B.2.1 31 1) (f5_0 : ¬ B.2.1 5 0) (f4_1 : ¬ B.2.1 4 1) (f32_1 : ¬ B.2.1 32 1) (f33_0 : ¬ B.2.1 33 0) (f5_1 : ¬ B.2.1 5 1) (f4_3 : ¬ B.2.1 4 3) (f32_3 : ¬ B.2.1 32 3) (f33_1 : ¬ B.2.1 33 1) (f5_2 : ¬ B.2.1 5 2) (f4_5 : ¬ B.2.1 4 5) (f32_5 : ¬ B.2.1 32 5) (f33_2 : ¬ B.2.1 33 2) (f5_3 : ¬ B.2.1 5 3) (f4_7 : ¬ B.2.1 4 7) (f32_7 : ¬ B.2.1 32 7) (f33_3 : ¬ B.2.1 33 3) (n0 : ¬ B.2.2 0 0) (n26 : ∀ i, ¬ B.2.2 26 i) (o12_0 : B.2.1 12 0 ∧ B.1 12 0 = jgM g 112 0) (o12_1 : B.2.1 12 1 ∧ B.1 12 1 = jgM g 112 1) (o13_0 : B.2.1 13 0 ∧ B.1 13 0 = jgM g 113 0) (o13_2 : B.2.1 13 2 ∧ B.1 13 2 = jgM g 113 2) {r : Unit} (h : f_X1_init  w = some (r, w')) : j_MA g yX1_init cX1_init 1 none rm_X1_init B [.ref (B.1 0 0)] w w' ((fun _ _ => none) r) ((fun _ _ B9 => jadd B [(24, 0), (10, 0), (10, 1), (25, 0), (11, 0), (11, 1), (13, 1), (11, 2), (20, 0), (22, 0), (21, 0), (2, 0), (26, 0), (27, 0), (28, 0), (29, 0), (30, 0), (31, 0), (2, 1), (26, 1), (27, 1), (28, 1), (29, 1), (30, 1), (31, 1), (4, 0), (32, 0), (5, 0), (4, 1), (32, 1), (33, 0), (5, 1), (4, 3), (32, 3), (33, 1), (5, 2), (4, 5), (32, 5), (33, 2), (5, 3), (4, 7), (32, 7), (33, 3), (23, 0)] B9) r w') := by
  refine j_metA2 (rv := (fun _ _ => none)) (PB := (fun _ _ B9 => jadd B [(24, 0), (10, 0), (10, 1), (25, 0), (11, 0), (11, 1), (13, 1), (11, 2), (20, 0), (22, 0), (21, 0), (2, 0), (26, 0), (27, 0), (28, 0), (29, 0), (30, 0), (31, 0), (2, 1), (26, 1), (27, 1), (28, 1), (29, 1), (30, 1), (31, 1), (4, 0), (32, 0), (5, 0), (4, 1), (32, 1), (33, 0), (5, 1), (4, 3), (32, 3), (33, 1), (5, 2), (4, 5), (32, 5), (33, 2), (5, 3), (4, 7), (32, 7), (33, 3), (23, 0)] B9)) (by decide) (Nat.le_of_ble_eq_true rfl) (fun x hx hnm hnd => ?_) h
  unfold f_X1_init
  refine J.sub (lv' := [(0, .ref (B.1 0 0))]) [0] rfl ?_
  refine J.aload_n hx dX1_init_0 rfl 0 rfl ?_
  refine J.objInit hx q169 q170 q171 ⟨Nat.le_of_ble_eq_true rfl, Nat.le_of_ble_eq_true rfl⟩ (Nat.le_of_ble_eq_true rfl) dX1_init_1 ?_
  refine J.aload_n hx dX1_init_4 rfl 0 rfl ?_
  refine J.iconst (v := 2) hx dX1_init_5 (by decide) ?_
  refine J.fact (P := ¬ B.2.2 24 0) (fun H hR z => f24_0 (hR.2.2.2.2.2.2.2.2.1 _ _ z)) fun h1 => ?_
  refine J.newq (κ := 24) (i := 0) (m := 0) (n := 2) (C := RX2) hx ⟨by decide, by decide⟩ rfl (by decide) rfl (by decide) (by decide) rfl (j_sort5 rfl rfl) (by decide) f24_0 h1 (by simp [jcnt]) q172 (by simp) (by decide) ⟨Nat.le_of_ble_eq_true rfl, Nat.le_of_ble_eq_true rfl⟩ dX1_init_6 fun z4 w3 => ?_
  refine J.cv (lv' := [(0, .ref ((jbn B 24 0 z4).1 0 0))]) (st' := [.ref ((jbn B 24 0 z4).1 24 0), .ref ((jbn B 24 0 z4).1 0 0)]) rfl rfl ?_
  have h5 : j_ext B (jbn B 24 0 z4) := (j_ext.rf.tr (jbn_ext f24_0))
  have h6 := ((jadd.n jadd.rf) : jadd B _ (jbn B 24 0 z4))
  have h8 : (jbn B 24 0 z4).2.1 0 0 ∧ True := (jbn_oldh a0)
  have h9 : (jbn B 24 0 z4).2.1 24 0 ∧ True := jbn_alh
  have h10 : (jbn B 24 0 z4).2.1 0 0 ∧ True := (jbn_oldh a0)
  have h11 : ¬ (jbn B 24 0 z4).2.2 0 0 := n0
  have h12 : ¬ (jbn B 24 0 z4).2.2 24 0 := h1
  generalize jbn B 24 0 z4 = B7 at h5 h6 h8 h9 h10 h11 h12 ⊢
  refine J.dup hx dX1_init_9 rfl ?_
  refine J.iconst (v := 0) hx dX1_init_10 (by decide) ?_
  refine J.fact (P := ¬ B7.2.2 10 0) (fun H hR z => (h6.no f10_0 (by decide)) (hR.2.2.2.2.2.2.2.2.1 _ _ z)) fun h13 => ?_
  refine J.new (κ := 10) (i := 0) hx rfl rfl in_X2 tyX2_ok (by decide +kernel) (by decide) (h6.no f10_0 (by decide)) h13 (by simp [jcnt]) q172 q174 q121 ⟨Nat.le_of_ble_eq_true rfl, Nat.le_of_ble_eq_true rfl⟩ dX1_init_11 fun z16 w15 => ?_
  refine J.cv (lv' := [(0, .ref ((jbn B7 10 0 z16).1 0 0))]) (st' := [.ref ((jbn B7 10 0 z16).1 10 0), .int 0, .ref ((jbn B7 10 0 z16).1 24 0), .ref ((jbn B7 10 0 z16).1 24 0), .ref ((jbn B7 10 0 z16).1 0 0)]) rfl rfl ?_
  have h17 : j_ext B (jbn B7 10 0 z16) := (h5.tr (jbn_ext (h6.no f10_0 (by decide))))
  have h18 := ((jadd.n h6) : jadd B _ (jbn B7 10 0 z16))
  have h20 : (jbn B7 10 0 z16).2.1 0 0 ∧ True := (jbn_oldh h8)
  have h21 : (jbn B7 10 0 z16).2.1 10 0 ∧ True := jbn_alh
  have h22 : (jbn B7 10 0 z16).2.1 24 0 ∧ True := (jbn_oldh h9)
  have h23 : (jbn B7 10 0 z16).2.1 24 0 ∧ True := (jbn_oldh h9)
  have h24 : (jbn B7 10 0 z16).2.1 0 0 ∧ True := (jbn_oldh h10)
  have h25 : ¬ (jbn B7 10 0 z16).2.2 0 0 := h11
  have h26 : ¬ (jbn B7 10 0 z16).2.2 24 0 := h12
  have h27 : ¬ (jbn B7 10 0 z16).2.2 10 0 := h13
  generalize jbn B7 10 0 z16 = B19 at h17 h18 h20 h21 h22 h23 h24 h25 h26 h27 ⊢
  refine J.dup hx dX1_init_14 rfl ?_
  refine J.indyC (κ := 12) (i := 0) hx hnd (List.mem_of_getElem? (i := 0) rfl) (σ := jsh siteWord_1_1) rfl rfl (h17.one o12_0).2 (Nat.le_of_ble_eq_true rfl) (Nat.le_of_ble_eq_true rfl) dX1_init_15 ?_
  refine J.callAv hx (fun r z1 z => j_callA_of (j_runI (κ := 10) hx (mt_X2_init h21 ⟨(h17.one o12_0).1, trivial⟩ h27 z) (lw_meth q179) q177 q178 q121 rfl hd_X2_init.2 rfl ⟨Nat.le_of_ble_eq_true rfl, Nat.le_of_ble_eq_true rfl⟩ (Nat.le_of_ble_eq_true rfl) dX1_init_20)) ⟨Nat.le_of_ble_eq_true rfl, Nat.le_of_ble_eq_true rfl⟩ fun _ w29 B31 e30 x32 x33 => ?_
  refine J.cv (lv' := [(0, .ref (B31.1 0 0))]) (st' := [.ref (B31.1 10 0), .int 0, .ref (B31.1 24 0), .ref (B31.1 24 0), .ref (B31.1 0 0)]) (by first | rfl | (simp only [x32.adh h20, x32.adh h21, x32.adh h22, x32.adh h23, x32.adh h24]; done) | (simp only [x32.adh h20, x32.adh h21, x32.adh h22, x32.adh h23, x32.adh h24]; rfl)) (by first | rfl | (simp only [x32.adh h20, x32.adh h21, x32.adh h22, x32.adh h23, x32.adh h24]; done) | (simp only [x32.adh h20, x32.adh h21, x32.adh h22, x32.adh h23, x32.adh h24]; rfl)) ?_
  have h34 : j_ext B B31 := (h17.tr x32)
  have h35 := ((h18.tr x33) : jadd B _ B31)
  have h36 : B31.2.1 0 0 ∧ True := (x32.mvh h20)
  have h37 : B31.2.1 10 0 ∧ True := (x32.mvh h21)
  have h38 : B31.2.1 24 0 ∧ True := (x32.mvh h22)
  have h39 : B31.2.1 24 0 ∧ True := (x32.mvh h23)
  have h40 : B31.2.1 0 0 ∧ True := (x32.mvh h24)
  have h41 : ¬ B31.2.2 0 0 := (x33.nb h25)
  have h42 : ¬ B31.2.2 24 0 := (x33.nb h26)
  have h43 : ¬ B31.2.2 10 0 := (x33.nb h27)
  refine J.aastF (κ' := 10) (κ := 24) (i := 0) (v := 0) hx rfl rfl rfl (by decide) rfl rfl rfl rfl rfl h38.1 h37.1 h42 dX1_init_23 fun w44 => ?_
  refine J.dup hx dX1_init_24 rfl ?_
  refine J.iconst (v := 1) hx dX1_init_25 (by decide) ?_
  refine J.fact (P := ¬ B31.2.2 10 1) (fun H hR z => (h35.no f10_1 (by decide)) (hR.2.2.2.2.2.2.2.2.1 _ _ z)) fun h46 => ?_
  refine J.new (κ := 10) (i := 1) hx rfl rfl in_X2 tyX2_ok (by decide +kernel) (by decide) (h35.no f10_1 (by decide)) h46 (by simp [jcnt]) q172 q174 q121 ⟨Nat.le_of_ble_eq_true rfl, Nat.le_of_ble_eq_true rfl⟩ dX1_init_26 fun z49 w48 => ?_
  refine J.cv (lv' := [(0, .ref ((jbn B31 10 1 z49).1 0 0))]) (st' := [.ref ((jbn B31 10 1 z49).1 10 1), .int 1, .ref ((jbn B31 10 1 z49).1 24 0), .ref ((jbn B31 10 1 z49).1 24 0), .ref ((jbn B31 10 1 z49).1 0 0)]) rfl rfl ?_
  have h50 : j_ext B (jbn B31 10 1 z49) := (h34.tr (jbn_ext (h35.no f10_1 (by decide))))
  have h51 := ((jadd.n h35) : jadd B _ (jbn B31 10 1 z49))
  have h53 : (jbn B31 10 1 z49).2.1 0 0 ∧ True := (jbn_oldh h36)
  have h54 : (jbn B31 10 1 z49).2.1 10 1 ∧ True := jbn_alh
  have h55 : (jbn B31 10 1 z49).2.1 24 0 ∧ True := (jbn_oldh h39)
  have h56 : (jbn B31 10 1 z49).2.1 24 0 ∧ True := (jbn_oldh h39)
  have h57 : (jbn B31 10 1 z49).2.1 0 0 ∧ True := (jbn_oldh h40)
  have h58 : ¬ (jbn B31 10 1 z49).2.2 0 0 := h41
  have h59 : ¬ (jbn B31 10 1 z49).2.2 24 0 := h42
  have h60 : ¬ (jbn B31 10 1 z49).2.2 10 0 := h43
  have h61 : ¬ (jbn B31 10 1 z49).2.2 10 1 := h46
  generalize jbn B31 10 1 z49 = B52 at h50 h51 h53 h54 h55 h56 h57 h58 h59 h60 h61 ⊢
  refine J.dup hx dX1_init_29 rfl ?_
  refine J.indyC (κ := 12) (i := 1) hx hnd (List.mem_of_getElem? (i := 1) rfl) (σ := jsh siteWord_1_2) rfl rfl (h50.one o12_1).2 (Nat.le_of_ble_eq_true rfl) (Nat.le_of_ble_eq_true rfl) dX1_init_30 ?_
  refine J.callAv hx (fun r z1 z => j_callA_of (j_runI (κ := 10) hx (mt_X2_init h54 ⟨(h50.one o12_1).1, trivial⟩ h61 z) (lw_meth q179) q177 q178 q121 rfl hd_X2_init.2 rfl ⟨Nat.le_of_ble_eq_true rfl, Nat.le_of_ble_eq_true rfl⟩ (Nat.le_of_ble_eq_true rfl) dX1_init_35)) ⟨Nat.le_of_ble_eq_true rfl, Nat.le_of_ble_eq_true rfl⟩ fun _ w63 B65 e64 x66 x67 => ?_
  refine J.cv (lv' := [(0, .ref (B65.1 0 0))]) (st' := [.ref (B65.1 10 1), .int 1, .ref (B65.1 24 0), .ref (B65.1 24 0), .ref (B65.1 0 0)]) (by first | rfl | (simp only [x66.adh h53, x66.adh h54, x66.adh h55, x66.adh h56, x66.adh h57]; done) | (simp only [x66.adh h53, x66.adh h54, x66.adh h55, x66.adh h56, x66.adh h57]; rfl)) (by first | rfl | (simp only [x66.adh h53, x66.adh h54, x66.adh h55, x66.adh h56, x66.adh h57]; done) | (simp only [x66.adh h53, x66.adh h54, x66.adh h55, x66.adh h56, x66.adh h57]; rfl)) ?_
  have h68 : j_ext B B65 := (h50.tr x66)
  have h69 := ((h51.tr x67) : jadd B _ B65)
  have h70 : B65.2.1 0 0 ∧ True := (x66.mvh h53)
  have h71 : B65.2.1 10 1 ∧ True := (x66.mvh h54)
  have h72 : B65.2.1 24 0 ∧ True := (x66.mvh h55)
  have h73 : B65.2.1 24 0 ∧ True := (x66.mvh h56)
  have h74 : B65.2.1 0 0 ∧ True := (x66.mvh h57)
  have h75 : ¬ B65.2.2 0 0 := (x67.nb h58)
  have h76 : ¬ B65.2.2 24 0 := (x67.nb h59)
  have h77 : ¬ B65.2.2 10 0 := (x67.nb h60)
  have h78 : ¬ B65.2.2 10 1 := (x67.nb h61)
  refine J.aastF (κ' := 10) (κ := 24) (i := 0) (v := 1) hx rfl rfl rfl (by decide) rfl rfl rfl rfl rfl h72.1 h71.1 h76 dX1_init_38 fun w79 => ?_
  refine J.putFr (κ' := 24) (κ := 0) (i := 0) (v := 0) (k := 0) hx hnm rfl rfl rfl rfl in_X1 tyX1_ok nmX1 (by decide) q363 rfl rfl rfl h74.1 (fun _ => ⟨rfl, rfl⟩) h73.1 h75 dX1_init_39 fun w81 => ?_
  refine J.aload_n hx dX1_init_42 rfl 0 rfl ?_
  refine J.iconst (v := 3) hx dX1_init_43 (by decide) ?_
  refine J.fact (P := ¬ B65.2.2 25 0) (fun H hR z => (h69.no f25_0 (by decide)) (hR.2.2.2.2.2.2.2.2.1 _ _ z)) fun h82 => ?_
  refine J.newq (κ := 25) (i := 0) (m := 0) (n := 3) (C := RX4) hx ⟨by decide, by decide⟩ rfl (by decide) rfl (by decide) (by decide) rfl (j_sort5 rfl rfl) (by decide) (h69.no f25_0 (by decide)) h82 (by simp [jcnt]) q197 (by simp) (by decide) ⟨Nat.le_of_ble_eq_true rfl, Nat.le_of_ble_eq_true rfl⟩ dX1_init_44 fun z85 w84 => ?_
  refine J.cv (lv' := [(0, .ref ((jbn B65 25 0 z85).1 0 0))]) (st' := [.ref ((jbn B65 25 0 z85).1 25 0), .ref ((jbn B65 25 0 z85).1 0 0)]) rfl rfl ?_
  have h86 : j_ext B (jbn B65 25 0 z85) := (h68.tr (jbn_ext (h69.no f25_0 (by decide))))
  have h87 := ((jadd.n h69) : jadd B _ (jbn B65 25 0 z85))
  have h89 : (jbn B65 25 0 z85).2.1 0 0 ∧ True := (jbn_oldh h70)
  have h90 : (jbn B65 25 0 z85).2.1 25 0 ∧ True := jbn_alh
  have h91 : (jbn B65 25 0 z85).2.1 0 0 ∧ True := (jbn_oldh h70)
  have h92 : ¬ (jbn B65 25 0 z85).2.2 0 0 := h75
  have h93 : ¬ (jbn B65 25 0 z85).2.2 24 0 := h76
  have h94 : ¬ (jbn B65 25 0 z85).2.2 10 0 := h77
  have h95 : ¬ (jbn B65 25 0 z85).2.2 10 1 := h78
  have h96 : ¬ (jbn B65 25 0 z85).2.2 25 0 := h82
  generalize jbn B65 25 0 z85 = B88 at h86 h87 h89 h90 h91 h92 h93 h94 h95 h96 ⊢
  refine J.dup hx dX1_init_47 rfl ?_
  refine J.iconst (v := 0) hx dX1_init_48 (by decide) ?_
  refine J.fact (P := ¬ B88.2.2 11 0) (fun H hR z => (h87.no f11_0 (by decide)) (hR.2.2.2.2.2.2.2.2.1 _ _ z)) fun h97 => ?_
  refine J.new (κ := 11) (i := 0) hx rfl rfl in_X4 tyX4_ok (by decide +kernel) (by decide) (h87.no f11_0 (by decide)) h97 (by simp [jcnt]) q197 q199 q124 ⟨Nat.le_of_ble_eq_true rfl, Nat.le_of_ble_eq_true rfl⟩ dX1_init_49 fun z100 w99 => ?_
  refine J.cv (lv' := [(0, .ref ((jbn B88 11 0 z100).1 0 0))]) (st' := [.ref ((jbn B88 11 0 z100).1 11 0), .int 0, .ref ((jbn B88 11 0 z100).1 25 0), .ref ((jbn B88 11 0 z100).1 25 0), .ref ((jbn B88 11 0 z100).1 0 0)]) rfl rfl ?_
  have h101 : j_ext B (jbn B88 11 0 z100) := (h86.tr (jbn_ext (h87.no f11_0 (by decide))))
  have h102 := ((jadd.n h87) : jadd B _ (jbn B88 11 0 z100))
  have h104 : (jbn B88 11 0 z100).2.1 0 0 ∧ True := (jbn_oldh h89)
  have h105 : (jbn B88 11 0 z100).2.1 11 0 ∧ True := jbn_alh
  have h106 : (jbn B88 11 0 z100).2.1 25 0 ∧ True := (jbn_oldh h90)
  have h107 : (jbn B88 11 0 z100).2.1 25 0 ∧ True := (jbn_oldh h90)
  have h108 : (jbn B88 11 0 z100).2.1 0 0 ∧ True := (jbn_oldh h91)
  have h109 : ¬ (jbn B88 11 0 z100).2.2 0 0 := h92
  have h110 : ¬ (jbn B88 11 0 z100).2.2 24 0 := h93
  have h111 : ¬ (jbn B88 11 0 z100).2.2 10 0 := h94
  have h112 : ¬ (jbn B88 11 0 z100).2.2 10 1 := h95
  have h113 : ¬ (jbn B88 11 0 z100).2.2 25 0 := h96
  have h114 : ¬ (jbn B88 11 0 z100).2.2 11 0 := h97
  generalize jbn B88 11 0 z100 = B103 at h101 h102 h104 h105 h106 h107 h108 h109 h110 h111 h112 h113 h114 ⊢
  refine J.dup hx dX1_init_52 rfl ?_
  refine J.indyC (κ := 13) (i := 0) hx hnd (List.mem_of_getElem? (i := 2) rfl) (σ := jsh siteWord_1_3) rfl rfl (h101.one o13_0).2 (Nat.le_of_ble_eq_true rfl) (Nat.le_of_ble_eq_true rfl) dX1_init_53 ?_
  refine J.callAv hx (fun r z1 z => j_callA_of (j_runI (κ := 11) hx (mt_X4_init h105 ⟨(h101.one o13_0).1, trivial⟩ h114 z) (lw_meth q205) q203 q204 q124 rfl hd_X4_init.2 rfl ⟨Nat.le_of_ble_eq_true rfl, Nat.le_of_ble_eq_true rfl⟩ (Nat.le_of_ble_eq_true rfl) dX1_init_58)) ⟨Nat.le_of_ble_eq_true rfl, Nat.le_of_ble_eq_true rfl⟩ fun _ w116 B118 e117 x119 x120 => ?_
  refine J.cv (lv' := [(0, .ref (B118.1 0 0))]) (st' := [.ref (B118.1 11 0), .int 0, .ref (B118.1 25 0), .ref (B118.1 25 0), .ref (B118.1 0 0)]) (by first | rfl | (simp only [x119.adh h104, x119.adh h105, x119.adh h106, x119.adh h107, x119.adh h108]; done) | (simp only [x119.adh h104, x119.adh h105, x119.adh h106, x119.adh h107, x119.adh h108]; rfl)) (by first | rfl | (simp only [x119.adh h104, x119.adh h105, x119.adh h106, x119.adh h107, x119.adh h108]; done) | (simp only [x119.adh h104, x119.adh h105, x119.adh h106, x119.adh h107, x119.adh h108]; rfl)) ?_
  have h121 : j_ext B B118 := (h101.tr x119)
  have h122 := ((h102.tr x120) : jadd B _ B118)
  have h123 : B118.2.1 0 0 ∧ True := (x119.mvh h104)
  have h124 : B118.2.1 11 0 ∧ True := (x119.mvh h105)
  have h125 : B118.2.1 25 0 ∧ True := (x119.mvh h106)
  have h126 : B118.2.1 25 0 ∧ True := (x119.mvh h107)
  have h127 : B118.2.1 0 0 ∧ True := (x119.mvh h108)
  have h128 : ¬ B118.2.2 0 0 := (x120.nb h109)
  have h129 : ¬ B118.2.2 24 0 := (x120.nb h110)
  have h130 : ¬ B118.2.2 10 0 := (x120.nb h111)
  have h131 : ¬ B118.2.2 10 1 := (x120.nb h112)
  have h132 : ¬ B118.2.2 25 0 := (x120.nb h113)
  have h133 : ¬ B118.2.2 11 0 := (x120.nb h114)
  refine J.aastF (κ' := 11) (κ := 25) (i := 0) (v := 0) hx rfl rfl rfl (by decide) rfl rfl rfl rfl rfl h125.1 h124.1 h132 dX1_init_61 fun w134 => ?_
  refine J.dup hx dX1_init_62 rfl ?_
  refine J.iconst (v := 1) hx dX1_init_63 (by decide) ?_
  refine J.fact (P := ¬ B118.2.2 11 1) (fun H hR z => (h122.no f11_1 (by decide)) (hR.2.2.2.2.2.2.2.2.1 _ _ z)) fun h136 => ?_
  refine J.new (κ := 11) (i := 1) hx rfl rfl in_X4 tyX4_ok (by decide +kernel) (by decide) (h122.no f11_1 (by decide)) h136 (by simp [jcnt]) q197 q199 q124 ⟨Nat.le_of_ble_eq_true rfl, Nat.le_of_ble_eq_true rfl⟩ dX1_init_64 fun z139 w138 => ?_
  refine J.cv (lv' := [(0, .ref ((jbn B118 11 1 z139).1 0 0))]) (st' := [.ref ((jbn B118 11 1 z139).1 11 1), .int 1, .ref ((jbn B118 11 1 z139).1 25 0), .ref ((jbn B118 11 1 z139).1 25 0), .ref ((jbn B118 11 1 z139).1 0 0)]) rfl rfl ?_
  have h140 : j_ext B (jbn B118 11 1 z139) := (h121.tr (jbn_ext (h122.no f11_1 (by decide))))
  have h141 := ((jadd.n h122) : jadd B _ (jbn B118 11 1 z139))
  have h143 : (jbn B118 11 1 z139).2.1 0 0 ∧ True := (jbn_oldh h123)
  have h144 : (jbn B118 11 1 z139).2.1 11 1 ∧ True := jbn_alh
  have h145 : (jbn B118 11 1 z139).2.1 25 0 ∧ True := (jbn_oldh h126)
  have h146 : (jbn B118 11 1 z139).2.1 25 0 ∧ True := (jbn_oldh h126)
  have h147 : (jbn B118 11 1 z139).2.1 0 0 ∧ True := (jbn_oldh h127)
  have h148 : ¬ (jbn B118 11 1 z139).2.2 0 0 := h128
  have h149 : ¬ (jbn B118 11 1 z139).2.2 24 0 := h129
  have h150 : ¬ (jbn B118 11 1 z139).2.2 10 0 := h130
  have h151 : ¬ (jbn B118 11 1 z139).2.2 10 1 := h131
  have h152 : ¬ (jbn B118 11 1 z139).2.2 25 0 := h132
  have h153 : ¬ (jbn B118 11 1 z139).2.2 11 0 := h133
  have h154 : ¬ (jbn B118 11 1 z139).2.2 11 1 := h136
  generalize jbn B118 11 1 z139 = B142 at h140 h141 h143 h144 h145 h146 h147 h148 h149 h150 h151 h152 h153 h154 ⊢
  refine J.dup hx dX1_init_67 rfl ?_
  refine J.aload_n hx dX1_init_68 rfl 0 rfl ?_
  refine J.fact (P := ¬ B142.2.2 13 1) (fun H hR z => (h141.no f13_1 (by decide)) (hR.2.2.2.2.2.2.2.2.1 _ _ z)) fun h155 => ?_
  refine J.indyL hx hnd rfl (List.mem_of_getElem? (i := 3) rfl) (σ := jsh siteWord_1_4) rfl rfl (by decide +kernel) h143.1 (h141.no f13_1 (by decide)) h155 (Nat.le_of_ble_eq_true rfl) ⟨Nat.le_of_ble_eq_true rfl, Nat.le_of_ble_eq_true rfl⟩ (Nat.le_of_ble_eq_true rfl) dX1_init_69 fun z157 w156 => ?_
  refine J.cv (lv' := [(0, .ref ((jbn B142 13 1 z157).1 0 0))]) (st' := [.ref ((jbn B142 13 1 z157).1 13 1), .ref ((jbn B142 13 1 z157).1 11 1), .ref ((jbn B142 13 1 z157).1 11 1), .int 1, .ref ((jbn B142 13 1 z157).1 25 0), .ref ((jbn B142 13 1 z157).1 25 0), .ref ((jbn B142 13 1 z157).1 0 0)]) rfl rfl ?_
  have h158 : j_ext B (jbn B142 13 1 z157) := (h140.tr (jbn_ext (h141.no f13_1 (by decide))))
  have h159 := ((jadd.n h141) : jadd B _ (jbn B142 13 1 z157))
  have h161 : (jbn B142 13 1 z157).2.1 0 0 ∧ True := (jbn_oldh h143)
  have h162 : (jbn B142 13 1 z157).2.1 13 1 ∧ True := jbn_alh
  have h163 : (jbn B142 13 1 z157).2.1 11 1 ∧ True := (jbn_oldh h144)
  have h164 : (jbn B142 13 1 z157).2.1 11 1 ∧ True := (jbn_oldh h144)
  have h165 : (jbn B142 13 1 z157).2.1 25 0 ∧ True := (jbn_oldh h145)
  have h166 : (jbn B142 13 1 z157).2.1 25 0 ∧ True := (jbn_oldh h146)
  have h167 : (jbn B142 13 1 z157).2.1 0 0 ∧ True := (jbn_oldh h147)
  have h168 : ¬ (jbn B142 13 1 z157).2.2 0 0 := h148
  have h169 : ¬ (jbn B142 13 1 z157).2.2 24 0 := h149
  have h170 : ¬ (jbn B142 13 1 z157).2.2 10 0 := h150
  have h171 : ¬ (jbn B142 13 1 z157).2.2 10 1 := h151
  have h172 : ¬ (jbn B142 13 1 z157).2.2 25 0 := h152
  have h173 : ¬ (jbn B142 13 1 z157).2.2 11 0 := h153
  have h174 : ¬ (jbn B142 13 1 z157).2.2 11 1 := h154
  have h175 : ¬ (jbn B142 13 1 z157).2.2 13 1 := h155
  generalize jbn B142 13 1 z157 = B160 at h158 h159 h161 h162 h163 h164 h165 h166 h167 h168 h169 h170 h171 h172 h173 h174 h175 ⊢
  refine J.callAv hx (fun r z1 z => j_callA_of (j_runI (κ := 11) hx (mt_X4_init h163 h162 h174 z) (lw_meth q205) q203 q204 q124 rfl hd_X4_init.2 rfl ⟨Nat.le_of_ble_eq_true rfl, Nat.le_of_ble_eq_true rfl⟩ (Nat.le_of_ble_eq_true rfl) dX1_init_74)) ⟨Nat.le_of_ble_eq_true rfl, Nat.le_of_ble_eq_true rfl⟩ fun _ w177 B179 e178 x180 x181 => ?_
  refine J.cv (lv' := [(0, .ref (B179.1 0 0))]) (st' := [.ref (B179.1 11 1), .int 1, .ref (B179.1 25 0), .ref (B179.1 25 0), .ref (B179.1 0 0)]) (by first | rfl | (simp only [x180.adh h161, x180.adh h164, x180.adh h165, x180.adh h166, x180.adh h167]; done) | (simp only [x180.adh h161, x180.adh h164, x180.adh h165, x180.adh h166, x180.adh h167]; rfl)) (by first | rfl | (simp only [x180.adh h161, x180.adh h164, x180.adh h165, x180.adh h166, x180.adh h167]; done) | (simp only [x180.adh h161, x180.adh h164, x180.adh h165, x180.adh h166, x180.adh h167]; rfl)) ?_
  have h182 : j_ext B B179 := (h158.tr x180)
  have h183 := ((h159.tr x181) : jadd B _ B179)
  have h184 : B179.2.1 0 0 ∧ True := (x180.mvh h161)
  have h185 : B179.2.1 11 1 ∧ True := (x180.mvh h164)
  have h186 : B179.2.1 25 0 ∧ True := (x180.mvh h165)
  have h187 : B179.2.1 25 0 ∧ True := (x180.mvh h166)
  have h188 : B179.2.1 0 0 ∧ True := (x180.mvh h167)
  have h189 : ¬ B179.2.2 0 0 := (x181.nb h168)
  have h190 : ¬ B179.2.2 24 0 := (x181.nb h169)
  have h191 : ¬ B179.2.2 10 0 := (x181.nb h170)
  have h192 : ¬ B179.2.2 10 1 := (x181.nb h171)
  have h193 : ¬ B179.2.2 25 0 := (x181.nb h172)
  have h194 : ¬ B179.2.2 11 0 := (x181.nb h173)
  have h195 : ¬ B179.2.2 11 1 := (x181.nb h174)
  have h196 : ¬ B179.2.2 13 1 := (x181.nb h175)
  refine J.aastF (κ' := 11) (κ := 25) (i := 0) (v := 1) hx rfl rfl rfl (by decide) rfl rfl rfl rfl rfl h186.1 h185.1 h193 dX1_init_77 fun w197 => ?_
  refine J.dup hx dX1_init_78 rfl ?_
  refine J.iconst (v := 2) hx dX1_init_79 (by decide) ?_
  refine J.fact (P := ¬ B179.2.2 11 2) (fun H hR z => (h183.no f11_2 (by decide)) (hR.2.2.2.2.2.2.2.2.1 _ _ z)) fun h199 => ?_
  refine J.new (κ := 11) (i := 2) hx rfl rfl in_X4 tyX4_ok (by decide +kernel) (by decide) (h183.no f11_2 (by decide)) h199 (by simp [jcnt]) q197 q199 q124 ⟨Nat.le_of_ble_eq_true rfl, Nat.le_of_ble_eq_true rfl⟩ dX1_init_80 fun z202 w201 => ?_
  refine J.cv (lv' := [(0, .ref ((jbn B179 11 2 z202).1 0 0))]) (st' := [.ref ((jbn B179 11 2 z202).1 11 2), .int 2, .ref ((jbn B179 11 2 z202).1 25 0), .ref ((jbn B179 11 2 z202).1 25 0), .ref ((jbn B179 11 2 z202).1 0 0)]) rfl rfl ?_
  have h203 : j_ext B (jbn B179 11 2 z202) := (h182.tr (jbn_ext (h183.no f11_2 (by decide))))
  have h204 := ((jadd.n h183) : jadd B _ (jbn B179 11 2 z202))
  have h206 : (jbn B179 11 2 z202).2.1 0 0 ∧ True := (jbn_oldh h184)
  have h207 : (jbn B179 11 2 z202).2.1 11 2 ∧ True := jbn_alh
  have h208 : (jbn B179 11 2 z202).2.1 25 0 ∧ True := (jbn_oldh h187)
  have h209 : (jbn B179 11 2 z202).2.1 25 0 ∧ True := (jbn_oldh h187)
  have h210 : (jbn B179 11 2 z202).2.1 0 0 ∧ True := (jbn_oldh h188)
  have h211 : ¬ (jbn B179 11 2 z202).2.2 0 0 := h189
  have h212 : ¬ (jbn B179 11 2 z202).2.2 24 0 := h190
  have h213 : ¬ (jbn B179 11 2 z202).2.2 10 0 := h191
  have h214 : ¬ (jbn B179 11 2 z202).2.2 10 1 := h192
  have h215 : ¬ (jbn B179 11 2 z202).2.2 25 0 := h193
  have h216 : ¬ (jbn B179 11 2 z202).2.2 11 0 := h194
  have h217 : ¬ (jbn B179 11 2 z202).2.2 11 1 := h195
  have h218 : ¬ (jbn B179 11 2 z202).2.2 13 1 := h196
  have h219 : ¬ (jbn B179 11 2 z202).2.2 11 2 := h199
  generalize jbn B179 11 2 z202 = B205 at h203 h204 h206 h207 h208 h209 h210 h211 h212 h213 h214 h215 h216 h217 h218 h219 ⊢
  refine J.dup hx dX1_init_83 rfl ?_
  refine J.indyC (κ := 13) (i := 2) hx hnd (List.mem_of_getElem? (i := 4) rfl) (σ := jsh siteWord_1_5) rfl rfl (h203.one o13_2).2 (Nat.le_of_ble_eq_true rfl) (Nat.le_of_ble_eq_true rfl) dX1_init_84 ?_
  refine J.callAv hx (fun r z1 z => j_callA_of (j_runI (κ := 11) hx (mt_X4_init h207 ⟨(h203.one o13_2).1, trivial⟩ h219 z) (lw_meth q205) q203 q204 q124 rfl hd_X4_init.2 rfl ⟨Nat.le_of_ble_eq_true rfl, Nat.le_of_ble_eq_true rfl⟩ (Nat.le_of_ble_eq_true rfl) dX1_init_89)) ⟨Nat.le_of_ble_eq_true rfl, Nat.le_of_ble_eq_true rfl⟩ fun _ w221 B223 e222 x224 x225 => ?_
  refine J.cv (lv' := [(0, .ref (B223.1 0 0))]) (st' := [.ref (B223.1 11 2), .int 2, .ref (B223.1 25 0), .ref (B223.1 25 0), .ref (B223.1 0 0)]) (by first | rfl | (simp only [x224.adh h206, x224.adh h207, x224.adh h208, x224.adh h209, x224.adh h210]; done) | (simp only [x224.adh h206, x224.adh h207, x224.adh h208, x224.adh h209, x224.adh h210]; rfl)) (by first | rfl | (simp only [x224.adh h206, x224.adh h207, x224.adh h208, x224.adh h209, x224.adh h210]; done) | (simp only [x224.adh h206, x224.adh h207, x224.adh h208, x224.adh h209, x224.adh h210]; rfl)) ?_
  have h226 : j_ext B B223 := (h203.tr x224)
  have h227 := ((h204.tr x225) : jadd B _ B223)
  have h228 : B223.2.1 0 0 ∧ True := (x224.mvh h206)
  have h229 : B223.2.1 11 2 ∧ True := (x224.mvh h207)
  have h230 : B223.2.1 25 0 ∧ True := (x224.mvh h208)
  have h231 : B223.2.1 25 0 ∧ True := (x224.mvh h209)
  have h232 : B223.2.1 0 0 ∧ True := (x224.mvh h210)
  have h233 : ¬ B223.2.2 0 0 := (x225.nb h211)
  have h234 : ¬ B223.2.2 24 0 := (x225.nb h212)
  have h235 : ¬ B223.2.2 10 0 := (x225.nb h213)
  have h236 : ¬ B223.2.2 10 1 := (x225.nb h214)
  have h237 : ¬ B223.2.2 25 0 := (x225.nb h215)
  have h238 : ¬ B223.2.2 11 0 := (x225.nb h216)
  have h239 : ¬ B223.2.2 11 1 := (x225.nb h217)
  have h240 : ¬ B223.2.2 13 1 := (x225.nb h218)
  have h241 : ¬ B223.2.2 11 2 := (x225.nb h219)
  refine J.aastF (κ' := 11) (κ := 25) (i := 0) (v := 2) hx rfl rfl rfl (by decide) rfl rfl rfl rfl rfl h230.1 h229.1 h237 dX1_init_92 fun w242 => ?_
  refine J.putFr (κ' := 25) (κ := 0) (i := 0) (v := 0) (k := 1) hx hnm rfl rfl rfl rfl in_X1 tyX1_ok nmX1 (by decide) q365 rfl rfl rfl h232.1 (fun _ => ⟨rfl, rfl⟩) h231.1 h233 dX1_init_93 fun w244 => ?_
  refine J.aload_n hx dX1_init_96 rfl 0 rfl ?_
  refine J.sipush (v := 400) hx dX1_init_97 (by decide) ?_
  refine J.fact (P := ¬ B223.2.2 20 0) (fun H hR z => (h227.no f20_0 (by decide)) (hR.2.2.2.2.2.2.2.2.1 _ _ z)) fun h245 => ?_
  refine J.newa (κ := 20) (i := 0) (m := 0) (n := 400) (ty := .byte) hx ⟨by decide, by decide⟩ rfl rfl (fun _ _ => rfl) (by decide) rfl (by decide) (by decide) rfl (fun _ => ⟨Iff.rfl, Iff.rfl⟩) (by decide) (h227.no f20_0 (by decide)) h245 (by simp [jcnt]) q272 (by decide) ⟨Nat.le_of_ble_eq_true rfl, Nat.le_of_ble_eq_true rfl⟩ dX1_init_100 fun z248 w247 => ?_
  refine J.cv (lv' := [(0, .ref ((jbn B223 20 0 z248).1 0 0))]) (st' := [.ref ((jbn B223 20 0 z248).1 20 0), .ref ((jbn B223 20 0 z248).1 0 0)]) rfl rfl ?_
  have h249 : j_ext B (jbn B223 20 0 z248) := (h226.tr (jbn_ext (h227.no f20_0 (by decide))))
  have h250 := ((jadd.n h227) : jadd B _ (jbn B223 20 0 z248))
  have h252 : (jbn B223 20 0 z248).2.1 0 0 ∧ True := (jbn_oldh h228)
  have h253 : (jbn B223 20 0 z248).2.1 20 0 ∧ True := jbn_alh
  have h254 : (jbn B223 20 0 z248).2.1 0 0 ∧ True := (jbn_oldh h228)
  have h255 : ¬ (jbn B223 20 0 z248).2.2 0 0 := h233
  have h256 : ¬ (jbn B223 20 0 z248).2.2 24 0 := h234
  have h257 : ¬ (jbn B223 20 0 z248).2.2 10 0 := h235
  have h258 : ¬ (jbn B223 20 0 z248).2.2 10 1 := h236
  have h259 : ¬ (jbn B223 20 0 z248).2.2 25 0 := h237
  have h260 : ¬ (jbn B223 20 0 z248).2.2 11 0 := h238
  have h261 : ¬ (jbn B223 20 0 z248).2.2 11 1 := h239
  have h262 : ¬ (jbn B223 20 0 z248).2.2 13 1 := h240
  have h263 : ¬ (jbn B223 20 0 z248).2.2 11 2 := h241
  have h264 : ¬ (jbn B223 20 0 z248).2.2 20 0 := h245
  generalize jbn B223 20 0 z248 = B251 at h249 h250 h252 h253 h254 h255 h256 h257 h258 h259 h260 h261 h262 h263 h264 ⊢
  refine J.putFr (κ' := 20) (κ := 0) (i := 0) (v := 0) (k := 2) hx hnm rfl rfl rfl rfl in_X1 tyX1_ok nmX1 (by decide) q368 rfl rfl rfl h254.1 (fun _ => ⟨rfl, rfl⟩) h253.1 h255 dX1_init_102 fun w265 => ?_
  refine J.aload_n hx dX1_init_105 rfl 0 rfl ?_
  refine J.iconst (v := 4) hx dX1_init_106 (by decide) ?_
  refine J.fact (P := ¬ B251.2.2 22 0) (fun H hR z => (h250.no f22_0 (by decide)) (hR.2.2.2.2.2.2.2.2.1 _ _ z)) fun h266 => ?_
  refine J.newq (κ := 22) (i := 0) (m := 0) (n := 4) (C := RX13) hx ⟨by decide, by decide⟩ rfl (by decide) rfl (by decide) (by decide) rfl (fun _ => ⟨Iff.rfl, Iff.rfl⟩) (by decide) (h250.no f22_0 (by decide)) h266 (by simp [jcnt]) q221 (by simp) (by decide) ⟨Nat.le_of_ble_eq_true rfl, Nat.le_of_ble_eq_true rfl⟩ dX1_init_107 fun z269 w268 => ?_
  refine J.cv (lv' := [(0, .ref ((jbn B251 22 0 z269).1 0 0))]) (st' := [.ref ((jbn B251 22 0 z269).1 22 0), .ref ((jbn B251 22 0 z269).1 0 0)]) rfl rfl ?_
  have h270 : j_ext B (jbn B251 22 0 z269) := (h249.tr (jbn_ext (h250.no f22_0 (by decide))))
  have h271 := ((jadd.n h250) : jadd B _ (jbn B251 22 0 z269))
  have h273 : (jbn B251 22 0 z269).2.1 0 0 ∧ True := (jbn_oldh h252)
  have h274 : (jbn B251 22 0 z269).2.1 22 0 ∧ True := jbn_alh
  have h275 : (jbn B251 22 0 z269).2.1 0 0 ∧ True := (jbn_oldh h252)
  have h276 : ¬ (jbn B251 22 0 z269).2.2 0 0 := h255
  have h277 : ¬ (jbn B251 22 0 z269).2.2 24 0 := h256
  have h278 : ¬ (jbn B251 22 0 z269).2.2 10 0 := h257
  have h279 : ¬ (jbn B251 22 0 z269).2.2 10 1 := h258
  have h280 : ¬ (jbn B251 22 0 z269).2.2 25 0 := h259
  have h281 : ¬ (jbn B251 22 0 z269).2.2 11 0 := h260
  have h282 : ¬ (jbn B251 22 0 z269).2.2 11 1 := h261
  have h283 : ¬ (jbn B251 22 0 z269).2.2 13 1 := h262
  have h284 : ¬ (jbn B251 22 0 z269).2.2 11 2 := h263
  have h285 : ¬ (jbn B251 22 0 z269).2.2 20 0 := h264
  have h286 : ¬ (jbn B251 22 0 z269).2.2 22 0 := h266
  generalize jbn B251 22 0 z269 = B272 at h270 h271 h273 h274 h275 h276 h277 h278 h279 h280 h281 h282 h283 h284 h285 h286 ⊢
  refine J.putFr (κ' := 22) (κ := 0) (i := 0) (v := 0) (k := 4) hx hnm rfl rfl rfl rfl in_X1 tyX1_ok nmX1 (by decide) q371 rfl rfl rfl h275.1 (fun _ => ⟨rfl, rfl⟩) h274.1 h276 dX1_init_110 fun w287 => ?_
  refine J.aload_n hx dX1_init_113 rfl 0 rfl ?_
  refine J.iconst (v := 2) hx dX1_init_114 (by decide) ?_
  refine J.fact (P := ¬ B272.2.2 21 0) (fun H hR z => (h271.no f21_0 (by decide)) (hR.2.2.2.2.2.2.2.2.1 _ _ z)) fun h288 => ?_
  refine J.newa (κ := 21) (i := 0) (m := 0) (n := 2) (ty := .int) hx ⟨by decide, by decide⟩ rfl rfl (fun _ _ => rfl) (by decide) rfl (by decide) (by decide) rfl (fun _ => ⟨Iff.rfl, Iff.rfl⟩) (by decide) (h271.no f21_0 (by decide)) h288 (by simp [jcnt]) q273 (by decide) ⟨Nat.le_of_ble_eq_true rfl, Nat.le_of_ble_eq_true rfl⟩ dX1_init_115 fun z291 w290 => ?_
  refine J.cv (lv' := [(0, .ref ((jbn B272 21 0 z291).1 0 0))]) (st' := [.ref ((jbn B272 21 0 z291).1 21 0), .ref ((jbn B272 21 0 z291).1 0 0)]) rfl rfl ?_
  have h292 : j_ext B (jbn B272 21 0 z291) := (h270.tr (jbn_ext (h271.no f21_0 (by decide))))
  have h293 := ((jadd.n h271) : jadd B _ (jbn B272 21 0 z291))
  have h295 : (jbn B272 21 0 z291).2.1 0 0 ∧ True := (jbn_oldh h273)
  have h296 : (jbn B272 21 0 z291).2.1 21 0 ∧ True := jbn_alh
  have h297 : (jbn B272 21 0 z291).2.1 0 0 ∧ True := (jbn_oldh h273)
  have h298 : ¬ (jbn B272 21 0 z291).2.2 0 0 := h276
  have h299 : ¬ (jbn B272 21 0 z291).2.2 24 0 := h277
  have h300 : ¬ (jbn B272 21 0 z291).2.2 10 0 := h278
  have h301 : ¬ (jbn B272 21 0 z291).2.2 10 1 := h279
  have h302 : ¬ (jbn B272 21 0 z291).2.2 25 0 := h280
  have h303 : ¬ (jbn B272 21 0 z291).2.2 11 0 := h281
  have h304 : ¬ (jbn B272 21 0 z291).2.2 11 1 := h282
  have h305 : ¬ (jbn B272 21 0 z291).2.2 13 1 := h283
  have h306 : ¬ (jbn B272 21 0 z291).2.2 11 2 := h284
  have h307 : ¬ (jbn B272 21 0 z291).2.2 20 0 := h285
  have h308 : ¬ (jbn B272 21 0 z291).2.2 22 0 := h286
  have h309 : ¬ (jbn B272 21 0 z291).2.2 21 0 := h288
  generalize jbn B272 21 0 z291 = B294 at h292 h293 h295 h296 h297 h298 h299 h300 h301 h302 h303 h304 h305 h306 h307 h308 h309 ⊢
  refine J.putFr (κ' := 21) (κ := 0) (i := 0) (v := 0) (k := 5) hx hnm rfl rfl rfl rfl in_X1 tyX1_ok nmX1 (by decide) q372 rfl rfl rfl h297.1 (fun _ => ⟨rfl, rfl⟩) h296.1 h298 dX1_init_117 fun w310 => ?_
  refine J.aload_n hx dX1_init_120 rfl 0 rfl ?_
  refine J.fact (P := ¬ B294.2.2 2 0) (fun H hR z => (h293.no f2_0 (by decide)) (hR.2.2.2.2.2.2.2.2.1 _ _ z)) fun h311 => ?_
  refine J.new (κ := 2) (i := 0) hx rfl rfl in_X5 tyX5_ok (by decide +kernel) (by decide) (h293.no f2_0 (by decide)) h311 (by simp [jcnt]) q223 q224 q125 ⟨Nat.le_of_ble_eq_true rfl, Nat.le_of_ble_eq_true rfl⟩ dX1_init_121 fun z314 w313 => ?_
  refine J.cv (lv' := [(0, .ref ((jbn B294 2 0 z314).1 0 0))]) (st' := [.ref ((jbn B294 2 0 z314).1 2 0), .ref ((jbn B294 2 0 z314).1 0 0)]) rfl rfl ?_
  have h315 : j_ext B (jbn B294 2 0 z314) := (h292.tr (jbn_ext (h293.no f2_0 (by decide))))
  have h316 := ((jadd.n h293) : jadd B _ (jbn B294 2 0 z314))
  have h318 : (jbn B294 2 0 z314).2.1 0 0 ∧ True := (jbn_oldh h295)
  have h319 : (jbn B294 2 0 z314).2.1 2 0 ∧ True := jbn_alh
  have h320 : (jbn B294 2 0 z314).2.1 0 0 ∧ True := (jbn_oldh h295)
  have h321 : ¬ (jbn B294 2 0 z314).2.2 0 0 := h298
  have h322 : ¬ (jbn B294 2 0 z314).2.2 24 0 := h299
  have h323 : ¬ (jbn B294 2 0 z314).2.2 10 0 := h300
  have h324 : ¬ (jbn B294 2 0 z314).2.2 10 1 := h301
  have h325 : ¬ (jbn B294 2 0 z314).2.2 25 0 := h302
  have h326 : ¬ (jbn B294 2 0 z314).2.2 11 0 := h303
  have h327 : ¬ (jbn B294 2 0 z314).2.2 11 1 := h304
  have h328 : ¬ (jbn B294 2 0 z314).2.2 13 1 := h305
  have h329 : ¬ (jbn B294 2 0 z314).2.2 11 2 := h306
  have h330 : ¬ (jbn B294 2 0 z314).2.2 20 0 := h307
  have h331 : ¬ (jbn B294 2 0 z314).2.2 22 0 := h308
  have h332 : ¬ (jbn B294 2 0 z314).2.2 21 0 := h309
  have h333 : ¬ (jbn B294 2 0 z314).2.2 2 0 := h311
  generalize jbn B294 2 0 z314 = B317 at h315 h316 h318 h319 h320 h321 h322 h323 h324 h325 h326 h327 h328 h329 h330 h331 h332 h333 ⊢
  refine J.dup hx dX1_init_124 rfl ?_
  refine J.callAv hx (fun r z1 z => j_callA_of (j_runI (κ := 2) hx (mt_X5_init h319 (h316.no f26_0 (by decide)) (h316.no f27_0 (by decide)) (h316.no f28_0 (by decide)) (h316.no f29_0 (by decide)) (h316.no f30_0 (by decide)) (h316.no f31_0 (by decide)) h333 (fun i => h316.nb (n26 i)) z) (lw_meth q227) q225 q226 q125 rfl hd_X5_init.2 rfl ⟨Nat.le_of_ble_eq_true rfl, Nat.le_of_ble_eq_true rfl⟩ (Nat.le_of_ble_eq_true rfl) dX1_init_125)) ⟨Nat.le_of_ble_eq_true rfl, Nat.le_of_ble_eq_true rfl⟩ fun _ w335 B337 e336 x338 x339 => ?_
  refine J.cv (lv' := [(0, .ref (B337.1 0 0))]) (st' := [.ref (B337.1 2 0), .ref (B337.1 0 0)]) (by first | rfl | (simp only [x338.adh h318, x338.adh h319, x338.adh h320]; done) | (simp only [x338.adh h318, x338.adh h319, x338.adh h320]; rfl)) (by first | rfl | (simp only [x338.adh h318, x338.adh h319, x338.adh h320]; done) | (simp only [x338.adh h318, x338.adh h319, x338.adh h320]; rfl)) ?_
  have h340 : j_ext B B337 := (h315.tr x338)
  have h341 := ((h316.tr x339) : jadd B _ B337)
  have h342 : B337.2.1 0 0 ∧ True := (x338.mvh h318)
  have h343 : B337.2.1 2 0 ∧ True := (x338.mvh h319)
  have h344 : B337.2.1 0 0 ∧ True := (x338.mvh h320)
  have h345 : ¬ B337.2.2 0 0 := (x339.nb h321)
  have h346 : ¬ B337.2.2 24 0 := (x339.nb h322)
  have h347 : ¬ B337.2.2 10 0 := (x339.nb h323)
  have h348 : ¬ B337.2.2 10 1 := (x339.nb h324)
  have h349 : ¬ B337.2.2 25 0 := (x339.nb h325)
  have h350 : ¬ B337.2.2 11 0 := (x339.nb h326)
  have h351 : ¬ B337.2.2 11 1 := (x339.nb h327)
  have h352 : ¬ B337.2.2 13 1 := (x339.nb h328)
  have h353 : ¬ B337.2.2 11 2 := (x339.nb h329)
  have h354 : ¬ B337.2.2 20 0 := (x339.nb h330)
  have h355 : ¬ B337.2.2 22 0 := (x339.nb h331)
  have h356 : ¬ B337.2.2 21 0 := (x339.nb h332)
  have h357 : ¬ B337.2.2 2 0 := (x339.nb h333)
  refine J.putFr (κ' := 2) (κ := 0) (i := 0) (v := 0) (k := 10) hx hnm rfl rfl rfl rfl in_X1 tyX1_ok nmX1 (by decide) q378 rfl rfl rfl h344.1 (fun _ => ⟨rfl, rfl⟩) h343.1 h345 dX1_init_128 fun w358 => ?_
  refine J.aload_n hx dX1_init_131 rfl 0 rfl ?_
  refine J.fact (P := ¬ B337.2.2 2 1) (fun H hR z => (h341.no f2_1 (by decide)) (hR.2.2.2.2.2.2.2.2.1 _ _ z)) fun h359 => ?_
  refine J.new (κ := 2) (i := 1) hx rfl rfl in_X5 tyX5_ok (by decide +kernel) (by decide) (h341.no f2_1 (by decide)) h359 (by simp [jcnt]) q223 q224 q125 ⟨Nat.le_of_ble_eq_true rfl, Nat.le_of_ble_eq_true rfl⟩ dX1_init_132 fun z362 w361 => ?_
  refine J.cv (lv' := [(0, .ref ((jbn B337 2 1 z362).1 0 0))]) (st' := [.ref ((jbn B337 2 1 z362).1 2 1), .ref ((jbn B337 2 1 z362).1 0 0)]) rfl rfl ?_
  have h363 : j_ext B (jbn B337 2 1 z362) := (h340.tr (jbn_ext (h341.no f2_1 (by decide))))
  have h364 := ((jadd.n h341) : jadd B _ (jbn B337 2 1 z362))
  have h366 : (jbn B337 2 1 z362).2.1 0 0 ∧ True := (jbn_oldh h342)
  have h367 : (jbn B337 2 1 z362).2.1 2 1 ∧ True := jbn_alh
  have h368 : (jbn B337 2 1 z362).2.1 0 0 ∧ True := (jbn_oldh h342)
  have h369 : ¬ (jbn B337 2 1 z362).2.2 0 0 := h345
  have h370 : ¬ (jbn B337 2 1 z362).2.2 24 0 := h346
  have h371 : ¬ (jbn B337 2 1 z362).2.2 10 0 := h347
  have h372 : ¬ (jbn B337 2 1 z362).2.2 10 1 := h348
  have h373 : ¬ (jbn B337 2 1 z362).2.2 25 0 := h349
  have h374 : ¬ (jbn B337 2 1 z362).2.2 11 0 := h350
  have h375 : ¬ (jbn B337 2 1 z362).2.2 11 1 := h351
  have h376 : ¬ (jbn B337 2 1 z362).2.2 13 1 := h352
  have h377 : ¬ (jbn B337 2 1 z362).2.2 11 2 := h353
  have h378 : ¬ (jbn B337 2 1 z362).2.2 20 0 := h354
  have h379 : ¬ (jbn B337 2 1 z362).2.2 22 0 := h355
  have h380 : ¬ (jbn B337 2 1 z362).2.2 21 0 := h356
  have h381 : ¬ (jbn B337 2 1 z362).2.2 2 0 := h357
  have h382 : ¬ (jbn B337 2 1 z362).2.2 2 1 := h359
  generalize jbn B337 2 1 z362 = B365 at h363 h364 h366 h367 h368 h369 h370 h371 h372 h373 h374 h375 h376 h377 h378 h379 h380 h381 h382 ⊢
  refine J.dup hx dX1_init_135 rfl ?_
  refine J.callAv hx (fun r z1 z => j_callA_of (j_runI (κ := 2) hx (mt_X5_init h367 (h364.no f26_1 (by decide)) (h364.no f27_1 (by decide)) (h364.no f28_1 (by decide)) (h364.no f29_1 (by decide)) (h364.no f30_1 (by decide)) (h364.no f31_1 (by decide)) h382 (fun i => h364.nb (n26 i)) z) (lw_meth q227) q225 q226 q125 rfl hd_X5_init.2 rfl ⟨Nat.le_of_ble_eq_true rfl, Nat.le_of_ble_eq_true rfl⟩ (Nat.le_of_ble_eq_true rfl) dX1_init_136)) ⟨Nat.le_of_ble_eq_true rfl, Nat.le_of_ble_eq_true rfl⟩ fun _ w384 B386 e385 x387 x388 => ?_
  refine J.cv (lv' := [(0, .ref (B386.1 0 0))]) (st' := [.ref (B386.1 2 1), .ref (B386.1 0 0)]) (by first | rfl | (simp only [x387.adh h366, x387.adh h367, x387.adh h368]; done) | (simp only [x387.adh h366, x387.adh h367, x387.adh h368]; rfl)) (by first | rfl | (simp only [x387.adh h366, x387.adh h367, x387.adh h368]; done) | (simp only [x387.adh h366, x387.adh h367, x387.adh h368]; rfl)) ?_
  have h389 : j_ext B B386 := (h363.tr x387)
  have h390 := ((h364.tr x388) : jadd B _ B386)
  have h391 : B386.2.1 0 0 ∧ True := (x387.mvh h366)
  have h392 : B386.2.1 2 1 ∧ True := (x387.mvh h367)
  have h393 : B386.2.1 0 0 ∧ True := (x387.mvh h368)
  have h394 : ¬ B386.2.2 0 0 := (x388.nb h369)
  have h395 : ¬ B386.2.2 24 0 := (x388.nb h370)
  have h396 : ¬ B386.2.2 10 0 := (x388.nb h371)
  have h397 : ¬ B386.2.2 10 1 := (x388.nb h372)
  have h398 : ¬ B386.2.2 25 0 := (x388.nb h373)
  have h399 : ¬ B386.2.2 11 0 := (x388.nb h374)
  have h400 : ¬ B386.2.2 11 1 := (x388.nb h375)
  have h401 : ¬ B386.2.2 13 1 := (x388.nb h376)
  have h402 : ¬ B386.2.2 11 2 := (x388.nb h377)
  have h403 : ¬ B386.2.2 20 0 := (x388.nb h378)
  have h404 : ¬ B386.2.2 22 0 := (x388.nb h379)
  have h405 : ¬ B386.2.2 21 0 := (x388.nb h380)
  have h406 : ¬ B386.2.2 2 0 := (x388.nb h381)
  have h407 : ¬ B386.2.2 2 1 := (x388.nb h382)
  refine J.putFr (κ' := 2) (κ := 0) (i := 0) (v := 1) (k := 11) hx hnm rfl rfl rfl rfl in_X1 tyX1_ok nmX1 (by decide) q379 rfl rfl rfl h393.1 (fun _ => ⟨rfl, rfl⟩) h392.1 h394 dX1_init_139 fun w408 => ?_
  refine J.aload_n hx dX1_init_142 rfl 0 rfl ?_
  refine J.fact (P := ¬ B386.2.2 4 0) (fun H hR z => (h390.no f4_0 (by decide)) (hR.2.2.2.2.2.2.2.2.1 _ _ z)) fun h409 => ?_
  refine J.new (κ := 4) (i := 0) hx rfl rfl in_X7 tyX7_ok (by decide +kernel) (by decide) (h390.no f4_0 (by decide)) h409 (by simp [jcnt]) q310 q311 q127 ⟨Nat.le_of_ble_eq_true rfl, Nat.le_of_ble_eq_true rfl⟩ dX1_init_143 fun z412 w411 => ?_
  refine J.cv (lv' := [(0, .ref ((jbn B386 4 0 z412).1 0 0))]) (st' := [.ref ((jbn B386 4 0 z412).1 4 0), .ref ((jbn B386 4 0 z412).1 0 0)]) rfl rfl ?_
  have h413 : j_ext B (jbn B386 4 0 z412) := (h389.tr (jbn_ext (h390.no f4_0 (by decide))))
  have h414 := ((jadd.n h390) : jadd B _ (jbn B386 4 0 z412))
  have h416 : (jbn B386 4 0 z412).2.1 0 0 ∧ True := (jbn_oldh h391)
  have h417 : (jbn B386 4 0 z412).2.1 4 0 ∧ True := jbn_alh
  have h418 : (jbn B386 4 0 z412).2.1 0 0 ∧ True := (jbn_oldh h391)
  have h419 : ¬ (jbn B386 4 0 z412).2.2 0 0 := h394
  have h420 : ¬ (jbn B386 4 0 z412).2.2 24 0 := h395
  have h421 : ¬ (jbn B386 4 0 z412).2.2 10 0 := h396
  have h422 : ¬ (jbn B386 4 0 z412).2.2 10 1 := h397
  have h423 : ¬ (jbn B386 4 0 z412).2.2 25 0 := h398
  have h424 : ¬ (jbn B386 4 0 z412).2.2 11 0 := h399
  have h425 : ¬ (jbn B386 4 0 z412).2.2 11 1 := h400
  have h426 : ¬ (jbn B386 4 0 z412).2.2 13 1 := h401
  have h427 : ¬ (jbn B386 4 0 z412).2.2 11 2 := h402
  have h428 : ¬ (jbn B386 4 0 z412).2.2 20 0 := h403
  have h429 : ¬ (jbn B386 4 0 z412).2.2 22 0 := h404
  have h430 : ¬ (jbn B386 4 0 z412).2.2 21 0 := h405
  have h431 : ¬ (jbn B386 4 0 z412).2.2 2 0 := h406
  have h432 : ¬ (jbn B386 4 0 z412).2.2 2 1 := h407
  have h433 : ¬ (jbn B386 4 0 z412).2.2 4 0 := h409
  generalize jbn B386 4 0 z412 = B415 at h413 h414 h416 h417 h418 h419 h420 h421 h422 h423 h424 h425 h426 h427 h428 h429 h430 h431 h432 h433 ⊢
  refine J.dup hx dX1_init_146 rfl ?_
  refine J.callAv hx (fun r z1 z => j_callA_of (j_runIN (κ := 4) hx (mt_X7_init h417 (h414.no f32_0 (by decide)) h433 z) (lw_meth q314) (j_nl q312 rfl) q313 q127 rfl hd_X7_init.2 rfl ⟨Nat.le_of_ble_eq_true rfl, Nat.le_of_ble_eq_true rfl⟩ (Nat.le_of_ble_eq_true rfl) dX1_init_147)) ⟨Nat.le_of_ble_eq_true rfl, Nat.le_of_ble_eq_true rfl⟩ fun _ w435 B437 e436 x438 x439 => ?_
  refine J.cv (lv' := [(0, .ref (B437.1 0 0))]) (st' := [.ref (B437.1 4 0), .ref (B437.1 0 0)]) (by first | rfl | (simp only [x438.adh h416, x438.adh h417, x438.adh h418]; done) | (simp only [x438.adh h416, x438.adh h417, x438.adh h418]; rfl)) (by first | rfl | (simp only [x438.adh h416, x438.adh h417, x438.adh h418]; done) | (simp only [x438.adh h416, x438.adh h417, x438.adh h418]; rfl)) ?_
  have h440 : j_ext B B437 := (h413.tr x438)
  have h441 := ((h414.tr x439) : jadd B _ B437)
  have h442 : B437.2.1 0 0 ∧ True := (x438.mvh h416)
  have h443 : B437.2.1 4 0 ∧ True := (x438.mvh h417)
  have h444 : B437.2.1 0 0 ∧ True := (x438.mvh h418)
  have h445 : ¬ B437.2.2 0 0 := (x439.nb h419)
  have h446 : ¬ B437.2.2 24 0 := (x439.nb h420)
  have h447 : ¬ B437.2.2 10 0 := (x439.nb h421)
  have h448 : ¬ B437.2.2 10 1 := (x439.nb h422)
  have h449 : ¬ B437.2.2 25 0 := (x439.nb h423)
  have h450 : ¬ B437.2.2 11 0 := (x439.nb h424)
  have h451 : ¬ B437.2.2 11 1 := (x439.nb h425)
  have h452 : ¬ B437.2.2 13 1 := (x439.nb h426)
  have h453 : ¬ B437.2.2 11 2 := (x439.nb h427)
  have h454 : ¬ B437.2.2 20 0 := (x439.nb h428)
  have h455 : ¬ B437.2.2 22 0 := (x439.nb h429)
  have h456 : ¬ B437.2.2 21 0 := (x439.nb h430)
  have h457 : ¬ B437.2.2 2 0 := (x439.nb h431)
  have h458 : ¬ B437.2.2 2 1 := (x439.nb h432)
  have h459 : ¬ B437.2.2 4 0 := (x439.nb h433)
  refine J.putFr (κ' := 4) (κ := 0) (i := 0) (v := 0) (k := 12) hx hnm rfl rfl rfl rfl in_X1 tyX1_ok nmX1 (by decide) q381 rfl rfl rfl h444.1 (fun _ => ⟨rfl, rfl⟩) h443.1 h445 dX1_init_150 fun w460 => ?_
  refine J.aload_n hx dX1_init_153 rfl 0 rfl ?_
  refine J.ite (fun h461 => ?_) (fun _ => J.nne)
  refine J.bumpe fun w462 e463 => ?_
  refine J.fact (P := ¬ B437.2.2 5 0) (fun H hR z => (h441.no f5_0 (by decide)) (hR.2.2.2.2.2.2.2.2.1 _ _ z)) fun h464 => ?_
  refine J.new (κ := 5) (i := 0) hx rfl rfl in_X8 tyX8_ok (by decide +kernel) (by decide) (h441.no f5_0 (by decide)) h464 (by rw [e463]; simp [jcnt, jbump, jgn] at h461 ⊢ <;> omega) q330 q331 q128 ⟨Nat.le_of_ble_eq_true rfl, Nat.le_of_ble_eq_true rfl⟩ dX1_init_154 fun z467 w466 => ?_
  refine J.cv (lv' := [(0, .ref ((jbn B437 5 0 z467).1 0 0))]) (st' := [.ref ((jbn B437 5 0 z467).1 5 0), .ref ((jbn B437 5 0 z467).1 0 0)]) rfl rfl ?_
  have h468 : j_ext B (jbn B437 5 0 z467) := (h440.tr (jbn_ext (h441.no f5_0 (by decide))))
  have h469 := ((jadd.n h441) : jadd B _ (jbn B437 5 0 z467))
  have h471 : (jbn B437 5 0 z467).2.1 0 0 ∧ True := (jbn_oldh h442)
  have h472 : (jbn B437 5 0 z467).2.1 5 0 ∧ True := jbn_alh
  have h473 : (jbn B437 5 0 z467).2.1 0 0 ∧ True := (jbn_oldh h442)
  have h474 : ¬ (jbn B437 5 0 z467).2.2 0 0 := h445
  have h475 : ¬ (jbn B437 5 0 z467).2.2 24 0 := h446
  have h476 : ¬ (jbn B437 5 0 z467).2.2 10 0 := h447
  have h477 : ¬ (jbn B437 5 0 z467).2.2 10 1 := h448
  have h478 : ¬ (jbn B437 5 0 z467).2.2 25 0 := h449
  have h479 : ¬ (jbn B437 5 0 z467).2.2 11 0 := h450
  have h480 : ¬ (jbn B437 5 0 z467).2.2 11 1 := h451
  have h481 : ¬ (jbn B437 5 0 z467).2.2 13 1 := h452
  have h482 : ¬ (jbn B437 5 0 z467).2.2 11 2 := h453
  have h483 : ¬ (jbn B437 5 0 z467).2.2 20 0 := h454
  have h484 : ¬ (jbn B437 5 0 z467).2.2 22 0 := h455
  have h485 : ¬ (jbn B437 5 0 z467).2.2 21 0 := h456
  have h486 : ¬ (jbn B437 5 0 z467).2.2 2 0 := h457
  have h487 : ¬ (jbn B437 5 0 z467).2.2 2 1 := h458
  have h488 : ¬ (jbn B437 5 0 z467).2.2 4 0 := h459
  have h489 : ¬ (jbn B437 5 0 z467).2.2 5 0 := h464
  generalize jbn B437 5 0 z467 = B470 at h468 h469 h471 h472 h473 h474 h475 h476 h477 h478 h479 h480 h481 h482 h483 h484 h485 h486 h487 h488 h489 ⊢
  refine J.dup hx dX1_init_157 rfl ?_
  refine J.aload_n hx dX1_init_158 rfl 0 rfl ?_
  refine J.callAv hx (fun r z1 z => j_callA_of (j_runIN (κ := 5) hx (mt_X8_init h472 h471 (h469.no f4_1 (by decide)) (h469.no f32_1 (by decide)) (h469.no f33_0 (by decide)) h489 z) (lw_meth q334) (j_nl q332 rfl) q333 q128 rfl hd_X8_init.2 rfl ⟨Nat.le_of_ble_eq_true rfl, Nat.le_of_ble_eq_true rfl⟩ (Nat.le_of_ble_eq_true rfl) dX1_init_159)) ⟨Nat.le_of_ble_eq_true rfl, Nat.le_of_ble_eq_true rfl⟩ fun _ w491 B493 e492 x494 x495 => ?_
  refine J.cv (lv' := [(0, .ref (B493.1 0 0))]) (st' := [.ref (B493.1 5 0), .ref (B493.1 0 0)]) (by first | rfl | (simp only [x494.adh h471, x494.adh h472, x494.adh h473]; done) | (simp only [x494.adh h471, x494.adh h472, x494.adh h473]; rfl)) (by first | rfl | (simp only [x494.adh h471, x494.adh h472, x494.adh h473]; done) | (simp only [x494.adh h471, x494.adh h472, x494.adh h473]; rfl)) ?_
  have h496 : j_ext B B493 := (h468.tr x494)
  have h497 := ((h469.tr x495) : jadd B _ B493)
  have h498 : B493.2.1 0 0 ∧ True := (x494.mvh h471)
  have h499 : B493.2.1 5 0 ∧ True := (x494.mvh h472)
  have h500 : B493.2.1 0 0 ∧ True := (x494.mvh h473)
  have h501 : ¬ B493.2.2 0 0 := (x495.nb h474)
  have h502 : ¬ B493.2.2 24 0 := (x495.nb h475)
  have h503 : ¬ B493.2.2 10 0 := (x495.nb h476)
  have h504 : ¬ B493.2.2 10 1 := (x495.nb h477)
  have h505 : ¬ B493.2.2 25 0 := (x495.nb h478)
  have h506 : ¬ B493.2.2 11 0 := (x495.nb h479)
  have h507 : ¬ B493.2.2 11 1 := (x495.nb h480)
  have h508 : ¬ B493.2.2 13 1 := (x495.nb h481)
  have h509 : ¬ B493.2.2 11 2 := (x495.nb h482)
  have h510 : ¬ B493.2.2 20 0 := (x495.nb h483)
  have h511 : ¬ B493.2.2 22 0 := (x495.nb h484)
  have h512 : ¬ B493.2.2 21 0 := (x495.nb h485)
  have h513 : ¬ B493.2.2 2 0 := (x495.nb h486)
  have h514 : ¬ B493.2.2 2 1 := (x495.nb h487)
  have h515 : ¬ B493.2.2 4 0 := (x495.nb h488)
  have h516 : ¬ B493.2.2 5 0 := (x495.nb h489)
  refine J.putFr (κ' := 5) (κ := 0) (i := 0) (v := 0) (k := 13) hx hnm rfl rfl rfl rfl in_X1 tyX1_ok nmX1 (by decide) q382 rfl rfl rfl h500.1 (fun _ => ⟨rfl, rfl⟩) h499.1 h501 dX1_init_162 fun w517 => ?_
  refine J.aload_n hx dX1_init_165 rfl 0 rfl ?_
  refine J.ite (fun h518 => ?_) (fun _ => J.nne)
  refine J.bumpe fun w519 e520 => ?_
  refine J.fact (P := ¬ B493.2.2 5 1) (fun H hR z => (h497.no f5_1 (by decide)) (hR.2.2.2.2.2.2.2.2.1 _ _ z)) fun h521 => ?_
  refine J.new (κ := 5) (i := 1) hx rfl rfl in_X8 tyX8_ok (by decide +kernel) (by decide) (h497.no f5_1 (by decide)) h521 (by rw [e520]; simp [jcnt, jbump, jgn] at h518 ⊢ <;> omega) q330 q331 q128 ⟨Nat.le_of_ble_eq_true rfl, Nat.le_of_ble_eq_true rfl⟩ dX1_init_166 fun z524 w523 => ?_
  refine J.cv (lv' := [(0, .ref ((jbn B493 5 1 z524).1 0 0))]) (st' := [.ref ((jbn B493 5 1 z524).1 5 1), .ref ((jbn B493 5 1 z524).1 0 0)]) rfl rfl ?_
  have h525 : j_ext B (jbn B493 5 1 z524) := (h496.tr (jbn_ext (h497.no f5_1 (by decide))))
  have h526 := ((jadd.n h497) : jadd B _ (jbn B493 5 1 z524))
  have h528 : (jbn B493 5 1 z524).2.1 0 0 ∧ True := (jbn_oldh h498)
  have h529 : (jbn B493 5 1 z524).2.1 5 1 ∧ True := jbn_alh
  have h530 : (jbn B493 5 1 z524).2.1 0 0 ∧ True := (jbn_oldh h498)
  have h531 : ¬ (jbn B493 5 1 z524).2.2 0 0 := h501
  have h532 : ¬ (jbn B493 5 1 z524).2.2 24 0 := h502
  have h533 : ¬ (jbn B493 5 1 z524).2.2 10 0 := h503
  have h534 : ¬ (jbn B493 5 1 z524).2.2 10 1 := h504
  have h535 : ¬ (jbn B493 5 1 z524).2.2 25 0 := h505
  have h536 : ¬ (jbn B493 5 1 z524).2.2 11 0 := h506
  have h537 : ¬ (jbn B493 5 1 z524).2.2 11 1 := h507
  have h538 : ¬ (jbn B493 5 1 z524).2.2 13 1 := h508
  have h539 : ¬ (jbn B493 5 1 z524).2.2 11 2 := h509
  have h540 : ¬ (jbn B493 5 1 z524).2.2 20 0 := h510
  have h541 : ¬ (jbn B493 5 1 z524).2.2 22 0 := h511
  have h542 : ¬ (jbn B493 5 1 z524).2.2 21 0 := h512
  have h543 : ¬ (jbn B493 5 1 z524).2.2 2 0 := h513
  have h544 : ¬ (jbn B493 5 1 z524).2.2 2 1 := h514
  have h545 : ¬ (jbn B493 5 1 z524).2.2 4 0 := h515
  have h546 : ¬ (jbn B493 5 1 z524).2.2 5 0 := h516
  have h547 : ¬ (jbn B493 5 1 z524).2.2 5 1 := h521
  generalize jbn B493 5 1 z524 = B527 at h525 h526 h528 h529 h530 h531 h532 h533 h534 h535 h536 h537 h538 h539 h540 h541 h542 h543 h544 h545 h546 h547 ⊢
  refine J.dup hx dX1_init_169 rfl ?_
  refine J.aload_n hx dX1_init_170 rfl 0 rfl ?_
  refine J.callAv hx (fun r z1 z => j_callA_of (j_runIN (κ := 5) hx (mt_X8_init h529 h528 (h526.no f4_3 (by decide)) (h526.no f32_3 (by decide)) (h526.no f33_1 (by decide)) h547 z) (lw_meth q334) (j_nl q332 rfl) q333 q128 rfl hd_X8_init.2 rfl ⟨Nat.le_of_ble_eq_true rfl, Nat.le_of_ble_eq_true rfl⟩ (Nat.le_of_ble_eq_true rfl) dX1_init_171)) ⟨Nat.le_of_ble_eq_true rfl, Nat.le_of_ble_eq_true rfl⟩ fun _ w549 B551 e550 x552 x553 => ?_
  refine J.cv (lv' := [(0, .ref (B551.1 0 0))]) (st' := [.ref (B551.1 5 1), .ref (B551.1 0 0)]) (by first | rfl | (simp only [x552.adh h528, x552.adh h529, x552.adh h530]; done) | (simp only [x552.adh h528, x552.adh h529, x552.adh h530]; rfl)) (by first | rfl | (simp only [x552.adh h528, x552.adh h529, x552.adh h530]; done) | (simp only [x552.adh h528, x552.adh h529, x552.adh h530]; rfl)) ?_
  have h554 : j_ext B B551 := (h525.tr x552)
  have h555 := ((h526.tr x553) : jadd B _ B551)
  have h556 : B551.2.1 0 0 ∧ True := (x552.mvh h528)
  have h557 : B551.2.1 5 1 ∧ True := (x552.mvh h529)
  have h558 : B551.2.1 0 0 ∧ True := (x552.mvh h530)
  have h559 : ¬ B551.2.2 0 0 := (x553.nb h531)
  have h560 : ¬ B551.2.2 24 0 := (x553.nb h532)
  have h561 : ¬ B551.2.2 10 0 := (x553.nb h533)
  have h562 : ¬ B551.2.2 10 1 := (x553.nb h534)
  have h563 : ¬ B551.2.2 25 0 := (x553.nb h535)
  have h564 : ¬ B551.2.2 11 0 := (x553.nb h536)
  have h565 : ¬ B551.2.2 11 1 := (x553.nb h537)
  have h566 : ¬ B551.2.2 13 1 := (x553.nb h538)
  have h567 : ¬ B551.2.2 11 2 := (x553.nb h539)
  have h568 : ¬ B551.2.2 20 0 := (x553.nb h540)
  have h569 : ¬ B551.2.2 22 0 := (x553.nb h541)
  have h570 : ¬ B551.2.2 21 0 := (x553.nb h542)
  have h571 : ¬ B551.2.2 2 0 := (x553.nb h543)
  have h572 : ¬ B551.2.2 2 1 := (x553.nb h544)
  have h573 : ¬ B551.2.2 4 0 := (x553.nb h545)
  have h574 : ¬ B551.2.2 5 0 := (x553.nb h546)
  have h575 : ¬ B551.2.2 5 1 := (x553.nb h547)
  refine J.putFr (κ' := 5) (κ := 0) (i := 0) (v := 1) (k := 14) hx hnm rfl rfl rfl rfl in_X1 tyX1_ok nmX1 (by decide) q383 rfl rfl rfl h558.1 (fun _ => ⟨rfl, rfl⟩) h557.1 h559 dX1_init_174 fun w576 => ?_
  refine J.aload_n hx dX1_init_177 rfl 0 rfl ?_
  refine J.ite (fun h577 => ?_) (fun _ => J.nne)
  refine J.bumpe fun w578 e579 => ?_
  refine J.fact (P := ¬ B551.2.2 5 2) (fun H hR z => (h555.no f5_2 (by decide)) (hR.2.2.2.2.2.2.2.2.1 _ _ z)) fun h580 => ?_
  refine J.new (κ := 5) (i := 2) hx rfl rfl in_X8 tyX8_ok (by decide +kernel) (by decide) (h555.no f5_2 (by decide)) h580 (by rw [e579]; simp [jcnt, jbump, jgn] at h577 ⊢ <;> omega) q330 q331 q128 ⟨Nat.le_of_ble_eq_true rfl, Nat.le_of_ble_eq_true rfl⟩ dX1_init_178 fun z583 w582 => ?_
  refine J.cv (lv' := [(0, .ref ((jbn B551 5 2 z583).1 0 0))]) (st' := [.ref ((jbn B551 5 2 z583).1 5 2), .ref ((jbn B551 5 2 z583).1 0 0)]) rfl rfl ?_
  have h584 : j_ext B (jbn B551 5 2 z583) := (h554.tr (jbn_ext (h555.no f5_2 (by decide))))
  have h585 := ((jadd.n h555) : jadd B _ (jbn B551 5 2 z583))
  have h587 : (jbn B551 5 2 z583).2.1 0 0 ∧ True := (jbn_oldh h556)
  have h588 : (jbn B551 5 2 z583).2.1 5 2 ∧ True := jbn_alh
  have h589 : (jbn B551 5 2 z583).2.1 0 0 ∧ True := (jbn_oldh h556)
  have h590 : ¬ (jbn B551 5 2 z583).2.2 0 0 := h559
  have h591 : ¬ (jbn B551 5 2 z583).2.2 24 0 := h560
  have h592 : ¬ (jbn B551 5 2 z583).2.2 10 0 := h561
  have h593 : ¬ (jbn B551 5 2 z583).2.2 10 1 := h562
  have h594 : ¬ (jbn B551 5 2 z583).2.2 25 0 := h563
  have h595 : ¬ (jbn B551 5 2 z583).2.2 11 0 := h564
  have h596 : ¬ (jbn B551 5 2 z583).2.2 11 1 := h565
  have h597 : ¬ (jbn B551 5 2 z583).2.2 13 1 := h566
  have h598 : ¬ (jbn B551 5 2 z583).2.2 11 2 := h567
  have h599 : ¬ (jbn B551 5 2 z583).2.2 20 0 := h568
  have h600 : ¬ (jbn B551 5 2 z583).2.2 22 0 := h569
  have h601 : ¬ (jbn B551 5 2 z583).2.2 21 0 := h570
  have h602 : ¬ (jbn B551 5 2 z583).2.2 2 0 := h571
  have h603 : ¬ (jbn B551 5 2 z583).2.2 2 1 := h572
  have h604 : ¬ (jbn B551 5 2 z583).2.2 4 0 := h573
  have h605 : ¬ (jbn B551 5 2 z583).2.2 5 0 := h574
  have h606 : ¬ (jbn B551 5 2 z583).2.2 5 1 := h575
  have h607 : ¬ (jbn B551 5 2 z583).2.2 5 2 := h580
  generalize jbn B551 5 2 z583 = B586 at h584 h585 h587 h588 h589 h590 h591 h592 h593 h594 h595 h596 h597 h598 h599 h600 h601 h602 h603 h604 h605 h606 h607 ⊢
  refine J.dup hx dX1_init_181 rfl ?_
  refine J.aload_n hx dX1_init_182 rfl 0 rfl ?_
  refine J.callAv hx (fun r z1 z => j_callA_of (j_runIN (κ := 5) hx (mt_X8_init h588 h587 (h585.no f4_5 (by decide)) (h585.no f32_5 (by decide)) (h585.no f33_2 (by decide)) h607 z) (lw_meth q334) (j_nl q332 rfl) q333 q128 rfl hd_X8_init.2 rfl ⟨Nat.le_of_ble_eq_true rfl, Nat.le_of_ble_eq_true rfl⟩ (Nat.le_of_ble_eq_true rfl) dX1_init_183)) ⟨Nat.le_of_ble_eq_true rfl, Nat.le_of_ble_eq_true rfl⟩ fun _ w609 B611 e610 x612 x613 => ?_
  refine J.cv (lv' := [(0, .ref (B611.1 0 0))]) (st' := [.ref (B611.1 5 2), .ref (B611.1 0 0)]) (by first | rfl | (simp only [x612.adh h587, x612.adh h588, x612.adh h589]; done) | (simp only [x612.adh h587, x612.adh h588, x612.adh h589]; rfl)) (by first | rfl | (simp only [x612.adh h587, x612.adh h588, x612.adh h589]; done) | (simp only [x612.adh h587, x612.adh h588, x612.adh h589]; rfl)) ?_
  have h614 : j_ext B B611 := (h584.tr x612)
  have h615 := ((h585.tr x613) : jadd B _ B611)
  have h616 : B611.2.1 0 0 ∧ True := (x612.mvh h587)
  have h617 : B611.2.1 5 2 ∧ True := (x612.mvh h588)
  have h618 : B611.2.1 0 0 ∧ True := (x612.mvh h589)
  have h619 : ¬ B611.2.2 0 0 := (x613.nb h590)
  have h620 : ¬ B611.2.2 24 0 := (x613.nb h591)
  have h621 : ¬ B611.2.2 10 0 := (x613.nb h592)
  have h622 : ¬ B611.2.2 10 1 := (x613.nb h593)
  have h623 : ¬ B611.2.2 25 0 := (x613.nb h594)
  have h624 : ¬ B611.2.2 11 0 := (x613.nb h595)
  have h625 : ¬ B611.2.2 11 1 := (x613.nb h596)
  have h626 : ¬ B611.2.2 13 1 := (x613.nb h597)
  have h627 : ¬ B611.2.2 11 2 := (x613.nb h598)
  have h628 : ¬ B611.2.2 20 0 := (x613.nb h599)
  have h629 : ¬ B611.2.2 22 0 := (x613.nb h600)
  have h630 : ¬ B611.2.2 21 0 := (x613.nb h601)
  have h631 : ¬ B611.2.2 2 0 := (x613.nb h602)
  have h632 : ¬ B611.2.2 2 1 := (x613.nb h603)
  have h633 : ¬ B611.2.2 4 0 := (x613.nb h604)
  have h634 : ¬ B611.2.2 5 0 := (x613.nb h605)
  have h635 : ¬ B611.2.2 5 1 := (x613.nb h606)
  have h636 : ¬ B611.2.2 5 2 := (x613.nb h607)
  refine J.putFr (κ' := 5) (κ := 0) (i := 0) (v := 2) (k := 15) hx hnm rfl rfl rfl rfl in_X1 tyX1_ok nmX1 (by decide) q384 rfl rfl rfl h618.1 (fun _ => ⟨rfl, rfl⟩) h617.1 h619 dX1_init_186 fun w637 => ?_
  refine J.aload_n hx dX1_init_189 rfl 0 rfl ?_
  refine J.ite (fun h638 => ?_) (fun _ => J.nne)
  refine J.bumpe fun w639 e640 => ?_
  refine J.fact (P := ¬ B611.2.2 5 3) (fun H hR z => (h615.no f5_3 (by decide)) (hR.2.2.2.2.2.2.2.2.1 _ _ z)) fun h641 => ?_
  refine J.new (κ := 5) (i := 3) hx rfl rfl in_X8 tyX8_ok (by decide +kernel) (by decide) (h615.no f5_3 (by decide)) h641 (by rw [e640]; simp [jcnt, jbump, jgn] at h638 ⊢ <;> omega) q330 q331 q128 ⟨Nat.le_of_ble_eq_true rfl, Nat.le_of_ble_eq_true rfl⟩ dX1_init_190 fun z644 w643 => ?_
  refine J.cv (lv' := [(0, .ref ((jbn B611 5 3 z644).1 0 0))]) (st' := [.ref ((jbn B611 5 3 z644).1 5 3), .ref ((jbn B611 5 3 z644).1 0 0)]) rfl rfl ?_
  have h645 : j_ext B (jbn B611 5 3 z644) := (h614.tr (jbn_ext (h615.no f5_3 (by decide))))
  have h646 := ((jadd.n h615) : jadd B _ (jbn B611 5 3 z644))
  have h648 : (jbn B611 5 3 z644).2.1 0 0 ∧ True := (jbn_oldh h616)
  have h649 : (jbn B611 5 3 z644).2.1 5 3 ∧ True := jbn_alh
  have h650 : (jbn B611 5 3 z644).2.1 0 0 ∧ True := (jbn_oldh h616)
  have h651 : ¬ (jbn B611 5 3 z644).2.2 0 0 := h619
  have h652 : ¬ (jbn B611 5 3 z644).2.2 24 0 := h620
  have h653 : ¬ (jbn B611 5 3 z644).2.2 10 0 := h621
  have h654 : ¬ (jbn B611 5 3 z644).2.2 10 1 := h622
  have h655 : ¬ (jbn B611 5 3 z644).2.2 25 0 := h623
  have h656 : ¬ (jbn B611 5 3 z644).2.2 11 0 := h624
  have h657 : ¬ (jbn B611 5 3 z644).2.2 11 1 := h625
  have h658 : ¬ (jbn B611 5 3 z644).2.2 13 1 := h626
  have h659 : ¬ (jbn B611 5 3 z644).2.2 11 2 := h627
  have h660 : ¬ (jbn B611 5 3 z644).2.2 20 0 := h628
  have h661 : ¬ (jbn B611 5 3 z644).2.2 22 0 := h629
  have h662 : ¬ (jbn B611 5 3 z644).2.2 21 0 := h630
  have h663 : ¬ (jbn B611 5 3 z644).2.2 2 0 := h631
  have h664 : ¬ (jbn B611 5 3 z644).2.2 2 1 := h632
  have h665 : ¬ (jbn B611 5 3 z644).2.2 4 0 := h633
  have h666 : ¬ (jbn B611 5 3 z644).2.2 5 0 := h634
  have h667 : ¬ (jbn B611 5 3 z644).2.2 5 1 := h635
  have h668 : ¬ (jbn B611 5 3 z644).2.2 5 2 := h636
  have h669 : ¬ (jbn B611 5 3 z644).2.2 5 3 := h641
  generalize jbn B611 5 3 z644 = B647 at h645 h646 h648 h649 h650 h651 h652 h653 h654 h655 h656 h657 h658 h659 h660 h661 h662 h663 h664 h665 h666 h667 h668 h669 ⊢
  refine J.dup hx dX1_init_193 rfl ?_
  refine J.aload_n hx dX1_init_194 rfl 0 rfl ?_
  refine J.callAv hx (fun r z1 z => j_callA_of (j_runIN (κ := 5) hx (mt_X8_init h649 h648 (h646.no f4_7 (by decide)) (h646.no f32_7 (by decide)) (h646.no f33_3 (by decide)) h669 z) (lw_meth q334) (j_nl q332 rfl) q333 q128 rfl hd_X8_init.2 rfl ⟨Nat.le_of_ble_eq_true rfl, Nat.le_of_ble_eq_true rfl⟩ (Nat.le_of_ble_eq_true rfl) dX1_init_195)) ⟨Nat.le_of_ble_eq_true rfl, Nat.le_of_ble_eq_true rfl⟩ fun _ w671 B673 e672 x674 x675 => ?_
  refine J.cv (lv' := [(0, .ref (B673.1 0 0))]) (st' := [.ref (B673.1 5 3), .ref (B673.1 0 0)]) (by first | rfl | (simp only [x674.adh h648, x674.adh h649, x674.adh h650]; done) | (simp only [x674.adh h648, x674.adh h649, x674.adh h650]; rfl)) (by first | rfl | (simp only [x674.adh h648, x674.adh h649, x674.adh h650]; done) | (simp only [x674.adh h648, x674.adh h649, x674.adh h650]; rfl)) ?_
  have h676 : j_ext B B673 := (h645.tr x674)
  have h677 := ((h646.tr x675) : jadd B _ B673)
  have h678 : B673.2.1 0 0 ∧ True := (x674.mvh h648)
  have h679 : B673.2.1 5 3 ∧ True := (x674.mvh h649)
  have h680 : B673.2.1 0 0 ∧ True := (x674.mvh h650)
  have h681 : ¬ B673.2.2 0 0 := (x675.nb h651)
  have h682 : ¬ B673.2.2 24 0 := (x675.nb h652)
  have h683 : ¬ B673.2.2 10 0 := (x675.nb h653)
  have h684 : ¬ B673.2.2 10 1 := (x675.nb h654)
  have h685 : ¬ B673.2.2 25 0 := (x675.nb h655)
  have h686 : ¬ B673.2.2 11 0 := (x675.nb h656)
  have h687 : ¬ B673.2.2 11 1 := (x675.nb h657)
  have h688 : ¬ B673.2.2 13 1 := (x675.nb h658)
  have h689 : ¬ B673.2.2 11 2 := (x675.nb h659)
  have h690 : ¬ B673.2.2 20 0 := (x675.nb h660)
  have h691 : ¬ B673.2.2 22 0 := (x675.nb h661)
  have h692 : ¬ B673.2.2 21 0 := (x675.nb h662)
  have h693 : ¬ B673.2.2 2 0 := (x675.nb h663)
  have h694 : ¬ B673.2.2 2 1 := (x675.nb h664)
  have h695 : ¬ B673.2.2 4 0 := (x675.nb h665)
  have h696 : ¬ B673.2.2 5 0 := (x675.nb h666)
  have h697 : ¬ B673.2.2 5 1 := (x675.nb h667)
  have h698 : ¬ B673.2.2 5 2 := (x675.nb h668)
  have h699 : ¬ B673.2.2 5 3 := (x675.nb h669)
  refine J.putFr (κ' := 5) (κ := 0) (i := 0) (v := 3) (k := 16) hx hnm rfl rfl rfl rfl in_X1 tyX1_ok nmX1 (by decide) q385 rfl rfl rfl h680.1 (fun _ => ⟨rfl, rfl⟩) h679.1 h681 dX1_init_198 fun w700 => ?_
  refine J.aload_n hx dX1_init_201 rfl 0 rfl ?_
  refine J.bipush (v := 40) hx dX1_init_202 (by decide) ?_
  refine J.fact (P := ¬ B673.2.2 23 0) (fun H hR z => (h677.no f23_0 (by decide)) (hR.2.2.2.2.2.2.2.2.1 _ _ z)) fun h701 => ?_
  refine J.newq (κ := 23) (i := 0) (m := 0) (n := 40) (C := RX8) hx ⟨by decide, by decide⟩ rfl (by decide) rfl (by decide) (by decide) rfl (fun _ => ⟨Iff.rfl, Iff.rfl⟩) (by decide) (h677.no f23_0 (by decide)) h701 (by simp [jcnt]) q330 (by simp) (by decide) ⟨Nat.le_of_ble_eq_true rfl, Nat.le_of_ble_eq_true rfl⟩ dX1_init_204 fun z704 w703 => ?_
  refine J.cv (lv' := [(0, .ref ((jbn B673 23 0 z704).1 0 0))]) (st' := [.ref ((jbn B673 23 0 z704).1 23 0), .ref ((jbn B673 23 0 z704).1 0 0)]) rfl rfl ?_
  have h705 : j_ext B (jbn B673 23 0 z704) := (h676.tr (jbn_ext (h677.no f23_0 (by decide))))
  have h706 := ((jadd.n h677) : jadd B _ (jbn B673 23 0 z704))
  have h708 : (jbn B673 23 0 z704).2.1 0 0 ∧ True := (jbn_oldh h678)
  have h709 : (jbn B673 23 0 z704).2.1 23 0 ∧ True := jbn_alh
  have h710 : (jbn B673 23 0 z704).2.1 0 0 ∧ True := (jbn_oldh h678)
  have h711 : ¬ (jbn B673 23 0 z704).2.2 0 0 := h681
  have h712 : ¬ (jbn B673 23 0 z704).2.2 24 0 := h682
  have h713 : ¬ (jbn B673 23 0 z704).2.2 10 0 := h683
  have h714 : ¬ (jbn B673 23 0 z704).2.2 10 1 := h684
  have h715 : ¬ (jbn B673 23 0 z704).2.2 25 0 := h685
  have h716 : ¬ (jbn B673 23 0 z704).2.2 11 0 := h686
  have h717 : ¬ (jbn B673 23 0 z704).2.2 11 1 := h687
  have h718 : ¬ (jbn B673 23 0 z704).2.2 13 1 := h688
  have h719 : ¬ (jbn B673 23 0 z704).2.2 11 2 := h689
  have h720 : ¬ (jbn B673 23 0 z704).2.2 20 0 := h690
  have h721 : ¬ (jbn B673 23 0 z704).2.2 22 0 := h691
  have h722 : ¬ (jbn B673 23 0 z704).2.2 21 0 := h692
  have h723 : ¬ (jbn B673 23 0 z704).2.2 2 0 := h693
  have h724 : ¬ (jbn B673 23 0 z704).2.2 2 1 := h694
  have h725 : ¬ (jbn B673 23 0 z704).2.2 4 0 := h695
  have h726 : ¬ (jbn B673 23 0 z704).2.2 5 0 := h696
  have h727 : ¬ (jbn B673 23 0 z704).2.2 5 1 := h697
  have h728 : ¬ (jbn B673 23 0 z704).2.2 5 2 := h698
  have h729 : ¬ (jbn B673 23 0 z704).2.2 5 3 := h699
  have h730 : ¬ (jbn B673 23 0 z704).2.2 23 0 := h701
  generalize jbn B673 23 0 z704 = B707 at h705 h706 h708 h709 h710 h711 h712 h713 h714 h715 h716 h717 h718 h719 h720 h721 h722 h723 h724 h725 h726 h727 h728 h729 h730 ⊢
  refine J.putFr (κ' := 23) (κ := 0) (i := 0) (v := 0) (k := 17) hx hnm rfl rfl rfl rfl in_X1 tyX1_ok nmX1 (by decide) q386 rfl rfl rfl h710.1 (fun _ => ⟨rfl, rfl⟩) h709.1 h711 dX1_init_207 fun w731 => ?_
  refine J.aload_n hx dX1_init_210 rfl 0 rfl ?_
  refine J.null (ad := fun _ => 0) hx dX1_init_211 ?_
  refine J.putr (κ' := 6) (v := none) (κ := 0) (k := 7) hx rfl rfl rfl rfl in_X1 tyX1_ok nmX1 (by decide) (Or.inl q374) rfl rfl h708.1 (fun _ => ⟨rfl, rfl, rfl, rfl⟩) j_nn dX1_init_212 fun w732 => ?_
  exact J.vretA hx h705 h706 rfl (Nat.le_of_ble_eq_true rfl) (Nat.le_of_ble_eq_true rfl) dX1_init_215
