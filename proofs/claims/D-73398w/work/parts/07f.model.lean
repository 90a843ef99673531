theorem hd_X9_init : yX9_init.cls = RX9 ∧ yX9_init.cls ≠ "java/lang/invoke/MethodHandle" ∧ yX9_init.cls ≠ "java/lang/invoke/VarHandle" ∧ (parseMethodDescriptor yX9_init.desc).map (fun d => d.parameters.length) = some 0 := by decide +kernel
def f_X9_init  (w : j_St) : Option (Unit × j_St) := jlt (jnw w 40 0 0) fun w3 => jlt (jsr w3 1 0 1 (some 0)) fun w12 => jlt (jnw w12 41 0 0) fun w15 => jlt (jsr w15 1 0 11 (some 0)) fun w24 => jlt (jnw w24 42 0 0) fun w27 => jlt (jsr w27 1 0 12 (some 0)) fun w36 => jlt (jnw w36 43 0 0) fun w39 => jlt (jsr w39 1 0 13 (some 0)) fun w48 => jlt (jnw w48 44 0 0) fun w51 => jlt (jsr w51 1 0 14 (some 0)) fun w60 => jlt (jnw w60 45 0 0) fun w63 => jlt (jsr w63 1 0 19 (some 0)) fun w72 => jlt (jnw w72 46 0 0) fun w75 => jlt (jsr w75 1 0 20 (some 0)) fun w84 => jlt (jnw w84 47 0 0) fun w87 => jlt (jsr w87 1 0 22 (some 0)) fun w96 => jlt (jnw w96 48 0 0) fun w99 => jlt (jsr w99 1 0 23 (some 0)) fun w108 => jlt (jnw w108 49 0 0) fun w111 => jlt (jsr w111 1 0 24 (some 0)) fun w120 => jlt (jnw w120 50 0 0) fun w123 => jlt (jsr w123 1 0 25 (some 0)) fun w132 => jlt (jnw w132 51 0 0) fun w135 => jlt (jsr w135 1 0 26 (some 0)) fun w144 => jlt (jnw w144 52 0 0) fun w147 => jlt (jsr w147 1 0 30 (some 0)) fun w156 => jlt (jnw w156 53 0 0) fun w159 => jlt (jsr w159 1 0 31 (some 0)) fun w168 => jlt (jnw w168 54 0 0) fun w171 => jlt (jsr w171 1 0 32 (some 0)) fun w180 => jlt (jnw w180 55 0 0) fun w183 => jlt (jsr w183 1 0 33 (some 0)) fun w192 => jlt (jnw w192 56 0 0) fun w195 => jlt (jsr w195 1 0 34 (some 0)) fun w204 => jlt (jnw w204 57 0 0) fun w207 => jlt (jsr w207 1 0 36 (some 0)) fun w216 => jlt (jnw w216 58 0 0) fun w219 => jlt (jsr w219 1 0 37 (some 0)) fun w228 => jlt (jnw w228 59 0 0) fun w231 => jlt (jsr w231 1 0 39 (some 0)) fun w240 => jlt (jnw w240 60 0 0) fun w243 => jlt (jsr w243 1 0 40 (some 0)) fun w252 => jlt (jnw w252 61 0 0) fun w255 => jlt (jsr w255 1 0 42 (some 0)) fun w264 => jlt (jnw w264 62 0 0) fun w267 => jlt (jsr w267 1 0 43 (some 0)) fun w276 => jlt (jnw w276 63 0 0) fun w279 => jlt (jsr w279 1 0 46 (some 0)) fun w288 => jlt (jnw w288 64 0 0) fun w291 => jlt (jsr w291 1 0 48 (some 0)) fun w300 => jlt (jnw w300 65 0 0) fun w303 => jlt (jsr w303 1 0 49 (some 0)) fun w312 => jlt (jnw w312 66 0 0) fun w315 => jlt (jsr w315 1 0 50 (some 0)) fun w324 => some ((), w324)
abbrev rm_X9_init : Room := { frames := 1, cells := 27, slots := 10963, locals := 20 }
set_option maxRecDepth 100000 in
set_option maxHeartbeats 4000000 in
theorem mt_X9_init {g : j_G} {B : j_B}  {w w' : j_St} (a0 : B.2.1 1 0 ∧ True) (f40 : ¬ B.2.1 40 0) (f41 : ¬ B.2.1 41 0) (f42 : ¬ B.2.1 42 0) (f43 : ¬ B.2.1 43 0) (f44 : ¬ B.2.1 44 0) (f45 : ¬ B.2.1 45 0) (f46 : ¬ B.2.1 46 0) (f47 : ¬ B.2.1 47 0) (f48 : ¬ B.2.1 48 0) (f49 : ¬ B.2.1 49 0) (f50 : ¬ B.2.1 50 0) (f51 : ¬ B.2.1 51 0) (f52 : ¬ B.2.1 52 0) (f53 : ¬ B.2.1 53 0) (f54 : ¬ B.2.1 54 0) (f55 : ¬ B.2.1 55 0) (f56 : ¬ B.2.1 56 0) (f57 : ¬ B.2.1 57 0) (f58 : ¬ B.2.1 58 0) (f59 : ¬ B.2.1 59 0) (f60 : ¬ B.2.1 60 0) (f61 : ¬ B.2.1 61 0) (f62 : ¬ B.2.1 62 0) (f63 : ¬ B.2.1 63 0) (f64 : ¬ B.2.1 64 0) (f65 : ¬ B.2.1 65 0) (f66 : ¬ B.2.1 66 0) (n0 : ¬ B.2.2 1 0) {r : Unit} (h : f_X9_init  w = some (r, w')) : j_MA g yX9_init cX9_init 1 none rm_X9_init B [.ref (B.1 1 0)] w w' ((fun _ _ => none) r) ((fun _ _ B9 => jadd B [(40, 0), (41, 0), (42, 0), (43, 0), (44, 0), (45, 0), (46, 0), (47, 0), (48, 0), (49, 0), (50, 0), (51, 0), (52, 0), (53, 0), (54, 0), (55, 0), (56, 0), (57, 0), (58, 0), (59, 0), (60, 0), (61, 0), (62, 0), (63, 0), (64, 0), (65, 0), (66, 0)] B9) r w') := by
  refine j_metA (rv := (fun _ _ => none)) (PB := (fun _ _ B9 => jadd B [(40, 0), (41, 0), (42, 0), (43, 0), (44, 0), (45, 0), (46, 0), (47, 0), (48, 0), (49, 0), (50, 0), (51, 0), (52, 0), (53, 0), (54, 0), (55, 0), (56, 0), (57, 0), (58, 0), (59, 0), (60, 0), (61, 0), (62, 0), (63, 0), (64, 0), (65, 0), (66, 0)] B9)) (by decide) (Nat.le_of_ble_eq_true rfl) (fun x hx hnm => ?_) h
  unfold f_X9_init
  refine J.sub (lv' := [(0, .ref (B.1 1 0))]) [0] rfl ?_
  refine J.aload_n hx dX9_init_0 rfl 0 rfl ?_
  refine J.objInit hx q1652 q170 q171 ⟨Nat.le_of_ble_eq_true rfl, Nat.le_of_ble_eq_true rfl⟩ (Nat.le_of_ble_eq_true rfl) dX9_init_1 ?_
  refine J.aload_n hx dX9_init_4 rfl 0 rfl ?_
  refine J.sipush (v := 400) hx dX9_init_5 (by decide) ?_
  refine J.fact (P := ¬ B.2.2 40 0) (fun H hR z => f40 (hR.2.2.2.2.2.2.2.2.1 _ _ z)) fun h1 => ?_
  refine J.newa (κ := 40) (i := 0) (m := 0) (n := 400) (ty := .int) hx ⟨by decide, by decide⟩ rfl rfl (fun _ _ => rfl) (by decide) rfl (by decide) (by decide) rfl (fun _ => ⟨Iff.rfl, Iff.rfl⟩) (by decide) f40 h1 (by simp [jcnt]) q273 (by decide) ⟨Nat.le_of_ble_eq_true rfl, Nat.le_of_ble_eq_true rfl⟩ dX9_init_8 fun z4 w3 => ?_
  refine J.cv (lv' := [(0, .ref ((jbn B 40 0 z4).1 1 0))]) (st' := [.ref ((jbn B 40 0 z4).1 40 0), .ref ((jbn B 40 0 z4).1 1 0)]) rfl rfl ?_
  have h5 : j_ext B (jbn B 40 0 z4) := (j_ext.rf.tr (jbn_ext f40))
  have h6 := ((jadd.n jadd.rf) : jadd B _ (jbn B 40 0 z4))
  have h8 : (jbn B 40 0 z4).2.1 1 0 ∧ True := (jbn_oldh a0)
  have h9 : (jbn B 40 0 z4).2.1 40 0 ∧ True := jbn_alh
  have h10 : (jbn B 40 0 z4).2.1 1 0 ∧ True := (jbn_oldh a0)
  have h11 : ¬ (jbn B 40 0 z4).2.2 1 0 := n0
  generalize jbn B 40 0 z4 = B7 at h5 h6 h8 h9 h10 h11 ⊢
  refine J.putFr (κ' := 40) (κ := 1) (i := 0) (v := 0) (k := 1) hx hnm rfl rfl rfl rfl in_X9 tyX9_ok nmX9 (by decide) q1654 rfl rfl rfl h10.1 (fun _ => ⟨rfl, rfl⟩) h9.1 h11 dX9_init_10 fun w12 => ?_
  refine J.aload_n hx dX9_init_13 rfl 0 rfl ?_
  refine J.bipush (v := 48) hx dX9_init_14 (by decide) ?_
  refine J.fact (P := ¬ B7.2.2 41 0) (fun H hR z => (h6.no f41 (by decide)) (hR.2.2.2.2.2.2.2.2.1 _ _ z)) fun h13 => ?_
  refine J.newa (κ := 41) (i := 0) (m := 0) (n := 48) (ty := .int) hx ⟨by decide, by decide⟩ rfl rfl (fun _ _ => rfl) (by decide) rfl (by decide) (by decide) rfl (fun _ => ⟨Iff.rfl, Iff.rfl⟩) (by decide) (h6.no f41 (by decide)) h13 (by simp [jcnt]) q273 (by decide) ⟨Nat.le_of_ble_eq_true rfl, Nat.le_of_ble_eq_true rfl⟩ dX9_init_16 fun z16 w15 => ?_
  refine J.cv (lv' := [(0, .ref ((jbn B7 41 0 z16).1 1 0))]) (st' := [.ref ((jbn B7 41 0 z16).1 41 0), .ref ((jbn B7 41 0 z16).1 1 0)]) rfl rfl ?_
  have h17 : j_ext B (jbn B7 41 0 z16) := (h5.tr (jbn_ext (h6.no f41 (by decide))))
  have h18 := ((jadd.n h6) : jadd B _ (jbn B7 41 0 z16))
  have h20 : (jbn B7 41 0 z16).2.1 1 0 ∧ True := (jbn_oldh h8)
  have h21 : (jbn B7 41 0 z16).2.1 41 0 ∧ True := jbn_alh
  have h22 : (jbn B7 41 0 z16).2.1 1 0 ∧ True := (jbn_oldh h8)
  have h23 : ¬ (jbn B7 41 0 z16).2.2 1 0 := h11
  generalize jbn B7 41 0 z16 = B19 at h17 h18 h20 h21 h22 h23 ⊢
  refine J.putFr (κ' := 41) (κ := 1) (i := 0) (v := 0) (k := 11) hx hnm rfl rfl rfl rfl in_X9 tyX9_ok nmX9 (by decide) q1664 rfl rfl rfl h22.1 (fun _ => ⟨rfl, rfl⟩) h21.1 h23 dX9_init_18 fun w24 => ?_
  refine J.aload_n hx dX9_init_21 rfl 0 rfl ?_
  refine J.bipush (v := 8) hx dX9_init_22 (by decide) ?_
  refine J.fact (P := ¬ B19.2.2 42 0) (fun H hR z => (h18.no f42 (by decide)) (hR.2.2.2.2.2.2.2.2.1 _ _ z)) fun h25 => ?_
  refine J.newa (κ := 42) (i := 0) (m := 0) (n := 8) (ty := .int) hx ⟨by decide, by decide⟩ rfl rfl (fun _ _ => rfl) (by decide) rfl (by decide) (by decide) rfl (fun _ => ⟨Iff.rfl, Iff.rfl⟩) (by decide) (h18.no f42 (by decide)) h25 (by simp [jcnt]) q273 (by decide) ⟨Nat.le_of_ble_eq_true rfl, Nat.le_of_ble_eq_true rfl⟩ dX9_init_24 fun z28 w27 => ?_
  refine J.cv (lv' := [(0, .ref ((jbn B19 42 0 z28).1 1 0))]) (st' := [.ref ((jbn B19 42 0 z28).1 42 0), .ref ((jbn B19 42 0 z28).1 1 0)]) rfl rfl ?_
  have h29 : j_ext B (jbn B19 42 0 z28) := (h17.tr (jbn_ext (h18.no f42 (by decide))))
  have h30 := ((jadd.n h18) : jadd B _ (jbn B19 42 0 z28))
  have h32 : (jbn B19 42 0 z28).2.1 1 0 ∧ True := (jbn_oldh h20)
  have h33 : (jbn B19 42 0 z28).2.1 42 0 ∧ True := jbn_alh
  have h34 : (jbn B19 42 0 z28).2.1 1 0 ∧ True := (jbn_oldh h20)
  have h35 : ¬ (jbn B19 42 0 z28).2.2 1 0 := h23
  generalize jbn B19 42 0 z28 = B31 at h29 h30 h32 h33 h34 h35 ⊢
  refine J.putFr (κ' := 42) (κ := 1) (i := 0) (v := 0) (k := 12) hx hnm rfl rfl rfl rfl in_X9 tyX9_ok nmX9 (by decide) q1665 rfl rfl rfl h34.1 (fun _ => ⟨rfl, rfl⟩) h33.1 h35 dX9_init_26 fun w36 => ?_
  refine J.aload_n hx dX9_init_29 rfl 0 rfl ?_
  refine J.bipush (v := 8) hx dX9_init_30 (by decide) ?_
  refine J.fact (P := ¬ B31.2.2 43 0) (fun H hR z => (h30.no f43 (by decide)) (hR.2.2.2.2.2.2.2.2.1 _ _ z)) fun h37 => ?_
  refine J.newa (κ := 43) (i := 0) (m := 0) (n := 8) (ty := .int) hx ⟨by decide, by decide⟩ rfl rfl (fun _ _ => rfl) (by decide) rfl (by decide) (by decide) rfl (fun _ => ⟨Iff.rfl, Iff.rfl⟩) (by decide) (h30.no f43 (by decide)) h37 (by simp [jcnt]) q273 (by decide) ⟨Nat.le_of_ble_eq_true rfl, Nat.le_of_ble_eq_true rfl⟩ dX9_init_32 fun z40 w39 => ?_
  refine J.cv (lv' := [(0, .ref ((jbn B31 43 0 z40).1 1 0))]) (st' := [.ref ((jbn B31 43 0 z40).1 43 0), .ref ((jbn B31 43 0 z40).1 1 0)]) rfl rfl ?_
  have h41 : j_ext B (jbn B31 43 0 z40) := (h29.tr (jbn_ext (h30.no f43 (by decide))))
  have h42 := ((jadd.n h30) : jadd B _ (jbn B31 43 0 z40))
  have h44 : (jbn B31 43 0 z40).2.1 1 0 ∧ True := (jbn_oldh h32)
  have h45 : (jbn B31 43 0 z40).2.1 43 0 ∧ True := jbn_alh
  have h46 : (jbn B31 43 0 z40).2.1 1 0 ∧ True := (jbn_oldh h32)
  have h47 : ¬ (jbn B31 43 0 z40).2.2 1 0 := h35
  generalize jbn B31 43 0 z40 = B43 at h41 h42 h44 h45 h46 h47 ⊢
  refine J.putFr (κ' := 43) (κ := 1) (i := 0) (v := 0) (k := 13) hx hnm rfl rfl rfl rfl in_X9 tyX9_ok nmX9 (by decide) q1666 rfl rfl rfl h46.1 (fun _ => ⟨rfl, rfl⟩) h45.1 h47 dX9_init_34 fun w48 => ?_
  refine J.aload_n hx dX9_init_37 rfl 0 rfl ?_
  refine J.bipush (v := 8) hx dX9_init_38 (by decide) ?_
  refine J.fact (P := ¬ B43.2.2 44 0) (fun H hR z => (h42.no f44 (by decide)) (hR.2.2.2.2.2.2.2.2.1 _ _ z)) fun h49 => ?_
  refine J.newa (κ := 44) (i := 0) (m := 0) (n := 8) (ty := .long) hx ⟨by decide, by decide⟩ rfl rfl (fun _ _ => rfl) (by decide) rfl (by decide) (by decide) rfl (fun _ => ⟨Iff.rfl, Iff.rfl⟩) (by decide) (h42.no f44 (by decide)) h49 (by simp [jcnt]) q1810 (by decide) ⟨Nat.le_of_ble_eq_true rfl, Nat.le_of_ble_eq_true rfl⟩ dX9_init_40 fun z52 w51 => ?_
  refine J.cv (lv' := [(0, .ref ((jbn B43 44 0 z52).1 1 0))]) (st' := [.ref ((jbn B43 44 0 z52).1 44 0), .ref ((jbn B43 44 0 z52).1 1 0)]) rfl rfl ?_
  have h53 : j_ext B (jbn B43 44 0 z52) := (h41.tr (jbn_ext (h42.no f44 (by decide))))
  have h54 := ((jadd.n h42) : jadd B _ (jbn B43 44 0 z52))
  have h56 : (jbn B43 44 0 z52).2.1 1 0 ∧ True := (jbn_oldh h44)
  have h57 : (jbn B43 44 0 z52).2.1 44 0 ∧ True := jbn_alh
  have h58 : (jbn B43 44 0 z52).2.1 1 0 ∧ True := (jbn_oldh h44)
  have h59 : ¬ (jbn B43 44 0 z52).2.2 1 0 := h47
  generalize jbn B43 44 0 z52 = B55 at h53 h54 h56 h57 h58 h59 ⊢
  refine J.putFr (κ' := 44) (κ := 1) (i := 0) (v := 0) (k := 14) hx hnm rfl rfl rfl rfl in_X9 tyX9_ok nmX9 (by decide) q1667 rfl rfl rfl h58.1 (fun _ => ⟨rfl, rfl⟩) h57.1 h59 dX9_init_42 fun w60 => ?_
  refine J.aload_n hx dX9_init_45 rfl 0 rfl ?_
  refine J.sipush (v := 180) hx dX9_init_46 (by decide) ?_
  refine J.fact (P := ¬ B55.2.2 45 0) (fun H hR z => (h54.no f45 (by decide)) (hR.2.2.2.2.2.2.2.2.1 _ _ z)) fun h61 => ?_
  refine J.newa (κ := 45) (i := 0) (m := 0) (n := 180) (ty := .int) hx ⟨by decide, by decide⟩ rfl rfl (fun _ _ => rfl) (by decide) rfl (by decide) (by decide) rfl (fun _ => ⟨Iff.rfl, Iff.rfl⟩) (by decide) (h54.no f45 (by decide)) h61 (by simp [jcnt]) q273 (by decide) ⟨Nat.le_of_ble_eq_true rfl, Nat.le_of_ble_eq_true rfl⟩ dX9_init_49 fun z64 w63 => ?_
  refine J.cv (lv' := [(0, .ref ((jbn B55 45 0 z64).1 1 0))]) (st' := [.ref ((jbn B55 45 0 z64).1 45 0), .ref ((jbn B55 45 0 z64).1 1 0)]) rfl rfl ?_
  have h65 : j_ext B (jbn B55 45 0 z64) := (h53.tr (jbn_ext (h54.no f45 (by decide))))
  have h66 := ((jadd.n h54) : jadd B _ (jbn B55 45 0 z64))
  have h68 : (jbn B55 45 0 z64).2.1 1 0 ∧ True := (jbn_oldh h56)
  have h69 : (jbn B55 45 0 z64).2.1 45 0 ∧ True := jbn_alh
  have h70 : (jbn B55 45 0 z64).2.1 1 0 ∧ True := (jbn_oldh h56)
  have h71 : ¬ (jbn B55 45 0 z64).2.2 1 0 := h59
  generalize jbn B55 45 0 z64 = B67 at h65 h66 h68 h69 h70 h71 ⊢
  refine J.putFr (κ' := 45) (κ := 1) (i := 0) (v := 0) (k := 19) hx hnm rfl rfl rfl rfl in_X9 tyX9_ok nmX9 (by decide) q1672 rfl rfl rfl h70.1 (fun _ => ⟨rfl, rfl⟩) h69.1 h71 dX9_init_51 fun w72 => ?_
  refine J.aload_n hx dX9_init_54 rfl 0 rfl ?_
  refine J.iconst (v := 5) hx dX9_init_55 (by decide) ?_
  refine J.fact (P := ¬ B67.2.2 46 0) (fun H hR z => (h66.no f46 (by decide)) (hR.2.2.2.2.2.2.2.2.1 _ _ z)) fun h73 => ?_
  refine J.newa (κ := 46) (i := 0) (m := 0) (n := 5) (ty := .int) hx ⟨by decide, by decide⟩ rfl rfl (fun _ _ => rfl) (by decide) rfl (by decide) (by decide) rfl (fun _ => ⟨Iff.rfl, Iff.rfl⟩) (by decide) (h66.no f46 (by decide)) h73 (by simp [jcnt]) q273 (by decide) ⟨Nat.le_of_ble_eq_true rfl, Nat.le_of_ble_eq_true rfl⟩ dX9_init_56 fun z76 w75 => ?_
  refine J.cv (lv' := [(0, .ref ((jbn B67 46 0 z76).1 1 0))]) (st' := [.ref ((jbn B67 46 0 z76).1 46 0), .ref ((jbn B67 46 0 z76).1 1 0)]) rfl rfl ?_
  have h77 : j_ext B (jbn B67 46 0 z76) := (h65.tr (jbn_ext (h66.no f46 (by decide))))
  have h78 := ((jadd.n h66) : jadd B _ (jbn B67 46 0 z76))
  have h80 : (jbn B67 46 0 z76).2.1 1 0 ∧ True := (jbn_oldh h68)
  have h81 : (jbn B67 46 0 z76).2.1 46 0 ∧ True := jbn_alh
  have h82 : (jbn B67 46 0 z76).2.1 1 0 ∧ True := (jbn_oldh h68)
  have h83 : ¬ (jbn B67 46 0 z76).2.2 1 0 := h71
  generalize jbn B67 46 0 z76 = B79 at h77 h78 h80 h81 h82 h83 ⊢
  refine J.putFr (κ' := 46) (κ := 1) (i := 0) (v := 0) (k := 20) hx hnm rfl rfl rfl rfl in_X9 tyX9_ok nmX9 (by decide) q1673 rfl rfl rfl h82.1 (fun _ => ⟨rfl, rfl⟩) h81.1 h83 dX9_init_58 fun w84 => ?_
  refine J.aload_n hx dX9_init_61 rfl 0 rfl ?_
  refine J.sipush (v := 231) hx dX9_init_62 (by decide) ?_
  refine J.fact (P := ¬ B79.2.2 47 0) (fun H hR z => (h78.no f47 (by decide)) (hR.2.2.2.2.2.2.2.2.1 _ _ z)) fun h85 => ?_
  refine J.newa (κ := 47) (i := 0) (m := 0) (n := 231) (ty := .int) hx ⟨by decide, by decide⟩ rfl rfl (fun _ _ => rfl) (by decide) rfl (by decide) (by decide) rfl (fun _ => ⟨Iff.rfl, Iff.rfl⟩) (by decide) (h78.no f47 (by decide)) h85 (by simp [jcnt]) q273 (by decide) ⟨Nat.le_of_ble_eq_true rfl, Nat.le_of_ble_eq_true rfl⟩ dX9_init_65 fun z88 w87 => ?_
  refine J.cv (lv' := [(0, .ref ((jbn B79 47 0 z88).1 1 0))]) (st' := [.ref ((jbn B79 47 0 z88).1 47 0), .ref ((jbn B79 47 0 z88).1 1 0)]) rfl rfl ?_
  have h89 : j_ext B (jbn B79 47 0 z88) := (h77.tr (jbn_ext (h78.no f47 (by decide))))
  have h90 := ((jadd.n h78) : jadd B _ (jbn B79 47 0 z88))
  have h92 : (jbn B79 47 0 z88).2.1 1 0 ∧ True := (jbn_oldh h80)
  have h93 : (jbn B79 47 0 z88).2.1 47 0 ∧ True := jbn_alh
  have h94 : (jbn B79 47 0 z88).2.1 1 0 ∧ True := (jbn_oldh h80)
  have h95 : ¬ (jbn B79 47 0 z88).2.2 1 0 := h83
  generalize jbn B79 47 0 z88 = B91 at h89 h90 h92 h93 h94 h95 ⊢
  refine J.putFr (κ' := 47) (κ := 1) (i := 0) (v := 0) (k := 22) hx hnm rfl rfl rfl rfl in_X9 tyX9_ok nmX9 (by decide) q1675 rfl rfl rfl h94.1 (fun _ => ⟨rfl, rfl⟩) h93.1 h95 dX9_init_67 fun w96 => ?_
  refine J.aload_n hx dX9_init_70 rfl 0 rfl ?_
  refine J.iconst (v := 2) hx dX9_init_71 (by decide) ?_
  refine J.fact (P := ¬ B91.2.2 48 0) (fun H hR z => (h90.no f48 (by decide)) (hR.2.2.2.2.2.2.2.2.1 _ _ z)) fun h97 => ?_
  refine J.newa (κ := 48) (i := 0) (m := 0) (n := 2) (ty := .int) hx ⟨by decide, by decide⟩ rfl rfl (fun _ _ => rfl) (by decide) rfl (by decide) (by decide) rfl (fun _ => ⟨Iff.rfl, Iff.rfl⟩) (by decide) (h90.no f48 (by decide)) h97 (by simp [jcnt]) q273 (by decide) ⟨Nat.le_of_ble_eq_true rfl, Nat.le_of_ble_eq_true rfl⟩ dX9_init_72 fun z100 w99 => ?_
  refine J.cv (lv' := [(0, .ref ((jbn B91 48 0 z100).1 1 0))]) (st' := [.ref ((jbn B91 48 0 z100).1 48 0), .ref ((jbn B91 48 0 z100).1 1 0)]) rfl rfl ?_
  have h101 : j_ext B (jbn B91 48 0 z100) := (h89.tr (jbn_ext (h90.no f48 (by decide))))
  have h102 := ((jadd.n h90) : jadd B _ (jbn B91 48 0 z100))
  have h104 : (jbn B91 48 0 z100).2.1 1 0 ∧ True := (jbn_oldh h92)
  have h105 : (jbn B91 48 0 z100).2.1 48 0 ∧ True := jbn_alh
  have h106 : (jbn B91 48 0 z100).2.1 1 0 ∧ True := (jbn_oldh h92)
  have h107 : ¬ (jbn B91 48 0 z100).2.2 1 0 := h95
  generalize jbn B91 48 0 z100 = B103 at h101 h102 h104 h105 h106 h107 ⊢
  refine J.putFr (κ' := 48) (κ := 1) (i := 0) (v := 0) (k := 23) hx hnm rfl rfl rfl rfl in_X9 tyX9_ok nmX9 (by decide) q1676 rfl rfl rfl h106.1 (fun _ => ⟨rfl, rfl⟩) h105.1 h107 dX9_init_74 fun w108 => ?_
  refine J.aload_n hx dX9_init_77 rfl 0 rfl ?_
  refine J.bipush (v := 8) hx dX9_init_78 (by decide) ?_
  refine J.fact (P := ¬ B103.2.2 49 0) (fun H hR z => (h102.no f49 (by decide)) (hR.2.2.2.2.2.2.2.2.1 _ _ z)) fun h109 => ?_
  refine J.newa (κ := 49) (i := 0) (m := 0) (n := 8) (ty := .int) hx ⟨by decide, by decide⟩ rfl rfl (fun _ _ => rfl) (by decide) rfl (by decide) (by decide) rfl (fun _ => ⟨Iff.rfl, Iff.rfl⟩) (by decide) (h102.no f49 (by decide)) h109 (by simp [jcnt]) q273 (by decide) ⟨Nat.le_of_ble_eq_true rfl, Nat.le_of_ble_eq_true rfl⟩ dX9_init_80 fun z112 w111 => ?_
  refine J.cv (lv' := [(0, .ref ((jbn B103 49 0 z112).1 1 0))]) (st' := [.ref ((jbn B103 49 0 z112).1 49 0), .ref ((jbn B103 49 0 z112).1 1 0)]) rfl rfl ?_
  have h113 : j_ext B (jbn B103 49 0 z112) := (h101.tr (jbn_ext (h102.no f49 (by decide))))
  have h114 := ((jadd.n h102) : jadd B _ (jbn B103 49 0 z112))
  have h116 : (jbn B103 49 0 z112).2.1 1 0 ∧ True := (jbn_oldh h104)
  have h117 : (jbn B103 49 0 z112).2.1 49 0 ∧ True := jbn_alh
  have h118 : (jbn B103 49 0 z112).2.1 1 0 ∧ True := (jbn_oldh h104)
  have h119 : ¬ (jbn B103 49 0 z112).2.2 1 0 := h107
  generalize jbn B103 49 0 z112 = B115 at h113 h114 h116 h117 h118 h119 ⊢
  refine J.putFr (κ' := 49) (κ := 1) (i := 0) (v := 0) (k := 24) hx hnm rfl rfl rfl rfl in_X9 tyX9_ok nmX9 (by decide) q1677 rfl rfl rfl h118.1 (fun _ => ⟨rfl, rfl⟩) h117.1 h119 dX9_init_82 fun w120 => ?_
  refine J.aload_n hx dX9_init_85 rfl 0 rfl ?_
  refine J.bipush (v := 8) hx dX9_init_86 (by decide) ?_
  refine J.fact (P := ¬ B115.2.2 50 0) (fun H hR z => (h114.no f50 (by decide)) (hR.2.2.2.2.2.2.2.2.1 _ _ z)) fun h121 => ?_
  refine J.newa (κ := 50) (i := 0) (m := 0) (n := 8) (ty := .int) hx ⟨by decide, by decide⟩ rfl rfl (fun _ _ => rfl) (by decide) rfl (by decide) (by decide) rfl (fun _ => ⟨Iff.rfl, Iff.rfl⟩) (by decide) (h114.no f50 (by decide)) h121 (by simp [jcnt]) q273 (by decide) ⟨Nat.le_of_ble_eq_true rfl, Nat.le_of_ble_eq_true rfl⟩ dX9_init_88 fun z124 w123 => ?_
  refine J.cv (lv' := [(0, .ref ((jbn B115 50 0 z124).1 1 0))]) (st' := [.ref ((jbn B115 50 0 z124).1 50 0), .ref ((jbn B115 50 0 z124).1 1 0)]) rfl rfl ?_
  have h125 : j_ext B (jbn B115 50 0 z124) := (h113.tr (jbn_ext (h114.no f50 (by decide))))
  have h126 := ((jadd.n h114) : jadd B _ (jbn B115 50 0 z124))
  have h128 : (jbn B115 50 0 z124).2.1 1 0 ∧ True := (jbn_oldh h116)
  have h129 : (jbn B115 50 0 z124).2.1 50 0 ∧ True := jbn_alh
  have h130 : (jbn B115 50 0 z124).2.1 1 0 ∧ True := (jbn_oldh h116)
  have h131 : ¬ (jbn B115 50 0 z124).2.2 1 0 := h119
  generalize jbn B115 50 0 z124 = B127 at h125 h126 h128 h129 h130 h131 ⊢
  refine J.putFr (κ' := 50) (κ := 1) (i := 0) (v := 0) (k := 25) hx hnm rfl rfl rfl rfl in_X9 tyX9_ok nmX9 (by decide) q1678 rfl rfl rfl h130.1 (fun _ => ⟨rfl, rfl⟩) h129.1 h131 dX9_init_90 fun w132 => ?_
  refine J.aload_n hx dX9_init_93 rfl 0 rfl ?_
  refine J.bipush (v := 8) hx dX9_init_94 (by decide) ?_
  refine J.fact (P := ¬ B127.2.2 51 0) (fun H hR z => (h126.no f51 (by decide)) (hR.2.2.2.2.2.2.2.2.1 _ _ z)) fun h133 => ?_
  refine J.newa (κ := 51) (i := 0) (m := 0) (n := 8) (ty := .long) hx ⟨by decide, by decide⟩ rfl rfl (fun _ _ => rfl) (by decide) rfl (by decide) (by decide) rfl (fun _ => ⟨Iff.rfl, Iff.rfl⟩) (by decide) (h126.no f51 (by decide)) h133 (by simp [jcnt]) q1810 (by decide) ⟨Nat.le_of_ble_eq_true rfl, Nat.le_of_ble_eq_true rfl⟩ dX9_init_96 fun z136 w135 => ?_
  refine J.cv (lv' := [(0, .ref ((jbn B127 51 0 z136).1 1 0))]) (st' := [.ref ((jbn B127 51 0 z136).1 51 0), .ref ((jbn B127 51 0 z136).1 1 0)]) rfl rfl ?_
  have h137 : j_ext B (jbn B127 51 0 z136) := (h125.tr (jbn_ext (h126.no f51 (by decide))))
  have h138 := ((jadd.n h126) : jadd B _ (jbn B127 51 0 z136))
  have h140 : (jbn B127 51 0 z136).2.1 1 0 ∧ True := (jbn_oldh h128)
  have h141 : (jbn B127 51 0 z136).2.1 51 0 ∧ True := jbn_alh
  have h142 : (jbn B127 51 0 z136).2.1 1 0 ∧ True := (jbn_oldh h128)
  have h143 : ¬ (jbn B127 51 0 z136).2.2 1 0 := h131
  generalize jbn B127 51 0 z136 = B139 at h137 h138 h140 h141 h142 h143 ⊢
  refine J.putFr (κ' := 51) (κ := 1) (i := 0) (v := 0) (k := 26) hx hnm rfl rfl rfl rfl in_X9 tyX9_ok nmX9 (by decide) q1679 rfl rfl rfl h142.1 (fun _ => ⟨rfl, rfl⟩) h141.1 h143 dX9_init_98 fun w144 => ?_
  refine J.aload_n hx dX9_init_101 rfl 0 rfl ?_
  refine J.bipush (v := 48) hx dX9_init_102 (by decide) ?_
  refine J.fact (P := ¬ B139.2.2 52 0) (fun H hR z => (h138.no f52 (by decide)) (hR.2.2.2.2.2.2.2.2.1 _ _ z)) fun h145 => ?_
  refine J.newa (κ := 52) (i := 0) (m := 0) (n := 48) (ty := .int) hx ⟨by decide, by decide⟩ rfl rfl (fun _ _ => rfl) (by decide) rfl (by decide) (by decide) rfl (fun _ => ⟨Iff.rfl, Iff.rfl⟩) (by decide) (h138.no f52 (by decide)) h145 (by simp [jcnt]) q273 (by decide) ⟨Nat.le_of_ble_eq_true rfl, Nat.le_of_ble_eq_true rfl⟩ dX9_init_104 fun z148 w147 => ?_
  refine J.cv (lv' := [(0, .ref ((jbn B139 52 0 z148).1 1 0))]) (st' := [.ref ((jbn B139 52 0 z148).1 52 0), .ref ((jbn B139 52 0 z148).1 1 0)]) rfl rfl ?_
  have h149 : j_ext B (jbn B139 52 0 z148) := (h137.tr (jbn_ext (h138.no f52 (by decide))))
  have h150 := ((jadd.n h138) : jadd B _ (jbn B139 52 0 z148))
  have h152 : (jbn B139 52 0 z148).2.1 1 0 ∧ True := (jbn_oldh h140)
  have h153 : (jbn B139 52 0 z148).2.1 52 0 ∧ True := jbn_alh
  have h154 : (jbn B139 52 0 z148).2.1 1 0 ∧ True := (jbn_oldh h140)
  have h155 : ¬ (jbn B139 52 0 z148).2.2 1 0 := h143
  generalize jbn B139 52 0 z148 = B151 at h149 h150 h152 h153 h154 h155 ⊢
  refine J.putFr (κ' := 52) (κ := 1) (i := 0) (v := 0) (k := 30) hx hnm rfl rfl rfl rfl in_X9 tyX9_ok nmX9 (by decide) q1683 rfl rfl rfl h154.1 (fun _ => ⟨rfl, rfl⟩) h153.1 h155 dX9_init_106 fun w156 => ?_
  refine J.aload_n hx dX9_init_109 rfl 0 rfl ?_
  refine J.bipush (v := 48) hx dX9_init_110 (by decide) ?_
  refine J.fact (P := ¬ B151.2.2 53 0) (fun H hR z => (h150.no f53 (by decide)) (hR.2.2.2.2.2.2.2.2.1 _ _ z)) fun h157 => ?_
  refine J.newa (κ := 53) (i := 0) (m := 0) (n := 48) (ty := .int) hx ⟨by decide, by decide⟩ rfl rfl (fun _ _ => rfl) (by decide) rfl (by decide) (by decide) rfl (fun _ => ⟨Iff.rfl, Iff.rfl⟩) (by decide) (h150.no f53 (by decide)) h157 (by simp [jcnt]) q273 (by decide) ⟨Nat.le_of_ble_eq_true rfl, Nat.le_of_ble_eq_true rfl⟩ dX9_init_112 fun z160 w159 => ?_
  refine J.cv (lv' := [(0, .ref ((jbn B151 53 0 z160).1 1 0))]) (st' := [.ref ((jbn B151 53 0 z160).1 53 0), .ref ((jbn B151 53 0 z160).1 1 0)]) rfl rfl ?_
  have h161 : j_ext B (jbn B151 53 0 z160) := (h149.tr (jbn_ext (h150.no f53 (by decide))))
  have h162 := ((jadd.n h150) : jadd B _ (jbn B151 53 0 z160))
  have h164 : (jbn B151 53 0 z160).2.1 1 0 ∧ True := (jbn_oldh h152)
  have h165 : (jbn B151 53 0 z160).2.1 53 0 ∧ True := jbn_alh
  have h166 : (jbn B151 53 0 z160).2.1 1 0 ∧ True := (jbn_oldh h152)
  have h167 : ¬ (jbn B151 53 0 z160).2.2 1 0 := h155
  generalize jbn B151 53 0 z160 = B163 at h161 h162 h164 h165 h166 h167 ⊢
  refine J.putFr (κ' := 53) (κ := 1) (i := 0) (v := 0) (k := 31) hx hnm rfl rfl rfl rfl in_X9 tyX9_ok nmX9 (by decide) q1684 rfl rfl rfl h166.1 (fun _ => ⟨rfl, rfl⟩) h165.1 h167 dX9_init_114 fun w168 => ?_
  refine J.aload_n hx dX9_init_117 rfl 0 rfl ?_
  refine J.bipush (v := 48) hx dX9_init_118 (by decide) ?_
  refine J.fact (P := ¬ B163.2.2 54 0) (fun H hR z => (h162.no f54 (by decide)) (hR.2.2.2.2.2.2.2.2.1 _ _ z)) fun h169 => ?_
  refine J.newa (κ := 54) (i := 0) (m := 0) (n := 48) (ty := .int) hx ⟨by decide, by decide⟩ rfl rfl (fun _ _ => rfl) (by decide) rfl (by decide) (by decide) rfl (fun _ => ⟨Iff.rfl, Iff.rfl⟩) (by decide) (h162.no f54 (by decide)) h169 (by simp [jcnt]) q273 (by decide) ⟨Nat.le_of_ble_eq_true rfl, Nat.le_of_ble_eq_true rfl⟩ dX9_init_120 fun z172 w171 => ?_
  refine J.cv (lv' := [(0, .ref ((jbn B163 54 0 z172).1 1 0))]) (st' := [.ref ((jbn B163 54 0 z172).1 54 0), .ref ((jbn B163 54 0 z172).1 1 0)]) rfl rfl ?_
  have h173 : j_ext B (jbn B163 54 0 z172) := (h161.tr (jbn_ext (h162.no f54 (by decide))))
  have h174 := ((jadd.n h162) : jadd B _ (jbn B163 54 0 z172))
  have h176 : (jbn B163 54 0 z172).2.1 1 0 ∧ True := (jbn_oldh h164)
  have h177 : (jbn B163 54 0 z172).2.1 54 0 ∧ True := jbn_alh
  have h178 : (jbn B163 54 0 z172).2.1 1 0 ∧ True := (jbn_oldh h164)
  have h179 : ¬ (jbn B163 54 0 z172).2.2 1 0 := h167
  generalize jbn B163 54 0 z172 = B175 at h173 h174 h176 h177 h178 h179 ⊢
  refine J.putFr (κ' := 54) (κ := 1) (i := 0) (v := 0) (k := 32) hx hnm rfl rfl rfl rfl in_X9 tyX9_ok nmX9 (by decide) q1685 rfl rfl rfl h178.1 (fun _ => ⟨rfl, rfl⟩) h177.1 h179 dX9_init_122 fun w180 => ?_
  refine J.aload_n hx dX9_init_125 rfl 0 rfl ?_
  refine J.bipush (v := 48) hx dX9_init_126 (by decide) ?_
  refine J.fact (P := ¬ B175.2.2 55 0) (fun H hR z => (h174.no f55 (by decide)) (hR.2.2.2.2.2.2.2.2.1 _ _ z)) fun h181 => ?_
  refine J.newa (κ := 55) (i := 0) (m := 0) (n := 48) (ty := .int) hx ⟨by decide, by decide⟩ rfl rfl (fun _ _ => rfl) (by decide) rfl (by decide) (by decide) rfl (fun _ => ⟨Iff.rfl, Iff.rfl⟩) (by decide) (h174.no f55 (by decide)) h181 (by simp [jcnt]) q273 (by decide) ⟨Nat.le_of_ble_eq_true rfl, Nat.le_of_ble_eq_true rfl⟩ dX9_init_128 fun z184 w183 => ?_
  refine J.cv (lv' := [(0, .ref ((jbn B175 55 0 z184).1 1 0))]) (st' := [.ref ((jbn B175 55 0 z184).1 55 0), .ref ((jbn B175 55 0 z184).1 1 0)]) rfl rfl ?_
  have h185 : j_ext B (jbn B175 55 0 z184) := (h173.tr (jbn_ext (h174.no f55 (by decide))))
  have h186 := ((jadd.n h174) : jadd B _ (jbn B175 55 0 z184))
  have h188 : (jbn B175 55 0 z184).2.1 1 0 ∧ True := (jbn_oldh h176)
  have h189 : (jbn B175 55 0 z184).2.1 55 0 ∧ True := jbn_alh
  have h190 : (jbn B175 55 0 z184).2.1 1 0 ∧ True := (jbn_oldh h176)
  have h191 : ¬ (jbn B175 55 0 z184).2.2 1 0 := h179
  generalize jbn B175 55 0 z184 = B187 at h185 h186 h188 h189 h190 h191 ⊢
  refine J.putFr (κ' := 55) (κ := 1) (i := 0) (v := 0) (k := 33) hx hnm rfl rfl rfl rfl in_X9 tyX9_ok nmX9 (by decide) q1686 rfl rfl rfl h190.1 (fun _ => ⟨rfl, rfl⟩) h189.1 h191 dX9_init_130 fun w192 => ?_
  refine J.aload_n hx dX9_init_133 rfl 0 rfl ?_
  refine J.bipush (v := 48) hx dX9_init_134 (by decide) ?_
  refine J.fact (P := ¬ B187.2.2 56 0) (fun H hR z => (h186.no f56 (by decide)) (hR.2.2.2.2.2.2.2.2.1 _ _ z)) fun h193 => ?_
  refine J.newa (κ := 56) (i := 0) (m := 0) (n := 48) (ty := .int) hx ⟨by decide, by decide⟩ rfl rfl (fun _ _ => rfl) (by decide) rfl (by decide) (by decide) rfl (fun _ => ⟨Iff.rfl, Iff.rfl⟩) (by decide) (h186.no f56 (by decide)) h193 (by simp [jcnt]) q273 (by decide) ⟨Nat.le_of_ble_eq_true rfl, Nat.le_of_ble_eq_true rfl⟩ dX9_init_136 fun z196 w195 => ?_
  refine J.cv (lv' := [(0, .ref ((jbn B187 56 0 z196).1 1 0))]) (st' := [.ref ((jbn B187 56 0 z196).1 56 0), .ref ((jbn B187 56 0 z196).1 1 0)]) rfl rfl ?_
  have h197 : j_ext B (jbn B187 56 0 z196) := (h185.tr (jbn_ext (h186.no f56 (by decide))))
  have h198 := ((jadd.n h186) : jadd B _ (jbn B187 56 0 z196))
  have h200 : (jbn B187 56 0 z196).2.1 1 0 ∧ True := (jbn_oldh h188)
  have h201 : (jbn B187 56 0 z196).2.1 56 0 ∧ True := jbn_alh
  have h202 : (jbn B187 56 0 z196).2.1 1 0 ∧ True := (jbn_oldh h188)
  have h203 : ¬ (jbn B187 56 0 z196).2.2 1 0 := h191
  generalize jbn B187 56 0 z196 = B199 at h197 h198 h200 h201 h202 h203 ⊢
  refine J.putFr (κ' := 56) (κ := 1) (i := 0) (v := 0) (k := 34) hx hnm rfl rfl rfl rfl in_X9 tyX9_ok nmX9 (by decide) q1687 rfl rfl rfl h202.1 (fun _ => ⟨rfl, rfl⟩) h201.1 h203 dX9_init_138 fun w204 => ?_
  refine J.aload_n hx dX9_init_141 rfl 0 rfl ?_
  refine J.bipush (v := 48) hx dX9_init_142 (by decide) ?_
  refine J.fact (P := ¬ B199.2.2 57 0) (fun H hR z => (h198.no f57 (by decide)) (hR.2.2.2.2.2.2.2.2.1 _ _ z)) fun h205 => ?_
  refine J.newa (κ := 57) (i := 0) (m := 0) (n := 48) (ty := .int) hx ⟨by decide, by decide⟩ rfl rfl (fun _ _ => rfl) (by decide) rfl (by decide) (by decide) rfl (fun _ => ⟨Iff.rfl, Iff.rfl⟩) (by decide) (h198.no f57 (by decide)) h205 (by simp [jcnt]) q273 (by decide) ⟨Nat.le_of_ble_eq_true rfl, Nat.le_of_ble_eq_true rfl⟩ dX9_init_144 fun z208 w207 => ?_
  refine J.cv (lv' := [(0, .ref ((jbn B199 57 0 z208).1 1 0))]) (st' := [.ref ((jbn B199 57 0 z208).1 57 0), .ref ((jbn B199 57 0 z208).1 1 0)]) rfl rfl ?_
  have h209 : j_ext B (jbn B199 57 0 z208) := (h197.tr (jbn_ext (h198.no f57 (by decide))))
  have h210 := ((jadd.n h198) : jadd B _ (jbn B199 57 0 z208))
  have h212 : (jbn B199 57 0 z208).2.1 1 0 ∧ True := (jbn_oldh h200)
  have h213 : (jbn B199 57 0 z208).2.1 57 0 ∧ True := jbn_alh
  have h214 : (jbn B199 57 0 z208).2.1 1 0 ∧ True := (jbn_oldh h200)
  have h215 : ¬ (jbn B199 57 0 z208).2.2 1 0 := h203
  generalize jbn B199 57 0 z208 = B211 at h209 h210 h212 h213 h214 h215 ⊢
  refine J.putFr (κ' := 57) (κ := 1) (i := 0) (v := 0) (k := 36) hx hnm rfl rfl rfl rfl in_X9 tyX9_ok nmX9 (by decide) q1689 rfl rfl rfl h214.1 (fun _ => ⟨rfl, rfl⟩) h213.1 h215 dX9_init_146 fun w216 => ?_
  refine J.aload_n hx dX9_init_149 rfl 0 rfl ?_
  refine J.bipush (v := 48) hx dX9_init_150 (by decide) ?_
  refine J.fact (P := ¬ B211.2.2 58 0) (fun H hR z => (h210.no f58 (by decide)) (hR.2.2.2.2.2.2.2.2.1 _ _ z)) fun h217 => ?_
  refine J.newa (κ := 58) (i := 0) (m := 0) (n := 48) (ty := .int) hx ⟨by decide, by decide⟩ rfl rfl (fun _ _ => rfl) (by decide) rfl (by decide) (by decide) rfl (fun _ => ⟨Iff.rfl, Iff.rfl⟩) (by decide) (h210.no f58 (by decide)) h217 (by simp [jcnt]) q273 (by decide) ⟨Nat.le_of_ble_eq_true rfl, Nat.le_of_ble_eq_true rfl⟩ dX9_init_152 fun z220 w219 => ?_
  refine J.cv (lv' := [(0, .ref ((jbn B211 58 0 z220).1 1 0))]) (st' := [.ref ((jbn B211 58 0 z220).1 58 0), .ref ((jbn B211 58 0 z220).1 1 0)]) rfl rfl ?_
  have h221 : j_ext B (jbn B211 58 0 z220) := (h209.tr (jbn_ext (h210.no f58 (by decide))))
  have h222 := ((jadd.n h210) : jadd B _ (jbn B211 58 0 z220))
  have h224 : (jbn B211 58 0 z220).2.1 1 0 ∧ True := (jbn_oldh h212)
  have h225 : (jbn B211 58 0 z220).2.1 58 0 ∧ True := jbn_alh
  have h226 : (jbn B211 58 0 z220).2.1 1 0 ∧ True := (jbn_oldh h212)
  have h227 : ¬ (jbn B211 58 0 z220).2.2 1 0 := h215
  generalize jbn B211 58 0 z220 = B223 at h221 h222 h224 h225 h226 h227 ⊢
  refine J.putFr (κ' := 58) (κ := 1) (i := 0) (v := 0) (k := 37) hx hnm rfl rfl rfl rfl in_X9 tyX9_ok nmX9 (by decide) q1690 rfl rfl rfl h226.1 (fun _ => ⟨rfl, rfl⟩) h225.1 h227 dX9_init_154 fun w228 => ?_
  refine J.aload_n hx dX9_init_157 rfl 0 rfl ?_
  refine J.bipush (v := 48) hx dX9_init_158 (by decide) ?_
  refine J.fact (P := ¬ B223.2.2 59 0) (fun H hR z => (h222.no f59 (by decide)) (hR.2.2.2.2.2.2.2.2.1 _ _ z)) fun h229 => ?_
  refine J.newa (κ := 59) (i := 0) (m := 0) (n := 48) (ty := .int) hx ⟨by decide, by decide⟩ rfl rfl (fun _ _ => rfl) (by decide) rfl (by decide) (by decide) rfl (fun _ => ⟨Iff.rfl, Iff.rfl⟩) (by decide) (h222.no f59 (by decide)) h229 (by simp [jcnt]) q273 (by decide) ⟨Nat.le_of_ble_eq_true rfl, Nat.le_of_ble_eq_true rfl⟩ dX9_init_160 fun z232 w231 => ?_
  refine J.cv (lv' := [(0, .ref ((jbn B223 59 0 z232).1 1 0))]) (st' := [.ref ((jbn B223 59 0 z232).1 59 0), .ref ((jbn B223 59 0 z232).1 1 0)]) rfl rfl ?_
  have h233 : j_ext B (jbn B223 59 0 z232) := (h221.tr (jbn_ext (h222.no f59 (by decide))))
  have h234 := ((jadd.n h222) : jadd B _ (jbn B223 59 0 z232))
  have h236 : (jbn B223 59 0 z232).2.1 1 0 ∧ True := (jbn_oldh h224)
  have h237 : (jbn B223 59 0 z232).2.1 59 0 ∧ True := jbn_alh
  have h238 : (jbn B223 59 0 z232).2.1 1 0 ∧ True := (jbn_oldh h224)
  have h239 : ¬ (jbn B223 59 0 z232).2.2 1 0 := h227
  generalize jbn B223 59 0 z232 = B235 at h233 h234 h236 h237 h238 h239 ⊢
  refine J.putFr (κ' := 59) (κ := 1) (i := 0) (v := 0) (k := 39) hx hnm rfl rfl rfl rfl in_X9 tyX9_ok nmX9 (by decide) q1692 rfl rfl rfl h238.1 (fun _ => ⟨rfl, rfl⟩) h237.1 h239 dX9_init_162 fun w240 => ?_
  refine J.aload_n hx dX9_init_165 rfl 0 rfl ?_
  refine J.bipush (v := 8) hx dX9_init_166 (by decide) ?_
  refine J.fact (P := ¬ B235.2.2 60 0) (fun H hR z => (h234.no f60 (by decide)) (hR.2.2.2.2.2.2.2.2.1 _ _ z)) fun h241 => ?_
  refine J.newa (κ := 60) (i := 0) (m := 0) (n := 8) (ty := .int) hx ⟨by decide, by decide⟩ rfl rfl (fun _ _ => rfl) (by decide) rfl (by decide) (by decide) rfl (fun _ => ⟨Iff.rfl, Iff.rfl⟩) (by decide) (h234.no f60 (by decide)) h241 (by simp [jcnt]) q273 (by decide) ⟨Nat.le_of_ble_eq_true rfl, Nat.le_of_ble_eq_true rfl⟩ dX9_init_168 fun z244 w243 => ?_
  refine J.cv (lv' := [(0, .ref ((jbn B235 60 0 z244).1 1 0))]) (st' := [.ref ((jbn B235 60 0 z244).1 60 0), .ref ((jbn B235 60 0 z244).1 1 0)]) rfl rfl ?_
  have h245 : j_ext B (jbn B235 60 0 z244) := (h233.tr (jbn_ext (h234.no f60 (by decide))))
  have h246 := ((jadd.n h234) : jadd B _ (jbn B235 60 0 z244))
  have h248 : (jbn B235 60 0 z244).2.1 1 0 ∧ True := (jbn_oldh h236)
  have h249 : (jbn B235 60 0 z244).2.1 60 0 ∧ True := jbn_alh
  have h250 : (jbn B235 60 0 z244).2.1 1 0 ∧ True := (jbn_oldh h236)
  have h251 : ¬ (jbn B235 60 0 z244).2.2 1 0 := h239
  generalize jbn B235 60 0 z244 = B247 at h245 h246 h248 h249 h250 h251 ⊢
  refine J.putFr (κ' := 60) (κ := 1) (i := 0) (v := 0) (k := 40) hx hnm rfl rfl rfl rfl in_X9 tyX9_ok nmX9 (by decide) q1693 rfl rfl rfl h250.1 (fun _ => ⟨rfl, rfl⟩) h249.1 h251 dX9_init_170 fun w252 => ?_
  refine J.aload_n hx dX9_init_173 rfl 0 rfl ?_
  refine J.bipush (v := 48) hx dX9_init_174 (by decide) ?_
  refine J.fact (P := ¬ B247.2.2 61 0) (fun H hR z => (h246.no f61 (by decide)) (hR.2.2.2.2.2.2.2.2.1 _ _ z)) fun h253 => ?_
  refine J.newa (κ := 61) (i := 0) (m := 0) (n := 48) (ty := .int) hx ⟨by decide, by decide⟩ rfl rfl (fun _ _ => rfl) (by decide) rfl (by decide) (by decide) rfl (fun _ => ⟨Iff.rfl, Iff.rfl⟩) (by decide) (h246.no f61 (by decide)) h253 (by simp [jcnt]) q273 (by decide) ⟨Nat.le_of_ble_eq_true rfl, Nat.le_of_ble_eq_true rfl⟩ dX9_init_176 fun z256 w255 => ?_
  refine J.cv (lv' := [(0, .ref ((jbn B247 61 0 z256).1 1 0))]) (st' := [.ref ((jbn B247 61 0 z256).1 61 0), .ref ((jbn B247 61 0 z256).1 1 0)]) rfl rfl ?_
  have h257 : j_ext B (jbn B247 61 0 z256) := (h245.tr (jbn_ext (h246.no f61 (by decide))))
  have h258 := ((jadd.n h246) : jadd B _ (jbn B247 61 0 z256))
  have h260 : (jbn B247 61 0 z256).2.1 1 0 ∧ True := (jbn_oldh h248)
  have h261 : (jbn B247 61 0 z256).2.1 61 0 ∧ True := jbn_alh
  have h262 : (jbn B247 61 0 z256).2.1 1 0 ∧ True := (jbn_oldh h248)
  have h263 : ¬ (jbn B247 61 0 z256).2.2 1 0 := h251
  generalize jbn B247 61 0 z256 = B259 at h257 h258 h260 h261 h262 h263 ⊢
  refine J.putFr (κ' := 61) (κ := 1) (i := 0) (v := 0) (k := 42) hx hnm rfl rfl rfl rfl in_X9 tyX9_ok nmX9 (by decide) q1695 rfl rfl rfl h262.1 (fun _ => ⟨rfl, rfl⟩) h261.1 h263 dX9_init_178 fun w264 => ?_
  refine J.aload_n hx dX9_init_181 rfl 0 rfl ?_
  refine J.sipush (v := 9240) hx dX9_init_182 (by decide) ?_
  refine J.fact (P := ¬ B259.2.2 62 0) (fun H hR z => (h258.no f62 (by decide)) (hR.2.2.2.2.2.2.2.2.1 _ _ z)) fun h265 => ?_
  refine J.newa (κ := 62) (i := 0) (m := 0) (n := 9240) (ty := .int) hx ⟨by decide, by decide⟩ rfl rfl (fun _ _ => rfl) (by decide) rfl (by decide) (by decide) rfl (fun _ => ⟨Iff.rfl, Iff.rfl⟩) (by decide) (h258.no f62 (by decide)) h265 (by simp [jcnt]) q273 (by decide) ⟨Nat.le_of_ble_eq_true rfl, Nat.le_of_ble_eq_true rfl⟩ dX9_init_185 fun z268 w267 => ?_
  refine J.cv (lv' := [(0, .ref ((jbn B259 62 0 z268).1 1 0))]) (st' := [.ref ((jbn B259 62 0 z268).1 62 0), .ref ((jbn B259 62 0 z268).1 1 0)]) rfl rfl ?_
  have h269 : j_ext B (jbn B259 62 0 z268) := (h257.tr (jbn_ext (h258.no f62 (by decide))))
  have h270 := ((jadd.n h258) : jadd B _ (jbn B259 62 0 z268))
  have h272 : (jbn B259 62 0 z268).2.1 1 0 ∧ True := (jbn_oldh h260)
  have h273 : (jbn B259 62 0 z268).2.1 62 0 ∧ True := jbn_alh
  have h274 : (jbn B259 62 0 z268).2.1 1 0 ∧ True := (jbn_oldh h260)
  have h275 : ¬ (jbn B259 62 0 z268).2.2 1 0 := h263
  generalize jbn B259 62 0 z268 = B271 at h269 h270 h272 h273 h274 h275 ⊢
  refine J.putFr (κ' := 62) (κ := 1) (i := 0) (v := 0) (k := 43) hx hnm rfl rfl rfl rfl in_X9 tyX9_ok nmX9 (by decide) q1696 rfl rfl rfl h274.1 (fun _ => ⟨rfl, rfl⟩) h273.1 h275 dX9_init_187 fun w276 => ?_
  refine J.aload_n hx dX9_init_190 rfl 0 rfl ?_
  refine J.sipush (v := 231) hx dX9_init_191 (by decide) ?_
  refine J.fact (P := ¬ B271.2.2 63 0) (fun H hR z => (h270.no f63 (by decide)) (hR.2.2.2.2.2.2.2.2.1 _ _ z)) fun h277 => ?_
  refine J.newa (κ := 63) (i := 0) (m := 0) (n := 231) (ty := .int) hx ⟨by decide, by decide⟩ rfl rfl (fun _ _ => rfl) (by decide) rfl (by decide) (by decide) rfl (fun _ => ⟨Iff.rfl, Iff.rfl⟩) (by decide) (h270.no f63 (by decide)) h277 (by simp [jcnt]) q273 (by decide) ⟨Nat.le_of_ble_eq_true rfl, Nat.le_of_ble_eq_true rfl⟩ dX9_init_194 fun z280 w279 => ?_
  refine J.cv (lv' := [(0, .ref ((jbn B271 63 0 z280).1 1 0))]) (st' := [.ref ((jbn B271 63 0 z280).1 63 0), .ref ((jbn B271 63 0 z280).1 1 0)]) rfl rfl ?_
  have h281 : j_ext B (jbn B271 63 0 z280) := (h269.tr (jbn_ext (h270.no f63 (by decide))))
  have h282 := ((jadd.n h270) : jadd B _ (jbn B271 63 0 z280))
  have h284 : (jbn B271 63 0 z280).2.1 1 0 ∧ True := (jbn_oldh h272)
  have h285 : (jbn B271 63 0 z280).2.1 63 0 ∧ True := jbn_alh
  have h286 : (jbn B271 63 0 z280).2.1 1 0 ∧ True := (jbn_oldh h272)
  have h287 : ¬ (jbn B271 63 0 z280).2.2 1 0 := h275
  generalize jbn B271 63 0 z280 = B283 at h281 h282 h284 h285 h286 h287 ⊢
  refine J.putFr (κ' := 63) (κ := 1) (i := 0) (v := 0) (k := 46) hx hnm rfl rfl rfl rfl in_X9 tyX9_ok nmX9 (by decide) q1699 rfl rfl rfl h286.1 (fun _ => ⟨rfl, rfl⟩) h285.1 h287 dX9_init_196 fun w288 => ?_
  refine J.aload_n hx dX9_init_199 rfl 0 rfl ?_
  refine J.bipush (v := 50) hx dX9_init_200 (by decide) ?_
  refine J.fact (P := ¬ B283.2.2 64 0) (fun H hR z => (h282.no f64 (by decide)) (hR.2.2.2.2.2.2.2.2.1 _ _ z)) fun h289 => ?_
  refine J.newa (κ := 64) (i := 0) (m := 0) (n := 50) (ty := .int) hx ⟨by decide, by decide⟩ rfl rfl (fun _ _ => rfl) (by decide) rfl (by decide) (by decide) rfl (fun _ => ⟨Iff.rfl, Iff.rfl⟩) (by decide) (h282.no f64 (by decide)) h289 (by simp [jcnt]) q273 (by decide) ⟨Nat.le_of_ble_eq_true rfl, Nat.le_of_ble_eq_true rfl⟩ dX9_init_202 fun z292 w291 => ?_
  refine J.cv (lv' := [(0, .ref ((jbn B283 64 0 z292).1 1 0))]) (st' := [.ref ((jbn B283 64 0 z292).1 64 0), .ref ((jbn B283 64 0 z292).1 1 0)]) rfl rfl ?_
  have h293 : j_ext B (jbn B283 64 0 z292) := (h281.tr (jbn_ext (h282.no f64 (by decide))))
  have h294 := ((jadd.n h282) : jadd B _ (jbn B283 64 0 z292))
  have h296 : (jbn B283 64 0 z292).2.1 1 0 ∧ True := (jbn_oldh h284)
  have h297 : (jbn B283 64 0 z292).2.1 64 0 ∧ True := jbn_alh
  have h298 : (jbn B283 64 0 z292).2.1 1 0 ∧ True := (jbn_oldh h284)
  have h299 : ¬ (jbn B283 64 0 z292).2.2 1 0 := h287
  generalize jbn B283 64 0 z292 = B295 at h293 h294 h296 h297 h298 h299 ⊢
  refine J.putFr (κ' := 64) (κ := 1) (i := 0) (v := 0) (k := 48) hx hnm rfl rfl rfl rfl in_X9 tyX9_ok nmX9 (by decide) q1701 rfl rfl rfl h298.1 (fun _ => ⟨rfl, rfl⟩) h297.1 h299 dX9_init_204 fun w300 => ?_
  refine J.aload_n hx dX9_init_207 rfl 0 rfl ?_
  refine J.bipush (v := 48) hx dX9_init_208 (by decide) ?_
  refine J.fact (P := ¬ B295.2.2 65 0) (fun H hR z => (h294.no f65 (by decide)) (hR.2.2.2.2.2.2.2.2.1 _ _ z)) fun h301 => ?_
  refine J.newa (κ := 65) (i := 0) (m := 0) (n := 48) (ty := .int) hx ⟨by decide, by decide⟩ rfl rfl (fun _ _ => rfl) (by decide) rfl (by decide) (by decide) rfl (fun _ => ⟨Iff.rfl, Iff.rfl⟩) (by decide) (h294.no f65 (by decide)) h301 (by simp [jcnt]) q273 (by decide) ⟨Nat.le_of_ble_eq_true rfl, Nat.le_of_ble_eq_true rfl⟩ dX9_init_210 fun z304 w303 => ?_
  refine J.cv (lv' := [(0, .ref ((jbn B295 65 0 z304).1 1 0))]) (st' := [.ref ((jbn B295 65 0 z304).1 65 0), .ref ((jbn B295 65 0 z304).1 1 0)]) rfl rfl ?_
  have h305 : j_ext B (jbn B295 65 0 z304) := (h293.tr (jbn_ext (h294.no f65 (by decide))))
  have h306 := ((jadd.n h294) : jadd B _ (jbn B295 65 0 z304))
  have h308 : (jbn B295 65 0 z304).2.1 1 0 ∧ True := (jbn_oldh h296)
  have h309 : (jbn B295 65 0 z304).2.1 65 0 ∧ True := jbn_alh
  have h310 : (jbn B295 65 0 z304).2.1 1 0 ∧ True := (jbn_oldh h296)
  have h311 : ¬ (jbn B295 65 0 z304).2.2 1 0 := h299
  generalize jbn B295 65 0 z304 = B307 at h305 h306 h308 h309 h310 h311 ⊢
  refine J.putFr (κ' := 65) (κ := 1) (i := 0) (v := 0) (k := 49) hx hnm rfl rfl rfl rfl in_X9 tyX9_ok nmX9 (by decide) q1702 rfl rfl rfl h310.1 (fun _ => ⟨rfl, rfl⟩) h309.1 h311 dX9_init_212 fun w312 => ?_
  refine J.aload_n hx dX9_init_215 rfl 0 rfl ?_
  refine J.bipush (v := 40) hx dX9_init_216 (by decide) ?_
  refine J.fact (P := ¬ B307.2.2 66 0) (fun H hR z => (h306.no f66 (by decide)) (hR.2.2.2.2.2.2.2.2.1 _ _ z)) fun h313 => ?_
  refine J.newa (κ := 66) (i := 0) (m := 0) (n := 40) (ty := .int) hx ⟨by decide, by decide⟩ rfl rfl (fun _ _ => rfl) (by decide) rfl (by decide) (by decide) rfl (fun _ => ⟨Iff.rfl, Iff.rfl⟩) (by decide) (h306.no f66 (by decide)) h313 (by simp [jcnt]) q273 (by decide) ⟨Nat.le_of_ble_eq_true rfl, Nat.le_of_ble_eq_true rfl⟩ dX9_init_218 fun z316 w315 => ?_
  refine J.cv (lv' := [(0, .ref ((jbn B307 66 0 z316).1 1 0))]) (st' := [.ref ((jbn B307 66 0 z316).1 66 0), .ref ((jbn B307 66 0 z316).1 1 0)]) rfl rfl ?_
  have h317 : j_ext B (jbn B307 66 0 z316) := (h305.tr (jbn_ext (h306.no f66 (by decide))))
  have h318 := ((jadd.n h306) : jadd B _ (jbn B307 66 0 z316))
  have h320 : (jbn B307 66 0 z316).2.1 1 0 ∧ True := (jbn_oldh h308)
  have h321 : (jbn B307 66 0 z316).2.1 66 0 ∧ True := jbn_alh
  have h322 : (jbn B307 66 0 z316).2.1 1 0 ∧ True := (jbn_oldh h308)
  have h323 : ¬ (jbn B307 66 0 z316).2.2 1 0 := h311
  generalize jbn B307 66 0 z316 = B319 at h317 h318 h320 h321 h322 h323 ⊢
  refine J.putFr (κ' := 66) (κ := 1) (i := 0) (v := 0) (k := 50) hx hnm rfl rfl rfl rfl in_X9 tyX9_ok nmX9 (by decide) q1703 rfl rfl rfl h322.1 (fun _ => ⟨rfl, rfl⟩) h321.1 h323 dX9_init_220 fun w324 => ?_
  exact J.vretA hx h317 h318 rfl (Nat.le_of_ble_eq_true rfl) (Nat.le_of_ble_eq_true rfl) dX9_init_223
