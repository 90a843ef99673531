theorem hd_X7_init : yX7_init.cls = RX7 ∧ yX7_init.cls ≠ "java/lang/invoke/MethodHandle" ∧ yX7_init.cls ≠ "java/lang/invoke/VarHandle" ∧ (parseMethodDescriptor yX7_init.desc).map (fun d => d.parameters.length) = some 0 := by decide +kernel
def f_X7_init (i0 : Nat) (w : j_St) : Option (Unit × j_St) := jlt (jnw w 32 i0 0) fun w3 => jlt (jsr w3 4 i0 0 (some i0)) fun w5 => some ((), w5)
abbrev rm_X7_init : Room := { frames := 1, cells := 1, slots := 48, locals := 20 }
set_option maxRecDepth 100000 in
set_option maxHeartbeats 4000000 in
theorem mt_X7_init {g : j_G} {B : j_B} {i0 : Nat} {w w' : j_St} (a0 : B.2.1 4 i0 ∧ True) (f32 : ¬ B.2.1 32 i0) (n0 : ¬ B.2.2 4 i0) {r : Unit} (h : f_X7_init i0 w = some (r, w')) : j_MA g yX7_init cX7_init 1 none rm_X7_init B [.ref (B.1 4 i0)] w w' ((fun _ _ => none) r) ((fun _ _ B9 => jadd B [(32, i0)] B9) r w') := by
  refine j_metA (rv := (fun _ _ => none)) (PB := (fun _ _ B9 => jadd B [(32, i0)] B9)) (by decide) (Nat.le_of_ble_eq_true rfl) (fun x hx hnm => ?_) h
  unfold f_X7_init
  refine J.sub (lv' := [(0, .ref (B.1 4 i0))]) [0] rfl ?_
  refine J.aload_n hx dX7_init_0 rfl 0 rfl ?_
  refine J.objInit hx q315 q170 q171 ⟨Nat.le_of_ble_eq_true rfl, Nat.le_of_ble_eq_true rfl⟩ (Nat.le_of_ble_eq_true rfl) dX7_init_1 ?_
  refine J.aload_n hx dX7_init_4 rfl 0 rfl ?_
  refine J.bipush (v := 48) hx dX7_init_5 (by decide) ?_
  refine J.fact (P := ¬ B.2.2 32 i0) (fun H hR z => f32 (hR.2.2.2.2.2.2.2.2.1 _ _ z)) fun h1 => ?_
  refine J.fact (P := jcnt w 32 i0) (fun H hR => by simpa [jcnt] using hR.2.2.2.2.2.2.2.2.2 _ _ a0.1) fun h2 => ?_
  refine J.newa (κ := 32) (i := i0) (m := 0) (n := 48) (ty := .int) hx ⟨by decide, by decide⟩ rfl rfl (fun _ _ => rfl) (by decide) rfl (by decide) (by decide) rfl (fun _ => ⟨Iff.rfl, Iff.rfl⟩) (by decide) f32 h1 h2 q273 (by decide) ⟨Nat.le_of_ble_eq_true rfl, Nat.le_of_ble_eq_true rfl⟩ dX7_init_7 fun z4 w3 => ?_
  refine J.putFr (κ' := 32) (κ := 4) (i := i0) (v := i0) (k := 0) hx hnm rfl rfl rfl rfl in_X7 tyX7_ok nmX7 (by decide) q316 rfl rfl rfl (jbn_oldh a0).1 (fun _ => ⟨rfl, rfl⟩) jbn_alh.1 n0 dX7_init_9 fun w5 => ?_
  exact J.vretA hx (j_ext.rf.tr (jbn_ext f32)) (jadd.n jadd.rf) rfl (Nat.le_of_ble_eq_true rfl) (Nat.le_of_ble_eq_true rfl) dX7_init_12
theorem hd_X6_init : yX6_init.cls = RX6 ∧ yX6_init.cls ≠ "java/lang/invoke/MethodHandle" ∧ yX6_init.cls ≠ "java/lang/invoke/VarHandle" ∧ (parseMethodDescriptor yX6_init.desc).map (fun d => d.parameters.length) = some 0 := by decide +kernel
def f_X6_init (i0 : Nat) (w : j_St) : Option (Unit × j_St) := some ((), w)
abbrev rm_X6_init : Room := { frames := 1, cells := 0, slots := 0, locals := 20 }
set_option maxRecDepth 100000 in
set_option maxHeartbeats 4000000 in
theorem mt_X6_init {g : j_G} {B : j_B} {i0 : Nat} {w w' : j_St} (a0 : B.2.1 3 i0 ∧ True) {r : Unit} (h : f_X6_init i0 w = some (r, w')) : j_M g yX6_init cX6_init 1 none rm_X6_init B [.ref (B.1 3 i0)] w w' (jrv r) := by
  refine j_met (rv := jrv) (by decide) (Nat.le_of_ble_eq_true rfl) (fun x hx => ?_) h
  unfold f_X6_init
  refine J.sub (lv' := [(0, .ref (B.1 3 i0))]) [0] rfl ?_
  refine J.aload_n hx dX6_init_0 rfl 0 rfl ?_
  refine J.objInit hx q235 q170 q171 ⟨Nat.le_of_ble_eq_true rfl, Nat.le_of_ble_eq_true rfl⟩ (Nat.le_of_ble_eq_true rfl) dX6_init_1 ?_
  exact J.vret hx rfl (Nat.le_of_ble_eq_true rfl) (Nat.le_of_ble_eq_true rfl) dX6_init_4
theorem hd_X8_init : yX8_init.cls = RX8 ∧ yX8_init.cls ≠ "java/lang/invoke/MethodHandle" ∧ yX8_init.cls ≠ "java/lang/invoke/VarHandle" ∧ (parseMethodDescriptor yX8_init.desc).map (fun d => d.parameters.length) = some 1 := by decide +kernel
def f_X8_init (i0 : Nat) (w : j_St) : Option (Unit × j_St) := jlt (jsr w 5 i0 5 (some 0)) fun w1 => jlt (jnw w1 4 (2 * i0 + 1) 0) fun w4 => jcb (f_X7_init (2 * i0 + 1) w4) fun _ w7 => jlt (jsr w7 5 i0 0 (some (2 * i0 + 1))) fun w12 => jlt (jnw w12 33 i0 0) fun w15 => jlt (jsr w15 5 i0 1 (some i0)) fun w17 => some ((), w17)
abbrev rm_X8_init : Room := { frames := 2, cells := 3, slots := 230, locals := 40 }
set_option maxRecDepth 100000 in
set_option maxHeartbeats 4000000 in
theorem mt_X8_init {g : j_G} {B : j_B} {i0 : Nat} {w w' : j_St} (a0 : B.2.1 5 i0 ∧ True) (b1 : B.2.1 0 0 ∧ True) (f4 : ¬ B.2.1 4 (2 * i0 + 1)) (f32 : ¬ B.2.1 32 (2 * i0 + 1)) (f33 : ¬ B.2.1 33 i0) (n0 : ¬ B.2.2 5 i0) {r : Unit} (h : f_X8_init i0 w = some (r, w')) : j_MA g yX8_init cX8_init 2 none rm_X8_init B [.ref (B.1 5 i0), .ref (B.1 0 0)] w w' ((fun _ _ => none) r) ((fun _ _ B9 => jadd B [(4, (2 * i0 + 1)), (32, (2 * i0 + 1)), (33, i0)] B9) r w') := by
  refine j_metA (rv := (fun _ _ => none)) (PB := (fun _ _ B9 => jadd B [(4, (2 * i0 + 1)), (32, (2 * i0 + 1)), (33, i0)] B9)) (by decide) (Nat.le_of_ble_eq_true rfl) (fun x hx hnm => ?_) h
  unfold f_X8_init
  refine J.sub (lv' := [(0, .ref (B.1 5 i0)), (1, .ref (B.1 0 0))]) [0, 1] rfl ?_
  refine J.aload_n hx dX8_init_0 rfl 0 rfl ?_
  refine J.aload_n hx dX8_init_1 rfl 1 rfl ?_
  refine J.putFr (κ' := 0) (κ := 5) (i := i0) (v := 0) (k := 5) hx hnm rfl rfl rfl rfl in_X8 tyX8_ok nmX8 (by decide) q348 rfl rfl rfl a0.1 (fun _ => ⟨rfl, rfl⟩) b1.1 n0 dX8_init_2 fun w1 => ?_
  refine J.aload_n hx dX8_init_5 rfl 0 rfl ?_
  refine J.objInit hx q335 q170 q171 ⟨Nat.le_of_ble_eq_true rfl, Nat.le_of_ble_eq_true rfl⟩ (Nat.le_of_ble_eq_true rfl) dX8_init_6 ?_
  refine J.aload_n hx dX8_init_9 rfl 0 rfl ?_
  refine J.fact (P := ¬ B.2.2 4 (2 * i0 + 1)) (fun H hR z => f4 (hR.2.2.2.2.2.2.2.2.1 _ _ z)) fun h2 => ?_
  refine J.fact (P := jcnt w1 4 (2 * i0 + 1)) (fun H hR => jcnt_54 (hR.2.2.2.2.2.2.2.2.2 _ _ a0.1)) fun h3 => ?_
  refine J.new (κ := 4) (i := (2 * i0 + 1)) hx rfl rfl in_X7 tyX7_ok (by decide +kernel) (by decide) f4 h2 h3 q336 q311 q127 ⟨Nat.le_of_ble_eq_true rfl, Nat.le_of_ble_eq_true rfl⟩ dX8_init_10 fun z5 w4 => ?_
  refine J.dup hx dX8_init_13 rfl ?_
  refine J.callAv hx (fun r z1 z => j_callA_of (j_runIN (κ := 4) hx (mt_X7_init jbn_alh (jbn_noK f32 (by decide)) h2 z) (lw_meth q314) (j_nl q337 rfl) q313 q127 rfl hd_X7_init.2 rfl ⟨Nat.le_of_ble_eq_true rfl, Nat.le_of_ble_eq_true rfl⟩ (Nat.le_of_ble_eq_true rfl) dX8_init_14)) ⟨Nat.le_of_ble_eq_true rfl, Nat.le_of_ble_eq_true rfl⟩ fun _ w7 B9 e8 x10 x11 => ?_
  refine J.cv (lv' := [(0, .ref (B9.1 5 i0)), (1, .ref (B9.1 0 0))]) (st' := [.ref (B9.1 4 (2 * i0 + 1)), .ref (B9.1 5 i0)]) (by first | rfl | (simp only [x10.adh (jbn_oldh a0), x10.adh (jbn_oldh b1), x10.adh jbn_alh]; done) | (simp only [x10.adh (jbn_oldh a0), x10.adh (jbn_oldh b1), x10.adh jbn_alh]; rfl)) (by first | rfl | (simp only [x10.adh (jbn_oldh a0), x10.adh (jbn_oldh b1), x10.adh jbn_alh]; done) | (simp only [x10.adh (jbn_oldh a0), x10.adh (jbn_oldh b1), x10.adh jbn_alh]; rfl)) ?_
  refine J.putFr (κ' := 4) (κ := 5) (i := i0) (v := (2 * i0 + 1)) (k := 0) hx hnm rfl rfl rfl rfl in_X8 tyX8_ok nmX8 (by decide) q338 rfl rfl rfl (x10.mvh (jbn_oldh a0)).1 (fun _ => ⟨rfl, rfl⟩) (x10.mvh jbn_alh).1 (x11.nb n0) dX8_init_17 fun w12 => ?_
  refine J.aload_n hx dX8_init_20 rfl 0 rfl ?_
  refine J.sipush (v := 180) hx dX8_init_21 (by decide) ?_
  refine J.fact (P := ¬ B9.2.2 33 i0) (fun H hR z => (x11.no (jbn_noK f33 (by decide)) (by simp)) (hR.2.2.2.2.2.2.2.2.1 _ _ z)) fun h13 => ?_
  refine J.fact (P := jcnt w12 33 i0) (fun H hR => jcnt_533 (hR.2.2.2.2.2.2.2.2.2 _ _ (x10.mvh (jbn_oldh a0)).1)) fun h14 => ?_
  refine J.newa (κ := 33) (i := i0) (m := 0) (n := 180) (ty := .int) hx ⟨by decide, by decide⟩ rfl rfl (fun _ _ => rfl) (by decide) rfl (by decide) (by decide) rfl (fun _ => ⟨Iff.rfl, Iff.rfl⟩) (by decide) (x11.no (jbn_noK f33 (by decide)) (by simp)) h13 h14 q273 (by decide) ⟨Nat.le_of_ble_eq_true rfl, Nat.le_of_ble_eq_true rfl⟩ dX8_init_24 fun z16 w15 => ?_
  refine J.putFr (κ' := 33) (κ := 5) (i := i0) (v := i0) (k := 1) hx hnm rfl rfl rfl rfl in_X8 tyX8_ok nmX8 (by decide) q340 rfl rfl rfl (jbn_oldh (x10.mvh (jbn_oldh a0))).1 (fun _ => ⟨rfl, rfl⟩) jbn_alh.1 (x11.nb n0) dX8_init_26 fun w17 => ?_
  exact J.vretA hx (((j_ext.rf.tr (jbn_ext f4)).tr x10).tr (jbn_ext (x11.no (jbn_noK f33 (by decide)) (by simp)))) (jadd.n ((jadd.n jadd.rf).tr x11)) rfl (Nat.le_of_ble_eq_true rfl) (Nat.le_of_ble_eq_true rfl) dX8_init_29
theorem hd_X2_init : yX2_init.cls = RX2 ∧ yX2_init.cls ≠ "java/lang/invoke/MethodHandle" ∧ yX2_init.cls ≠ "java/lang/invoke/VarHandle" ∧ (parseMethodDescriptor yX2_init.desc).map (fun d => d.parameters.length) = some 1 := by decide +kernel
def f_X2_init (i0 : Nat) (i1 : Nat) (w : j_St) : Option (Unit × j_St) := jlt (jsr w 10 i0 0 (some i1)) fun w1 => some ((), w1)
abbrev rm_X2_init : Room := { frames := 1, cells := 0, slots := 0, locals := 20 }
set_option maxRecDepth 100000 in
set_option maxHeartbeats 4000000 in
theorem mt_X2_init {g : j_G} {B : j_B} {i0 : Nat} {i1 : Nat} {w w' : j_St} (a0 : B.2.1 10 i0 ∧ True) (b1 : B.2.1 12 i1 ∧ True) (n0 : ¬ B.2.2 10 i0) {r : Unit} (h : f_X2_init i0 i1 w = some (r, w')) : j_MA g yX2_init cX2_init 2 none rm_X2_init B [.ref (B.1 10 i0), .ref (B.1 12 i1)] w w' ((fun _ _ => none) r) ((fun _ _ B9 => jadd B [] B9) r w') := by
  refine j_metA (rv := (fun _ _ => none)) (PB := (fun _ _ B9 => jadd B [] B9)) (by decide) (Nat.le_of_ble_eq_true rfl) (fun x hx hnm => ?_) h
  unfold f_X2_init
  refine J.sub (lv' := [(0, .ref (B.1 10 i0)), (1, .ref (B.1 12 i1))]) [0, 1] rfl ?_
  refine J.aload_n hx dX2_init_0 rfl 0 rfl ?_
  refine J.objInit hx q180 q170 q171 ⟨Nat.le_of_ble_eq_true rfl, Nat.le_of_ble_eq_true rfl⟩ (Nat.le_of_ble_eq_true rfl) dX2_init_1 ?_
  refine J.aload_n hx dX2_init_4 rfl 0 rfl ?_
  refine J.aload_n hx dX2_init_5 rfl 1 rfl ?_
  refine J.putFr (κ' := 12) (κ := 10) (i := i0) (v := i1) (k := 0) hx hnm rfl rfl rfl rfl in_X2 tyX2_ok nmX2 (by decide) q181 rfl rfl rfl a0.1 (fun _ => ⟨rfl, rfl⟩) b1.1 n0 dX2_init_6 fun w1 => ?_
  exact J.vretA hx j_ext.rf jadd.rf rfl (Nat.le_of_ble_eq_true rfl) (Nat.le_of_ble_eq_true rfl) dX2_init_9
theorem hd_X4_init : yX4_init.cls = RX4 ∧ yX4_init.cls ≠ "java/lang/invoke/MethodHandle" ∧ yX4_init.cls ≠ "java/lang/invoke/VarHandle" ∧ (parseMethodDescriptor yX4_init.desc).map (fun d => d.parameters.length) = some 1 := by decide +kernel
def f_X4_init (i0 : Nat) (i1 : Nat) (w : j_St) : Option (Unit × j_St) := jlt (jsr w 11 i0 0 (some i1)) fun w1 => some ((), w1)
abbrev rm_X4_init : Room := { frames := 1, cells := 0, slots := 0, locals := 20 }
set_option maxRecDepth 100000 in
set_option maxHeartbeats 4000000 in
theorem mt_X4_init {g : j_G} {B : j_B} {i0 : Nat} {i1 : Nat} {w w' : j_St} (a0 : B.2.1 11 i0 ∧ True) (b1 : B.2.1 13 i1 ∧ True) (n0 : ¬ B.2.2 11 i0) {r : Unit} (h : f_X4_init i0 i1 w = some (r, w')) : j_MA g yX4_init cX4_init 2 none rm_X4_init B [.ref (B.1 11 i0), .ref (B.1 13 i1)] w w' ((fun _ _ => none) r) ((fun _ _ B9 => jadd B [] B9) r w') := by
  refine j_metA (rv := (fun _ _ => none)) (PB := (fun _ _ B9 => jadd B [] B9)) (by decide) (Nat.le_of_ble_eq_true rfl) (fun x hx hnm => ?_) h
  unfold f_X4_init
  refine J.sub (lv' := [(0, .ref (B.1 11 i0)), (1, .ref (B.1 13 i1))]) [0, 1] rfl ?_
  refine J.aload_n hx dX4_init_0 rfl 0 rfl ?_
  refine J.objInit hx q206 q170 q171 ⟨Nat.le_of_ble_eq_true rfl, Nat.le_of_ble_eq_true rfl⟩ (Nat.le_of_ble_eq_true rfl) dX4_init_1 ?_
  refine J.aload_n hx dX4_init_4 rfl 0 rfl ?_
  refine J.aload_n hx dX4_init_5 rfl 1 rfl ?_
  refine J.putFr (κ' := 13) (κ := 11) (i := i0) (v := i1) (k := 0) hx hnm rfl rfl rfl rfl in_X4 tyX4_ok nmX4 (by decide) q207 rfl rfl rfl a0.1 (fun _ => ⟨rfl, rfl⟩) b1.1 n0 dX4_init_6 fun w1 => ?_
  exact J.vretA hx j_ext.rf jadd.rf rfl (Nat.le_of_ble_eq_true rfl) (Nat.le_of_ble_eq_true rfl) dX4_init_9
theorem hd_X5_init : yX5_init.cls = RX5 ∧ yX5_init.cls ≠ "java/lang/invoke/MethodHandle" ∧ yX5_init.cls ≠ "java/lang/invoke/VarHandle" ∧ (parseMethodDescriptor yX5_init.desc).map (fun d => d.parameters.length) = some 0 := by decide +kernel
def f_X5_init_L57 (i0 : Nat)  : Nat → Int32 → Nat → Nat → j_St → Option (Unit × j_St)
  | 0, _, _, _, _ => none
  | n57 + 1, v31, c35, c36, w32 => if 48 ≤ v31 then if c35 ≤ 54 ∧ c36 ≤ 586 then some ((), w32) else none else jlt (jgr w32 2 i0 0) fun v38 => jlt (jgn w32 103 0) fun n40 => jlt (jbump w32 3) fun w42 => if c35 + 1 ≤ 54 ∧ c36 + 7 ≤ 586 then jlt (jnw w42 3 n40 0) fun w47 => if c35 + 1 ≤ 54 ∧ c36 + 7 ≤ 586 then jcb (f_X6_init n40 w47) fun _ w51 => job v38 fun y54 => jbd v31 48 fun a57 => jlt (jsr w51 26 y54 a57 (some n40)) fun w56 => jlt (v31 + 1) fun v58 => f_X5_init_L57 i0 n57 v58 (c35 + 1) (c36 + 7) w56 else none else none
def f_X5_init (i0 : Nat) (w : j_St) : Option (Unit × j_St) := jlt (jnw w 26 i0 0) fun w3 => jlt (jsr w3 2 i0 0 (some i0)) fun w5 => jlt (jnw w5 27 i0 0) fun w8 => jlt (jsr w8 2 i0 1 (some i0)) fun w10 => jlt (jnw w10 28 i0 0) fun w13 => jlt (jsr w13 2 i0 2 (some i0)) fun w15 => jlt (jnw w15 29 i0 0) fun w18 => jlt (jsr w18 2 i0 3 (some i0)) fun w20 => jlt (jnw w20 30 i0 0) fun w23 => jlt (jsr w23 2 i0 7 (some i0)) fun w25 => jlt (jnw w25 31 i0 0) fun w28 => jlt (jsr w28 2 i0 8 (some i0)) fun w30 => f_X5_init_L57 i0 jFU 0 6 248 w30
abbrev rm_X5_init : Room := { frames := 2, cells := 54, slots := 586, locals := 40 }
set_option maxRecDepth 100000 in
set_option maxHeartbeats 4000000 in
theorem mt_X5_init {g : j_G} {B : j_B} {i0 : Nat} {w w' : j_St} (a0 : B.2.1 2 i0 ∧ True) (f26 : ¬ B.2.1 26 i0) (f27 : ¬ B.2.1 27 i0) (f28 : ¬ B.2.1 28 i0) (f29 : ¬ B.2.1 29 i0) (f30 : ¬ B.2.1 30 i0) (f31 : ¬ B.2.1 31 i0) (n0 : ¬ B.2.2 2 i0) (n26 : ∀ i, ¬ B.2.2 26 i) {r : Unit} (h : f_X5_init i0 w = some (r, w')) : j_MA g yX5_init cX5_init 2 none rm_X5_init B [.ref (B.1 2 i0)] w w' ((fun _ _ => none) r) ((fun _ _ B9 => jadd B [(26, i0), (27, i0), (28, i0), (29, i0), (30, i0), (31, i0)] B9) r w') := by
  refine j_metA (rv := (fun _ _ => none)) (PB := (fun _ _ B9 => jadd B [(26, i0), (27, i0), (28, i0), (29, i0), (30, i0), (31, i0)] B9)) (by decide) (Nat.le_of_ble_eq_true rfl) (fun x hx hnm => ?_) h
  unfold f_X5_init
  refine J.sub (lv' := [(0, .ref (B.1 2 i0))]) [0] rfl ?_
  refine J.aload_n hx dX5_init_0 rfl 0 rfl ?_
  refine J.objInit hx q228 q170 q171 ⟨Nat.le_of_ble_eq_true rfl, Nat.le_of_ble_eq_true rfl⟩ (Nat.le_of_ble_eq_true rfl) dX5_init_1 ?_
  refine J.aload_n hx dX5_init_4 rfl 0 rfl ?_
  refine J.bipush (v := 48) hx dX5_init_5 (by decide) ?_
  refine J.fact (P := ¬ B.2.2 26 i0) (fun H hR z => f26 (hR.2.2.2.2.2.2.2.2.1 _ _ z)) fun h1 => ?_
  refine J.newq (κ := 26) (i := i0) (m := 0) (n := 48) (C := RX6) hx ⟨by decide, by decide⟩ rfl (by decide) rfl (by decide) (by decide) rfl (j_sort5 rfl rfl) (by decide) f26 h1 (by simp [jcnt]) q229 (by simp) (by decide) ⟨Nat.le_of_ble_eq_true rfl, Nat.le_of_ble_eq_true rfl⟩ dX5_init_7 fun z4 w3 => ?_
  refine J.putFr (κ' := 26) (κ := 2) (i := i0) (v := i0) (k := 0) hx hnm rfl rfl rfl rfl in_X5 tyX5_ok nmX5 (by decide) q274 rfl rfl rfl (jbn_oldh a0).1 (fun _ => ⟨rfl, rfl⟩) jbn_alh.1 n0 dX5_init_10 fun w5 => ?_
  refine J.aload_n hx dX5_init_13 rfl 0 rfl ?_
  refine J.bipush (v := 48) hx dX5_init_14 (by decide) ?_
  refine J.fact (P := ¬ (jbn B 26 i0 z4).2.2 27 i0) (fun H hR z => (jbn_noK f27 (by decide)) (hR.2.2.2.2.2.2.2.2.1 _ _ z)) fun h6 => ?_
  refine J.newq (κ := 27) (i := i0) (m := 0) (n := 48) (C := RX6) hx ⟨by decide, by decide⟩ rfl (by decide) rfl (by decide) (by decide) rfl (fun _ => ⟨Iff.rfl, Iff.rfl⟩) (by decide) (jbn_noK f27 (by decide)) h6 (by simp [jcnt]) q229 (by simp) (by decide) ⟨Nat.le_of_ble_eq_true rfl, Nat.le_of_ble_eq_true rfl⟩ dX5_init_16 fun z9 w8 => ?_
  refine J.putFr (κ' := 27) (κ := 2) (i := i0) (v := i0) (k := 1) hx hnm rfl rfl rfl rfl in_X5 tyX5_ok nmX5 (by decide) q275 rfl rfl rfl (jbn_oldh (jbn_oldh a0)).1 (fun _ => ⟨rfl, rfl⟩) jbn_alh.1 n0 dX5_init_19 fun w10 => ?_
  refine J.aload_n hx dX5_init_22 rfl 0 rfl ?_
  refine J.bipush (v := 48) hx dX5_init_23 (by decide) ?_
  refine J.fact (P := ¬ (jbn (jbn B 26 i0 z4) 27 i0 z9).2.2 28 i0) (fun H hR z => (jbn_noK (jbn_noK f28 (by decide)) (by decide)) (hR.2.2.2.2.2.2.2.2.1 _ _ z)) fun h11 => ?_
  refine J.newq (κ := 28) (i := i0) (m := 0) (n := 48) (C := RX6) hx ⟨by decide, by decide⟩ rfl (by decide) rfl (by decide) (by decide) rfl (fun _ => ⟨Iff.rfl, Iff.rfl⟩) (by decide) (jbn_noK (jbn_noK f28 (by decide)) (by decide)) h11 (by simp [jcnt]) q229 (by simp) (by decide) ⟨Nat.le_of_ble_eq_true rfl, Nat.le_of_ble_eq_true rfl⟩ dX5_init_25 fun z14 w13 => ?_
  refine J.putFr (κ' := 28) (κ := 2) (i := i0) (v := i0) (k := 2) hx hnm rfl rfl rfl rfl in_X5 tyX5_ok nmX5 (by decide) q278 rfl rfl rfl (jbn_oldh (jbn_oldh (jbn_oldh a0))).1 (fun _ => ⟨rfl, rfl⟩) jbn_alh.1 n0 dX5_init_28 fun w15 => ?_
  refine J.aload_n hx dX5_init_31 rfl 0 rfl ?_
  refine J.bipush (v := 48) hx dX5_init_32 (by decide) ?_
  refine J.fact (P := ¬ (jbn (jbn (jbn B 26 i0 z4) 27 i0 z9) 28 i0 z14).2.2 29 i0) (fun H hR z => (jbn_noK (jbn_noK (jbn_noK f29 (by decide)) (by decide)) (by decide)) (hR.2.2.2.2.2.2.2.2.1 _ _ z)) fun h16 => ?_
  refine J.newa (κ := 29) (i := i0) (m := 0) (n := 48) (ty := .int) hx ⟨by decide, by decide⟩ rfl rfl (fun _ _ => rfl) (by decide) rfl (by decide) (by decide) rfl (fun _ => ⟨Iff.rfl, Iff.rfl⟩) (by decide) (jbn_noK (jbn_noK (jbn_noK f29 (by decide)) (by decide)) (by decide)) h16 (by simp [jcnt]) q273 (by decide) ⟨Nat.le_of_ble_eq_true rfl, Nat.le_of_ble_eq_true rfl⟩ dX5_init_34 fun z19 w18 => ?_
  refine J.putFr (κ' := 29) (κ := 2) (i := i0) (v := i0) (k := 3) hx hnm rfl rfl rfl rfl in_X5 tyX5_ok nmX5 (by decide) q279 rfl rfl rfl (jbn_oldh (jbn_oldh (jbn_oldh (jbn_oldh a0)))).1 (fun _ => ⟨rfl, rfl⟩) jbn_alh.1 n0 dX5_init_36 fun w20 => ?_
  refine J.aload_n hx dX5_init_39 rfl 0 rfl ?_
  refine J.bipush (v := 8) hx dX5_init_40 (by decide) ?_
  refine J.fact (P := ¬ (jbn (jbn (jbn (jbn B 26 i0 z4) 27 i0 z9) 28 i0 z14) 29 i0 z19).2.2 30 i0) (fun H hR z => (jbn_noK (jbn_noK (jbn_noK (jbn_noK f30 (by decide)) (by decide)) (by decide)) (by decide)) (hR.2.2.2.2.2.2.2.2.1 _ _ z)) fun h21 => ?_
  refine J.newa (κ := 30) (i := i0) (m := 0) (n := 8) (ty := .int) hx ⟨by decide, by decide⟩ rfl rfl (fun _ _ => rfl) (by decide) rfl (by decide) (by decide) rfl (fun _ => ⟨Iff.rfl, Iff.rfl⟩) (by decide) (jbn_noK (jbn_noK (jbn_noK (jbn_noK f30 (by decide)) (by decide)) (by decide)) (by decide)) h21 (by simp [jcnt]) q273 (by decide) ⟨Nat.le_of_ble_eq_true rfl, Nat.le_of_ble_eq_true rfl⟩ dX5_init_42 fun z24 w23 => ?_
  refine J.putFr (κ' := 30) (κ := 2) (i := i0) (v := i0) (k := 7) hx hnm rfl rfl rfl rfl in_X5 tyX5_ok nmX5 (by decide) q287 rfl rfl rfl (jbn_oldh (jbn_oldh (jbn_oldh (jbn_oldh (jbn_oldh a0))))).1 (fun _ => ⟨rfl, rfl⟩) jbn_alh.1 n0 dX5_init_44 fun w25 => ?_
  refine J.aload_n hx dX5_init_47 rfl 0 rfl ?_
  refine J.bipush (v := 48) hx dX5_init_48 (by decide) ?_
  refine J.fact (P := ¬ (jbn (jbn (jbn (jbn (jbn B 26 i0 z4) 27 i0 z9) 28 i0 z14) 29 i0 z19) 30 i0 z24).2.2 31 i0) (fun H hR z => (jbn_noK (jbn_noK (jbn_noK (jbn_noK (jbn_noK f31 (by decide)) (by decide)) (by decide)) (by decide)) (by decide)) (hR.2.2.2.2.2.2.2.2.1 _ _ z)) fun h26 => ?_
  refine J.newa (κ := 31) (i := i0) (m := 0) (n := 48) (ty := .int) hx ⟨by decide, by decide⟩ rfl rfl (fun _ _ => rfl) (by decide) rfl (by decide) (by decide) rfl (fun _ => ⟨Iff.rfl, Iff.rfl⟩) (by decide) (jbn_noK (jbn_noK (jbn_noK (jbn_noK (jbn_noK f31 (by decide)) (by decide)) (by decide)) (by decide)) (by decide)) h26 (by simp [jcnt]) q273 (by decide) ⟨Nat.le_of_ble_eq_true rfl, Nat.le_of_ble_eq_true rfl⟩ dX5_init_50 fun z29 w28 => ?_
  refine J.putFr (κ' := 31) (κ := 2) (i := i0) (v := i0) (k := 8) hx hnm rfl rfl rfl rfl in_X5 tyX5_ok nmX5 (by decide) q289 rfl rfl rfl (jbn_oldh (jbn_oldh (jbn_oldh (jbn_oldh (jbn_oldh (jbn_oldh a0)))))).1 (fun _ => ⟨rfl, rfl⟩) jbn_alh.1 n0 dX5_init_52 fun w30 => ?_
  refine J.iconst (v := 0) hx dX5_init_55 (by decide) ?_
  refine J.istore_n (lv' := [(1, .int 0), (0, .ref (B.1 2 i0))]) hx dX5_init_56 rfl (by decide) rfl ?_
  have hL57 : ∀ (n57 : Nat) (v31 : Int32) (c35 c36 : Nat) (B33 : j_B) (x34 : j_ext (jbn (jbn (jbn (jbn (jbn (jbn B 26 i0 z4) 27 i0 z9) 28 i0 z14) 29 i0 z19) 30 i0 z24) 31 i0 z29) B33) (jx34 : jadd (jbn (jbn (jbn (jbn (jbn (jbn B 26 i0 z4) 27 i0 z9) 28 i0 z14) 29 i0 z19) 30 i0 z24) 31 i0 z29) [] B33) (w32 : j_St), J g x 2 B33 (j_QA g x B rm_X5_init (fun _ _ => none) (fun _ _ B9 => jadd B [(26, i0), (27, i0), (28, i0), (29, i0), (30, i0), (31, i0)] B9)) c35 c36 (f_X5_init_L57 i0 n57 v31 c35 c36 w32) 57 [(0, .ref (B33.1 2 i0)), (1, .int v31)] [] w32 := by
    intro n57
    induction n57 with
    | zero =>
      intro v31 c35 c36 B33 x34 jx34 w32
      rw [f_X5_init_L57]
      exact J.nne
    | succ n57 ih =>
      intro v31 c35 c36 B33 x34 jx34 w32
      rw [f_X5_init_L57]
      refine J.iload_n hx dX5_init_57 rfl 1 rfl ?_
      refine J.bipush (v := 48) hx dX5_init_58 (by decide) ?_
      refine J.icmp_ge (tgt := 82) hx dX5_init_60 (by decide) ?_ ?_
      · refine J.ite (fun h37 => ?_) (fun _ => J.nne)
        exact J.vretA hx (((((((j_ext.rf.tr (jbn_ext f26)).tr (jbn_ext (jbn_noK f27 (by decide)))).tr (jbn_ext (jbn_noK (jbn_noK f28 (by decide)) (by decide)))).tr (jbn_ext (jbn_noK (jbn_noK (jbn_noK f29 (by decide)) (by decide)) (by decide)))).tr (jbn_ext (jbn_noK (jbn_noK (jbn_noK (jbn_noK f30 (by decide)) (by decide)) (by decide)) (by decide)))).tr (jbn_ext (jbn_noK (jbn_noK (jbn_noK (jbn_noK (jbn_noK f31 (by decide)) (by decide)) (by decide)) (by decide)) (by decide)))).tr x34) ((jadd.n (jadd.n (jadd.n (jadd.n (jadd.n (jadd.n jadd.rf)))))).tr jx34) rfl h37.1 h37.2 dX5_init_82
      · refine J.aload_n hx dX5_init_63 rfl 0 rfl ?_
        refine J.getrh (κ' := 26) (κ := 2) (k := 0) hx rfl rfl rfl rfl in_X5 (by decide) (Or.inl q274) (x34.mvh (jbn_oldh (jbn_oldh (jbn_oldh (jbn_oldh (jbn_oldh (jbn_oldh a0))))))).1 dX5_init_64 fun v38 h39 => ?_
        refine J.iload_n hx dX5_init_67 rfl 1 rfl ?_
        refine J.nmx fun n40 e41 => ?_
        refine J.fact (P := ¬ B33.2.1 3 n40) (fun H hR z => by have h9 := hR.2.2.2.2.2.2.2.2.2 _ _ z; simp only [jcnt] at h9; simp at h9; omega) fun h44 => ?_
        refine J.bumpe fun w42 e43 => ?_
        refine J.fact (P := ¬ B33.2.2 3 n40) (fun H hR z => h44 (hR.2.2.2.2.2.2.2.2.1 _ _ z)) fun h45 => ?_
        refine J.ite (fun h49 => ?_) (fun _ => J.nne)
        refine J.new (κ := 3) (i := n40) hx rfl rfl in_X6 tyX6_ok (by decide +kernel) (by decide) h44 h45 (by rw [e43, e41]; simp [jcnt, jbump, jgn]) q229 q231 q126 h49 dX5_init_68 fun z48 w47 => ?_
        refine J.dup hx dX5_init_71 rfl ?_
        refine J.ite (fun h53 => ?_) (fun _ => J.nne)
        refine J.callv hx (fun r z1 z => j_callIN (κ := 3) hx (mt_X6_init jbn_alh z) (lw_meth q234) (j_nl q232 rfl) q233 q126 rfl hd_X6_init.2 rfl ⟨Nat.le_of_ble_eq_true rfl, Nat.le_of_ble_eq_true rfl⟩ (by simp [va_re_cat, jct_i, jct_l, jct_r, jct_n]) dX5_init_72) ⟨⟨rfl, rfl⟩, h53.1, h53.2⟩ fun _ w51 e52 => ?_
        refine J.obU fun y54 e55 => ?_
        subst e55
        refine J.aastF (κ' := 3) (κ := 26) (i := y54) (v := n40) hx rfl rfl rfl (by decide) rfl rfl rfl rfl rfl ((jbn_oldqh h39) y54 rfl).1 jbn_alh.1 ((fun i => jx34.nb (n26 i)) y54) dX5_init_75 fun w56 => ?_
        refine J.nmx fun v58 ev58 => ?_
        refine J.iinc (p := 1) (v := v58) (lv' := [(1, .int v58), (0, .ref (B33.1 2 i0))]) hx dX5_init_76 rfl (by rw [ev58]; rfl) (by decide) rfl ?_
        refine J.goto (tgt := 57) hx dX5_init_79 (by decide) ?_
        exact J.sub [1, 0] rfl (ih v58 (c35 + 1) (c36 + 7) (jbn B33 3 n40 z48) (x34.tr (jbn_ext h44)) (jadd.p jx34) w56)
  refine J.sub [1, 0] rfl (hL57 jFU 0 6 248 (jbn (jbn (jbn (jbn (jbn (jbn B 26 i0 z4) 27 i0 z9) 28 i0 z14) 29 i0 z19) 30 i0 z24) 31 i0 z29) j_ext.rf jadd.rf w30)
