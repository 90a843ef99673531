theorem hd_X9_median : yX9_median.cls = RX9 ∧ yX9_median.cls ≠ "java/lang/invoke/MethodHandle" ∧ yX9_median.cls ≠ "java/lang/invoke/VarHandle" ∧ (parseMethodDescriptor yX9_median.desc).map (fun d => d.parameters.length) = some 0 := by decide +kernel
def f_X9_median  (w : j_St) : Option (Int32 × j_St) := jcb (f_X9_hand 1 0 0 w) fun v1 w2 => some (v1, w2)
abbrev rm_X9_median : Room := { frames := 8, cells := 0, slots := 0, locals := 191 }
set_option maxRecDepth 100000 in
set_option maxHeartbeats 4000000 in
theorem mt_X9_median {g : j_G} {B : j_B}  {w w' : j_St} (a0 : B.2.1 1 0 ∧ B.2.2 1 0) {r : Int32} (h : f_X9_median  w = some (r, w')) : j_M g yX9_median cX9_median 1 (some FieldType.int) rm_X9_median B [.ref (B.1 1 0)] w w' (jri r) := by
  refine j_met (rv := jri) (by decide) (Nat.le_of_ble_eq_true rfl) (fun x hx => ?_) h
  unfold f_X9_median
  refine J.sub (lv' := [(0, .ref (B.1 1 0))]) [0] rfl ?_
  refine J.aload_n hx dX9_median_0 rfl 0 rfl ?_
  refine J.iconst (v := 1) hx dX9_median_1 (by decide) ?_
  refine J.iconst (v := 0) hx dX9_median_2 (by decide) ?_
  refine J.iconst (v := 0) hx dX9_median_3 (by decide) ?_
  refine J.calli hx (fun r z1 z => j_callV (κ := 1) hx rfl rfl a0.1 (mt_X9_hand a0 z) (lw_V q1949 q1951 qs60 q129 q1952) hd_X9_hand rfl ⟨Nat.le_of_ble_eq_true rfl, Nat.le_of_ble_eq_true rfl⟩ (Nat.le_of_ble_eq_true rfl) dX9_median_4) ⟨⟨rfl, rfl⟩, Nat.le_of_ble_eq_true rfl, Nat.le_of_ble_eq_true rfl⟩ fun v1 w2 e3 => ?_
  exact J.iret hx rfl (Nat.le_of_ble_eq_true rfl) (Nat.le_of_ble_eq_true rfl) dX9_median_7
theorem hd_X9_flat : yX9_flat.cls = RX9 ∧ yX9_flat.cls ≠ "java/lang/invoke/MethodHandle" ∧ yX9_flat.cls ≠ "java/lang/invoke/VarHandle" ∧ (parseMethodDescriptor yX9_flat.desc).map (fun d => d.parameters.length) = some 0 := by decide +kernel
def f_X9_flat  (w : j_St) : Option (Int32 × j_St) := jcb (f_X9_hand 2 0 0 w) fun v1 w2 => some (v1, w2)
abbrev rm_X9_flat : Room := { frames := 8, cells := 0, slots := 0, locals := 191 }
set_option maxRecDepth 100000 in
set_option maxHeartbeats 4000000 in
theorem mt_X9_flat {g : j_G} {B : j_B}  {w w' : j_St} (a0 : B.2.1 1 0 ∧ B.2.2 1 0) {r : Int32} (h : f_X9_flat  w = some (r, w')) : j_M g yX9_flat cX9_flat 1 (some FieldType.int) rm_X9_flat B [.ref (B.1 1 0)] w w' (jri r) := by
  refine j_met (rv := jri) (by decide) (Nat.le_of_ble_eq_true rfl) (fun x hx => ?_) h
  unfold f_X9_flat
  refine J.sub (lv' := [(0, .ref (B.1 1 0))]) [0] rfl ?_
  refine J.aload_n hx dX9_flat_0 rfl 0 rfl ?_
  refine J.iconst (v := 2) hx dX9_flat_1 (by decide) ?_
  refine J.iconst (v := 0) hx dX9_flat_2 (by decide) ?_
  refine J.iconst (v := 0) hx dX9_flat_3 (by decide) ?_
  refine J.calli hx (fun r z1 z => j_callV (κ := 1) hx rfl rfl a0.1 (mt_X9_hand a0 z) (lw_V q1949 q1951 qs60 q129 q1952) hd_X9_hand rfl ⟨Nat.le_of_ble_eq_true rfl, Nat.le_of_ble_eq_true rfl⟩ (Nat.le_of_ble_eq_true rfl) dX9_flat_4) ⟨⟨rfl, rfl⟩, Nat.le_of_ble_eq_true rfl, Nat.le_of_ble_eq_true rfl⟩ fun v1 w2 e3 => ?_
  exact J.iret hx rfl (Nat.le_of_ble_eq_true rfl) (Nat.le_of_ble_eq_true rfl) dX9_flat_7
theorem hd_X9_turn : yX9_turn.cls = RX9 ∧ yX9_turn.cls ≠ "java/lang/invoke/MethodHandle" ∧ yX9_turn.cls ≠ "java/lang/invoke/VarHandle" ∧ (parseMethodDescriptor yX9_turn.desc).map (fun d => d.parameters.length) = some 0 := by decide +kernel
def f_X9_turn  (w : j_St) : Option (Int32 × j_St) := jcb (f_X9_hand 3 0 0 w) fun v1 w2 => some (v1, w2)
abbrev rm_X9_turn : Room := { frames := 8, cells := 0, slots := 0, locals := 191 }
set_option maxRecDepth 100000 in
set_option maxHeartbeats 4000000 in
theorem mt_X9_turn {g : j_G} {B : j_B}  {w w' : j_St} (a0 : B.2.1 1 0 ∧ B.2.2 1 0) {r : Int32} (h : f_X9_turn  w = some (r, w')) : j_M g yX9_turn cX9_turn 1 (some FieldType.int) rm_X9_turn B [.ref (B.1 1 0)] w w' (jri r) := by
  refine j_met (rv := jri) (by decide) (Nat.le_of_ble_eq_true rfl) (fun x hx => ?_) h
  unfold f_X9_turn
  refine J.sub (lv' := [(0, .ref (B.1 1 0))]) [0] rfl ?_
  refine J.aload_n hx dX9_turn_0 rfl 0 rfl ?_
  refine J.iconst (v := 3) hx dX9_turn_1 (by decide) ?_
  refine J.iconst (v := 0) hx dX9_turn_2 (by decide) ?_
  refine J.iconst (v := 0) hx dX9_turn_3 (by decide) ?_
  refine J.calli hx (fun r z1 z => j_callV (κ := 1) hx rfl rfl a0.1 (mt_X9_hand a0 z) (lw_V q1949 q1951 qs60 q129 q1952) hd_X9_hand rfl ⟨Nat.le_of_ble_eq_true rfl, Nat.le_of_ble_eq_true rfl⟩ (Nat.le_of_ble_eq_true rfl) dX9_turn_4) ⟨⟨rfl, rfl⟩, Nat.le_of_ble_eq_true rfl, Nat.le_of_ble_eq_true rfl⟩ fun v1 w2 e3 => ?_
  exact J.iret hx rfl (Nat.le_of_ble_eq_true rfl) (Nat.le_of_ble_eq_true rfl) dX9_turn_7
theorem hd_X9_clip : yX9_clip.cls = RX9 ∧ yX9_clip.cls ≠ "java/lang/invoke/MethodHandle" ∧ yX9_clip.cls ≠ "java/lang/invoke/VarHandle" ∧ (parseMethodDescriptor yX9_clip.desc).map (fun d => d.parameters.length) = some 1 := by decide +kernel
def f_X9_clip (p1 : Int32) (w : j_St) : Option (Int32 × j_St) := jcb (f_X9_hand 4 p1 0 w) fun v1 w2 => some (v1, w2)
abbrev rm_X9_clip : Room := { frames := 8, cells := 0, slots := 0, locals := 191 }
set_option maxRecDepth 100000 in
set_option maxHeartbeats 4000000 in
theorem mt_X9_clip {g : j_G} {B : j_B} {p1 : Int32} {w w' : j_St} (a0 : B.2.1 1 0 ∧ B.2.2 1 0) {r : Int32} (h : f_X9_clip p1 w = some (r, w')) : j_M g yX9_clip cX9_clip 2 (some FieldType.int) rm_X9_clip B [.ref (B.1 1 0), .int p1] w w' (jri r) := by
  refine j_met (rv := jri) (by decide) (Nat.le_of_ble_eq_true rfl) (fun x hx => ?_) h
  unfold f_X9_clip
  refine J.sub (lv' := [(0, .ref (B.1 1 0)), (1, .int p1)]) [0, 1] rfl ?_
  refine J.aload_n hx dX9_clip_0 rfl 0 rfl ?_
  refine J.iconst (v := 4) hx dX9_clip_1 (by decide) ?_
  refine J.iload_n hx dX9_clip_2 rfl 1 rfl ?_
  refine J.iconst (v := 0) hx dX9_clip_3 (by decide) ?_
  refine J.calli hx (fun r z1 z => j_callV (κ := 1) hx rfl rfl a0.1 (mt_X9_hand a0 z) (lw_V q1949 q1951 qs60 q129 q1952) hd_X9_hand rfl ⟨Nat.le_of_ble_eq_true rfl, Nat.le_of_ble_eq_true rfl⟩ (Nat.le_of_ble_eq_true rfl) dX9_clip_4) ⟨⟨rfl, rfl⟩, Nat.le_of_ble_eq_true rfl, Nat.le_of_ble_eq_true rfl⟩ fun v1 w2 e3 => ?_
  exact J.iret hx rfl (Nat.le_of_ble_eq_true rfl) (Nat.le_of_ble_eq_true rfl) dX9_clip_7
theorem hd_X9_lift : yX9_lift.cls = RX9 ∧ yX9_lift.cls ≠ "java/lang/invoke/MethodHandle" ∧ yX9_lift.cls ≠ "java/lang/invoke/VarHandle" ∧ (parseMethodDescriptor yX9_lift.desc).map (fun d => d.parameters.length) = some 1 := by decide +kernel
def f_X9_lift (p1 : Int32) (w : j_St) : Option (Int32 × j_St) := jcb (f_X9_hand 5 p1 0 w) fun v1 w2 => some (v1, w2)
abbrev rm_X9_lift : Room := { frames := 8, cells := 0, slots := 0, locals := 191 }
set_option maxRecDepth 100000 in
set_option maxHeartbeats 4000000 in
theorem mt_X9_lift {g : j_G} {B : j_B} {p1 : Int32} {w w' : j_St} (a0 : B.2.1 1 0 ∧ B.2.2 1 0) {r : Int32} (h : f_X9_lift p1 w = some (r, w')) : j_M g yX9_lift cX9_lift 2 (some FieldType.int) rm_X9_lift B [.ref (B.1 1 0), .int p1] w w' (jri r) := by
  refine j_met (rv := jri) (by decide) (Nat.le_of_ble_eq_true rfl) (fun x hx => ?_) h
  unfold f_X9_lift
  refine J.sub (lv' := [(0, .ref (B.1 1 0)), (1, .int p1)]) [0, 1] rfl ?_
  refine J.aload_n hx dX9_lift_0 rfl 0 rfl ?_
  refine J.iconst (v := 5) hx dX9_lift_1 (by decide) ?_
  refine J.iload_n hx dX9_lift_2 rfl 1 rfl ?_
  refine J.iconst (v := 0) hx dX9_lift_3 (by decide) ?_
  refine J.calli hx (fun r z1 z => j_callV (κ := 1) hx rfl rfl a0.1 (mt_X9_hand a0 z) (lw_V q1949 q1951 qs60 q129 q1952) hd_X9_hand rfl ⟨Nat.le_of_ble_eq_true rfl, Nat.le_of_ble_eq_true rfl⟩ (Nat.le_of_ble_eq_true rfl) dX9_lift_4) ⟨⟨rfl, rfl⟩, Nat.le_of_ble_eq_true rfl, Nat.le_of_ble_eq_true rfl⟩ fun v1 w2 e3 => ?_
  exact J.iret hx rfl (Nat.le_of_ble_eq_true rfl) (Nat.le_of_ble_eq_true rfl) dX9_lift_7
theorem hd_X9_scale : yX9_scale.cls = RX9 ∧ yX9_scale.cls ≠ "java/lang/invoke/MethodHandle" ∧ yX9_scale.cls ≠ "java/lang/invoke/VarHandle" ∧ (parseMethodDescriptor yX9_scale.desc).map (fun d => d.parameters.length) = some 2 := by decide +kernel
def f_X9_scale (p1 : Int32) (p2 : Int32) (w : j_St) : Option (Int32 × j_St) := jcb (f_X9_hand 6 p1 p2 w) fun v1 w2 => some (v1, w2)
abbrev rm_X9_scale : Room := { frames := 8, cells := 0, slots := 0, locals := 191 }
set_option maxRecDepth 100000 in
set_option maxHeartbeats 4000000 in
theorem mt_X9_scale {g : j_G} {B : j_B} {p1 : Int32} {p2 : Int32} {w w' : j_St} (a0 : B.2.1 1 0 ∧ B.2.2 1 0) {r : Int32} (h : f_X9_scale p1 p2 w = some (r, w')) : j_M g yX9_scale cX9_scale 3 (some FieldType.int) rm_X9_scale B [.ref (B.1 1 0), .int p1, .int p2] w w' (jri r) := by
  refine j_met (rv := jri) (by decide) (Nat.le_of_ble_eq_true rfl) (fun x hx => ?_) h
  unfold f_X9_scale
  refine J.sub (lv' := [(0, .ref (B.1 1 0)), (1, .int p1), (2, .int p2)]) [0, 1, 2] rfl ?_
  refine J.aload_n hx dX9_scale_0 rfl 0 rfl ?_
  refine J.bipush (v := 6) hx dX9_scale_1 (by decide) ?_
  refine J.iload_n hx dX9_scale_3 rfl 1 rfl ?_
  refine J.iload_n hx dX9_scale_4 rfl 2 rfl ?_
  refine J.calli hx (fun r z1 z => j_callV (κ := 1) hx rfl rfl a0.1 (mt_X9_hand a0 z) (lw_V q1949 q1951 qs60 q129 q1952) hd_X9_hand rfl ⟨Nat.le_of_ble_eq_true rfl, Nat.le_of_ble_eq_true rfl⟩ (Nat.le_of_ble_eq_true rfl) dX9_scale_5) ⟨⟨rfl, rfl⟩, Nat.le_of_ble_eq_true rfl, Nat.le_of_ble_eq_true rfl⟩ fun v1 w2 e3 => ?_
  exact J.iret hx rfl (Nat.le_of_ble_eq_true rfl) (Nat.le_of_ble_eq_true rfl) dX9_scale_8
theorem hd_X9_set : yX9_set.cls = RX9 ∧ yX9_set.cls ≠ "java/lang/invoke/MethodHandle" ∧ yX9_set.cls ≠ "java/lang/invoke/VarHandle" ∧ (parseMethodDescriptor yX9_set.desc).map (fun d => d.parameters.length) = some 2 := by decide +kernel
def f_X9_set (p1 : Int32) (p2 : Int32) (w : j_St) : Option (Int32 × j_St) := jcb (f_X9_hand 7 p1 p2 w) fun v1 w2 => some (v1, w2)
abbrev rm_X9_set : Room := { frames := 8, cells := 0, slots := 0, locals := 191 }
set_option maxRecDepth 100000 in
set_option maxHeartbeats 4000000 in
theorem mt_X9_set {g : j_G} {B : j_B} {p1 : Int32} {p2 : Int32} {w w' : j_St} (a0 : B.2.1 1 0 ∧ B.2.2 1 0) {r : Int32} (h : f_X9_set p1 p2 w = some (r, w')) : j_M g yX9_set cX9_set 3 (some FieldType.int) rm_X9_set B [.ref (B.1 1 0), .int p1, .int p2] w w' (jri r) := by
  refine j_met (rv := jri) (by decide) (Nat.le_of_ble_eq_true rfl) (fun x hx => ?_) h
  unfold f_X9_set
  refine J.sub (lv' := [(0, .ref (B.1 1 0)), (1, .int p1), (2, .int p2)]) [0, 1, 2] rfl ?_
  refine J.aload_n hx dX9_set_0 rfl 0 rfl ?_
  refine J.bipush (v := 7) hx dX9_set_1 (by decide) ?_
  refine J.iload_n hx dX9_set_3 rfl 1 rfl ?_
  refine J.iload_n hx dX9_set_4 rfl 2 rfl ?_
  refine J.calli hx (fun r z1 z => j_callV (κ := 1) hx rfl rfl a0.1 (mt_X9_hand a0 z) (lw_V q1949 q1951 qs60 q129 q1952) hd_X9_hand rfl ⟨Nat.le_of_ble_eq_true rfl, Nat.le_of_ble_eq_true rfl⟩ (Nat.le_of_ble_eq_true rfl) dX9_set_5) ⟨⟨rfl, rfl⟩, Nat.le_of_ble_eq_true rfl, Nat.le_of_ble_eq_true rfl⟩ fun v1 w2 e3 => ?_
  exact J.iret hx rfl (Nat.le_of_ble_eq_true rfl) (Nat.le_of_ble_eq_true rfl) dX9_set_8
theorem hd_X9_noise : yX9_noise.cls = RX9 ∧ yX9_noise.cls ≠ "java/lang/invoke/MethodHandle" ∧ yX9_noise.cls ≠ "java/lang/invoke/VarHandle" ∧ (parseMethodDescriptor yX9_noise.desc).map (fun d => d.parameters.length) = some 1 := by decide +kernel
def f_X9_noise (p1 : Int32) (w : j_St) : Option (Int32 × j_St) := jcb (f_X9_hand 8 p1 0 w) fun v1 w2 => some (v1, w2)
abbrev rm_X9_noise : Room := { frames := 8, cells := 0, slots := 0, locals := 191 }
set_option maxRecDepth 100000 in
set_option maxHeartbeats 4000000 in
theorem mt_X9_noise {g : j_G} {B : j_B} {p1 : Int32} {w w' : j_St} (a0 : B.2.1 1 0 ∧ B.2.2 1 0) {r : Int32} (h : f_X9_noise p1 w = some (r, w')) : j_M g yX9_noise cX9_noise 2 (some FieldType.int) rm_X9_noise B [.ref (B.1 1 0), .int p1] w w' (jri r) := by
  refine j_met (rv := jri) (by decide) (Nat.le_of_ble_eq_true rfl) (fun x hx => ?_) h
  unfold f_X9_noise
  refine J.sub (lv' := [(0, .ref (B.1 1 0)), (1, .int p1)]) [0, 1] rfl ?_
  refine J.aload_n hx dX9_noise_0 rfl 0 rfl ?_
  refine J.bipush (v := 8) hx dX9_noise_1 (by decide) ?_
  refine J.iload_n hx dX9_noise_3 rfl 1 rfl ?_
  refine J.iconst (v := 0) hx dX9_noise_4 (by decide) ?_
  refine J.calli hx (fun r z1 z => j_callV (κ := 1) hx rfl rfl a0.1 (mt_X9_hand a0 z) (lw_V q1949 q1951 qs60 q129 q1952) hd_X9_hand rfl ⟨Nat.le_of_ble_eq_true rfl, Nat.le_of_ble_eq_true rfl⟩ (Nat.le_of_ble_eq_true rfl) dX9_noise_5) ⟨⟨rfl, rfl⟩, Nat.le_of_ble_eq_true rfl, Nat.le_of_ble_eq_true rfl⟩ fun v1 w2 e3 => ?_
  exact J.iret hx rfl (Nat.le_of_ble_eq_true rfl) (Nat.le_of_ble_eq_true rfl) dX9_noise_8
theorem hd_X9_cut : yX9_cut.cls = RX9 ∧ yX9_cut.cls ≠ "java/lang/invoke/MethodHandle" ∧ yX9_cut.cls ≠ "java/lang/invoke/VarHandle" ∧ (parseMethodDescriptor yX9_cut.desc).map (fun d => d.parameters.length) = some 2 := by decide +kernel
def f_X9_cut (p1 : Int32) (p2 : Int32) (w : j_St) : Option (Int32 × j_St) := jcb (f_X9_hand 9 p1 p2 w) fun v1 w2 => some (v1, w2)
abbrev rm_X9_cut : Room := { frames := 8, cells := 0, slots := 0, locals := 191 }
set_option maxRecDepth 100000 in
set_option maxHeartbeats 4000000 in
theorem mt_X9_cut {g : j_G} {B : j_B} {p1 : Int32} {p2 : Int32} {w w' : j_St} (a0 : B.2.1 1 0 ∧ B.2.2 1 0) {r : Int32} (h : f_X9_cut p1 p2 w = some (r, w')) : j_M g yX9_cut cX9_cut 3 (some FieldType.int) rm_X9_cut B [.ref (B.1 1 0), .int p1, .int p2] w w' (jri r) := by
  refine j_met (rv := jri) (by decide) (Nat.le_of_ble_eq_true rfl) (fun x hx => ?_) h
  unfold f_X9_cut
  refine J.sub (lv' := [(0, .ref (B.1 1 0)), (1, .int p1), (2, .int p2)]) [0, 1, 2] rfl ?_
  refine J.aload_n hx dX9_cut_0 rfl 0 rfl ?_
  refine J.bipush (v := 9) hx dX9_cut_1 (by decide) ?_
  refine J.iload_n hx dX9_cut_3 rfl 1 rfl ?_
  refine J.iload_n hx dX9_cut_4 rfl 2 rfl ?_
  refine J.calli hx (fun r z1 z => j_callV (κ := 1) hx rfl rfl a0.1 (mt_X9_hand a0 z) (lw_V q1949 q1951 qs60 q129 q1952) hd_X9_hand rfl ⟨Nat.le_of_ble_eq_true rfl, Nat.le_of_ble_eq_true rfl⟩ (Nat.le_of_ble_eq_true rfl) dX9_cut_5) ⟨⟨rfl, rfl⟩, Nat.le_of_ble_eq_true rfl, Nat.le_of_ble_eq_true rfl⟩ fun v1 w2 e3 => ?_
  exact J.iret hx rfl (Nat.le_of_ble_eq_true rfl) (Nat.le_of_ble_eq_true rfl) dX9_cut_8
theorem hd_X9_draw : yX9_draw.cls = RX9 ∧ yX9_draw.cls ≠ "java/lang/invoke/MethodHandle" ∧ yX9_draw.cls ≠ "java/lang/invoke/VarHandle" ∧ (parseMethodDescriptor yX9_draw.desc).map (fun d => d.parameters.length) = some 1 := by decide +kernel
def f_X9_draw (p1 : Int32) (w : j_St) : Option (Int32 × j_St) := jlt (jgl w 1 0 45) fun v1 => jlt (jsl w 1 0 45 ((v1 * 6364136223846793005) + 1442695040888963407)) fun w2 => jlt (jgl w2 1 0 45) fun v3 => jlt ((v3.toUInt64 >>> ((33 : Int32).toInt64.toUInt64 &&& Int64.toUInt64 63)).toInt64) fun v5 => jlt p1.toInt64 fun v4 => if v4 = 0 then none else some ((v5 - v5 / v4 * v4).toInt32, w2)
abbrev rm_X9_draw : Room := { frames := 0, cells := 0, slots := 0, locals := 0 }
set_option maxRecDepth 100000 in
set_option maxHeartbeats 4000000 in
theorem mt_X9_draw {g : j_G} {B : j_B} {p1 : Int32} {w w' : j_St} (a0 : B.2.1 1 0 ∧ B.2.2 1 0) {r : Int32} (h : f_X9_draw p1 w = some (r, w')) : j_M g yX9_draw cX9_draw 2 (some FieldType.int) rm_X9_draw B [.ref (B.1 1 0), .int p1] w w' (jri r) := by
  refine j_met (rv := jri) (by decide) (Nat.le_of_ble_eq_true rfl) (fun x hx => ?_) h
  unfold f_X9_draw
  refine J.sub (lv' := [(0, .ref (B.1 1 0)), (1, .int p1)]) [0, 1] rfl ?_
  refine J.aload_n hx dX9_draw_0 rfl 0 rfl ?_
  refine J.aload_n hx dX9_draw_1 rfl 0 rfl ?_
  refine J.getl (κ := 1) (k := 45) hx rfl rfl rfl in_X9 (by decide) (Or.inl q1698) a0.1 dX9_draw_2 fun v1 => ?_
  refine J.ldc2 (v := 6364136223846793005) hx q2125 dX9_draw_5 ?_
  refine J.lmul hx dX9_draw_8 ?_
  refine J.ldc2 (v := 1442695040888963407) hx q2126 dX9_draw_9 ?_
  refine J.ladd hx dX9_draw_12 ?_
  refine J.putl (κ := 1) (k := 45) hx rfl rfl rfl in_X9 tyX9_ok nmX9 (by decide) (Or.inl q1698) rfl rfl a0.1 rfl dX9_draw_13 fun w2 => ?_
  refine J.aload_n hx dX9_draw_16 rfl 0 rfl ?_
  refine J.getl (κ := 1) (k := 45) hx rfl rfl rfl in_X9 (by decide) (Or.inl q1698) a0.1 dX9_draw_17 fun v3 => ?_
  refine J.bipush (v := 33) hx dX9_draw_20 (by decide) ?_
  refine J.lushr hx dX9_draw_22 ?_
  refine J.iload_n hx dX9_draw_23 rfl 1 rfl ?_
  refine J.i2l hx dX9_draw_24 ?_
  refine J.nm2l fun v5 v4 => ?_
  refine J.lrem hx dX9_draw_25 ?_
  refine J.l2i hx dX9_draw_26 ?_
  exact J.iret hx rfl (Nat.le_of_ble_eq_true rfl) (Nat.le_of_ble_eq_true rfl) dX9_draw_27
theorem hd_X9_drawWay : yX9_drawWay.cls = RX9 ∧ yX9_drawWay.cls ≠ "java/lang/invoke/MethodHandle" ∧ yX9_drawWay.cls ≠ "java/lang/invoke/VarHandle" ∧ (parseMethodDescriptor yX9_drawWay.desc).map (fun d => d.parameters.length) = some 0 := by decide +kernel
def f_X9_drawWay  (w : j_St) : Option (Unit × j_St) := jcb (f_X9_draw 8 w) fun v1 w2 => if 3 ≤ v1 then if 6 ≤ v1 then if v1 = 6 then jcb (f_X9_draw 200 w2) fun v13 w14 => jcb (f_X9_act 8 v13 0 w14) fun v16 w17 => some ((), w17) else jcb (f_X9_draw 100 w2) fun v4 w5 => jcb (f_X9_draw 9 w5) fun v7 w8 => jcb (f_X9_act 6 v4 (v7 + 1) w8) fun v10 w11 => some ((), w11) else jcb (f_X9_many w2) fun v19 w20 => jcb (f_X9_draw v19 w20) fun v22 w23 => jcb (f_X9_draw 1000 w23) fun v25 w26 => jcb (f_X9_act 7 v22 v25 w26) fun v28 w29 => some ((), w29) else jcb (f_X9_act v1 0 0 w2) fun v31 w32 => some ((), w32)
abbrev rm_X9_drawWay : Room := { frames := 7, cells := 0, slots := 0, locals := 167 }
set_option maxRecDepth 100000 in
set_option maxHeartbeats 4000000 in
theorem mt_X9_drawWay {g : j_G} {B : j_B}  {w w' : j_St} (a0 : B.2.1 1 0 ∧ B.2.2 1 0) {r : Unit} (h : f_X9_drawWay  w = some (r, w')) : j_M g yX9_drawWay cX9_drawWay 3 none rm_X9_drawWay B [.ref (B.1 1 0)] w w' (jrv r) := by
  refine j_met (rv := jrv) (by decide) (Nat.le_of_ble_eq_true rfl) (fun x hx => ?_) h
  unfold f_X9_drawWay
  refine J.sub (lv' := [(0, .ref (B.1 1 0))]) [0] rfl ?_
  refine J.aload_n hx dX9_drawWay_0 rfl 0 rfl ?_
  refine J.bipush (v := 8) hx dX9_drawWay_1 (by decide) ?_
  refine J.calli hx (fun r z1 z => j_callV (κ := 1) hx rfl rfl a0.1 (mt_X9_draw a0 z) (lw_V q2121 q2123 qs91 q129 q2124) hd_X9_draw rfl ⟨Nat.le_of_ble_eq_true rfl, Nat.le_of_ble_eq_true rfl⟩ (Nat.le_of_ble_eq_true rfl) dX9_drawWay_3) ⟨⟨rfl, rfl⟩, Nat.le_of_ble_eq_true rfl, Nat.le_of_ble_eq_true rfl⟩ fun v1 w2 e3 => ?_
  refine J.istore_n (lv' := [(1, .int v1), (0, .ref (B.1 1 0))]) hx dX9_drawWay_6 rfl (by decide) rfl ?_
  refine J.iload_n hx dX9_drawWay_7 rfl 0 rfl ?_
  refine J.iconst (v := 3) hx dX9_drawWay_8 (by decide) ?_
  refine J.icmp_ge (tgt := 23) hx dX9_drawWay_9 (by decide) ?_ ?_
  · refine J.iload_n hx dX9_drawWay_23 rfl 0 rfl ?_
    refine J.bipush (v := 6) hx dX9_drawWay_24 (by decide) ?_
    refine J.icmp_ge (tgt := 56) hx dX9_drawWay_26 (by decide) ?_ ?_
    · refine J.iload_n hx dX9_drawWay_56 rfl 0 rfl ?_
      refine J.bipush (v := 6) hx dX9_drawWay_57 (by decide) ?_
      refine J.icmp_ne (tgt := 80) hx dX9_drawWay_59 (by decide) ?_ ?_
      · refine J.aload_n hx dX9_drawWay_62 rfl 1 rfl ?_
        refine J.bipush (v := 8) hx dX9_drawWay_63 (by decide) ?_
        refine J.aload_n hx dX9_drawWay_65 rfl 1 rfl ?_
        refine J.sipush (v := 200) hx dX9_drawWay_66 (by decide) ?_
        refine J.calli hx (fun r z1 z => j_callV (κ := 1) hx rfl rfl a0.1 (mt_X9_draw a0 z) (lw_V q2121 q2123 qs91 q129 q2124) hd_X9_draw rfl ⟨Nat.le_of_ble_eq_true rfl, Nat.le_of_ble_eq_true rfl⟩ (Nat.le_of_ble_eq_true rfl) dX9_drawWay_69) ⟨⟨rfl, rfl⟩, Nat.le_of_ble_eq_true rfl, Nat.le_of_ble_eq_true rfl⟩ fun v13 w14 e15 => ?_
        refine J.iconst (v := 0) hx dX9_drawWay_72 (by decide) ?_
        refine J.calli hx (fun r z1 z => j_callV (κ := 1) hx rfl rfl a0.1 (mt_X9_act a0 z) (lw_V q1961 q1963 qs63 q129 q1964) hd_X9_act rfl ⟨Nat.le_of_ble_eq_true rfl, Nat.le_of_ble_eq_true rfl⟩ (Nat.le_of_ble_eq_true rfl) dX9_drawWay_73) ⟨⟨rfl, rfl⟩, Nat.le_of_ble_eq_true rfl, Nat.le_of_ble_eq_true rfl⟩ fun v16 w17 e18 => ?_
        refine J.pop hx dX9_drawWay_76 rfl ?_
        refine J.goto (tgt := 103) hx dX9_drawWay_77 (by decide) ?_
        exact J.vret hx rfl (Nat.le_of_ble_eq_true rfl) (Nat.le_of_ble_eq_true rfl) dX9_drawWay_103
      · refine J.aload_n hx dX9_drawWay_80 rfl 1 rfl ?_
        refine J.bipush (v := 100) hx dX9_drawWay_81 (by decide) ?_
        refine J.calli hx (fun r z1 z => j_callV (κ := 1) hx rfl rfl a0.1 (mt_X9_draw a0 z) (lw_V q2121 q2123 qs91 q129 q2124) hd_X9_draw rfl ⟨Nat.le_of_ble_eq_true rfl, Nat.le_of_ble_eq_true rfl⟩ (Nat.le_of_ble_eq_true rfl) dX9_drawWay_83) ⟨⟨rfl, rfl⟩, Nat.le_of_ble_eq_true rfl, Nat.le_of_ble_eq_true rfl⟩ fun v4 w5 e6 => ?_
        refine J.istore_n (lv' := [(2, .int v4), (1, .int v1), (0, .ref (B.1 1 0))]) hx dX9_drawWay_86 rfl (by decide) rfl ?_
        refine J.aload_n hx dX9_drawWay_87 rfl 2 rfl ?_
        refine J.bipush (v := 6) hx dX9_drawWay_88 (by decide) ?_
        refine J.iload_n hx dX9_drawWay_90 rfl 0 rfl ?_
        refine J.aload_n hx dX9_drawWay_91 rfl 2 rfl ?_
        refine J.bipush (v := 9) hx dX9_drawWay_92 (by decide) ?_
        refine J.calli hx (fun r z1 z => j_callV (κ := 1) hx rfl rfl a0.1 (mt_X9_draw a0 z) (lw_V q2121 q2123 qs91 q129 q2124) hd_X9_draw rfl ⟨Nat.le_of_ble_eq_true rfl, Nat.le_of_ble_eq_true rfl⟩ (Nat.le_of_ble_eq_true rfl) dX9_drawWay_94) ⟨⟨rfl, rfl⟩, Nat.le_of_ble_eq_true rfl, Nat.le_of_ble_eq_true rfl⟩ fun v7 w8 e9 => ?_
        refine J.iconst (v := 1) hx dX9_drawWay_97 (by decide) ?_
        refine J.iadd hx dX9_drawWay_98 ?_
        refine J.calli hx (fun r z1 z => j_callV (κ := 1) hx rfl rfl a0.1 (mt_X9_act a0 z) (lw_V q1961 q1963 qs63 q129 q1964) hd_X9_act rfl ⟨Nat.le_of_ble_eq_true rfl, Nat.le_of_ble_eq_true rfl⟩ (Nat.le_of_ble_eq_true rfl) dX9_drawWay_99) ⟨⟨rfl, rfl⟩, Nat.le_of_ble_eq_true rfl, Nat.le_of_ble_eq_true rfl⟩ fun v10 w11 e12 => ?_
        refine J.pop hx dX9_drawWay_102 rfl ?_
        exact J.vret hx rfl (Nat.le_of_ble_eq_true rfl) (Nat.le_of_ble_eq_true rfl) dX9_drawWay_103
    · refine J.aload_n hx dX9_drawWay_29 rfl 1 rfl ?_
      refine J.aload_n hx dX9_drawWay_30 rfl 1 rfl ?_
      refine J.calli hx (fun r z1 z => j_callV (κ := 1) hx rfl rfl a0.1 (mt_X9_many a0 z) (lw_V q1941 q1943 qs59 q129 q1944) hd_X9_many rfl ⟨Nat.le_of_ble_eq_true rfl, Nat.le_of_ble_eq_true rfl⟩ (Nat.le_of_ble_eq_true rfl) dX9_drawWay_31) ⟨⟨rfl, rfl⟩, Nat.le_of_ble_eq_true rfl, Nat.le_of_ble_eq_true rfl⟩ fun v19 w20 e21 => ?_
      refine J.calli hx (fun r z1 z => j_callV (κ := 1) hx rfl rfl a0.1 (mt_X9_draw a0 z) (lw_V q2121 q2123 qs91 q129 q2124) hd_X9_draw rfl ⟨Nat.le_of_ble_eq_true rfl, Nat.le_of_ble_eq_true rfl⟩ (Nat.le_of_ble_eq_true rfl) dX9_drawWay_34) ⟨⟨rfl, rfl⟩, Nat.le_of_ble_eq_true rfl, Nat.le_of_ble_eq_true rfl⟩ fun v22 w23 e24 => ?_
      refine J.istore_n (lv' := [(2, .int v22), (1, .int v1), (0, .ref (B.1 1 0))]) hx dX9_drawWay_37 rfl (by decide) rfl ?_
      refine J.aload_n hx dX9_drawWay_38 rfl 2 rfl ?_
      refine J.bipush (v := 7) hx dX9_drawWay_39 (by decide) ?_
      refine J.iload_n hx dX9_drawWay_41 rfl 0 rfl ?_
      refine J.aload_n hx dX9_drawWay_42 rfl 2 rfl ?_
      refine J.sipush (v := 1000) hx dX9_drawWay_43 (by decide) ?_
      refine J.calli hx (fun r z1 z => j_callV (κ := 1) hx rfl rfl a0.1 (mt_X9_draw a0 z) (lw_V q2121 q2123 qs91 q129 q2124) hd_X9_draw rfl ⟨Nat.le_of_ble_eq_true rfl, Nat.le_of_ble_eq_true rfl⟩ (Nat.le_of_ble_eq_true rfl) dX9_drawWay_46) ⟨⟨rfl, rfl⟩, Nat.le_of_ble_eq_true rfl, Nat.le_of_ble_eq_true rfl⟩ fun v25 w26 e27 => ?_
      refine J.calli hx (fun r z1 z => j_callV (κ := 1) hx rfl rfl a0.1 (mt_X9_act a0 z) (lw_V q1961 q1963 qs63 q129 q1964) hd_X9_act rfl ⟨Nat.le_of_ble_eq_true rfl, Nat.le_of_ble_eq_true rfl⟩ (Nat.le_of_ble_eq_true rfl) dX9_drawWay_49) ⟨⟨rfl, rfl⟩, Nat.le_of_ble_eq_true rfl, Nat.le_of_ble_eq_true rfl⟩ fun v28 w29 e30 => ?_
      refine J.pop hx dX9_drawWay_52 rfl ?_
      refine J.goto (tgt := 103) hx dX9_drawWay_53 (by decide) ?_
      exact J.vret hx rfl (Nat.le_of_ble_eq_true rfl) (Nat.le_of_ble_eq_true rfl) dX9_drawWay_103
  · refine J.aload_n hx dX9_drawWay_12 rfl 1 rfl ?_
    refine J.iload_n hx dX9_drawWay_13 rfl 0 rfl ?_
    refine J.iconst (v := 0) hx dX9_drawWay_14 (by decide) ?_
    refine J.iconst (v := 0) hx dX9_drawWay_15 (by decide) ?_
    refine J.calli hx (fun r z1 z => j_callV (κ := 1) hx rfl rfl a0.1 (mt_X9_act a0 z) (lw_V q1961 q1963 qs63 q129 q1964) hd_X9_act rfl ⟨Nat.le_of_ble_eq_true rfl, Nat.le_of_ble_eq_true rfl⟩ (Nat.le_of_ble_eq_true rfl) dX9_drawWay_16) ⟨⟨rfl, rfl⟩, Nat.le_of_ble_eq_true rfl, Nat.le_of_ble_eq_true rfl⟩ fun v31 w32 e33 => ?_
    refine J.pop hx dX9_drawWay_19 rfl ?_
    refine J.goto (tgt := 103) hx dX9_drawWay_20 (by decide) ?_
    exact J.vret hx rfl (Nat.le_of_ble_eq_true rfl) (Nat.le_of_ble_eq_true rfl) dX9_drawWay_103
theorem hd_X9_ways : yX9_ways.cls = RX9 ∧ yX9_ways.cls ≠ "java/lang/invoke/MethodHandle" ∧ yX9_ways.cls ≠ "java/lang/invoke/VarHandle" ∧ (parseMethodDescriptor yX9_ways.desc).map (fun d => d.parameters.length) = some 2 := by decide +kernel
def f_X9_ways_L27 (p1 : Int32) (k43 : j_St → Option (Int32 × j_St)) : Nat → Int32 → j_St → Option (Int32 × j_St)
  | 0, _, _ => none
  | n27 + 1, v6, w7 => if p1 ≤ v6 then k43 w7 else jcb (f_X9_drawWay w7) fun _ w9 => jlt (v6 + 1) fun v11 => f_X9_ways_L27 p1 k43 n27 v11 w9
def f_X9_ways (p1 : Int32) (p2 : Int64) (w : j_St) : Option (Int32 × j_St) := jlt (jgi w 1 0 29) fun v1 => if v1 = 0 then some ((-1), w) else jcb (f_X9_in p1 1 40 w) fun v2 w3 => if v2 = 0 then some ((-1), w3) else jlt (jsl w3 1 0 45 p2) fun w5 => f_X9_ways_L27 p1 (fun (w12 : j_St) => jcb (f_X9_keptNow w12) fun v13 w14 => some (v13, w14)) jFU 0 w5
abbrev rm_X9_ways : Room := { frames := 8, cells := 0, slots := 0, locals := 189 }
set_option maxRecDepth 100000 in
set_option maxHeartbeats 4000000 in
theorem mt_X9_ways {g : j_G} {B : j_B} {p1 : Int32} {p2 : Int64} {w w' : j_St} (a0 : B.2.1 1 0 ∧ B.2.2 1 0) {r : Int32} (h : f_X9_ways p1 p2 w = some (r, w')) : j_M g yX9_ways cX9_ways 5 (some FieldType.int) rm_X9_ways B [.ref (B.1 1 0), .int p1, .long p2] w w' (jri r) := by
  refine j_met (rv := jri) (by decide) (Nat.le_of_ble_eq_true rfl) (fun x hx => ?_) h
  unfold f_X9_ways
  refine J.sub (lv' := [(0, .ref (B.1 1 0)), (1, .int p1), (2, .long p2)]) [0, 1, 2] rfl ?_
  refine J.aload_n hx dX9_ways_0 rfl 0 rfl ?_
  refine J.geti (κ := 1) (k := 29) hx rfl rfl rfl in_X9 (by decide) (Or.inl q1682) a0.1 dX9_ways_1 fun v1 => ?_
  refine J.if_eq (tgt := 17) hx dX9_ways_4 (by decide) ?_ ?_
  · refine J.iconst (v := (-1)) hx dX9_ways_17 (by decide) ?_
    exact J.iret hx rfl (Nat.le_of_ble_eq_true rfl) (Nat.le_of_ble_eq_true rfl) dX9_ways_18
  · refine J.iload_n hx dX9_ways_7 rfl 1 rfl ?_
    refine J.iconst (v := 1) hx dX9_ways_8 (by decide) ?_
    refine J.bipush (v := 40) hx dX9_ways_9 (by decide) ?_
    refine J.calli hx (fun r z1 z => j_callS hx (mt_X9_in z) (lw_S q1826 q1827 q129 q1828) hd_X9_in.2 rfl ⟨Nat.le_of_ble_eq_true rfl, Nat.le_of_ble_eq_true rfl⟩ (Nat.le_of_ble_eq_true rfl) dX9_ways_11) ⟨⟨rfl, rfl⟩, Nat.le_of_ble_eq_true rfl, Nat.le_of_ble_eq_true rfl⟩ fun v2 w3 e4 => ?_
    refine J.if_ne (tgt := 19) hx dX9_ways_14 (by decide) ?_ ?_
    · refine J.iconst (v := (-1)) hx dX9_ways_17 (by decide) ?_
      exact J.iret hx rfl (Nat.le_of_ble_eq_true rfl) (Nat.le_of_ble_eq_true rfl) dX9_ways_18
    · refine J.aload_n hx dX9_ways_19 rfl 0 rfl ?_
      refine J.lload_n hx dX9_ways_20 rfl 2 rfl ?_
      refine J.putl (κ := 1) (k := 45) hx rfl rfl rfl in_X9 tyX9_ok nmX9 (by decide) (Or.inl q1698) rfl rfl a0.1 rfl dX9_ways_21 fun w5 => ?_
      refine J.iconst (v := 0) hx dX9_ways_24 (by decide) ?_
      refine J.istore (lv' := [(4, .int 0), (0, .ref (B.1 1 0)), (1, .int p1), (2, .long p2)]) hx dX9_ways_25 (by decide) rfl ?_
      have hL27 : ∀ (k43 : j_St → Option (Int32 × j_St)) (hk43 : ∀  (w12 : j_St), J g x 5 B (j_Q g x B rm_X9_ways jri) 0 0 (k43 w12) 43 [(0, .ref (B.1 1 0))] [] w12) (n27 : Nat) (v6 : Int32) (w7 : j_St), J g x 5 B (j_Q g x B rm_X9_ways jri) 0 0 (f_X9_ways_L27 p1 k43 n27 v6 w7) 27 [(0, .ref (B.1 1 0)), (1, .int p1), (4, .int v6)] [] w7 := by
        intro k43 hk43 n27
        induction n27 with
        | zero =>
          intro v6 w7
          rw [f_X9_ways_L27]
          exact J.nne
        | succ n27 ih =>
          intro v6 w7
          rw [f_X9_ways_L27]
          refine J.iload hx dX9_ways_27 2 rfl ?_
          refine J.iload_n hx dX9_ways_29 rfl 1 rfl ?_
          refine J.icmp_ge (tgt := 43) hx dX9_ways_30 (by decide) ?_ ?_
          · exact J.sub [0] rfl (hk43 w7)
          · refine J.aload_n hx dX9_ways_33 rfl 0 rfl ?_
            refine J.callv hx (fun r z1 z => j_callV (κ := 1) hx rfl rfl a0.1 (mt_X9_drawWay a0 z) (lw_V q2117 q2119 qs90 q129 q2120) hd_X9_drawWay rfl ⟨Nat.le_of_ble_eq_true rfl, Nat.le_of_ble_eq_true rfl⟩ (Nat.le_of_ble_eq_true rfl) dX9_ways_34) ⟨⟨rfl, rfl⟩, Nat.le_of_ble_eq_true rfl, Nat.le_of_ble_eq_true rfl⟩ fun _ w9 e10 => ?_
            refine J.nmx fun v11 ev11 => ?_
            refine J.iinc (p := 2) (v := v11) (lv' := [(4, .int v11), (0, .ref (B.1 1 0)), (1, .int p1)]) hx dX9_ways_37 rfl (by rw [ev11]; rfl) (by decide) rfl ?_
            refine J.goto (tgt := 27) hx dX9_ways_40 (by decide) ?_
            exact J.sub [1, 2, 0] rfl (ih v11 w9)
      refine J.sub [1, 2, 0] rfl (hL27 _ ?_ jFU 0 w5)
      · intro w12
        refine J.aload_n hx dX9_ways_43 rfl 0 rfl ?_
        refine J.calli hx (fun r z1 z => j_callV (κ := 1) hx rfl rfl a0.1 (mt_X9_keptNow a0 z) (lw_V q1986 q1988 qs68 q129 q1989) hd_X9_keptNow rfl ⟨Nat.le_of_ble_eq_true rfl, Nat.le_of_ble_eq_true rfl⟩ (Nat.le_of_ble_eq_true rfl) dX9_ways_44) ⟨⟨rfl, rfl⟩, Nat.le_of_ble_eq_true rfl, Nat.le_of_ble_eq_true rfl⟩ fun v13 w14 e15 => ?_
        exact J.iret hx rfl (Nat.le_of_ble_eq_true rfl) (Nat.le_of_ble_eq_true rfl) dX9_ways_47
theorem hd_X9_status : yX9_status.cls = RX9 ∧ yX9_status.cls ≠ "java/lang/invoke/MethodHandle" ∧ yX9_status.cls ≠ "java/lang/invoke/VarHandle" ∧ (parseMethodDescriptor yX9_status.desc).map (fun d => d.parameters.length) = some 1 := by decide +kernel
def f_X9_status (p1 : Int32) (w : j_St) : Option (Int32 × j_St) := jcb (f_X9_in p1 0 1 w) fun v1 w2 => if v1 = 0 then some ((-1), w2) else jbd p1 2 fun a5 => jlt (jgi w2 48 0 a5) fun v6 => some (v6, w2)
abbrev rm_X9_status : Room := { frames := 1, cells := 0, slots := 0, locals := 22 }
set_option maxRecDepth 100000 in
set_option maxHeartbeats 4000000 in
theorem mt_X9_status {g : j_G} {B : j_B} {p1 : Int32} {w w' : j_St} (a0 : B.2.1 1 0 ∧ B.2.2 1 0) {r : Int32} (h : f_X9_status p1 w = some (r, w')) : j_M g yX9_status cX9_status 2 (some FieldType.int) rm_X9_status B [.ref (B.1 1 0), .int p1] w w' (jri r) := by
  refine j_met (rv := jri) (by decide) (Nat.le_of_ble_eq_true rfl) (fun x hx => ?_) h
  unfold f_X9_status
  refine J.sub (lv' := [(0, .ref (B.1 1 0)), (1, .int p1)]) [0, 1] rfl ?_
  refine J.iload_n hx dX9_status_0 rfl 1 rfl ?_
  refine J.iconst (v := 0) hx dX9_status_1 (by decide) ?_
  refine J.iconst (v := 1) hx dX9_status_2 (by decide) ?_
  refine J.calli hx (fun r z1 z => j_callS hx (mt_X9_in z) (lw_S q1826 q1827 q129 q1828) hd_X9_in.2 rfl ⟨Nat.le_of_ble_eq_true rfl, Nat.le_of_ble_eq_true rfl⟩ (Nat.le_of_ble_eq_true rfl) dX9_status_3) ⟨⟨rfl, rfl⟩, Nat.le_of_ble_eq_true rfl, Nat.le_of_ble_eq_true rfl⟩ fun v1 w2 e3 => ?_
  refine J.if_eq (tgt := 18) hx dX9_status_6 (by decide) ?_ ?_
  · refine J.iconst (v := (-1)) hx dX9_status_18 (by decide) ?_
    exact J.iret hx rfl (Nat.le_of_ble_eq_true rfl) (Nat.le_of_ble_eq_true rfl) dX9_status_19
  · refine J.aload_n hx dX9_status_9 rfl 0 rfl ?_
    refine J.getc (κ' := 48) (i' := 0) (κ := 1) (k := 23) hx rfl rfl rfl rfl rfl in_X9 (by decide) (Or.inl q1676) a0.2 dX9_status_10 fun h4 => ?_
    refine J.iload_n hx dX9_status_13 rfl 1 rfl ?_
    refine J.iald (κ := 48) hx rfl rfl h4.1 dX9_status_14 fun v6 => ?_
    refine J.goto (tgt := 19) hx dX9_status_15 (by decide) ?_
    exact J.iret hx rfl (Nat.le_of_ble_eq_true rfl) (Nat.le_of_ble_eq_true rfl) dX9_status_19
theorem hd_X9_undo : yX9_undo.cls = RX9 ∧ yX9_undo.cls ≠ "java/lang/invoke/MethodHandle" ∧ yX9_undo.cls ≠ "java/lang/invoke/VarHandle" ∧ (parseMethodDescriptor yX9_undo.desc).map (fun d => d.parameters.length) = some 0 := by decide +kernel
def f_X9_undo_L21   : Nat → Int32 → j_St → Option (Int32 × j_St)
  | 0, _, _ => none
  | n21 + 1, v4, w5 => if 231 ≤ v4 then jlt (jgi w5 1 0 44) fun v6 => some (v6, w5) else jlt (jgi w5 1 0 44) fun v9 => jbd ((231 * v9) + v4) 9240 fun a10 => jlt (jgi w5 62 0 a10) fun v11 => jbd v4 231 fun a13 => jlt (jsi w5 47 0 a13 v11) fun w12 => jlt (v4 + 1) fun v14 => f_X9_undo_L21 n21 v14 w12
def f_X9_undo  (w : j_St) : Option (Int32 × j_St) := jlt (jgi w 1 0 44) fun v1 => if v1 = 0 then some ((-1), w) else jlt (jgi w 1 0 44) fun v2 => jlt (jsi w 1 0 44 (v2 - 1)) fun w3 => f_X9_undo_L21 jFU 0 w3
abbrev rm_X9_undo : Room := { frames := 0, cells := 0, slots := 0, locals := 0 }
set_option maxRecDepth 100000 in
set_option maxHeartbeats 4000000 in
theorem mt_X9_undo {g : j_G} {B : j_B}  {w w' : j_St} (a0 : B.2.1 1 0 ∧ B.2.2 1 0) {r : Int32} (h : f_X9_undo  w = some (r, w')) : j_M g yX9_undo cX9_undo 2 (some FieldType.int) rm_X9_undo B [.ref (B.1 1 0)] w w' (jri r) := by
  refine j_met (rv := jri) (by decide) (Nat.le_of_ble_eq_true rfl) (fun x hx => ?_) h
  unfold f_X9_undo
  refine J.sub (lv' := [(0, .ref (B.1 1 0))]) [0] rfl ?_
  refine J.aload_n hx dX9_undo_0 rfl 0 rfl ?_
  refine J.geti (κ := 1) (k := 44) hx rfl rfl rfl in_X9 (by decide) (Or.inl q1697) a0.1 dX9_undo_1 fun v1 => ?_
  refine J.if_ne (tgt := 9) hx dX9_undo_4 (by decide) ?_ ?_
  · refine J.iconst (v := (-1)) hx dX9_undo_7 (by decide) ?_
    exact J.iret hx rfl (Nat.le_of_ble_eq_true rfl) (Nat.le_of_ble_eq_true rfl) dX9_undo_8
  · refine J.aload_n hx dX9_undo_9 rfl 0 rfl ?_
    refine J.dup hx dX9_undo_10 rfl ?_
    refine J.geti (κ := 1) (k := 44) hx rfl rfl rfl in_X9 (by decide) (Or.inl q1697) a0.1 dX9_undo_11 fun v2 => ?_
    refine J.iconst (v := 1) hx dX9_undo_14 (by decide) ?_
    refine J.isub hx dX9_undo_15 ?_
    refine J.puti (κ := 1) (k := 44) hx rfl rfl rfl in_X9 tyX9_ok nmX9 (by decide) (Or.inl q1697) rfl rfl a0.1 ⟨rfl, rfl⟩ dX9_undo_16 fun w3 => ?_
    refine J.iconst (v := 0) hx dX9_undo_19 (by decide) ?_
    refine J.istore_n (lv' := [(1, .int 0), (0, .ref (B.1 1 0))]) hx dX9_undo_20 rfl (by decide) rfl ?_
    have hL21 : ∀ (n21 : Nat) (v4 : Int32) (w5 : j_St), J g x 2 B (j_Q g x B rm_X9_undo jri) 0 0 (f_X9_undo_L21 n21 v4 w5) 21 [(0, .ref (B.1 1 0)), (1, .int v4)] [] w5 := by
      intro n21
      induction n21 with
      | zero =>
        intro v4 w5
        rw [f_X9_undo_L21]
        exact J.nne
      | succ n21 ih =>
        intro v4 w5
        rw [f_X9_undo_L21]
        refine J.iload_n hx dX9_undo_21 rfl 1 rfl ?_
        refine J.sipush (v := 231) hx dX9_undo_22 (by decide) ?_
        refine J.icmp_ge (tgt := 55) hx dX9_undo_25 (by decide) ?_ ?_
        · refine J.aload_n hx dX9_undo_55 rfl 0 rfl ?_
          refine J.geti (κ := 1) (k := 44) hx rfl rfl rfl in_X9 (by decide) (Or.inl q1697) a0.1 dX9_undo_56 fun v6 => ?_
          exact J.iret hx rfl (Nat.le_of_ble_eq_true rfl) (Nat.le_of_ble_eq_true rfl) dX9_undo_59
        · refine J.aload_n hx dX9_undo_28 rfl 0 rfl ?_
          refine J.getc (κ' := 47) (i' := 0) (κ := 1) (k := 22) hx rfl rfl rfl rfl rfl in_X9 (by decide) (Or.inl q1675) a0.2 dX9_undo_29 fun h7 => ?_
          refine J.iload_n hx dX9_undo_32 rfl 1 rfl ?_
          refine J.aload_n hx dX9_undo_33 rfl 0 rfl ?_
          refine J.getc (κ' := 62) (i' := 0) (κ := 1) (k := 43) hx rfl rfl rfl rfl rfl in_X9 (by decide) (Or.inl q1696) a0.2 dX9_undo_34 fun h8 => ?_
          refine J.sipush (v := 231) hx dX9_undo_37 (by decide) ?_
          refine J.aload_n hx dX9_undo_40 rfl 0 rfl ?_
          refine J.geti (κ := 1) (k := 44) hx rfl rfl rfl in_X9 (by decide) (Or.inl q1697) a0.1 dX9_undo_41 fun v9 => ?_
          refine J.imul hx dX9_undo_44 ?_
          refine J.iload_n hx dX9_undo_45 rfl 1 rfl ?_
          refine J.iadd hx dX9_undo_46 ?_
          refine J.iald (κ := 62) hx rfl rfl h8.1 dX9_undo_47 fun v11 => ?_
          refine J.iast (κ := 47) hx rfl rfl rfl h7.1 dX9_undo_48 fun w12 => ?_
          refine J.nmx fun v14 ev14 => ?_
          refine J.iinc (p := 1) (v := v14) (lv' := [(1, .int v14), (0, .ref (B.1 1 0))]) hx dX9_undo_49 rfl (by rw [ev14]; rfl) (by decide) rfl ?_
          refine J.goto (tgt := 21) hx dX9_undo_52 (by decide) ?_
          exact J.sub [1, 0] rfl (ih v14 w12)
    refine J.sub [1, 0] rfl (hL21 jFU 0 w3)
theorem hd_X9_log : yX9_log.cls = RX9 ∧ yX9_log.cls ≠ "java/lang/invoke/MethodHandle" ∧ yX9_log.cls ≠ "java/lang/invoke/VarHandle" ∧ (parseMethodDescriptor yX9_log.desc).map (fun d => d.parameters.length) = some 2 := by decide +kernel
def f_X9_log (p1 : Int32) (p2 : Int32) (w : j_St) : Option (Int32 × j_St) := jbd 50 231 fun a2 => jlt (jgi w 47 0 a2) fun v3 => jcb (f_X9_in p1 0 (v3 - 1) w) fun v4 w5 => if v4 = 0 then some ((-1000000), w5) else jcb (f_X9_in p2 0 2 w5) fun v7 w8 => if v7 = 0 then some ((-1000000), w8) else jbd 50 231 fun a12 => jlt (jgi w8 47 0 a12) fun v13 => jbd ((51 + (3 * ((v13 - 1) - p1))) + p2) 231 fun a14 => jlt (jgi w8 47 0 a14) fun v15 => some (v15, w8)
abbrev rm_X9_log : Room := { frames := 1, cells := 0, slots := 0, locals := 22 }
set_option maxRecDepth 100000 in
set_option maxHeartbeats 4000000 in
theorem mt_X9_log {g : j_G} {B : j_B} {p1 : Int32} {p2 : Int32} {w w' : j_St} (a0 : B.2.1 1 0 ∧ B.2.2 1 0) {r : Int32} (h : f_X9_log p1 p2 w = some (r, w')) : j_M g yX9_log cX9_log 3 (some FieldType.int) rm_X9_log B [.ref (B.1 1 0), .int p1, .int p2] w w' (jri r) := by
  refine j_met (rv := jri) (by decide) (Nat.le_of_ble_eq_true rfl) (fun x hx => ?_) h
  unfold f_X9_log
  refine J.sub (lv' := [(0, .ref (B.1 1 0)), (1, .int p1), (2, .int p2)]) [0, 1, 2] rfl ?_
  refine J.iload_n hx dX9_log_0 rfl 1 rfl ?_
  refine J.iconst (v := 0) hx dX9_log_1 (by decide) ?_
  refine J.aload_n hx dX9_log_2 rfl 0 rfl ?_
  refine J.getc (κ' := 47) (i' := 0) (κ := 1) (k := 22) hx rfl rfl rfl rfl rfl in_X9 (by decide) (Or.inl q1675) a0.2 dX9_log_3 fun h1 => ?_
  refine J.bipush (v := 50) hx dX9_log_6 (by decide) ?_
  refine J.iald (κ := 47) hx rfl rfl h1.1 dX9_log_8 fun v3 => ?_
  refine J.iconst (v := 1) hx dX9_log_9 (by decide) ?_
  refine J.isub hx dX9_log_10 ?_
  refine J.calli hx (fun r z1 z => j_callS hx (mt_X9_in z) (lw_S q1826 q1827 q129 q1828) hd_X9_in.2 rfl ⟨Nat.le_of_ble_eq_true rfl, Nat.le_of_ble_eq_true rfl⟩ (Nat.le_of_ble_eq_true rfl) dX9_log_11) ⟨⟨rfl, rfl⟩, Nat.le_of_ble_eq_true rfl, Nat.le_of_ble_eq_true rfl⟩ fun v4 w5 e6 => ?_
  refine J.if_eq (tgt := 52) hx dX9_log_14 (by decide) ?_ ?_
  · refine J.ldc (v := (-1000000)) hx q1929 dX9_log_52 ?_
    exact J.iret hx rfl (Nat.le_of_ble_eq_true rfl) (Nat.le_of_ble_eq_true rfl) dX9_log_54
  · refine J.iload_n hx dX9_log_17 rfl 2 rfl ?_
    refine J.iconst (v := 0) hx dX9_log_18 (by decide) ?_
    refine J.iconst (v := 2) hx dX9_log_19 (by decide) ?_
    refine J.calli hx (fun r z1 z => j_callS hx (mt_X9_in z) (lw_S q1826 q1827 q129 q1828) hd_X9_in.2 rfl ⟨Nat.le_of_ble_eq_true rfl, Nat.le_of_ble_eq_true rfl⟩ (Nat.le_of_ble_eq_true rfl) dX9_log_20) ⟨⟨rfl, rfl⟩, Nat.le_of_ble_eq_true rfl, Nat.le_of_ble_eq_true rfl⟩ fun v7 w8 e9 => ?_
    refine J.if_eq (tgt := 52) hx dX9_log_23 (by decide) ?_ ?_
    · refine J.ldc (v := (-1000000)) hx q1929 dX9_log_52 ?_
      exact J.iret hx rfl (Nat.le_of_ble_eq_true rfl) (Nat.le_of_ble_eq_true rfl) dX9_log_54
    · refine J.aload_n hx dX9_log_26 rfl 0 rfl ?_
      refine J.getc (κ' := 47) (i' := 0) (κ := 1) (k := 22) hx rfl rfl rfl rfl rfl in_X9 (by decide) (Or.inl q1675) a0.2 dX9_log_27 fun h10 => ?_
      refine J.bipush (v := 51) hx dX9_log_30 (by decide) ?_
      refine J.iconst (v := 3) hx dX9_log_32 (by decide) ?_
      refine J.aload_n hx dX9_log_33 rfl 0 rfl ?_
      refine J.getc (κ' := 47) (i' := 0) (κ := 1) (k := 22) hx rfl rfl rfl rfl rfl in_X9 (by decide) (Or.inl q1675) a0.2 dX9_log_34 fun h11 => ?_
      refine J.bipush (v := 50) hx dX9_log_37 (by decide) ?_
      refine J.iald (κ := 47) hx rfl rfl h11.1 dX9_log_39 fun v13 => ?_
      refine J.iconst (v := 1) hx dX9_log_40 (by decide) ?_
      refine J.isub hx dX9_log_41 ?_
      refine J.iload_n hx dX9_log_42 rfl 1 rfl ?_
      refine J.isub hx dX9_log_43 ?_
      refine J.imul hx dX9_log_44 ?_
      refine J.iadd hx dX9_log_45 ?_
      refine J.iload_n hx dX9_log_46 rfl 2 rfl ?_
      refine J.iadd hx dX9_log_47 ?_
      refine J.iald (κ := 47) hx rfl rfl h10.1 dX9_log_48 fun v15 => ?_
      refine J.goto (tgt := 54) hx dX9_log_49 (by decide) ?_
      exact J.iret hx rfl (Nat.le_of_ble_eq_true rfl) (Nat.le_of_ble_eq_true rfl) dX9_log_54
theorem hd_X9_sumOf : yX9_sumOf.cls = RX9 ∧ yX9_sumOf.cls ≠ "java/lang/invoke/MethodHandle" ∧ yX9_sumOf.cls ≠ "java/lang/invoke/VarHandle" ∧ (parseMethodDescriptor yX9_sumOf.desc).map (fun d => d.parameters.length) = some 0 := by decide +kernel
def f_X9_sumOf_L4   : Nat → Int32 → Int32 → j_St → Option (Int32 × j_St)
  | 0, _, _, _ => none
  | n4 + 1, v1, v2, w3 => jcb (f_X9_many w3) fun v4 w5 => if v4 ≤ v2 then some (v1, w5) else jbd v2 231 fun a8 => jlt (jgi w5 47 0 a8) fun v9 => jlt (v1 + v9) fun v10 => jlt (v2 + 1) fun v11 => f_X9_sumOf_L4 n4 v10 v11 w5
def f_X9_sumOf  (w : j_St) : Option (Int32 × j_St) := f_X9_sumOf_L4 jFU 0 0 w
abbrev rm_X9_sumOf : Room := { frames := 1, cells := 0, slots := 0, locals := 20 }
set_option maxRecDepth 100000 in
set_option maxHeartbeats 4000000 in
theorem mt_X9_sumOf {g : j_G} {B : j_B}  {w w' : j_St} (a0 : B.2.1 1 0 ∧ B.2.2 1 0) {r : Int32} (h : f_X9_sumOf  w = some (r, w')) : j_M g yX9_sumOf cX9_sumOf 3 (some FieldType.int) rm_X9_sumOf B [.ref (B.1 1 0)] w w' (jri r) := by
  refine j_met (rv := jri) (by decide) (Nat.le_of_ble_eq_true rfl) (fun x hx => ?_) h
  unfold f_X9_sumOf
  refine J.sub (lv' := [(0, .ref (B.1 1 0))]) [0] rfl ?_
  refine J.iconst (v := 0) hx dX9_sumOf_0 (by decide) ?_
  refine J.istore_n (lv' := [(1, .int 0), (0, .ref (B.1 1 0))]) hx dX9_sumOf_1 rfl (by decide) rfl ?_
  refine J.iconst (v := 0) hx dX9_sumOf_2 (by decide) ?_
  refine J.istore_n (lv' := [(2, .int 0), (1, .int 0), (0, .ref (B.1 1 0))]) hx dX9_sumOf_3 rfl (by decide) rfl ?_
  have hL4 : ∀ (n4 : Nat) (v1 : Int32) (v2 : Int32) (w3 : j_St), J g x 3 B (j_Q g x B rm_X9_sumOf jri) 0 0 (f_X9_sumOf_L4 n4 v1 v2 w3) 4 [(0, .ref (B.1 1 0)), (1, .int v1), (2, .int v2)] [] w3 := by
    intro n4
    induction n4 with
    | zero =>
      intro v1 v2 w3
      rw [f_X9_sumOf_L4]
      exact J.nne
    | succ n4 ih =>
      intro v1 v2 w3
      rw [f_X9_sumOf_L4]
      refine J.iload_n hx dX9_sumOf_4 rfl 2 rfl ?_
      refine J.aload_n hx dX9_sumOf_5 rfl 0 rfl ?_
      refine J.calli hx (fun r z1 z => j_callV (κ := 1) hx rfl rfl a0.1 (mt_X9_many a0 z) (lw_V q1941 q1943 qs59 q129 q1944) hd_X9_many rfl ⟨Nat.le_of_ble_eq_true rfl, Nat.le_of_ble_eq_true rfl⟩ (Nat.le_of_ble_eq_true rfl) dX9_sumOf_6) ⟨⟨rfl, rfl⟩, Nat.le_of_ble_eq_true rfl, Nat.le_of_ble_eq_true rfl⟩ fun v4 w5 e6 => ?_
      refine J.icmp_ge (tgt := 27) hx dX9_sumOf_9 (by decide) ?_ ?_
      · refine J.iload_n hx dX9_sumOf_27 rfl 1 rfl ?_
        exact J.iret hx rfl (Nat.le_of_ble_eq_true rfl) (Nat.le_of_ble_eq_true rfl) dX9_sumOf_28
      · refine J.iload_n hx dX9_sumOf_12 rfl 1 rfl ?_
        refine J.aload_n hx dX9_sumOf_13 rfl 0 rfl ?_
        refine J.getc (κ' := 47) (i' := 0) (κ := 1) (k := 22) hx rfl rfl rfl rfl rfl in_X9 (by decide) (Or.inl q1675) a0.2 dX9_sumOf_14 fun h7 => ?_
        refine J.iload_n hx dX9_sumOf_17 rfl 2 rfl ?_
        refine J.iald (κ := 47) hx rfl rfl h7.1 dX9_sumOf_18 fun v9 => ?_
        refine J.iadd hx dX9_sumOf_19 ?_
        refine J.nmi fun v10 => ?_
        refine J.istore_n (lv' := [(1, .int v10), (0, .ref (B.1 1 0)), (2, .int v2)]) hx dX9_sumOf_20 rfl (by decide) rfl ?_
        refine J.nmx fun v11 ev11 => ?_
        refine J.iinc (p := 2) (v := v11) (lv' := [(2, .int v11), (1, .int v10), (0, .ref (B.1 1 0))]) hx dX9_sumOf_21 rfl (by rw [ev11]; rfl) (by decide) rfl ?_
        refine J.goto (tgt := 4) hx dX9_sumOf_24 (by decide) ?_
        exact J.sub [2, 1, 0] rfl (ih v10 v11 w5)
  refine J.sub [2, 1, 0] rfl (hL4 jFU 0 0 w)
theorem hd_X9_rule : yX9_rule.cls = RX9 ∧ yX9_rule.cls ≠ "java/lang/invoke/MethodHandle" ∧ yX9_rule.cls ≠ "java/lang/invoke/VarHandle" ∧ (parseMethodDescriptor yX9_rule.desc).map (fun d => d.parameters.length) = some 1 := by decide +kernel
def f_X9_rule (p1 : Int32) (w : j_St) : Option (Int32 × j_St) := jlt (jgi w 1 0 29) fun v1 => if v1 = 0 then some ((-1), w) else jcb (f_X9_in p1 0 7 w) fun v2 w3 => if v2 = 0 then some ((-1), w3) else jcb (f_X9_finds w3) fun _ w6 => if p1 = 0 then jcb (f_X9_many w6) fun v8 w9 => some (v8, w9) else if p1 = 1 then jbd 49 231 fun a12 => jlt (jgi w6 47 0 a12) fun v13 => some (v13, w6) else if p1 = 2 then jlt (jgi w6 1 0 28) fun v14 => some (v14, w6) else if p1 = 3 then jlt (jgi w6 1 0 27) fun v15 => some (v15, w6) else if p1 = 4 then jlt (jgi w6 1 0 35) fun v16 => some (v16, w6) else if p1 = 5 then jlt (jgi w6 1 0 38) fun v17 => some (v17, w6) else if p1 = 6 then jcb (f_X9_least w6) fun v18 w19 => some (v18, w19) else jcb (f_X9_sumOf w6) fun v21 w22 => some (v21, w22)
abbrev rm_X9_rule : Room := { frames := 4, cells := 0, slots := 0, locals := 93 }
set_option maxRecDepth 100000 in
set_option maxHeartbeats 4000000 in
theorem mt_X9_rule {g : j_G} {B : j_B} {p1 : Int32} {w w' : j_St} (a0 : B.2.1 1 0 ∧ B.2.2 1 0) {r : Int32} (h : f_X9_rule p1 w = some (r, w')) : j_M g yX9_rule cX9_rule 2 (some FieldType.int) rm_X9_rule B [.ref (B.1 1 0), .int p1] w w' (jri r) := by
  refine j_met (rv := jri) (by decide) (Nat.le_of_ble_eq_true rfl) (fun x hx => ?_) h
  unfold f_X9_rule
  refine J.sub (lv' := [(0, .ref (B.1 1 0)), (1, .int p1)]) [0, 1] rfl ?_
  refine J.aload_n hx dX9_rule_0 rfl 0 rfl ?_
  refine J.geti (κ := 1) (k := 29) hx rfl rfl rfl in_X9 (by decide) (Or.inl q1682) a0.1 dX9_rule_1 fun v1 => ?_
  refine J.if_eq (tgt := 17) hx dX9_rule_4 (by decide) ?_ ?_
  · refine J.iconst (v := (-1)) hx dX9_rule_17 (by decide) ?_
    exact J.iret hx rfl (Nat.le_of_ble_eq_true rfl) (Nat.le_of_ble_eq_true rfl) dX9_rule_18
  · refine J.iload_n hx dX9_rule_7 rfl 1 rfl ?_
    refine J.iconst (v := 0) hx dX9_rule_8 (by decide) ?_
    refine J.bipush (v := 7) hx dX9_rule_9 (by decide) ?_
    refine J.calli hx (fun r z1 z => j_callS hx (mt_X9_in z) (lw_S q1826 q1827 q129 q1828) hd_X9_in.2 rfl ⟨Nat.le_of_ble_eq_true rfl, Nat.le_of_ble_eq_true rfl⟩ (Nat.le_of_ble_eq_true rfl) dX9_rule_11) ⟨⟨rfl, rfl⟩, Nat.le_of_ble_eq_true rfl, Nat.le_of_ble_eq_true rfl⟩ fun v2 w3 e4 => ?_
    refine J.if_ne (tgt := 19) hx dX9_rule_14 (by decide) ?_ ?_
    · refine J.iconst (v := (-1)) hx dX9_rule_17 (by decide) ?_
      exact J.iret hx rfl (Nat.le_of_ble_eq_true rfl) (Nat.le_of_ble_eq_true rfl) dX9_rule_18
    · refine J.aload_n hx dX9_rule_19 rfl 0 rfl ?_
      refine J.callv hx (fun r z1 z => j_callV (κ := 1) hx rfl rfl a0.1 (mt_X9_finds a0 z) (lw_V q1990 q1992 qs69 q129 q1993) hd_X9_finds rfl ⟨Nat.le_of_ble_eq_true rfl, Nat.le_of_ble_eq_true rfl⟩ (Nat.le_of_ble_eq_true rfl) dX9_rule_20) ⟨⟨rfl, rfl⟩, Nat.le_of_ble_eq_true rfl, Nat.le_of_ble_eq_true rfl⟩ fun _ w6 e7 => ?_
      refine J.iload_n hx dX9_rule_23 rfl 1 rfl ?_
      refine J.ite (fun e0 => ?_) (fun n0 => ?_)
      · refine J.tsw (off := 44) (tgt := 68) hx dX9_rule_24 (by rw [e0]; decide) (by rw [e0]; decide) (by rw [e0]; rfl) (by decide) ?_
        refine J.aload_n hx dX9_rule_68 rfl 0 rfl ?_
        refine J.calli hx (fun r z1 z => j_callV (κ := 1) hx rfl rfl a0.1 (mt_X9_many a0 z) (lw_V q1941 q1943 qs59 q129 q1944) hd_X9_many rfl ⟨Nat.le_of_ble_eq_true rfl, Nat.le_of_ble_eq_true rfl⟩ (Nat.le_of_ble_eq_true rfl) dX9_rule_69) ⟨⟨rfl, rfl⟩, Nat.le_of_ble_eq_true rfl, Nat.le_of_ble_eq_true rfl⟩ fun v8 w9 e10 => ?_
        exact J.iret hx rfl (Nat.le_of_ble_eq_true rfl) (Nat.le_of_ble_eq_true rfl) dX9_rule_72
      · refine J.ite (fun e1 => ?_) (fun n1 => ?_)
        · refine J.tsw (off := 49) (tgt := 73) hx dX9_rule_24 (by rw [e1]; decide) (by rw [e1]; decide) (by rw [e1]; rfl) (by decide) ?_
          refine J.aload_n hx dX9_rule_73 rfl 0 rfl ?_
          refine J.getc (κ' := 47) (i' := 0) (κ := 1) (k := 22) hx rfl rfl rfl rfl rfl in_X9 (by decide) (Or.inl q1675) a0.2 dX9_rule_74 fun h11 => ?_
          refine J.bipush (v := 49) hx dX9_rule_77 (by decide) ?_
          refine J.iald (κ := 47) hx rfl rfl h11.1 dX9_rule_79 fun v13 => ?_
          exact J.iret hx rfl (Nat.le_of_ble_eq_true rfl) (Nat.le_of_ble_eq_true rfl) dX9_rule_80
        · refine J.ite (fun e2 => ?_) (fun n2 => ?_)
          · refine J.tsw (off := 57) (tgt := 81) hx dX9_rule_24 (by rw [e2]; decide) (by rw [e2]; decide) (by rw [e2]; rfl) (by decide) ?_
            refine J.aload_n hx dX9_rule_81 rfl 0 rfl ?_
            refine J.geti (κ := 1) (k := 28) hx rfl rfl rfl in_X9 (by decide) (Or.inl q1681) a0.1 dX9_rule_82 fun v14 => ?_
            exact J.iret hx rfl (Nat.le_of_ble_eq_true rfl) (Nat.le_of_ble_eq_true rfl) dX9_rule_85
          · refine J.ite (fun e3 => ?_) (fun n3 => ?_)
            · refine J.tsw (off := 62) (tgt := 86) hx dX9_rule_24 (by rw [e3]; decide) (by rw [e3]; decide) (by rw [e3]; rfl) (by decide) ?_
              refine J.aload_n hx dX9_rule_86 rfl 0 rfl ?_
              refine J.geti (κ := 1) (k := 27) hx rfl rfl rfl in_X9 (by decide) (Or.inl q1680) a0.1 dX9_rule_87 fun v15 => ?_
              exact J.iret hx rfl (Nat.le_of_ble_eq_true rfl) (Nat.le_of_ble_eq_true rfl) dX9_rule_90
            · refine J.ite (fun e4 => ?_) (fun n4 => ?_)
              · refine J.tsw (off := 67) (tgt := 91) hx dX9_rule_24 (by rw [e4]; decide) (by rw [e4]; decide) (by rw [e4]; rfl) (by decide) ?_
                refine J.aload_n hx dX9_rule_91 rfl 0 rfl ?_
                refine J.geti (κ := 1) (k := 35) hx rfl rfl rfl in_X9 (by decide) (Or.inl q1688) a0.1 dX9_rule_92 fun v16 => ?_
                exact J.iret hx rfl (Nat.le_of_ble_eq_true rfl) (Nat.le_of_ble_eq_true rfl) dX9_rule_95
              · refine J.ite (fun e5 => ?_) (fun n5 => ?_)
                · refine J.tsw (off := 72) (tgt := 96) hx dX9_rule_24 (by rw [e5]; decide) (by rw [e5]; decide) (by rw [e5]; rfl) (by decide) ?_
                  refine J.aload_n hx dX9_rule_96 rfl 0 rfl ?_
                  refine J.geti (κ := 1) (k := 38) hx rfl rfl rfl in_X9 (by decide) (Or.inl q1691) a0.1 dX9_rule_97 fun v17 => ?_
                  exact J.iret hx rfl (Nat.le_of_ble_eq_true rfl) (Nat.le_of_ble_eq_true rfl) dX9_rule_100
                · refine J.ite (fun e6 => ?_) (fun n6 => ?_)
                  · refine J.tsw (off := 77) (tgt := 101) hx dX9_rule_24 (by rw [e6]; decide) (by rw [e6]; decide) (by rw [e6]; rfl) (by decide) ?_
                    refine J.aload_n hx dX9_rule_101 rfl 0 rfl ?_
                    refine J.calli hx (fun r z1 z => j_callV (κ := 1) hx rfl rfl a0.1 (mt_X9_least a0 z) (lw_V q2018 q2020 qs76 q129 q2021) hd_X9_least rfl ⟨Nat.le_of_ble_eq_true rfl, Nat.le_of_ble_eq_true rfl⟩ (Nat.le_of_ble_eq_true rfl) dX9_rule_102) ⟨⟨rfl, rfl⟩, Nat.le_of_ble_eq_true rfl, Nat.le_of_ble_eq_true rfl⟩ fun v18 w19 e20 => ?_
                    exact J.iret hx rfl (Nat.le_of_ble_eq_true rfl) (Nat.le_of_ble_eq_true rfl) dX9_rule_105
                  · have z0 := j_neT n0 (a := 0) (by decide)
                    have z1 := j_neT n1 (a := 1) (by decide)
                    have z2 := j_neT n2 (a := 2) (by decide)
                    have z3 := j_neT n3 (a := 3) (by decide)
                    have z4 := j_neT n4 (a := 4) (by decide)
                    have z5 := j_neT n5 (a := 5) (by decide)
                    have z6 := j_neT n6 (a := 6) (by decide)
                    refine J.tswD (tgt := 106) hx dX9_rule_24 (by omega) (by decide) ?_
                    refine J.aload_n hx dX9_rule_106 rfl 0 rfl ?_
                    refine J.calli hx (fun r z1 z => j_callV (κ := 1) hx rfl rfl a0.1 (mt_X9_sumOf a0 z) (lw_V q2143 q2145 qs92 q129 q2146) hd_X9_sumOf rfl ⟨Nat.le_of_ble_eq_true rfl, Nat.le_of_ble_eq_true rfl⟩ (Nat.le_of_ble_eq_true rfl) dX9_rule_107) ⟨⟨rfl, rfl⟩, Nat.le_of_ble_eq_true rfl, Nat.le_of_ble_eq_true rfl⟩ fun v21 w22 e23 => ?_
                    exact J.iret hx rfl (Nat.le_of_ble_eq_true rfl) (Nat.le_of_ble_eq_true rfl) dX9_rule_110
theorem hd_X9_sample : yX9_sample.cls = RX9 ∧ yX9_sample.cls ≠ "java/lang/invoke/MethodHandle" ∧ yX9_sample.cls ≠ "java/lang/invoke/VarHandle" ∧ (parseMethodDescriptor yX9_sample.desc).map (fun d => d.parameters.length) = some 1 := by decide +kernel
def f_X9_sample (p1 : Int32) (w : j_St) : Option (Int32 × j_St) := jcb (f_X9_isPlace p1 w) fun v1 w2 => if v1 = 0 then some ((-1), w2) else jbd p1 231 fun a5 => jlt (jgi w2 47 0 a5) fun v6 => some (v6, w2)
abbrev rm_X9_sample : Room := { frames := 2, cells := 0, slots := 0, locals := 43 }
set_option maxRecDepth 100000 in
set_option maxHeartbeats 4000000 in
theorem mt_X9_sample {g : j_G} {B : j_B} {p1 : Int32} {w w' : j_St} (a0 : B.2.1 1 0 ∧ B.2.2 1 0) {r : Int32} (h : f_X9_sample p1 w = some (r, w')) : j_M g yX9_sample cX9_sample 2 (some FieldType.int) rm_X9_sample B [.ref (B.1 1 0), .int p1] w w' (jri r) := by
  refine j_met (rv := jri) (by decide) (Nat.le_of_ble_eq_true rfl) (fun x hx => ?_) h
  unfold f_X9_sample
  refine J.sub (lv' := [(0, .ref (B.1 1 0)), (1, .int p1)]) [0, 1] rfl ?_
  refine J.aload_n hx dX9_sample_0 rfl 0 rfl ?_
  refine J.iload_n hx dX9_sample_1 rfl 1 rfl ?_
  refine J.calli hx (fun r z1 z => j_callV (κ := 1) hx rfl rfl a0.1 (mt_X9_isPlace a0 z) (lw_V q1957 q1959 qs62 q129 q1960) hd_X9_isPlace rfl ⟨Nat.le_of_ble_eq_true rfl, Nat.le_of_ble_eq_true rfl⟩ (Nat.le_of_ble_eq_true rfl) dX9_sample_2) ⟨⟨rfl, rfl⟩, Nat.le_of_ble_eq_true rfl, Nat.le_of_ble_eq_true rfl⟩ fun v1 w2 e3 => ?_
  refine J.if_eq (tgt := 17) hx dX9_sample_5 (by decide) ?_ ?_
  · refine J.iconst (v := (-1)) hx dX9_sample_17 (by decide) ?_
    exact J.iret hx rfl (Nat.le_of_ble_eq_true rfl) (Nat.le_of_ble_eq_true rfl) dX9_sample_18
  · refine J.aload_n hx dX9_sample_8 rfl 0 rfl ?_
    refine J.getc (κ' := 47) (i' := 0) (κ := 1) (k := 22) hx rfl rfl rfl rfl rfl in_X9 (by decide) (Or.inl q1675) a0.2 dX9_sample_9 fun h4 => ?_
    refine J.iload_n hx dX9_sample_12 rfl 1 rfl ?_
    refine J.iald (κ := 47) hx rfl rfl h4.1 dX9_sample_13 fun v6 => ?_
    refine J.goto (tgt := 18) hx dX9_sample_14 (by decide) ?_
    exact J.iret hx rfl (Nat.le_of_ble_eq_true rfl) (Nat.le_of_ble_eq_true rfl) dX9_sample_18
theorem hd_X9_isPeak : yX9_isPeak.cls = RX9 ∧ yX9_isPeak.cls ≠ "java/lang/invoke/MethodHandle" ∧ yX9_isPeak.cls ≠ "java/lang/invoke/VarHandle" ∧ (parseMethodDescriptor yX9_isPeak.desc).map (fun d => d.parameters.length) = some 1 := by decide +kernel
def f_X9_isPeak (p1 : Int32) (w : j_St) : Option (Int32 × j_St) := jlt (jgi w 1 0 29) fun v1 => if v1 = 0 then some (0, w) else jcb (f_X9_finds w) fun _ w3 => jlt (jgi w3 1 0 35) fun v5 => jcb (f_X9_in p1 0 (v5 - 1) w3) fun v6 w7 => if v6 = 0 ∨ v6 = 1 then some (v6, w7) else none
abbrev rm_X9_isPeak : Room := { frames := 4, cells := 0, slots := 0, locals := 93 }
set_option maxRecDepth 100000 in
set_option maxHeartbeats 4000000 in
theorem mt_X9_isPeak {g : j_G} {B : j_B} {p1 : Int32} {w w' : j_St} (a0 : B.2.1 1 0 ∧ B.2.2 1 0) {r : Int32} (h : f_X9_isPeak p1 w = some (r, w')) : j_M g yX9_isPeak cX9_isPeak 2 (some FieldType.boolean) rm_X9_isPeak B [.ref (B.1 1 0), .int p1] w w' (jri r) := by
  refine j_met (rv := jri) (by decide) (Nat.le_of_ble_eq_true rfl) (fun x hx => ?_) h
  unfold f_X9_isPeak
  refine J.sub (lv' := [(0, .ref (B.1 1 0)), (1, .int p1)]) [0, 1] rfl ?_
  refine J.aload_n hx dX9_isPeak_0 rfl 0 rfl ?_
  refine J.geti (κ := 1) (k := 29) hx rfl rfl rfl in_X9 (by decide) (Or.inl q1682) a0.1 dX9_isPeak_1 fun v1 => ?_
  refine J.if_ne (tgt := 9) hx dX9_isPeak_4 (by decide) ?_ ?_
  · refine J.iconst (v := 0) hx dX9_isPeak_7 (by decide) ?_
    exact J.zret hx rfl rfl (Nat.le_of_ble_eq_true rfl) (Nat.le_of_ble_eq_true rfl) dX9_isPeak_8
  · refine J.aload_n hx dX9_isPeak_9 rfl 0 rfl ?_
    refine J.callv hx (fun r z1 z => j_callV (κ := 1) hx rfl rfl a0.1 (mt_X9_finds a0 z) (lw_V q1990 q1992 qs69 q129 q1993) hd_X9_finds rfl ⟨Nat.le_of_ble_eq_true rfl, Nat.le_of_ble_eq_true rfl⟩ (Nat.le_of_ble_eq_true rfl) dX9_isPeak_10) ⟨⟨rfl, rfl⟩, Nat.le_of_ble_eq_true rfl, Nat.le_of_ble_eq_true rfl⟩ fun _ w3 e4 => ?_
    refine J.iload_n hx dX9_isPeak_13 rfl 1 rfl ?_
    refine J.iconst (v := 0) hx dX9_isPeak_14 (by decide) ?_
    refine J.aload_n hx dX9_isPeak_15 rfl 0 rfl ?_
    refine J.geti (κ := 1) (k := 35) hx rfl rfl rfl in_X9 (by decide) (Or.inl q1688) a0.1 dX9_isPeak_16 fun v5 => ?_
    refine J.iconst (v := 1) hx dX9_isPeak_19 (by decide) ?_
    refine J.isub hx dX9_isPeak_20 ?_
    refine J.calli hx (fun r z1 z => j_callS hx (mt_X9_in z) (lw_S q1826 q1827 q129 q1828) hd_X9_in.2 rfl ⟨Nat.le_of_ble_eq_true rfl, Nat.le_of_ble_eq_true rfl⟩ (Nat.le_of_ble_eq_true rfl) dX9_isPeak_21) ⟨⟨rfl, rfl⟩, Nat.le_of_ble_eq_true rfl, Nat.le_of_ble_eq_true rfl⟩ fun v6 w7 e8 => ?_
    exact J.zretc hx rfl (Nat.le_of_ble_eq_true rfl) (Nat.le_of_ble_eq_true rfl) dX9_isPeak_24
theorem hd_X9_height : yX9_height.cls = RX9 ∧ yX9_height.cls ≠ "java/lang/invoke/MethodHandle" ∧ yX9_height.cls ≠ "java/lang/invoke/VarHandle" ∧ (parseMethodDescriptor yX9_height.desc).map (fun d => d.parameters.length) = some 1 := by decide +kernel
def f_X9_height (p1 : Int32) (w : j_St) : Option (Int32 × j_St) := jcb (f_X9_placeOf p1 w) fun v2 w3 => jbd v2 231 fun a5 => jlt (jgi w3 47 0 a5) fun v6 => some (v6, w3)
abbrev rm_X9_height : Room := { frames := 1, cells := 0, slots := 0, locals := 21 }
set_option maxRecDepth 100000 in
set_option maxHeartbeats 4000000 in
theorem mt_X9_height {g : j_G} {B : j_B} {p1 : Int32} {w w' : j_St} (a0 : B.2.1 1 0 ∧ B.2.2 1 0) {r : Int32} (h : f_X9_height p1 w = some (r, w')) : j_M g yX9_height cX9_height 2 (some FieldType.int) rm_X9_height B [.ref (B.1 1 0), .int p1] w w' (jri r) := by
  refine j_met (rv := jri) (by decide) (Nat.le_of_ble_eq_true rfl) (fun x hx => ?_) h
  unfold f_X9_height
  refine J.sub (lv' := [(0, .ref (B.1 1 0)), (1, .int p1)]) [0, 1] rfl ?_
  refine J.aload_n hx dX9_height_0 rfl 0 rfl ?_
  refine J.getc (κ' := 47) (i' := 0) (κ := 1) (k := 22) hx rfl rfl rfl rfl rfl in_X9 (by decide) (Or.inl q1675) a0.2 dX9_height_1 fun h1 => ?_
  refine J.aload_n hx dX9_height_4 rfl 0 rfl ?_
  refine J.iload_n hx dX9_height_5 rfl 1 rfl ?_
  refine J.calli hx (fun r z1 z => j_callV (κ := 1) hx rfl rfl a0.1 (mt_X9_placeOf a0 z) (lw_V q2030 q2032 qs79 q129 q2033) hd_X9_placeOf rfl ⟨Nat.le_of_ble_eq_true rfl, Nat.le_of_ble_eq_true rfl⟩ (Nat.le_of_ble_eq_true rfl) dX9_height_6) ⟨⟨rfl, rfl⟩, Nat.le_of_ble_eq_true rfl, Nat.le_of_ble_eq_true rfl⟩ fun v2 w3 e4 => ?_
  refine J.iald (κ := 47) hx rfl rfl h1.1 dX9_height_9 fun v6 => ?_
  exact J.iret hx rfl (Nat.le_of_ble_eq_true rfl) (Nat.le_of_ble_eq_true rfl) dX9_height_10
theorem hd_X9_life : yX9_life.cls = RX9 ∧ yX9_life.cls ≠ "java/lang/invoke/MethodHandle" ∧ yX9_life.cls ≠ "java/lang/invoke/VarHandle" ∧ (parseMethodDescriptor yX9_life.desc).map (fun d => d.parameters.length) = some 1 := by decide +kernel
def f_X9_life (p1 : Int32) (w : j_St) : Option (Int32 × j_St) := jbd p1 48 fun a2 => jlt (jgi w 57 0 a2) fun v3 => jcb (f_X9_lifeOf v3 w) fun v4 w5 => some (v4, w5)
abbrev rm_X9_life : Room := { frames := 1, cells := 0, slots := 0, locals := 21 }
set_option maxRecDepth 100000 in
set_option maxHeartbeats 4000000 in
theorem mt_X9_life {g : j_G} {B : j_B} {p1 : Int32} {w w' : j_St} (a0 : B.2.1 1 0 ∧ B.2.2 1 0) {r : Int32} (h : f_X9_life p1 w = some (r, w')) : j_M g yX9_life cX9_life 2 (some FieldType.int) rm_X9_life B [.ref (B.1 1 0), .int p1] w w' (jri r) := by
  refine j_met (rv := jri) (by decide) (Nat.le_of_ble_eq_true rfl) (fun x hx => ?_) h
  unfold f_X9_life
  refine J.sub (lv' := [(0, .ref (B.1 1 0)), (1, .int p1)]) [0, 1] rfl ?_
  refine J.aload_n hx dX9_life_0 rfl 0 rfl ?_
  refine J.aload_n hx dX9_life_1 rfl 0 rfl ?_
  refine J.getc (κ' := 57) (i' := 0) (κ := 1) (k := 36) hx rfl rfl rfl rfl rfl in_X9 (by decide) (Or.inl q1689) a0.2 dX9_life_2 fun h1 => ?_
  refine J.iload_n hx dX9_life_5 rfl 1 rfl ?_
  refine J.iald (κ := 57) hx rfl rfl h1.1 dX9_life_6 fun v3 => ?_
  refine J.calli hx (fun r z1 z => j_callV (κ := 1) hx rfl rfl a0.1 (mt_X9_lifeOf a0 z) (lw_V q2022 q2024 qs77 q129 q2025) hd_X9_lifeOf rfl ⟨Nat.le_of_ble_eq_true rfl, Nat.le_of_ble_eq_true rfl⟩ (Nat.le_of_ble_eq_true rfl) dX9_life_7) ⟨⟨rfl, rfl⟩, Nat.le_of_ble_eq_true rfl, Nat.le_of_ble_eq_true rfl⟩ fun v4 w5 e6 => ?_
  exact J.iret hx rfl (Nat.le_of_ble_eq_true rfl) (Nat.le_of_ble_eq_true rfl) dX9_life_10
theorem hd_X9_isKept : yX9_isKept.cls = RX9 ∧ yX9_isKept.cls ≠ "java/lang/invoke/MethodHandle" ∧ yX9_isKept.cls ≠ "java/lang/invoke/VarHandle" ∧ (parseMethodDescriptor yX9_isKept.desc).map (fun d => d.parameters.length) = some 1 := by decide +kernel
def f_X9_isKept (p1 : Int32) (w : j_St) : Option (Int32 × j_St) := jlt (jgi w 1 0 38) fun v1 => jcb (f_X9_in p1 0 (v1 - 1) w) fun v2 w3 => if v2 = 0 ∨ v2 = 1 then some (v2, w3) else none
abbrev rm_X9_isKept : Room := { frames := 1, cells := 0, slots := 0, locals := 22 }
set_option maxRecDepth 100000 in
set_option maxHeartbeats 4000000 in
theorem mt_X9_isKept {g : j_G} {B : j_B} {p1 : Int32} {w w' : j_St} (a0 : B.2.1 1 0 ∧ B.2.2 1 0) {r : Int32} (h : f_X9_isKept p1 w = some (r, w')) : j_M g yX9_isKept cX9_isKept 2 (some FieldType.boolean) rm_X9_isKept B [.ref (B.1 1 0), .int p1] w w' (jri r) := by
  refine j_met (rv := jri) (by decide) (Nat.le_of_ble_eq_true rfl) (fun x hx => ?_) h
  unfold f_X9_isKept
  refine J.sub (lv' := [(0, .ref (B.1 1 0)), (1, .int p1)]) [0, 1] rfl ?_
  refine J.iload_n hx dX9_isKept_0 rfl 1 rfl ?_
  refine J.iconst (v := 0) hx dX9_isKept_1 (by decide) ?_
  refine J.aload_n hx dX9_isKept_2 rfl 0 rfl ?_
  refine J.geti (κ := 1) (k := 38) hx rfl rfl rfl in_X9 (by decide) (Or.inl q1691) a0.1 dX9_isKept_3 fun v1 => ?_
  refine J.iconst (v := 1) hx dX9_isKept_6 (by decide) ?_
  refine J.isub hx dX9_isKept_7 ?_
  refine J.calli hx (fun r z1 z => j_callS hx (mt_X9_in z) (lw_S q1826 q1827 q129 q1828) hd_X9_in.2 rfl ⟨Nat.le_of_ble_eq_true rfl, Nat.le_of_ble_eq_true rfl⟩ (Nat.le_of_ble_eq_true rfl) dX9_isKept_8) ⟨⟨rfl, rfl⟩, Nat.le_of_ble_eq_true rfl, Nat.le_of_ble_eq_true rfl⟩ fun v2 w3 e4 => ?_
  exact J.zretc hx rfl (Nat.le_of_ble_eq_true rfl) (Nat.le_of_ble_eq_true rfl) dX9_isKept_11
theorem hd_X9_generationOf : yX9_generationOf.cls = RX9 ∧ yX9_generationOf.cls ≠ "java/lang/invoke/MethodHandle" ∧ yX9_generationOf.cls ≠ "java/lang/invoke/VarHandle" ∧ (parseMethodDescriptor yX9_generationOf.desc).map (fun d => d.parameters.length) = some 1 := by decide +kernel
def f_X9_generationOf_L9   : Nat → Int32 → Int32 → j_St → Option (Int32 × j_St)
  | 0, _, _, _ => none
  | n9 + 1, v4, v5, w6 => jbd v5 48 fun a8 => jlt (jgi w6 55 0 a8) fun v9 => if v9 = (-1) then some (v4, w6) else jlt (v4 + 1) fun v10 => jbd v5 48 fun a12 => jlt (jgi w6 55 0 a12) fun v13 => f_X9_generationOf_L9 n9 v10 v13 w6
def f_X9_generationOf (p1 : Int32) (w : j_St) : Option (Int32 × j_St) := jbd p1 48 fun a2 => jlt (jgi w 57 0 a2) fun v3 => f_X9_generationOf_L9 jFU 0 v3 w
abbrev rm_X9_generationOf : Room := { frames := 0, cells := 0, slots := 0, locals := 0 }
set_option maxRecDepth 100000 in
set_option maxHeartbeats 4000000 in
theorem mt_X9_generationOf {g : j_G} {B : j_B} {p1 : Int32} {w w' : j_St} (a0 : B.2.1 1 0 ∧ B.2.2 1 0) {r : Int32} (h : f_X9_generationOf p1 w = some (r, w')) : j_M g yX9_generationOf cX9_generationOf 4 (some FieldType.int) rm_X9_generationOf B [.ref (B.1 1 0), .int p1] w w' (jri r) := by
  refine j_met (rv := jri) (by decide) (Nat.le_of_ble_eq_true rfl) (fun x hx => ?_) h
  unfold f_X9_generationOf
  refine J.sub (lv' := [(0, .ref (B.1 1 0)), (1, .int p1)]) [0, 1] rfl ?_
  refine J.iconst (v := 0) hx dX9_generationOf_0 (by decide) ?_
  refine J.istore_n (lv' := [(2, .int 0), (0, .ref (B.1 1 0)), (1, .int p1)]) hx dX9_generationOf_1 rfl (by decide) rfl ?_
  refine J.aload_n hx dX9_generationOf_2 rfl 1 rfl ?_
  refine J.getc (κ' := 57) (i' := 0) (κ := 1) (k := 36) hx rfl rfl rfl rfl rfl in_X9 (by decide) (Or.inl q1689) a0.2 dX9_generationOf_3 fun h1 => ?_
  refine J.iload_n hx dX9_generationOf_6 rfl 2 rfl ?_
  refine J.iald (κ := 57) hx rfl rfl h1.1 dX9_generationOf_7 fun v3 => ?_
  refine J.istore_n (lv' := [(3, .int v3), (2, .int 0), (0, .ref (B.1 1 0)), (1, .int p1)]) hx dX9_generationOf_8 rfl (by decide) rfl ?_
  have hL9 : ∀ (n9 : Nat) (v4 : Int32) (v5 : Int32) (w6 : j_St), J g x 4 B (j_Q g x B rm_X9_generationOf jri) 0 0 (f_X9_generationOf_L9 n9 v4 v5 w6) 9 [(0, .ref (B.1 1 0)), (2, .int v4), (3, .int v5)] [] w6 := by
    intro n9
    induction n9 with
    | zero =>
      intro v4 v5 w6
      rw [f_X9_generationOf_L9]
      exact J.nne
    | succ n9 ih =>
      intro v4 v5 w6
      rw [f_X9_generationOf_L9]
      refine J.aload_n hx dX9_generationOf_9 rfl 0 rfl ?_
      refine J.getc (κ' := 55) (i' := 0) (κ := 1) (k := 33) hx rfl rfl rfl rfl rfl in_X9 (by decide) (Or.inl q1686) a0.2 dX9_generationOf_10 fun h7 => ?_
      refine J.iload_n hx dX9_generationOf_13 rfl 2 rfl ?_
      refine J.iald (κ := 55) hx rfl rfl h7.1 dX9_generationOf_14 fun v9 => ?_
      refine J.iconst (v := (-1)) hx dX9_generationOf_15 (by decide) ?_
      refine J.icmp_eq (tgt := 32) hx dX9_generationOf_16 (by decide) ?_ ?_
      · refine J.iload_n hx dX9_generationOf_32 rfl 1 rfl ?_
        exact J.iret hx rfl (Nat.le_of_ble_eq_true rfl) (Nat.le_of_ble_eq_true rfl) dX9_generationOf_33
      · refine J.nmx fun v10 ev10 => ?_
        refine J.iinc (p := 1) (v := v10) (lv' := [(2, .int v10), (0, .ref (B.1 1 0)), (3, .int v5)]) hx dX9_generationOf_19 rfl (by rw [ev10]; rfl) (by decide) rfl ?_
        refine J.aload_n hx dX9_generationOf_22 rfl 1 rfl ?_
        refine J.getc (κ' := 55) (i' := 0) (κ := 1) (k := 33) hx rfl rfl rfl rfl rfl in_X9 (by decide) (Or.inl q1686) a0.2 dX9_generationOf_23 fun h11 => ?_
        refine J.iload_n hx dX9_generationOf_26 rfl 2 rfl ?_
        refine J.iald (κ := 55) hx rfl rfl h11.1 dX9_generationOf_27 fun v13 => ?_
        refine J.istore_n (lv' := [(3, .int v13), (2, .int v10), (0, .ref (B.1 1 0))]) hx dX9_generationOf_28 rfl (by decide) rfl ?_
        refine J.goto (tgt := 9) hx dX9_generationOf_29 (by decide) ?_
        exact J.sub [2, 1, 0] rfl (ih v10 v13 w6)
  refine J.sub [2, 1, 0] rfl (hL9 jFU 0 v3 w)
theorem hd_X9_peak : yX9_peak.cls = RX9 ∧ yX9_peak.cls ≠ "java/lang/invoke/MethodHandle" ∧ yX9_peak.cls ≠ "java/lang/invoke/VarHandle" ∧ (parseMethodDescriptor yX9_peak.desc).map (fun d => d.parameters.length) = some 2 := by decide +kernel
def f_X9_peak (p1 : Int32) (p2 : Int32) (w : j_St) : Option (Int32 × j_St) := jcb (f_X9_isPeak p1 w) fun v1 w2 => jlt (fun (v8 : Int32) (w9 : j_St) => jlt (jsi w9 1 0 0 v8) fun w10 => jlt (jgi w10 1 0 0) fun v11 => if v11 = 1 then some (0, w10) else jbd p1 48 fun a13 => jlt (jgi w10 57 0 a13) fun v14 => if p2 = 0 then jbd v14 48 fun a16 => jlt (jgi w10 52 0 a16) fun v17 => some (v17, w10) else if p2 = 1 then jcb (f_X9_height p1 w10) fun v18 w19 => some (v18, w19) else if p2 = 2 then jbd v14 48 fun a22 => jlt (jgi w10 53 0 a22) fun v23 => some (v23, w10) else if p2 = 3 then jbd v14 48 fun a25 => jlt (jgi w10 54 0 a25) fun v26 => some (v26, w10) else if p2 = 4 then jcb (f_X9_life p1 w10) fun v27 w28 => some (v27, w28) else if p2 = 5 then jbd v14 48 fun a31 => jlt (jgi w10 55 0 a31) fun v32 => if v32 = (-1) then some ((-1), w10) else jbd v14 48 fun a35 => jlt (jgi w10 55 0 a35) fun v36 => jbd v36 48 fun a37 => jlt (jgi w10 58 0 a37) fun v38 => some (v38, w10) else if p2 = 6 then jcb (f_X9_isKept p1 w10) fun v39 w40 => if v39 = 0 then some (0, w40) else some (1, w40) else if p2 = 7 then jcb (f_X9_generationOf p1 w10) fun v42 w43 => some (v42, w43) else jbd p1 48 fun a46 => jlt (jgi w10 59 0 a46) fun v47 => some (v47, w10)) fun K24 => jlt (fun (w7 : j_St) => K24 1 w7) fun K23 => if v1 = 0 then K23 w2 else jcb (f_X9_in p2 0 8 w2) fun v4 w5 => if v4 = 0 then K23 w5 else K24 0 w5
abbrev rm_X9_peak : Room := { frames := 5, cells := 0, slots := 0, locals := 114 }
set_option maxRecDepth 100000 in
set_option maxHeartbeats 4000000 in
theorem mt_X9_peak {g : j_G} {B : j_B} {p1 : Int32} {p2 : Int32} {w w' : j_St} (a0 : B.2.1 1 0 ∧ B.2.2 1 0) {r : Int32} (h : f_X9_peak p1 p2 w = some (r, w')) : j_M g yX9_peak cX9_peak 4 (some FieldType.int) rm_X9_peak B [.ref (B.1 1 0), .int p1, .int p2] w w' (jri r) := by
  refine j_met (rv := jri) (by decide) (Nat.le_of_ble_eq_true rfl) (fun x hx => ?_) h
  unfold f_X9_peak
  refine J.sub (lv' := [(0, .ref (B.1 1 0)), (1, .int p1), (2, .int p2)]) [0, 1, 2] rfl ?_
  refine J.aload_n hx dX9_peak_0 rfl 0 rfl ?_
  refine J.aload_n hx dX9_peak_1 rfl 0 rfl ?_
  refine J.iload_n hx dX9_peak_2 rfl 1 rfl ?_
  refine J.calli hx (fun r z1 z => j_callV (κ := 1) hx rfl rfl a0.1 (mt_X9_isPeak a0 z) (lw_V q2155 q2157 qs93 q129 q2158) hd_X9_isPeak rfl ⟨Nat.le_of_ble_eq_true rfl, Nat.le_of_ble_eq_true rfl⟩ (Nat.le_of_ble_eq_true rfl) dX9_peak_3) ⟨⟨rfl, rfl⟩, Nat.le_of_ble_eq_true rfl, Nat.le_of_ble_eq_true rfl⟩ fun v1 w2 e3 => ?_
  refine J.fn (fun (K24 : Int32 → j_St → Option (Int32 × j_St)) => ∀ (v8 : Int32) (w9 : j_St), J g x 4 B (j_Q g x B rm_X9_peak jri) 0 0 (K24 v8 w9) 24 [(0, .ref (B.1 1 0)), (1, .int p1), (2, .int p2)] [.int v8, .ref (B.1 1 0)] w9) ?_ ?_
  · intro v8 w9
    refine J.puti (κ := 1) (k := 0) hx rfl rfl rfl in_X9 tyX9_ok nmX9 (by decide) (Or.inl q1653) rfl rfl a0.1 ⟨rfl, rfl⟩ dX9_peak_24 fun w10 => ?_
    refine J.aload_n hx dX9_peak_27 rfl 0 rfl ?_
    refine J.geti (κ := 1) (k := 0) hx rfl rfl rfl in_X9 (by decide) (Or.inl q1653) a0.1 dX9_peak_28 fun v11 => ?_
    refine J.iconst (v := 1) hx dX9_peak_31 (by decide) ?_
    refine J.icmp_ne (tgt := 37) hx dX9_peak_32 (by decide) ?_ ?_
    · refine J.iconst (v := 0) hx dX9_peak_35 (by decide) ?_
      exact J.iret hx rfl (Nat.le_of_ble_eq_true rfl) (Nat.le_of_ble_eq_true rfl) dX9_peak_36
    · refine J.aload_n hx dX9_peak_37 rfl 0 rfl ?_
      refine J.getc (κ' := 57) (i' := 0) (κ := 1) (k := 36) hx rfl rfl rfl rfl rfl in_X9 (by decide) (Or.inl q1689) a0.2 dX9_peak_38 fun h12 => ?_
      refine J.iload_n hx dX9_peak_41 rfl 1 rfl ?_
      refine J.iald (κ := 57) hx rfl rfl h12.1 dX9_peak_42 fun v14 => ?_
      refine J.istore_n (lv' := [(3, .int v14), (0, .ref (B.1 1 0)), (1, .int p1), (2, .int p2)]) hx dX9_peak_43 rfl (by decide) rfl ?_
      refine J.iload_n hx dX9_peak_44 rfl 3 rfl ?_
      refine J.ite (fun e0 => ?_) (fun n0 => ?_)
      · refine J.tsw (off := 47) (tgt := 92) hx dX9_peak_45 (by rw [e0]; decide) (by rw [e0]; decide) (by rw [e0]; rfl) (by decide) ?_
        refine J.aload_n hx dX9_peak_92 rfl 1 rfl ?_
        refine J.getc (κ' := 52) (i' := 0) (κ := 1) (k := 30) hx rfl rfl rfl rfl rfl in_X9 (by decide) (Or.inl q1683) a0.2 dX9_peak_93 fun h15 => ?_
        refine J.iload_n hx dX9_peak_96 rfl 0 rfl ?_
        refine J.iald (κ := 52) hx rfl rfl h15.1 dX9_peak_97 fun v17 => ?_
        exact J.iret hx rfl (Nat.le_of_ble_eq_true rfl) (Nat.le_of_ble_eq_true rfl) dX9_peak_98
      · refine J.ite (fun e1 => ?_) (fun n1 => ?_)
        · refine J.tsw (off := 54) (tgt := 99) hx dX9_peak_45 (by rw [e1]; decide) (by rw [e1]; decide) (by rw [e1]; rfl) (by decide) ?_
          refine J.aload_n hx dX9_peak_99 rfl 1 rfl ?_
          refine J.iload_n hx dX9_peak_100 rfl 2 rfl ?_
          refine J.calli hx (fun r z1 z => j_callV (κ := 1) hx rfl rfl a0.1 (mt_X9_height a0 z) (lw_V q2159 q2161 qs94 q129 q2162) hd_X9_height rfl ⟨Nat.le_of_ble_eq_true rfl, Nat.le_of_ble_eq_true rfl⟩ (Nat.le_of_ble_eq_true rfl) dX9_peak_101) ⟨⟨rfl, rfl⟩, Nat.le_of_ble_eq_true rfl, Nat.le_of_ble_eq_true rfl⟩ fun v18 w19 e20 => ?_
          exact J.iret hx rfl (Nat.le_of_ble_eq_true rfl) (Nat.le_of_ble_eq_true rfl) dX9_peak_104
        · refine J.ite (fun e2 => ?_) (fun n2 => ?_)
          · refine J.tsw (off := 60) (tgt := 105) hx dX9_peak_45 (by rw [e2]; decide) (by rw [e2]; decide) (by rw [e2]; rfl) (by decide) ?_
            refine J.aload_n hx dX9_peak_105 rfl 1 rfl ?_
            refine J.getc (κ' := 53) (i' := 0) (κ := 1) (k := 31) hx rfl rfl rfl rfl rfl in_X9 (by decide) (Or.inl q1684) a0.2 dX9_peak_106 fun h21 => ?_
            refine J.iload_n hx dX9_peak_109 rfl 0 rfl ?_
            refine J.iald (κ := 53) hx rfl rfl h21.1 dX9_peak_110 fun v23 => ?_
            exact J.iret hx rfl (Nat.le_of_ble_eq_true rfl) (Nat.le_of_ble_eq_true rfl) dX9_peak_111
          · refine J.ite (fun e3 => ?_) (fun n3 => ?_)
            · refine J.tsw (off := 67) (tgt := 112) hx dX9_peak_45 (by rw [e3]; decide) (by rw [e3]; decide) (by rw [e3]; rfl) (by decide) ?_
              refine J.aload_n hx dX9_peak_112 rfl 1 rfl ?_
              refine J.getc (κ' := 54) (i' := 0) (κ := 1) (k := 32) hx rfl rfl rfl rfl rfl in_X9 (by decide) (Or.inl q1685) a0.2 dX9_peak_113 fun h24 => ?_
              refine J.iload_n hx dX9_peak_116 rfl 0 rfl ?_
              refine J.iald (κ := 54) hx rfl rfl h24.1 dX9_peak_117 fun v26 => ?_
              exact J.iret hx rfl (Nat.le_of_ble_eq_true rfl) (Nat.le_of_ble_eq_true rfl) dX9_peak_118
            · refine J.ite (fun e4 => ?_) (fun n4 => ?_)
              · refine J.tsw (off := 74) (tgt := 119) hx dX9_peak_45 (by rw [e4]; decide) (by rw [e4]; decide) (by rw [e4]; rfl) (by decide) ?_
                refine J.aload_n hx dX9_peak_119 rfl 1 rfl ?_
                refine J.iload_n hx dX9_peak_120 rfl 2 rfl ?_
                refine J.calli hx (fun r z1 z => j_callV (κ := 1) hx rfl rfl a0.1 (mt_X9_life a0 z) (lw_V q2163 q2165 qs95 q129 q2166) hd_X9_life rfl ⟨Nat.le_of_ble_eq_true rfl, Nat.le_of_ble_eq_true rfl⟩ (Nat.le_of_ble_eq_true rfl) dX9_peak_121) ⟨⟨rfl, rfl⟩, Nat.le_of_ble_eq_true rfl, Nat.le_of_ble_eq_true rfl⟩ fun v27 w28 e29 => ?_
                exact J.iret hx rfl (Nat.le_of_ble_eq_true rfl) (Nat.le_of_ble_eq_true rfl) dX9_peak_124
              · refine J.ite (fun e5 => ?_) (fun n5 => ?_)
                · refine J.tsw (off := 80) (tgt := 125) hx dX9_peak_45 (by rw [e5]; decide) (by rw [e5]; decide) (by rw [e5]; rfl) (by decide) ?_
                  refine J.aload_n hx dX9_peak_125 rfl 1 rfl ?_
                  refine J.getc (κ' := 55) (i' := 0) (κ := 1) (k := 33) hx rfl rfl rfl rfl rfl in_X9 (by decide) (Or.inl q1686) a0.2 dX9_peak_126 fun h30 => ?_
                  refine J.iload_n hx dX9_peak_129 rfl 0 rfl ?_
                  refine J.iald (κ := 55) hx rfl rfl h30.1 dX9_peak_130 fun v32 => ?_
                  refine J.iconst (v := (-1)) hx dX9_peak_131 (by decide) ?_
                  refine J.icmp_ne (tgt := 139) hx dX9_peak_132 (by decide) ?_ ?_
                  · refine J.iconst (v := (-1)) hx dX9_peak_135 (by decide) ?_
                    refine J.goto (tgt := 150) hx dX9_peak_136 (by decide) ?_
                    exact J.iret hx rfl (Nat.le_of_ble_eq_true rfl) (Nat.le_of_ble_eq_true rfl) dX9_peak_150
                  · refine J.aload_n hx dX9_peak_139 rfl 1 rfl ?_
                    refine J.getc (κ' := 58) (i' := 0) (κ := 1) (k := 37) hx rfl rfl rfl rfl rfl in_X9 (by decide) (Or.inl q1690) a0.2 dX9_peak_140 fun h33 => ?_
                    refine J.aload_n hx dX9_peak_143 rfl 1 rfl ?_
                    refine J.getc (κ' := 55) (i' := 0) (κ := 1) (k := 33) hx rfl rfl rfl rfl rfl in_X9 (by decide) (Or.inl q1686) a0.2 dX9_peak_144 fun h34 => ?_
                    refine J.iload_n hx dX9_peak_147 rfl 0 rfl ?_
                    refine J.iald (κ := 55) hx rfl rfl h34.1 dX9_peak_148 fun v36 => ?_
                    refine J.iald (κ := 58) hx rfl rfl h33.1 dX9_peak_149 fun v38 => ?_
                    exact J.iret hx rfl (Nat.le_of_ble_eq_true rfl) (Nat.le_of_ble_eq_true rfl) dX9_peak_150
                · refine J.ite (fun e6 => ?_) (fun n6 => ?_)
                  · refine J.tsw (off := 106) (tgt := 151) hx dX9_peak_45 (by rw [e6]; decide) (by rw [e6]; decide) (by rw [e6]; rfl) (by decide) ?_
                    refine J.aload_n hx dX9_peak_151 rfl 1 rfl ?_
                    refine J.iload_n hx dX9_peak_152 rfl 2 rfl ?_
                    refine J.calli hx (fun r z1 z => j_callV (κ := 1) hx rfl rfl a0.1 (mt_X9_isKept a0 z) (lw_V q2167 q2169 qs96 q129 q2170) hd_X9_isKept rfl ⟨Nat.le_of_ble_eq_true rfl, Nat.le_of_ble_eq_true rfl⟩ (Nat.le_of_ble_eq_true rfl) dX9_peak_153) ⟨⟨rfl, rfl⟩, Nat.le_of_ble_eq_true rfl, Nat.le_of_ble_eq_true rfl⟩ fun v39 w40 e41 => ?_
                    refine J.if_eq (tgt := 163) hx dX9_peak_156 (by decide) ?_ ?_
                    · refine J.iconst (v := 0) hx dX9_peak_163 (by decide) ?_
                      exact J.iret hx rfl (Nat.le_of_ble_eq_true rfl) (Nat.le_of_ble_eq_true rfl) dX9_peak_164
                    · refine J.iconst (v := 1) hx dX9_peak_159 (by decide) ?_
                      refine J.goto (tgt := 164) hx dX9_peak_160 (by decide) ?_
                      exact J.iret hx rfl (Nat.le_of_ble_eq_true rfl) (Nat.le_of_ble_eq_true rfl) dX9_peak_164
                  · refine J.ite (fun e7 => ?_) (fun n7 => ?_)
                    · refine J.tsw (off := 120) (tgt := 165) hx dX9_peak_45 (by rw [e7]; decide) (by rw [e7]; decide) (by rw [e7]; rfl) (by decide) ?_
                      refine J.aload_n hx dX9_peak_165 rfl 1 rfl ?_
                      refine J.iload_n hx dX9_peak_166 rfl 2 rfl ?_
                      refine J.calli hx (fun r z1 z => j_callV (κ := 1) hx rfl rfl a0.1 (mt_X9_generationOf a0 z) (lw_V q2171 q2173 qs97 q129 q2174) hd_X9_generationOf rfl ⟨Nat.le_of_ble_eq_true rfl, Nat.le_of_ble_eq_true rfl⟩ (Nat.le_of_ble_eq_true rfl) dX9_peak_167) ⟨⟨rfl, rfl⟩, Nat.le_of_ble_eq_true rfl, Nat.le_of_ble_eq_true rfl⟩ fun v42 w43 e44 => ?_
                      exact J.iret hx rfl (Nat.le_of_ble_eq_true rfl) (Nat.le_of_ble_eq_true rfl) dX9_peak_170
                    · have z0 := j_neT n0 (a := 0) (by decide)
                      have z1 := j_neT n1 (a := 1) (by decide)
                      have z2 := j_neT n2 (a := 2) (by decide)
                      have z3 := j_neT n3 (a := 3) (by decide)
                      have z4 := j_neT n4 (a := 4) (by decide)
                      have z5 := j_neT n5 (a := 5) (by decide)
                      have z6 := j_neT n6 (a := 6) (by decide)
                      have z7 := j_neT n7 (a := 7) (by decide)
                      refine J.tswD (tgt := 171) hx dX9_peak_45 (by omega) (by decide) ?_
                      refine J.aload_n hx dX9_peak_171 rfl 1 rfl ?_
                      refine J.getc (κ' := 59) (i' := 0) (κ := 1) (k := 39) hx rfl rfl rfl rfl rfl in_X9 (by decide) (Or.inl q1692) a0.2 dX9_peak_172 fun h45 => ?_
                      refine J.iload_n hx dX9_peak_175 rfl 2 rfl ?_
                      refine J.iald (κ := 59) hx rfl rfl h45.1 dX9_peak_176 fun v47 => ?_
                      exact J.iret hx rfl (Nat.le_of_ble_eq_true rfl) (Nat.le_of_ble_eq_true rfl) dX9_peak_177
  · intro K24 hK24
    refine J.fn (fun (K23 : j_St → Option (Int32 × j_St)) => ∀  (w7 : j_St), J g x 4 B (j_Q g x B rm_X9_peak jri) 0 0 (K23 w7) 23 [(0, .ref (B.1 1 0)), (1, .int p1), (2, .int p2)] [.ref (B.1 1 0)] w7) ?_ ?_
    · intro w7
      refine J.iconst (v := 1) hx dX9_peak_23 (by decide) ?_
      exact J.sub [0, 1, 2] rfl (hK24 1 w7)
    · intro K23 hK23
      refine J.if_eq (tgt := 23) hx dX9_peak_6 (by decide) ?_ ?_
      · exact J.sub [0, 1, 2] rfl (hK23 w2)
      · refine J.iload_n hx dX9_peak_9 rfl 2 rfl ?_
        refine J.iconst (v := 0) hx dX9_peak_10 (by decide) ?_
        refine J.bipush (v := 8) hx dX9_peak_11 (by decide) ?_
        refine J.calli hx (fun r z1 z => j_callS hx (mt_X9_in z) (lw_S q1826 q1827 q129 q1828) hd_X9_in.2 rfl ⟨Nat.le_of_ble_eq_true rfl, Nat.le_of_ble_eq_true rfl⟩ (Nat.le_of_ble_eq_true rfl) dX9_peak_13) ⟨⟨rfl, rfl⟩, Nat.le_of_ble_eq_true rfl, Nat.le_of_ble_eq_true rfl⟩ fun v4 w5 e6 => ?_
        refine J.if_eq (tgt := 23) hx dX9_peak_16 (by decide) ?_ ?_
        · exact J.sub [0, 1, 2] rfl (hK23 w5)
        · refine J.iconst (v := 0) hx dX9_peak_19 (by decide) ?_
          refine J.goto (tgt := 24) hx dX9_peak_20 (by decide) ?_
          exact J.sub [0, 1, 2] rfl (hK24 0 w5)
theorem hd_X9_beside : yX9_beside.cls = RX9 ∧ yX9_beside.cls ≠ "java/lang/invoke/MethodHandle" ∧ yX9_beside.cls ≠ "java/lang/invoke/VarHandle" ∧ (parseMethodDescriptor yX9_beside.desc).map (fun d => d.parameters.length) = some 2 := by decide +kernel
def f_X9_beside_L5 (p1 : Int32) (p2 : Int32)  : Nat → Int32 → Int32 → j_St → Option (Int32 × j_St)
  | 0, _, _, _ => none
  | n5 + 1, v1, v2, w3 => jlt (jgi w3 1 0 38) fun v4 => if v4 ≤ v2 then some (v1, w3) else jlt (fun (v11 : Int32) (w12 : j_St) => jlt (fun (v27 : Int32) (w28 : j_St) => jlt (v2 + 1) fun v29 => f_X9_beside_L5 p1 p2 n5 v27 v29 w28) fun K91 => jlt (fun (w26 : j_St) => K91 v1 w26) fun K90 => if v11 = 0 then K90 w12 else jlt (fun (w25 : j_St) => K91 v2 w25) fun K85 => if v1 = (-1) then K85 w12 else jcb (f_X9_placeOf v2 w12) fun v13 w14 => jcb (f_X9_apart v13 p1 w14) fun v16 w17 => jcb (f_X9_placeOf v1 w17) fun v19 w20 => jcb (f_X9_apart v19 p1 w20) fun v22 w23 => if v22 ≤ v16 then K90 w23 else K85 w23) fun K51 => if p2 ≤ 0 then jcb (f_X9_placeOf v2 w3) fun v5 w6 => if p1 ≤ v5 then K51 0 w6 else K51 1 w6 else jcb (f_X9_placeOf v2 w3) fun v8 w9 => if v8 ≤ p1 then K51 0 w9 else K51 1 w9
def f_X9_beside (p1 : Int32) (p2 : Int32) (w : j_St) : Option (Int32 × j_St) := f_X9_beside_L5 p1 p2 jFU (-1) 0 w
abbrev rm_X9_beside : Room := { frames := 1, cells := 0, slots := 0, locals := 21 }
set_option maxRecDepth 100000 in
set_option maxHeartbeats 4000000 in
theorem mt_X9_beside {g : j_G} {B : j_B} {p1 : Int32} {p2 : Int32} {w w' : j_St} (a0 : B.2.1 1 0 ∧ B.2.2 1 0) {r : Int32} (h : f_X9_beside p1 p2 w = some (r, w')) : j_M g yX9_beside cX9_beside 6 (some FieldType.int) rm_X9_beside B [.ref (B.1 1 0), .int p1, .int p2] w w' (jri r) := by
  refine j_met (rv := jri) (by decide) (Nat.le_of_ble_eq_true rfl) (fun x hx => ?_) h
  unfold f_X9_beside
  refine J.sub (lv' := [(0, .ref (B.1 1 0)), (1, .int p1), (2, .int p2)]) [0, 1, 2] rfl ?_
  refine J.iconst (v := (-1)) hx dX9_beside_0 (by decide) ?_
  refine J.istore_n (lv' := [(3, .int (-1)), (0, .ref (B.1 1 0)), (1, .int p1), (2, .int p2)]) hx dX9_beside_1 rfl (by decide) rfl ?_
  refine J.iconst (v := 0) hx dX9_beside_2 (by decide) ?_
  refine J.istore (lv' := [(4, .int 0), (3, .int (-1)), (0, .ref (B.1 1 0)), (1, .int p1), (2, .int p2)]) hx dX9_beside_3 (by decide) rfl ?_
  have hL5 : ∀ (n5 : Nat) (v1 : Int32) (v2 : Int32) (w3 : j_St), J g x 6 B (j_Q g x B rm_X9_beside jri) 0 0 (f_X9_beside_L5 p1 p2 n5 v1 v2 w3) 5 [(0, .ref (B.1 1 0)), (1, .int p1), (2, .int p2), (3, .int v1), (4, .int v2)] [] w3 := by
    intro n5
    induction n5 with
    | zero =>
      intro v1 v2 w3
      rw [f_X9_beside_L5]
      exact J.nne
    | succ n5 ih =>
      intro v1 v2 w3
      rw [f_X9_beside_L5]
      refine J.iload hx dX9_beside_5 4 rfl ?_
      refine J.aload_n hx dX9_beside_7 rfl 0 rfl ?_
      refine J.geti (κ := 1) (k := 38) hx rfl rfl rfl in_X9 (by decide) (Or.inl q1691) a0.1 dX9_beside_8 fun v4 => ?_
      refine J.icmp_ge (tgt := 98) hx dX9_beside_11 (by decide) ?_ ?_
      · refine J.iload_n hx dX9_beside_98 rfl 3 rfl ?_
        exact J.iret hx rfl (Nat.le_of_ble_eq_true rfl) (Nat.le_of_ble_eq_true rfl) dX9_beside_99
      · refine J.iload_n hx dX9_beside_14 rfl 2 rfl ?_
        refine J.fn (fun (K51 : Int32 → j_St → Option (Int32 × j_St)) => ∀ (v11 : Int32) (w12 : j_St), J g x 6 B (j_Q g x B rm_X9_beside jri) 0 0 (K51 v11 w12) 51 [(0, .ref (B.1 1 0)), (1, .int p1), (2, .int p2), (3, .int v1), (4, .int v2)] [.int v11] w12) ?_ ?_
        · intro v11 w12
          refine J.istore (lv' := [(5, .int v11), (0, .ref (B.1 1 0)), (1, .int p1), (2, .int p2), (3, .int v1), (4, .int v2)]) hx dX9_beside_51 (by decide) rfl ?_
          refine J.iload hx dX9_beside_53 0 rfl ?_
          refine J.fn (fun (K91 : Int32 → j_St → Option (Int32 × j_St)) => ∀ (v27 : Int32) (w28 : j_St), J g x 6 B (j_Q g x B rm_X9_beside jri) 0 0 (K91 v27 w28) 91 [(0, .ref (B.1 1 0)), (1, .int p1), (2, .int p2), (4, .int v2)] [.int v27] w28) ?_ ?_
          · intro v27 w28
            refine J.istore_n (lv' := [(3, .int v27), (0, .ref (B.1 1 0)), (1, .int p1), (2, .int p2), (4, .int v2)]) hx dX9_beside_91 rfl (by decide) rfl ?_
            refine J.nmx fun v29 ev29 => ?_
            refine J.iinc (p := 4) (v := v29) (lv' := [(4, .int v29), (3, .int v27), (0, .ref (B.1 1 0)), (1, .int p1), (2, .int p2)]) hx dX9_beside_92 rfl (by rw [ev29]; rfl) (by decide) rfl ?_
            refine J.goto (tgt := 5) hx dX9_beside_95 (by decide) ?_
            exact J.sub [2, 3, 4, 1, 0] rfl (ih v27 v29 w28)
          · intro K91 hK91
            refine J.fn (fun (K90 : j_St → Option (Int32 × j_St)) => ∀  (w26 : j_St), J g x 6 B (j_Q g x B rm_X9_beside jri) 0 0 (K90 w26) 90 [(0, .ref (B.1 1 0)), (1, .int p1), (2, .int p2), (3, .int v1), (4, .int v2)] [] w26) ?_ ?_
            · intro w26
              refine J.iload_n hx dX9_beside_90 rfl 3 rfl ?_
              exact J.sub [0, 1, 2, 4] rfl (hK91 v1 w26)
            · intro K90 hK90
              refine J.if_eq (tgt := 90) hx dX9_beside_55 (by decide) ?_ ?_
              · exact J.sub [1, 2, 3, 4, 5] rfl (hK90 w12)
              · refine J.iload_n hx dX9_beside_58 rfl 4 rfl ?_
                refine J.iconst (v := (-1)) hx dX9_beside_59 (by decide) ?_
                refine J.fn (fun (K85 : j_St → Option (Int32 × j_St)) => ∀  (w25 : j_St), J g x 6 B (j_Q g x B rm_X9_beside jri) 0 0 (K85 w25) 85 [(0, .ref (B.1 1 0)), (1, .int p1), (2, .int p2), (4, .int v2)] [] w25) ?_ ?_
                · intro w25
                  refine J.iload hx dX9_beside_85 3 rfl ?_
                  refine J.goto (tgt := 91) hx dX9_beside_87 (by decide) ?_
                  exact J.sub [0, 1, 2, 3] rfl (hK91 v2 w25)
                · intro K85 hK85
                  refine J.icmp_eq (tgt := 85) hx dX9_beside_60 (by decide) ?_ ?_
                  · exact J.sub [1, 2, 3, 5] rfl (hK85 w12)
                  · refine J.aload_n hx dX9_beside_63 rfl 1 rfl ?_
                    refine J.iload hx dX9_beside_64 5 rfl ?_
                    refine J.calli hx (fun r z1 z => j_callV (κ := 1) hx rfl rfl a0.1 (mt_X9_placeOf a0 z) (lw_V q2030 q2032 qs79 q129 q2033) hd_X9_placeOf rfl ⟨Nat.le_of_ble_eq_true rfl, Nat.le_of_ble_eq_true rfl⟩ (Nat.le_of_ble_eq_true rfl) dX9_beside_66) ⟨⟨rfl, rfl⟩, Nat.le_of_ble_eq_true rfl, Nat.le_of_ble_eq_true rfl⟩ fun v13 w14 e15 => ?_
                    refine J.iload_n hx dX9_beside_69 rfl 2 rfl ?_
                    refine J.calli hx (fun r z1 z => j_callS hx (mt_X9_apart z) (lw_S q2034 q2035 q129 q2036) hd_X9_apart.2 rfl ⟨Nat.le_of_ble_eq_true rfl, Nat.le_of_ble_eq_true rfl⟩ (Nat.le_of_ble_eq_true rfl) dX9_beside_70) ⟨⟨rfl, rfl⟩, Nat.le_of_ble_eq_true rfl, Nat.le_of_ble_eq_true rfl⟩ fun v16 w17 e18 => ?_
                    refine J.aload_n hx dX9_beside_73 rfl 1 rfl ?_
                    refine J.iload_n hx dX9_beside_74 rfl 4 rfl ?_
                    refine J.calli hx (fun r z1 z => j_callV (κ := 1) hx rfl rfl a0.1 (mt_X9_placeOf a0 z) (lw_V q2030 q2032 qs79 q129 q2033) hd_X9_placeOf rfl ⟨Nat.le_of_ble_eq_true rfl, Nat.le_of_ble_eq_true rfl⟩ (Nat.le_of_ble_eq_true rfl) dX9_beside_75) ⟨⟨rfl, rfl⟩, Nat.le_of_ble_eq_true rfl, Nat.le_of_ble_eq_true rfl⟩ fun v19 w20 e21 => ?_
                    refine J.iload_n hx dX9_beside_78 rfl 2 rfl ?_
                    refine J.calli hx (fun r z1 z => j_callS hx (mt_X9_apart z) (lw_S q2034 q2035 q129 q2036) hd_X9_apart.2 rfl ⟨Nat.le_of_ble_eq_true rfl, Nat.le_of_ble_eq_true rfl⟩ (Nat.le_of_ble_eq_true rfl) dX9_beside_79) ⟨⟨rfl, rfl⟩, Nat.le_of_ble_eq_true rfl, Nat.le_of_ble_eq_true rfl⟩ fun v22 w23 e24 => ?_
                    refine J.icmp_ge (tgt := 90) hx dX9_beside_82 (by decide) ?_ ?_
                    · exact J.sub [1, 2, 3, 4, 5] rfl (hK90 w23)
                    · exact J.sub [1, 2, 3, 5] rfl (hK85 w23)
        · intro K51 hK51
          refine J.if_le (tgt := 36) hx dX9_beside_15 (by decide) ?_ ?_
          · refine J.aload_n hx dX9_beside_36 rfl 0 rfl ?_
            refine J.iload hx dX9_beside_37 4 rfl ?_
            refine J.calli hx (fun r z1 z => j_callV (κ := 1) hx rfl rfl a0.1 (mt_X9_placeOf a0 z) (lw_V q2030 q2032 qs79 q129 q2033) hd_X9_placeOf rfl ⟨Nat.le_of_ble_eq_true rfl, Nat.le_of_ble_eq_true rfl⟩ (Nat.le_of_ble_eq_true rfl) dX9_beside_39) ⟨⟨rfl, rfl⟩, Nat.le_of_ble_eq_true rfl, Nat.le_of_ble_eq_true rfl⟩ fun v5 w6 e7 => ?_
            refine J.iload_n hx dX9_beside_42 rfl 1 rfl ?_
            refine J.icmp_ge (tgt := 50) hx dX9_beside_43 (by decide) ?_ ?_
            · refine J.iconst (v := 0) hx dX9_beside_50 (by decide) ?_
              exact J.sub [0, 1, 2, 3, 4] rfl (hK51 0 w6)
            · refine J.iconst (v := 1) hx dX9_beside_46 (by decide) ?_
              refine J.goto (tgt := 51) hx dX9_beside_47 (by decide) ?_
              exact J.sub [0, 1, 2, 3, 4] rfl (hK51 1 w6)
          · refine J.aload_n hx dX9_beside_18 rfl 0 rfl ?_
            refine J.iload hx dX9_beside_19 4 rfl ?_
            refine J.calli hx (fun r z1 z => j_callV (κ := 1) hx rfl rfl a0.1 (mt_X9_placeOf a0 z) (lw_V q2030 q2032 qs79 q129 q2033) hd_X9_placeOf rfl ⟨Nat.le_of_ble_eq_true rfl, Nat.le_of_ble_eq_true rfl⟩ (Nat.le_of_ble_eq_true rfl) dX9_beside_21) ⟨⟨rfl, rfl⟩, Nat.le_of_ble_eq_true rfl, Nat.le_of_ble_eq_true rfl⟩ fun v8 w9 e10 => ?_
            refine J.iload_n hx dX9_beside_24 rfl 1 rfl ?_
            refine J.icmp_le (tgt := 32) hx dX9_beside_25 (by decide) ?_ ?_
            · refine J.iconst (v := 0) hx dX9_beside_32 (by decide) ?_
              refine J.goto (tgt := 51) hx dX9_beside_33 (by decide) ?_
              exact J.sub [0, 1, 2, 3, 4] rfl (hK51 0 w9)
            · refine J.iconst (v := 1) hx dX9_beside_28 (by decide) ?_
              refine J.goto (tgt := 51) hx dX9_beside_29 (by decide) ?_
              exact J.sub [0, 1, 2, 3, 4] rfl (hK51 1 w9)
  refine J.sub [2, 3, 4, 1, 0] rfl (hL5 jFU (-1) 0 w)
theorem hd_X9_lowBetween : yX9_lowBetween.cls = RX9 ∧ yX9_lowBetween.cls ≠ "java/lang/invoke/MethodHandle" ∧ yX9_lowBetween.cls ≠ "java/lang/invoke/VarHandle" ∧ (parseMethodDescriptor yX9_lowBetween.desc).map (fun d => d.parameters.length) = some 2 := by decide +kernel
def f_X9_lowBetween_L9 (p2 : Int32)  : Nat → Int32 → Int32 → j_St → Option (Int32 × j_St)
  | 0, _, _, _ => none
  | n9 + 1, v3, v4, w5 => if p2 ≤ v4 then some (v3, w5) else jbd v4 231 fun a7 => jlt (jgi w5 47 0 a7) fun v8 => jbd v3 231 fun a10 => jlt (jgi w5 47 0 a10) fun v11 => jlt (fun (v12 : Int32) (w13 : j_St) => jlt (v4 + 1) fun v14 => f_X9_lowBetween_L9 p2 n9 v12 v14 w13) fun K37 => if v11 ≤ v8 then K37 v3 w5 else K37 v4 w5
def f_X9_lowBetween (p1 : Int32) (p2 : Int32) (w : j_St) : Option (Int32 × j_St) := jlt (p1 + 1) fun v1 => jlt (p1 + 2) fun v2 => f_X9_lowBetween_L9 p2 jFU v1 v2 w
abbrev rm_X9_lowBetween : Room := { frames := 0, cells := 0, slots := 0, locals := 0 }
set_option maxRecDepth 100000 in
set_option maxHeartbeats 4000000 in
theorem mt_X9_lowBetween {g : j_G} {B : j_B} {p1 : Int32} {p2 : Int32} {w w' : j_St} (a0 : B.2.1 1 0 ∧ B.2.2 1 0) {r : Int32} (h : f_X9_lowBetween p1 p2 w = some (r, w')) : j_M g yX9_lowBetween cX9_lowBetween 5 (some FieldType.int) rm_X9_lowBetween B [.ref (B.1 1 0), .int p1, .int p2] w w' (jri r) := by
  refine j_met (rv := jri) (by decide) (Nat.le_of_ble_eq_true rfl) (fun x hx => ?_) h
  unfold f_X9_lowBetween
  refine J.sub (lv' := [(0, .ref (B.1 1 0)), (1, .int p1), (2, .int p2)]) [0, 1, 2] rfl ?_
  refine J.iload_n hx dX9_lowBetween_0 rfl 1 rfl ?_
  refine J.iconst (v := 1) hx dX9_lowBetween_1 (by decide) ?_
  refine J.iadd hx dX9_lowBetween_2 ?_
  refine J.nmi fun v1 => ?_
  refine J.istore_n (lv' := [(3, .int v1), (0, .ref (B.1 1 0)), (1, .int p1), (2, .int p2)]) hx dX9_lowBetween_3 rfl (by decide) rfl ?_
  refine J.iload_n hx dX9_lowBetween_4 rfl 2 rfl ?_
  refine J.iconst (v := 2) hx dX9_lowBetween_5 (by decide) ?_
  refine J.iadd hx dX9_lowBetween_6 ?_
  refine J.nmi fun v2 => ?_
  refine J.istore (lv' := [(4, .int v2), (3, .int v1), (0, .ref (B.1 1 0)), (1, .int p1), (2, .int p2)]) hx dX9_lowBetween_7 (by decide) rfl ?_
  have hL9 : ∀ (n9 : Nat) (v3 : Int32) (v4 : Int32) (w5 : j_St), J g x 5 B (j_Q g x B rm_X9_lowBetween jri) 0 0 (f_X9_lowBetween_L9 p2 n9 v3 v4 w5) 9 [(0, .ref (B.1 1 0)), (2, .int p2), (3, .int v3), (4, .int v4)] [] w5 := by
    intro n9
    induction n9 with
    | zero =>
      intro v3 v4 w5
      rw [f_X9_lowBetween_L9]
      exact J.nne
    | succ n9 ih =>
      intro v3 v4 w5
      rw [f_X9_lowBetween_L9]
      refine J.iload hx dX9_lowBetween_9 3 rfl ?_
      refine J.iload_n hx dX9_lowBetween_11 rfl 1 rfl ?_
      refine J.icmp_ge (tgt := 44) hx dX9_lowBetween_12 (by decide) ?_ ?_
      · refine J.iload_n hx dX9_lowBetween_44 rfl 2 rfl ?_
        exact J.iret hx rfl (Nat.le_of_ble_eq_true rfl) (Nat.le_of_ble_eq_true rfl) dX9_lowBetween_45
      · refine J.aload_n hx dX9_lowBetween_15 rfl 0 rfl ?_
        refine J.getc (κ' := 47) (i' := 0) (κ := 1) (k := 22) hx rfl rfl rfl rfl rfl in_X9 (by decide) (Or.inl q1675) a0.2 dX9_lowBetween_16 fun h6 => ?_
        refine J.iload hx dX9_lowBetween_19 3 rfl ?_
        refine J.iald (κ := 47) hx rfl rfl h6.1 dX9_lowBetween_21 fun v8 => ?_
        refine J.aload_n hx dX9_lowBetween_22 rfl 0 rfl ?_
        refine J.getc (κ' := 47) (i' := 0) (κ := 1) (k := 22) hx rfl rfl rfl rfl rfl in_X9 (by decide) (Or.inl q1675) a0.2 dX9_lowBetween_23 fun h9 => ?_
        refine J.iload_n hx dX9_lowBetween_26 rfl 2 rfl ?_
        refine J.iald (κ := 47) hx rfl rfl h9.1 dX9_lowBetween_27 fun v11 => ?_
        refine J.fn (fun (K37 : Int32 → j_St → Option (Int32 × j_St)) => ∀ (v12 : Int32) (w13 : j_St), J g x 5 B (j_Q g x B rm_X9_lowBetween jri) 0 0 (K37 v12 w13) 37 [(0, .ref (B.1 1 0)), (2, .int p2), (4, .int v4)] [.int v12] w13) ?_ ?_
        · intro v12 w13
          refine J.istore_n (lv' := [(3, .int v12), (0, .ref (B.1 1 0)), (2, .int p2), (4, .int v4)]) hx dX9_lowBetween_37 rfl (by decide) rfl ?_
          refine J.nmx fun v14 ev14 => ?_
          refine J.iinc (p := 3) (v := v14) (lv' := [(4, .int v14), (3, .int v12), (0, .ref (B.1 1 0)), (2, .int p2)]) hx dX9_lowBetween_38 rfl (by rw [ev14]; rfl) (by decide) rfl ?_
          refine J.goto (tgt := 9) hx dX9_lowBetween_41 (by decide) ?_
          exact J.sub [2, 3, 1, 0] rfl (ih v12 v14 w13)
        · intro K37 hK37
          refine J.icmp_ge (tgt := 36) hx dX9_lowBetween_28 (by decide) ?_ ?_
          · refine J.iload_n hx dX9_lowBetween_36 rfl 2 rfl ?_
            exact J.sub [0, 1, 3] rfl (hK37 v3 w5)
          · refine J.iload hx dX9_lowBetween_31 3 rfl ?_
            refine J.goto (tgt := 37) hx dX9_lowBetween_33 (by decide) ?_
            exact J.sub [0, 1, 3] rfl (hK37 v4 w5)
  refine J.sub [2, 4, 1, 0] rfl (hL9 jFU v1 v2 w)
theorem hd_X9_firstOf : yX9_firstOf.cls = RX9 ∧ yX9_firstOf.cls ≠ "java/lang/invoke/MethodHandle" ∧ yX9_firstOf.cls ≠ "java/lang/invoke/VarHandle" ∧ (parseMethodDescriptor yX9_firstOf.desc).map (fun d => d.parameters.length) = some 1 := by decide +kernel
def f_X9_firstOf (p1 : Int32) (w : j_St) : Option (Int32 × j_St) := jcb (f_X9_placeOf p1 w) fun v1 w2 => jcb (f_X9_beside v1 (-1) w2) fun v4 w5 => if v4 = (-1) then some (0, w5) else jcb (f_X9_placeOf v4 w5) fun v7 w8 => jcb (f_X9_placeOf p1 w8) fun v10 w11 => jcb (f_X9_lowBetween v7 v10 w11) fun v13 w14 => some (v13, w14)
abbrev rm_X9_firstOf : Room := { frames := 2, cells := 0, slots := 0, locals := 46 }
set_option maxRecDepth 100000 in
set_option maxHeartbeats 4000000 in
theorem mt_X9_firstOf {g : j_G} {B : j_B} {p1 : Int32} {w w' : j_St} (a0 : B.2.1 1 0 ∧ B.2.2 1 0) {r : Int32} (h : f_X9_firstOf p1 w = some (r, w')) : j_M g yX9_firstOf cX9_firstOf 3 (some FieldType.int) rm_X9_firstOf B [.ref (B.1 1 0), .int p1] w w' (jri r) := by
  refine j_met (rv := jri) (by decide) (Nat.le_of_ble_eq_true rfl) (fun x hx => ?_) h
  unfold f_X9_firstOf
  refine J.sub (lv' := [(0, .ref (B.1 1 0)), (1, .int p1)]) [0, 1] rfl ?_
  refine J.aload_n hx dX9_firstOf_0 rfl 0 rfl ?_
  refine J.aload_n hx dX9_firstOf_1 rfl 0 rfl ?_
  refine J.iload_n hx dX9_firstOf_2 rfl 1 rfl ?_
  refine J.calli hx (fun r z1 z => j_callV (κ := 1) hx rfl rfl a0.1 (mt_X9_placeOf a0 z) (lw_V q2030 q2032 qs79 q129 q2033) hd_X9_placeOf rfl ⟨Nat.le_of_ble_eq_true rfl, Nat.le_of_ble_eq_true rfl⟩ (Nat.le_of_ble_eq_true rfl) dX9_firstOf_3) ⟨⟨rfl, rfl⟩, Nat.le_of_ble_eq_true rfl, Nat.le_of_ble_eq_true rfl⟩ fun v1 w2 e3 => ?_
  refine J.iconst (v := (-1)) hx dX9_firstOf_6 (by decide) ?_
  refine J.calli hx (fun r z1 z => j_callV (κ := 1) hx rfl rfl a0.1 (mt_X9_beside a0 z) (lw_V q2183 q2185 qs99 q129 q2186) hd_X9_beside rfl ⟨Nat.le_of_ble_eq_true rfl, Nat.le_of_ble_eq_true rfl⟩ (Nat.le_of_ble_eq_true rfl) dX9_firstOf_7) ⟨⟨rfl, rfl⟩, Nat.le_of_ble_eq_true rfl, Nat.le_of_ble_eq_true rfl⟩ fun v4 w5 e6 => ?_
  refine J.istore_n (lv' := [(2, .int v4), (0, .ref (B.1 1 0)), (1, .int p1)]) hx dX9_firstOf_10 rfl (by decide) rfl ?_
  refine J.iload_n hx dX9_firstOf_11 rfl 0 rfl ?_
  refine J.iconst (v := (-1)) hx dX9_firstOf_12 (by decide) ?_
  refine J.icmp_ne (tgt := 20) hx dX9_firstOf_13 (by decide) ?_ ?_
  · refine J.iconst (v := 0) hx dX9_firstOf_16 (by decide) ?_
    refine J.goto (tgt := 34) hx dX9_firstOf_17 (by decide) ?_
    exact J.iret hx rfl (Nat.le_of_ble_eq_true rfl) (Nat.le_of_ble_eq_true rfl) dX9_firstOf_34
  · refine J.aload_n hx dX9_firstOf_20 rfl 1 rfl ?_
    refine J.aload_n hx dX9_firstOf_21 rfl 1 rfl ?_
    refine J.iload_n hx dX9_firstOf_22 rfl 0 rfl ?_
    refine J.calli hx (fun r z1 z => j_callV (κ := 1) hx rfl rfl a0.1 (mt_X9_placeOf a0 z) (lw_V q2030 q2032 qs79 q129 q2033) hd_X9_placeOf rfl ⟨Nat.le_of_ble_eq_true rfl, Nat.le_of_ble_eq_true rfl⟩ (Nat.le_of_ble_eq_true rfl) dX9_firstOf_23) ⟨⟨rfl, rfl⟩, Nat.le_of_ble_eq_true rfl, Nat.le_of_ble_eq_true rfl⟩ fun v7 w8 e9 => ?_
    refine J.aload_n hx dX9_firstOf_26 rfl 1 rfl ?_
    refine J.iload_n hx dX9_firstOf_27 rfl 2 rfl ?_
    refine J.calli hx (fun r z1 z => j_callV (κ := 1) hx rfl rfl a0.1 (mt_X9_placeOf a0 z) (lw_V q2030 q2032 qs79 q129 q2033) hd_X9_placeOf rfl ⟨Nat.le_of_ble_eq_true rfl, Nat.le_of_ble_eq_true rfl⟩ (Nat.le_of_ble_eq_true rfl) dX9_firstOf_28) ⟨⟨rfl, rfl⟩, Nat.le_of_ble_eq_true rfl, Nat.le_of_ble_eq_true rfl⟩ fun v10 w11 e12 => ?_
    refine J.calli hx (fun r z1 z => j_callV (κ := 1) hx rfl rfl a0.1 (mt_X9_lowBetween a0 z) (lw_V q2187 q2189 qs100 q129 q2190) hd_X9_lowBetween rfl ⟨Nat.le_of_ble_eq_true rfl, Nat.le_of_ble_eq_true rfl⟩ (Nat.le_of_ble_eq_true rfl) dX9_firstOf_31) ⟨⟨rfl, rfl⟩, Nat.le_of_ble_eq_true rfl, Nat.le_of_ble_eq_true rfl⟩ fun v13 w14 e15 => ?_
    exact J.iret hx rfl (Nat.le_of_ble_eq_true rfl) (Nat.le_of_ble_eq_true rfl) dX9_firstOf_34
theorem hd_X9_lastOf : yX9_lastOf.cls = RX9 ∧ yX9_lastOf.cls ≠ "java/lang/invoke/MethodHandle" ∧ yX9_lastOf.cls ≠ "java/lang/invoke/VarHandle" ∧ (parseMethodDescriptor yX9_lastOf.desc).map (fun d => d.parameters.length) = some 1 := by decide +kernel
def f_X9_lastOf (p1 : Int32) (w : j_St) : Option (Int32 × j_St) := jcb (f_X9_placeOf p1 w) fun v1 w2 => jcb (f_X9_beside v1 1 w2) fun v4 w5 => if v4 = (-1) then jcb (f_X9_many w5) fun v16 w17 => some (v16 - 1, w17) else jcb (f_X9_placeOf p1 w5) fun v7 w8 => jcb (f_X9_placeOf v4 w8) fun v10 w11 => jcb (f_X9_lowBetween v7 v10 w11) fun v13 w14 => some (v13 - 1, w14)
abbrev rm_X9_lastOf : Room := { frames := 2, cells := 0, slots := 0, locals := 46 }
set_option maxRecDepth 100000 in
set_option maxHeartbeats 4000000 in
theorem mt_X9_lastOf {g : j_G} {B : j_B} {p1 : Int32} {w w' : j_St} (a0 : B.2.1 1 0 ∧ B.2.2 1 0) {r : Int32} (h : f_X9_lastOf p1 w = some (r, w')) : j_M g yX9_lastOf cX9_lastOf 3 (some FieldType.int) rm_X9_lastOf B [.ref (B.1 1 0), .int p1] w w' (jri r) := by
  refine j_met (rv := jri) (by decide) (Nat.le_of_ble_eq_true rfl) (fun x hx => ?_) h
  unfold f_X9_lastOf
  refine J.sub (lv' := [(0, .ref (B.1 1 0)), (1, .int p1)]) [0, 1] rfl ?_
  refine J.aload_n hx dX9_lastOf_0 rfl 0 rfl ?_
  refine J.aload_n hx dX9_lastOf_1 rfl 0 rfl ?_
  refine J.iload_n hx dX9_lastOf_2 rfl 1 rfl ?_
  refine J.calli hx (fun r z1 z => j_callV (κ := 1) hx rfl rfl a0.1 (mt_X9_placeOf a0 z) (lw_V q2030 q2032 qs79 q129 q2033) hd_X9_placeOf rfl ⟨Nat.le_of_ble_eq_true rfl, Nat.le_of_ble_eq_true rfl⟩ (Nat.le_of_ble_eq_true rfl) dX9_lastOf_3) ⟨⟨rfl, rfl⟩, Nat.le_of_ble_eq_true rfl, Nat.le_of_ble_eq_true rfl⟩ fun v1 w2 e3 => ?_
  refine J.iconst (v := 1) hx dX9_lastOf_6 (by decide) ?_
  refine J.calli hx (fun r z1 z => j_callV (κ := 1) hx rfl rfl a0.1 (mt_X9_beside a0 z) (lw_V q2183 q2185 qs99 q129 q2186) hd_X9_beside rfl ⟨Nat.le_of_ble_eq_true rfl, Nat.le_of_ble_eq_true rfl⟩ (Nat.le_of_ble_eq_true rfl) dX9_lastOf_7) ⟨⟨rfl, rfl⟩, Nat.le_of_ble_eq_true rfl, Nat.le_of_ble_eq_true rfl⟩ fun v4 w5 e6 => ?_
  refine J.istore_n (lv' := [(2, .int v4), (0, .ref (B.1 1 0)), (1, .int p1)]) hx dX9_lastOf_10 rfl (by decide) rfl ?_
  refine J.iload_n hx dX9_lastOf_11 rfl 0 rfl ?_
  refine J.iconst (v := (-1)) hx dX9_lastOf_12 (by decide) ?_
  refine J.icmp_ne (tgt := 25) hx dX9_lastOf_13 (by decide) ?_ ?_
  · refine J.aload_n hx dX9_lastOf_16 rfl 1 rfl ?_
    refine J.calli hx (fun r z1 z => j_callV (κ := 1) hx rfl rfl a0.1 (mt_X9_many a0 z) (lw_V q1941 q1943 qs59 q129 q1944) hd_X9_many rfl ⟨Nat.le_of_ble_eq_true rfl, Nat.le_of_ble_eq_true rfl⟩ (Nat.le_of_ble_eq_true rfl) dX9_lastOf_17) ⟨⟨rfl, rfl⟩, Nat.le_of_ble_eq_true rfl, Nat.le_of_ble_eq_true rfl⟩ fun v16 w17 e18 => ?_
    refine J.iconst (v := 1) hx dX9_lastOf_20 (by decide) ?_
    refine J.isub hx dX9_lastOf_21 ?_
    refine J.goto (tgt := 41) hx dX9_lastOf_22 (by decide) ?_
    exact J.iret hx rfl (Nat.le_of_ble_eq_true rfl) (Nat.le_of_ble_eq_true rfl) dX9_lastOf_41
  · refine J.aload_n hx dX9_lastOf_25 rfl 1 rfl ?_
    refine J.aload_n hx dX9_lastOf_26 rfl 1 rfl ?_
    refine J.iload_n hx dX9_lastOf_27 rfl 2 rfl ?_
    refine J.calli hx (fun r z1 z => j_callV (κ := 1) hx rfl rfl a0.1 (mt_X9_placeOf a0 z) (lw_V q2030 q2032 qs79 q129 q2033) hd_X9_placeOf rfl ⟨Nat.le_of_ble_eq_true rfl, Nat.le_of_ble_eq_true rfl⟩ (Nat.le_of_ble_eq_true rfl) dX9_lastOf_28) ⟨⟨rfl, rfl⟩, Nat.le_of_ble_eq_true rfl, Nat.le_of_ble_eq_true rfl⟩ fun v7 w8 e9 => ?_
    refine J.aload_n hx dX9_lastOf_31 rfl 1 rfl ?_
    refine J.iload_n hx dX9_lastOf_32 rfl 0 rfl ?_
    refine J.calli hx (fun r z1 z => j_callV (κ := 1) hx rfl rfl a0.1 (mt_X9_placeOf a0 z) (lw_V q2030 q2032 qs79 q129 q2033) hd_X9_placeOf rfl ⟨Nat.le_of_ble_eq_true rfl, Nat.le_of_ble_eq_true rfl⟩ (Nat.le_of_ble_eq_true rfl) dX9_lastOf_33) ⟨⟨rfl, rfl⟩, Nat.le_of_ble_eq_true rfl, Nat.le_of_ble_eq_true rfl⟩ fun v10 w11 e12 => ?_
    refine J.calli hx (fun r z1 z => j_callV (κ := 1) hx rfl rfl a0.1 (mt_X9_lowBetween a0 z) (lw_V q2187 q2189 qs100 q129 q2190) hd_X9_lowBetween rfl ⟨Nat.le_of_ble_eq_true rfl, Nat.le_of_ble_eq_true rfl⟩ (Nat.le_of_ble_eq_true rfl) dX9_lastOf_36) ⟨⟨rfl, rfl⟩, Nat.le_of_ble_eq_true rfl, Nat.le_of_ble_eq_true rfl⟩ fun v13 w14 e15 => ?_
    refine J.iconst (v := 1) hx dX9_lastOf_39 (by decide) ?_
    refine J.isub hx dX9_lastOf_40 ?_
    exact J.iret hx rfl (Nat.le_of_ble_eq_true rfl) (Nat.le_of_ble_eq_true rfl) dX9_lastOf_41
theorem hd_X9_areaOf : yX9_areaOf.cls = RX9 ∧ yX9_areaOf.cls ≠ "java/lang/invoke/MethodHandle" ∧ yX9_areaOf.cls ≠ "java/lang/invoke/VarHandle" ∧ (parseMethodDescriptor yX9_areaOf.desc).map (fun d => d.parameters.length) = some 1 := by decide +kernel
def f_X9_areaOf_L8 (p1 : Int32)  : Nat → Int32 → Int32 → j_St → Option (Int32 × j_St)
  | 0, _, _, _ => none
  | n8 + 1, v4, v5, w6 => jcb (f_X9_lastOf p1 w6) fun v7 w8 => if v7 < v5 then some (v4, w8) else jbd v5 231 fun a11 => jlt (jgi w8 47 0 a11) fun v12 => jbd p1 48 fun a15 => jlt (jgi w8 57 0 a15) fun v16 => jbd v16 48 fun a17 => jlt (jgi w8 54 0 a17) fun v18 => jlt (v4 + (jmax 0 (v12 - v18))) fun v19 => jlt (v5 + 1) fun v20 => f_X9_areaOf_L8 p1 n8 v19 v20 w8
def f_X9_areaOf (p1 : Int32) (w : j_St) : Option (Int32 × j_St) := jcb (f_X9_firstOf p1 w) fun v1 w2 => f_X9_areaOf_L8 p1 jFU 0 v1 w2
abbrev rm_X9_areaOf : Room := { frames := 3, cells := 0, slots := 0, locals := 68 }
set_option maxRecDepth 100000 in
set_option maxHeartbeats 4000000 in
theorem mt_X9_areaOf {g : j_G} {B : j_B} {p1 : Int32} {w w' : j_St} (a0 : B.2.1 1 0 ∧ B.2.2 1 0) {r : Int32} (h : f_X9_areaOf p1 w = some (r, w')) : j_M g yX9_areaOf cX9_areaOf 4 (some FieldType.int) rm_X9_areaOf B [.ref (B.1 1 0), .int p1] w w' (jri r) := by
  refine j_met (rv := jri) (by decide) (Nat.le_of_ble_eq_true rfl) (fun x hx => ?_) h
  unfold f_X9_areaOf
  refine J.sub (lv' := [(0, .ref (B.1 1 0)), (1, .int p1)]) [0, 1] rfl ?_
  refine J.iconst (v := 0) hx dX9_areaOf_0 (by decide) ?_
  refine J.istore_n (lv' := [(2, .int 0), (0, .ref (B.1 1 0)), (1, .int p1)]) hx dX9_areaOf_1 rfl (by decide) rfl ?_
  refine J.aload_n hx dX9_areaOf_2 rfl 1 rfl ?_
  refine J.iload_n hx dX9_areaOf_3 rfl 2 rfl ?_
  refine J.calli hx (fun r z1 z => j_callV (κ := 1) hx rfl rfl a0.1 (mt_X9_firstOf a0 z) (lw_V q2179 q2181 qs98 q129 q2182) hd_X9_firstOf rfl ⟨Nat.le_of_ble_eq_true rfl, Nat.le_of_ble_eq_true rfl⟩ (Nat.le_of_ble_eq_true rfl) dX9_areaOf_4) ⟨⟨rfl, rfl⟩, Nat.le_of_ble_eq_true rfl, Nat.le_of_ble_eq_true rfl⟩ fun v1 w2 e3 => ?_
  refine J.istore_n (lv' := [(3, .int v1), (2, .int 0), (0, .ref (B.1 1 0)), (1, .int p1)]) hx dX9_areaOf_7 rfl (by decide) rfl ?_
  have hL8 : ∀ (n8 : Nat) (v4 : Int32) (v5 : Int32) (w6 : j_St), J g x 4 B (j_Q g x B rm_X9_areaOf jri) 0 0 (f_X9_areaOf_L8 p1 n8 v4 v5 w6) 8 [(0, .ref (B.1 1 0)), (1, .int p1), (2, .int v4), (3, .int v5)] [] w6 := by
    intro n8
    induction n8 with
    | zero =>
      intro v4 v5 w6
      rw [f_X9_areaOf_L8]
      exact J.nne
    | succ n8 ih =>
      intro v4 v5 w6
      rw [f_X9_areaOf_L8]
      refine J.iload_n hx dX9_areaOf_8 rfl 3 rfl ?_
      refine J.aload_n hx dX9_areaOf_9 rfl 0 rfl ?_
      refine J.iload_n hx dX9_areaOf_10 rfl 1 rfl ?_
      refine J.calli hx (fun r z1 z => j_callV (κ := 1) hx rfl rfl a0.1 (mt_X9_lastOf a0 z) (lw_V q2191 q2193 qs101 q129 q2194) hd_X9_lastOf rfl ⟨Nat.le_of_ble_eq_true rfl, Nat.le_of_ble_eq_true rfl⟩ (Nat.le_of_ble_eq_true rfl) dX9_areaOf_11) ⟨⟨rfl, rfl⟩, Nat.le_of_ble_eq_true rfl, Nat.le_of_ble_eq_true rfl⟩ fun v7 w8 e9 => ?_
      refine J.icmp_gt (tgt := 48) hx dX9_areaOf_14 (by decide) ?_ ?_
      · refine J.iload_n hx dX9_areaOf_48 rfl 2 rfl ?_
        exact J.iret hx rfl (Nat.le_of_ble_eq_true rfl) (Nat.le_of_ble_eq_true rfl) dX9_areaOf_49
      · refine J.iload_n hx dX9_areaOf_17 rfl 2 rfl ?_
        refine J.iconst (v := 0) hx dX9_areaOf_18 (by decide) ?_
        refine J.aload_n hx dX9_areaOf_19 rfl 0 rfl ?_
        refine J.getc (κ' := 47) (i' := 0) (κ := 1) (k := 22) hx rfl rfl rfl rfl rfl in_X9 (by decide) (Or.inl q1675) a0.2 dX9_areaOf_20 fun h10 => ?_
        refine J.iload_n hx dX9_areaOf_23 rfl 3 rfl ?_
        refine J.iald (κ := 47) hx rfl rfl h10.1 dX9_areaOf_24 fun v12 => ?_
        refine J.aload_n hx dX9_areaOf_25 rfl 0 rfl ?_
        refine J.getc (κ' := 54) (i' := 0) (κ := 1) (k := 32) hx rfl rfl rfl rfl rfl in_X9 (by decide) (Or.inl q1685) a0.2 dX9_areaOf_26 fun h13 => ?_
        refine J.aload_n hx dX9_areaOf_29 rfl 0 rfl ?_
        refine J.getc (κ' := 57) (i' := 0) (κ := 1) (k := 36) hx rfl rfl rfl rfl rfl in_X9 (by decide) (Or.inl q1689) a0.2 dX9_areaOf_30 fun h14 => ?_
        refine J.iload_n hx dX9_areaOf_33 rfl 1 rfl ?_
        refine J.iald (κ := 57) hx rfl rfl h14.1 dX9_areaOf_34 fun v16 => ?_
        refine J.iald (κ := 54) hx rfl rfl h13.1 dX9_areaOf_35 fun v18 => ?_
        refine J.isub hx dX9_areaOf_36 ?_
        refine J.mmax hx q1981 q195 q123 q196 ⟨Nat.le_of_ble_eq_true rfl, Nat.le_of_ble_eq_true rfl⟩ (Nat.le_of_ble_eq_true rfl) (Nat.le_of_ble_eq_true rfl) (Nat.le_of_ble_eq_true rfl) dX9_areaOf_37 ?_
        refine J.iadd hx dX9_areaOf_40 ?_
        refine J.nmi fun v19 => ?_
        refine J.istore_n (lv' := [(2, .int v19), (0, .ref (B.1 1 0)), (1, .int p1), (3, .int v5)]) hx dX9_areaOf_41 rfl (by decide) rfl ?_
        refine J.nmx fun v20 ev20 => ?_
        refine J.iinc (p := 3) (v := v20) (lv' := [(3, .int v20), (2, .int v19), (0, .ref (B.1 1 0)), (1, .int p1)]) hx dX9_areaOf_42 rfl (by rw [ev20]; rfl) (by decide) rfl ?_
        refine J.goto (tgt := 8) hx dX9_areaOf_45 (by decide) ?_
        exact J.sub [2, 3, 1, 0] rfl (ih v19 v20 w8)
  refine J.sub [2, 3, 1, 0] rfl (hL8 jFU 0 v1 w2)
theorem hd_X9_around : yX9_around.cls = RX9 ∧ yX9_around.cls ≠ "java/lang/invoke/MethodHandle" ∧ yX9_around.cls ≠ "java/lang/invoke/VarHandle" ∧ (parseMethodDescriptor yX9_around.desc).map (fun d => d.parameters.length) = some 2 := by decide +kernel
def f_X9_around_L7 (p2 : Int32) (k32 : Int32 → j_St → Option (Int32 × j_St)) : Nat → Int32 → Int32 → j_St → Option (Int32 × j_St)
  | 0, _, _, _ => none
  | n7 + 1, v2, v3, w4 => if v3 < 0 then k32 v2 w4 else jbd v3 231 fun a6 => jlt (jgi w4 47 0 a6) fun v7 => if v7 < p2 then k32 v2 w4 else jlt (v2 + 1) fun v8 => jlt (v3 + (-1)) fun v9 => f_X9_around_L7 p2 k32 n7 v8 v9 w4
def f_X9_around_L37 (p2 : Int32)  : Nat → Int32 → Int32 → j_St → Option (Int32 × j_St)
  | 0, _, _, _ => none
  | n37 + 1, v13, v14, w15 => jcb (f_X9_many w15) fun v16 w17 => if v16 ≤ v14 then some (v13, w17) else jbd v14 231 fun a20 => jlt (jgi w17 47 0 a20) fun v21 => if v21 < p2 then some (v13, w17) else jlt (v13 + 1) fun v22 => jlt (v14 + 1) fun v23 => f_X9_around_L37 p2 n37 v22 v23 w17
def f_X9_around (p1 : Int32) (p2 : Int32) (w : j_St) : Option (Int32 × j_St) := jlt (p1 - 1) fun v1 => f_X9_around_L7 p2 (fun (v10 : Int32) (w11 : j_St) => jlt (p1 + 1) fun v12 => f_X9_around_L37 p2 jFU v10 v12 w11) jFU 1 v1 w
abbrev rm_X9_around : Room := { frames := 1, cells := 0, slots := 0, locals := 20 }
set_option maxRecDepth 100000 in
set_option maxHeartbeats 4000000 in
theorem mt_X9_around {g : j_G} {B : j_B} {p1 : Int32} {p2 : Int32} {w w' : j_St} (a0 : B.2.1 1 0 ∧ B.2.2 1 0) {r : Int32} (h : f_X9_around p1 p2 w = some (r, w')) : j_M g yX9_around cX9_around 5 (some FieldType.int) rm_X9_around B [.ref (B.1 1 0), .int p1, .int p2] w w' (jri r) := by
  refine j_met (rv := jri) (by decide) (Nat.le_of_ble_eq_true rfl) (fun x hx => ?_) h
  unfold f_X9_around
  refine J.sub (lv' := [(0, .ref (B.1 1 0)), (1, .int p1), (2, .int p2)]) [0, 1, 2] rfl ?_
  refine J.iconst (v := 1) hx dX9_around_0 (by decide) ?_
  refine J.istore_n (lv' := [(3, .int 1), (0, .ref (B.1 1 0)), (1, .int p1), (2, .int p2)]) hx dX9_around_1 rfl (by decide) rfl ?_
  refine J.iload_n hx dX9_around_2 rfl 2 rfl ?_
  refine J.iconst (v := 1) hx dX9_around_3 (by decide) ?_
  refine J.isub hx dX9_around_4 ?_
  refine J.nmi fun v1 => ?_
  refine J.istore (lv' := [(4, .int v1), (3, .int 1), (0, .ref (B.1 1 0)), (1, .int p1), (2, .int p2)]) hx dX9_around_5 (by decide) rfl ?_
  have hL7 : ∀ (k32 : Int32 → j_St → Option (Int32 × j_St)) (hk32 : ∀ (v10 : Int32) (w11 : j_St), J g x 5 B (j_Q g x B rm_X9_around jri) 0 0 (k32 v10 w11) 32 [(0, .ref (B.1 1 0)), (1, .int p1), (2, .int p2), (3, .int v10)] [] w11) (n7 : Nat) (v2 : Int32) (v3 : Int32) (w4 : j_St), J g x 5 B (j_Q g x B rm_X9_around jri) 0 0 (f_X9_around_L7 p2 k32 n7 v2 v3 w4) 7 [(0, .ref (B.1 1 0)), (1, .int p1), (2, .int p2), (3, .int v2), (4, .int v3)] [] w4 := by
    intro k32 hk32 n7
    induction n7 with
    | zero =>
      intro v2 v3 w4
      rw [f_X9_around_L7]
      exact J.nne
    | succ n7 ih =>
      intro v2 v3 w4
      rw [f_X9_around_L7]
      refine J.iload hx dX9_around_7 4 rfl ?_
      refine J.if_lt (tgt := 32) hx dX9_around_9 (by decide) ?_ ?_
      · exact J.sub [0, 1, 2, 3] rfl (hk32 v2 w4)
      · refine J.aload_n hx dX9_around_12 rfl 0 rfl ?_
        refine J.getc (κ' := 47) (i' := 0) (κ := 1) (k := 22) hx rfl rfl rfl rfl rfl in_X9 (by decide) (Or.inl q1675) a0.2 dX9_around_13 fun h5 => ?_
        refine J.iload hx dX9_around_16 4 rfl ?_
        refine J.iald (κ := 47) hx rfl rfl h5.1 dX9_around_18 fun v7 => ?_
        refine J.iload_n hx dX9_around_19 rfl 2 rfl ?_
        refine J.icmp_lt (tgt := 32) hx dX9_around_20 (by decide) ?_ ?_
        · exact J.sub [0, 1, 2, 3] rfl (hk32 v2 w4)
        · refine J.nmx fun v8 ev8 => ?_
          refine J.iinc (p := 3) (v := v8) (lv' := [(3, .int v8), (0, .ref (B.1 1 0)), (1, .int p1), (2, .int p2), (4, .int v3)]) hx dX9_around_23 rfl (by rw [ev8]; rfl) (by decide) rfl ?_
          refine J.nmx fun v9 ev9 => ?_
          refine J.iinc (p := 4) (v := v9) (lv' := [(4, .int v9), (3, .int v8), (0, .ref (B.1 1 0)), (1, .int p1), (2, .int p2)]) hx dX9_around_26 rfl (by rw [ev9]; rfl) (by decide) rfl ?_
          refine J.goto (tgt := 7) hx dX9_around_29 (by decide) ?_
          exact J.sub [2, 3, 4, 1, 0] rfl (ih v8 v9 w4)
  refine J.sub [2, 3, 4, 1, 0] rfl (hL7 _ ?_ jFU 1 v1 w)
  · intro v10 w11
    refine J.iload_n hx dX9_around_32 rfl 1 rfl ?_
    refine J.iconst (v := 1) hx dX9_around_33 (by decide) ?_
    refine J.iadd hx dX9_around_34 ?_
    refine J.nmi fun v12 => ?_
    refine J.istore (lv' := [(4, .int v12), (0, .ref (B.1 1 0)), (1, .int p1), (2, .int p2), (3, .int v10)]) hx dX9_around_35 (by decide) rfl ?_
    have hL37 : ∀ (n37 : Nat) (v13 : Int32) (v14 : Int32) (w15 : j_St), J g x 5 B (j_Q g x B rm_X9_around jri) 0 0 (f_X9_around_L37 p2 n37 v13 v14 w15) 37 [(0, .ref (B.1 1 0)), (2, .int p2), (3, .int v13), (4, .int v14)] [] w15 := by
      intro n37
      induction n37 with
      | zero =>
        intro v13 v14 w15
        rw [f_X9_around_L37]
        exact J.nne
      | succ n37 ih =>
        intro v13 v14 w15
        rw [f_X9_around_L37]
        refine J.iload hx dX9_around_37 3 rfl ?_
        refine J.aload_n hx dX9_around_39 rfl 0 rfl ?_
        refine J.calli hx (fun r z1 z => j_callV (κ := 1) hx rfl rfl a0.1 (mt_X9_many a0 z) (lw_V q1941 q1943 qs59 q129 q1944) hd_X9_many rfl ⟨Nat.le_of_ble_eq_true rfl, Nat.le_of_ble_eq_true rfl⟩ (Nat.le_of_ble_eq_true rfl) dX9_around_40) ⟨⟨rfl, rfl⟩, Nat.le_of_ble_eq_true rfl, Nat.le_of_ble_eq_true rfl⟩ fun v16 w17 e18 => ?_
        refine J.icmp_ge (tgt := 66) hx dX9_around_43 (by decide) ?_ ?_
        · refine J.iload_n hx dX9_around_66 rfl 2 rfl ?_
          exact J.iret hx rfl (Nat.le_of_ble_eq_true rfl) (Nat.le_of_ble_eq_true rfl) dX9_around_67
        · refine J.aload_n hx dX9_around_46 rfl 0 rfl ?_
          refine J.getc (κ' := 47) (i' := 0) (κ := 1) (k := 22) hx rfl rfl rfl rfl rfl in_X9 (by decide) (Or.inl q1675) a0.2 dX9_around_47 fun h19 => ?_
          refine J.iload hx dX9_around_50 3 rfl ?_
          refine J.iald (κ := 47) hx rfl rfl h19.1 dX9_around_52 fun v21 => ?_
          refine J.iload_n hx dX9_around_53 rfl 1 rfl ?_
          refine J.icmp_lt (tgt := 66) hx dX9_around_54 (by decide) ?_ ?_
          · refine J.iload_n hx dX9_around_66 rfl 2 rfl ?_
            exact J.iret hx rfl (Nat.le_of_ble_eq_true rfl) (Nat.le_of_ble_eq_true rfl) dX9_around_67
          · refine J.nmx fun v22 ev22 => ?_
            refine J.iinc (p := 2) (v := v22) (lv' := [(3, .int v22), (0, .ref (B.1 1 0)), (2, .int p2), (4, .int v14)]) hx dX9_around_57 rfl (by rw [ev22]; rfl) (by decide) rfl ?_
            refine J.nmx fun v23 ev23 => ?_
            refine J.iinc (p := 3) (v := v23) (lv' := [(4, .int v23), (3, .int v22), (0, .ref (B.1 1 0)), (2, .int p2)]) hx dX9_around_60 rfl (by rw [ev23]; rfl) (by decide) rfl ?_
            refine J.goto (tgt := 37) hx dX9_around_63 (by decide) ?_
            exact J.sub [2, 3, 1, 0] rfl (ih v22 v23 w17)
    refine J.sub [1, 3, 4, 0] rfl (hL37 jFU v10 v12 w11)
theorem hd_X9_widthOf : yX9_widthOf.cls = RX9 ∧ yX9_widthOf.cls ≠ "java/lang/invoke/MethodHandle" ∧ yX9_widthOf.cls ≠ "java/lang/invoke/VarHandle" ∧ (parseMethodDescriptor yX9_widthOf.desc).map (fun d => d.parameters.length) = some 1 := by decide +kernel
def f_X9_widthOf (p1 : Int32) (w : j_St) : Option (Int32 × j_St) := jcb (f_X9_placeOf p1 w) fun v1 w2 => jcb (f_X9_height p1 w2) fun v4 w5 => jcb (f_X9_life p1 w5) fun v7 w8 => jcb (f_X9_around v1 (v4 - (v7 / 2)) w8) fun v10 w11 => some (v10, w11)
abbrev rm_X9_widthOf : Room := { frames := 2, cells := 0, slots := 0, locals := 44 }
set_option maxRecDepth 100000 in
set_option maxHeartbeats 4000000 in
theorem mt_X9_widthOf {g : j_G} {B : j_B} {p1 : Int32} {w w' : j_St} (a0 : B.2.1 1 0 ∧ B.2.2 1 0) {r : Int32} (h : f_X9_widthOf p1 w = some (r, w')) : j_M g yX9_widthOf cX9_widthOf 2 (some FieldType.int) rm_X9_widthOf B [.ref (B.1 1 0), .int p1] w w' (jri r) := by
  refine j_met (rv := jri) (by decide) (Nat.le_of_ble_eq_true rfl) (fun x hx => ?_) h
  unfold f_X9_widthOf
  refine J.sub (lv' := [(0, .ref (B.1 1 0)), (1, .int p1)]) [0, 1] rfl ?_
  refine J.aload_n hx dX9_widthOf_0 rfl 0 rfl ?_
  refine J.aload_n hx dX9_widthOf_1 rfl 0 rfl ?_
  refine J.iload_n hx dX9_widthOf_2 rfl 1 rfl ?_
  refine J.calli hx (fun r z1 z => j_callV (κ := 1) hx rfl rfl a0.1 (mt_X9_placeOf a0 z) (lw_V q2030 q2032 qs79 q129 q2033) hd_X9_placeOf rfl ⟨Nat.le_of_ble_eq_true rfl, Nat.le_of_ble_eq_true rfl⟩ (Nat.le_of_ble_eq_true rfl) dX9_widthOf_3) ⟨⟨rfl, rfl⟩, Nat.le_of_ble_eq_true rfl, Nat.le_of_ble_eq_true rfl⟩ fun v1 w2 e3 => ?_
  refine J.aload_n hx dX9_widthOf_6 rfl 0 rfl ?_
  refine J.iload_n hx dX9_widthOf_7 rfl 1 rfl ?_
  refine J.calli hx (fun r z1 z => j_callV (κ := 1) hx rfl rfl a0.1 (mt_X9_height a0 z) (lw_V q2159 q2161 qs94 q129 q2162) hd_X9_height rfl ⟨Nat.le_of_ble_eq_true rfl, Nat.le_of_ble_eq_true rfl⟩ (Nat.le_of_ble_eq_true rfl) dX9_widthOf_8) ⟨⟨rfl, rfl⟩, Nat.le_of_ble_eq_true rfl, Nat.le_of_ble_eq_true rfl⟩ fun v4 w5 e6 => ?_
  refine J.aload_n hx dX9_widthOf_11 rfl 0 rfl ?_
  refine J.iload_n hx dX9_widthOf_12 rfl 1 rfl ?_
  refine J.calli hx (fun r z1 z => j_callV (κ := 1) hx rfl rfl a0.1 (mt_X9_life a0 z) (lw_V q2163 q2165 qs95 q129 q2166) hd_X9_life rfl ⟨Nat.le_of_ble_eq_true rfl, Nat.le_of_ble_eq_true rfl⟩ (Nat.le_of_ble_eq_true rfl) dX9_widthOf_13) ⟨⟨rfl, rfl⟩, Nat.le_of_ble_eq_true rfl, Nat.le_of_ble_eq_true rfl⟩ fun v7 w8 e9 => ?_
  refine J.iconst (v := 2) hx dX9_widthOf_16 (by decide) ?_
  refine J.idiv0 hx dX9_widthOf_17 (by decide) ?_
  refine J.isub hx dX9_widthOf_18 ?_
  refine J.calli hx (fun r z1 z => j_callV (κ := 1) hx rfl rfl a0.1 (mt_X9_around a0 z) (lw_V q2203 q2205 qs104 q129 q2206) hd_X9_around rfl ⟨Nat.le_of_ble_eq_true rfl, Nat.le_of_ble_eq_true rfl⟩ (Nat.le_of_ble_eq_true rfl) dX9_widthOf_19) ⟨⟨rfl, rfl⟩, Nat.le_of_ble_eq_true rfl, Nat.le_of_ble_eq_true rfl⟩ fun v10 w11 e12 => ?_
  exact J.iret hx rfl (Nat.le_of_ble_eq_true rfl) (Nat.le_of_ble_eq_true rfl) dX9_widthOf_22
theorem hd_X9_basin : yX9_basin.cls = RX9 ∧ yX9_basin.cls ≠ "java/lang/invoke/MethodHandle" ∧ yX9_basin.cls ≠ "java/lang/invoke/VarHandle" ∧ (parseMethodDescriptor yX9_basin.desc).map (fun d => d.parameters.length) = some 2 := by decide +kernel
def f_X9_basin (p1 : Int32) (p2 : Int32) (w : j_St) : Option (Int32 × j_St) := jcb (f_X9_isPeak p1 w) fun v1 w2 => if v1 = 0 then some ((-1), w2) else jcb (f_X9_isKept p1 w2) fun v4 w5 => if v4 = 0 then some ((-1), w5) else jcb (f_X9_in p2 0 3 w5) fun v7 w8 => if v7 = 0 then some ((-1), w8) else if p2 = 0 then jcb (f_X9_firstOf p1 w8) fun v19 w20 => some (v19, w20) else if p2 = 1 then jcb (f_X9_lastOf p1 w8) fun v16 w17 => some (v16, w17) else if p2 = 2 then jcb (f_X9_areaOf p1 w8) fun v13 w14 => some (v13, w14) else jcb (f_X9_widthOf p1 w8) fun v10 w11 => some (v10, w11)
abbrev rm_X9_basin : Room := { frames := 5, cells := 0, slots := 0, locals := 114 }
set_option maxRecDepth 100000 in
set_option maxHeartbeats 4000000 in
theorem mt_X9_basin {g : j_G} {B : j_B} {p1 : Int32} {p2 : Int32} {w w' : j_St} (a0 : B.2.1 1 0 ∧ B.2.2 1 0) {r : Int32} (h : f_X9_basin p1 p2 w = some (r, w')) : j_M g yX9_basin cX9_basin 3 (some FieldType.int) rm_X9_basin B [.ref (B.1 1 0), .int p1, .int p2] w w' (jri r) := by
  refine j_met (rv := jri) (by decide) (Nat.le_of_ble_eq_true rfl) (fun x hx => ?_) h
  unfold f_X9_basin
  refine J.sub (lv' := [(0, .ref (B.1 1 0)), (1, .int p1), (2, .int p2)]) [0, 1, 2] rfl ?_
  refine J.aload_n hx dX9_basin_0 rfl 0 rfl ?_
  refine J.iload_n hx dX9_basin_1 rfl 1 rfl ?_
  refine J.calli hx (fun r z1 z => j_callV (κ := 1) hx rfl rfl a0.1 (mt_X9_isPeak a0 z) (lw_V q2155 q2157 qs93 q129 q2158) hd_X9_isPeak rfl ⟨Nat.le_of_ble_eq_true rfl, Nat.le_of_ble_eq_true rfl⟩ (Nat.le_of_ble_eq_true rfl) dX9_basin_2) ⟨⟨rfl, rfl⟩, Nat.le_of_ble_eq_true rfl, Nat.le_of_ble_eq_true rfl⟩ fun v1 w2 e3 => ?_
  refine J.if_eq (tgt := 25) hx dX9_basin_5 (by decide) ?_ ?_
  · refine J.iconst (v := (-1)) hx dX9_basin_25 (by decide) ?_
    exact J.iret hx rfl (Nat.le_of_ble_eq_true rfl) (Nat.le_of_ble_eq_true rfl) dX9_basin_26
  · refine J.aload_n hx dX9_basin_8 rfl 0 rfl ?_
    refine J.iload_n hx dX9_basin_9 rfl 1 rfl ?_
    refine J.calli hx (fun r z1 z => j_callV (κ := 1) hx rfl rfl a0.1 (mt_X9_isKept a0 z) (lw_V q2167 q2169 qs96 q129 q2170) hd_X9_isKept rfl ⟨Nat.le_of_ble_eq_true rfl, Nat.le_of_ble_eq_true rfl⟩ (Nat.le_of_ble_eq_true rfl) dX9_basin_10) ⟨⟨rfl, rfl⟩, Nat.le_of_ble_eq_true rfl, Nat.le_of_ble_eq_true rfl⟩ fun v4 w5 e6 => ?_
    refine J.if_eq (tgt := 25) hx dX9_basin_13 (by decide) ?_ ?_
    · refine J.iconst (v := (-1)) hx dX9_basin_25 (by decide) ?_
      exact J.iret hx rfl (Nat.le_of_ble_eq_true rfl) (Nat.le_of_ble_eq_true rfl) dX9_basin_26
    · refine J.iload_n hx dX9_basin_16 rfl 2 rfl ?_
      refine J.iconst (v := 0) hx dX9_basin_17 (by decide) ?_
      refine J.iconst (v := 3) hx dX9_basin_18 (by decide) ?_
      refine J.calli hx (fun r z1 z => j_callS hx (mt_X9_in z) (lw_S q1826 q1827 q129 q1828) hd_X9_in.2 rfl ⟨Nat.le_of_ble_eq_true rfl, Nat.le_of_ble_eq_true rfl⟩ (Nat.le_of_ble_eq_true rfl) dX9_basin_19) ⟨⟨rfl, rfl⟩, Nat.le_of_ble_eq_true rfl, Nat.le_of_ble_eq_true rfl⟩ fun v7 w8 e9 => ?_
      refine J.if_ne (tgt := 27) hx dX9_basin_22 (by decide) ?_ ?_
      · refine J.iconst (v := (-1)) hx dX9_basin_25 (by decide) ?_
        exact J.iret hx rfl (Nat.le_of_ble_eq_true rfl) (Nat.le_of_ble_eq_true rfl) dX9_basin_26
      · refine J.iload_n hx dX9_basin_27 rfl 2 rfl ?_
        refine J.if_ne (tgt := 39) hx dX9_basin_28 (by decide) ?_ ?_
        · refine J.aload_n hx dX9_basin_31 rfl 0 rfl ?_
          refine J.iload_n hx dX9_basin_32 rfl 1 rfl ?_
          refine J.calli hx (fun r z1 z => j_callV (κ := 1) hx rfl rfl a0.1 (mt_X9_firstOf a0 z) (lw_V q2179 q2181 qs98 q129 q2182) hd_X9_firstOf rfl ⟨Nat.le_of_ble_eq_true rfl, Nat.le_of_ble_eq_true rfl⟩ (Nat.le_of_ble_eq_true rfl) dX9_basin_33) ⟨⟨rfl, rfl⟩, Nat.le_of_ble_eq_true rfl, Nat.le_of_ble_eq_true rfl⟩ fun v19 w20 e21 => ?_
          refine J.goto (tgt := 70) hx dX9_basin_36 (by decide) ?_
          exact J.iret hx rfl (Nat.le_of_ble_eq_true rfl) (Nat.le_of_ble_eq_true rfl) dX9_basin_70
        · refine J.iload_n hx dX9_basin_39 rfl 2 rfl ?_
          refine J.iconst (v := 1) hx dX9_basin_40 (by decide) ?_
          refine J.icmp_ne (tgt := 52) hx dX9_basin_41 (by decide) ?_ ?_
          · refine J.aload_n hx dX9_basin_44 rfl 0 rfl ?_
            refine J.iload_n hx dX9_basin_45 rfl 1 rfl ?_
            refine J.calli hx (fun r z1 z => j_callV (κ := 1) hx rfl rfl a0.1 (mt_X9_lastOf a0 z) (lw_V q2191 q2193 qs101 q129 q2194) hd_X9_lastOf rfl ⟨Nat.le_of_ble_eq_true rfl, Nat.le_of_ble_eq_true rfl⟩ (Nat.le_of_ble_eq_true rfl) dX9_basin_46) ⟨⟨rfl, rfl⟩, Nat.le_of_ble_eq_true rfl, Nat.le_of_ble_eq_true rfl⟩ fun v16 w17 e18 => ?_
            refine J.goto (tgt := 70) hx dX9_basin_49 (by decide) ?_
            exact J.iret hx rfl (Nat.le_of_ble_eq_true rfl) (Nat.le_of_ble_eq_true rfl) dX9_basin_70
          · refine J.iload_n hx dX9_basin_52 rfl 2 rfl ?_
            refine J.iconst (v := 2) hx dX9_basin_53 (by decide) ?_
            refine J.icmp_ne (tgt := 65) hx dX9_basin_54 (by decide) ?_ ?_
            · refine J.aload_n hx dX9_basin_57 rfl 0 rfl ?_
              refine J.iload_n hx dX9_basin_58 rfl 1 rfl ?_
              refine J.calli hx (fun r z1 z => j_callV (κ := 1) hx rfl rfl a0.1 (mt_X9_areaOf a0 z) (lw_V q2195 q2197 qs102 q129 q2198) hd_X9_areaOf rfl ⟨Nat.le_of_ble_eq_true rfl, Nat.le_of_ble_eq_true rfl⟩ (Nat.le_of_ble_eq_true rfl) dX9_basin_59) ⟨⟨rfl, rfl⟩, Nat.le_of_ble_eq_true rfl, Nat.le_of_ble_eq_true rfl⟩ fun v13 w14 e15 => ?_
              refine J.goto (tgt := 70) hx dX9_basin_62 (by decide) ?_
              exact J.iret hx rfl (Nat.le_of_ble_eq_true rfl) (Nat.le_of_ble_eq_true rfl) dX9_basin_70
            · refine J.aload_n hx dX9_basin_65 rfl 0 rfl ?_
              refine J.iload_n hx dX9_basin_66 rfl 1 rfl ?_
              refine J.calli hx (fun r z1 z => j_callV (κ := 1) hx rfl rfl a0.1 (mt_X9_widthOf a0 z) (lw_V q2199 q2201 qs103 q129 q2202) hd_X9_widthOf rfl ⟨Nat.le_of_ble_eq_true rfl, Nat.le_of_ble_eq_true rfl⟩ (Nat.le_of_ble_eq_true rfl) dX9_basin_67) ⟨⟨rfl, rfl⟩, Nat.le_of_ble_eq_true rfl, Nat.le_of_ble_eq_true rfl⟩ fun v10 w11 e12 => ?_
              exact J.iret hx rfl (Nat.le_of_ble_eq_true rfl) (Nat.le_of_ble_eq_true rfl) dX9_basin_70
theorem hd_X9_at : yX9_at.cls = RX9 ∧ yX9_at.cls ≠ "java/lang/invoke/MethodHandle" ∧ yX9_at.cls ≠ "java/lang/invoke/VarHandle" ∧ (parseMethodDescriptor yX9_at.desc).map (fun d => d.parameters.length) = some 2 := by decide +kernel
def f_X9_at_L25 (p1 : Int32) (p2 : Int32)  : Nat → Int32 → j_St → Option (Int32 × j_St)
  | 0, _, _ => none
  | n25 + 1, v10, w11 => jlt (jgi w11 1 0 35) fun v12 => if v12 ≤ v10 then some ((-1), w11) else jlt (fun (v29 : Int32) (w30 : j_St) => if v29 = 0 then jlt (v10 + 1) fun v31 => f_X9_at_L25 p1 p2 n25 v31 w30 else some (v10, w30)) fun K84 => if p2 = 0 then jcb (f_X9_placeOf v10 w11) fun v26 w27 => if v26 = p1 then K84 1 w27 else K84 0 w27 else jcb (f_X9_isKept v10 w11) fun v13 w14 => jlt (fun (w25 : j_St) => K84 0 w25) fun K83 => if v13 = 0 then K83 w14 else jcb (f_X9_firstOf v10 w14) fun v16 w17 => jcb (f_X9_lastOf v10 w17) fun v19 w20 => jcb (f_X9_in p1 v16 v19 w20) fun v22 w23 => if v22 = 0 then K83 w23 else K84 1 w23
def f_X9_at (p1 : Int32) (p2 : Int32) (w : j_St) : Option (Int32 × j_St) := jcb (f_X9_isPlace p1 w) fun v1 w2 => if v1 = 0 then some ((-1), w2) else jcb (f_X9_in p2 0 1 w2) fun v4 w5 => if v4 = 0 then some ((-1), w5) else jcb (f_X9_finds w5) fun _ w8 => f_X9_at_L25 p1 p2 jFU 0 w8
abbrev rm_X9_at : Room := { frames := 4, cells := 0, slots := 0, locals := 93 }
set_option maxRecDepth 100000 in
set_option maxHeartbeats 4000000 in
theorem mt_X9_at {g : j_G} {B : j_B} {p1 : Int32} {p2 : Int32} {w w' : j_St} (a0 : B.2.1 1 0 ∧ B.2.2 1 0) {r : Int32} (h : f_X9_at p1 p2 w = some (r, w')) : j_M g yX9_at cX9_at 5 (some FieldType.int) rm_X9_at B [.ref (B.1 1 0), .int p1, .int p2] w w' (jri r) := by
  refine j_met (rv := jri) (by decide) (Nat.le_of_ble_eq_true rfl) (fun x hx => ?_) h
  unfold f_X9_at
  refine J.sub (lv' := [(0, .ref (B.1 1 0)), (1, .int p1), (2, .int p2)]) [0, 1, 2] rfl ?_
  refine J.aload_n hx dX9_at_0 rfl 0 rfl ?_
  refine J.iload_n hx dX9_at_1 rfl 1 rfl ?_
  refine J.calli hx (fun r z1 z => j_callV (κ := 1) hx rfl rfl a0.1 (mt_X9_isPlace a0 z) (lw_V q1957 q1959 qs62 q129 q1960) hd_X9_isPlace rfl ⟨Nat.le_of_ble_eq_true rfl, Nat.le_of_ble_eq_true rfl⟩ (Nat.le_of_ble_eq_true rfl) dX9_at_2) ⟨⟨rfl, rfl⟩, Nat.le_of_ble_eq_true rfl, Nat.le_of_ble_eq_true rfl⟩ fun v1 w2 e3 => ?_
  refine J.if_eq (tgt := 17) hx dX9_at_5 (by decide) ?_ ?_
  · refine J.iconst (v := (-1)) hx dX9_at_17 (by decide) ?_
    exact J.iret hx rfl (Nat.le_of_ble_eq_true rfl) (Nat.le_of_ble_eq_true rfl) dX9_at_18
  · refine J.iload_n hx dX9_at_8 rfl 2 rfl ?_
    refine J.iconst (v := 0) hx dX9_at_9 (by decide) ?_
    refine J.iconst (v := 1) hx dX9_at_10 (by decide) ?_
    refine J.calli hx (fun r z1 z => j_callS hx (mt_X9_in z) (lw_S q1826 q1827 q129 q1828) hd_X9_in.2 rfl ⟨Nat.le_of_ble_eq_true rfl, Nat.le_of_ble_eq_true rfl⟩ (Nat.le_of_ble_eq_true rfl) dX9_at_11) ⟨⟨rfl, rfl⟩, Nat.le_of_ble_eq_true rfl, Nat.le_of_ble_eq_true rfl⟩ fun v4 w5 e6 => ?_
    refine J.if_ne (tgt := 19) hx dX9_at_14 (by decide) ?_ ?_
    · refine J.iconst (v := (-1)) hx dX9_at_17 (by decide) ?_
      exact J.iret hx rfl (Nat.le_of_ble_eq_true rfl) (Nat.le_of_ble_eq_true rfl) dX9_at_18
    · refine J.aload_n hx dX9_at_19 rfl 0 rfl ?_
      refine J.callv hx (fun r z1 z => j_callV (κ := 1) hx rfl rfl a0.1 (mt_X9_finds a0 z) (lw_V q1990 q1992 qs69 q129 q1993) hd_X9_finds rfl ⟨Nat.le_of_ble_eq_true rfl, Nat.le_of_ble_eq_true rfl⟩ (Nat.le_of_ble_eq_true rfl) dX9_at_20) ⟨⟨rfl, rfl⟩, Nat.le_of_ble_eq_true rfl, Nat.le_of_ble_eq_true rfl⟩ fun _ w8 e9 => ?_
      refine J.iconst (v := 0) hx dX9_at_23 (by decide) ?_
      refine J.istore_n (lv' := [(3, .int 0), (0, .ref (B.1 1 0)), (1, .int p1), (2, .int p2)]) hx dX9_at_24 rfl (by decide) rfl ?_
      have hL25 : ∀ (n25 : Nat) (v10 : Int32) (w11 : j_St), J g x 5 B (j_Q g x B rm_X9_at jri) 0 0 (f_X9_at_L25 p1 p2 n25 v10 w11) 25 [(0, .ref (B.1 1 0)), (1, .int p1), (2, .int p2), (3, .int v10)] [] w11 := by
        intro n25
        induction n25 with
        | zero =>
          intro v10 w11
          rw [f_X9_at_L25]
          exact J.nne
        | succ n25 ih =>
          intro v10 w11
          rw [f_X9_at_L25]
          refine J.iload_n hx dX9_at_25 rfl 3 rfl ?_
          refine J.aload_n hx dX9_at_26 rfl 0 rfl ?_
          refine J.geti (κ := 1) (k := 35) hx rfl rfl rfl in_X9 (by decide) (Or.inl q1688) a0.1 dX9_at_27 fun v12 => ?_
          refine J.icmp_ge (tgt := 99) hx dX9_at_30 (by decide) ?_ ?_
          · refine J.iconst (v := (-1)) hx dX9_at_99 (by decide) ?_
            exact J.iret hx rfl (Nat.le_of_ble_eq_true rfl) (Nat.le_of_ble_eq_true rfl) dX9_at_100
          · refine J.iload_n hx dX9_at_33 rfl 2 rfl ?_
            refine J.fn (fun (K84 : Int32 → j_St → Option (Int32 × j_St)) => ∀ (v29 : Int32) (w30 : j_St), J g x 5 B (j_Q g x B rm_X9_at jri) 0 0 (K84 v29 w30) 84 [(0, .ref (B.1 1 0)), (1, .int p1), (2, .int p2), (3, .int v10)] [.int v29] w30) ?_ ?_
            · intro v29 w30
              refine J.istore (lv' := [(4, .int v29), (0, .ref (B.1 1 0)), (1, .int p1), (2, .int p2), (3, .int v10)]) hx dX9_at_84 (by decide) rfl ?_
              refine J.iload hx dX9_at_86 0 rfl ?_
              refine J.if_eq (tgt := 93) hx dX9_at_88 (by decide) ?_ ?_
              · refine J.nmx fun v31 ev31 => ?_
                refine J.iinc (p := 4) (v := v31) (lv' := [(3, .int v31), (4, .int v29), (0, .ref (B.1 1 0)), (1, .int p1), (2, .int p2)]) hx dX9_at_93 rfl (by rw [ev31]; rfl) (by decide) rfl ?_
                refine J.goto (tgt := 25) hx dX9_at_96 (by decide) ?_
                exact J.sub [2, 3, 4, 0] rfl (ih v31 w30)
              · refine J.iload_n hx dX9_at_91 rfl 4 rfl ?_
                exact J.iret hx rfl (Nat.le_of_ble_eq_true rfl) (Nat.le_of_ble_eq_true rfl) dX9_at_92
            · intro K84 hK84
              refine J.if_ne (tgt := 54) hx dX9_at_34 (by decide) ?_ ?_
              · refine J.aload_n hx dX9_at_37 rfl 0 rfl ?_
                refine J.iload_n hx dX9_at_38 rfl 3 rfl ?_
                refine J.calli hx (fun r z1 z => j_callV (κ := 1) hx rfl rfl a0.1 (mt_X9_placeOf a0 z) (lw_V q2030 q2032 qs79 q129 q2033) hd_X9_placeOf rfl ⟨Nat.le_of_ble_eq_true rfl, Nat.le_of_ble_eq_true rfl⟩ (Nat.le_of_ble_eq_true rfl) dX9_at_39) ⟨⟨rfl, rfl⟩, Nat.le_of_ble_eq_true rfl, Nat.le_of_ble_eq_true rfl⟩ fun v26 w27 e28 => ?_
                refine J.iload_n hx dX9_at_42 rfl 1 rfl ?_
                refine J.icmp_ne (tgt := 50) hx dX9_at_43 (by decide) ?_ ?_
                · refine J.iconst (v := 1) hx dX9_at_46 (by decide) ?_
                  refine J.goto (tgt := 84) hx dX9_at_47 (by decide) ?_
                  exact J.sub [0, 1, 2, 3] rfl (hK84 1 w27)
                · refine J.iconst (v := 0) hx dX9_at_50 (by decide) ?_
                  refine J.goto (tgt := 84) hx dX9_at_51 (by decide) ?_
                  exact J.sub [0, 1, 2, 3] rfl (hK84 0 w27)
              · refine J.aload_n hx dX9_at_54 rfl 0 rfl ?_
                refine J.iload_n hx dX9_at_55 rfl 3 rfl ?_
                refine J.calli hx (fun r z1 z => j_callV (κ := 1) hx rfl rfl a0.1 (mt_X9_isKept a0 z) (lw_V q2167 q2169 qs96 q129 q2170) hd_X9_isKept rfl ⟨Nat.le_of_ble_eq_true rfl, Nat.le_of_ble_eq_true rfl⟩ (Nat.le_of_ble_eq_true rfl) dX9_at_56) ⟨⟨rfl, rfl⟩, Nat.le_of_ble_eq_true rfl, Nat.le_of_ble_eq_true rfl⟩ fun v13 w14 e15 => ?_
                refine J.fn (fun (K83 : j_St → Option (Int32 × j_St)) => ∀  (w25 : j_St), J g x 5 B (j_Q g x B rm_X9_at jri) 0 0 (K83 w25) 83 [(0, .ref (B.1 1 0)), (1, .int p1), (2, .int p2), (3, .int v10)] [] w25) ?_ ?_
                · intro w25
                  refine J.iconst (v := 0) hx dX9_at_83 (by decide) ?_
                  exact J.sub [0, 1, 2, 3] rfl (hK84 0 w25)
                · intro K83 hK83
                  refine J.if_eq (tgt := 83) hx dX9_at_59 (by decide) ?_ ?_
                  · exact J.sub [0, 1, 2, 3] rfl (hK83 w14)
                  · refine J.iload_n hx dX9_at_62 rfl 1 rfl ?_
                    refine J.aload_n hx dX9_at_63 rfl 0 rfl ?_
                    refine J.iload_n hx dX9_at_64 rfl 3 rfl ?_
                    refine J.calli hx (fun r z1 z => j_callV (κ := 1) hx rfl rfl a0.1 (mt_X9_firstOf a0 z) (lw_V q2179 q2181 qs98 q129 q2182) hd_X9_firstOf rfl ⟨Nat.le_of_ble_eq_true rfl, Nat.le_of_ble_eq_true rfl⟩ (Nat.le_of_ble_eq_true rfl) dX9_at_65) ⟨⟨rfl, rfl⟩, Nat.le_of_ble_eq_true rfl, Nat.le_of_ble_eq_true rfl⟩ fun v16 w17 e18 => ?_
                    refine J.aload_n hx dX9_at_68 rfl 0 rfl ?_
                    refine J.iload_n hx dX9_at_69 rfl 3 rfl ?_
                    refine J.calli hx (fun r z1 z => j_callV (κ := 1) hx rfl rfl a0.1 (mt_X9_lastOf a0 z) (lw_V q2191 q2193 qs101 q129 q2194) hd_X9_lastOf rfl ⟨Nat.le_of_ble_eq_true rfl, Nat.le_of_ble_eq_true rfl⟩ (Nat.le_of_ble_eq_true rfl) dX9_at_70) ⟨⟨rfl, rfl⟩, Nat.le_of_ble_eq_true rfl, Nat.le_of_ble_eq_true rfl⟩ fun v19 w20 e21 => ?_
                    refine J.calli hx (fun r z1 z => j_callS hx (mt_X9_in z) (lw_S q1826 q1827 q129 q1828) hd_X9_in.2 rfl ⟨Nat.le_of_ble_eq_true rfl, Nat.le_of_ble_eq_true rfl⟩ (Nat.le_of_ble_eq_true rfl) dX9_at_73) ⟨⟨rfl, rfl⟩, Nat.le_of_ble_eq_true rfl, Nat.le_of_ble_eq_true rfl⟩ fun v22 w23 e24 => ?_
                    refine J.if_eq (tgt := 83) hx dX9_at_76 (by decide) ?_ ?_
                    · exact J.sub [0, 1, 2, 3] rfl (hK83 w23)
                    · refine J.iconst (v := 1) hx dX9_at_79 (by decide) ?_
                      refine J.goto (tgt := 84) hx dX9_at_80 (by decide) ?_
                      exact J.sub [0, 1, 2, 3] rfl (hK84 1 w23)
      refine J.sub [1, 2, 3, 0] rfl (hL25 jFU 0 w8)
theorem hd_X9_line : yX9_line.cls = RX9 ∧ yX9_line.cls ≠ "java/lang/invoke/MethodHandle" ∧ yX9_line.cls ≠ "java/lang/invoke/VarHandle" ∧ (parseMethodDescriptor yX9_line.desc).map (fun d => d.parameters.length) = some 2 := by decide +kernel
def f_X9_line (p1 : Int32) (p2 : Int32) (w : j_St) : Option (Int32 × j_St) := jlt (jgi w 1 0 29) fun v1 => if v1 = 0 then some ((-1), w) else jlt (jgi w 1 0 27) fun v2 => jcb (f_X9_in p1 0 (v2 - 1) w) fun v3 w4 => if v3 = 0 then some ((-1), w4) else jcb (f_X9_in p2 0 2 w4) fun v6 w7 => if v6 = 0 then some ((-1), w7) else jcb (f_X9_finds w7) fun _ w10 => if p2 = 0 then jbd p1 8 fun a19 => jlt (jgi w10 49 0 a19) fun v20 => some (v20, w10) else if p2 = 1 then jbd p1 8 fun a16 => jlt (jgi w10 60 0 a16) fun v17 => some (v17, w10) else jbd p1 8 fun a13 => jlt (jgi w10 50 0 a13) fun v14 => some (v14, w10)
abbrev rm_X9_line : Room := { frames := 4, cells := 0, slots := 0, locals := 93 }
set_option maxRecDepth 100000 in
set_option maxHeartbeats 4000000 in
theorem mt_X9_line {g : j_G} {B : j_B} {p1 : Int32} {p2 : Int32} {w w' : j_St} (a0 : B.2.1 1 0 ∧ B.2.2 1 0) {r : Int32} (h : f_X9_line p1 p2 w = some (r, w')) : j_M g yX9_line cX9_line 3 (some FieldType.int) rm_X9_line B [.ref (B.1 1 0), .int p1, .int p2] w w' (jri r) := by
  refine j_met (rv := jri) (by decide) (Nat.le_of_ble_eq_true rfl) (fun x hx => ?_) h
  unfold f_X9_line
  refine J.sub (lv' := [(0, .ref (B.1 1 0)), (1, .int p1), (2, .int p2)]) [0, 1, 2] rfl ?_
  refine J.aload_n hx dX9_line_0 rfl 0 rfl ?_
  refine J.geti (κ := 1) (k := 29) hx rfl rfl rfl in_X9 (by decide) (Or.inl q1682) a0.1 dX9_line_1 fun v1 => ?_
  refine J.if_eq (tgt := 30) hx dX9_line_4 (by decide) ?_ ?_
  · refine J.iconst (v := (-1)) hx dX9_line_30 (by decide) ?_
    exact J.iret hx rfl (Nat.le_of_ble_eq_true rfl) (Nat.le_of_ble_eq_true rfl) dX9_line_31
  · refine J.iload_n hx dX9_line_7 rfl 1 rfl ?_
    refine J.iconst (v := 0) hx dX9_line_8 (by decide) ?_
    refine J.aload_n hx dX9_line_9 rfl 0 rfl ?_
    refine J.geti (κ := 1) (k := 27) hx rfl rfl rfl in_X9 (by decide) (Or.inl q1680) a0.1 dX9_line_10 fun v2 => ?_
    refine J.iconst (v := 1) hx dX9_line_13 (by decide) ?_
    refine J.isub hx dX9_line_14 ?_
    refine J.calli hx (fun r z1 z => j_callS hx (mt_X9_in z) (lw_S q1826 q1827 q129 q1828) hd_X9_in.2 rfl ⟨Nat.le_of_ble_eq_true rfl, Nat.le_of_ble_eq_true rfl⟩ (Nat.le_of_ble_eq_true rfl) dX9_line_15) ⟨⟨rfl, rfl⟩, Nat.le_of_ble_eq_true rfl, Nat.le_of_ble_eq_true rfl⟩ fun v3 w4 e5 => ?_
    refine J.if_eq (tgt := 30) hx dX9_line_18 (by decide) ?_ ?_
    · refine J.iconst (v := (-1)) hx dX9_line_30 (by decide) ?_
      exact J.iret hx rfl (Nat.le_of_ble_eq_true rfl) (Nat.le_of_ble_eq_true rfl) dX9_line_31
    · refine J.iload_n hx dX9_line_21 rfl 2 rfl ?_
      refine J.iconst (v := 0) hx dX9_line_22 (by decide) ?_
      refine J.iconst (v := 2) hx dX9_line_23 (by decide) ?_
      refine J.calli hx (fun r z1 z => j_callS hx (mt_X9_in z) (lw_S q1826 q1827 q129 q1828) hd_X9_in.2 rfl ⟨Nat.le_of_ble_eq_true rfl, Nat.le_of_ble_eq_true rfl⟩ (Nat.le_of_ble_eq_true rfl) dX9_line_24) ⟨⟨rfl, rfl⟩, Nat.le_of_ble_eq_true rfl, Nat.le_of_ble_eq_true rfl⟩ fun v6 w7 e8 => ?_
      refine J.if_ne (tgt := 32) hx dX9_line_27 (by decide) ?_ ?_
      · refine J.iconst (v := (-1)) hx dX9_line_30 (by decide) ?_
        exact J.iret hx rfl (Nat.le_of_ble_eq_true rfl) (Nat.le_of_ble_eq_true rfl) dX9_line_31
      · refine J.aload_n hx dX9_line_32 rfl 0 rfl ?_
        refine J.callv hx (fun r z1 z => j_callV (κ := 1) hx rfl rfl a0.1 (mt_X9_finds a0 z) (lw_V q1990 q1992 qs69 q129 q1993) hd_X9_finds rfl ⟨Nat.le_of_ble_eq_true rfl, Nat.le_of_ble_eq_true rfl⟩ (Nat.le_of_ble_eq_true rfl) dX9_line_33) ⟨⟨rfl, rfl⟩, Nat.le_of_ble_eq_true rfl, Nat.le_of_ble_eq_true rfl⟩ fun _ w10 e11 => ?_
        refine J.iload_n hx dX9_line_36 rfl 2 rfl ?_
        refine J.if_ne (tgt := 49) hx dX9_line_37 (by decide) ?_ ?_
        · refine J.aload_n hx dX9_line_40 rfl 0 rfl ?_
          refine J.getc (κ' := 49) (i' := 0) (κ := 1) (k := 24) hx rfl rfl rfl rfl rfl in_X9 (by decide) (Or.inl q1677) a0.2 dX9_line_41 fun h18 => ?_
          refine J.iload_n hx dX9_line_44 rfl 1 rfl ?_
          refine J.iald (κ := 49) hx rfl rfl h18.1 dX9_line_45 fun v20 => ?_
          refine J.goto (tgt := 69) hx dX9_line_46 (by decide) ?_
          exact J.iret hx rfl (Nat.le_of_ble_eq_true rfl) (Nat.le_of_ble_eq_true rfl) dX9_line_69
        · refine J.iload_n hx dX9_line_49 rfl 2 rfl ?_
          refine J.iconst (v := 1) hx dX9_line_50 (by decide) ?_
          refine J.icmp_ne (tgt := 63) hx dX9_line_51 (by decide) ?_ ?_
          · refine J.aload_n hx dX9_line_54 rfl 0 rfl ?_
            refine J.getc (κ' := 60) (i' := 0) (κ := 1) (k := 40) hx rfl rfl rfl rfl rfl in_X9 (by decide) (Or.inl q1693) a0.2 dX9_line_55 fun h15 => ?_
            refine J.iload_n hx dX9_line_58 rfl 1 rfl ?_
            refine J.iald (κ := 60) hx rfl rfl h15.1 dX9_line_59 fun v17 => ?_
            refine J.goto (tgt := 69) hx dX9_line_60 (by decide) ?_
            exact J.iret hx rfl (Nat.le_of_ble_eq_true rfl) (Nat.le_of_ble_eq_true rfl) dX9_line_69
          · refine J.aload_n hx dX9_line_63 rfl 0 rfl ?_
            refine J.getc (κ' := 50) (i' := 0) (κ := 1) (k := 25) hx rfl rfl rfl rfl rfl in_X9 (by decide) (Or.inl q1678) a0.2 dX9_line_64 fun h12 => ?_
            refine J.iload_n hx dX9_line_67 rfl 1 rfl ?_
            refine J.iald (κ := 50) hx rfl rfl h12.1 dX9_line_68 fun v14 => ?_
            exact J.iret hx rfl (Nat.le_of_ble_eq_true rfl) (Nat.le_of_ble_eq_true rfl) dX9_line_69
theorem hd_X9_noiseFor : yX9_noiseFor.cls = RX9 ∧ yX9_noiseFor.cls ≠ "java/lang/invoke/MethodHandle" ∧ yX9_noiseFor.cls ≠ "java/lang/invoke/VarHandle" ∧ (parseMethodDescriptor yX9_noiseFor.desc).map (fun d => d.parameters.length) = some 1 := by decide +kernel
def f_X9_noiseFor (p1 : Int32) (w : j_St) : Option (Int32 × j_St) := jlt (jgi w 1 0 29) fun v1 => if v1 = 0 then some ((-1), w) else jcb (f_X9_in p1 1 48 w) fun v2 w3 => if v2 = 0 then some ((-1), w3) else jcb (f_X9_finds w3) fun _ w6 => jlt (jgi w6 1 0 35) fun v8 => if v8 ≤ p1 then some (0, w6) else jcb (f_X9_life p1 w6) fun v9 w10 => some (v9, w10)
abbrev rm_X9_noiseFor : Room := { frames := 4, cells := 0, slots := 0, locals := 93 }
set_option maxRecDepth 100000 in
set_option maxHeartbeats 4000000 in
theorem mt_X9_noiseFor {g : j_G} {B : j_B} {p1 : Int32} {w w' : j_St} (a0 : B.2.1 1 0 ∧ B.2.2 1 0) {r : Int32} (h : f_X9_noiseFor p1 w = some (r, w')) : j_M g yX9_noiseFor cX9_noiseFor 2 (some FieldType.int) rm_X9_noiseFor B [.ref (B.1 1 0), .int p1] w w' (jri r) := by
  refine j_met (rv := jri) (by decide) (Nat.le_of_ble_eq_true rfl) (fun x hx => ?_) h
  unfold f_X9_noiseFor
  refine J.sub (lv' := [(0, .ref (B.1 1 0)), (1, .int p1)]) [0, 1] rfl ?_
  refine J.aload_n hx dX9_noiseFor_0 rfl 0 rfl ?_
  refine J.geti (κ := 1) (k := 29) hx rfl rfl rfl in_X9 (by decide) (Or.inl q1682) a0.1 dX9_noiseFor_1 fun v1 => ?_
  refine J.if_eq (tgt := 17) hx dX9_noiseFor_4 (by decide) ?_ ?_
  · refine J.iconst (v := (-1)) hx dX9_noiseFor_17 (by decide) ?_
    exact J.iret hx rfl (Nat.le_of_ble_eq_true rfl) (Nat.le_of_ble_eq_true rfl) dX9_noiseFor_18
  · refine J.iload_n hx dX9_noiseFor_7 rfl 1 rfl ?_
    refine J.iconst (v := 1) hx dX9_noiseFor_8 (by decide) ?_
    refine J.bipush (v := 48) hx dX9_noiseFor_9 (by decide) ?_
    refine J.calli hx (fun r z1 z => j_callS hx (mt_X9_in z) (lw_S q1826 q1827 q129 q1828) hd_X9_in.2 rfl ⟨Nat.le_of_ble_eq_true rfl, Nat.le_of_ble_eq_true rfl⟩ (Nat.le_of_ble_eq_true rfl) dX9_noiseFor_11) ⟨⟨rfl, rfl⟩, Nat.le_of_ble_eq_true rfl, Nat.le_of_ble_eq_true rfl⟩ fun v2 w3 e4 => ?_
    refine J.if_ne (tgt := 19) hx dX9_noiseFor_14 (by decide) ?_ ?_
    · refine J.iconst (v := (-1)) hx dX9_noiseFor_17 (by decide) ?_
      exact J.iret hx rfl (Nat.le_of_ble_eq_true rfl) (Nat.le_of_ble_eq_true rfl) dX9_noiseFor_18
    · refine J.aload_n hx dX9_noiseFor_19 rfl 0 rfl ?_
      refine J.callv hx (fun r z1 z => j_callV (κ := 1) hx rfl rfl a0.1 (mt_X9_finds a0 z) (lw_V q1990 q1992 qs69 q129 q1993) hd_X9_finds rfl ⟨Nat.le_of_ble_eq_true rfl, Nat.le_of_ble_eq_true rfl⟩ (Nat.le_of_ble_eq_true rfl) dX9_noiseFor_20) ⟨⟨rfl, rfl⟩, Nat.le_of_ble_eq_true rfl, Nat.le_of_ble_eq_true rfl⟩ fun _ w6 e7 => ?_
      refine J.iload_n hx dX9_noiseFor_23 rfl 1 rfl ?_
      refine J.aload_n hx dX9_noiseFor_24 rfl 0 rfl ?_
      refine J.geti (κ := 1) (k := 35) hx rfl rfl rfl in_X9 (by decide) (Or.inl q1688) a0.1 dX9_noiseFor_25 fun v8 => ?_
      refine J.icmp_ge (tgt := 39) hx dX9_noiseFor_28 (by decide) ?_ ?_
      · refine J.iconst (v := 0) hx dX9_noiseFor_39 (by decide) ?_
        exact J.iret hx rfl (Nat.le_of_ble_eq_true rfl) (Nat.le_of_ble_eq_true rfl) dX9_noiseFor_40
      · refine J.aload_n hx dX9_noiseFor_31 rfl 0 rfl ?_
        refine J.iload_n hx dX9_noiseFor_32 rfl 1 rfl ?_
        refine J.calli hx (fun r z1 z => j_callV (κ := 1) hx rfl rfl a0.1 (mt_X9_life a0 z) (lw_V q2163 q2165 qs95 q129 q2166) hd_X9_life rfl ⟨Nat.le_of_ble_eq_true rfl, Nat.le_of_ble_eq_true rfl⟩ (Nat.le_of_ble_eq_true rfl) dX9_noiseFor_33) ⟨⟨rfl, rfl⟩, Nat.le_of_ble_eq_true rfl, Nat.le_of_ble_eq_true rfl⟩ fun v9 w10 e11 => ?_
        refine J.goto (tgt := 40) hx dX9_noiseFor_36 (by decide) ?_
        exact J.iret hx rfl (Nat.le_of_ble_eq_true rfl) (Nat.le_of_ble_eq_true rfl) dX9_noiseFor_40
theorem hd_X9_pieces : yX9_pieces.cls = RX9 ∧ yX9_pieces.cls ≠ "java/lang/invoke/MethodHandle" ∧ yX9_pieces.cls ≠ "java/lang/invoke/VarHandle" ∧ (parseMethodDescriptor yX9_pieces.desc).map (fun d => d.parameters.length) = some 1 := by decide +kernel
def f_X9_pieces_L24 (p1 : Int32)  : Nat → Int32 → Int32 → j_St → Option (Int32 × j_St)
  | 0, _, _, _ => none
  | n24 + 1, v5, v6, w7 => jcb (f_X9_many w7) fun v8 w9 => if v8 ≤ v6 then some (v5, w9) else jbd v6 231 fun a12 => jlt (jgi w9 47 0 a12) fun v13 => jlt (fun (v19 : Int32) (w20 : j_St) => jlt (v5 + v19) fun v21 => jlt (v6 + 1) fun v22 => f_X9_pieces_L24 p1 n24 v21 v22 w20) fun K64 => jlt (fun (w18 : j_St) => K64 0 w18) fun K63 => if v13 < p1 then K63 w9 else jlt (fun (w17 : j_St) => K64 1 w17) fun K59 => if v6 = 0 then K59 w9 else jbd (v6 - 1) 231 fun a15 => jlt (jgi w9 47 0 a15) fun v16 => if p1 ≤ v16 then K63 w9 else K59 w9
def f_X9_pieces (p1 : Int32) (w : j_St) : Option (Int32 × j_St) := jlt (jgi w 1 0 29) fun v1 => if v1 = 0 then some ((-1), w) else jcb (f_X9_in p1 0 999 w) fun v2 w3 => if v2 = 0 then some ((-1), w3) else f_X9_pieces_L24 p1 jFU 0 0 w3
abbrev rm_X9_pieces : Room := { frames := 1, cells := 0, slots := 0, locals := 22 }
set_option maxRecDepth 100000 in
set_option maxHeartbeats 4000000 in
theorem mt_X9_pieces {g : j_G} {B : j_B} {p1 : Int32} {w w' : j_St} (a0 : B.2.1 1 0 ∧ B.2.2 1 0) {r : Int32} (h : f_X9_pieces p1 w = some (r, w')) : j_M g yX9_pieces cX9_pieces 4 (some FieldType.int) rm_X9_pieces B [.ref (B.1 1 0), .int p1] w w' (jri r) := by
  refine j_met (rv := jri) (by decide) (Nat.le_of_ble_eq_true rfl) (fun x hx => ?_) h
  unfold f_X9_pieces
  refine J.sub (lv' := [(0, .ref (B.1 1 0)), (1, .int p1)]) [0, 1] rfl ?_
  refine J.aload_n hx dX9_pieces_0 rfl 0 rfl ?_
  refine J.geti (κ := 1) (k := 29) hx rfl rfl rfl in_X9 (by decide) (Or.inl q1682) a0.1 dX9_pieces_1 fun v1 => ?_
  refine J.if_eq (tgt := 18) hx dX9_pieces_4 (by decide) ?_ ?_
  · refine J.iconst (v := (-1)) hx dX9_pieces_18 (by decide) ?_
    exact J.iret hx rfl (Nat.le_of_ble_eq_true rfl) (Nat.le_of_ble_eq_true rfl) dX9_pieces_19
  · refine J.iload_n hx dX9_pieces_7 rfl 1 rfl ?_
    refine J.iconst (v := 0) hx dX9_pieces_8 (by decide) ?_
    refine J.sipush (v := 999) hx dX9_pieces_9 (by decide) ?_
    refine J.calli hx (fun r z1 z => j_callS hx (mt_X9_in z) (lw_S q1826 q1827 q129 q1828) hd_X9_in.2 rfl ⟨Nat.le_of_ble_eq_true rfl, Nat.le_of_ble_eq_true rfl⟩ (Nat.le_of_ble_eq_true rfl) dX9_pieces_12) ⟨⟨rfl, rfl⟩, Nat.le_of_ble_eq_true rfl, Nat.le_of_ble_eq_true rfl⟩ fun v2 w3 e4 => ?_
    refine J.if_ne (tgt := 20) hx dX9_pieces_15 (by decide) ?_ ?_
    · refine J.iconst (v := (-1)) hx dX9_pieces_18 (by decide) ?_
      exact J.iret hx rfl (Nat.le_of_ble_eq_true rfl) (Nat.le_of_ble_eq_true rfl) dX9_pieces_19
    · refine J.iconst (v := 0) hx dX9_pieces_20 (by decide) ?_
      refine J.istore_n (lv' := [(2, .int 0), (0, .ref (B.1 1 0)), (1, .int p1)]) hx dX9_pieces_21 rfl (by decide) rfl ?_
      refine J.iconst (v := 0) hx dX9_pieces_22 (by decide) ?_
      refine J.istore_n (lv' := [(3, .int 0), (2, .int 0), (0, .ref (B.1 1 0)), (1, .int p1)]) hx dX9_pieces_23 rfl (by decide) rfl ?_
      have hL24 : ∀ (n24 : Nat) (v5 : Int32) (v6 : Int32) (w7 : j_St), J g x 4 B (j_Q g x B rm_X9_pieces jri) 0 0 (f_X9_pieces_L24 p1 n24 v5 v6 w7) 24 [(0, .ref (B.1 1 0)), (1, .int p1), (2, .int v5), (3, .int v6)] [] w7 := by
        intro n24
        induction n24 with
        | zero =>
          intro v5 v6 w7
          rw [f_X9_pieces_L24]
          exact J.nne
        | succ n24 ih =>
          intro v5 v6 w7
          rw [f_X9_pieces_L24]
          refine J.iload_n hx dX9_pieces_24 rfl 3 rfl ?_
          refine J.aload_n hx dX9_pieces_25 rfl 0 rfl ?_
          refine J.calli hx (fun r z1 z => j_callV (κ := 1) hx rfl rfl a0.1 (mt_X9_many a0 z) (lw_V q1941 q1943 qs59 q129 q1944) hd_X9_many rfl ⟨Nat.le_of_ble_eq_true rfl, Nat.le_of_ble_eq_true rfl⟩ (Nat.le_of_ble_eq_true rfl) dX9_pieces_26) ⟨⟨rfl, rfl⟩, Nat.le_of_ble_eq_true rfl, Nat.le_of_ble_eq_true rfl⟩ fun v8 w9 e10 => ?_
          refine J.icmp_ge (tgt := 72) hx dX9_pieces_29 (by decide) ?_ ?_
          · refine J.iload_n hx dX9_pieces_72 rfl 2 rfl ?_
            exact J.iret hx rfl (Nat.le_of_ble_eq_true rfl) (Nat.le_of_ble_eq_true rfl) dX9_pieces_73
          · refine J.iload_n hx dX9_pieces_32 rfl 2 rfl ?_
            refine J.aload_n hx dX9_pieces_33 rfl 0 rfl ?_
            refine J.getc (κ' := 47) (i' := 0) (κ := 1) (k := 22) hx rfl rfl rfl rfl rfl in_X9 (by decide) (Or.inl q1675) a0.2 dX9_pieces_34 fun h11 => ?_
            refine J.iload_n hx dX9_pieces_37 rfl 3 rfl ?_
            refine J.iald (κ := 47) hx rfl rfl h11.1 dX9_pieces_38 fun v13 => ?_
            refine J.iload_n hx dX9_pieces_39 rfl 1 rfl ?_
            refine J.fn (fun (K64 : Int32 → j_St → Option (Int32 × j_St)) => ∀ (v19 : Int32) (w20 : j_St), J g x 4 B (j_Q g x B rm_X9_pieces jri) 0 0 (K64 v19 w20) 64 [(0, .ref (B.1 1 0)), (1, .int p1), (3, .int v6)] [.int v19, .int v5] w20) ?_ ?_
            · intro v19 w20
              refine J.iadd hx dX9_pieces_64 ?_
              refine J.nmi fun v21 => ?_
              refine J.istore_n (lv' := [(2, .int v21), (0, .ref (B.1 1 0)), (1, .int p1), (3, .int v6)]) hx dX9_pieces_65 rfl (by decide) rfl ?_
              refine J.nmx fun v22 ev22 => ?_
              refine J.iinc (p := 3) (v := v22) (lv' := [(3, .int v22), (2, .int v21), (0, .ref (B.1 1 0)), (1, .int p1)]) hx dX9_pieces_66 rfl (by rw [ev22]; rfl) (by decide) rfl ?_
              refine J.goto (tgt := 24) hx dX9_pieces_69 (by decide) ?_
              exact J.sub [2, 3, 1, 0] rfl (ih v21 v22 w20)
            · intro K64 hK64
              refine J.fn (fun (K63 : j_St → Option (Int32 × j_St)) => ∀  (w18 : j_St), J g x 4 B (j_Q g x B rm_X9_pieces jri) 0 0 (K63 w18) 63 [(0, .ref (B.1 1 0)), (1, .int p1), (3, .int v6)] [.int v5] w18) ?_ ?_
              · intro w18
                refine J.iconst (v := 0) hx dX9_pieces_63 (by decide) ?_
                exact J.sub [0, 1, 2] rfl (hK64 0 w18)
              · intro K63 hK63
                refine J.icmp_lt (tgt := 63) hx dX9_pieces_40 (by decide) ?_ ?_
                · exact J.sub [0, 1, 3] rfl (hK63 w9)
                · refine J.iload_n hx dX9_pieces_43 rfl 3 rfl ?_
                  refine J.fn (fun (K59 : j_St → Option (Int32 × j_St)) => ∀  (w17 : j_St), J g x 4 B (j_Q g x B rm_X9_pieces jri) 0 0 (K59 w17) 59 [(0, .ref (B.1 1 0)), (1, .int p1), (3, .int v6)] [.int v5] w17) ?_ ?_
                  · intro w17
                    refine J.iconst (v := 1) hx dX9_pieces_59 (by decide) ?_
                    refine J.goto (tgt := 64) hx dX9_pieces_60 (by decide) ?_
                    exact J.sub [0, 1, 2] rfl (hK64 1 w17)
                  · intro K59 hK59
                    refine J.if_eq (tgt := 59) hx dX9_pieces_44 (by decide) ?_ ?_
                    · exact J.sub [0, 1, 3] rfl (hK59 w9)
                    · refine J.aload_n hx dX9_pieces_47 rfl 0 rfl ?_
                      refine J.getc (κ' := 47) (i' := 0) (κ := 1) (k := 22) hx rfl rfl rfl rfl rfl in_X9 (by decide) (Or.inl q1675) a0.2 dX9_pieces_48 fun h14 => ?_
                      refine J.iload_n hx dX9_pieces_51 rfl 3 rfl ?_
                      refine J.iconst (v := 1) hx dX9_pieces_52 (by decide) ?_
                      refine J.isub hx dX9_pieces_53 ?_
                      refine J.iald (κ := 47) hx rfl rfl h14.1 dX9_pieces_54 fun v16 => ?_
                      refine J.iload_n hx dX9_pieces_55 rfl 1 rfl ?_
                      refine J.icmp_ge (tgt := 63) hx dX9_pieces_56 (by decide) ?_ ?_
                      · exact J.sub [0, 1, 3] rfl (hK63 w9)
                      · exact J.sub [0, 1, 3] rfl (hK59 w9)
      refine J.sub [2, 3, 1, 0] rfl (hL24 jFU 0 0 w3)
theorem hd_X9_keptBy : yX9_keptBy.cls = RX9 ∧ yX9_keptBy.cls ≠ "java/lang/invoke/MethodHandle" ∧ yX9_keptBy.cls ≠ "java/lang/invoke/VarHandle" ∧ (parseMethodDescriptor yX9_keptBy.desc).map (fun d => d.parameters.length) = some 1 := by decide +kernel
def f_X9_keptBy_L4 (p1 : Int32)  : Nat → Int32 → Int32 → j_St → Option (Int32 × j_St)
  | 0, _, _, _ => none
  | n4 + 1, v1, v2, w3 => jlt (jgi w3 1 0 35) fun v4 => if v4 ≤ v2 then some (v1, w3) else jcb (f_X9_life v2 w3) fun v5 w6 => jlt (fun (v8 : Int32) (w9 : j_St) => jlt (v1 + v8) fun v10 => jlt (v2 + 1) fun v11 => f_X9_keptBy_L4 p1 n4 v10 v11 w9) fun K27 => if v5 ≤ p1 then K27 0 w6 else K27 1 w6
def f_X9_keptBy (p1 : Int32) (w : j_St) : Option (Int32 × j_St) := f_X9_keptBy_L4 p1 jFU 1 1 w
abbrev rm_X9_keptBy : Room := { frames := 2, cells := 0, slots := 0, locals := 42 }
set_option maxRecDepth 100000 in
set_option maxHeartbeats 4000000 in
theorem mt_X9_keptBy {g : j_G} {B : j_B} {p1 : Int32} {w w' : j_St} (a0 : B.2.1 1 0 ∧ B.2.2 1 0) {r : Int32} (h : f_X9_keptBy p1 w = some (r, w')) : j_M g yX9_keptBy cX9_keptBy 4 (some FieldType.int) rm_X9_keptBy B [.ref (B.1 1 0), .int p1] w w' (jri r) := by
  refine j_met (rv := jri) (by decide) (Nat.le_of_ble_eq_true rfl) (fun x hx => ?_) h
  unfold f_X9_keptBy
  refine J.sub (lv' := [(0, .ref (B.1 1 0)), (1, .int p1)]) [0, 1] rfl ?_
  refine J.iconst (v := 1) hx dX9_keptBy_0 (by decide) ?_
  refine J.istore_n (lv' := [(2, .int 1), (0, .ref (B.1 1 0)), (1, .int p1)]) hx dX9_keptBy_1 rfl (by decide) rfl ?_
  refine J.iconst (v := 1) hx dX9_keptBy_2 (by decide) ?_
  refine J.istore_n (lv' := [(3, .int 1), (2, .int 1), (0, .ref (B.1 1 0)), (1, .int p1)]) hx dX9_keptBy_3 rfl (by decide) rfl ?_
  have hL4 : ∀ (n4 : Nat) (v1 : Int32) (v2 : Int32) (w3 : j_St), J g x 4 B (j_Q g x B rm_X9_keptBy jri) 0 0 (f_X9_keptBy_L4 p1 n4 v1 v2 w3) 4 [(0, .ref (B.1 1 0)), (1, .int p1), (2, .int v1), (3, .int v2)] [] w3 := by
    intro n4
    induction n4 with
    | zero =>
      intro v1 v2 w3
      rw [f_X9_keptBy_L4]
      exact J.nne
    | succ n4 ih =>
      intro v1 v2 w3
      rw [f_X9_keptBy_L4]
      refine J.iload_n hx dX9_keptBy_4 rfl 3 rfl ?_
      refine J.aload_n hx dX9_keptBy_5 rfl 0 rfl ?_
      refine J.geti (κ := 1) (k := 35) hx rfl rfl rfl in_X9 (by decide) (Or.inl q1688) a0.1 dX9_keptBy_6 fun v4 => ?_
      refine J.icmp_ge (tgt := 35) hx dX9_keptBy_9 (by decide) ?_ ?_
      · refine J.iload_n hx dX9_keptBy_35 rfl 2 rfl ?_
        exact J.iret hx rfl (Nat.le_of_ble_eq_true rfl) (Nat.le_of_ble_eq_true rfl) dX9_keptBy_36
      · refine J.iload_n hx dX9_keptBy_12 rfl 2 rfl ?_
        refine J.aload_n hx dX9_keptBy_13 rfl 0 rfl ?_
        refine J.iload_n hx dX9_keptBy_14 rfl 3 rfl ?_
        refine J.calli hx (fun r z1 z => j_callV (κ := 1) hx rfl rfl a0.1 (mt_X9_life a0 z) (lw_V q2163 q2165 qs95 q129 q2166) hd_X9_life rfl ⟨Nat.le_of_ble_eq_true rfl, Nat.le_of_ble_eq_true rfl⟩ (Nat.le_of_ble_eq_true rfl) dX9_keptBy_15) ⟨⟨rfl, rfl⟩, Nat.le_of_ble_eq_true rfl, Nat.le_of_ble_eq_true rfl⟩ fun v5 w6 e7 => ?_
        refine J.iload_n hx dX9_keptBy_18 rfl 1 rfl ?_
        refine J.fn (fun (K27 : Int32 → j_St → Option (Int32 × j_St)) => ∀ (v8 : Int32) (w9 : j_St), J g x 4 B (j_Q g x B rm_X9_keptBy jri) 0 0 (K27 v8 w9) 27 [(0, .ref (B.1 1 0)), (1, .int p1), (3, .int v2)] [.int v8, .int v1] w9) ?_ ?_
        · intro v8 w9
          refine J.iadd hx dX9_keptBy_27 ?_
          refine J.nmi fun v10 => ?_
          refine J.istore_n (lv' := [(2, .int v10), (0, .ref (B.1 1 0)), (1, .int p1), (3, .int v2)]) hx dX9_keptBy_28 rfl (by decide) rfl ?_
          refine J.nmx fun v11 ev11 => ?_
          refine J.iinc (p := 3) (v := v11) (lv' := [(3, .int v11), (2, .int v10), (0, .ref (B.1 1 0)), (1, .int p1)]) hx dX9_keptBy_29 rfl (by rw [ev11]; rfl) (by decide) rfl ?_
          refine J.goto (tgt := 4) hx dX9_keptBy_32 (by decide) ?_
          exact J.sub [2, 3, 1, 0] rfl (ih v10 v11 w9)
        · intro K27 hK27
          refine J.icmp_le (tgt := 26) hx dX9_keptBy_19 (by decide) ?_ ?_
          · refine J.iconst (v := 0) hx dX9_keptBy_26 (by decide) ?_
            exact J.sub [0, 1, 3] rfl (hK27 0 w6)
          · refine J.iconst (v := 1) hx dX9_keptBy_22 (by decide) ?_
            refine J.goto (tgt := 27) hx dX9_keptBy_23 (by decide) ?_
            exact J.sub [0, 1, 3] rfl (hK27 1 w6)
  refine J.sub [2, 3, 1, 0] rfl (hL4 jFU 1 1 w)
theorem hd_X9_room : yX9_room.cls = RX9 ∧ yX9_room.cls ≠ "java/lang/invoke/MethodHandle" ∧ yX9_room.cls ≠ "java/lang/invoke/VarHandle" ∧ (parseMethodDescriptor yX9_room.desc).map (fun d => d.parameters.length) = some 1 := by decide +kernel
def f_X9_room_L34 (v8 : Int32)  : Nat → Int32 → j_St → Option (Int32 × j_St)
  | 0, _, _ => none
  | n34 + 1, v10, w11 => jbd 49 231 fun a13 => jlt (jgi w11 47 0 a13) fun v14 => jcb (f_X9_in (v14 + ((v10 + 1) * v8)) 0 999 w11) fun v15 w16 => if v15 = 0 then some (v10, w16) else jbd 49 231 fun a19 => jlt (jgi w16 47 0 a19) fun v20 => jcb (f_X9_keptBy (v20 + ((v10 + 1) * v8)) w16) fun v21 w22 => jlt (jgi w22 1 0 38) fun v24 => if v21 = v24 then jlt (v10 + 1) fun v25 => f_X9_room_L34 v8 n34 v25 w22 else some (v10, w22)
def f_X9_room (p1 : Int32) (w : j_St) : Option (Int32 × j_St) := jlt (jgi w 1 0 29) fun v1 => if v1 = 0 then some ((-1), w) else jcb (f_X9_in p1 0 1 w) fun v2 w3 => if v2 = 0 then some ((-1), w3) else jcb (f_X9_finds w3) fun _ w6 => jlt (fun (v8 : Int32) (w9 : j_St) => f_X9_room_L34 v8 jFU 0 w9) fun K31 => if p1 = 0 then K31 1 w6 else K31 (-1) w6
abbrev rm_X9_room : Room := { frames := 4, cells := 0, slots := 0, locals := 93 }
set_option maxRecDepth 100000 in
set_option maxHeartbeats 4000000 in
theorem mt_X9_room {g : j_G} {B : j_B} {p1 : Int32} {w w' : j_St} (a0 : B.2.1 1 0 ∧ B.2.2 1 0) {r : Int32} (h : f_X9_room p1 w = some (r, w')) : j_M g yX9_room cX9_room 4 (some FieldType.int) rm_X9_room B [.ref (B.1 1 0), .int p1] w w' (jri r) := by
  refine j_met (rv := jri) (by decide) (Nat.le_of_ble_eq_true rfl) (fun x hx => ?_) h
  unfold f_X9_room
  refine J.sub (lv' := [(0, .ref (B.1 1 0)), (1, .int p1)]) [0, 1] rfl ?_
  refine J.aload_n hx dX9_room_0 rfl 0 rfl ?_
  refine J.geti (κ := 1) (k := 29) hx rfl rfl rfl in_X9 (by decide) (Or.inl q1682) a0.1 dX9_room_1 fun v1 => ?_
  refine J.if_eq (tgt := 16) hx dX9_room_4 (by decide) ?_ ?_
  · refine J.iconst (v := (-1)) hx dX9_room_16 (by decide) ?_
    exact J.iret hx rfl (Nat.le_of_ble_eq_true rfl) (Nat.le_of_ble_eq_true rfl) dX9_room_17
  · refine J.iload_n hx dX9_room_7 rfl 1 rfl ?_
    refine J.iconst (v := 0) hx dX9_room_8 (by decide) ?_
    refine J.iconst (v := 1) hx dX9_room_9 (by decide) ?_
    refine J.calli hx (fun r z1 z => j_callS hx (mt_X9_in z) (lw_S q1826 q1827 q129 q1828) hd_X9_in.2 rfl ⟨Nat.le_of_ble_eq_true rfl, Nat.le_of_ble_eq_true rfl⟩ (Nat.le_of_ble_eq_true rfl) dX9_room_10) ⟨⟨rfl, rfl⟩, Nat.le_of_ble_eq_true rfl, Nat.le_of_ble_eq_true rfl⟩ fun v2 w3 e4 => ?_
    refine J.if_ne (tgt := 18) hx dX9_room_13 (by decide) ?_ ?_
    · refine J.iconst (v := (-1)) hx dX9_room_16 (by decide) ?_
      exact J.iret hx rfl (Nat.le_of_ble_eq_true rfl) (Nat.le_of_ble_eq_true rfl) dX9_room_17
    · refine J.aload_n hx dX9_room_18 rfl 0 rfl ?_
      refine J.callv hx (fun r z1 z => j_callV (κ := 1) hx rfl rfl a0.1 (mt_X9_finds a0 z) (lw_V q1990 q1992 qs69 q129 q1993) hd_X9_finds rfl ⟨Nat.le_of_ble_eq_true rfl, Nat.le_of_ble_eq_true rfl⟩ (Nat.le_of_ble_eq_true rfl) dX9_room_19) ⟨⟨rfl, rfl⟩, Nat.le_of_ble_eq_true rfl, Nat.le_of_ble_eq_true rfl⟩ fun _ w6 e7 => ?_
      refine J.iload_n hx dX9_room_22 rfl 1 rfl ?_
      refine J.fn (fun (K31 : Int32 → j_St → Option (Int32 × j_St)) => ∀ (v8 : Int32) (w9 : j_St), J g x 4 B (j_Q g x B rm_X9_room jri) 0 0 (K31 v8 w9) 31 [(0, .ref (B.1 1 0))] [.int v8] w9) ?_ ?_
      · intro v8 w9
        refine J.istore_n (lv' := [(2, .int v8), (0, .ref (B.1 1 0))]) hx dX9_room_31 rfl (by decide) rfl ?_
        refine J.iconst (v := 0) hx dX9_room_32 (by decide) ?_
        refine J.istore_n (lv' := [(3, .int 0), (2, .int v8), (0, .ref (B.1 1 0))]) hx dX9_room_33 rfl (by decide) rfl ?_
        have hL34 : ∀ (n34 : Nat) (v10 : Int32) (w11 : j_St), J g x 4 B (j_Q g x B rm_X9_room jri) 0 0 (f_X9_room_L34 v8 n34 v10 w11) 34 [(0, .ref (B.1 1 0)), (2, .int v8), (3, .int v10)] [] w11 := by
          intro n34
          induction n34 with
          | zero =>
            intro v10 w11
            rw [f_X9_room_L34]
            exact J.nne
          | succ n34 ih =>
            intro v10 w11
            rw [f_X9_room_L34]
            refine J.aload_n hx dX9_room_34 rfl 0 rfl ?_
            refine J.getc (κ' := 47) (i' := 0) (κ := 1) (k := 22) hx rfl rfl rfl rfl rfl in_X9 (by decide) (Or.inl q1675) a0.2 dX9_room_35 fun h12 => ?_
            refine J.bipush (v := 49) hx dX9_room_38 (by decide) ?_
            refine J.iald (κ := 47) hx rfl rfl h12.1 dX9_room_40 fun v14 => ?_
            refine J.iload_n hx dX9_room_41 rfl 2 rfl ?_
            refine J.iconst (v := 1) hx dX9_room_42 (by decide) ?_
            refine J.iadd hx dX9_room_43 ?_
            refine J.iload_n hx dX9_room_44 rfl 1 rfl ?_
            refine J.imul hx dX9_room_45 ?_
            refine J.iadd hx dX9_room_46 ?_
            refine J.iconst (v := 0) hx dX9_room_47 (by decide) ?_
            refine J.sipush (v := 999) hx dX9_room_48 (by decide) ?_
            refine J.calli hx (fun r z1 z => j_callS hx (mt_X9_in z) (lw_S q1826 q1827 q129 q1828) hd_X9_in.2 rfl ⟨Nat.le_of_ble_eq_true rfl, Nat.le_of_ble_eq_true rfl⟩ (Nat.le_of_ble_eq_true rfl) dX9_room_51) ⟨⟨rfl, rfl⟩, Nat.le_of_ble_eq_true rfl, Nat.le_of_ble_eq_true rfl⟩ fun v15 w16 e17 => ?_
            refine J.if_eq (tgt := 87) hx dX9_room_54 (by decide) ?_ ?_
            · refine J.iload_n hx dX9_room_87 rfl 2 rfl ?_
              exact J.iret hx rfl (Nat.le_of_ble_eq_true rfl) (Nat.le_of_ble_eq_true rfl) dX9_room_88
            · refine J.aload_n hx dX9_room_57 rfl 0 rfl ?_
              refine J.aload_n hx dX9_room_58 rfl 0 rfl ?_
              refine J.getc (κ' := 47) (i' := 0) (κ := 1) (k := 22) hx rfl rfl rfl rfl rfl in_X9 (by decide) (Or.inl q1675) a0.2 dX9_room_59 fun h18 => ?_
              refine J.bipush (v := 49) hx dX9_room_62 (by decide) ?_
              refine J.iald (κ := 47) hx rfl rfl h18.1 dX9_room_64 fun v20 => ?_
              refine J.iload_n hx dX9_room_65 rfl 2 rfl ?_
              refine J.iconst (v := 1) hx dX9_room_66 (by decide) ?_
              refine J.iadd hx dX9_room_67 ?_
              refine J.iload_n hx dX9_room_68 rfl 1 rfl ?_
              refine J.imul hx dX9_room_69 ?_
              refine J.iadd hx dX9_room_70 ?_
              refine J.calli hx (fun r z1 z => j_callV (κ := 1) hx rfl rfl a0.1 (mt_X9_keptBy a0 z) (lw_V q2227 q2229 qs105 q129 q2230) hd_X9_keptBy rfl ⟨Nat.le_of_ble_eq_true rfl, Nat.le_of_ble_eq_true rfl⟩ (Nat.le_of_ble_eq_true rfl) dX9_room_71) ⟨⟨rfl, rfl⟩, Nat.le_of_ble_eq_true rfl, Nat.le_of_ble_eq_true rfl⟩ fun v21 w22 e23 => ?_
              refine J.aload_n hx dX9_room_74 rfl 0 rfl ?_
              refine J.geti (κ := 1) (k := 38) hx rfl rfl rfl in_X9 (by decide) (Or.inl q1691) a0.1 dX9_room_75 fun v24 => ?_
              refine J.icmp_ne (tgt := 87) hx dX9_room_78 (by decide) ?_ ?_
              · refine J.nmx fun v25 ev25 => ?_
                refine J.iinc (p := 2) (v := v25) (lv' := [(3, .int v25), (0, .ref (B.1 1 0)), (2, .int v8)]) hx dX9_room_81 rfl (by rw [ev25]; rfl) (by decide) rfl ?_
                refine J.goto (tgt := 34) hx dX9_room_84 (by decide) ?_
                exact J.sub [1, 2, 0] rfl (ih v25 w22)
              · refine J.iload_n hx dX9_room_87 rfl 2 rfl ?_
                exact J.iret hx rfl (Nat.le_of_ble_eq_true rfl) (Nat.le_of_ble_eq_true rfl) dX9_room_88
        refine J.sub [2, 1, 0] rfl (hL34 jFU 0 w9)
      · intro K31 hK31
        refine J.if_ne (tgt := 30) hx dX9_room_23 (by decide) ?_ ?_
        · refine J.iconst (v := 1) hx dX9_room_26 (by decide) ?_
          refine J.goto (tgt := 31) hx dX9_room_27 (by decide) ?_
          exact J.sub [0] rfl (hK31 1 w6)
        · refine J.iconst (v := (-1)) hx dX9_room_30 (by decide) ?_
          exact J.sub [0] rfl (hK31 (-1) w6)
theorem hd_X9_image : yX9_image.cls = RX9 ∧ yX9_image.cls ≠ "java/lang/invoke/MethodHandle" ∧ yX9_image.cls ≠ "java/lang/invoke/VarHandle" ∧ (parseMethodDescriptor yX9_image.desc).map (fun d => d.parameters.length) = some 0 := by decide +kernel
def f_X9_image_L11  (k36 : j_St → Option (Int32 × j_St)) : Nat → Int32 → j_St → Option (Int32 × j_St)
  | 0, _, _ => none
  | n11 + 1, v2, w3 => if 231 ≤ v2 then k36 w3 else jbd v2 231 fun a6 => jlt (jgi w3 47 0 a6) fun v7 => jbd v2 231 fun a9 => jlt (jsi w3 63 0 a9 v7) fun w8 => jlt (v2 + 1) fun v10 => f_X9_image_L11 k36 n11 v10 w8
def f_X9_image  (w : j_St) : Option (Int32 × j_St) := jlt (jgi w 1 0 29) fun v1 => if v1 = 0 then some ((-1), w) else f_X9_image_L11 (fun (w11 : j_St) => jlt (jsi w11 1 0 47 1) fun w12 => jcb (f_X9_keptNow w12) fun v13 w14 => some (v13, w14)) jFU 0 w
abbrev rm_X9_image : Room := { frames := 5, cells := 0, slots := 0, locals := 113 }
set_option maxRecDepth 100000 in
set_option maxHeartbeats 4000000 in
theorem mt_X9_image {g : j_G} {B : j_B}  {w w' : j_St} (a0 : B.2.1 1 0 ∧ B.2.2 1 0) {r : Int32} (h : f_X9_image  w = some (r, w')) : j_M g yX9_image cX9_image 2 (some FieldType.int) rm_X9_image B [.ref (B.1 1 0)] w w' (jri r) := by
  refine j_met (rv := jri) (by decide) (Nat.le_of_ble_eq_true rfl) (fun x hx => ?_) h
  unfold f_X9_image
  refine J.sub (lv' := [(0, .ref (B.1 1 0))]) [0] rfl ?_
  refine J.aload_n hx dX9_image_0 rfl 0 rfl ?_
  refine J.geti (κ := 1) (k := 29) hx rfl rfl rfl in_X9 (by decide) (Or.inl q1682) a0.1 dX9_image_1 fun v1 => ?_
  refine J.if_ne (tgt := 9) hx dX9_image_4 (by decide) ?_ ?_
  · refine J.iconst (v := (-1)) hx dX9_image_7 (by decide) ?_
    exact J.iret hx rfl (Nat.le_of_ble_eq_true rfl) (Nat.le_of_ble_eq_true rfl) dX9_image_8
  · refine J.iconst (v := 0) hx dX9_image_9 (by decide) ?_
    refine J.istore_n (lv' := [(1, .int 0), (0, .ref (B.1 1 0))]) hx dX9_image_10 rfl (by decide) rfl ?_
    have hL11 : ∀ (k36 : j_St → Option (Int32 × j_St)) (hk36 : ∀  (w11 : j_St), J g x 2 B (j_Q g x B rm_X9_image jri) 0 0 (k36 w11) 36 [(0, .ref (B.1 1 0))] [] w11) (n11 : Nat) (v2 : Int32) (w3 : j_St), J g x 2 B (j_Q g x B rm_X9_image jri) 0 0 (f_X9_image_L11 k36 n11 v2 w3) 11 [(0, .ref (B.1 1 0)), (1, .int v2)] [] w3 := by
      intro k36 hk36 n11
      induction n11 with
      | zero =>
        intro v2 w3
        rw [f_X9_image_L11]
        exact J.nne
      | succ n11 ih =>
        intro v2 w3
        rw [f_X9_image_L11]
        refine J.iload_n hx dX9_image_11 rfl 1 rfl ?_
        refine J.sipush (v := 231) hx dX9_image_12 (by decide) ?_
        refine J.icmp_ge (tgt := 36) hx dX9_image_15 (by decide) ?_ ?_
        · exact J.sub [0] rfl (hk36 w3)
        · refine J.aload_n hx dX9_image_18 rfl 0 rfl ?_
          refine J.getc (κ' := 63) (i' := 0) (κ := 1) (k := 46) hx rfl rfl rfl rfl rfl in_X9 (by decide) (Or.inl q1699) a0.2 dX9_image_19 fun h4 => ?_
          refine J.iload_n hx dX9_image_22 rfl 1 rfl ?_
          refine J.aload_n hx dX9_image_23 rfl 0 rfl ?_
          refine J.getc (κ' := 47) (i' := 0) (κ := 1) (k := 22) hx rfl rfl rfl rfl rfl in_X9 (by decide) (Or.inl q1675) a0.2 dX9_image_24 fun h5 => ?_
          refine J.iload_n hx dX9_image_27 rfl 1 rfl ?_
          refine J.iald (κ := 47) hx rfl rfl h5.1 dX9_image_28 fun v7 => ?_
          refine J.iast (κ := 63) hx rfl rfl rfl h4.1 dX9_image_29 fun w8 => ?_
          refine J.nmx fun v10 ev10 => ?_
          refine J.iinc (p := 1) (v := v10) (lv' := [(1, .int v10), (0, .ref (B.1 1 0))]) hx dX9_image_30 rfl (by rw [ev10]; rfl) (by decide) rfl ?_
          refine J.goto (tgt := 11) hx dX9_image_33 (by decide) ?_
          exact J.sub [1, 0] rfl (ih v10 w8)
    refine J.sub [1, 0] rfl (hL11 _ ?_ jFU 0 w)
    · intro w11
      refine J.aload_n hx dX9_image_36 rfl 0 rfl ?_
      refine J.iconst (v := 1) hx dX9_image_37 (by decide) ?_
      refine J.puti (κ := 1) (k := 47) hx rfl rfl rfl in_X9 tyX9_ok nmX9 (by decide) (Or.inl q1700) rfl rfl a0.1 ⟨rfl, rfl⟩ dX9_image_38 fun w12 => ?_
      refine J.aload_n hx dX9_image_41 rfl 0 rfl ?_
      refine J.calli hx (fun r z1 z => j_callV (κ := 1) hx rfl rfl a0.1 (mt_X9_keptNow a0 z) (lw_V q1986 q1988 qs68 q129 q1989) hd_X9_keptNow rfl ⟨Nat.le_of_ble_eq_true rfl, Nat.le_of_ble_eq_true rfl⟩ (Nat.le_of_ble_eq_true rfl) dX9_image_42) ⟨⟨rfl, rfl⟩, Nat.le_of_ble_eq_true rfl, Nat.le_of_ble_eq_true rfl⟩ fun v13 w14 e15 => ?_
      exact J.iret hx rfl (Nat.le_of_ble_eq_true rfl) (Nat.le_of_ble_eq_true rfl) dX9_image_45
theorem hd_X9_back : yX9_back.cls = RX9 ∧ yX9_back.cls ≠ "java/lang/invoke/MethodHandle" ∧ yX9_back.cls ≠ "java/lang/invoke/VarHandle" ∧ (parseMethodDescriptor yX9_back.desc).map (fun d => d.parameters.length) = some 0 := by decide +kernel
def f_X9_back_L11  (k36 : j_St → Option (Int32 × j_St)) : Nat → Int32 → j_St → Option (Int32 × j_St)
  | 0, _, _ => none
  | n11 + 1, v2, w3 => if 231 ≤ v2 then k36 w3 else jbd v2 231 fun a6 => jlt (jgi w3 63 0 a6) fun v7 => jbd v2 231 fun a9 => jlt (jsi w3 47 0 a9 v7) fun w8 => jlt (v2 + 1) fun v10 => f_X9_back_L11 k36 n11 v10 w8
def f_X9_back  (w : j_St) : Option (Int32 × j_St) := jlt (jgi w 1 0 47) fun v1 => if v1 = 0 then some ((-1), w) else f_X9_back_L11 (fun (w11 : j_St) => jlt (jsi w11 1 0 44 0) fun w12 => jcb (f_X9_keptNow w12) fun v13 w14 => some (v13, w14)) jFU 0 w
abbrev rm_X9_back : Room := { frames := 5, cells := 0, slots := 0, locals := 113 }
set_option maxRecDepth 100000 in
set_option maxHeartbeats 4000000 in
theorem mt_X9_back {g : j_G} {B : j_B}  {w w' : j_St} (a0 : B.2.1 1 0 ∧ B.2.2 1 0) {r : Int32} (h : f_X9_back  w = some (r, w')) : j_M g yX9_back cX9_back 2 (some FieldType.int) rm_X9_back B [.ref (B.1 1 0)] w w' (jri r) := by
  refine j_met (rv := jri) (by decide) (Nat.le_of_ble_eq_true rfl) (fun x hx => ?_) h
  unfold f_X9_back
  refine J.sub (lv' := [(0, .ref (B.1 1 0))]) [0] rfl ?_
  refine J.aload_n hx dX9_back_0 rfl 0 rfl ?_
  refine J.geti (κ := 1) (k := 47) hx rfl rfl rfl in_X9 (by decide) (Or.inl q1700) a0.1 dX9_back_1 fun v1 => ?_
  refine J.if_ne (tgt := 9) hx dX9_back_4 (by decide) ?_ ?_
  · refine J.iconst (v := (-1)) hx dX9_back_7 (by decide) ?_
    exact J.iret hx rfl (Nat.le_of_ble_eq_true rfl) (Nat.le_of_ble_eq_true rfl) dX9_back_8
  · refine J.iconst (v := 0) hx dX9_back_9 (by decide) ?_
    refine J.istore_n (lv' := [(1, .int 0), (0, .ref (B.1 1 0))]) hx dX9_back_10 rfl (by decide) rfl ?_
    have hL11 : ∀ (k36 : j_St → Option (Int32 × j_St)) (hk36 : ∀  (w11 : j_St), J g x 2 B (j_Q g x B rm_X9_back jri) 0 0 (k36 w11) 36 [(0, .ref (B.1 1 0))] [] w11) (n11 : Nat) (v2 : Int32) (w3 : j_St), J g x 2 B (j_Q g x B rm_X9_back jri) 0 0 (f_X9_back_L11 k36 n11 v2 w3) 11 [(0, .ref (B.1 1 0)), (1, .int v2)] [] w3 := by
      intro k36 hk36 n11
      induction n11 with
      | zero =>
        intro v2 w3
        rw [f_X9_back_L11]
        exact J.nne
      | succ n11 ih =>
        intro v2 w3
        rw [f_X9_back_L11]
        refine J.iload_n hx dX9_back_11 rfl 1 rfl ?_
        refine J.sipush (v := 231) hx dX9_back_12 (by decide) ?_
        refine J.icmp_ge (tgt := 36) hx dX9_back_15 (by decide) ?_ ?_
        · exact J.sub [0] rfl (hk36 w3)
        · refine J.aload_n hx dX9_back_18 rfl 0 rfl ?_
          refine J.getc (κ' := 47) (i' := 0) (κ := 1) (k := 22) hx rfl rfl rfl rfl rfl in_X9 (by decide) (Or.inl q1675) a0.2 dX9_back_19 fun h4 => ?_
          refine J.iload_n hx dX9_back_22 rfl 1 rfl ?_
          refine J.aload_n hx dX9_back_23 rfl 0 rfl ?_
          refine J.getc (κ' := 63) (i' := 0) (κ := 1) (k := 46) hx rfl rfl rfl rfl rfl in_X9 (by decide) (Or.inl q1699) a0.2 dX9_back_24 fun h5 => ?_
          refine J.iload_n hx dX9_back_27 rfl 1 rfl ?_
          refine J.iald (κ := 63) hx rfl rfl h5.1 dX9_back_28 fun v7 => ?_
          refine J.iast (κ := 47) hx rfl rfl rfl h4.1 dX9_back_29 fun w8 => ?_
          refine J.nmx fun v10 ev10 => ?_
          refine J.iinc (p := 1) (v := v10) (lv' := [(1, .int v10), (0, .ref (B.1 1 0))]) hx dX9_back_30 rfl (by rw [ev10]; rfl) (by decide) rfl ?_
          refine J.goto (tgt := 11) hx dX9_back_33 (by decide) ?_
          exact J.sub [1, 0] rfl (ih v10 w8)
    refine J.sub [1, 0] rfl (hL11 _ ?_ jFU 0 w)
    · intro w11
      refine J.aload_n hx dX9_back_36 rfl 0 rfl ?_
      refine J.iconst (v := 0) hx dX9_back_37 (by decide) ?_
      refine J.puti (κ := 1) (k := 44) hx rfl rfl rfl in_X9 tyX9_ok nmX9 (by decide) (Or.inl q1697) rfl rfl a0.1 ⟨rfl, rfl⟩ dX9_back_38 fun w12 => ?_
      refine J.aload_n hx dX9_back_41 rfl 0 rfl ?_
      refine J.calli hx (fun r z1 z => j_callV (κ := 1) hx rfl rfl a0.1 (mt_X9_keptNow a0 z) (lw_V q1986 q1988 qs68 q129 q1989) hd_X9_keptNow rfl ⟨Nat.le_of_ble_eq_true rfl, Nat.le_of_ble_eq_true rfl⟩ (Nat.le_of_ble_eq_true rfl) dX9_back_42) ⟨⟨rfl, rfl⟩, Nat.le_of_ble_eq_true rfl, Nat.le_of_ble_eq_true rfl⟩ fun v13 w14 e15 => ?_
      exact J.iret hx rfl (Nat.le_of_ble_eq_true rfl) (Nat.le_of_ble_eq_true rfl) dX9_back_45
theorem hd_X9_putAside : yX9_putAside.cls = RX9 ∧ yX9_putAside.cls ≠ "java/lang/invoke/MethodHandle" ∧ yX9_putAside.cls ≠ "java/lang/invoke/VarHandle" ∧ (parseMethodDescriptor yX9_putAside.desc).map (fun d => d.parameters.length) = some 0 := by decide +kernel
def f_X9_putAside_L2   : Nat → Int32 → j_St → Option (Unit × j_St)
  | 0, _, _ => none
  | n2 + 1, v1, w2 => if 50 ≤ v1 then some ((), w2) else jbd v1 231 fun a5 => jlt (jgi w2 47 0 a5) fun v6 => jbd v1 50 fun a8 => jlt (jsi w2 64 0 a8 v6) fun w7 => jlt (v1 + 1) fun v9 => f_X9_putAside_L2 n2 v9 w7
def f_X9_putAside  (w : j_St) : Option (Unit × j_St) := f_X9_putAside_L2 jFU 0 w
abbrev rm_X9_putAside : Room := { frames := 0, cells := 0, slots := 0, locals := 0 }
set_option maxRecDepth 100000 in
set_option maxHeartbeats 4000000 in
theorem mt_X9_putAside {g : j_G} {B : j_B}  {w w' : j_St} (a0 : B.2.1 1 0 ∧ B.2.2 1 0) {r : Unit} (h : f_X9_putAside  w = some (r, w')) : j_M g yX9_putAside cX9_putAside 2 none rm_X9_putAside B [.ref (B.1 1 0)] w w' (jrv r) := by
  refine j_met (rv := jrv) (by decide) (Nat.le_of_ble_eq_true rfl) (fun x hx => ?_) h
  unfold f_X9_putAside
  refine J.sub (lv' := [(0, .ref (B.1 1 0))]) [0] rfl ?_
  refine J.iconst (v := 0) hx dX9_putAside_0 (by decide) ?_
  refine J.istore_n (lv' := [(1, .int 0), (0, .ref (B.1 1 0))]) hx dX9_putAside_1 rfl (by decide) rfl ?_
  have hL2 : ∀ (n2 : Nat) (v1 : Int32) (w2 : j_St), J g x 2 B (j_Q g x B rm_X9_putAside jrv) 0 0 (f_X9_putAside_L2 n2 v1 w2) 2 [(0, .ref (B.1 1 0)), (1, .int v1)] [] w2 := by
    intro n2
    induction n2 with
    | zero =>
      intro v1 w2
      rw [f_X9_putAside_L2]
      exact J.nne
    | succ n2 ih =>
      intro v1 w2
      rw [f_X9_putAside_L2]
      refine J.iload_n hx dX9_putAside_2 rfl 1 rfl ?_
      refine J.bipush (v := 50) hx dX9_putAside_3 (by decide) ?_
      refine J.icmp_ge (tgt := 26) hx dX9_putAside_5 (by decide) ?_ ?_
      · exact J.vret hx rfl (Nat.le_of_ble_eq_true rfl) (Nat.le_of_ble_eq_true rfl) dX9_putAside_26
      · refine J.aload_n hx dX9_putAside_8 rfl 0 rfl ?_
        refine J.getc (κ' := 64) (i' := 0) (κ := 1) (k := 48) hx rfl rfl rfl rfl rfl in_X9 (by decide) (Or.inl q1701) a0.2 dX9_putAside_9 fun h3 => ?_
        refine J.iload_n hx dX9_putAside_12 rfl 1 rfl ?_
        refine J.aload_n hx dX9_putAside_13 rfl 0 rfl ?_
        refine J.getc (κ' := 47) (i' := 0) (κ := 1) (k := 22) hx rfl rfl rfl rfl rfl in_X9 (by decide) (Or.inl q1675) a0.2 dX9_putAside_14 fun h4 => ?_
        refine J.iload_n hx dX9_putAside_17 rfl 1 rfl ?_
        refine J.iald (κ := 47) hx rfl rfl h4.1 dX9_putAside_18 fun v6 => ?_
        refine J.iast (κ := 64) hx rfl rfl rfl h3.1 dX9_putAside_19 fun w7 => ?_
        refine J.nmx fun v9 ev9 => ?_
        refine J.iinc (p := 1) (v := v9) (lv' := [(1, .int v9), (0, .ref (B.1 1 0))]) hx dX9_putAside_20 rfl (by rw [ev9]; rfl) (by decide) rfl ?_
        refine J.goto (tgt := 2) hx dX9_putAside_23 (by decide) ?_
        exact J.sub [1, 0] rfl (ih v9 w7)
  refine J.sub [1, 0] rfl (hL2 jFU 0 w)
theorem hd_X9_bringBack : yX9_bringBack.cls = RX9 ∧ yX9_bringBack.cls ≠ "java/lang/invoke/MethodHandle" ∧ yX9_bringBack.cls ≠ "java/lang/invoke/VarHandle" ∧ (parseMethodDescriptor yX9_bringBack.desc).map (fun d => d.parameters.length) = some 0 := by decide +kernel
def f_X9_bringBack_L2   : Nat → Int32 → j_St → Option (Unit × j_St)
  | 0, _, _ => none
  | n2 + 1, v1, w2 => if 50 ≤ v1 then some ((), w2) else jbd v1 50 fun a5 => jlt (jgi w2 64 0 a5) fun v6 => jbd v1 231 fun a8 => jlt (jsi w2 47 0 a8 v6) fun w7 => jlt (v1 + 1) fun v9 => f_X9_bringBack_L2 n2 v9 w7
def f_X9_bringBack  (w : j_St) : Option (Unit × j_St) := f_X9_bringBack_L2 jFU 0 w
abbrev rm_X9_bringBack : Room := { frames := 0, cells := 0, slots := 0, locals := 0 }
set_option maxRecDepth 100000 in
set_option maxHeartbeats 4000000 in
theorem mt_X9_bringBack {g : j_G} {B : j_B}  {w w' : j_St} (a0 : B.2.1 1 0 ∧ B.2.2 1 0) {r : Unit} (h : f_X9_bringBack  w = some (r, w')) : j_M g yX9_bringBack cX9_bringBack 2 none rm_X9_bringBack B [.ref (B.1 1 0)] w w' (jrv r) := by
  refine j_met (rv := jrv) (by decide) (Nat.le_of_ble_eq_true rfl) (fun x hx => ?_) h
  unfold f_X9_bringBack
  refine J.sub (lv' := [(0, .ref (B.1 1 0))]) [0] rfl ?_
  refine J.iconst (v := 0) hx dX9_bringBack_0 (by decide) ?_
  refine J.istore_n (lv' := [(1, .int 0), (0, .ref (B.1 1 0))]) hx dX9_bringBack_1 rfl (by decide) rfl ?_
  have hL2 : ∀ (n2 : Nat) (v1 : Int32) (w2 : j_St), J g x 2 B (j_Q g x B rm_X9_bringBack jrv) 0 0 (f_X9_bringBack_L2 n2 v1 w2) 2 [(0, .ref (B.1 1 0)), (1, .int v1)] [] w2 := by
    intro n2
    induction n2 with
    | zero =>
      intro v1 w2
      rw [f_X9_bringBack_L2]
      exact J.nne
    | succ n2 ih =>
      intro v1 w2
      rw [f_X9_bringBack_L2]
      refine J.iload_n hx dX9_bringBack_2 rfl 1 rfl ?_
      refine J.bipush (v := 50) hx dX9_bringBack_3 (by decide) ?_
      refine J.icmp_ge (tgt := 26) hx dX9_bringBack_5 (by decide) ?_ ?_
      · exact J.vret hx rfl (Nat.le_of_ble_eq_true rfl) (Nat.le_of_ble_eq_true rfl) dX9_bringBack_26
      · refine J.aload_n hx dX9_bringBack_8 rfl 0 rfl ?_
        refine J.getc (κ' := 47) (i' := 0) (κ := 1) (k := 22) hx rfl rfl rfl rfl rfl in_X9 (by decide) (Or.inl q1675) a0.2 dX9_bringBack_9 fun h3 => ?_
        refine J.iload_n hx dX9_bringBack_12 rfl 1 rfl ?_
        refine J.aload_n hx dX9_bringBack_13 rfl 0 rfl ?_
        refine J.getc (κ' := 64) (i' := 0) (κ := 1) (k := 48) hx rfl rfl rfl rfl rfl in_X9 (by decide) (Or.inl q1701) a0.2 dX9_bringBack_14 fun h4 => ?_
        refine J.iload_n hx dX9_bringBack_17 rfl 1 rfl ?_
        refine J.iald (κ := 64) hx rfl rfl h4.1 dX9_bringBack_18 fun v6 => ?_
        refine J.iast (κ := 47) hx rfl rfl rfl h3.1 dX9_bringBack_19 fun w7 => ?_
        refine J.nmx fun v9 ev9 => ?_
        refine J.iinc (p := 1) (v := v9) (lv' := [(1, .int v9), (0, .ref (B.1 1 0))]) hx dX9_bringBack_20 rfl (by rw [ev9]; rfl) (by decide) rfl ?_
        refine J.goto (tgt := 2) hx dX9_bringBack_23 (by decide) ?_
        exact J.sub [1, 0] rfl (ih v9 w7)
  refine J.sub [1, 0] rfl (hL2 jFU 0 w)
theorem hd_X9_unlike : yX9_unlike.cls = RX9 ∧ yX9_unlike.cls ≠ "java/lang/invoke/MethodHandle" ∧ yX9_unlike.cls ≠ "java/lang/invoke/VarHandle" ∧ (parseMethodDescriptor yX9_unlike.desc).map (fun d => d.parameters.length) = some 0 := by decide +kernel
def f_X9_unlike_L15  (k39 : j_St → Option (Int32 × j_St)) : Nat → Int32 → j_St → Option (Int32 × j_St)
  | 0, _, _ => none
  | n15 + 1, v5, w6 => if 50 ≤ v5 then k39 w6 else jbd v5 231 fun a9 => jlt (jgi w6 63 0 a9) fun v10 => jbd v5 231 fun a12 => jlt (jsi w6 47 0 a12 v10) fun w11 => jlt (v5 + 1) fun v13 => f_X9_unlike_L15 k39 n15 v13 w11
def f_X9_unlike_L45  (k80 : j_St → Option (Int32 × j_St)) : Nat → Int32 → j_St → Option (Int32 × j_St)
  | 0, _, _ => none
  | n45 + 1, v18, w19 => if 48 ≤ v18 then k80 w19 else jlt (jgi w19 1 0 35) fun v21 => jlt (fun (v25 : Int32) (w26 : j_St) => jbd v18 48 fun a28 => jlt (jsi w26 65 0 a28 v25) fun w27 => jlt (v18 + 1) fun v29 => f_X9_unlike_L45 k80 n45 v29 w27) fun K73 => if v21 ≤ v18 then K73 0 w19 else jcb (f_X9_life v18 w19) fun v22 w23 => K73 v22 w23
def f_X9_unlike_L92   : Nat → Int32 → Int32 → j_St → Option (Int32 × j_St)
  | 0, _, _, _ => none
  | n92 + 1, v37, v38, w39 => if 48 ≤ v38 then some (v37, w39) else jbd v38 48 fun a41 => jlt (jgi w39 65 0 a41) fun v42 => jlt (jgi w39 1 0 35) fun v43 => jlt (fun (v47 : Int32) (w48 : j_St) => jcb (f_X9_apart v42 v47 w48) fun v49 w50 => jlt (v37 + v49) fun v52 => jlt (v38 + 1) fun v53 => f_X9_unlike_L92 n92 v52 v53 w50) fun K122 => if v43 ≤ v38 then K122 0 w39 else jcb (f_X9_life v38 w39) fun v44 w45 => K122 v44 w45
def f_X9_unlike  (w : j_St) : Option (Int32 × j_St) := jlt (jgi w 1 0 47) fun v1 => if v1 = 0 then some ((-1), w) else jcb (f_X9_putAside w) fun _ w3 => f_X9_unlike_L15 (fun (w14 : j_St) => jcb (f_X9_finds w14) fun _ w16 => f_X9_unlike_L45 (fun (w30 : j_St) => jcb (f_X9_bringBack w30) fun _ w32 => jcb (f_X9_finds w32) fun _ w35 => f_X9_unlike_L92 jFU 0 0 w35) jFU 0 w16) jFU 0 w3
abbrev rm_X9_unlike : Room := { frames := 4, cells := 0, slots := 0, locals := 93 }
set_option maxRecDepth 100000 in
set_option maxHeartbeats 4000000 in
theorem mt_X9_unlike {g : j_G} {B : j_B}  {w w' : j_St} (a0 : B.2.1 1 0 ∧ B.2.2 1 0) {r : Int32} (h : f_X9_unlike  w = some (r, w')) : j_M g yX9_unlike cX9_unlike 3 (some FieldType.int) rm_X9_unlike B [.ref (B.1 1 0)] w w' (jri r) := by
  refine j_met (rv := jri) (by decide) (Nat.le_of_ble_eq_true rfl) (fun x hx => ?_) h
  unfold f_X9_unlike
  refine J.sub (lv' := [(0, .ref (B.1 1 0))]) [0] rfl ?_
  refine J.aload_n hx dX9_unlike_0 rfl 0 rfl ?_
  refine J.geti (κ := 1) (k := 47) hx rfl rfl rfl in_X9 (by decide) (Or.inl q1700) a0.1 dX9_unlike_1 fun v1 => ?_
  refine J.if_ne (tgt := 9) hx dX9_unlike_4 (by decide) ?_ ?_
  · refine J.iconst (v := (-1)) hx dX9_unlike_7 (by decide) ?_
    exact J.iret hx rfl (Nat.le_of_ble_eq_true rfl) (Nat.le_of_ble_eq_true rfl) dX9_unlike_8
  · refine J.aload_n hx dX9_unlike_9 rfl 0 rfl ?_
    refine J.callv hx (fun r z1 z => j_callV (κ := 1) hx rfl rfl a0.1 (mt_X9_putAside a0 z) (lw_V q2243 q2245 qs106 q129 q2246) hd_X9_putAside rfl ⟨Nat.le_of_ble_eq_true rfl, Nat.le_of_ble_eq_true rfl⟩ (Nat.le_of_ble_eq_true rfl) dX9_unlike_10) ⟨⟨rfl, rfl⟩, Nat.le_of_ble_eq_true rfl, Nat.le_of_ble_eq_true rfl⟩ fun _ w3 e4 => ?_
    refine J.iconst (v := 0) hx dX9_unlike_13 (by decide) ?_
    refine J.istore_n (lv' := [(1, .int 0), (0, .ref (B.1 1 0))]) hx dX9_unlike_14 rfl (by decide) rfl ?_
    have hL15 : ∀ (k39 : j_St → Option (Int32 × j_St)) (hk39 : ∀  (w14 : j_St), J g x 3 B (j_Q g x B rm_X9_unlike jri) 0 0 (k39 w14) 39 [(0, .ref (B.1 1 0))] [] w14) (n15 : Nat) (v5 : Int32) (w6 : j_St), J g x 3 B (j_Q g x B rm_X9_unlike jri) 0 0 (f_X9_unlike_L15 k39 n15 v5 w6) 15 [(0, .ref (B.1 1 0)), (1, .int v5)] [] w6 := by
      intro k39 hk39 n15
      induction n15 with
      | zero =>
        intro v5 w6
        rw [f_X9_unlike_L15]
        exact J.nne
      | succ n15 ih =>
        intro v5 w6
        rw [f_X9_unlike_L15]
        refine J.iload_n hx dX9_unlike_15 rfl 1 rfl ?_
        refine J.bipush (v := 50) hx dX9_unlike_16 (by decide) ?_
        refine J.icmp_ge (tgt := 39) hx dX9_unlike_18 (by decide) ?_ ?_
        · exact J.sub [0] rfl (hk39 w6)
        · refine J.aload_n hx dX9_unlike_21 rfl 0 rfl ?_
          refine J.getc (κ' := 47) (i' := 0) (κ := 1) (k := 22) hx rfl rfl rfl rfl rfl in_X9 (by decide) (Or.inl q1675) a0.2 dX9_unlike_22 fun h7 => ?_
          refine J.iload_n hx dX9_unlike_25 rfl 1 rfl ?_
          refine J.aload_n hx dX9_unlike_26 rfl 0 rfl ?_
          refine J.getc (κ' := 63) (i' := 0) (κ := 1) (k := 46) hx rfl rfl rfl rfl rfl in_X9 (by decide) (Or.inl q1699) a0.2 dX9_unlike_27 fun h8 => ?_
          refine J.iload_n hx dX9_unlike_30 rfl 1 rfl ?_
          refine J.iald (κ := 63) hx rfl rfl h8.1 dX9_unlike_31 fun v10 => ?_
          refine J.iast (κ := 47) hx rfl rfl rfl h7.1 dX9_unlike_32 fun w11 => ?_
          refine J.nmx fun v13 ev13 => ?_
          refine J.iinc (p := 1) (v := v13) (lv' := [(1, .int v13), (0, .ref (B.1 1 0))]) hx dX9_unlike_33 rfl (by rw [ev13]; rfl) (by decide) rfl ?_
          refine J.goto (tgt := 15) hx dX9_unlike_36 (by decide) ?_
          exact J.sub [1, 0] rfl (ih v13 w11)
    refine J.sub [1, 0] rfl (hL15 _ ?_ jFU 0 w3)
    · intro w14
      refine J.aload_n hx dX9_unlike_39 rfl 0 rfl ?_
      refine J.callv hx (fun r z1 z => j_callV (κ := 1) hx rfl rfl a0.1 (mt_X9_finds a0 z) (lw_V q1990 q1992 qs69 q129 q1993) hd_X9_finds rfl ⟨Nat.le_of_ble_eq_true rfl, Nat.le_of_ble_eq_true rfl⟩ (Nat.le_of_ble_eq_true rfl) dX9_unlike_40) ⟨⟨rfl, rfl⟩, Nat.le_of_ble_eq_true rfl, Nat.le_of_ble_eq_true rfl⟩ fun _ w16 e17 => ?_
      refine J.iconst (v := 0) hx dX9_unlike_43 (by decide) ?_
      refine J.istore_n (lv' := [(1, .int 0), (0, .ref (B.1 1 0))]) hx dX9_unlike_44 rfl (by decide) rfl ?_
      have hL45 : ∀ (k80 : j_St → Option (Int32 × j_St)) (hk80 : ∀  (w30 : j_St), J g x 3 B (j_Q g x B rm_X9_unlike jri) 0 0 (k80 w30) 80 [(0, .ref (B.1 1 0))] [] w30) (n45 : Nat) (v18 : Int32) (w19 : j_St), J g x 3 B (j_Q g x B rm_X9_unlike jri) 0 0 (f_X9_unlike_L45 k80 n45 v18 w19) 45 [(0, .ref (B.1 1 0)), (1, .int v18)] [] w19 := by
        intro k80 hk80 n45
        induction n45 with
        | zero =>
          intro v18 w19
          rw [f_X9_unlike_L45]
          exact J.nne
        | succ n45 ih =>
          intro v18 w19
          rw [f_X9_unlike_L45]
          refine J.iload_n hx dX9_unlike_45 rfl 1 rfl ?_
          refine J.bipush (v := 48) hx dX9_unlike_46 (by decide) ?_
          refine J.icmp_ge (tgt := 80) hx dX9_unlike_48 (by decide) ?_ ?_
          · exact J.sub [0] rfl (hk80 w19)
          · refine J.aload_n hx dX9_unlike_51 rfl 0 rfl ?_
            refine J.getc (κ' := 65) (i' := 0) (κ := 1) (k := 49) hx rfl rfl rfl rfl rfl in_X9 (by decide) (Or.inl q1702) a0.2 dX9_unlike_52 fun h20 => ?_
            refine J.iload_n hx dX9_unlike_55 rfl 1 rfl ?_
            refine J.iload_n hx dX9_unlike_56 rfl 1 rfl ?_
            refine J.aload_n hx dX9_unlike_57 rfl 0 rfl ?_
            refine J.geti (κ := 1) (k := 35) hx rfl rfl rfl in_X9 (by decide) (Or.inl q1688) a0.1 dX9_unlike_58 fun v21 => ?_
            refine J.fn (fun (K73 : Int32 → j_St → Option (Int32 × j_St)) => ∀ (v25 : Int32) (w26 : j_St), J g x 3 B (j_Q g x B rm_X9_unlike jri) 0 0 (K73 v25 w26) 73 [(0, .ref (B.1 1 0)), (1, .int v18)] [.int v25, .int v18, .ref (B.1 65 0)] w26) ?_ ?_
            · intro v25 w26
              refine J.iast (κ := 65) hx rfl rfl rfl h20.1 dX9_unlike_73 fun w27 => ?_
              refine J.nmx fun v29 ev29 => ?_
              refine J.iinc (p := 1) (v := v29) (lv' := [(1, .int v29), (0, .ref (B.1 1 0))]) hx dX9_unlike_74 rfl (by rw [ev29]; rfl) (by decide) rfl ?_
              refine J.goto (tgt := 45) hx dX9_unlike_77 (by decide) ?_
              exact J.sub [1, 0] rfl (ih v29 w27)
            · intro K73 hK73
              refine J.icmp_ge (tgt := 72) hx dX9_unlike_61 (by decide) ?_ ?_
              · refine J.iconst (v := 0) hx dX9_unlike_72 (by decide) ?_
                exact J.sub [0, 1] rfl (hK73 0 w19)
              · refine J.aload_n hx dX9_unlike_64 rfl 0 rfl ?_
                refine J.iload_n hx dX9_unlike_65 rfl 1 rfl ?_
                refine J.calli hx (fun r z1 z => j_callV (κ := 1) hx rfl rfl a0.1 (mt_X9_life a0 z) (lw_V q2163 q2165 qs95 q129 q2166) hd_X9_life rfl ⟨Nat.le_of_ble_eq_true rfl, Nat.le_of_ble_eq_true rfl⟩ (Nat.le_of_ble_eq_true rfl) dX9_unlike_66) ⟨⟨rfl, rfl⟩, Nat.le_of_ble_eq_true rfl, Nat.le_of_ble_eq_true rfl⟩ fun v22 w23 e24 => ?_
                refine J.goto (tgt := 73) hx dX9_unlike_69 (by decide) ?_
                exact J.sub [0, 1] rfl (hK73 v22 w23)
      refine J.sub [1, 0] rfl (hL45 _ ?_ jFU 0 w16)
      · intro w30
        refine J.aload_n hx dX9_unlike_80 rfl 0 rfl ?_
        refine J.callv hx (fun r z1 z => j_callV (κ := 1) hx rfl rfl a0.1 (mt_X9_bringBack a0 z) (lw_V q2247 q2249 qs107 q129 q2250) hd_X9_bringBack rfl ⟨Nat.le_of_ble_eq_true rfl, Nat.le_of_ble_eq_true rfl⟩ (Nat.le_of_ble_eq_true rfl) dX9_unlike_81) ⟨⟨rfl, rfl⟩, Nat.le_of_ble_eq_true rfl, Nat.le_of_ble_eq_true rfl⟩ fun _ w32 e33 => ?_
        refine J.aload_n hx dX9_unlike_84 rfl 0 rfl ?_
        refine J.callv hx (fun r z1 z => j_callV (κ := 1) hx rfl rfl a0.1 (mt_X9_finds a0 z) (lw_V q1990 q1992 qs69 q129 q1993) hd_X9_finds rfl ⟨Nat.le_of_ble_eq_true rfl, Nat.le_of_ble_eq_true rfl⟩ (Nat.le_of_ble_eq_true rfl) dX9_unlike_85) ⟨⟨rfl, rfl⟩, Nat.le_of_ble_eq_true rfl, Nat.le_of_ble_eq_true rfl⟩ fun _ w35 e36 => ?_
        refine J.iconst (v := 0) hx dX9_unlike_88 (by decide) ?_
        refine J.istore_n (lv' := [(1, .int 0), (0, .ref (B.1 1 0))]) hx dX9_unlike_89 rfl (by decide) rfl ?_
        refine J.iconst (v := 0) hx dX9_unlike_90 (by decide) ?_
        refine J.istore_n (lv' := [(2, .int 0), (1, .int 0), (0, .ref (B.1 1 0))]) hx dX9_unlike_91 rfl (by decide) rfl ?_
        have hL92 : ∀ (n92 : Nat) (v37 : Int32) (v38 : Int32) (w39 : j_St), J g x 3 B (j_Q g x B rm_X9_unlike jri) 0 0 (f_X9_unlike_L92 n92 v37 v38 w39) 92 [(0, .ref (B.1 1 0)), (1, .int v37), (2, .int v38)] [] w39 := by
          intro n92
          induction n92 with
          | zero =>
            intro v37 v38 w39
            rw [f_X9_unlike_L92]
            exact J.nne
          | succ n92 ih =>
            intro v37 v38 w39
            rw [f_X9_unlike_L92]
            refine J.iload_n hx dX9_unlike_92 rfl 2 rfl ?_
            refine J.bipush (v := 48) hx dX9_unlike_93 (by decide) ?_
            refine J.icmp_ge (tgt := 133) hx dX9_unlike_95 (by decide) ?_ ?_
            · refine J.iload_n hx dX9_unlike_133 rfl 1 rfl ?_
              exact J.iret hx rfl (Nat.le_of_ble_eq_true rfl) (Nat.le_of_ble_eq_true rfl) dX9_unlike_134
            · refine J.iload_n hx dX9_unlike_98 rfl 1 rfl ?_
              refine J.aload_n hx dX9_unlike_99 rfl 0 rfl ?_
              refine J.getc (κ' := 65) (i' := 0) (κ := 1) (k := 49) hx rfl rfl rfl rfl rfl in_X9 (by decide) (Or.inl q1702) a0.2 dX9_unlike_100 fun h40 => ?_
              refine J.iload_n hx dX9_unlike_103 rfl 2 rfl ?_
              refine J.iald (κ := 65) hx rfl rfl h40.1 dX9_unlike_104 fun v42 => ?_
              refine J.iload_n hx dX9_unlike_105 rfl 2 rfl ?_
              refine J.aload_n hx dX9_unlike_106 rfl 0 rfl ?_
              refine J.geti (κ := 1) (k := 35) hx rfl rfl rfl in_X9 (by decide) (Or.inl q1688) a0.1 dX9_unlike_107 fun v43 => ?_
              refine J.fn (fun (K122 : Int32 → j_St → Option (Int32 × j_St)) => ∀ (v47 : Int32) (w48 : j_St), J g x 3 B (j_Q g x B rm_X9_unlike jri) 0 0 (K122 v47 w48) 122 [(0, .ref (B.1 1 0)), (2, .int v38)] [.int v47, .int v42, .int v37] w48) ?_ ?_
              · intro v47 w48
                refine J.calli hx (fun r z1 z => j_callS hx (mt_X9_apart z) (lw_S q2034 q2035 q129 q2036) hd_X9_apart.2 rfl ⟨Nat.le_of_ble_eq_true rfl, Nat.le_of_ble_eq_true rfl⟩ (Nat.le_of_ble_eq_true rfl) dX9_unlike_122) ⟨⟨rfl, rfl⟩, Nat.le_of_ble_eq_true rfl, Nat.le_of_ble_eq_true rfl⟩ fun v49 w50 e51 => ?_
                refine J.iadd hx dX9_unlike_125 ?_
                refine J.nmi fun v52 => ?_
                refine J.istore_n (lv' := [(1, .int v52), (0, .ref (B.1 1 0)), (2, .int v38)]) hx dX9_unlike_126 rfl (by decide) rfl ?_
                refine J.nmx fun v53 ev53 => ?_
                refine J.iinc (p := 2) (v := v53) (lv' := [(2, .int v53), (1, .int v52), (0, .ref (B.1 1 0))]) hx dX9_unlike_127 rfl (by rw [ev53]; rfl) (by decide) rfl ?_
                refine J.goto (tgt := 92) hx dX9_unlike_130 (by decide) ?_
                exact J.sub [2, 1, 0] rfl (ih v52 v53 w50)
              · intro K122 hK122
                refine J.icmp_ge (tgt := 121) hx dX9_unlike_110 (by decide) ?_ ?_
                · refine J.iconst (v := 0) hx dX9_unlike_121 (by decide) ?_
                  exact J.sub [0, 2] rfl (hK122 0 w39)
                · refine J.aload_n hx dX9_unlike_113 rfl 0 rfl ?_
                  refine J.iload_n hx dX9_unlike_114 rfl 2 rfl ?_
                  refine J.calli hx (fun r z1 z => j_callV (κ := 1) hx rfl rfl a0.1 (mt_X9_life a0 z) (lw_V q2163 q2165 qs95 q129 q2166) hd_X9_life rfl ⟨Nat.le_of_ble_eq_true rfl, Nat.le_of_ble_eq_true rfl⟩ (Nat.le_of_ble_eq_true rfl) dX9_unlike_115) ⟨⟨rfl, rfl⟩, Nat.le_of_ble_eq_true rfl, Nat.le_of_ble_eq_true rfl⟩ fun v44 w45 e46 => ?_
                  refine J.goto (tgt := 122) hx dX9_unlike_118 (by decide) ?_
                  exact J.sub [0, 2] rfl (hK122 v44 w45)
        refine J.sub [2, 1, 0] rfl (hL92 jFU 0 0 w35)
theorem hd_X9_shift : yX9_shift.cls = RX9 ∧ yX9_shift.cls ≠ "java/lang/invoke/MethodHandle" ∧ yX9_shift.cls ≠ "java/lang/invoke/VarHandle" ∧ (parseMethodDescriptor yX9_shift.desc).map (fun d => d.parameters.length) = some 1 := by decide +kernel
def f_X9_shift_L30  (k89 : Int32 → Int32 → j_St → Option (Int32 × j_St)) : Nat → Int32 → Int32 → Int32 → j_St → Option (Int32 × j_St)
  | 0, _, _, _, _ => none
  | n30 + 1, v8, v9, v10, w11 => if 18 < v10 then k89 v8 v9 w11 else jlt (fun (v12 : Int32) (w13 : j_St) => jcb (f_X9_matches v12 w13) fun _ w15 => jlt (jgi w15 1 0 41) fun v17 => jlt (fun (v19 : Int32) (v20 : Int32) (w21 : j_St) => jlt (v10 + 1) fun v22 => f_X9_shift_L30 k89 n30 v19 v20 v22 w21) fun K83 => if v17 ≤ v9 then K83 v8 v9 w15 else jlt (jgi w15 1 0 41) fun v18 => K83 v12 v18 w15) fun K59 => if v10 - v10 / 2 * 2 = 1 then K59 ((-(v10 + 1)) / 2) w11 else K59 (v10 / 2) w11
def f_X9_shift (p1 : Int32) (w : j_St) : Option (Int32 × j_St) := jlt (jgi w 1 0 29) fun v1 => if v1 = 0 then some ((-1000000), w) else jcb (f_X9_in p1 0 1 w) fun v2 w3 => if v2 = 0 then some ((-1000000), w3) else jcb (f_X9_finds w3) fun _ w6 => f_X9_shift_L30 (fun (v23 : Int32) (v24 : Int32) (w25 : j_St) => if p1 = 0 then some (v23, w25) else some (v24, w25)) jFU 0 (-1) 0 w6
abbrev rm_X9_shift : Room := { frames := 4, cells := 0, slots := 0, locals := 93 }
set_option maxRecDepth 100000 in
set_option maxHeartbeats 4000000 in
theorem mt_X9_shift {g : j_G} {B : j_B} {p1 : Int32} {w w' : j_St} (a0 : B.2.1 1 0 ∧ B.2.2 1 0) {r : Int32} (h : f_X9_shift p1 w = some (r, w')) : j_M g yX9_shift cX9_shift 6 (some FieldType.int) rm_X9_shift B [.ref (B.1 1 0), .int p1] w w' (jri r) := by
  refine j_met (rv := jri) (by decide) (Nat.le_of_ble_eq_true rfl) (fun x hx => ?_) h
  unfold f_X9_shift
  refine J.sub (lv' := [(0, .ref (B.1 1 0)), (1, .int p1)]) [0, 1] rfl ?_
  refine J.aload_n hx dX9_shift_0 rfl 0 rfl ?_
  refine J.geti (κ := 1) (k := 29) hx rfl rfl rfl in_X9 (by decide) (Or.inl q1682) a0.1 dX9_shift_1 fun v1 => ?_
  refine J.if_eq (tgt := 16) hx dX9_shift_4 (by decide) ?_ ?_
  · refine J.ldc (v := (-1000000)) hx q1929 dX9_shift_16 ?_
    exact J.iret hx rfl (Nat.le_of_ble_eq_true rfl) (Nat.le_of_ble_eq_true rfl) dX9_shift_18
  · refine J.iload_n hx dX9_shift_7 rfl 1 rfl ?_
    refine J.iconst (v := 0) hx dX9_shift_8 (by decide) ?_
    refine J.iconst (v := 1) hx dX9_shift_9 (by decide) ?_
    refine J.calli hx (fun r z1 z => j_callS hx (mt_X9_in z) (lw_S q1826 q1827 q129 q1828) hd_X9_in.2 rfl ⟨Nat.le_of_ble_eq_true rfl, Nat.le_of_ble_eq_true rfl⟩ (Nat.le_of_ble_eq_true rfl) dX9_shift_10) ⟨⟨rfl, rfl⟩, Nat.le_of_ble_eq_true rfl, Nat.le_of_ble_eq_true rfl⟩ fun v2 w3 e4 => ?_
    refine J.if_ne (tgt := 19) hx dX9_shift_13 (by decide) ?_ ?_
    · refine J.ldc (v := (-1000000)) hx q1929 dX9_shift_16 ?_
      exact J.iret hx rfl (Nat.le_of_ble_eq_true rfl) (Nat.le_of_ble_eq_true rfl) dX9_shift_18
    · refine J.aload_n hx dX9_shift_19 rfl 0 rfl ?_
      refine J.callv hx (fun r z1 z => j_callV (κ := 1) hx rfl rfl a0.1 (mt_X9_finds a0 z) (lw_V q1990 q1992 qs69 q129 q1993) hd_X9_finds rfl ⟨Nat.le_of_ble_eq_true rfl, Nat.le_of_ble_eq_true rfl⟩ (Nat.le_of_ble_eq_true rfl) dX9_shift_20) ⟨⟨rfl, rfl⟩, Nat.le_of_ble_eq_true rfl, Nat.le_of_ble_eq_true rfl⟩ fun _ w6 e7 => ?_
      refine J.iconst (v := 0) hx dX9_shift_23 (by decide) ?_
      refine J.istore_n (lv' := [(2, .int 0), (0, .ref (B.1 1 0)), (1, .int p1)]) hx dX9_shift_24 rfl (by decide) rfl ?_
      refine J.iconst (v := (-1)) hx dX9_shift_25 (by decide) ?_
      refine J.istore_n (lv' := [(3, .int (-1)), (2, .int 0), (0, .ref (B.1 1 0)), (1, .int p1)]) hx dX9_shift_26 rfl (by decide) rfl ?_
      refine J.iconst (v := 0) hx dX9_shift_27 (by decide) ?_
      refine J.istore (lv' := [(4, .int 0), (3, .int (-1)), (2, .int 0), (0, .ref (B.1 1 0)), (1, .int p1)]) hx dX9_shift_28 (by decide) rfl ?_
      have hL30 : ∀ (k89 : Int32 → Int32 → j_St → Option (Int32 × j_St)) (hk89 : ∀ (v23 : Int32) (v24 : Int32) (w25 : j_St), J g x 6 B (j_Q g x B rm_X9_shift jri) 0 0 (k89 v23 v24 w25) 89 [(1, .int p1), (2, .int v23), (3, .int v24)] [] w25) (n30 : Nat) (v8 : Int32) (v9 : Int32) (v10 : Int32) (w11 : j_St), J g x 6 B (j_Q g x B rm_X9_shift jri) 0 0 (f_X9_shift_L30 k89 n30 v8 v9 v10 w11) 30 [(0, .ref (B.1 1 0)), (1, .int p1), (2, .int v8), (3, .int v9), (4, .int v10)] [] w11 := by
        intro k89 hk89 n30
        induction n30 with
        | zero =>
          intro v8 v9 v10 w11
          rw [f_X9_shift_L30]
          exact J.nne
        | succ n30 ih =>
          intro v8 v9 v10 w11
          rw [f_X9_shift_L30]
          refine J.iload hx dX9_shift_30 4 rfl ?_
          refine J.bipush (v := 18) hx dX9_shift_32 (by decide) ?_
          refine J.icmp_gt (tgt := 89) hx dX9_shift_34 (by decide) ?_ ?_
          · exact J.sub [1, 2, 3] rfl (hk89 v8 v9 w11)
          · refine J.iload hx dX9_shift_37 4 rfl ?_
            refine J.iconst (v := 2) hx dX9_shift_39 (by decide) ?_
            refine J.irem0 hx dX9_shift_40 (by decide) ?_
            refine J.iconst (v := 1) hx dX9_shift_41 (by decide) ?_
            refine J.fn (fun (K59 : Int32 → j_St → Option (Int32 × j_St)) => ∀ (v12 : Int32) (w13 : j_St), J g x 6 B (j_Q g x B rm_X9_shift jri) 0 0 (K59 v12 w13) 59 [(0, .ref (B.1 1 0)), (1, .int p1), (2, .int v8), (3, .int v9), (4, .int v10)] [.int v12] w13) ?_ ?_
            · intro v12 w13
              refine J.istore (lv' := [(5, .int v12), (0, .ref (B.1 1 0)), (1, .int p1), (2, .int v8), (3, .int v9), (4, .int v10)]) hx dX9_shift_59 (by decide) rfl ?_
              refine J.aload_n hx dX9_shift_61 rfl 1 rfl ?_
              refine J.iload hx dX9_shift_62 0 rfl ?_
              refine J.callv hx (fun r z1 z => j_callV (κ := 1) hx rfl rfl a0.1 (mt_X9_matches a0 z) (lw_V q2026 q2028 qs78 q129 q2029) hd_X9_matches rfl ⟨Nat.le_of_ble_eq_true rfl, Nat.le_of_ble_eq_true rfl⟩ (Nat.le_of_ble_eq_true rfl) dX9_shift_64) ⟨⟨rfl, rfl⟩, Nat.le_of_ble_eq_true rfl, Nat.le_of_ble_eq_true rfl⟩ fun _ w15 e16 => ?_
              refine J.aload_n hx dX9_shift_67 rfl 1 rfl ?_
              refine J.geti (κ := 1) (k := 41) hx rfl rfl rfl in_X9 (by decide) (Or.inl q1694) a0.1 dX9_shift_68 fun v17 => ?_
              refine J.iload_n hx dX9_shift_71 rfl 4 rfl ?_
              refine J.fn (fun (K83 : Int32 → Int32 → j_St → Option (Int32 × j_St)) => ∀ (v19 : Int32) (v20 : Int32) (w21 : j_St), J g x 6 B (j_Q g x B rm_X9_shift jri) 0 0 (K83 v19 v20 w21) 83 [(0, .ref (B.1 1 0)), (1, .int p1), (2, .int v19), (3, .int v20), (4, .int v10)] [] w21) ?_ ?_
              · intro v19 v20 w21
                refine J.nmx fun v22 ev22 => ?_
                refine J.iinc (p := 4) (v := v22) (lv' := [(4, .int v22), (0, .ref (B.1 1 0)), (1, .int p1), (2, .int v19), (3, .int v20)]) hx dX9_shift_83 rfl (by rw [ev22]; rfl) (by decide) rfl ?_
                refine J.goto (tgt := 30) hx dX9_shift_86 (by decide) ?_
                exact J.sub [1, 2, 3, 4, 0] rfl (ih v19 v20 v22 w21)
              · intro K83 hK83
                refine J.icmp_le (tgt := 83) hx dX9_shift_72 (by decide) ?_ ?_
                · exact J.sub [1, 2, 3, 4, 5] rfl (hK83 v8 v9 w15)
                · refine J.aload_n hx dX9_shift_75 rfl 1 rfl ?_
                  refine J.geti (κ := 1) (k := 41) hx rfl rfl rfl in_X9 (by decide) (Or.inl q1694) a0.1 dX9_shift_76 fun v18 => ?_
                  refine J.istore_n (lv' := [(3, .int v18), (5, .int v12), (0, .ref (B.1 1 0)), (1, .int p1), (2, .int v8), (4, .int v10)]) hx dX9_shift_79 rfl (by decide) rfl ?_
                  refine J.iload hx dX9_shift_80 1 rfl ?_
                  refine J.istore_n (lv' := [(2, .int v12), (3, .int v18), (5, .int v12), (0, .ref (B.1 1 0)), (1, .int p1), (4, .int v10)]) hx dX9_shift_82 rfl (by decide) rfl ?_
                  exact J.sub [3, 4, 0, 1, 5] rfl (hK83 v12 v18 w15)
            · intro K59 hK59
              refine J.icmp_ne (tgt := 55) hx dX9_shift_42 (by decide) ?_ ?_
              · refine J.iload hx dX9_shift_45 4 rfl ?_
                refine J.iconst (v := 1) hx dX9_shift_47 (by decide) ?_
                refine J.iadd hx dX9_shift_48 ?_
                refine J.ineg hx dX9_shift_49 ?_
                refine J.iconst (v := 2) hx dX9_shift_50 (by decide) ?_
                refine J.idiv0 hx dX9_shift_51 (by decide) ?_
                refine J.goto (tgt := 59) hx dX9_shift_52 (by decide) ?_
                exact J.sub [0, 1, 2, 3, 4] rfl (hK59 ((-(v10 + 1)) / 2) w11)
              · refine J.iload hx dX9_shift_55 4 rfl ?_
                refine J.iconst (v := 2) hx dX9_shift_57 (by decide) ?_
                refine J.idiv0 hx dX9_shift_58 (by decide) ?_
                exact J.sub [0, 1, 2, 3, 4] rfl (hK59 (v10 / 2) w11)
      refine J.sub [3, 4, 2, 1, 0] rfl (hL30 _ ?_ jFU 0 (-1) 0 w6)
      · intro v23 v24 w25
        refine J.iload_n hx dX9_shift_89 rfl 0 rfl ?_
        refine J.if_ne (tgt := 97) hx dX9_shift_90 (by decide) ?_ ?_
        · refine J.iload_n hx dX9_shift_93 rfl 1 rfl ?_
          refine J.goto (tgt := 98) hx dX9_shift_94 (by decide) ?_
          exact J.iret hx rfl (Nat.le_of_ble_eq_true rfl) (Nat.le_of_ble_eq_true rfl) dX9_shift_98
        · refine J.iload_n hx dX9_shift_97 rfl 2 rfl ?_
          exact J.iret hx rfl (Nat.le_of_ble_eq_true rfl) (Nat.le_of_ble_eq_true rfl) dX9_shift_98
