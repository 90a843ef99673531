theorem hd_X9_keepWas : yX9_keepWas.cls = RX9 ∧ yX9_keepWas.cls ≠ "java/lang/invoke/MethodHandle" ∧ yX9_keepWas.cls ≠ "java/lang/invoke/VarHandle" ∧ (parseMethodDescriptor yX9_keepWas.desc).map (fun d => d.parameters.length) = some 0 := by decide +kernel
def f_X9_keepWas_L2   : Nat → Int32 → j_St → Option (Unit × j_St)
  | 0, _, _ => none
  | n2 + 1, v1, w2 => if 48 ≤ v1 then some ((), w2) else jbd v1 231 fun a5 => jlt (jgi w2 47 0 a5) fun v6 => jbd v1 48 fun a8 => jlt (jsi w2 61 0 a8 v6) fun w7 => jlt (v1 + 1) fun v9 => f_X9_keepWas_L2 n2 v9 w7
def f_X9_keepWas  (w : j_St) : Option (Unit × j_St) := f_X9_keepWas_L2 jFU 0 w
abbrev rm_X9_keepWas : Room := { frames := 0, cells := 0, slots := 0, locals := 0 }
set_option maxRecDepth 100000 in
set_option maxHeartbeats 4000000 in
theorem mt_X9_keepWas {g : j_G} {B : j_B}  {w w' : j_St} (a0 : B.2.1 1 0 ∧ B.2.2 1 0) {r : Unit} (h : f_X9_keepWas  w = some (r, w')) : j_M g yX9_keepWas cX9_keepWas 2 none rm_X9_keepWas B [.ref (B.1 1 0)] w w' (jrv r) := by
  refine j_met (rv := jrv) (by decide) (Nat.le_of_ble_eq_true rfl) (fun x hx => ?_) h
  unfold f_X9_keepWas
  refine J.sub (lv' := [(0, .ref (B.1 1 0))]) [0] rfl ?_
  refine J.iconst (v := 0) hx dX9_keepWas_0 (by decide) ?_
  refine J.istore_n (lv' := [(1, .int 0), (0, .ref (B.1 1 0))]) hx dX9_keepWas_1 rfl (by decide) rfl ?_
  have hL2 : ∀ (n2 : Nat) (v1 : Int32) (w2 : j_St), J g x 2 B (j_Q g x B rm_X9_keepWas jrv) 0 0 (f_X9_keepWas_L2 n2 v1 w2) 2 [(0, .ref (B.1 1 0)), (1, .int v1)] [] w2 := by
    intro n2
    induction n2 with
    | zero =>
      intro v1 w2
      rw [f_X9_keepWas_L2]
      exact J.nne
    | succ n2 ih =>
      intro v1 w2
      rw [f_X9_keepWas_L2]
      refine J.iload_n hx dX9_keepWas_2 rfl 1 rfl ?_
      refine J.bipush (v := 48) hx dX9_keepWas_3 (by decide) ?_
      refine J.icmp_ge (tgt := 26) hx dX9_keepWas_5 (by decide) ?_ ?_
      · exact J.vret hx rfl (Nat.le_of_ble_eq_true rfl) (Nat.le_of_ble_eq_true rfl) dX9_keepWas_26
      · refine J.aload_n hx dX9_keepWas_8 rfl 0 rfl ?_
        refine J.getc (κ' := 61) (i' := 0) (κ := 1) (k := 42) hx rfl rfl rfl rfl rfl in_X9 (by decide) (Or.inl q1695) a0.2 dX9_keepWas_9 fun h3 => ?_
        refine J.iload_n hx dX9_keepWas_12 rfl 1 rfl ?_
        refine J.aload_n hx dX9_keepWas_13 rfl 0 rfl ?_
        refine J.getc (κ' := 47) (i' := 0) (κ := 1) (k := 22) hx rfl rfl rfl rfl rfl in_X9 (by decide) (Or.inl q1675) a0.2 dX9_keepWas_14 fun h4 => ?_
        refine J.iload_n hx dX9_keepWas_17 rfl 1 rfl ?_
        refine J.iald (κ := 47) hx rfl rfl h4.1 dX9_keepWas_18 fun v6 => ?_
        refine J.iast (κ := 61) hx rfl rfl rfl h3.1 dX9_keepWas_19 fun w7 => ?_
        refine J.nmx fun v9 ev9 => ?_
        refine J.iinc (p := 1) (v := v9) (lv' := [(1, .int v9), (0, .ref (B.1 1 0))]) hx dX9_keepWas_20 rfl (by rw [ev9]; rfl) (by decide) rfl ?_
        refine J.goto (tgt := 2) hx dX9_keepWas_23 (by decide) ?_
        exact J.sub [1, 0] rfl (ih v9 w7)
  refine J.sub [1, 0] rfl (hL2 jFU 0 w)
theorem hd_X9_middle : yX9_middle.cls = RX9 ∧ yX9_middle.cls ≠ "java/lang/invoke/MethodHandle" ∧ yX9_middle.cls ≠ "java/lang/invoke/VarHandle" ∧ (parseMethodDescriptor yX9_middle.desc).map (fun d => d.parameters.length) = some 3 := by decide +kernel
def f_X9_middle (p0 : Int32) (p1 : Int32) (p2 : Int32) (w : j_St) : Option (Int32 × j_St) := some (jmax (jmin p0 p1) (jmin (jmax p0 p1) p2), w)
abbrev rm_X9_middle : Room := { frames := 1, cells := 0, slots := 0, locals := 21 }
set_option maxRecDepth 100000 in
set_option maxHeartbeats 4000000 in
theorem mt_X9_middle {g : j_G} {B : j_B} {p0 : Int32} {p1 : Int32} {p2 : Int32} {w w' : j_St}  {r : Int32} (h : f_X9_middle p0 p1 p2 w = some (r, w')) : j_M g yX9_middle cX9_middle 3 (some FieldType.int) rm_X9_middle B [.int p0, .int p1, .int p2] w w' (jri r) := by
  refine j_met (rv := jri) (by decide) (Nat.le_of_ble_eq_true rfl) (fun x hx => ?_) h
  unfold f_X9_middle
  refine J.sub (lv' := [(0, .int p0), (1, .int p1), (2, .int p2)]) [0, 1, 2] rfl ?_
  refine J.iload_n hx dX9_middle_0 rfl 0 rfl ?_
  refine J.iload_n hx dX9_middle_1 rfl 1 rfl ?_
  refine J.mmin hx q1982 q192 q123 q193 ⟨Nat.le_of_ble_eq_true rfl, Nat.le_of_ble_eq_true rfl⟩ (Nat.le_of_ble_eq_true rfl) (Nat.le_of_ble_eq_true rfl) (Nat.le_of_ble_eq_true rfl) dX9_middle_2 ?_
  refine J.iload_n hx dX9_middle_5 rfl 0 rfl ?_
  refine J.iload_n hx dX9_middle_6 rfl 1 rfl ?_
  refine J.mmax hx q1981 q195 q123 q196 ⟨Nat.le_of_ble_eq_true rfl, Nat.le_of_ble_eq_true rfl⟩ (Nat.le_of_ble_eq_true rfl) (Nat.le_of_ble_eq_true rfl) (Nat.le_of_ble_eq_true rfl) dX9_middle_7 ?_
  refine J.iload_n hx dX9_middle_10 rfl 2 rfl ?_
  refine J.mmin hx q1982 q192 q123 q193 ⟨Nat.le_of_ble_eq_true rfl, Nat.le_of_ble_eq_true rfl⟩ (Nat.le_of_ble_eq_true rfl) (Nat.le_of_ble_eq_true rfl) (Nat.le_of_ble_eq_true rfl) dX9_middle_11 ?_
  refine J.mmax hx q1981 q195 q123 q196 ⟨Nat.le_of_ble_eq_true rfl, Nat.le_of_ble_eq_true rfl⟩ (Nat.le_of_ble_eq_true rfl) (Nat.le_of_ble_eq_true rfl) (Nat.le_of_ble_eq_true rfl) dX9_middle_14 ?_
  exact J.iret hx rfl (Nat.le_of_ble_eq_true rfl) (Nat.le_of_ble_eq_true rfl) dX9_middle_17
theorem hd_X9_blends : yX9_blends.cls = RX9 ∧ yX9_blends.cls ≠ "java/lang/invoke/MethodHandle" ∧ yX9_blends.cls ≠ "java/lang/invoke/VarHandle" ∧ (parseMethodDescriptor yX9_blends.desc).map (fun d => d.parameters.length) = some 1 := by decide +kernel
def f_X9_blends_L6 (p1 : Int32)  : Nat → Int32 → j_St → Option (Unit × j_St)
  | 0, _, _ => none
  | n6 + 1, v4, w5 => jcb (f_X9_many w5) fun v6 w7 => if v6 ≤ v4 then some ((), w7) else jbd (jmax 0 (v4 - 1)) 48 fun a10 => jlt (jgi w7 61 0 a10) fun v11 => jcb (f_X9_many w7) fun v13 w14 => jbd (jmin (v13 - 1) (v4 + 1)) 48 fun a16 => jlt (jgi w14 61 0 a16) fun v17 => jlt (fun (v28 : Int32) (w29 : j_St) => jbd v4 231 fun a31 => jlt (jsi w29 47 0 a31 v28) fun w30 => jlt (v4 + 1) fun v32 => f_X9_blends_L6 p1 n6 v32 w30) fun K85 => if p1 = 0 then jbd v4 48 fun a20 => jlt (jgi w14 61 0 a20) fun v21 => K85 (((v11 + (2 * v21)) + v17) / 4) w14 else jbd v4 48 fun a23 => jlt (jgi w14 61 0 a23) fun v24 => jcb (f_X9_middle v11 v24 v17 w14) fun v25 w26 => K85 v25 w26
def f_X9_blends (p1 : Int32) (w : j_St) : Option (Unit × j_St) := jcb (f_X9_keepWas w) fun _ w2 => f_X9_blends_L6 p1 jFU 0 w2
abbrev rm_X9_blends : Room := { frames := 2, cells := 0, slots := 0, locals := 43 }
set_option maxRecDepth 100000 in
set_option maxHeartbeats 4000000 in
theorem mt_X9_blends {g : j_G} {B : j_B} {p1 : Int32} {w w' : j_St} (a0 : B.2.1 1 0 ∧ B.2.2 1 0) {r : Unit} (h : f_X9_blends p1 w = some (r, w')) : j_M g yX9_blends cX9_blends 5 none rm_X9_blends B [.ref (B.1 1 0), .int p1] w w' (jrv r) := by
  refine j_met (rv := jrv) (by decide) (Nat.le_of_ble_eq_true rfl) (fun x hx => ?_) h
  unfold f_X9_blends
  refine J.sub (lv' := [(0, .ref (B.1 1 0)), (1, .int p1)]) [0, 1] rfl ?_
  refine J.aload_n hx dX9_blends_0 rfl 0 rfl ?_
  refine J.callv hx (fun r z1 z => j_callV (κ := 1) hx rfl rfl a0.1 (mt_X9_keepWas a0 z) (lw_V q1977 q1979 qs67 q129 q1980) hd_X9_keepWas rfl ⟨Nat.le_of_ble_eq_true rfl, Nat.le_of_ble_eq_true rfl⟩ (Nat.le_of_ble_eq_true rfl) dX9_blends_1) ⟨⟨rfl, rfl⟩, Nat.le_of_ble_eq_true rfl, Nat.le_of_ble_eq_true rfl⟩ fun _ w2 e3 => ?_
  refine J.iconst (v := 0) hx dX9_blends_4 (by decide) ?_
  refine J.istore_n (lv' := [(2, .int 0), (0, .ref (B.1 1 0)), (1, .int p1)]) hx dX9_blends_5 rfl (by decide) rfl ?_
  have hL6 : ∀ (n6 : Nat) (v4 : Int32) (w5 : j_St), J g x 5 B (j_Q g x B rm_X9_blends jrv) 0 0 (f_X9_blends_L6 p1 n6 v4 w5) 6 [(0, .ref (B.1 1 0)), (1, .int p1), (2, .int v4)] [] w5 := by
    intro n6
    induction n6 with
    | zero =>
      intro v4 w5
      rw [f_X9_blends_L6]
      exact J.nne
    | succ n6 ih =>
      intro v4 w5
      rw [f_X9_blends_L6]
      refine J.iload_n hx dX9_blends_6 rfl 2 rfl ?_
      refine J.aload_n hx dX9_blends_7 rfl 0 rfl ?_
      refine J.calli hx (fun r z1 z => j_callV (κ := 1) hx rfl rfl a0.1 (mt_X9_many a0 z) (lw_V q1941 q1943 qs59 q129 q1944) hd_X9_many rfl ⟨Nat.le_of_ble_eq_true rfl, Nat.le_of_ble_eq_true rfl⟩ (Nat.le_of_ble_eq_true rfl) dX9_blends_8) ⟨⟨rfl, rfl⟩, Nat.le_of_ble_eq_true rfl, Nat.le_of_ble_eq_true rfl⟩ fun v6 w7 e8 => ?_
      refine J.icmp_ge (tgt := 92) hx dX9_blends_11 (by decide) ?_ ?_
      · exact J.vret hx rfl (Nat.le_of_ble_eq_true rfl) (Nat.le_of_ble_eq_true rfl) dX9_blends_92
      · refine J.aload_n hx dX9_blends_14 rfl 0 rfl ?_
        refine J.getc (κ' := 61) (i' := 0) (κ := 1) (k := 42) hx rfl rfl rfl rfl rfl in_X9 (by decide) (Or.inl q1695) a0.2 dX9_blends_15 fun h9 => ?_
        refine J.iconst (v := 0) hx dX9_blends_18 (by decide) ?_
        refine J.iload_n hx dX9_blends_19 rfl 2 rfl ?_
        refine J.iconst (v := 1) hx dX9_blends_20 (by decide) ?_
        refine J.isub hx dX9_blends_21 ?_
        refine J.mmax hx q1981 q195 q123 q196 ⟨Nat.le_of_ble_eq_true rfl, Nat.le_of_ble_eq_true rfl⟩ (Nat.le_of_ble_eq_true rfl) (Nat.le_of_ble_eq_true rfl) (Nat.le_of_ble_eq_true rfl) dX9_blends_22 ?_
        refine J.iald (κ := 61) hx rfl rfl h9.1 dX9_blends_25 fun v11 => ?_
        refine J.istore_n (lv' := [(3, .int v11), (0, .ref (B.1 1 0)), (1, .int p1), (2, .int v4)]) hx dX9_blends_26 rfl (by decide) rfl ?_
        refine J.aload_n hx dX9_blends_27 rfl 1 rfl ?_
        refine J.getc (κ' := 61) (i' := 0) (κ := 1) (k := 42) hx rfl rfl rfl rfl rfl in_X9 (by decide) (Or.inl q1695) a0.2 dX9_blends_28 fun h12 => ?_
        refine J.aload_n hx dX9_blends_31 rfl 1 rfl ?_
        refine J.calli hx (fun r z1 z => j_callV (κ := 1) hx rfl rfl a0.1 (mt_X9_many a0 z) (lw_V q1941 q1943 qs59 q129 q1944) hd_X9_many rfl ⟨Nat.le_of_ble_eq_true rfl, Nat.le_of_ble_eq_true rfl⟩ (Nat.le_of_ble_eq_true rfl) dX9_blends_32) ⟨⟨rfl, rfl⟩, Nat.le_of_ble_eq_true rfl, Nat.le_of_ble_eq_true rfl⟩ fun v13 w14 e15 => ?_
        refine J.iconst (v := 1) hx dX9_blends_35 (by decide) ?_
        refine J.isub hx dX9_blends_36 ?_
        refine J.iload_n hx dX9_blends_37 rfl 3 rfl ?_
        refine J.iconst (v := 1) hx dX9_blends_38 (by decide) ?_
        refine J.iadd hx dX9_blends_39 ?_
        refine J.mmin hx q1982 q192 q123 q193 ⟨Nat.le_of_ble_eq_true rfl, Nat.le_of_ble_eq_true rfl⟩ (Nat.le_of_ble_eq_true rfl) (Nat.le_of_ble_eq_true rfl) (Nat.le_of_ble_eq_true rfl) dX9_blends_40 ?_
        refine J.iald (κ := 61) hx rfl rfl h12.1 dX9_blends_43 fun v17 => ?_
        refine J.istore (lv' := [(4, .int v17), (3, .int v11), (0, .ref (B.1 1 0)), (1, .int p1), (2, .int v4)]) hx dX9_blends_44 (by decide) rfl ?_
        refine J.aload_n hx dX9_blends_46 rfl 2 rfl ?_
        refine J.getc (κ' := 47) (i' := 0) (κ := 1) (k := 22) hx rfl rfl rfl rfl rfl in_X9 (by decide) (Or.inl q1675) a0.2 dX9_blends_47 fun h18 => ?_
        refine J.iload_n hx dX9_blends_50 rfl 4 rfl ?_
        refine J.iload_n hx dX9_blends_51 rfl 3 rfl ?_
        refine J.fn (fun (K85 : Int32 → j_St → Option (Unit × j_St)) => ∀ (v28 : Int32) (w29 : j_St), J g x 5 B (j_Q g x B rm_X9_blends jrv) 0 0 (K85 v28 w29) 85 [(0, .ref (B.1 1 0)), (1, .int p1), (2, .int v4)] [.int v28, .int v4, .ref (B.1 47 0)] w29) ?_ ?_
        · intro v28 w29
          refine J.iast (κ := 47) hx rfl rfl rfl h18.1 dX9_blends_85 fun w30 => ?_
          refine J.nmx fun v32 ev32 => ?_
          refine J.iinc (p := 2) (v := v32) (lv' := [(2, .int v32), (0, .ref (B.1 1 0)), (1, .int p1)]) hx dX9_blends_86 rfl (by rw [ev32]; rfl) (by decide) rfl ?_
          refine J.goto (tgt := 6) hx dX9_blends_89 (by decide) ?_
          exact J.sub [1, 2, 0] rfl (ih v32 w30)
        · intro K85 hK85
          refine J.if_eq (tgt := 70) hx dX9_blends_52 (by decide) ?_ ?_
          · refine J.iload_n hx dX9_blends_70 rfl 1 rfl ?_
            refine J.iconst (v := 2) hx dX9_blends_71 (by decide) ?_
            refine J.aload_n hx dX9_blends_72 rfl 2 rfl ?_
            refine J.getc (κ' := 61) (i' := 0) (κ := 1) (k := 42) hx rfl rfl rfl rfl rfl in_X9 (by decide) (Or.inl q1695) a0.2 dX9_blends_73 fun h19 => ?_
            refine J.iload_n hx dX9_blends_76 rfl 4 rfl ?_
            refine J.iald (κ := 61) hx rfl rfl h19.1 dX9_blends_77 fun v21 => ?_
            refine J.imul hx dX9_blends_78 ?_
            refine J.iadd hx dX9_blends_79 ?_
            refine J.iload hx dX9_blends_80 0 rfl ?_
            refine J.iadd hx dX9_blends_82 ?_
            refine J.iconst (v := 4) hx dX9_blends_83 (by decide) ?_
            refine J.idiv0 hx dX9_blends_84 (by decide) ?_
            exact J.sub [2, 3, 4] rfl (hK85 (((v11 + (2 * v21)) + v17) / 4) w14)
          · refine J.iload_n hx dX9_blends_55 rfl 1 rfl ?_
            refine J.aload_n hx dX9_blends_56 rfl 2 rfl ?_
            refine J.getc (κ' := 61) (i' := 0) (κ := 1) (k := 42) hx rfl rfl rfl rfl rfl in_X9 (by decide) (Or.inl q1695) a0.2 dX9_blends_57 fun h22 => ?_
            refine J.iload_n hx dX9_blends_60 rfl 4 rfl ?_
            refine J.iald (κ := 61) hx rfl rfl h22.1 dX9_blends_61 fun v24 => ?_
            refine J.iload hx dX9_blends_62 0 rfl ?_
            refine J.calli hx (fun r z1 z => j_callS hx (mt_X9_middle z) (lw_S q1983 q1984 q129 q1985) hd_X9_middle.2 rfl ⟨Nat.le_of_ble_eq_true rfl, Nat.le_of_ble_eq_true rfl⟩ (Nat.le_of_ble_eq_true rfl) dX9_blends_64) ⟨⟨rfl, rfl⟩, Nat.le_of_ble_eq_true rfl, Nat.le_of_ble_eq_true rfl⟩ fun v25 w26 e27 => ?_
            refine J.goto (tgt := 85) hx dX9_blends_67 (by decide) ?_
            exact J.sub [2, 3, 4] rfl (hK85 v25 w26)
  refine J.sub [1, 2, 0] rfl (hL6 jFU 0 w2)
theorem hd_X9_isAhead : yX9_isAhead.cls = RX9 ∧ yX9_isAhead.cls ≠ "java/lang/invoke/MethodHandle" ∧ yX9_isAhead.cls ≠ "java/lang/invoke/VarHandle" ∧ (parseMethodDescriptor yX9_isAhead.desc).map (fun d => d.parameters.length) = some 2 := by decide +kernel
def f_X9_isAhead (p1 : Int32) (p2 : Int32) (w : j_St) : Option (Int32 × j_St) := jbd p1 231 fun a2 => jlt (jgi w 47 0 a2) fun v3 => jbd p2 231 fun a5 => jlt (jgi w 47 0 a5) fun v6 => jlt (fun (w13 : j_St) => some (1, w13)) fun K35 => if v6 < v3 then K35 w else jbd p1 231 fun a8 => jlt (jgi w 47 0 a8) fun v9 => jbd p2 231 fun a11 => jlt (jgi w 47 0 a11) fun v12 => if v9 = v12 then if p2 ≤ p1 then some (0, w) else K35 w else some (0, w)
abbrev rm_X9_isAhead : Room := { frames := 0, cells := 0, slots := 0, locals := 0 }
set_option maxRecDepth 100000 in
set_option maxHeartbeats 4000000 in
theorem mt_X9_isAhead {g : j_G} {B : j_B} {p1 : Int32} {p2 : Int32} {w w' : j_St} (a0 : B.2.1 1 0 ∧ B.2.2 1 0) {r : Int32} (h : f_X9_isAhead p1 p2 w = some (r, w')) : j_M g yX9_isAhead cX9_isAhead 3 (some FieldType.boolean) rm_X9_isAhead B [.ref (B.1 1 0), .int p1, .int p2] w w' (jri r) := by
  refine j_met (rv := jri) (by decide) (Nat.le_of_ble_eq_true rfl) (fun x hx => ?_) h
  unfold f_X9_isAhead
  refine J.sub (lv' := [(0, .ref (B.1 1 0)), (1, .int p1), (2, .int p2)]) [0, 1, 2] rfl ?_
  refine J.aload_n hx dX9_isAhead_0 rfl 0 rfl ?_
  refine J.getc (κ' := 47) (i' := 0) (κ := 1) (k := 22) hx rfl rfl rfl rfl rfl in_X9 (by decide) (Or.inl q1675) a0.2 dX9_isAhead_1 fun h1 => ?_
  refine J.iload_n hx dX9_isAhead_4 rfl 1 rfl ?_
  refine J.iald (κ := 47) hx rfl rfl h1.1 dX9_isAhead_5 fun v3 => ?_
  refine J.aload_n hx dX9_isAhead_6 rfl 0 rfl ?_
  refine J.getc (κ' := 47) (i' := 0) (κ := 1) (k := 22) hx rfl rfl rfl rfl rfl in_X9 (by decide) (Or.inl q1675) a0.2 dX9_isAhead_7 fun h4 => ?_
  refine J.iload_n hx dX9_isAhead_10 rfl 2 rfl ?_
  refine J.iald (κ := 47) hx rfl rfl h4.1 dX9_isAhead_11 fun v6 => ?_
  refine J.fn (fun (K35 : j_St → Option (Int32 × j_St)) => ∀  (w13 : j_St), J g x 3 B (j_Q g x B rm_X9_isAhead jri) 0 0 (K35 w13) 35 [] [] w13) ?_ ?_
  · intro w13
    refine J.iconst (v := 1) hx dX9_isAhead_35 (by decide) ?_
    refine J.goto (tgt := 40) hx dX9_isAhead_36 (by decide) ?_
    exact J.zret hx rfl rfl (Nat.le_of_ble_eq_true rfl) (Nat.le_of_ble_eq_true rfl) dX9_isAhead_40
  · intro K35 hK35
    refine J.icmp_gt (tgt := 35) hx dX9_isAhead_12 (by decide) ?_ ?_
    · exact J.sub [] rfl (hK35 w)
    · refine J.aload_n hx dX9_isAhead_15 rfl 0 rfl ?_
      refine J.getc (κ' := 47) (i' := 0) (κ := 1) (k := 22) hx rfl rfl rfl rfl rfl in_X9 (by decide) (Or.inl q1675) a0.2 dX9_isAhead_16 fun h7 => ?_
      refine J.iload_n hx dX9_isAhead_19 rfl 1 rfl ?_
      refine J.iald (κ := 47) hx rfl rfl h7.1 dX9_isAhead_20 fun v9 => ?_
      refine J.aload_n hx dX9_isAhead_21 rfl 0 rfl ?_
      refine J.getc (κ' := 47) (i' := 0) (κ := 1) (k := 22) hx rfl rfl rfl rfl rfl in_X9 (by decide) (Or.inl q1675) a0.2 dX9_isAhead_22 fun h10 => ?_
      refine J.iload_n hx dX9_isAhead_25 rfl 2 rfl ?_
      refine J.iald (κ := 47) hx rfl rfl h10.1 dX9_isAhead_26 fun v12 => ?_
      refine J.icmp_ne (tgt := 39) hx dX9_isAhead_27 (by decide) ?_ ?_
      · refine J.iload_n hx dX9_isAhead_30 rfl 1 rfl ?_
        refine J.iload_n hx dX9_isAhead_31 rfl 2 rfl ?_
        refine J.icmp_ge (tgt := 39) hx dX9_isAhead_32 (by decide) ?_ ?_
        · refine J.iconst (v := 0) hx dX9_isAhead_39 (by decide) ?_
          exact J.zret hx rfl rfl (Nat.le_of_ble_eq_true rfl) (Nat.le_of_ble_eq_true rfl) dX9_isAhead_40
        · exact J.sub [] rfl (hK35 w)
      · refine J.iconst (v := 0) hx dX9_isAhead_39 (by decide) ?_
        exact J.zret hx rfl rfl (Nat.le_of_ble_eq_true rfl) (Nat.le_of_ble_eq_true rfl) dX9_isAhead_40
theorem hd_X9_nextBehind : yX9_nextBehind.cls = RX9 ∧ yX9_nextBehind.cls ≠ "java/lang/invoke/MethodHandle" ∧ yX9_nextBehind.cls ≠ "java/lang/invoke/VarHandle" ∧ (parseMethodDescriptor yX9_nextBehind.desc).map (fun d => d.parameters.length) = some 1 := by decide +kernel
def f_X9_nextBehind_L4 (p1 : Int32)  : Nat → Int32 → Int32 → j_St → Option (Int32 × j_St)
  | 0, _, _, _ => none
  | n4 + 1, v1, v2, w3 => jcb (f_X9_many w3) fun v4 w5 => if v4 ≤ v2 then some (v1, w5) else jlt (fun (v11 : Int32) (w12 : j_St) => jlt (fun (v18 : Int32) (w19 : j_St) => jlt (v2 + 1) fun v20 => f_X9_nextBehind_L4 p1 n4 v18 v20 w19) fun K57 => jlt (fun (w17 : j_St) => K57 v1 w17) fun K56 => if v11 = 0 then K56 w12 else jlt (fun (w16 : j_St) => K57 v2 w16) fun K52 => if v1 = (-1) then K52 w12 else jcb (f_X9_isAhead v2 v1 w12) fun v13 w14 => if v13 = 0 then K56 w14 else K52 w14) fun K31 => jlt (fun (w10 : j_St) => K31 1 w10) fun K26 => if p1 = (-1) then K26 w5 else jcb (f_X9_isAhead p1 v2 w5) fun v7 w8 => if v7 = 0 then K31 0 w8 else K26 w8
def f_X9_nextBehind (p1 : Int32) (w : j_St) : Option (Int32 × j_St) := f_X9_nextBehind_L4 p1 jFU (-1) 0 w
abbrev rm_X9_nextBehind : Room := { frames := 1, cells := 0, slots := 0, locals := 22 }
set_option maxRecDepth 100000 in
set_option maxHeartbeats 4000000 in
theorem mt_X9_nextBehind {g : j_G} {B : j_B} {p1 : Int32} {w w' : j_St} (a0 : B.2.1 1 0 ∧ B.2.2 1 0) {r : Int32} (h : f_X9_nextBehind p1 w = some (r, w')) : j_M g yX9_nextBehind cX9_nextBehind 5 (some FieldType.int) rm_X9_nextBehind B [.ref (B.1 1 0), .int p1] w w' (jri r) := by
  refine j_met (rv := jri) (by decide) (Nat.le_of_ble_eq_true rfl) (fun x hx => ?_) h
  unfold f_X9_nextBehind
  refine J.sub (lv' := [(0, .ref (B.1 1 0)), (1, .int p1)]) [0, 1] rfl ?_
  refine J.iconst (v := (-1)) hx dX9_nextBehind_0 (by decide) ?_
  refine J.istore_n (lv' := [(2, .int (-1)), (0, .ref (B.1 1 0)), (1, .int p1)]) hx dX9_nextBehind_1 rfl (by decide) rfl ?_
  refine J.iconst (v := 0) hx dX9_nextBehind_2 (by decide) ?_
  refine J.istore_n (lv' := [(3, .int 0), (2, .int (-1)), (0, .ref (B.1 1 0)), (1, .int p1)]) hx dX9_nextBehind_3 rfl (by decide) rfl ?_
  have hL4 : ∀ (n4 : Nat) (v1 : Int32) (v2 : Int32) (w3 : j_St), J g x 5 B (j_Q g x B rm_X9_nextBehind jri) 0 0 (f_X9_nextBehind_L4 p1 n4 v1 v2 w3) 4 [(0, .ref (B.1 1 0)), (1, .int p1), (2, .int v1), (3, .int v2)] [] w3 := by
    intro n4
    induction n4 with
    | zero =>
      intro v1 v2 w3
      rw [f_X9_nextBehind_L4]
      exact J.nne
    | succ n4 ih =>
      intro v1 v2 w3
      rw [f_X9_nextBehind_L4]
      refine J.iload_n hx dX9_nextBehind_4 rfl 3 rfl ?_
      refine J.aload_n hx dX9_nextBehind_5 rfl 0 rfl ?_
      refine J.calli hx (fun r z1 z => j_callV (κ := 1) hx rfl rfl a0.1 (mt_X9_many a0 z) (lw_V q1941 q1943 qs59 q129 q1944) hd_X9_many rfl ⟨Nat.le_of_ble_eq_true rfl, Nat.le_of_ble_eq_true rfl⟩ (Nat.le_of_ble_eq_true rfl) dX9_nextBehind_6) ⟨⟨rfl, rfl⟩, Nat.le_of_ble_eq_true rfl, Nat.le_of_ble_eq_true rfl⟩ fun v4 w5 e6 => ?_
      refine J.icmp_ge (tgt := 64) hx dX9_nextBehind_9 (by decide) ?_ ?_
      · refine J.iload_n hx dX9_nextBehind_64 rfl 2 rfl ?_
        exact J.iret hx rfl (Nat.le_of_ble_eq_true rfl) (Nat.le_of_ble_eq_true rfl) dX9_nextBehind_65
      · refine J.iload_n hx dX9_nextBehind_12 rfl 1 rfl ?_
        refine J.iconst (v := (-1)) hx dX9_nextBehind_13 (by decide) ?_
        refine J.fn (fun (K31 : Int32 → j_St → Option (Int32 × j_St)) => ∀ (v11 : Int32) (w12 : j_St), J g x 5 B (j_Q g x B rm_X9_nextBehind jri) 0 0 (K31 v11 w12) 31 [(0, .ref (B.1 1 0)), (1, .int p1), (2, .int v1), (3, .int v2)] [.int v11] w12) ?_ ?_
        · intro v11 w12
          refine J.istore (lv' := [(4, .int v11), (0, .ref (B.1 1 0)), (1, .int p1), (2, .int v1), (3, .int v2)]) hx dX9_nextBehind_31 (by decide) rfl ?_
          refine J.iload hx dX9_nextBehind_33 0 rfl ?_
          refine J.fn (fun (K57 : Int32 → j_St → Option (Int32 × j_St)) => ∀ (v18 : Int32) (w19 : j_St), J g x 5 B (j_Q g x B rm_X9_nextBehind jri) 0 0 (K57 v18 w19) 57 [(0, .ref (B.1 1 0)), (1, .int p1), (3, .int v2)] [.int v18] w19) ?_ ?_
          · intro v18 w19
            refine J.istore_n (lv' := [(2, .int v18), (0, .ref (B.1 1 0)), (1, .int p1), (3, .int v2)]) hx dX9_nextBehind_57 rfl (by decide) rfl ?_
            refine J.nmx fun v20 ev20 => ?_
            refine J.iinc (p := 3) (v := v20) (lv' := [(3, .int v20), (2, .int v18), (0, .ref (B.1 1 0)), (1, .int p1)]) hx dX9_nextBehind_58 rfl (by rw [ev20]; rfl) (by decide) rfl ?_
            refine J.goto (tgt := 4) hx dX9_nextBehind_61 (by decide) ?_
            exact J.sub [2, 3, 1, 0] rfl (ih v18 v20 w19)
          · intro K57 hK57
            refine J.fn (fun (K56 : j_St → Option (Int32 × j_St)) => ∀  (w17 : j_St), J g x 5 B (j_Q g x B rm_X9_nextBehind jri) 0 0 (K56 w17) 56 [(0, .ref (B.1 1 0)), (1, .int p1), (2, .int v1), (3, .int v2)] [] w17) ?_ ?_
            · intro w17
              refine J.iload_n hx dX9_nextBehind_56 rfl 2 rfl ?_
              exact J.sub [0, 1, 3] rfl (hK57 v1 w17)
            · intro K56 hK56
              refine J.if_eq (tgt := 56) hx dX9_nextBehind_35 (by decide) ?_ ?_
              · exact J.sub [1, 2, 3, 4] rfl (hK56 w12)
              · refine J.iload_n hx dX9_nextBehind_38 rfl 3 rfl ?_
                refine J.iconst (v := (-1)) hx dX9_nextBehind_39 (by decide) ?_
                refine J.fn (fun (K52 : j_St → Option (Int32 × j_St)) => ∀  (w16 : j_St), J g x 5 B (j_Q g x B rm_X9_nextBehind jri) 0 0 (K52 w16) 52 [(0, .ref (B.1 1 0)), (1, .int p1), (3, .int v2)] [] w16) ?_ ?_
                · intro w16
                  refine J.iload_n hx dX9_nextBehind_52 rfl 2 rfl ?_
                  refine J.goto (tgt := 57) hx dX9_nextBehind_53 (by decide) ?_
                  exact J.sub [0, 1, 2] rfl (hK57 v2 w16)
                · intro K52 hK52
                  refine J.icmp_eq (tgt := 52) hx dX9_nextBehind_40 (by decide) ?_ ?_
                  · exact J.sub [1, 2, 4] rfl (hK52 w12)
                  · refine J.aload_n hx dX9_nextBehind_43 rfl 1 rfl ?_
                    refine J.iload_n hx dX9_nextBehind_44 rfl 4 rfl ?_
                    refine J.iload_n hx dX9_nextBehind_45 rfl 3 rfl ?_
                    refine J.calli hx (fun r z1 z => j_callV (κ := 1) hx rfl rfl a0.1 (mt_X9_isAhead a0 z) (lw_V q2002 q2004 qs72 q129 q2005) hd_X9_isAhead rfl ⟨Nat.le_of_ble_eq_true rfl, Nat.le_of_ble_eq_true rfl⟩ (Nat.le_of_ble_eq_true rfl) dX9_nextBehind_46) ⟨⟨rfl, rfl⟩, Nat.le_of_ble_eq_true rfl, Nat.le_of_ble_eq_true rfl⟩ fun v13 w14 e15 => ?_
                    refine J.if_eq (tgt := 56) hx dX9_nextBehind_49 (by decide) ?_ ?_
                    · exact J.sub [1, 2, 3, 4] rfl (hK56 w14)
                    · exact J.sub [1, 2, 4] rfl (hK52 w14)
        · intro K31 hK31
          refine J.fn (fun (K26 : j_St → Option (Int32 × j_St)) => ∀  (w10 : j_St), J g x 5 B (j_Q g x B rm_X9_nextBehind jri) 0 0 (K26 w10) 26 [(0, .ref (B.1 1 0)), (1, .int p1), (2, .int v1), (3, .int v2)] [] w10) ?_ ?_
          · intro w10
            refine J.iconst (v := 1) hx dX9_nextBehind_26 (by decide) ?_
            refine J.goto (tgt := 31) hx dX9_nextBehind_27 (by decide) ?_
            exact J.sub [0, 1, 2, 3] rfl (hK31 1 w10)
          · intro K26 hK26
            refine J.icmp_eq (tgt := 26) hx dX9_nextBehind_14 (by decide) ?_ ?_
            · exact J.sub [0, 1, 2, 3] rfl (hK26 w5)
            · refine J.aload_n hx dX9_nextBehind_17 rfl 0 rfl ?_
              refine J.iload_n hx dX9_nextBehind_18 rfl 1 rfl ?_
              refine J.iload_n hx dX9_nextBehind_19 rfl 3 rfl ?_
              refine J.calli hx (fun r z1 z => j_callV (κ := 1) hx rfl rfl a0.1 (mt_X9_isAhead a0 z) (lw_V q2002 q2004 qs72 q129 q2005) hd_X9_isAhead rfl ⟨Nat.le_of_ble_eq_true rfl, Nat.le_of_ble_eq_true rfl⟩ (Nat.le_of_ble_eq_true rfl) dX9_nextBehind_20) ⟨⟨rfl, rfl⟩, Nat.le_of_ble_eq_true rfl, Nat.le_of_ble_eq_true rfl⟩ fun v7 w8 e9 => ?_
              refine J.if_eq (tgt := 30) hx dX9_nextBehind_23 (by decide) ?_ ?_
              · refine J.iconst (v := 0) hx dX9_nextBehind_30 (by decide) ?_
                exact J.sub [0, 1, 2, 3] rfl (hK31 0 w8)
              · exact J.sub [0, 1, 2, 3] rfl (hK26 w8)
  refine J.sub [2, 3, 1, 0] rfl (hL4 jFU (-1) 0 w)
theorem hd_X9_belongsAt : yX9_belongsAt.cls = RX9 ∧ yX9_belongsAt.cls ≠ "java/lang/invoke/MethodHandle" ∧ yX9_belongsAt.cls ≠ "java/lang/invoke/VarHandle" ∧ (parseMethodDescriptor yX9_belongsAt.desc).map (fun d => d.parameters.length) = some 1 := by decide +kernel
def f_X9_belongsAt (p1 : Int32) (w : j_St) : Option (Int32 × j_St) := jcb (f_X9_many w) fun v1 w2 => jcb (f_X9_in p1 0 (v1 - 1) w2) fun v4 w5 => if v4 = 0 then some ((-1), w5) else jbd p1 48 fun a8 => jlt (jgi w5 56 0 a8) fun v9 => some (v9, w5)
abbrev rm_X9_belongsAt : Room := { frames := 1, cells := 0, slots := 0, locals := 22 }
set_option maxRecDepth 100000 in
set_option maxHeartbeats 4000000 in
theorem mt_X9_belongsAt {g : j_G} {B : j_B} {p1 : Int32} {w w' : j_St} (a0 : B.2.1 1 0 ∧ B.2.2 1 0) {r : Int32} (h : f_X9_belongsAt p1 w = some (r, w')) : j_M g yX9_belongsAt cX9_belongsAt 2 (some FieldType.int) rm_X9_belongsAt B [.ref (B.1 1 0), .int p1] w w' (jri r) := by
  refine j_met (rv := jri) (by decide) (Nat.le_of_ble_eq_true rfl) (fun x hx => ?_) h
  unfold f_X9_belongsAt
  refine J.sub (lv' := [(0, .ref (B.1 1 0)), (1, .int p1)]) [0, 1] rfl ?_
  refine J.iload_n hx dX9_belongsAt_0 rfl 1 rfl ?_
  refine J.iconst (v := 0) hx dX9_belongsAt_1 (by decide) ?_
  refine J.aload_n hx dX9_belongsAt_2 rfl 0 rfl ?_
  refine J.calli hx (fun r z1 z => j_callV (κ := 1) hx rfl rfl a0.1 (mt_X9_many a0 z) (lw_V q1941 q1943 qs59 q129 q1944) hd_X9_many rfl ⟨Nat.le_of_ble_eq_true rfl, Nat.le_of_ble_eq_true rfl⟩ (Nat.le_of_ble_eq_true rfl) dX9_belongsAt_3) ⟨⟨rfl, rfl⟩, Nat.le_of_ble_eq_true rfl, Nat.le_of_ble_eq_true rfl⟩ fun v1 w2 e3 => ?_
  refine J.iconst (v := 1) hx dX9_belongsAt_6 (by decide) ?_
  refine J.isub hx dX9_belongsAt_7 ?_
  refine J.calli hx (fun r z1 z => j_callS hx (mt_X9_in z) (lw_S q1826 q1827 q129 q1828) hd_X9_in.2 rfl ⟨Nat.le_of_ble_eq_true rfl, Nat.le_of_ble_eq_true rfl⟩ (Nat.le_of_ble_eq_true rfl) dX9_belongsAt_8) ⟨⟨rfl, rfl⟩, Nat.le_of_ble_eq_true rfl, Nat.le_of_ble_eq_true rfl⟩ fun v4 w5 e6 => ?_
  refine J.if_eq (tgt := 23) hx dX9_belongsAt_11 (by decide) ?_ ?_
  · refine J.iconst (v := (-1)) hx dX9_belongsAt_23 (by decide) ?_
    exact J.iret hx rfl (Nat.le_of_ble_eq_true rfl) (Nat.le_of_ble_eq_true rfl) dX9_belongsAt_24
  · refine J.aload_n hx dX9_belongsAt_14 rfl 0 rfl ?_
    refine J.getc (κ' := 56) (i' := 0) (κ := 1) (k := 34) hx rfl rfl rfl rfl rfl in_X9 (by decide) (Or.inl q1687) a0.2 dX9_belongsAt_15 fun h7 => ?_
    refine J.iload_n hx dX9_belongsAt_18 rfl 1 rfl ?_
    refine J.iald (κ := 56) hx rfl rfl h7.1 dX9_belongsAt_19 fun v9 => ?_
    refine J.goto (tgt := 24) hx dX9_belongsAt_20 (by decide) ?_
    exact J.iret hx rfl (Nat.le_of_ble_eq_true rfl) (Nat.le_of_ble_eq_true rfl) dX9_belongsAt_24
theorem hd_X9_beginsAt : yX9_beginsAt.cls = RX9 ∧ yX9_beginsAt.cls ≠ "java/lang/invoke/MethodHandle" ∧ yX9_beginsAt.cls ≠ "java/lang/invoke/VarHandle" ∧ (parseMethodDescriptor yX9_beginsAt.desc).map (fun d => d.parameters.length) = some 1 := by decide +kernel
def f_X9_beginsAt (p1 : Int32) (w : j_St) : Option (Unit × j_St) := jlt (jgi w 1 0 35) fun v2 => jbd v2 48 fun a4 => jlt (jsi w 52 0 a4 p1) fun w3 => jlt (jgi w3 1 0 35) fun v6 => jbd v6 48 fun a8 => jlt (jsi w3 53 0 a8 (-1)) fun w7 => jlt (jgi w7 1 0 35) fun v10 => jbd v10 48 fun a12 => jlt (jsi w7 55 0 a12 (-1)) fun w11 => jlt (jgi w11 1 0 35) fun v14 => jbd p1 48 fun a16 => jlt (jsi w11 56 0 a16 v14) fun w15 => jlt (jgi w15 1 0 35) fun v17 => jlt (jsi w15 1 0 35 (v17 + 1)) fun w18 => some ((), w18)
abbrev rm_X9_beginsAt : Room := { frames := 0, cells := 0, slots := 0, locals := 0 }
set_option maxRecDepth 100000 in
set_option maxHeartbeats 4000000 in
theorem mt_X9_beginsAt {g : j_G} {B : j_B} {p1 : Int32} {w w' : j_St} (a0 : B.2.1 1 0 ∧ B.2.2 1 0) {r : Unit} (h : f_X9_beginsAt p1 w = some (r, w')) : j_M g yX9_beginsAt cX9_beginsAt 2 none rm_X9_beginsAt B [.ref (B.1 1 0), .int p1] w w' (jrv r) := by
  refine j_met (rv := jrv) (by decide) (Nat.le_of_ble_eq_true rfl) (fun x hx => ?_) h
  unfold f_X9_beginsAt
  refine J.sub (lv' := [(0, .ref (B.1 1 0)), (1, .int p1)]) [0, 1] rfl ?_
  refine J.aload_n hx dX9_beginsAt_0 rfl 0 rfl ?_
  refine J.getc (κ' := 52) (i' := 0) (κ := 1) (k := 30) hx rfl rfl rfl rfl rfl in_X9 (by decide) (Or.inl q1683) a0.2 dX9_beginsAt_1 fun h1 => ?_
  refine J.aload_n hx dX9_beginsAt_4 rfl 0 rfl ?_
  refine J.geti (κ := 1) (k := 35) hx rfl rfl rfl in_X9 (by decide) (Or.inl q1688) a0.1 dX9_beginsAt_5 fun v2 => ?_
  refine J.iload_n hx dX9_beginsAt_8 rfl 1 rfl ?_
  refine J.iast (κ := 52) hx rfl rfl rfl h1.1 dX9_beginsAt_9 fun w3 => ?_
  refine J.aload_n hx dX9_beginsAt_10 rfl 0 rfl ?_
  refine J.getc (κ' := 53) (i' := 0) (κ := 1) (k := 31) hx rfl rfl rfl rfl rfl in_X9 (by decide) (Or.inl q1684) a0.2 dX9_beginsAt_11 fun h5 => ?_
  refine J.aload_n hx dX9_beginsAt_14 rfl 0 rfl ?_
  refine J.geti (κ := 1) (k := 35) hx rfl rfl rfl in_X9 (by decide) (Or.inl q1688) a0.1 dX9_beginsAt_15 fun v6 => ?_
  refine J.iconst (v := (-1)) hx dX9_beginsAt_18 (by decide) ?_
  refine J.iast (κ := 53) hx rfl rfl rfl h5.1 dX9_beginsAt_19 fun w7 => ?_
  refine J.aload_n hx dX9_beginsAt_20 rfl 0 rfl ?_
  refine J.getc (κ' := 55) (i' := 0) (κ := 1) (k := 33) hx rfl rfl rfl rfl rfl in_X9 (by decide) (Or.inl q1686) a0.2 dX9_beginsAt_21 fun h9 => ?_
  refine J.aload_n hx dX9_beginsAt_24 rfl 0 rfl ?_
  refine J.geti (κ := 1) (k := 35) hx rfl rfl rfl in_X9 (by decide) (Or.inl q1688) a0.1 dX9_beginsAt_25 fun v10 => ?_
  refine J.iconst (v := (-1)) hx dX9_beginsAt_28 (by decide) ?_
  refine J.iast (κ := 55) hx rfl rfl rfl h9.1 dX9_beginsAt_29 fun w11 => ?_
  refine J.aload_n hx dX9_beginsAt_30 rfl 0 rfl ?_
  refine J.getc (κ' := 56) (i' := 0) (κ := 1) (k := 34) hx rfl rfl rfl rfl rfl in_X9 (by decide) (Or.inl q1687) a0.2 dX9_beginsAt_31 fun h13 => ?_
  refine J.iload_n hx dX9_beginsAt_34 rfl 1 rfl ?_
  refine J.aload_n hx dX9_beginsAt_35 rfl 0 rfl ?_
  refine J.geti (κ := 1) (k := 35) hx rfl rfl rfl in_X9 (by decide) (Or.inl q1688) a0.1 dX9_beginsAt_36 fun v14 => ?_
  refine J.iast (κ := 56) hx rfl rfl rfl h13.1 dX9_beginsAt_39 fun w15 => ?_
  refine J.aload_n hx dX9_beginsAt_40 rfl 0 rfl ?_
  refine J.dup hx dX9_beginsAt_41 rfl ?_
  refine J.geti (κ := 1) (k := 35) hx rfl rfl rfl in_X9 (by decide) (Or.inl q1688) a0.1 dX9_beginsAt_42 fun v17 => ?_
  refine J.iconst (v := 1) hx dX9_beginsAt_45 (by decide) ?_
  refine J.iadd hx dX9_beginsAt_46 ?_
  refine J.puti (κ := 1) (k := 35) hx rfl rfl rfl in_X9 tyX9_ok nmX9 (by decide) (Or.inl q1688) rfl rfl a0.1 ⟨rfl, rfl⟩ dX9_beginsAt_47 fun w18 => ?_
  exact J.vret hx rfl (Nat.le_of_ble_eq_true rfl) (Nat.le_of_ble_eq_true rfl) dX9_beginsAt_50
theorem hd_X9_joins : yX9_joins.cls = RX9 ∧ yX9_joins.cls ≠ "java/lang/invoke/MethodHandle" ∧ yX9_joins.cls ≠ "java/lang/invoke/VarHandle" ∧ (parseMethodDescriptor yX9_joins.desc).map (fun d => d.parameters.length) = some 3 := by decide +kernel
def f_X9_joins_L47 (v1 : Int32) (v2 : Int32) (k93 : j_St → Option (Unit × j_St)) : Nat → Int32 → j_St → Option (Unit × j_St)
  | 0, _, _ => none
  | n47 + 1, v15, w16 => jcb (f_X9_many w16) fun v17 w18 => if v17 ≤ v15 then k93 w18 else jbd v15 48 fun a22 => jlt (jgi w18 56 0 a22) fun v23 => jlt (fun (v27 : Int32) (w28 : j_St) => jbd v15 48 fun a30 => jlt (jsi w28 56 0 a30 v27) fun w29 => jlt (v15 + 1) fun v31 => f_X9_joins_L47 v1 v2 k93 n47 v31 w29) fun K86 => if v23 = v2 then K86 v1 w18 else jbd v15 48 fun a25 => jlt (jgi w18 56 0 a25) fun v26 => K86 v26 w18
def f_X9_joins (p1 : Int32) (p2 : Int32) (p3 : Int32) (w : j_St) : Option (Unit × j_St) := jlt (jmin p1 p2) fun v1 => jlt (jmax p1 p2) fun v2 => jbd v2 48 fun a5 => jlt (jsi w 53 0 a5 p3) fun w4 => jbd p3 231 fun a8 => jlt (jgi w4 47 0 a8) fun v9 => jbd v2 48 fun a11 => jlt (jsi w4 54 0 a11 v9) fun w10 => jbd v2 48 fun a14 => jlt (jsi w10 55 0 a14 v1) fun w13 => f_X9_joins_L47 v1 v2 (fun (w32 : j_St) => jbd p3 48 fun a35 => jlt (jsi w32 56 0 a35 v1) fun w34 => some ((), w34)) jFU 0 w13
abbrev rm_X9_joins : Room := { frames := 1, cells := 0, slots := 0, locals := 21 }
set_option maxRecDepth 100000 in
set_option maxHeartbeats 4000000 in
theorem mt_X9_joins {g : j_G} {B : j_B} {p1 : Int32} {p2 : Int32} {p3 : Int32} {w w' : j_St} (a0 : B.2.1 1 0 ∧ B.2.2 1 0) {r : Unit} (h : f_X9_joins p1 p2 p3 w = some (r, w')) : j_M g yX9_joins cX9_joins 7 none rm_X9_joins B [.ref (B.1 1 0), .int p1, .int p2, .int p3] w w' (jrv r) := by
  refine j_met (rv := jrv) (by decide) (Nat.le_of_ble_eq_true rfl) (fun x hx => ?_) h
  unfold f_X9_joins
  refine J.sub (lv' := [(0, .ref (B.1 1 0)), (1, .int p1), (2, .int p2), (3, .int p3)]) [0, 1, 2, 3] rfl ?_
  refine J.iload_n hx dX9_joins_0 rfl 1 rfl ?_
  refine J.iload_n hx dX9_joins_1 rfl 2 rfl ?_
  refine J.mmin hx q1982 q192 q123 q193 ⟨Nat.le_of_ble_eq_true rfl, Nat.le_of_ble_eq_true rfl⟩ (Nat.le_of_ble_eq_true rfl) (Nat.le_of_ble_eq_true rfl) (Nat.le_of_ble_eq_true rfl) dX9_joins_2 ?_
  refine J.nmi fun v1 => ?_
  refine J.istore (lv' := [(4, .int v1), (0, .ref (B.1 1 0)), (1, .int p1), (2, .int p2), (3, .int p3)]) hx dX9_joins_5 (by decide) rfl ?_
  refine J.iload_n hx dX9_joins_7 rfl 2 rfl ?_
  refine J.iload_n hx dX9_joins_8 rfl 3 rfl ?_
  refine J.mmax hx q1981 q195 q123 q196 ⟨Nat.le_of_ble_eq_true rfl, Nat.le_of_ble_eq_true rfl⟩ (Nat.le_of_ble_eq_true rfl) (Nat.le_of_ble_eq_true rfl) (Nat.le_of_ble_eq_true rfl) dX9_joins_9 ?_
  refine J.nmi fun v2 => ?_
  refine J.istore (lv' := [(5, .int v2), (4, .int v1), (0, .ref (B.1 1 0)), (1, .int p1), (2, .int p2), (3, .int p3)]) hx dX9_joins_12 (by decide) rfl ?_
  refine J.aload_n hx dX9_joins_14 rfl 2 rfl ?_
  refine J.getc (κ' := 53) (i' := 0) (κ := 1) (k := 31) hx rfl rfl rfl rfl rfl in_X9 (by decide) (Or.inl q1684) a0.2 dX9_joins_15 fun h3 => ?_
  refine J.iload hx dX9_joins_18 0 rfl ?_
  refine J.iload_n hx dX9_joins_20 rfl 5 rfl ?_
  refine J.iast (κ := 53) hx rfl rfl rfl h3.1 dX9_joins_21 fun w4 => ?_
  refine J.aload_n hx dX9_joins_22 rfl 2 rfl ?_
  refine J.getc (κ' := 54) (i' := 0) (κ := 1) (k := 32) hx rfl rfl rfl rfl rfl in_X9 (by decide) (Or.inl q1685) a0.2 dX9_joins_23 fun h6 => ?_
  refine J.iload hx dX9_joins_26 0 rfl ?_
  refine J.aload_n hx dX9_joins_28 rfl 2 rfl ?_
  refine J.getc (κ' := 47) (i' := 0) (κ := 1) (k := 22) hx rfl rfl rfl rfl rfl in_X9 (by decide) (Or.inl q1675) a0.2 dX9_joins_29 fun h7 => ?_
  refine J.iload_n hx dX9_joins_32 rfl 5 rfl ?_
  refine J.iald (κ := 47) hx rfl rfl h7.1 dX9_joins_33 fun v9 => ?_
  refine J.iast (κ := 54) hx rfl rfl rfl h6.1 dX9_joins_34 fun w10 => ?_
  refine J.aload_n hx dX9_joins_35 rfl 2 rfl ?_
  refine J.getc (κ' := 55) (i' := 0) (κ := 1) (k := 33) hx rfl rfl rfl rfl rfl in_X9 (by decide) (Or.inl q1686) a0.2 dX9_joins_36 fun h12 => ?_
  refine J.iload hx dX9_joins_39 0 rfl ?_
  refine J.iload hx dX9_joins_41 1 rfl ?_
  refine J.iast (κ := 55) hx rfl rfl rfl h12.1 dX9_joins_43 fun w13 => ?_
  refine J.iconst (v := 0) hx dX9_joins_44 (by decide) ?_
  refine J.istore (lv' := [(6, .int 0), (5, .int v2), (4, .int v1), (0, .ref (B.1 1 0)), (1, .int p1), (2, .int p2), (3, .int p3)]) hx dX9_joins_45 (by decide) rfl ?_
  have hL47 : ∀ (k93 : j_St → Option (Unit × j_St)) (hk93 : ∀  (w32 : j_St), J g x 7 B (j_Q g x B rm_X9_joins jrv) 0 0 (k93 w32) 93 [(0, .ref (B.1 1 0)), (3, .int p3), (4, .int v1)] [] w32) (n47 : Nat) (v15 : Int32) (w16 : j_St), J g x 7 B (j_Q g x B rm_X9_joins jrv) 0 0 (f_X9_joins_L47 v1 v2 k93 n47 v15 w16) 47 [(0, .ref (B.1 1 0)), (3, .int p3), (4, .int v1), (5, .int v2), (6, .int v15)] [] w16 := by
    intro k93 hk93 n47
    induction n47 with
    | zero =>
      intro v15 w16
      rw [f_X9_joins_L47]
      exact J.nne
    | succ n47 ih =>
      intro v15 w16
      rw [f_X9_joins_L47]
      refine J.iload hx dX9_joins_47 4 rfl ?_
      refine J.aload_n hx dX9_joins_49 rfl 0 rfl ?_
      refine J.calli hx (fun r z1 z => j_callV (κ := 1) hx rfl rfl a0.1 (mt_X9_many a0 z) (lw_V q1941 q1943 qs59 q129 q1944) hd_X9_many rfl ⟨Nat.le_of_ble_eq_true rfl, Nat.le_of_ble_eq_true rfl⟩ (Nat.le_of_ble_eq_true rfl) dX9_joins_50) ⟨⟨rfl, rfl⟩, Nat.le_of_ble_eq_true rfl, Nat.le_of_ble_eq_true rfl⟩ fun v17 w18 e19 => ?_
      refine J.icmp_ge (tgt := 93) hx dX9_joins_53 (by decide) ?_ ?_
      · exact J.sub [0, 1, 2] rfl (hk93 w18)
      · refine J.aload_n hx dX9_joins_56 rfl 0 rfl ?_
        refine J.getc (κ' := 56) (i' := 0) (κ := 1) (k := 34) hx rfl rfl rfl rfl rfl in_X9 (by decide) (Or.inl q1687) a0.2 dX9_joins_57 fun h20 => ?_
        refine J.iload hx dX9_joins_60 4 rfl ?_
        refine J.aload_n hx dX9_joins_62 rfl 0 rfl ?_
        refine J.getc (κ' := 56) (i' := 0) (κ := 1) (k := 34) hx rfl rfl rfl rfl rfl in_X9 (by decide) (Or.inl q1687) a0.2 dX9_joins_63 fun h21 => ?_
        refine J.iload hx dX9_joins_66 4 rfl ?_
        refine J.iald (κ := 56) hx rfl rfl h21.1 dX9_joins_68 fun v23 => ?_
        refine J.iload hx dX9_joins_69 3 rfl ?_
        refine J.fn (fun (K86 : Int32 → j_St → Option (Unit × j_St)) => ∀ (v27 : Int32) (w28 : j_St), J g x 7 B (j_Q g x B rm_X9_joins jrv) 0 0 (K86 v27 w28) 86 [(0, .ref (B.1 1 0)), (3, .int p3), (4, .int v1), (5, .int v2), (6, .int v15)] [.int v27, .int v15, .ref (B.1 56 0)] w28) ?_ ?_
        · intro v27 w28
          refine J.iast (κ := 56) hx rfl rfl rfl h20.1 dX9_joins_86 fun w29 => ?_
          refine J.nmx fun v31 ev31 => ?_
          refine J.iinc (p := 4) (v := v31) (lv' := [(6, .int v31), (0, .ref (B.1 1 0)), (3, .int p3), (4, .int v1), (5, .int v2)]) hx dX9_joins_87 rfl (by rw [ev31]; rfl) (by decide) rfl ?_
          refine J.goto (tgt := 47) hx dX9_joins_90 (by decide) ?_
          exact J.sub [1, 2, 3, 4, 0] rfl (ih v31 w29)
        · intro K86 hK86
          refine J.icmp_ne (tgt := 79) hx dX9_joins_71 (by decide) ?_ ?_
          · refine J.iload hx dX9_joins_74 2 rfl ?_
            refine J.goto (tgt := 86) hx dX9_joins_76 (by decide) ?_
            exact J.sub [0, 1, 2, 3, 4] rfl (hK86 v1 w18)
          · refine J.aload_n hx dX9_joins_79 rfl 0 rfl ?_
            refine J.getc (κ' := 56) (i' := 0) (κ := 1) (k := 34) hx rfl rfl rfl rfl rfl in_X9 (by decide) (Or.inl q1687) a0.2 dX9_joins_80 fun h24 => ?_
            refine J.iload hx dX9_joins_83 4 rfl ?_
            refine J.iald (κ := 56) hx rfl rfl h24.1 dX9_joins_85 fun v26 => ?_
            exact J.sub [0, 1, 2, 3, 4] rfl (hK86 v26 w18)
  refine J.sub [3, 6, 2, 1, 0] rfl (hL47 _ ?_ jFU 0 w13)
  · intro w32
    refine J.aload_n hx dX9_joins_93 rfl 0 rfl ?_
    refine J.getc (κ' := 56) (i' := 0) (κ := 1) (k := 34) hx rfl rfl rfl rfl rfl in_X9 (by decide) (Or.inl q1687) a0.2 dX9_joins_94 fun h33 => ?_
    refine J.iload_n hx dX9_joins_97 rfl 1 rfl ?_
    refine J.iload hx dX9_joins_98 2 rfl ?_
    refine J.iast (κ := 56) hx rfl rfl rfl h33.1 dX9_joins_100 fun w34 => ?_
    exact J.vret hx rfl (Nat.le_of_ble_eq_true rfl) (Nat.le_of_ble_eq_true rfl) dX9_joins_101
theorem hd_X9_least : yX9_least.cls = RX9 ∧ yX9_least.cls ≠ "java/lang/invoke/MethodHandle" ∧ yX9_least.cls ≠ "java/lang/invoke/VarHandle" ∧ (parseMethodDescriptor yX9_least.desc).map (fun d => d.parameters.length) = some 0 := by decide +kernel
def f_X9_least_L9   : Nat → Int32 → Int32 → j_St → Option (Int32 × j_St)
  | 0, _, _, _ => none
  | n9 + 1, v4, v5, w6 => jcb (f_X9_many w6) fun v7 w8 => if v7 ≤ v5 then some (v4, w8) else jbd v5 231 fun a11 => jlt (jgi w8 47 0 a11) fun v12 => jlt (jmin v4 v12) fun v13 => jlt (v5 + 1) fun v14 => f_X9_least_L9 n9 v13 v14 w8
def f_X9_least  (w : j_St) : Option (Int32 × j_St) := jbd 0 231 fun a2 => jlt (jgi w 47 0 a2) fun v3 => f_X9_least_L9 jFU v3 1 w
abbrev rm_X9_least : Room := { frames := 1, cells := 0, slots := 0, locals := 21 }
set_option maxRecDepth 100000 in
set_option maxHeartbeats 4000000 in
theorem mt_X9_least {g : j_G} {B : j_B}  {w w' : j_St} (a0 : B.2.1 1 0 ∧ B.2.2 1 0) {r : Int32} (h : f_X9_least  w = some (r, w')) : j_M g yX9_least cX9_least 3 (some FieldType.int) rm_X9_least B [.ref (B.1 1 0)] w w' (jri r) := by
  refine j_met (rv := jri) (by decide) (Nat.le_of_ble_eq_true rfl) (fun x hx => ?_) h
  unfold f_X9_least
  refine J.sub (lv' := [(0, .ref (B.1 1 0))]) [0] rfl ?_
  refine J.aload_n hx dX9_least_0 rfl 0 rfl ?_
  refine J.getc (κ' := 47) (i' := 0) (κ := 1) (k := 22) hx rfl rfl rfl rfl rfl in_X9 (by decide) (Or.inl q1675) a0.2 dX9_least_1 fun h1 => ?_
  refine J.iconst (v := 0) hx dX9_least_4 (by decide) ?_
  refine J.iald (κ := 47) hx rfl rfl h1.1 dX9_least_5 fun v3 => ?_
  refine J.istore_n (lv' := [(1, .int v3), (0, .ref (B.1 1 0))]) hx dX9_least_6 rfl (by decide) rfl ?_
  refine J.iconst (v := 1) hx dX9_least_7 (by decide) ?_
  refine J.istore_n (lv' := [(2, .int 1), (1, .int v3), (0, .ref (B.1 1 0))]) hx dX9_least_8 rfl (by decide) rfl ?_
  have hL9 : ∀ (n9 : Nat) (v4 : Int32) (v5 : Int32) (w6 : j_St), J g x 3 B (j_Q g x B rm_X9_least jri) 0 0 (f_X9_least_L9 n9 v4 v5 w6) 9 [(0, .ref (B.1 1 0)), (1, .int v4), (2, .int v5)] [] w6 := by
    intro n9
    induction n9 with
    | zero =>
      intro v4 v5 w6
      rw [f_X9_least_L9]
      exact J.nne
    | succ n9 ih =>
      intro v4 v5 w6
      rw [f_X9_least_L9]
      refine J.iload_n hx dX9_least_9 rfl 2 rfl ?_
      refine J.aload_n hx dX9_least_10 rfl 0 rfl ?_
      refine J.calli hx (fun r z1 z => j_callV (κ := 1) hx rfl rfl a0.1 (mt_X9_many a0 z) (lw_V q1941 q1943 qs59 q129 q1944) hd_X9_many rfl ⟨Nat.le_of_ble_eq_true rfl, Nat.le_of_ble_eq_true rfl⟩ (Nat.le_of_ble_eq_true rfl) dX9_least_11) ⟨⟨rfl, rfl⟩, Nat.le_of_ble_eq_true rfl, Nat.le_of_ble_eq_true rfl⟩ fun v7 w8 e9 => ?_
      refine J.icmp_ge (tgt := 34) hx dX9_least_14 (by decide) ?_ ?_
      · refine J.iload_n hx dX9_least_34 rfl 1 rfl ?_
        exact J.iret hx rfl (Nat.le_of_ble_eq_true rfl) (Nat.le_of_ble_eq_true rfl) dX9_least_35
      · refine J.iload_n hx dX9_least_17 rfl 1 rfl ?_
        refine J.aload_n hx dX9_least_18 rfl 0 rfl ?_
        refine J.getc (κ' := 47) (i' := 0) (κ := 1) (k := 22) hx rfl rfl rfl rfl rfl in_X9 (by decide) (Or.inl q1675) a0.2 dX9_least_19 fun h10 => ?_
        refine J.iload_n hx dX9_least_22 rfl 2 rfl ?_
        refine J.iald (κ := 47) hx rfl rfl h10.1 dX9_least_23 fun v12 => ?_
        refine J.mmin hx q1982 q192 q123 q193 ⟨Nat.le_of_ble_eq_true rfl, Nat.le_of_ble_eq_true rfl⟩ (Nat.le_of_ble_eq_true rfl) (Nat.le_of_ble_eq_true rfl) (Nat.le_of_ble_eq_true rfl) dX9_least_24 ?_
        refine J.nmi fun v13 => ?_
        refine J.istore_n (lv' := [(1, .int v13), (0, .ref (B.1 1 0)), (2, .int v5)]) hx dX9_least_27 rfl (by decide) rfl ?_
        refine J.nmx fun v14 ev14 => ?_
        refine J.iinc (p := 2) (v := v14) (lv' := [(2, .int v14), (1, .int v13), (0, .ref (B.1 1 0))]) hx dX9_least_28 rfl (by rw [ev14]; rfl) (by decide) rfl ?_
        refine J.goto (tgt := 9) hx dX9_least_31 (by decide) ?_
        exact J.sub [2, 1, 0] rfl (ih v13 v14 w8)
  refine J.sub [2, 1, 0] rfl (hL9 jFU v3 1 w)
theorem hd_X9_lets : yX9_lets.cls = RX9 ∧ yX9_lets.cls ≠ "java/lang/invoke/MethodHandle" ∧ yX9_lets.cls ≠ "java/lang/invoke/VarHandle" ∧ (parseMethodDescriptor yX9_lets.desc).map (fun d => d.parameters.length) = some 0 := by decide +kernel
def f_X9_lets_L7  (k28 : j_St → Option (Unit × j_St)) : Nat → Int32 → j_St → Option (Unit × j_St)
  | 0, _, _ => none
  | n7 + 1, v2, w3 => jcb (f_X9_many w3) fun v4 w5 => if v4 ≤ v2 then k28 w5 else jbd v2 48 fun a9 => jlt (jsi w5 56 0 a9 (-1)) fun w8 => jlt (v2 + 1) fun v10 => f_X9_lets_L7 k28 n7 v10 w8
def f_X9_lets_L36  (k137 : j_St → Option (Unit × j_St)) : Nat → Int32 → Int32 → j_St → Option (Unit × j_St)
  | 0, _, _, _ => none
  | n36 + 1, v15, v16, w17 => jcb (f_X9_many w17) fun v18 w19 => if v18 ≤ v16 then k137 w19 else jcb (f_X9_belongsAt (v15 - 1) w19) fun v21 w22 => jcb (f_X9_belongsAt (v15 + 1) w22) fun v24 w25 => jlt (fun (w40 : j_St) => jcb (f_X9_nextBehind v15 w40) fun v41 w42 => jlt (v16 + 1) fun v44 => f_X9_lets_L36 k137 n36 v41 v44 w42) fun K125 => jlt (fun (w30 : j_St) => jlt (fun (w34 : j_St) => jlt (fun (v36 : Int32) (w37 : j_St) => jbd v15 48 fun a39 => jlt (jsi w37 56 0 a39 v36) fun w38 => K125 w38) fun K113 => if v21 = (-1) then K113 v24 w34 else K113 v21 w34) fun K97 => if v21 = (-1) then K97 w30 else if v24 = (-1) then K97 w30 else if v21 = v24 then K97 w30 else jcb (f_X9_joins v21 v24 v15 w30) fun _ w32 => K125 w32) fun K80 => if v21 = (-1) then if v24 = (-1) then jcb (f_X9_beginsAt v15 w25) fun _ w28 => K125 w28 else K80 w25 else K80 w25
def f_X9_lets  (w : j_St) : Option (Unit × j_St) := jlt (jsi w 1 0 35 0) fun w1 => f_X9_lets_L7 (fun (w11 : j_St) => jcb (f_X9_nextBehind (-1) w11) fun v12 w13 => f_X9_lets_L36 (fun (w45 : j_St) => jcb (f_X9_least w45) fun v47 w48 => jbd 0 48 fun a51 => jlt (jsi w48 54 0 a51 v47) fun w50 => some ((), w50)) jFU v12 0 w13) jFU 0 w1
abbrev rm_X9_lets : Room := { frames := 2, cells := 0, slots := 0, locals := 47 }
set_option maxRecDepth 100000 in
set_option maxHeartbeats 4000000 in
theorem mt_X9_lets {g : j_G} {B : j_B}  {w w' : j_St} (a0 : B.2.1 1 0 ∧ B.2.2 1 0) {r : Unit} (h : f_X9_lets  w = some (r, w')) : j_M g yX9_lets cX9_lets 5 none rm_X9_lets B [.ref (B.1 1 0)] w w' (jrv r) := by
  refine j_met (rv := jrv) (by decide) (Nat.le_of_ble_eq_true rfl) (fun x hx => ?_) h
  unfold f_X9_lets
  refine J.sub (lv' := [(0, .ref (B.1 1 0))]) [0] rfl ?_
  refine J.aload_n hx dX9_lets_0 rfl 0 rfl ?_
  refine J.iconst (v := 0) hx dX9_lets_1 (by decide) ?_
  refine J.puti (κ := 1) (k := 35) hx rfl rfl rfl in_X9 tyX9_ok nmX9 (by decide) (Or.inl q1688) rfl rfl a0.1 ⟨rfl, rfl⟩ dX9_lets_2 fun w1 => ?_
  refine J.iconst (v := 0) hx dX9_lets_5 (by decide) ?_
  refine J.istore_n (lv' := [(1, .int 0), (0, .ref (B.1 1 0))]) hx dX9_lets_6 rfl (by decide) rfl ?_
  have hL7 : ∀ (k28 : j_St → Option (Unit × j_St)) (hk28 : ∀  (w11 : j_St), J g x 5 B (j_Q g x B rm_X9_lets jrv) 0 0 (k28 w11) 28 [(0, .ref (B.1 1 0))] [] w11) (n7 : Nat) (v2 : Int32) (w3 : j_St), J g x 5 B (j_Q g x B rm_X9_lets jrv) 0 0 (f_X9_lets_L7 k28 n7 v2 w3) 7 [(0, .ref (B.1 1 0)), (1, .int v2)] [] w3 := by
    intro k28 hk28 n7
    induction n7 with
    | zero =>
      intro v2 w3
      rw [f_X9_lets_L7]
      exact J.nne
    | succ n7 ih =>
      intro v2 w3
      rw [f_X9_lets_L7]
      refine J.iload_n hx dX9_lets_7 rfl 1 rfl ?_
      refine J.aload_n hx dX9_lets_8 rfl 0 rfl ?_
      refine J.calli hx (fun r z1 z => j_callV (κ := 1) hx rfl rfl a0.1 (mt_X9_many a0 z) (lw_V q1941 q1943 qs59 q129 q1944) hd_X9_many rfl ⟨Nat.le_of_ble_eq_true rfl, Nat.le_of_ble_eq_true rfl⟩ (Nat.le_of_ble_eq_true rfl) dX9_lets_9) ⟨⟨rfl, rfl⟩, Nat.le_of_ble_eq_true rfl, Nat.le_of_ble_eq_true rfl⟩ fun v4 w5 e6 => ?_
      refine J.icmp_ge (tgt := 28) hx dX9_lets_12 (by decide) ?_ ?_
      · exact J.sub [0] rfl (hk28 w5)
      · refine J.aload_n hx dX9_lets_15 rfl 0 rfl ?_
        refine J.getc (κ' := 56) (i' := 0) (κ := 1) (k := 34) hx rfl rfl rfl rfl rfl in_X9 (by decide) (Or.inl q1687) a0.2 dX9_lets_16 fun h7 => ?_
        refine J.iload_n hx dX9_lets_19 rfl 1 rfl ?_
        refine J.iconst (v := (-1)) hx dX9_lets_20 (by decide) ?_
        refine J.iast (κ := 56) hx rfl rfl rfl h7.1 dX9_lets_21 fun w8 => ?_
        refine J.nmx fun v10 ev10 => ?_
        refine J.iinc (p := 1) (v := v10) (lv' := [(1, .int v10), (0, .ref (B.1 1 0))]) hx dX9_lets_22 rfl (by rw [ev10]; rfl) (by decide) rfl ?_
        refine J.goto (tgt := 7) hx dX9_lets_25 (by decide) ?_
        exact J.sub [1, 0] rfl (ih v10 w8)
  refine J.sub [1, 0] rfl (hL7 _ ?_ jFU 0 w1)
  · intro w11
    refine J.aload_n hx dX9_lets_28 rfl 0 rfl ?_
    refine J.iconst (v := (-1)) hx dX9_lets_29 (by decide) ?_
    refine J.calli hx (fun r z1 z => j_callV (κ := 1) hx rfl rfl a0.1 (mt_X9_nextBehind a0 z) (lw_V q1998 q2000 qs71 q129 q2001) hd_X9_nextBehind rfl ⟨Nat.le_of_ble_eq_true rfl, Nat.le_of_ble_eq_true rfl⟩ (Nat.le_of_ble_eq_true rfl) dX9_lets_30) ⟨⟨rfl, rfl⟩, Nat.le_of_ble_eq_true rfl, Nat.le_of_ble_eq_true rfl⟩ fun v12 w13 e14 => ?_
    refine J.istore_n (lv' := [(1, .int v12), (0, .ref (B.1 1 0))]) hx dX9_lets_33 rfl (by decide) rfl ?_
    refine J.iconst (v := 0) hx dX9_lets_34 (by decide) ?_
    refine J.istore_n (lv' := [(2, .int 0), (1, .int v12), (0, .ref (B.1 1 0))]) hx dX9_lets_35 rfl (by decide) rfl ?_
    have hL36 : ∀ (k137 : j_St → Option (Unit × j_St)) (hk137 : ∀  (w45 : j_St), J g x 5 B (j_Q g x B rm_X9_lets jrv) 0 0 (k137 w45) 137 [(0, .ref (B.1 1 0))] [] w45) (n36 : Nat) (v15 : Int32) (v16 : Int32) (w17 : j_St), J g x 5 B (j_Q g x B rm_X9_lets jrv) 0 0 (f_X9_lets_L36 k137 n36 v15 v16 w17) 36 [(0, .ref (B.1 1 0)), (1, .int v15), (2, .int v16)] [] w17 := by
      intro k137 hk137 n36
      induction n36 with
      | zero =>
        intro v15 v16 w17
        rw [f_X9_lets_L36]
        exact J.nne
      | succ n36 ih =>
        intro v15 v16 w17
        rw [f_X9_lets_L36]
        refine J.iload_n hx dX9_lets_36 rfl 2 rfl ?_
        refine J.aload_n hx dX9_lets_37 rfl 0 rfl ?_
        refine J.calli hx (fun r z1 z => j_callV (κ := 1) hx rfl rfl a0.1 (mt_X9_many a0 z) (lw_V q1941 q1943 qs59 q129 q1944) hd_X9_many rfl ⟨Nat.le_of_ble_eq_true rfl, Nat.le_of_ble_eq_true rfl⟩ (Nat.le_of_ble_eq_true rfl) dX9_lets_38) ⟨⟨rfl, rfl⟩, Nat.le_of_ble_eq_true rfl, Nat.le_of_ble_eq_true rfl⟩ fun v18 w19 e20 => ?_
        refine J.icmp_ge (tgt := 137) hx dX9_lets_41 (by decide) ?_ ?_
        · exact J.sub [0] rfl (hk137 w19)
        · refine J.aload_n hx dX9_lets_44 rfl 0 rfl ?_
          refine J.iload_n hx dX9_lets_45 rfl 1 rfl ?_
          refine J.iconst (v := 1) hx dX9_lets_46 (by decide) ?_
          refine J.isub hx dX9_lets_47 ?_
          refine J.calli hx (fun r z1 z => j_callV (κ := 1) hx rfl rfl a0.1 (mt_X9_belongsAt a0 z) (lw_V q2006 q2008 qs73 q129 q2009) hd_X9_belongsAt rfl ⟨Nat.le_of_ble_eq_true rfl, Nat.le_of_ble_eq_true rfl⟩ (Nat.le_of_ble_eq_true rfl) dX9_lets_48) ⟨⟨rfl, rfl⟩, Nat.le_of_ble_eq_true rfl, Nat.le_of_ble_eq_true rfl⟩ fun v21 w22 e23 => ?_
          refine J.istore_n (lv' := [(3, .int v21), (0, .ref (B.1 1 0)), (1, .int v15), (2, .int v16)]) hx dX9_lets_51 rfl (by decide) rfl ?_
          refine J.aload_n hx dX9_lets_52 rfl 1 rfl ?_
          refine J.iload_n hx dX9_lets_53 rfl 2 rfl ?_
          refine J.iconst (v := 1) hx dX9_lets_54 (by decide) ?_
          refine J.iadd hx dX9_lets_55 ?_
          refine J.calli hx (fun r z1 z => j_callV (κ := 1) hx rfl rfl a0.1 (mt_X9_belongsAt a0 z) (lw_V q2006 q2008 qs73 q129 q2009) hd_X9_belongsAt rfl ⟨Nat.le_of_ble_eq_true rfl, Nat.le_of_ble_eq_true rfl⟩ (Nat.le_of_ble_eq_true rfl) dX9_lets_56) ⟨⟨rfl, rfl⟩, Nat.le_of_ble_eq_true rfl, Nat.le_of_ble_eq_true rfl⟩ fun v24 w25 e26 => ?_
          refine J.istore (lv' := [(4, .int v24), (3, .int v21), (0, .ref (B.1 1 0)), (1, .int v15), (2, .int v16)]) hx dX9_lets_59 (by decide) rfl ?_
          refine J.iload_n hx dX9_lets_61 rfl 1 rfl ?_
          refine J.iconst (v := (-1)) hx dX9_lets_62 (by decide) ?_
          refine J.fn (fun (K125 : j_St → Option (Unit × j_St)) => ∀  (w40 : j_St), J g x 5 B (j_Q g x B rm_X9_lets jrv) 0 0 (K125 w40) 125 [(0, .ref (B.1 1 0)), (1, .int v15), (2, .int v16)] [] w40) ?_ ?_
          · intro w40
            refine J.aload_n hx dX9_lets_125 rfl 0 rfl ?_
            refine J.iload_n hx dX9_lets_126 rfl 1 rfl ?_
            refine J.calli hx (fun r z1 z => j_callV (κ := 1) hx rfl rfl a0.1 (mt_X9_nextBehind a0 z) (lw_V q1998 q2000 qs71 q129 q2001) hd_X9_nextBehind rfl ⟨Nat.le_of_ble_eq_true rfl, Nat.le_of_ble_eq_true rfl⟩ (Nat.le_of_ble_eq_true rfl) dX9_lets_127) ⟨⟨rfl, rfl⟩, Nat.le_of_ble_eq_true rfl, Nat.le_of_ble_eq_true rfl⟩ fun v41 w42 e43 => ?_
            refine J.istore_n (lv' := [(1, .int v41), (0, .ref (B.1 1 0)), (2, .int v16)]) hx dX9_lets_130 rfl (by decide) rfl ?_
            refine J.nmx fun v44 ev44 => ?_
            refine J.iinc (p := 2) (v := v44) (lv' := [(2, .int v44), (1, .int v41), (0, .ref (B.1 1 0))]) hx dX9_lets_131 rfl (by rw [ev44]; rfl) (by decide) rfl ?_
            refine J.goto (tgt := 36) hx dX9_lets_134 (by decide) ?_
            exact J.sub [2, 1, 0] rfl (ih v41 v44 w42)
          · intro K125 hK125
            refine J.fn (fun (K80 : j_St → Option (Unit × j_St)) => ∀  (w30 : j_St), J g x 5 B (j_Q g x B rm_X9_lets jrv) 0 0 (K80 w30) 80 [(0, .ref (B.1 1 0)), (1, .int v15), (2, .int v16), (3, .int v21), (4, .int v24)] [] w30) ?_ ?_
            · intro w30
              refine J.iload_n hx dX9_lets_80 rfl 3 rfl ?_
              refine J.iconst (v := (-1)) hx dX9_lets_81 (by decide) ?_
              refine J.fn (fun (K97 : j_St → Option (Unit × j_St)) => ∀  (w34 : j_St), J g x 5 B (j_Q g x B rm_X9_lets jrv) 0 0 (K97 w34) 97 [(0, .ref (B.1 1 0)), (1, .int v15), (2, .int v16), (3, .int v21), (4, .int v24)] [] w34) ?_ ?_
              · intro w34
                refine J.aload_n hx dX9_lets_97 rfl 0 rfl ?_
                refine J.getc (κ' := 56) (i' := 0) (κ := 1) (k := 34) hx rfl rfl rfl rfl rfl in_X9 (by decide) (Or.inl q1687) a0.2 dX9_lets_98 fun h35 => ?_
                refine J.iload_n hx dX9_lets_101 rfl 1 rfl ?_
                refine J.iload_n hx dX9_lets_102 rfl 3 rfl ?_
                refine J.iconst (v := (-1)) hx dX9_lets_103 (by decide) ?_
                refine J.fn (fun (K113 : Int32 → j_St → Option (Unit × j_St)) => ∀ (v36 : Int32) (w37 : j_St), J g x 5 B (j_Q g x B rm_X9_lets jrv) 0 0 (K113 v36 w37) 113 [(0, .ref (B.1 1 0)), (1, .int v15), (2, .int v16)] [.int v36, .int v15, .ref (B.1 56 0)] w37) ?_ ?_
                · intro v36 w37
                  refine J.iast (κ := 56) hx rfl rfl rfl h35.1 dX9_lets_113 fun w38 => ?_
                  refine J.goto (tgt := 125) hx dX9_lets_114 (by decide) ?_
                  exact J.sub [0, 1, 2] rfl (hK125 w38)
                · intro K113 hK113
                  refine J.icmp_ne (tgt := 112) hx dX9_lets_104 (by decide) ?_ ?_
                  · refine J.iload hx dX9_lets_107 4 rfl ?_
                    refine J.goto (tgt := 113) hx dX9_lets_109 (by decide) ?_
                    exact J.sub [0, 1, 2] rfl (hK113 v24 w34)
                  · refine J.iload_n hx dX9_lets_112 rfl 3 rfl ?_
                    exact J.sub [0, 1, 2] rfl (hK113 v21 w34)
              · intro K97 hK97
                refine J.icmp_eq (tgt := 97) hx dX9_lets_82 (by decide) ?_ ?_
                · exact J.sub [0, 1, 2, 3, 4] rfl (hK97 w30)
                · refine J.iload hx dX9_lets_85 4 rfl ?_
                  refine J.iconst (v := (-1)) hx dX9_lets_87 (by decide) ?_
                  refine J.icmp_eq (tgt := 97) hx dX9_lets_88 (by decide) ?_ ?_
                  · exact J.sub [0, 1, 2, 3, 4] rfl (hK97 w30)
                  · refine J.iload_n hx dX9_lets_91 rfl 3 rfl ?_
                    refine J.iload hx dX9_lets_92 4 rfl ?_
                    refine J.icmp_ne (tgt := 117) hx dX9_lets_94 (by decide) ?_ ?_
                    · exact J.sub [0, 1, 2, 3, 4] rfl (hK97 w30)
                    · refine J.aload_n hx dX9_lets_117 rfl 0 rfl ?_
                      refine J.iload_n hx dX9_lets_118 rfl 3 rfl ?_
                      refine J.iload hx dX9_lets_119 4 rfl ?_
                      refine J.iload_n hx dX9_lets_121 rfl 1 rfl ?_
                      refine J.callv hx (fun r z1 z => j_callV (κ := 1) hx rfl rfl a0.1 (mt_X9_joins a0 z) (lw_V q2014 q2016 qs75 q129 q2017) hd_X9_joins rfl ⟨Nat.le_of_ble_eq_true rfl, Nat.le_of_ble_eq_true rfl⟩ (Nat.le_of_ble_eq_true rfl) dX9_lets_122) ⟨⟨rfl, rfl⟩, Nat.le_of_ble_eq_true rfl, Nat.le_of_ble_eq_true rfl⟩ fun _ w32 e33 => ?_
                      exact J.sub [0, 1, 2] rfl (hK125 w32)
            · intro K80 hK80
              refine J.icmp_ne (tgt := 80) hx dX9_lets_63 (by decide) ?_ ?_
              · refine J.iload hx dX9_lets_66 0 rfl ?_
                refine J.iconst (v := (-1)) hx dX9_lets_68 (by decide) ?_
                refine J.icmp_ne (tgt := 80) hx dX9_lets_69 (by decide) ?_ ?_
                · refine J.aload_n hx dX9_lets_72 rfl 2 rfl ?_
                  refine J.iload_n hx dX9_lets_73 rfl 3 rfl ?_
                  refine J.callv hx (fun r z1 z => j_callV (κ := 1) hx rfl rfl a0.1 (mt_X9_beginsAt a0 z) (lw_V q2010 q2012 qs74 q129 q2013) hd_X9_beginsAt rfl ⟨Nat.le_of_ble_eq_true rfl, Nat.le_of_ble_eq_true rfl⟩ (Nat.le_of_ble_eq_true rfl) dX9_lets_74) ⟨⟨rfl, rfl⟩, Nat.le_of_ble_eq_true rfl, Nat.le_of_ble_eq_true rfl⟩ fun _ w28 e29 => ?_
                  refine J.goto (tgt := 125) hx dX9_lets_77 (by decide) ?_
                  exact J.sub [2, 3, 4] rfl (hK125 w28)
                · exact J.sub [2, 3, 4, 1, 0] rfl (hK80 w25)
              · exact J.sub [2, 3, 4, 1, 0] rfl (hK80 w25)
    refine J.sub [2, 1, 0] rfl (hL36 _ ?_ jFU v12 0 w13)
    · intro w45
      refine J.aload_n hx dX9_lets_137 rfl 0 rfl ?_
      refine J.getc (κ' := 54) (i' := 0) (κ := 1) (k := 32) hx rfl rfl rfl rfl rfl in_X9 (by decide) (Or.inl q1685) a0.2 dX9_lets_138 fun h46 => ?_
      refine J.iconst (v := 0) hx dX9_lets_141 (by decide) ?_
      refine J.aload_n hx dX9_lets_142 rfl 0 rfl ?_
      refine J.calli hx (fun r z1 z => j_callV (κ := 1) hx rfl rfl a0.1 (mt_X9_least a0 z) (lw_V q2018 q2020 qs76 q129 q2021) hd_X9_least rfl ⟨Nat.le_of_ble_eq_true rfl, Nat.le_of_ble_eq_true rfl⟩ (Nat.le_of_ble_eq_true rfl) dX9_lets_143) ⟨⟨rfl, rfl⟩, Nat.le_of_ble_eq_true rfl, Nat.le_of_ble_eq_true rfl⟩ fun v47 w48 e49 => ?_
      refine J.iast (κ := 54) hx rfl rfl rfl h46.1 dX9_lets_146 fun w50 => ?_
      exact J.vret hx rfl (Nat.le_of_ble_eq_true rfl) (Nat.le_of_ble_eq_true rfl) dX9_lets_147
theorem hd_X9_lifeOf : yX9_lifeOf.cls = RX9 ∧ yX9_lifeOf.cls ≠ "java/lang/invoke/MethodHandle" ∧ yX9_lifeOf.cls ≠ "java/lang/invoke/VarHandle" ∧ (parseMethodDescriptor yX9_lifeOf.desc).map (fun d => d.parameters.length) = some 1 := by decide +kernel
def f_X9_lifeOf (p1 : Int32) (w : j_St) : Option (Int32 × j_St) := jbd p1 48 fun a3 => jlt (jgi w 52 0 a3) fun v4 => jbd v4 231 fun a5 => jlt (jgi w 47 0 a5) fun v6 => jbd p1 48 fun a8 => jlt (jgi w 54 0 a8) fun v9 => some (v6 - v9, w)
abbrev rm_X9_lifeOf : Room := { frames := 0, cells := 0, slots := 0, locals := 0 }
set_option maxRecDepth 100000 in
set_option maxHeartbeats 4000000 in
theorem mt_X9_lifeOf {g : j_G} {B : j_B} {p1 : Int32} {w w' : j_St} (a0 : B.2.1 1 0 ∧ B.2.2 1 0) {r : Int32} (h : f_X9_lifeOf p1 w = some (r, w')) : j_M g yX9_lifeOf cX9_lifeOf 2 (some FieldType.int) rm_X9_lifeOf B [.ref (B.1 1 0), .int p1] w w' (jri r) := by
  refine j_met (rv := jri) (by decide) (Nat.le_of_ble_eq_true rfl) (fun x hx => ?_) h
  unfold f_X9_lifeOf
  refine J.sub (lv' := [(0, .ref (B.1 1 0)), (1, .int p1)]) [0, 1] rfl ?_
  refine J.aload_n hx dX9_lifeOf_0 rfl 0 rfl ?_
  refine J.getc (κ' := 47) (i' := 0) (κ := 1) (k := 22) hx rfl rfl rfl rfl rfl in_X9 (by decide) (Or.inl q1675) a0.2 dX9_lifeOf_1 fun h1 => ?_
  refine J.aload_n hx dX9_lifeOf_4 rfl 0 rfl ?_
  refine J.getc (κ' := 52) (i' := 0) (κ := 1) (k := 30) hx rfl rfl rfl rfl rfl in_X9 (by decide) (Or.inl q1683) a0.2 dX9_lifeOf_5 fun h2 => ?_
  refine J.iload_n hx dX9_lifeOf_8 rfl 1 rfl ?_
  refine J.iald (κ := 52) hx rfl rfl h2.1 dX9_lifeOf_9 fun v4 => ?_
  refine J.iald (κ := 47) hx rfl rfl h1.1 dX9_lifeOf_10 fun v6 => ?_
  refine J.aload_n hx dX9_lifeOf_11 rfl 0 rfl ?_
  refine J.getc (κ' := 54) (i' := 0) (κ := 1) (k := 32) hx rfl rfl rfl rfl rfl in_X9 (by decide) (Or.inl q1685) a0.2 dX9_lifeOf_12 fun h7 => ?_
  refine J.iload_n hx dX9_lifeOf_15 rfl 1 rfl ?_
  refine J.iald (κ := 54) hx rfl rfl h7.1 dX9_lifeOf_16 fun v9 => ?_
  refine J.isub hx dX9_lifeOf_17 ?_
  exact J.iret hx rfl (Nat.le_of_ble_eq_true rfl) (Nat.le_of_ble_eq_true rfl) dX9_lifeOf_18
theorem hd_X9_placeOf : yX9_placeOf.cls = RX9 ∧ yX9_placeOf.cls ≠ "java/lang/invoke/MethodHandle" ∧ yX9_placeOf.cls ≠ "java/lang/invoke/VarHandle" ∧ (parseMethodDescriptor yX9_placeOf.desc).map (fun d => d.parameters.length) = some 1 := by decide +kernel
def f_X9_placeOf (p1 : Int32) (w : j_St) : Option (Int32 × j_St) := jbd p1 48 fun a3 => jlt (jgi w 57 0 a3) fun v4 => jbd v4 48 fun a5 => jlt (jgi w 52 0 a5) fun v6 => some (v6, w)
abbrev rm_X9_placeOf : Room := { frames := 0, cells := 0, slots := 0, locals := 0 }
set_option maxRecDepth 100000 in
set_option maxHeartbeats 4000000 in
theorem mt_X9_placeOf {g : j_G} {B : j_B} {p1 : Int32} {w w' : j_St} (a0 : B.2.1 1 0 ∧ B.2.2 1 0) {r : Int32} (h : f_X9_placeOf p1 w = some (r, w')) : j_M g yX9_placeOf cX9_placeOf 2 (some FieldType.int) rm_X9_placeOf B [.ref (B.1 1 0), .int p1] w w' (jri r) := by
  refine j_met (rv := jri) (by decide) (Nat.le_of_ble_eq_true rfl) (fun x hx => ?_) h
  unfold f_X9_placeOf
  refine J.sub (lv' := [(0, .ref (B.1 1 0)), (1, .int p1)]) [0, 1] rfl ?_
  refine J.aload_n hx dX9_placeOf_0 rfl 0 rfl ?_
  refine J.getc (κ' := 52) (i' := 0) (κ := 1) (k := 30) hx rfl rfl rfl rfl rfl in_X9 (by decide) (Or.inl q1683) a0.2 dX9_placeOf_1 fun h1 => ?_
  refine J.aload_n hx dX9_placeOf_4 rfl 0 rfl ?_
  refine J.getc (κ' := 57) (i' := 0) (κ := 1) (k := 36) hx rfl rfl rfl rfl rfl in_X9 (by decide) (Or.inl q1689) a0.2 dX9_placeOf_5 fun h2 => ?_
  refine J.iload_n hx dX9_placeOf_8 rfl 1 rfl ?_
  refine J.iald (κ := 57) hx rfl rfl h2.1 dX9_placeOf_9 fun v4 => ?_
  refine J.iald (κ := 52) hx rfl rfl h1.1 dX9_placeOf_10 fun v6 => ?_
  exact J.iret hx rfl (Nat.le_of_ble_eq_true rfl) (Nat.le_of_ble_eq_true rfl) dX9_placeOf_11
theorem hd_X9_apart : yX9_apart.cls = RX9 ∧ yX9_apart.cls ≠ "java/lang/invoke/MethodHandle" ∧ yX9_apart.cls ≠ "java/lang/invoke/VarHandle" ∧ (parseMethodDescriptor yX9_apart.desc).map (fun d => d.parameters.length) = some 2 := by decide +kernel
def f_X9_apart (p0 : Int32) (p1 : Int32) (w : j_St) : Option (Int32 × j_St) := if p0 ≤ p1 then some (p1 - p0, w) else some (p0 - p1, w)
abbrev rm_X9_apart : Room := { frames := 0, cells := 0, slots := 0, locals := 0 }
set_option maxRecDepth 100000 in
set_option maxHeartbeats 4000000 in
theorem mt_X9_apart {g : j_G} {B : j_B} {p0 : Int32} {p1 : Int32} {w w' : j_St}  {r : Int32} (h : f_X9_apart p0 p1 w = some (r, w')) : j_M g yX9_apart cX9_apart 2 (some FieldType.int) rm_X9_apart B [.int p0, .int p1] w w' (jri r) := by
  refine j_met (rv := jri) (by decide) (Nat.le_of_ble_eq_true rfl) (fun x hx => ?_) h
  unfold f_X9_apart
  refine J.sub (lv' := [(0, .int p0), (1, .int p1)]) [0, 1] rfl ?_
  refine J.iload_n hx dX9_apart_0 rfl 0 rfl ?_
  refine J.iload_n hx dX9_apart_1 rfl 1 rfl ?_
  refine J.icmp_le (tgt := 11) hx dX9_apart_2 (by decide) ?_ ?_
  · refine J.iload_n hx dX9_apart_11 rfl 1 rfl ?_
    refine J.iload_n hx dX9_apart_12 rfl 0 rfl ?_
    refine J.isub hx dX9_apart_13 ?_
    exact J.iret hx rfl (Nat.le_of_ble_eq_true rfl) (Nat.le_of_ble_eq_true rfl) dX9_apart_14
  · refine J.iload_n hx dX9_apart_5 rfl 0 rfl ?_
    refine J.iload_n hx dX9_apart_6 rfl 1 rfl ?_
    refine J.isub hx dX9_apart_7 ?_
    refine J.goto (tgt := 14) hx dX9_apart_8 (by decide) ?_
    exact J.iret hx rfl (Nat.le_of_ble_eq_true rfl) (Nat.le_of_ble_eq_true rfl) dX9_apart_14
theorem hd_X9_matches : yX9_matches.cls = RX9 ∧ yX9_matches.cls ≠ "java/lang/invoke/MethodHandle" ∧ yX9_matches.cls ≠ "java/lang/invoke/VarHandle" ∧ (parseMethodDescriptor yX9_matches.desc).map (fun d => d.parameters.length) = some 1 := by decide +kernel
def f_X9_matches_L7  (k26 : j_St → Option (Unit × j_St)) : Nat → Int32 → j_St → Option (Unit × j_St)
  | 0, _, _ => none
  | n7 + 1, v2, w3 => if 8 ≤ v2 then k26 w3 else jbd v2 8 fun a6 => jlt (jsi w3 60 0 a6 (-1)) fun w5 => jlt (v2 + 1) fun v7 => f_X9_matches_L7 k26 n7 v7 w5
def f_X9_matches_L45 (p1 : Int32) (v9 : Int32) (k190 : j_St → Option (Unit × j_St)) : Nat → Int32 → j_St → Option (Unit × j_St)
  | 0, _, _ => none
  | n45 + 1, v15, w16 => jlt (jgi w16 1 0 27) fun v17 => if v17 ≤ v15 then k190 w16 else jlt (jgi w16 1 0 38) fun v18 => if v18 ≤ v9 then k190 w16 else jbd v15 8 fun a20 => jlt (jgi w16 60 0 a20) fun v21 => jlt (fun (v33 : Int32) (w34 : j_St) => jbd v9 48 fun a36 => jlt (jgi w34 59 0 a36) fun v37 => jlt (fun (v60 : Int32) (w61 : j_St) => jlt (fun (v67 : Int32) (w68 : j_St) => jbd v9 48 fun a70 => jlt (jsi w68 59 0 a70 v67) fun w69 => jlt (v15 + 1) fun v71 => f_X9_matches_L45 p1 v9 k190 n45 v71 w69) fun K183 => jlt (fun (w63 : j_St) => jbd v9 48 fun a65 => jlt (jgi w63 59 0 a65) fun v66 => K183 v66 w63) fun K177 => if v33 = 0 then K177 w61 else if v60 = 0 then K177 w61 else K183 v15 w61) fun K156 => jlt (fun (w59 : j_St) => K156 1 w59) fun K151 => if v37 = (-1) then K151 w34 else jbd v15 8 fun a39 => jlt (jgi w34 49 0 a39) fun v40 => jcb (f_X9_placeOf v9 w34) fun v41 w42 => jcb (f_X9_apart v40 (v41 + p1) w42) fun v44 w45 => jbd v9 48 fun a49 => jlt (jgi w45 59 0 a49) fun v50 => jbd v50 8 fun a51 => jlt (jgi w45 49 0 a51) fun v52 => jcb (f_X9_placeOf v9 w45) fun v53 w54 => jcb (f_X9_apart v52 (v53 + p1) w54) fun v56 w57 => if v56 ≤ v44 then K156 0 w57 else K151 w57) fun K99 => jlt (fun (w32 : j_St) => K99 0 w32) fun K98 => if v21 = (-1) then jbd v15 8 fun a23 => jlt (jgi w16 49 0 a23) fun v24 => jcb (f_X9_placeOf v9 w16) fun v25 w26 => jcb (f_X9_apart v24 (v25 + p1) w26) fun v28 w29 => jlt (jgi w29 1 0 28) fun v31 => if v31 < v28 then K98 w29 else K99 1 w29 else K98 w16
def f_X9_matches_L28 (p1 : Int32)  : Nat → Int32 → j_St → Option (Unit × j_St)
  | 0, _, _ => none
  | n28 + 1, v9, w10 => jlt (jgi w10 1 0 35) fun v11 => if v11 ≤ v9 then some ((), w10) else jbd v9 48 fun a14 => jlt (jsi w10 59 0 a14 (-1)) fun w13 => f_X9_matches_L45 p1 v9 (fun (w72 : j_St) => jbd v9 48 fun a74 => jlt (jgi w72 59 0 a74) fun v75 => jlt (fun (w84 : j_St) => jlt (v9 + 1) fun v85 => f_X9_matches_L28 p1 n28 v85 w84) fun K222 => if v75 = (-1) then K222 w72 else jbd v9 48 fun a78 => jlt (jgi w72 59 0 a78) fun v79 => jbd v79 8 fun a81 => jlt (jsi w72 60 0 a81 v9) fun w80 => jlt (jgi w80 1 0 41) fun v82 => jlt (jsi w80 1 0 41 (v82 + 1)) fun w83 => K222 w83) jFU 0 w13
def f_X9_matches (p1 : Int32) (w : j_St) : Option (Unit × j_St) := jlt (jsi w 1 0 41 0) fun w1 => f_X9_matches_L7 (fun (w8 : j_St) => f_X9_matches_L28 p1 jFU 0 w8) jFU 0 w1
abbrev rm_X9_matches : Room := { frames := 1, cells := 0, slots := 0, locals := 21 }
set_option maxRecDepth 100000 in
set_option maxHeartbeats 4000000 in
theorem mt_X9_matches {g : j_G} {B : j_B} {p1 : Int32} {w w' : j_St} (a0 : B.2.1 1 0 ∧ B.2.2 1 0) {r : Unit} (h : f_X9_matches p1 w = some (r, w')) : j_M g yX9_matches cX9_matches 6 none rm_X9_matches B [.ref (B.1 1 0), .int p1] w w' (jrv r) := by
  refine j_met (rv := jrv) (by decide) (Nat.le_of_ble_eq_true rfl) (fun x hx => ?_) h
  unfold f_X9_matches
  refine J.sub (lv' := [(0, .ref (B.1 1 0)), (1, .int p1)]) [0, 1] rfl ?_
  refine J.aload_n hx dX9_matches_0 rfl 0 rfl ?_
  refine J.iconst (v := 0) hx dX9_matches_1 (by decide) ?_
  refine J.puti (κ := 1) (k := 41) hx rfl rfl rfl in_X9 tyX9_ok nmX9 (by decide) (Or.inl q1694) rfl rfl a0.1 ⟨rfl, rfl⟩ dX9_matches_2 fun w1 => ?_
  refine J.iconst (v := 0) hx dX9_matches_5 (by decide) ?_
  refine J.istore_n (lv' := [(2, .int 0), (0, .ref (B.1 1 0)), (1, .int p1)]) hx dX9_matches_6 rfl (by decide) rfl ?_
  have hL7 : ∀ (k26 : j_St → Option (Unit × j_St)) (hk26 : ∀  (w8 : j_St), J g x 6 B (j_Q g x B rm_X9_matches jrv) 0 0 (k26 w8) 26 [(0, .ref (B.1 1 0)), (1, .int p1)] [] w8) (n7 : Nat) (v2 : Int32) (w3 : j_St), J g x 6 B (j_Q g x B rm_X9_matches jrv) 0 0 (f_X9_matches_L7 k26 n7 v2 w3) 7 [(0, .ref (B.1 1 0)), (1, .int p1), (2, .int v2)] [] w3 := by
    intro k26 hk26 n7
    induction n7 with
    | zero =>
      intro v2 w3
      rw [f_X9_matches_L7]
      exact J.nne
    | succ n7 ih =>
      intro v2 w3
      rw [f_X9_matches_L7]
      refine J.iload_n hx dX9_matches_7 rfl 2 rfl ?_
      refine J.bipush (v := 8) hx dX9_matches_8 (by decide) ?_
      refine J.icmp_ge (tgt := 26) hx dX9_matches_10 (by decide) ?_ ?_
      · exact J.sub [0, 1] rfl (hk26 w3)
      · refine J.aload_n hx dX9_matches_13 rfl 0 rfl ?_
        refine J.getc (κ' := 60) (i' := 0) (κ := 1) (k := 40) hx rfl rfl rfl rfl rfl in_X9 (by decide) (Or.inl q1693) a0.2 dX9_matches_14 fun h4 => ?_
        refine J.iload_n hx dX9_matches_17 rfl 2 rfl ?_
        refine J.iconst (v := (-1)) hx dX9_matches_18 (by decide) ?_
        refine J.iast (κ := 60) hx rfl rfl rfl h4.1 dX9_matches_19 fun w5 => ?_
        refine J.nmx fun v7 ev7 => ?_
        refine J.iinc (p := 2) (v := v7) (lv' := [(2, .int v7), (0, .ref (B.1 1 0)), (1, .int p1)]) hx dX9_matches_20 rfl (by rw [ev7]; rfl) (by decide) rfl ?_
        refine J.goto (tgt := 7) hx dX9_matches_23 (by decide) ?_
        exact J.sub [1, 2, 0] rfl (ih v7 w5)
  refine J.sub [1, 2, 0] rfl (hL7 _ ?_ jFU 0 w1)
  · intro w8
    refine J.iconst (v := 0) hx dX9_matches_26 (by decide) ?_
    refine J.istore_n (lv' := [(2, .int 0), (0, .ref (B.1 1 0)), (1, .int p1)]) hx dX9_matches_27 rfl (by decide) rfl ?_
    have hL28 : ∀ (n28 : Nat) (v9 : Int32) (w10 : j_St), J g x 6 B (j_Q g x B rm_X9_matches jrv) 0 0 (f_X9_matches_L28 p1 n28 v9 w10) 28 [(0, .ref (B.1 1 0)), (1, .int p1), (2, .int v9)] [] w10 := by
      intro n28
      induction n28 with
      | zero =>
        intro v9 w10
        rw [f_X9_matches_L28]
        exact J.nne
      | succ n28 ih =>
        intro v9 w10
        rw [f_X9_matches_L28]
        refine J.iload_n hx dX9_matches_28 rfl 2 rfl ?_
        refine J.aload_n hx dX9_matches_29 rfl 0 rfl ?_
        refine J.geti (κ := 1) (k := 35) hx rfl rfl rfl in_X9 (by decide) (Or.inl q1688) a0.1 dX9_matches_30 fun v11 => ?_
        refine J.icmp_ge (tgt := 228) hx dX9_matches_33 (by decide) ?_ ?_
        · exact J.vret hx rfl (Nat.le_of_ble_eq_true rfl) (Nat.le_of_ble_eq_true rfl) dX9_matches_228
        · refine J.aload_n hx dX9_matches_36 rfl 0 rfl ?_
          refine J.getc (κ' := 59) (i' := 0) (κ := 1) (k := 39) hx rfl rfl rfl rfl rfl in_X9 (by decide) (Or.inl q1692) a0.2 dX9_matches_37 fun h12 => ?_
          refine J.iload_n hx dX9_matches_40 rfl 2 rfl ?_
          refine J.iconst (v := (-1)) hx dX9_matches_41 (by decide) ?_
          refine J.iast (κ := 59) hx rfl rfl rfl h12.1 dX9_matches_42 fun w13 => ?_
          refine J.iconst (v := 0) hx dX9_matches_43 (by decide) ?_
          refine J.istore_n (lv' := [(3, .int 0), (0, .ref (B.1 1 0)), (1, .int p1), (2, .int v9)]) hx dX9_matches_44 rfl (by decide) rfl ?_
          have hL45 : ∀ (k190 : j_St → Option (Unit × j_St)) (hk190 : ∀  (w72 : j_St), J g x 6 B (j_Q g x B rm_X9_matches jrv) 0 0 (k190 w72) 190 [(0, .ref (B.1 1 0)), (1, .int p1), (2, .int v9)] [] w72) (n45 : Nat) (v15 : Int32) (w16 : j_St), J g x 6 B (j_Q g x B rm_X9_matches jrv) 0 0 (f_X9_matches_L45 p1 v9 k190 n45 v15 w16) 45 [(0, .ref (B.1 1 0)), (1, .int p1), (2, .int v9), (3, .int v15)] [] w16 := by
            intro k190 hk190 n45
            induction n45 with
            | zero =>
              intro v15 w16
              rw [f_X9_matches_L45]
              exact J.nne
            | succ n45 ih =>
              intro v15 w16
              rw [f_X9_matches_L45]
              refine J.iload_n hx dX9_matches_45 rfl 3 rfl ?_
              refine J.aload_n hx dX9_matches_46 rfl 0 rfl ?_
              refine J.geti (κ := 1) (k := 27) hx rfl rfl rfl in_X9 (by decide) (Or.inl q1680) a0.1 dX9_matches_47 fun v17 => ?_
              refine J.icmp_ge (tgt := 190) hx dX9_matches_50 (by decide) ?_ ?_
              · exact J.sub [0, 1, 2] rfl (hk190 w16)
              · refine J.iload_n hx dX9_matches_53 rfl 2 rfl ?_
                refine J.aload_n hx dX9_matches_54 rfl 0 rfl ?_
                refine J.geti (κ := 1) (k := 38) hx rfl rfl rfl in_X9 (by decide) (Or.inl q1691) a0.1 dX9_matches_55 fun v18 => ?_
                refine J.icmp_ge (tgt := 190) hx dX9_matches_58 (by decide) ?_ ?_
                · exact J.sub [0, 1, 2] rfl (hk190 w16)
                · refine J.aload_n hx dX9_matches_61 rfl 0 rfl ?_
                  refine J.getc (κ' := 60) (i' := 0) (κ := 1) (k := 40) hx rfl rfl rfl rfl rfl in_X9 (by decide) (Or.inl q1693) a0.2 dX9_matches_62 fun h19 => ?_
                  refine J.iload_n hx dX9_matches_65 rfl 3 rfl ?_
                  refine J.iald (κ := 60) hx rfl rfl h19.1 dX9_matches_66 fun v21 => ?_
                  refine J.iconst (v := (-1)) hx dX9_matches_67 (by decide) ?_
                  refine J.fn (fun (K99 : Int32 → j_St → Option (Unit × j_St)) => ∀ (v33 : Int32) (w34 : j_St), J g x 6 B (j_Q g x B rm_X9_matches jrv) 0 0 (K99 v33 w34) 99 [(0, .ref (B.1 1 0)), (1, .int p1), (2, .int v9), (3, .int v15)] [.int v33] w34) ?_ ?_
                  · intro v33 w34
                    refine J.istore (lv' := [(4, .int v33), (0, .ref (B.1 1 0)), (1, .int p1), (2, .int v9), (3, .int v15)]) hx dX9_matches_99 (by decide) rfl ?_
                    refine J.aload_n hx dX9_matches_101 rfl 1 rfl ?_
                    refine J.getc (κ' := 59) (i' := 0) (κ := 1) (k := 39) hx rfl rfl rfl rfl rfl in_X9 (by decide) (Or.inl q1692) a0.2 dX9_matches_102 fun h35 => ?_
                    refine J.iload_n hx dX9_matches_105 rfl 3 rfl ?_
                    refine J.iald (κ := 59) hx rfl rfl h35.1 dX9_matches_106 fun v37 => ?_
                    refine J.iconst (v := (-1)) hx dX9_matches_107 (by decide) ?_
                    refine J.fn (fun (K156 : Int32 → j_St → Option (Unit × j_St)) => ∀ (v60 : Int32) (w61 : j_St), J g x 6 B (j_Q g x B rm_X9_matches jrv) 0 0 (K156 v60 w61) 156 [(0, .ref (B.1 1 0)), (1, .int p1), (2, .int v9), (3, .int v15), (4, .int v33)] [.int v60] w61) ?_ ?_
                    · intro v60 w61
                      refine J.istore (lv' := [(5, .int v60), (0, .ref (B.1 1 0)), (1, .int p1), (2, .int v9), (3, .int v15), (4, .int v33)]) hx dX9_matches_156 (by decide) rfl ?_
                      refine J.aload_n hx dX9_matches_158 rfl 1 rfl ?_
                      refine J.getc (κ' := 59) (i' := 0) (κ := 1) (k := 39) hx rfl rfl rfl rfl rfl in_X9 (by decide) (Or.inl q1692) a0.2 dX9_matches_159 fun h62 => ?_
                      refine J.iload_n hx dX9_matches_162 rfl 3 rfl ?_
                      refine J.iload hx dX9_matches_163 5 rfl ?_
                      refine J.fn (fun (K183 : Int32 → j_St → Option (Unit × j_St)) => ∀ (v67 : Int32) (w68 : j_St), J g x 6 B (j_Q g x B rm_X9_matches jrv) 0 0 (K183 v67 w68) 183 [(0, .ref (B.1 1 0)), (1, .int p1), (2, .int v9), (3, .int v15)] [.int v67, .int v9, .ref (B.1 59 0)] w68) ?_ ?_
                      · intro v67 w68
                        refine J.iast (κ := 59) hx rfl rfl rfl h62.1 dX9_matches_183 fun w69 => ?_
                        refine J.nmx fun v71 ev71 => ?_
                        refine J.iinc (p := 3) (v := v71) (lv' := [(3, .int v71), (0, .ref (B.1 1 0)), (1, .int p1), (2, .int v9)]) hx dX9_matches_184 rfl (by rw [ev71]; rfl) (by decide) rfl ?_
                        refine J.goto (tgt := 45) hx dX9_matches_187 (by decide) ?_
                        exact J.sub [1, 2, 3, 0] rfl (ih v71 w69)
                      · intro K183 hK183
                        refine J.fn (fun (K177 : j_St → Option (Unit × j_St)) => ∀  (w63 : j_St), J g x 6 B (j_Q g x B rm_X9_matches jrv) 0 0 (K177 w63) 177 [(0, .ref (B.1 1 0)), (1, .int p1), (2, .int v9), (3, .int v15)] [.int v9, .ref (B.1 59 0)] w63) ?_ ?_
                        · intro w63
                          refine J.aload_n hx dX9_matches_177 rfl 0 rfl ?_
                          refine J.getc (κ' := 59) (i' := 0) (κ := 1) (k := 39) hx rfl rfl rfl rfl rfl in_X9 (by decide) (Or.inl q1692) a0.2 dX9_matches_178 fun h64 => ?_
                          refine J.iload_n hx dX9_matches_181 rfl 2 rfl ?_
                          refine J.iald (κ := 59) hx rfl rfl h64.1 dX9_matches_182 fun v66 => ?_
                          exact J.sub [0, 1, 2, 3] rfl (hK183 v66 w63)
                        · intro K177 hK177
                          refine J.if_eq (tgt := 177) hx dX9_matches_165 (by decide) ?_ ?_
                          · exact J.sub [1, 2, 3, 4] rfl (hK177 w61)
                          · refine J.iload hx dX9_matches_168 0 rfl ?_
                            refine J.if_eq (tgt := 177) hx dX9_matches_170 (by decide) ?_ ?_
                            · exact J.sub [1, 2, 3, 4] rfl (hK177 w61)
                            · refine J.iload_n hx dX9_matches_173 rfl 4 rfl ?_
                              refine J.goto (tgt := 183) hx dX9_matches_174 (by decide) ?_
                              exact J.sub [1, 2, 3, 4] rfl (hK183 v15 w61)
                    · intro K156 hK156
                      refine J.fn (fun (K151 : j_St → Option (Unit × j_St)) => ∀  (w59 : j_St), J g x 6 B (j_Q g x B rm_X9_matches jrv) 0 0 (K151 w59) 151 [(0, .ref (B.1 1 0)), (1, .int p1), (2, .int v9), (3, .int v15), (4, .int v33)] [] w59) ?_ ?_
                      · intro w59
                        refine J.iconst (v := 1) hx dX9_matches_151 (by decide) ?_
                        refine J.goto (tgt := 156) hx dX9_matches_152 (by decide) ?_
                        exact J.sub [0, 1, 2, 3, 4] rfl (hK156 1 w59)
                      · intro K151 hK151
                        refine J.icmp_eq (tgt := 151) hx dX9_matches_108 (by decide) ?_ ?_
                        · exact J.sub [1, 2, 3, 4, 0] rfl (hK151 w34)
                        · refine J.aload_n hx dX9_matches_111 rfl 1 rfl ?_
                          refine J.getc (κ' := 49) (i' := 0) (κ := 1) (k := 24) hx rfl rfl rfl rfl rfl in_X9 (by decide) (Or.inl q1677) a0.2 dX9_matches_112 fun h38 => ?_
                          refine J.iload_n hx dX9_matches_115 rfl 4 rfl ?_
                          refine J.iald (κ := 49) hx rfl rfl h38.1 dX9_matches_116 fun v40 => ?_
                          refine J.aload_n hx dX9_matches_117 rfl 1 rfl ?_
                          refine J.iload_n hx dX9_matches_118 rfl 3 rfl ?_
                          refine J.calli hx (fun r z1 z => j_callV (κ := 1) hx rfl rfl a0.1 (mt_X9_placeOf a0 z) (lw_V q2030 q2032 qs79 q129 q2033) hd_X9_placeOf rfl ⟨Nat.le_of_ble_eq_true rfl, Nat.le_of_ble_eq_true rfl⟩ (Nat.le_of_ble_eq_true rfl) dX9_matches_119) ⟨⟨rfl, rfl⟩, Nat.le_of_ble_eq_true rfl, Nat.le_of_ble_eq_true rfl⟩ fun v41 w42 e43 => ?_
                          refine J.iload_n hx dX9_matches_122 rfl 2 rfl ?_
                          refine J.iadd hx dX9_matches_123 ?_
                          refine J.calli hx (fun r z1 z => j_callS hx (mt_X9_apart z) (lw_S q2034 q2035 q129 q2036) hd_X9_apart.2 rfl ⟨Nat.le_of_ble_eq_true rfl, Nat.le_of_ble_eq_true rfl⟩ (Nat.le_of_ble_eq_true rfl) dX9_matches_124) ⟨⟨rfl, rfl⟩, Nat.le_of_ble_eq_true rfl, Nat.le_of_ble_eq_true rfl⟩ fun v44 w45 e46 => ?_
                          refine J.aload_n hx dX9_matches_127 rfl 1 rfl ?_
                          refine J.getc (κ' := 49) (i' := 0) (κ := 1) (k := 24) hx rfl rfl rfl rfl rfl in_X9 (by decide) (Or.inl q1677) a0.2 dX9_matches_128 fun h47 => ?_
                          refine J.aload_n hx dX9_matches_131 rfl 1 rfl ?_
                          refine J.getc (κ' := 59) (i' := 0) (κ := 1) (k := 39) hx rfl rfl rfl rfl rfl in_X9 (by decide) (Or.inl q1692) a0.2 dX9_matches_132 fun h48 => ?_
                          refine J.iload_n hx dX9_matches_135 rfl 3 rfl ?_
                          refine J.iald (κ := 59) hx rfl rfl h48.1 dX9_matches_136 fun v50 => ?_
                          refine J.iald (κ := 49) hx rfl rfl h47.1 dX9_matches_137 fun v52 => ?_
                          refine J.aload_n hx dX9_matches_138 rfl 1 rfl ?_
                          refine J.iload_n hx dX9_matches_139 rfl 3 rfl ?_
                          refine J.calli hx (fun r z1 z => j_callV (κ := 1) hx rfl rfl a0.1 (mt_X9_placeOf a0 z) (lw_V q2030 q2032 qs79 q129 q2033) hd_X9_placeOf rfl ⟨Nat.le_of_ble_eq_true rfl, Nat.le_of_ble_eq_true rfl⟩ (Nat.le_of_ble_eq_true rfl) dX9_matches_140) ⟨⟨rfl, rfl⟩, Nat.le_of_ble_eq_true rfl, Nat.le_of_ble_eq_true rfl⟩ fun v53 w54 e55 => ?_
                          refine J.iload_n hx dX9_matches_143 rfl 2 rfl ?_
                          refine J.iadd hx dX9_matches_144 ?_
                          refine J.calli hx (fun r z1 z => j_callS hx (mt_X9_apart z) (lw_S q2034 q2035 q129 q2036) hd_X9_apart.2 rfl ⟨Nat.le_of_ble_eq_true rfl, Nat.le_of_ble_eq_true rfl⟩ (Nat.le_of_ble_eq_true rfl) dX9_matches_145) ⟨⟨rfl, rfl⟩, Nat.le_of_ble_eq_true rfl, Nat.le_of_ble_eq_true rfl⟩ fun v56 w57 e58 => ?_
                          refine J.icmp_ge (tgt := 155) hx dX9_matches_148 (by decide) ?_ ?_
                          · refine J.iconst (v := 0) hx dX9_matches_155 (by decide) ?_
                            exact J.sub [1, 2, 3, 4, 0] rfl (hK156 0 w57)
                          · exact J.sub [1, 2, 3, 4, 0] rfl (hK151 w57)
                  · intro K99 hK99
                    refine J.fn (fun (K98 : j_St → Option (Unit × j_St)) => ∀  (w32 : j_St), J g x 6 B (j_Q g x B rm_X9_matches jrv) 0 0 (K98 w32) 98 [(0, .ref (B.1 1 0)), (1, .int p1), (2, .int v9), (3, .int v15)] [] w32) ?_ ?_
                    · intro w32
                      refine J.iconst (v := 0) hx dX9_matches_98 (by decide) ?_
                      exact J.sub [0, 1, 2, 3] rfl (hK99 0 w32)
                    · intro K98 hK98
                      refine J.icmp_ne (tgt := 98) hx dX9_matches_68 (by decide) ?_ ?_
                      · refine J.aload_n hx dX9_matches_71 rfl 0 rfl ?_
                        refine J.getc (κ' := 49) (i' := 0) (κ := 1) (k := 24) hx rfl rfl rfl rfl rfl in_X9 (by decide) (Or.inl q1677) a0.2 dX9_matches_72 fun h22 => ?_
                        refine J.iload_n hx dX9_matches_75 rfl 3 rfl ?_
                        refine J.iald (κ := 49) hx rfl rfl h22.1 dX9_matches_76 fun v24 => ?_
                        refine J.aload_n hx dX9_matches_77 rfl 0 rfl ?_
                        refine J.iload_n hx dX9_matches_78 rfl 2 rfl ?_
                        refine J.calli hx (fun r z1 z => j_callV (κ := 1) hx rfl rfl a0.1 (mt_X9_placeOf a0 z) (lw_V q2030 q2032 qs79 q129 q2033) hd_X9_placeOf rfl ⟨Nat.le_of_ble_eq_true rfl, Nat.le_of_ble_eq_true rfl⟩ (Nat.le_of_ble_eq_true rfl) dX9_matches_79) ⟨⟨rfl, rfl⟩, Nat.le_of_ble_eq_true rfl, Nat.le_of_ble_eq_true rfl⟩ fun v25 w26 e27 => ?_
                        refine J.iload_n hx dX9_matches_82 rfl 1 rfl ?_
                        refine J.iadd hx dX9_matches_83 ?_
                        refine J.calli hx (fun r z1 z => j_callS hx (mt_X9_apart z) (lw_S q2034 q2035 q129 q2036) hd_X9_apart.2 rfl ⟨Nat.le_of_ble_eq_true rfl, Nat.le_of_ble_eq_true rfl⟩ (Nat.le_of_ble_eq_true rfl) dX9_matches_84) ⟨⟨rfl, rfl⟩, Nat.le_of_ble_eq_true rfl, Nat.le_of_ble_eq_true rfl⟩ fun v28 w29 e30 => ?_
                        refine J.aload_n hx dX9_matches_87 rfl 0 rfl ?_
                        refine J.geti (κ := 1) (k := 28) hx rfl rfl rfl in_X9 (by decide) (Or.inl q1681) a0.1 dX9_matches_88 fun v31 => ?_
                        refine J.icmp_gt (tgt := 98) hx dX9_matches_91 (by decide) ?_ ?_
                        · exact J.sub [0, 1, 2, 3] rfl (hK98 w29)
                        · refine J.iconst (v := 1) hx dX9_matches_94 (by decide) ?_
                          refine J.goto (tgt := 99) hx dX9_matches_95 (by decide) ?_
                          exact J.sub [0, 1, 2, 3] rfl (hK99 1 w29)
                      · exact J.sub [0, 1, 2, 3] rfl (hK98 w16)
          refine J.sub [1, 2, 3, 0] rfl (hL45 _ ?_ jFU 0 w13)
          · intro w72
            refine J.aload_n hx dX9_matches_190 rfl 0 rfl ?_
            refine J.getc (κ' := 59) (i' := 0) (κ := 1) (k := 39) hx rfl rfl rfl rfl rfl in_X9 (by decide) (Or.inl q1692) a0.2 dX9_matches_191 fun h73 => ?_
            refine J.iload_n hx dX9_matches_194 rfl 2 rfl ?_
            refine J.iald (κ := 59) hx rfl rfl h73.1 dX9_matches_195 fun v75 => ?_
            refine J.iconst (v := (-1)) hx dX9_matches_196 (by decide) ?_
            refine J.fn (fun (K222 : j_St → Option (Unit × j_St)) => ∀  (w84 : j_St), J g x 6 B (j_Q g x B rm_X9_matches jrv) 0 0 (K222 w84) 222 [(0, .ref (B.1 1 0)), (1, .int p1), (2, .int v9)] [] w84) ?_ ?_
            · intro w84
              refine J.nmx fun v85 ev85 => ?_
              refine J.iinc (p := 2) (v := v85) (lv' := [(2, .int v85), (0, .ref (B.1 1 0)), (1, .int p1)]) hx dX9_matches_222 rfl (by rw [ev85]; rfl) (by decide) rfl ?_
              refine J.goto (tgt := 28) hx dX9_matches_225 (by decide) ?_
              exact J.sub [1, 2, 0] rfl (ih v85 w84)
            · intro K222 hK222
              refine J.icmp_eq (tgt := 222) hx dX9_matches_197 (by decide) ?_ ?_
              · exact J.sub [0, 1, 2] rfl (hK222 w72)
              · refine J.aload_n hx dX9_matches_200 rfl 0 rfl ?_
                refine J.getc (κ' := 60) (i' := 0) (κ := 1) (k := 40) hx rfl rfl rfl rfl rfl in_X9 (by decide) (Or.inl q1693) a0.2 dX9_matches_201 fun h76 => ?_
                refine J.aload_n hx dX9_matches_204 rfl 0 rfl ?_
                refine J.getc (κ' := 59) (i' := 0) (κ := 1) (k := 39) hx rfl rfl rfl rfl rfl in_X9 (by decide) (Or.inl q1692) a0.2 dX9_matches_205 fun h77 => ?_
                refine J.iload_n hx dX9_matches_208 rfl 2 rfl ?_
                refine J.iald (κ := 59) hx rfl rfl h77.1 dX9_matches_209 fun v79 => ?_
                refine J.iload_n hx dX9_matches_210 rfl 2 rfl ?_
                refine J.iast (κ := 60) hx rfl rfl rfl h76.1 dX9_matches_211 fun w80 => ?_
                refine J.aload_n hx dX9_matches_212 rfl 0 rfl ?_
                refine J.dup hx dX9_matches_213 rfl ?_
                refine J.geti (κ := 1) (k := 41) hx rfl rfl rfl in_X9 (by decide) (Or.inl q1694) a0.1 dX9_matches_214 fun v82 => ?_
                refine J.iconst (v := 1) hx dX9_matches_217 (by decide) ?_
                refine J.iadd hx dX9_matches_218 ?_
                refine J.puti (κ := 1) (k := 41) hx rfl rfl rfl in_X9 tyX9_ok nmX9 (by decide) (Or.inl q1694) rfl rfl a0.1 ⟨rfl, rfl⟩ dX9_matches_219 fun w83 => ?_
                exact J.sub [0, 1, 2] rfl (hK222 w83)
    refine J.sub [1, 2, 0] rfl (hL28 jFU 0 w8)
theorem hd_X9_finds : yX9_finds.cls = RX9 ∧ yX9_finds.cls ≠ "java/lang/invoke/MethodHandle" ∧ yX9_finds.cls ≠ "java/lang/invoke/VarHandle" ∧ (parseMethodDescriptor yX9_finds.desc).map (fun d => d.parameters.length) = some 0 := by decide +kernel
def f_X9_finds_L16 (v4 : Int32) (k103 : Int32 → j_St → Option (Unit × j_St)) : Nat → Int32 → j_St → Option (Unit × j_St)
  | 0, _, _ => none
  | n16 + 1, v7, w8 => if v7 ≤ 1 then k103 v7 w8 else jbd (v7 - 1) 48 fun a10 => jlt (jgi w8 57 0 a10) fun v11 => jcb (f_X9_lifeOf v11 w8) fun v12 w13 => jcb (f_X9_lifeOf v4 w13) fun v15 w16 => jlt (fun (w36 : j_St) => jbd (v7 - 1) 48 fun a39 => jlt (jgi w36 57 0 a39) fun v40 => jbd v7 48 fun a42 => jlt (jsi w36 57 0 a42 v40) fun w41 => jlt (v7 + (-1)) fun v43 => f_X9_finds_L16 v4 k103 n16 v43 w41) fun K83 => if v12 < v15 then K83 w16 else jbd (v7 - 1) 48 fun a19 => jlt (jgi w16 57 0 a19) fun v20 => jcb (f_X9_lifeOf v20 w16) fun v21 w22 => jcb (f_X9_lifeOf v4 w22) fun v24 w25 => if v21 = v24 then jbd (v7 - 1) 48 fun a29 => jlt (jgi w25 57 0 a29) fun v30 => jbd v30 48 fun a31 => jlt (jgi w25 52 0 a31) fun v32 => jbd v4 48 fun a34 => jlt (jgi w25 52 0 a34) fun v35 => if v32 ≤ v35 then k103 v7 w25 else K83 w25 else k103 v7 w25
def f_X9_finds_L6  (k116 : j_St → Option (Unit × j_St)) : Nat → Int32 → j_St → Option (Unit × j_St)
  | 0, _, _ => none
  | n6 + 1, v4, w5 => jlt (jgi w5 1 0 35) fun v6 => if v6 ≤ v4 then k116 w5 else f_X9_finds_L16 v4 (fun (v44 : Int32) (w45 : j_St) => jbd v44 48 fun a48 => jlt (jsi w45 57 0 a48 v4) fun w47 => jlt (v4 + 1) fun v49 => f_X9_finds_L6 k116 n6 v49 w47) jFU v4 w5
def f_X9_finds_L123  (k187 : j_St → Option (Unit × j_St)) : Nat → Int32 → j_St → Option (Unit × j_St)
  | 0, _, _ => none
  | n123 + 1, v52, w53 => jlt (jgi w53 1 0 35) fun v54 => if v54 ≤ v52 then k187 w53 else jbd v52 48 fun a57 => jlt (jgi w53 57 0 a57) fun v58 => jbd v58 48 fun a60 => jlt (jsi w53 58 0 a60 v52) fun w59 => jlt (jgi w59 1 0 38) fun v61 => jlt (fun (v72 : Int32) (w73 : j_St) => jlt (jsi w73 1 0 38 (v61 + v72)) fun w74 => jlt (v52 + 1) fun v75 => f_X9_finds_L123 k187 n123 v75 w74) fun K177 => jlt (fun (w71 : j_St) => K177 1 w71) fun K172 => if v52 = 0 then K172 w59 else jbd v52 48 fun a63 => jlt (jgi w59 57 0 a63) fun v64 => jcb (f_X9_lifeOf v64 w59) fun v65 w66 => jbd 49 231 fun a69 => jlt (jgi w66 47 0 a69) fun v70 => if v65 ≤ v70 then K177 0 w66 else K172 w66
def f_X9_finds  (w : j_St) : Option (Unit × j_St) := jcb (f_X9_lets w) fun _ w2 => f_X9_finds_L6 (fun (w50 : j_St) => jlt (jsi w50 1 0 38 0) fun w51 => f_X9_finds_L123 (fun (w76 : j_St) => jcb (f_X9_matches 0 w76) fun _ w78 => some ((), w78)) jFU 0 w51) jFU 0 w2
abbrev rm_X9_finds : Room := { frames := 3, cells := 0, slots := 0, locals := 71 }
set_option maxRecDepth 100000 in
set_option maxHeartbeats 4000000 in
theorem mt_X9_finds {g : j_G} {B : j_B}  {w w' : j_St} (a0 : B.2.1 1 0 ∧ B.2.2 1 0) {r : Unit} (h : f_X9_finds  w = some (r, w')) : j_M g yX9_finds cX9_finds 3 none rm_X9_finds B [.ref (B.1 1 0)] w w' (jrv r) := by
  refine j_met (rv := jrv) (by decide) (Nat.le_of_ble_eq_true rfl) (fun x hx => ?_) h
  unfold f_X9_finds
  refine J.sub (lv' := [(0, .ref (B.1 1 0))]) [0] rfl ?_
  refine J.aload_n hx dX9_finds_0 rfl 0 rfl ?_
  refine J.callv hx (fun r z1 z => j_callV (κ := 1) hx rfl rfl a0.1 (mt_X9_lets a0 z) (lw_V q1994 q1996 qs70 q129 q1997) hd_X9_lets rfl ⟨Nat.le_of_ble_eq_true rfl, Nat.le_of_ble_eq_true rfl⟩ (Nat.le_of_ble_eq_true rfl) dX9_finds_1) ⟨⟨rfl, rfl⟩, Nat.le_of_ble_eq_true rfl, Nat.le_of_ble_eq_true rfl⟩ fun _ w2 e3 => ?_
  refine J.iconst (v := 0) hx dX9_finds_4 (by decide) ?_
  refine J.istore_n (lv' := [(1, .int 0), (0, .ref (B.1 1 0))]) hx dX9_finds_5 rfl (by decide) rfl ?_
  have hL6 : ∀ (k116 : j_St → Option (Unit × j_St)) (hk116 : ∀  (w50 : j_St), J g x 3 B (j_Q g x B rm_X9_finds jrv) 0 0 (k116 w50) 116 [(0, .ref (B.1 1 0))] [] w50) (n6 : Nat) (v4 : Int32) (w5 : j_St), J g x 3 B (j_Q g x B rm_X9_finds jrv) 0 0 (f_X9_finds_L6 k116 n6 v4 w5) 6 [(0, .ref (B.1 1 0)), (1, .int v4)] [] w5 := by
    intro k116 hk116 n6
    induction n6 with
    | zero =>
      intro v4 w5
      rw [f_X9_finds_L6]
      exact J.nne
    | succ n6 ih =>
      intro v4 w5
      rw [f_X9_finds_L6]
      refine J.iload_n hx dX9_finds_6 rfl 1 rfl ?_
      refine J.aload_n hx dX9_finds_7 rfl 0 rfl ?_
      refine J.geti (κ := 1) (k := 35) hx rfl rfl rfl in_X9 (by decide) (Or.inl q1688) a0.1 dX9_finds_8 fun v6 => ?_
      refine J.icmp_ge (tgt := 116) hx dX9_finds_11 (by decide) ?_ ?_
      · exact J.sub [0] rfl (hk116 w5)
      · refine J.iload_n hx dX9_finds_14 rfl 1 rfl ?_
        refine J.istore_n (lv' := [(2, .int v4), (0, .ref (B.1 1 0)), (1, .int v4)]) hx dX9_finds_15 rfl (by decide) rfl ?_
        have hL16 : ∀ (k103 : Int32 → j_St → Option (Unit × j_St)) (hk103 : ∀ (v44 : Int32) (w45 : j_St), J g x 3 B (j_Q g x B rm_X9_finds jrv) 0 0 (k103 v44 w45) 103 [(0, .ref (B.1 1 0)), (1, .int v4), (2, .int v44)] [] w45) (n16 : Nat) (v7 : Int32) (w8 : j_St), J g x 3 B (j_Q g x B rm_X9_finds jrv) 0 0 (f_X9_finds_L16 v4 k103 n16 v7 w8) 16 [(0, .ref (B.1 1 0)), (1, .int v4), (2, .int v7)] [] w8 := by
          intro k103 hk103 n16
          induction n16 with
          | zero =>
            intro v7 w8
            rw [f_X9_finds_L16]
            exact J.nne
          | succ n16 ih =>
            intro v7 w8
            rw [f_X9_finds_L16]
            refine J.iload_n hx dX9_finds_16 rfl 2 rfl ?_
            refine J.iconst (v := 1) hx dX9_finds_17 (by decide) ?_
            refine J.icmp_le (tgt := 103) hx dX9_finds_18 (by decide) ?_ ?_
            · exact J.sub [0, 1, 2] rfl (hk103 v7 w8)
            · refine J.aload_n hx dX9_finds_21 rfl 0 rfl ?_
              refine J.aload_n hx dX9_finds_22 rfl 0 rfl ?_
              refine J.getc (κ' := 57) (i' := 0) (κ := 1) (k := 36) hx rfl rfl rfl rfl rfl in_X9 (by decide) (Or.inl q1689) a0.2 dX9_finds_23 fun h9 => ?_
              refine J.iload_n hx dX9_finds_26 rfl 2 rfl ?_
              refine J.iconst (v := 1) hx dX9_finds_27 (by decide) ?_
              refine J.isub hx dX9_finds_28 ?_
              refine J.iald (κ := 57) hx rfl rfl h9.1 dX9_finds_29 fun v11 => ?_
              refine J.calli hx (fun r z1 z => j_callV (κ := 1) hx rfl rfl a0.1 (mt_X9_lifeOf a0 z) (lw_V q2022 q2024 qs77 q129 q2025) hd_X9_lifeOf rfl ⟨Nat.le_of_ble_eq_true rfl, Nat.le_of_ble_eq_true rfl⟩ (Nat.le_of_ble_eq_true rfl) dX9_finds_30) ⟨⟨rfl, rfl⟩, Nat.le_of_ble_eq_true rfl, Nat.le_of_ble_eq_true rfl⟩ fun v12 w13 e14 => ?_
              refine J.aload_n hx dX9_finds_33 rfl 0 rfl ?_
              refine J.iload_n hx dX9_finds_34 rfl 1 rfl ?_
              refine J.calli hx (fun r z1 z => j_callV (κ := 1) hx rfl rfl a0.1 (mt_X9_lifeOf a0 z) (lw_V q2022 q2024 qs77 q129 q2025) hd_X9_lifeOf rfl ⟨Nat.le_of_ble_eq_true rfl, Nat.le_of_ble_eq_true rfl⟩ (Nat.le_of_ble_eq_true rfl) dX9_finds_35) ⟨⟨rfl, rfl⟩, Nat.le_of_ble_eq_true rfl, Nat.le_of_ble_eq_true rfl⟩ fun v15 w16 e17 => ?_
              refine J.fn (fun (K83 : j_St → Option (Unit × j_St)) => ∀  (w36 : j_St), J g x 3 B (j_Q g x B rm_X9_finds jrv) 0 0 (K83 w36) 83 [(0, .ref (B.1 1 0)), (1, .int v4), (2, .int v7)] [] w36) ?_ ?_
              · intro w36
                refine J.aload_n hx dX9_finds_83 rfl 0 rfl ?_
                refine J.getc (κ' := 57) (i' := 0) (κ := 1) (k := 36) hx rfl rfl rfl rfl rfl in_X9 (by decide) (Or.inl q1689) a0.2 dX9_finds_84 fun h37 => ?_
                refine J.iload_n hx dX9_finds_87 rfl 2 rfl ?_
                refine J.aload_n hx dX9_finds_88 rfl 0 rfl ?_
                refine J.getc (κ' := 57) (i' := 0) (κ := 1) (k := 36) hx rfl rfl rfl rfl rfl in_X9 (by decide) (Or.inl q1689) a0.2 dX9_finds_89 fun h38 => ?_
                refine J.iload_n hx dX9_finds_92 rfl 2 rfl ?_
                refine J.iconst (v := 1) hx dX9_finds_93 (by decide) ?_
                refine J.isub hx dX9_finds_94 ?_
                refine J.iald (κ := 57) hx rfl rfl h38.1 dX9_finds_95 fun v40 => ?_
                refine J.iast (κ := 57) hx rfl rfl rfl h37.1 dX9_finds_96 fun w41 => ?_
                refine J.nmx fun v43 ev43 => ?_
                refine J.iinc (p := 2) (v := v43) (lv' := [(2, .int v43), (0, .ref (B.1 1 0)), (1, .int v4)]) hx dX9_finds_97 rfl (by rw [ev43]; rfl) (by decide) rfl ?_
                refine J.goto (tgt := 16) hx dX9_finds_100 (by decide) ?_
                exact J.sub [1, 2, 0] rfl (ih v43 w41)
              · intro K83 hK83
                refine J.icmp_lt (tgt := 83) hx dX9_finds_38 (by decide) ?_ ?_
                · exact J.sub [0, 1, 2] rfl (hK83 w16)
                · refine J.aload_n hx dX9_finds_41 rfl 0 rfl ?_
                  refine J.aload_n hx dX9_finds_42 rfl 0 rfl ?_
                  refine J.getc (κ' := 57) (i' := 0) (κ := 1) (k := 36) hx rfl rfl rfl rfl rfl in_X9 (by decide) (Or.inl q1689) a0.2 dX9_finds_43 fun h18 => ?_
                  refine J.iload_n hx dX9_finds_46 rfl 2 rfl ?_
                  refine J.iconst (v := 1) hx dX9_finds_47 (by decide) ?_
                  refine J.isub hx dX9_finds_48 ?_
                  refine J.iald (κ := 57) hx rfl rfl h18.1 dX9_finds_49 fun v20 => ?_
                  refine J.calli hx (fun r z1 z => j_callV (κ := 1) hx rfl rfl a0.1 (mt_X9_lifeOf a0 z) (lw_V q2022 q2024 qs77 q129 q2025) hd_X9_lifeOf rfl ⟨Nat.le_of_ble_eq_true rfl, Nat.le_of_ble_eq_true rfl⟩ (Nat.le_of_ble_eq_true rfl) dX9_finds_50) ⟨⟨rfl, rfl⟩, Nat.le_of_ble_eq_true rfl, Nat.le_of_ble_eq_true rfl⟩ fun v21 w22 e23 => ?_
                  refine J.aload_n hx dX9_finds_53 rfl 0 rfl ?_
                  refine J.iload_n hx dX9_finds_54 rfl 1 rfl ?_
                  refine J.calli hx (fun r z1 z => j_callV (κ := 1) hx rfl rfl a0.1 (mt_X9_lifeOf a0 z) (lw_V q2022 q2024 qs77 q129 q2025) hd_X9_lifeOf rfl ⟨Nat.le_of_ble_eq_true rfl, Nat.le_of_ble_eq_true rfl⟩ (Nat.le_of_ble_eq_true rfl) dX9_finds_55) ⟨⟨rfl, rfl⟩, Nat.le_of_ble_eq_true rfl, Nat.le_of_ble_eq_true rfl⟩ fun v24 w25 e26 => ?_
                  refine J.icmp_ne (tgt := 103) hx dX9_finds_58 (by decide) ?_ ?_
                  · refine J.aload_n hx dX9_finds_61 rfl 0 rfl ?_
                    refine J.getc (κ' := 52) (i' := 0) (κ := 1) (k := 30) hx rfl rfl rfl rfl rfl in_X9 (by decide) (Or.inl q1683) a0.2 dX9_finds_62 fun h27 => ?_
                    refine J.aload_n hx dX9_finds_65 rfl 0 rfl ?_
                    refine J.getc (κ' := 57) (i' := 0) (κ := 1) (k := 36) hx rfl rfl rfl rfl rfl in_X9 (by decide) (Or.inl q1689) a0.2 dX9_finds_66 fun h28 => ?_
                    refine J.iload_n hx dX9_finds_69 rfl 2 rfl ?_
                    refine J.iconst (v := 1) hx dX9_finds_70 (by decide) ?_
                    refine J.isub hx dX9_finds_71 ?_
                    refine J.iald (κ := 57) hx rfl rfl h28.1 dX9_finds_72 fun v30 => ?_
                    refine J.iald (κ := 52) hx rfl rfl h27.1 dX9_finds_73 fun v32 => ?_
                    refine J.aload_n hx dX9_finds_74 rfl 0 rfl ?_
                    refine J.getc (κ' := 52) (i' := 0) (κ := 1) (k := 30) hx rfl rfl rfl rfl rfl in_X9 (by decide) (Or.inl q1683) a0.2 dX9_finds_75 fun h33 => ?_
                    refine J.iload_n hx dX9_finds_78 rfl 1 rfl ?_
                    refine J.iald (κ := 52) hx rfl rfl h33.1 dX9_finds_79 fun v35 => ?_
                    refine J.icmp_le (tgt := 103) hx dX9_finds_80 (by decide) ?_ ?_
                    · exact J.sub [0, 1, 2] rfl (hk103 v7 w25)
                    · exact J.sub [0, 1, 2] rfl (hK83 w25)
                  · exact J.sub [0, 1, 2] rfl (hk103 v7 w25)
        refine J.sub [1, 2, 0] rfl (hL16 _ ?_ jFU v4 w5)
        · intro v44 w45
          refine J.aload_n hx dX9_finds_103 rfl 0 rfl ?_
          refine J.getc (κ' := 57) (i' := 0) (κ := 1) (k := 36) hx rfl rfl rfl rfl rfl in_X9 (by decide) (Or.inl q1689) a0.2 dX9_finds_104 fun h46 => ?_
          refine J.iload_n hx dX9_finds_107 rfl 2 rfl ?_
          refine J.iload_n hx dX9_finds_108 rfl 1 rfl ?_
          refine J.iast (κ := 57) hx rfl rfl rfl h46.1 dX9_finds_109 fun w47 => ?_
          refine J.nmx fun v49 ev49 => ?_
          refine J.iinc (p := 1) (v := v49) (lv' := [(1, .int v49), (0, .ref (B.1 1 0)), (2, .int v44)]) hx dX9_finds_110 rfl (by rw [ev49]; rfl) (by decide) rfl ?_
          refine J.goto (tgt := 6) hx dX9_finds_113 (by decide) ?_
          exact J.sub [1, 0] rfl (ih v49 w47)
  refine J.sub [1, 0] rfl (hL6 _ ?_ jFU 0 w2)
  · intro w50
    refine J.aload_n hx dX9_finds_116 rfl 0 rfl ?_
    refine J.iconst (v := 0) hx dX9_finds_117 (by decide) ?_
    refine J.puti (κ := 1) (k := 38) hx rfl rfl rfl in_X9 tyX9_ok nmX9 (by decide) (Or.inl q1691) rfl rfl a0.1 ⟨rfl, rfl⟩ dX9_finds_118 fun w51 => ?_
    refine J.iconst (v := 0) hx dX9_finds_121 (by decide) ?_
    refine J.istore_n (lv' := [(1, .int 0), (0, .ref (B.1 1 0))]) hx dX9_finds_122 rfl (by decide) rfl ?_
    have hL123 : ∀ (k187 : j_St → Option (Unit × j_St)) (hk187 : ∀  (w76 : j_St), J g x 3 B (j_Q g x B rm_X9_finds jrv) 0 0 (k187 w76) 187 [(0, .ref (B.1 1 0))] [] w76) (n123 : Nat) (v52 : Int32) (w53 : j_St), J g x 3 B (j_Q g x B rm_X9_finds jrv) 0 0 (f_X9_finds_L123 k187 n123 v52 w53) 123 [(0, .ref (B.1 1 0)), (1, .int v52)] [] w53 := by
      intro k187 hk187 n123
      induction n123 with
      | zero =>
        intro v52 w53
        rw [f_X9_finds_L123]
        exact J.nne
      | succ n123 ih =>
        intro v52 w53
        rw [f_X9_finds_L123]
        refine J.iload_n hx dX9_finds_123 rfl 1 rfl ?_
        refine J.aload_n hx dX9_finds_124 rfl 0 rfl ?_
        refine J.geti (κ := 1) (k := 35) hx rfl rfl rfl in_X9 (by decide) (Or.inl q1688) a0.1 dX9_finds_125 fun v54 => ?_
        refine J.icmp_ge (tgt := 187) hx dX9_finds_128 (by decide) ?_ ?_
        · exact J.sub [0] rfl (hk187 w53)
        · refine J.aload_n hx dX9_finds_131 rfl 0 rfl ?_
          refine J.getc (κ' := 58) (i' := 0) (κ := 1) (k := 37) hx rfl rfl rfl rfl rfl in_X9 (by decide) (Or.inl q1690) a0.2 dX9_finds_132 fun h55 => ?_
          refine J.aload_n hx dX9_finds_135 rfl 0 rfl ?_
          refine J.getc (κ' := 57) (i' := 0) (κ := 1) (k := 36) hx rfl rfl rfl rfl rfl in_X9 (by decide) (Or.inl q1689) a0.2 dX9_finds_136 fun h56 => ?_
          refine J.iload_n hx dX9_finds_139 rfl 1 rfl ?_
          refine J.iald (κ := 57) hx rfl rfl h56.1 dX9_finds_140 fun v58 => ?_
          refine J.iload_n hx dX9_finds_141 rfl 1 rfl ?_
          refine J.iast (κ := 58) hx rfl rfl rfl h55.1 dX9_finds_142 fun w59 => ?_
          refine J.aload_n hx dX9_finds_143 rfl 0 rfl ?_
          refine J.dup hx dX9_finds_144 rfl ?_
          refine J.geti (κ := 1) (k := 38) hx rfl rfl rfl in_X9 (by decide) (Or.inl q1691) a0.1 dX9_finds_145 fun v61 => ?_
          refine J.iload_n hx dX9_finds_148 rfl 1 rfl ?_
          refine J.fn (fun (K177 : Int32 → j_St → Option (Unit × j_St)) => ∀ (v72 : Int32) (w73 : j_St), J g x 3 B (j_Q g x B rm_X9_finds jrv) 0 0 (K177 v72 w73) 177 [(0, .ref (B.1 1 0)), (1, .int v52)] [.int v72, .int v61, .ref (B.1 1 0)] w73) ?_ ?_
          · intro v72 w73
            refine J.iadd hx dX9_finds_177 ?_
            refine J.puti (κ := 1) (k := 38) hx rfl rfl rfl in_X9 tyX9_ok nmX9 (by decide) (Or.inl q1691) rfl rfl a0.1 ⟨rfl, rfl⟩ dX9_finds_178 fun w74 => ?_
            refine J.nmx fun v75 ev75 => ?_
            refine J.iinc (p := 1) (v := v75) (lv' := [(1, .int v75), (0, .ref (B.1 1 0))]) hx dX9_finds_181 rfl (by rw [ev75]; rfl) (by decide) rfl ?_
            refine J.goto (tgt := 123) hx dX9_finds_184 (by decide) ?_
            exact J.sub [1, 0] rfl (ih v75 w74)
          · intro K177 hK177
            refine J.fn (fun (K172 : j_St → Option (Unit × j_St)) => ∀  (w71 : j_St), J g x 3 B (j_Q g x B rm_X9_finds jrv) 0 0 (K172 w71) 172 [(0, .ref (B.1 1 0)), (1, .int v52)] [.int v61, .ref (B.1 1 0)] w71) ?_ ?_
            · intro w71
              refine J.iconst (v := 1) hx dX9_finds_172 (by decide) ?_
              refine J.goto (tgt := 177) hx dX9_finds_173 (by decide) ?_
              exact J.sub [0, 1] rfl (hK177 1 w71)
            · intro K172 hK172
              refine J.if_eq (tgt := 172) hx dX9_finds_149 (by decide) ?_ ?_
              · exact J.sub [0, 1] rfl (hK172 w59)
              · refine J.aload_n hx dX9_finds_152 rfl 0 rfl ?_
                refine J.aload_n hx dX9_finds_153 rfl 0 rfl ?_
                refine J.getc (κ' := 57) (i' := 0) (κ := 1) (k := 36) hx rfl rfl rfl rfl rfl in_X9 (by decide) (Or.inl q1689) a0.2 dX9_finds_154 fun h62 => ?_
                refine J.iload_n hx dX9_finds_157 rfl 1 rfl ?_
                refine J.iald (κ := 57) hx rfl rfl h62.1 dX9_finds_158 fun v64 => ?_
                refine J.calli hx (fun r z1 z => j_callV (κ := 1) hx rfl rfl a0.1 (mt_X9_lifeOf a0 z) (lw_V q2022 q2024 qs77 q129 q2025) hd_X9_lifeOf rfl ⟨Nat.le_of_ble_eq_true rfl, Nat.le_of_ble_eq_true rfl⟩ (Nat.le_of_ble_eq_true rfl) dX9_finds_159) ⟨⟨rfl, rfl⟩, Nat.le_of_ble_eq_true rfl, Nat.le_of_ble_eq_true rfl⟩ fun v65 w66 e67 => ?_
                refine J.aload_n hx dX9_finds_162 rfl 0 rfl ?_
                refine J.getc (κ' := 47) (i' := 0) (κ := 1) (k := 22) hx rfl rfl rfl rfl rfl in_X9 (by decide) (Or.inl q1675) a0.2 dX9_finds_163 fun h68 => ?_
                refine J.bipush (v := 49) hx dX9_finds_166 (by decide) ?_
                refine J.iald (κ := 47) hx rfl rfl h68.1 dX9_finds_168 fun v70 => ?_
                refine J.icmp_le (tgt := 176) hx dX9_finds_169 (by decide) ?_ ?_
                · refine J.iconst (v := 0) hx dX9_finds_176 (by decide) ?_
                  exact J.sub [0, 1] rfl (hK177 0 w66)
                · exact J.sub [0, 1] rfl (hK172 w66)
    refine J.sub [1, 0] rfl (hL123 _ ?_ jFU 0 w51)
    · intro w76
      refine J.aload_n hx dX9_finds_187 rfl 0 rfl ?_
      refine J.iconst (v := 0) hx dX9_finds_188 (by decide) ?_
      refine J.callv hx (fun r z1 z => j_callV (κ := 1) hx rfl rfl a0.1 (mt_X9_matches a0 z) (lw_V q2026 q2028 qs78 q129 q2029) hd_X9_matches rfl ⟨Nat.le_of_ble_eq_true rfl, Nat.le_of_ble_eq_true rfl⟩ (Nat.le_of_ble_eq_true rfl) dX9_finds_189) ⟨⟨rfl, rfl⟩, Nat.le_of_ble_eq_true rfl, Nat.le_of_ble_eq_true rfl⟩ fun _ w78 e79 => ?_
      exact J.vret hx rfl (Nat.le_of_ble_eq_true rfl) (Nat.le_of_ble_eq_true rfl) dX9_finds_192
theorem hd_X9_keptNow : yX9_keptNow.cls = RX9 ∧ yX9_keptNow.cls ≠ "java/lang/invoke/MethodHandle" ∧ yX9_keptNow.cls ≠ "java/lang/invoke/VarHandle" ∧ (parseMethodDescriptor yX9_keptNow.desc).map (fun d => d.parameters.length) = some 0 := by decide +kernel
def f_X9_keptNow  (w : j_St) : Option (Int32 × j_St) := jcb (f_X9_finds w) fun _ w2 => jlt (jgi w2 1 0 38) fun v4 => some (v4, w2)
abbrev rm_X9_keptNow : Room := { frames := 4, cells := 0, slots := 0, locals := 93 }
set_option maxRecDepth 100000 in
set_option maxHeartbeats 4000000 in
theorem mt_X9_keptNow {g : j_G} {B : j_B}  {w w' : j_St} (a0 : B.2.1 1 0 ∧ B.2.2 1 0) {r : Int32} (h : f_X9_keptNow  w = some (r, w')) : j_M g yX9_keptNow cX9_keptNow 1 (some FieldType.int) rm_X9_keptNow B [.ref (B.1 1 0)] w w' (jri r) := by
  refine j_met (rv := jri) (by decide) (Nat.le_of_ble_eq_true rfl) (fun x hx => ?_) h
  unfold f_X9_keptNow
  refine J.sub (lv' := [(0, .ref (B.1 1 0))]) [0] rfl ?_
  refine J.aload_n hx dX9_keptNow_0 rfl 0 rfl ?_
  refine J.callv hx (fun r z1 z => j_callV (κ := 1) hx rfl rfl a0.1 (mt_X9_finds a0 z) (lw_V q1990 q1992 qs69 q129 q1993) hd_X9_finds rfl ⟨Nat.le_of_ble_eq_true rfl, Nat.le_of_ble_eq_true rfl⟩ (Nat.le_of_ble_eq_true rfl) dX9_keptNow_1) ⟨⟨rfl, rfl⟩, Nat.le_of_ble_eq_true rfl, Nat.le_of_ble_eq_true rfl⟩ fun _ w2 e3 => ?_
  refine J.aload_n hx dX9_keptNow_4 rfl 0 rfl ?_
  refine J.geti (κ := 1) (k := 38) hx rfl rfl rfl in_X9 (by decide) (Or.inl q1691) a0.1 dX9_keptNow_5 fun v4 => ?_
  exact J.iret hx rfl (Nat.le_of_ble_eq_true rfl) (Nat.le_of_ble_eq_true rfl) dX9_keptNow_8
theorem hd_X9_fell : yX9_fell.cls = RX9 ∧ yX9_fell.cls ≠ "java/lang/invoke/MethodHandle" ∧ yX9_fell.cls ≠ "java/lang/invoke/VarHandle" ∧ (parseMethodDescriptor yX9_fell.desc).map (fun d => d.parameters.length) = some 0 := by decide +kernel
def f_X9_fell_L4   : Nat → Int32 → Int32 → j_St → Option (Int32 × j_St)
  | 0, _, _, _ => none
  | n4 + 1, v1, v2, w3 => jcb (f_X9_many w3) fun v4 w5 => if v4 ≤ v2 then some (v1, w5) else jbd v2 231 fun a8 => jlt (jgi w5 47 0 a8) fun v9 => jbd v2 48 fun a11 => jlt (jgi w5 61 0 a11) fun v12 => jlt (fun (v13 : Int32) (w14 : j_St) => jlt (v1 + v13) fun v15 => jlt (v2 + 1) fun v16 => f_X9_fell_L4 n4 v15 v16 w14) fun K33 => if v12 ≤ v9 then K33 0 w5 else K33 1 w5
def f_X9_fell  (w : j_St) : Option (Int32 × j_St) := f_X9_fell_L4 jFU 0 0 w
abbrev rm_X9_fell : Room := { frames := 1, cells := 0, slots := 0, locals := 20 }
set_option maxRecDepth 100000 in
set_option maxHeartbeats 4000000 in
theorem mt_X9_fell {g : j_G} {B : j_B}  {w w' : j_St} (a0 : B.2.1 1 0 ∧ B.2.2 1 0) {r : Int32} (h : f_X9_fell  w = some (r, w')) : j_M g yX9_fell cX9_fell 3 (some FieldType.int) rm_X9_fell B [.ref (B.1 1 0)] w w' (jri r) := by
  refine j_met (rv := jri) (by decide) (Nat.le_of_ble_eq_true rfl) (fun x hx => ?_) h
  unfold f_X9_fell
  refine J.sub (lv' := [(0, .ref (B.1 1 0))]) [0] rfl ?_
  refine J.iconst (v := 0) hx dX9_fell_0 (by decide) ?_
  refine J.istore_n (lv' := [(1, .int 0), (0, .ref (B.1 1 0))]) hx dX9_fell_1 rfl (by decide) rfl ?_
  refine J.iconst (v := 0) hx dX9_fell_2 (by decide) ?_
  refine J.istore_n (lv' := [(2, .int 0), (1, .int 0), (0, .ref (B.1 1 0))]) hx dX9_fell_3 rfl (by decide) rfl ?_
  have hL4 : ∀ (n4 : Nat) (v1 : Int32) (v2 : Int32) (w3 : j_St), J g x 3 B (j_Q g x B rm_X9_fell jri) 0 0 (f_X9_fell_L4 n4 v1 v2 w3) 4 [(0, .ref (B.1 1 0)), (1, .int v1), (2, .int v2)] [] w3 := by
    intro n4
    induction n4 with
    | zero =>
      intro v1 v2 w3
      rw [f_X9_fell_L4]
      exact J.nne
    | succ n4 ih =>
      intro v1 v2 w3
      rw [f_X9_fell_L4]
      refine J.iload_n hx dX9_fell_4 rfl 2 rfl ?_
      refine J.aload_n hx dX9_fell_5 rfl 0 rfl ?_
      refine J.calli hx (fun r z1 z => j_callV (κ := 1) hx rfl rfl a0.1 (mt_X9_many a0 z) (lw_V q1941 q1943 qs59 q129 q1944) hd_X9_many rfl ⟨Nat.le_of_ble_eq_true rfl, Nat.le_of_ble_eq_true rfl⟩ (Nat.le_of_ble_eq_true rfl) dX9_fell_6) ⟨⟨rfl, rfl⟩, Nat.le_of_ble_eq_true rfl, Nat.le_of_ble_eq_true rfl⟩ fun v4 w5 e6 => ?_
      refine J.icmp_ge (tgt := 41) hx dX9_fell_9 (by decide) ?_ ?_
      · refine J.iload_n hx dX9_fell_41 rfl 1 rfl ?_
        exact J.iret hx rfl (Nat.le_of_ble_eq_true rfl) (Nat.le_of_ble_eq_true rfl) dX9_fell_42
      · refine J.iload_n hx dX9_fell_12 rfl 1 rfl ?_
        refine J.aload_n hx dX9_fell_13 rfl 0 rfl ?_
        refine J.getc (κ' := 47) (i' := 0) (κ := 1) (k := 22) hx rfl rfl rfl rfl rfl in_X9 (by decide) (Or.inl q1675) a0.2 dX9_fell_14 fun h7 => ?_
        refine J.iload_n hx dX9_fell_17 rfl 2 rfl ?_
        refine J.iald (κ := 47) hx rfl rfl h7.1 dX9_fell_18 fun v9 => ?_
        refine J.aload_n hx dX9_fell_19 rfl 0 rfl ?_
        refine J.getc (κ' := 61) (i' := 0) (κ := 1) (k := 42) hx rfl rfl rfl rfl rfl in_X9 (by decide) (Or.inl q1695) a0.2 dX9_fell_20 fun h10 => ?_
        refine J.iload_n hx dX9_fell_23 rfl 2 rfl ?_
        refine J.iald (κ := 61) hx rfl rfl h10.1 dX9_fell_24 fun v12 => ?_
        refine J.fn (fun (K33 : Int32 → j_St → Option (Int32 × j_St)) => ∀ (v13 : Int32) (w14 : j_St), J g x 3 B (j_Q g x B rm_X9_fell jri) 0 0 (K33 v13 w14) 33 [(0, .ref (B.1 1 0)), (2, .int v2)] [.int v13, .int v1] w14) ?_ ?_
        · intro v13 w14
          refine J.iadd hx dX9_fell_33 ?_
          refine J.nmi fun v15 => ?_
          refine J.istore_n (lv' := [(1, .int v15), (0, .ref (B.1 1 0)), (2, .int v2)]) hx dX9_fell_34 rfl (by decide) rfl ?_
          refine J.nmx fun v16 ev16 => ?_
          refine J.iinc (p := 2) (v := v16) (lv' := [(2, .int v16), (1, .int v15), (0, .ref (B.1 1 0))]) hx dX9_fell_35 rfl (by rw [ev16]; rfl) (by decide) rfl ?_
          refine J.goto (tgt := 4) hx dX9_fell_38 (by decide) ?_
          exact J.sub [2, 1, 0] rfl (ih v15 v16 w14)
        · intro K33 hK33
          refine J.icmp_ge (tgt := 32) hx dX9_fell_25 (by decide) ?_ ?_
          · refine J.iconst (v := 0) hx dX9_fell_32 (by decide) ?_
            exact J.sub [0, 2] rfl (hK33 0 w5)
          · refine J.iconst (v := 1) hx dX9_fell_28 (by decide) ?_
            refine J.goto (tgt := 33) hx dX9_fell_29 (by decide) ?_
            exact J.sub [0, 2] rfl (hK33 1 w5)
  refine J.sub [2, 1, 0] rfl (hL4 jFU 0 0 w)
theorem hd_X9_flattens : yX9_flattens.cls = RX9 ∧ yX9_flattens.cls ≠ "java/lang/invoke/MethodHandle" ∧ yX9_flattens.cls ≠ "java/lang/invoke/VarHandle" ∧ (parseMethodDescriptor yX9_flattens.desc).map (fun d => d.parameters.length) = some 0 := by decide +kernel
def f_X9_flattens_L45 (v16 : Int32) (k69 : Int32 → j_St → Option (Int32 × j_St)) : Nat → Int32 → j_St → Option (Int32 × j_St)
  | 0, _, _ => none
  | n45 + 1, v20, w21 => if v20 ≤ 0 then k69 v20 w21 else jbd (v20 - 1) 48 fun a23 => jlt (jgi w21 61 0 a23) fun v24 => if v24 ≤ v16 then k69 v20 w21 else jlt (v20 + (-1)) fun v25 => f_X9_flattens_L45 v16 k69 n45 v25 w21
def f_X9_flattens_L69 (v16 : Int32) (k99 : Int32 → j_St → Option (Int32 × j_St)) : Nat → Int32 → j_St → Option (Int32 × j_St)
  | 0, _, _ => none
  | n69 + 1, v28, w29 => jcb (f_X9_many w29) fun v30 w31 => if v30 - 1 ≤ v28 then k99 v28 w31 else jbd (v28 + 1) 48 fun a34 => jlt (jgi w31 61 0 a34) fun v35 => if v35 ≤ v16 then k99 v28 w31 else jlt (v28 + 1) fun v36 => f_X9_flattens_L69 v16 k99 n69 v36 w31
def f_X9_flattens_L103 (v16 : Int32) (v37 : Int32) (k155 : j_St → Option (Int32 × j_St)) : Nat → Int32 → j_St → Option (Int32 × j_St)
  | 0, _, _ => none
  | n103 + 1, v39, w40 => if v37 < v39 then k155 w40 else jbd v39 48 fun a43 => jlt (jgi w40 61 0 a43) fun v44 => jlt (fun (v51 : Int32) (w52 : j_St) => jbd v39 231 fun a54 => jlt (jsi w52 47 0 a54 v51) fun w53 => jlt (v39 + 1) fun v55 => f_X9_flattens_L103 v16 v37 k155 n103 v55 w53) fun K148 => if v44 ≤ v16 then jbd v39 231 fun a46 => jlt (jgi w40 47 0 a46) fun v47 => K148 v47 w40 else jbd v39 231 fun a49 => jlt (jgi w40 47 0 a49) fun v50 => K148 (jmin v50 v16) w40
def f_X9_flattens_L13  (k161 : j_St → Option (Int32 × j_St)) : Nat → Int32 → j_St → Option (Int32 × j_St)
  | 0, _, _ => none
  | n13 + 1, v8, w9 => jlt (jgi w9 1 0 35) fun v10 => if v10 ≤ v8 then k161 w9 else jbd v8 48 fun a13 => jlt (jgi w9 57 0 a13) fun v14 => jbd v14 48 fun a15 => jlt (jgi w9 54 0 a15) fun v16 => jcb (f_X9_placeOf v8 w9) fun v17 w18 => f_X9_flattens_L45 v16 (fun (v26 : Int32) (w27 : j_St) => f_X9_flattens_L69 v16 (fun (v37 : Int32) (w38 : j_St) => f_X9_flattens_L103 v16 v37 (fun (w56 : j_St) => jlt (v8 + 1) fun v57 => f_X9_flattens_L13 k161 n13 v57 w56) jFU v26 w38) jFU v17 w27) jFU v17 w18
def f_X9_flattens  (w : j_St) : Option (Int32 × j_St) := jcb (f_X9_finds w) fun _ w2 => jcb (f_X9_keepWas w2) fun _ w5 => jlt (jgi w5 1 0 38) fun v7 => f_X9_flattens_L13 (fun (w58 : j_St) => jcb (f_X9_fell w58) fun v59 w60 => some (v59, w60)) jFU v7 w5
abbrev rm_X9_flattens : Room := { frames := 4, cells := 0, slots := 0, locals := 93 }
set_option maxRecDepth 100000 in
set_option maxHeartbeats 4000000 in
theorem mt_X9_flattens {g : j_G} {B : j_B}  {w w' : j_St} (a0 : B.2.1 1 0 ∧ B.2.2 1 0) {r : Int32} (h : f_X9_flattens  w = some (r, w')) : j_M g yX9_flattens cX9_flattens 7 (some FieldType.int) rm_X9_flattens B [.ref (B.1 1 0)] w w' (jri r) := by
  refine j_met (rv := jri) (by decide) (Nat.le_of_ble_eq_true rfl) (fun x hx => ?_) h
  unfold f_X9_flattens
  refine J.sub (lv' := [(0, .ref (B.1 1 0))]) [0] rfl ?_
  refine J.aload_n hx dX9_flattens_0 rfl 0 rfl ?_
  refine J.callv hx (fun r z1 z => j_callV (κ := 1) hx rfl rfl a0.1 (mt_X9_finds a0 z) (lw_V q1990 q1992 qs69 q129 q1993) hd_X9_finds rfl ⟨Nat.le_of_ble_eq_true rfl, Nat.le_of_ble_eq_true rfl⟩ (Nat.le_of_ble_eq_true rfl) dX9_flattens_1) ⟨⟨rfl, rfl⟩, Nat.le_of_ble_eq_true rfl, Nat.le_of_ble_eq_true rfl⟩ fun _ w2 e3 => ?_
  refine J.aload_n hx dX9_flattens_4 rfl 0 rfl ?_
  refine J.callv hx (fun r z1 z => j_callV (κ := 1) hx rfl rfl a0.1 (mt_X9_keepWas a0 z) (lw_V q1977 q1979 qs67 q129 q1980) hd_X9_keepWas rfl ⟨Nat.le_of_ble_eq_true rfl, Nat.le_of_ble_eq_true rfl⟩ (Nat.le_of_ble_eq_true rfl) dX9_flattens_5) ⟨⟨rfl, rfl⟩, Nat.le_of_ble_eq_true rfl, Nat.le_of_ble_eq_true rfl⟩ fun _ w5 e6 => ?_
  refine J.aload_n hx dX9_flattens_8 rfl 0 rfl ?_
  refine J.geti (κ := 1) (k := 38) hx rfl rfl rfl in_X9 (by decide) (Or.inl q1691) a0.1 dX9_flattens_9 fun v7 => ?_
  refine J.istore_n (lv' := [(1, .int v7), (0, .ref (B.1 1 0))]) hx dX9_flattens_12 rfl (by decide) rfl ?_
  have hL13 : ∀ (k161 : j_St → Option (Int32 × j_St)) (hk161 : ∀  (w58 : j_St), J g x 7 B (j_Q g x B rm_X9_flattens jri) 0 0 (k161 w58) 161 [(0, .ref (B.1 1 0))] [] w58) (n13 : Nat) (v8 : Int32) (w9 : j_St), J g x 7 B (j_Q g x B rm_X9_flattens jri) 0 0 (f_X9_flattens_L13 k161 n13 v8 w9) 13 [(0, .ref (B.1 1 0)), (1, .int v8)] [] w9 := by
    intro k161 hk161 n13
    induction n13 with
    | zero =>
      intro v8 w9
      rw [f_X9_flattens_L13]
      exact J.nne
    | succ n13 ih =>
      intro v8 w9
      rw [f_X9_flattens_L13]
      refine J.iload_n hx dX9_flattens_13 rfl 1 rfl ?_
      refine J.aload_n hx dX9_flattens_14 rfl 0 rfl ?_
      refine J.geti (κ := 1) (k := 35) hx rfl rfl rfl in_X9 (by decide) (Or.inl q1688) a0.1 dX9_flattens_15 fun v10 => ?_
      refine J.icmp_ge (tgt := 161) hx dX9_flattens_18 (by decide) ?_ ?_
      · exact J.sub [0] rfl (hk161 w9)
      · refine J.aload_n hx dX9_flattens_21 rfl 0 rfl ?_
        refine J.getc (κ' := 54) (i' := 0) (κ := 1) (k := 32) hx rfl rfl rfl rfl rfl in_X9 (by decide) (Or.inl q1685) a0.2 dX9_flattens_22 fun h11 => ?_
        refine J.aload_n hx dX9_flattens_25 rfl 0 rfl ?_
        refine J.getc (κ' := 57) (i' := 0) (κ := 1) (k := 36) hx rfl rfl rfl rfl rfl in_X9 (by decide) (Or.inl q1689) a0.2 dX9_flattens_26 fun h12 => ?_
        refine J.iload_n hx dX9_flattens_29 rfl 1 rfl ?_
        refine J.iald (κ := 57) hx rfl rfl h12.1 dX9_flattens_30 fun v14 => ?_
        refine J.iald (κ := 54) hx rfl rfl h11.1 dX9_flattens_31 fun v16 => ?_
        refine J.istore_n (lv' := [(2, .int v16), (0, .ref (B.1 1 0)), (1, .int v8)]) hx dX9_flattens_32 rfl (by decide) rfl ?_
        refine J.aload_n hx dX9_flattens_33 rfl 1 rfl ?_
        refine J.iload_n hx dX9_flattens_34 rfl 2 rfl ?_
        refine J.calli hx (fun r z1 z => j_callV (κ := 1) hx rfl rfl a0.1 (mt_X9_placeOf a0 z) (lw_V q2030 q2032 qs79 q129 q2033) hd_X9_placeOf rfl ⟨Nat.le_of_ble_eq_true rfl, Nat.le_of_ble_eq_true rfl⟩ (Nat.le_of_ble_eq_true rfl) dX9_flattens_35) ⟨⟨rfl, rfl⟩, Nat.le_of_ble_eq_true rfl, Nat.le_of_ble_eq_true rfl⟩ fun v17 w18 e19 => ?_
        refine J.istore_n (lv' := [(3, .int v17), (2, .int v16), (0, .ref (B.1 1 0)), (1, .int v8)]) hx dX9_flattens_38 rfl (by decide) rfl ?_
        refine J.iload_n hx dX9_flattens_39 rfl 0 rfl ?_
        refine J.istore (lv' := [(4, .int v17), (3, .int v17), (2, .int v16), (0, .ref (B.1 1 0)), (1, .int v8)]) hx dX9_flattens_40 (by decide) rfl ?_
        refine J.iload_n hx dX9_flattens_42 rfl 1 rfl ?_
        refine J.istore (lv' := [(5, .int v17), (4, .int v17), (3, .int v17), (2, .int v16), (0, .ref (B.1 1 0)), (1, .int v8)]) hx dX9_flattens_43 (by decide) rfl ?_
        have hL45 : ∀ (k69 : Int32 → j_St → Option (Int32 × j_St)) (hk69 : ∀ (v26 : Int32) (w27 : j_St), J g x 7 B (j_Q g x B rm_X9_flattens jri) 0 0 (k69 v26 w27) 69 [(0, .ref (B.1 1 0)), (1, .int v8), (2, .int v16), (4, .int v26), (5, .int v17)] [] w27) (n45 : Nat) (v20 : Int32) (w21 : j_St), J g x 7 B (j_Q g x B rm_X9_flattens jri) 0 0 (f_X9_flattens_L45 v16 k69 n45 v20 w21) 45 [(0, .ref (B.1 1 0)), (1, .int v8), (2, .int v16), (4, .int v20), (5, .int v17)] [] w21 := by
          intro k69 hk69 n45
          induction n45 with
          | zero =>
            intro v20 w21
            rw [f_X9_flattens_L45]
            exact J.nne
          | succ n45 ih =>
            intro v20 w21
            rw [f_X9_flattens_L45]
            refine J.iload hx dX9_flattens_45 3 rfl ?_
            refine J.if_le (tgt := 69) hx dX9_flattens_47 (by decide) ?_ ?_
            · exact J.sub [0, 1, 2, 3, 4] rfl (hk69 v20 w21)
            · refine J.aload_n hx dX9_flattens_50 rfl 0 rfl ?_
              refine J.getc (κ' := 61) (i' := 0) (κ := 1) (k := 42) hx rfl rfl rfl rfl rfl in_X9 (by decide) (Or.inl q1695) a0.2 dX9_flattens_51 fun h22 => ?_
              refine J.iload hx dX9_flattens_54 3 rfl ?_
              refine J.iconst (v := 1) hx dX9_flattens_56 (by decide) ?_
              refine J.isub hx dX9_flattens_57 ?_
              refine J.iald (κ := 61) hx rfl rfl h22.1 dX9_flattens_58 fun v24 => ?_
              refine J.iload_n hx dX9_flattens_59 rfl 2 rfl ?_
              refine J.icmp_le (tgt := 69) hx dX9_flattens_60 (by decide) ?_ ?_
              · exact J.sub [0, 1, 2, 3, 4] rfl (hk69 v20 w21)
              · refine J.nmx fun v25 ev25 => ?_
                refine J.iinc (p := 3) (v := v25) (lv' := [(4, .int v25), (0, .ref (B.1 1 0)), (1, .int v8), (2, .int v16), (5, .int v17)]) hx dX9_flattens_63 rfl (by rw [ev25]; rfl) (by decide) rfl ?_
                refine J.goto (tgt := 45) hx dX9_flattens_66 (by decide) ?_
                exact J.sub [1, 2, 3, 0, 4] rfl (ih v25 w21)
        refine J.sub [4, 5, 3, 1, 0] rfl (hL45 _ ?_ jFU v17 w18)
        · intro v26 w27
          have hL69 : ∀ (k99 : Int32 → j_St → Option (Int32 × j_St)) (hk99 : ∀ (v37 : Int32) (w38 : j_St), J g x 7 B (j_Q g x B rm_X9_flattens jri) 0 0 (k99 v37 w38) 99 [(0, .ref (B.1 1 0)), (1, .int v8), (2, .int v16), (4, .int v26), (5, .int v37)] [] w38) (n69 : Nat) (v28 : Int32) (w29 : j_St), J g x 7 B (j_Q g x B rm_X9_flattens jri) 0 0 (f_X9_flattens_L69 v16 k99 n69 v28 w29) 69 [(0, .ref (B.1 1 0)), (1, .int v8), (2, .int v16), (4, .int v26), (5, .int v28)] [] w29 := by
            intro k99 hk99 n69
            induction n69 with
            | zero =>
              intro v28 w29
              rw [f_X9_flattens_L69]
              exact J.nne
            | succ n69 ih =>
              intro v28 w29
              rw [f_X9_flattens_L69]
              refine J.iload hx dX9_flattens_69 4 rfl ?_
              refine J.aload_n hx dX9_flattens_71 rfl 0 rfl ?_
              refine J.calli hx (fun r z1 z => j_callV (κ := 1) hx rfl rfl a0.1 (mt_X9_many a0 z) (lw_V q1941 q1943 qs59 q129 q1944) hd_X9_many rfl ⟨Nat.le_of_ble_eq_true rfl, Nat.le_of_ble_eq_true rfl⟩ (Nat.le_of_ble_eq_true rfl) dX9_flattens_72) ⟨⟨rfl, rfl⟩, Nat.le_of_ble_eq_true rfl, Nat.le_of_ble_eq_true rfl⟩ fun v30 w31 e32 => ?_
              refine J.iconst (v := 1) hx dX9_flattens_75 (by decide) ?_
              refine J.isub hx dX9_flattens_76 ?_
              refine J.icmp_ge (tgt := 99) hx dX9_flattens_77 (by decide) ?_ ?_
              · exact J.sub [0, 1, 2, 3, 4] rfl (hk99 v28 w31)
              · refine J.aload_n hx dX9_flattens_80 rfl 0 rfl ?_
                refine J.getc (κ' := 61) (i' := 0) (κ := 1) (k := 42) hx rfl rfl rfl rfl rfl in_X9 (by decide) (Or.inl q1695) a0.2 dX9_flattens_81 fun h33 => ?_
                refine J.iload hx dX9_flattens_84 4 rfl ?_
                refine J.iconst (v := 1) hx dX9_flattens_86 (by decide) ?_
                refine J.iadd hx dX9_flattens_87 ?_
                refine J.iald (κ := 61) hx rfl rfl h33.1 dX9_flattens_88 fun v35 => ?_
                refine J.iload_n hx dX9_flattens_89 rfl 2 rfl ?_
                refine J.icmp_le (tgt := 99) hx dX9_flattens_90 (by decide) ?_ ?_
                · exact J.sub [0, 1, 2, 3, 4] rfl (hk99 v28 w31)
                · refine J.nmx fun v36 ev36 => ?_
                  refine J.iinc (p := 4) (v := v36) (lv' := [(5, .int v36), (0, .ref (B.1 1 0)), (1, .int v8), (2, .int v16), (4, .int v26)]) hx dX9_flattens_93 rfl (by rw [ev36]; rfl) (by decide) rfl ?_
                  refine J.goto (tgt := 69) hx dX9_flattens_96 (by decide) ?_
                  exact J.sub [1, 2, 3, 4, 0] rfl (ih v36 w31)
          refine J.sub [0, 1, 2, 3, 4] rfl (hL69 _ ?_ jFU v17 w27)
          · intro v37 w38
            refine J.iload hx dX9_flattens_99 3 rfl ?_
            refine J.istore (lv' := [(6, .int v26), (0, .ref (B.1 1 0)), (1, .int v8), (2, .int v16), (4, .int v26), (5, .int v37)]) hx dX9_flattens_101 (by decide) rfl ?_
            have hL103 : ∀ (k155 : j_St → Option (Int32 × j_St)) (hk155 : ∀  (w56 : j_St), J g x 7 B (j_Q g x B rm_X9_flattens jri) 0 0 (k155 w56) 155 [(0, .ref (B.1 1 0)), (1, .int v8)] [] w56) (n103 : Nat) (v39 : Int32) (w40 : j_St), J g x 7 B (j_Q g x B rm_X9_flattens jri) 0 0 (f_X9_flattens_L103 v16 v37 k155 n103 v39 w40) 103 [(0, .ref (B.1 1 0)), (1, .int v8), (2, .int v16), (5, .int v37), (6, .int v39)] [] w40 := by
              intro k155 hk155 n103
              induction n103 with
              | zero =>
                intro v39 w40
                rw [f_X9_flattens_L103]
                exact J.nne
              | succ n103 ih =>
                intro v39 w40
                rw [f_X9_flattens_L103]
                refine J.iload hx dX9_flattens_103 4 rfl ?_
                refine J.iload hx dX9_flattens_105 3 rfl ?_
                refine J.icmp_gt (tgt := 155) hx dX9_flattens_107 (by decide) ?_ ?_
                · exact J.sub [0, 1] rfl (hk155 w40)
                · refine J.aload_n hx dX9_flattens_110 rfl 0 rfl ?_
                  refine J.getc (κ' := 47) (i' := 0) (κ := 1) (k := 22) hx rfl rfl rfl rfl rfl in_X9 (by decide) (Or.inl q1675) a0.2 dX9_flattens_111 fun h41 => ?_
                  refine J.iload hx dX9_flattens_114 4 rfl ?_
                  refine J.aload_n hx dX9_flattens_116 rfl 0 rfl ?_
                  refine J.getc (κ' := 61) (i' := 0) (κ := 1) (k := 42) hx rfl rfl rfl rfl rfl in_X9 (by decide) (Or.inl q1695) a0.2 dX9_flattens_117 fun h42 => ?_
                  refine J.iload hx dX9_flattens_120 4 rfl ?_
                  refine J.iald (κ := 61) hx rfl rfl h42.1 dX9_flattens_122 fun v44 => ?_
                  refine J.iload_n hx dX9_flattens_123 rfl 2 rfl ?_
                  refine J.fn (fun (K148 : Int32 → j_St → Option (Int32 × j_St)) => ∀ (v51 : Int32) (w52 : j_St), J g x 7 B (j_Q g x B rm_X9_flattens jri) 0 0 (K148 v51 w52) 148 [(0, .ref (B.1 1 0)), (1, .int v8), (2, .int v16), (5, .int v37), (6, .int v39)] [.int v51, .int v39, .ref (B.1 47 0)] w52) ?_ ?_
                  · intro v51 w52
                    refine J.iast (κ := 47) hx rfl rfl rfl h41.1 dX9_flattens_148 fun w53 => ?_
                    refine J.nmx fun v55 ev55 => ?_
                    refine J.iinc (p := 4) (v := v55) (lv' := [(6, .int v55), (0, .ref (B.1 1 0)), (1, .int v8), (2, .int v16), (5, .int v37)]) hx dX9_flattens_149 rfl (by rw [ev55]; rfl) (by decide) rfl ?_
                    refine J.goto (tgt := 103) hx dX9_flattens_152 (by decide) ?_
                    exact J.sub [1, 2, 3, 4, 0] rfl (ih v55 w53)
                  · intro K148 hK148
                    refine J.icmp_le (tgt := 141) hx dX9_flattens_124 (by decide) ?_ ?_
                    · refine J.aload_n hx dX9_flattens_141 rfl 0 rfl ?_
                      refine J.getc (κ' := 47) (i' := 0) (κ := 1) (k := 22) hx rfl rfl rfl rfl rfl in_X9 (by decide) (Or.inl q1675) a0.2 dX9_flattens_142 fun h45 => ?_
                      refine J.iload hx dX9_flattens_145 4 rfl ?_
                      refine J.iald (κ := 47) hx rfl rfl h45.1 dX9_flattens_147 fun v47 => ?_
                      exact J.sub [0, 1, 2, 3, 4] rfl (hK148 v47 w40)
                    · refine J.aload_n hx dX9_flattens_127 rfl 0 rfl ?_
                      refine J.getc (κ' := 47) (i' := 0) (κ := 1) (k := 22) hx rfl rfl rfl rfl rfl in_X9 (by decide) (Or.inl q1675) a0.2 dX9_flattens_128 fun h48 => ?_
                      refine J.iload hx dX9_flattens_131 4 rfl ?_
                      refine J.iald (κ := 47) hx rfl rfl h48.1 dX9_flattens_133 fun v50 => ?_
                      refine J.iload_n hx dX9_flattens_134 rfl 2 rfl ?_
                      refine J.mmin hx q1982 q192 q123 q193 ⟨Nat.le_of_ble_eq_true rfl, Nat.le_of_ble_eq_true rfl⟩ (Nat.le_of_ble_eq_true rfl) (Nat.le_of_ble_eq_true rfl) (Nat.le_of_ble_eq_true rfl) dX9_flattens_135 ?_
                      refine J.goto (tgt := 148) hx dX9_flattens_138 (by decide) ?_
                      exact J.sub [0, 1, 2, 3, 4] rfl (hK148 (jmin v50 v16) w40)
            refine J.sub [1, 2, 3, 5, 0] rfl (hL103 _ ?_ jFU v26 w38)
            · intro w56
              refine J.nmx fun v57 ev57 => ?_
              refine J.iinc (p := 1) (v := v57) (lv' := [(1, .int v57), (0, .ref (B.1 1 0))]) hx dX9_flattens_155 rfl (by rw [ev57]; rfl) (by decide) rfl ?_
              refine J.goto (tgt := 13) hx dX9_flattens_158 (by decide) ?_
              exact J.sub [1, 0] rfl (ih v57 w56)
  refine J.sub [1, 0] rfl (hL13 _ ?_ jFU v7 w5)
  · intro w58
    refine J.aload_n hx dX9_flattens_161 rfl 0 rfl ?_
    refine J.calli hx (fun r z1 z => j_callV (κ := 1) hx rfl rfl a0.1 (mt_X9_fell a0 z) (lw_V q2041 q2043 qs81 q129 q2044) hd_X9_fell rfl ⟨Nat.le_of_ble_eq_true rfl, Nat.le_of_ble_eq_true rfl⟩ (Nat.le_of_ble_eq_true rfl) dX9_flattens_162) ⟨⟨rfl, rfl⟩, Nat.le_of_ble_eq_true rfl, Nat.le_of_ble_eq_true rfl⟩ fun v59 w60 e61 => ?_
    exact J.iret hx rfl (Nat.le_of_ble_eq_true rfl) (Nat.le_of_ble_eq_true rfl) dX9_flattens_165
theorem hd_X9_turns : yX9_turns.cls = RX9 ∧ yX9_turns.cls ≠ "java/lang/invoke/MethodHandle" ∧ yX9_turns.cls ≠ "java/lang/invoke/VarHandle" ∧ (parseMethodDescriptor yX9_turns.desc).map (fun d => d.parameters.length) = some 0 := by decide +kernel
def f_X9_turns_L6  (k39 : j_St → Option (Int32 × j_St)) : Nat → Int32 → j_St → Option (Int32 × j_St)
  | 0, _, _ => none
  | n6 + 1, v4, w5 => jcb (f_X9_many w5) fun v6 w7 => if v6 ≤ v4 then k39 w7 else jcb (f_X9_many w7) fun v11 w12 => jbd ((v11 - 1) - v4) 48 fun a14 => jlt (jgi w12 61 0 a14) fun v15 => jbd v4 231 fun a17 => jlt (jsi w12 47 0 a17 v15) fun w16 => jlt (v4 + 1) fun v18 => f_X9_turns_L6 k39 n6 v18 w16
def f_X9_turns  (w : j_St) : Option (Int32 × j_St) := jcb (f_X9_keepWas w) fun _ w2 => f_X9_turns_L6 (fun (w19 : j_St) => jbd 0 231 fun a21 => jlt (jgi w19 47 0 a21) fun v22 => some (v22, w19)) jFU 0 w2
abbrev rm_X9_turns : Room := { frames := 1, cells := 0, slots := 0, locals := 21 }
set_option maxRecDepth 100000 in
set_option maxHeartbeats 4000000 in
theorem mt_X9_turns {g : j_G} {B : j_B}  {w w' : j_St} (a0 : B.2.1 1 0 ∧ B.2.2 1 0) {r : Int32} (h : f_X9_turns  w = some (r, w')) : j_M g yX9_turns cX9_turns 2 (some FieldType.int) rm_X9_turns B [.ref (B.1 1 0)] w w' (jri r) := by
  refine j_met (rv := jri) (by decide) (Nat.le_of_ble_eq_true rfl) (fun x hx => ?_) h
  unfold f_X9_turns
  refine J.sub (lv' := [(0, .ref (B.1 1 0))]) [0] rfl ?_
  refine J.aload_n hx dX9_turns_0 rfl 0 rfl ?_
  refine J.callv hx (fun r z1 z => j_callV (κ := 1) hx rfl rfl a0.1 (mt_X9_keepWas a0 z) (lw_V q1977 q1979 qs67 q129 q1980) hd_X9_keepWas rfl ⟨Nat.le_of_ble_eq_true rfl, Nat.le_of_ble_eq_true rfl⟩ (Nat.le_of_ble_eq_true rfl) dX9_turns_1) ⟨⟨rfl, rfl⟩, Nat.le_of_ble_eq_true rfl, Nat.le_of_ble_eq_true rfl⟩ fun _ w2 e3 => ?_
  refine J.iconst (v := 0) hx dX9_turns_4 (by decide) ?_
  refine J.istore_n (lv' := [(1, .int 0), (0, .ref (B.1 1 0))]) hx dX9_turns_5 rfl (by decide) rfl ?_
  have hL6 : ∀ (k39 : j_St → Option (Int32 × j_St)) (hk39 : ∀  (w19 : j_St), J g x 2 B (j_Q g x B rm_X9_turns jri) 0 0 (k39 w19) 39 [(0, .ref (B.1 1 0))] [] w19) (n6 : Nat) (v4 : Int32) (w5 : j_St), J g x 2 B (j_Q g x B rm_X9_turns jri) 0 0 (f_X9_turns_L6 k39 n6 v4 w5) 6 [(0, .ref (B.1 1 0)), (1, .int v4)] [] w5 := by
    intro k39 hk39 n6
    induction n6 with
    | zero =>
      intro v4 w5
      rw [f_X9_turns_L6]
      exact J.nne
    | succ n6 ih =>
      intro v4 w5
      rw [f_X9_turns_L6]
      refine J.iload_n hx dX9_turns_6 rfl 1 rfl ?_
      refine J.aload_n hx dX9_turns_7 rfl 0 rfl ?_
      refine J.calli hx (fun r z1 z => j_callV (κ := 1) hx rfl rfl a0.1 (mt_X9_many a0 z) (lw_V q1941 q1943 qs59 q129 q1944) hd_X9_many rfl ⟨Nat.le_of_ble_eq_true rfl, Nat.le_of_ble_eq_true rfl⟩ (Nat.le_of_ble_eq_true rfl) dX9_turns_8) ⟨⟨rfl, rfl⟩, Nat.le_of_ble_eq_true rfl, Nat.le_of_ble_eq_true rfl⟩ fun v6 w7 e8 => ?_
      refine J.icmp_ge (tgt := 39) hx dX9_turns_11 (by decide) ?_ ?_
      · exact J.sub [0] rfl (hk39 w7)
      · refine J.aload_n hx dX9_turns_14 rfl 0 rfl ?_
        refine J.getc (κ' := 47) (i' := 0) (κ := 1) (k := 22) hx rfl rfl rfl rfl rfl in_X9 (by decide) (Or.inl q1675) a0.2 dX9_turns_15 fun h9 => ?_
        refine J.iload_n hx dX9_turns_18 rfl 1 rfl ?_
        refine J.aload_n hx dX9_turns_19 rfl 0 rfl ?_
        refine J.getc (κ' := 61) (i' := 0) (κ := 1) (k := 42) hx rfl rfl rfl rfl rfl in_X9 (by decide) (Or.inl q1695) a0.2 dX9_turns_20 fun h10 => ?_
        refine J.aload_n hx dX9_turns_23 rfl 0 rfl ?_
        refine J.calli hx (fun r z1 z => j_callV (κ := 1) hx rfl rfl a0.1 (mt_X9_many a0 z) (lw_V q1941 q1943 qs59 q129 q1944) hd_X9_many rfl ⟨Nat.le_of_ble_eq_true rfl, Nat.le_of_ble_eq_true rfl⟩ (Nat.le_of_ble_eq_true rfl) dX9_turns_24) ⟨⟨rfl, rfl⟩, Nat.le_of_ble_eq_true rfl, Nat.le_of_ble_eq_true rfl⟩ fun v11 w12 e13 => ?_
        refine J.iconst (v := 1) hx dX9_turns_27 (by decide) ?_
        refine J.isub hx dX9_turns_28 ?_
        refine J.iload_n hx dX9_turns_29 rfl 1 rfl ?_
        refine J.isub hx dX9_turns_30 ?_
        refine J.iald (κ := 61) hx rfl rfl h10.1 dX9_turns_31 fun v15 => ?_
        refine J.iast (κ := 47) hx rfl rfl rfl h9.1 dX9_turns_32 fun w16 => ?_
        refine J.nmx fun v18 ev18 => ?_
        refine J.iinc (p := 1) (v := v18) (lv' := [(1, .int v18), (0, .ref (B.1 1 0))]) hx dX9_turns_33 rfl (by rw [ev18]; rfl) (by decide) rfl ?_
        refine J.goto (tgt := 6) hx dX9_turns_36 (by decide) ?_
        exact J.sub [1, 0] rfl (ih v18 w16)
  refine J.sub [1, 0] rfl (hL6 _ ?_ jFU 0 w2)
  · intro w19
    refine J.aload_n hx dX9_turns_39 rfl 0 rfl ?_
    refine J.getc (κ' := 47) (i' := 0) (κ := 1) (k := 22) hx rfl rfl rfl rfl rfl in_X9 (by decide) (Or.inl q1675) a0.2 dX9_turns_40 fun h20 => ?_
    refine J.iconst (v := 0) hx dX9_turns_43 (by decide) ?_
    refine J.iald (κ := 47) hx rfl rfl h20.1 dX9_turns_44 fun v22 => ?_
    exact J.iret hx rfl (Nat.le_of_ble_eq_true rfl) (Nat.le_of_ble_eq_true rfl) dX9_turns_45
theorem hd_X9_clips : yX9_clips.cls = RX9 ∧ yX9_clips.cls ≠ "java/lang/invoke/MethodHandle" ∧ yX9_clips.cls ≠ "java/lang/invoke/VarHandle" ∧ (parseMethodDescriptor yX9_clips.desc).map (fun d => d.parameters.length) = some 1 := by decide +kernel
def f_X9_clips_L6 (p1 : Int32) (k36 : j_St → Option (Int32 × j_St)) : Nat → Int32 → j_St → Option (Int32 × j_St)
  | 0, _, _ => none
  | n6 + 1, v4, w5 => jcb (f_X9_many w5) fun v6 w7 => if v6 ≤ v4 then k36 w7 else jbd v4 231 fun a11 => jlt (jgi w7 47 0 a11) fun v12 => jbd v4 231 fun a14 => jlt (jsi w7 47 0 a14 (jmin v12 p1)) fun w13 => jlt (v4 + 1) fun v15 => f_X9_clips_L6 p1 k36 n6 v15 w13
def f_X9_clips (p1 : Int32) (w : j_St) : Option (Int32 × j_St) := jcb (f_X9_keepWas w) fun _ w2 => f_X9_clips_L6 p1 (fun (w16 : j_St) => jcb (f_X9_fell w16) fun v17 w18 => some (v17, w18)) jFU 0 w2
abbrev rm_X9_clips : Room := { frames := 2, cells := 0, slots := 0, locals := 42 }
set_option maxRecDepth 100000 in
set_option maxHeartbeats 4000000 in
theorem mt_X9_clips {g : j_G} {B : j_B} {p1 : Int32} {w w' : j_St} (a0 : B.2.1 1 0 ∧ B.2.2 1 0) {r : Int32} (h : f_X9_clips p1 w = some (r, w')) : j_M g yX9_clips cX9_clips 3 (some FieldType.int) rm_X9_clips B [.ref (B.1 1 0), .int p1] w w' (jri r) := by
  refine j_met (rv := jri) (by decide) (Nat.le_of_ble_eq_true rfl) (fun x hx => ?_) h
  unfold f_X9_clips
  refine J.sub (lv' := [(0, .ref (B.1 1 0)), (1, .int p1)]) [0, 1] rfl ?_
  refine J.aload_n hx dX9_clips_0 rfl 0 rfl ?_
  refine J.callv hx (fun r z1 z => j_callV (κ := 1) hx rfl rfl a0.1 (mt_X9_keepWas a0 z) (lw_V q1977 q1979 qs67 q129 q1980) hd_X9_keepWas rfl ⟨Nat.le_of_ble_eq_true rfl, Nat.le_of_ble_eq_true rfl⟩ (Nat.le_of_ble_eq_true rfl) dX9_clips_1) ⟨⟨rfl, rfl⟩, Nat.le_of_ble_eq_true rfl, Nat.le_of_ble_eq_true rfl⟩ fun _ w2 e3 => ?_
  refine J.iconst (v := 0) hx dX9_clips_4 (by decide) ?_
  refine J.istore_n (lv' := [(2, .int 0), (0, .ref (B.1 1 0)), (1, .int p1)]) hx dX9_clips_5 rfl (by decide) rfl ?_
  have hL6 : ∀ (k36 : j_St → Option (Int32 × j_St)) (hk36 : ∀  (w16 : j_St), J g x 3 B (j_Q g x B rm_X9_clips jri) 0 0 (k36 w16) 36 [(0, .ref (B.1 1 0))] [] w16) (n6 : Nat) (v4 : Int32) (w5 : j_St), J g x 3 B (j_Q g x B rm_X9_clips jri) 0 0 (f_X9_clips_L6 p1 k36 n6 v4 w5) 6 [(0, .ref (B.1 1 0)), (1, .int p1), (2, .int v4)] [] w5 := by
    intro k36 hk36 n6
    induction n6 with
    | zero =>
      intro v4 w5
      rw [f_X9_clips_L6]
      exact J.nne
    | succ n6 ih =>
      intro v4 w5
      rw [f_X9_clips_L6]
      refine J.iload_n hx dX9_clips_6 rfl 2 rfl ?_
      refine J.aload_n hx dX9_clips_7 rfl 0 rfl ?_
      refine J.calli hx (fun r z1 z => j_callV (κ := 1) hx rfl rfl a0.1 (mt_X9_many a0 z) (lw_V q1941 q1943 qs59 q129 q1944) hd_X9_many rfl ⟨Nat.le_of_ble_eq_true rfl, Nat.le_of_ble_eq_true rfl⟩ (Nat.le_of_ble_eq_true rfl) dX9_clips_8) ⟨⟨rfl, rfl⟩, Nat.le_of_ble_eq_true rfl, Nat.le_of_ble_eq_true rfl⟩ fun v6 w7 e8 => ?_
      refine J.icmp_ge (tgt := 36) hx dX9_clips_11 (by decide) ?_ ?_
      · exact J.sub [0] rfl (hk36 w7)
      · refine J.aload_n hx dX9_clips_14 rfl 0 rfl ?_
        refine J.getc (κ' := 47) (i' := 0) (κ := 1) (k := 22) hx rfl rfl rfl rfl rfl in_X9 (by decide) (Or.inl q1675) a0.2 dX9_clips_15 fun h9 => ?_
        refine J.iload_n hx dX9_clips_18 rfl 2 rfl ?_
        refine J.aload_n hx dX9_clips_19 rfl 0 rfl ?_
        refine J.getc (κ' := 47) (i' := 0) (κ := 1) (k := 22) hx rfl rfl rfl rfl rfl in_X9 (by decide) (Or.inl q1675) a0.2 dX9_clips_20 fun h10 => ?_
        refine J.iload_n hx dX9_clips_23 rfl 2 rfl ?_
        refine J.iald (κ := 47) hx rfl rfl h10.1 dX9_clips_24 fun v12 => ?_
        refine J.iload_n hx dX9_clips_25 rfl 1 rfl ?_
        refine J.mmin hx q1982 q192 q123 q193 ⟨Nat.le_of_ble_eq_true rfl, Nat.le_of_ble_eq_true rfl⟩ (Nat.le_of_ble_eq_true rfl) (Nat.le_of_ble_eq_true rfl) (Nat.le_of_ble_eq_true rfl) dX9_clips_26 ?_
        refine J.iast (κ := 47) hx rfl rfl rfl h9.1 dX9_clips_29 fun w13 => ?_
        refine J.nmx fun v15 ev15 => ?_
        refine J.iinc (p := 2) (v := v15) (lv' := [(2, .int v15), (0, .ref (B.1 1 0)), (1, .int p1)]) hx dX9_clips_30 rfl (by rw [ev15]; rfl) (by decide) rfl ?_
        refine J.goto (tgt := 6) hx dX9_clips_33 (by decide) ?_
        exact J.sub [1, 2, 0] rfl (ih v15 w13)
  refine J.sub [1, 2, 0] rfl (hL6 _ ?_ jFU 0 w2)
  · intro w16
    refine J.aload_n hx dX9_clips_36 rfl 0 rfl ?_
    refine J.calli hx (fun r z1 z => j_callV (κ := 1) hx rfl rfl a0.1 (mt_X9_fell a0 z) (lw_V q2041 q2043 qs81 q129 q2044) hd_X9_fell rfl ⟨Nat.le_of_ble_eq_true rfl, Nat.le_of_ble_eq_true rfl⟩ (Nat.le_of_ble_eq_true rfl) dX9_clips_37) ⟨⟨rfl, rfl⟩, Nat.le_of_ble_eq_true rfl, Nat.le_of_ble_eq_true rfl⟩ fun v17 w18 e19 => ?_
    exact J.iret hx rfl (Nat.le_of_ble_eq_true rfl) (Nat.le_of_ble_eq_true rfl) dX9_clips_40
theorem hd_X9_lifts : yX9_lifts.cls = RX9 ∧ yX9_lifts.cls ≠ "java/lang/invoke/MethodHandle" ∧ yX9_lifts.cls ≠ "java/lang/invoke/VarHandle" ∧ (parseMethodDescriptor yX9_lifts.desc).map (fun d => d.parameters.length) = some 1 := by decide +kernel
def f_X9_lifts_L2 (p1 : Int32) (k40 : j_St → Option (Int32 × j_St)) : Nat → Int32 → j_St → Option (Int32 × j_St)
  | 0, _, _ => none
  | n2 + 1, v1, w2 => jcb (f_X9_many w2) fun v3 w4 => if v3 ≤ v1 then k40 w4 else jbd v1 231 fun a8 => jlt (jgi w4 47 0 a8) fun v9 => jbd v1 231 fun a11 => jlt (jsi w4 47 0 a11 (jmax 0 (jmin 999 (v9 + p1)))) fun w10 => jlt (v1 + 1) fun v12 => f_X9_lifts_L2 p1 k40 n2 v12 w10
def f_X9_lifts (p1 : Int32) (w : j_St) : Option (Int32 × j_St) := f_X9_lifts_L2 p1 (fun (w13 : j_St) => jcb (f_X9_least w13) fun v14 w15 => some (v14, w15)) jFU 0 w
abbrev rm_X9_lifts : Room := { frames := 2, cells := 0, slots := 0, locals := 43 }
set_option maxRecDepth 100000 in
set_option maxHeartbeats 4000000 in
theorem mt_X9_lifts {g : j_G} {B : j_B} {p1 : Int32} {w w' : j_St} (a0 : B.2.1 1 0 ∧ B.2.2 1 0) {r : Int32} (h : f_X9_lifts p1 w = some (r, w')) : j_M g yX9_lifts cX9_lifts 3 (some FieldType.int) rm_X9_lifts B [.ref (B.1 1 0), .int p1] w w' (jri r) := by
  refine j_met (rv := jri) (by decide) (Nat.le_of_ble_eq_true rfl) (fun x hx => ?_) h
  unfold f_X9_lifts
  refine J.sub (lv' := [(0, .ref (B.1 1 0)), (1, .int p1)]) [0, 1] rfl ?_
  refine J.iconst (v := 0) hx dX9_lifts_0 (by decide) ?_
  refine J.istore_n (lv' := [(2, .int 0), (0, .ref (B.1 1 0)), (1, .int p1)]) hx dX9_lifts_1 rfl (by decide) rfl ?_
  have hL2 : ∀ (k40 : j_St → Option (Int32 × j_St)) (hk40 : ∀  (w13 : j_St), J g x 3 B (j_Q g x B rm_X9_lifts jri) 0 0 (k40 w13) 40 [(0, .ref (B.1 1 0))] [] w13) (n2 : Nat) (v1 : Int32) (w2 : j_St), J g x 3 B (j_Q g x B rm_X9_lifts jri) 0 0 (f_X9_lifts_L2 p1 k40 n2 v1 w2) 2 [(0, .ref (B.1 1 0)), (1, .int p1), (2, .int v1)] [] w2 := by
    intro k40 hk40 n2
    induction n2 with
    | zero =>
      intro v1 w2
      rw [f_X9_lifts_L2]
      exact J.nne
    | succ n2 ih =>
      intro v1 w2
      rw [f_X9_lifts_L2]
      refine J.iload_n hx dX9_lifts_2 rfl 2 rfl ?_
      refine J.aload_n hx dX9_lifts_3 rfl 0 rfl ?_
      refine J.calli hx (fun r z1 z => j_callV (κ := 1) hx rfl rfl a0.1 (mt_X9_many a0 z) (lw_V q1941 q1943 qs59 q129 q1944) hd_X9_many rfl ⟨Nat.le_of_ble_eq_true rfl, Nat.le_of_ble_eq_true rfl⟩ (Nat.le_of_ble_eq_true rfl) dX9_lifts_4) ⟨⟨rfl, rfl⟩, Nat.le_of_ble_eq_true rfl, Nat.le_of_ble_eq_true rfl⟩ fun v3 w4 e5 => ?_
      refine J.icmp_ge (tgt := 40) hx dX9_lifts_7 (by decide) ?_ ?_
      · exact J.sub [0] rfl (hk40 w4)
      · refine J.aload_n hx dX9_lifts_10 rfl 0 rfl ?_
        refine J.getc (κ' := 47) (i' := 0) (κ := 1) (k := 22) hx rfl rfl rfl rfl rfl in_X9 (by decide) (Or.inl q1675) a0.2 dX9_lifts_11 fun h6 => ?_
        refine J.iload_n hx dX9_lifts_14 rfl 2 rfl ?_
        refine J.iconst (v := 0) hx dX9_lifts_15 (by decide) ?_
        refine J.sipush (v := 999) hx dX9_lifts_16 (by decide) ?_
        refine J.aload_n hx dX9_lifts_19 rfl 0 rfl ?_
        refine J.getc (κ' := 47) (i' := 0) (κ := 1) (k := 22) hx rfl rfl rfl rfl rfl in_X9 (by decide) (Or.inl q1675) a0.2 dX9_lifts_20 fun h7 => ?_
        refine J.iload_n hx dX9_lifts_23 rfl 2 rfl ?_
        refine J.iald (κ := 47) hx rfl rfl h7.1 dX9_lifts_24 fun v9 => ?_
        refine J.iload_n hx dX9_lifts_25 rfl 1 rfl ?_
        refine J.iadd hx dX9_lifts_26 ?_
        refine J.mmin hx q1982 q192 q123 q193 ⟨Nat.le_of_ble_eq_true rfl, Nat.le_of_ble_eq_true rfl⟩ (Nat.le_of_ble_eq_true rfl) (Nat.le_of_ble_eq_true rfl) (Nat.le_of_ble_eq_true rfl) dX9_lifts_27 ?_
        refine J.mmax hx q1981 q195 q123 q196 ⟨Nat.le_of_ble_eq_true rfl, Nat.le_of_ble_eq_true rfl⟩ (Nat.le_of_ble_eq_true rfl) (Nat.le_of_ble_eq_true rfl) (Nat.le_of_ble_eq_true rfl) dX9_lifts_30 ?_
        refine J.iast (κ := 47) hx rfl rfl rfl h6.1 dX9_lifts_33 fun w10 => ?_
        refine J.nmx fun v12 ev12 => ?_
        refine J.iinc (p := 2) (v := v12) (lv' := [(2, .int v12), (0, .ref (B.1 1 0)), (1, .int p1)]) hx dX9_lifts_34 rfl (by rw [ev12]; rfl) (by decide) rfl ?_
        refine J.goto (tgt := 2) hx dX9_lifts_37 (by decide) ?_
        exact J.sub [1, 2, 0] rfl (ih v12 w10)
  refine J.sub [1, 2, 0] rfl (hL2 _ ?_ jFU 0 w)
  · intro w13
    refine J.aload_n hx dX9_lifts_40 rfl 0 rfl ?_
    refine J.calli hx (fun r z1 z => j_callV (κ := 1) hx rfl rfl a0.1 (mt_X9_least a0 z) (lw_V q2018 q2020 qs76 q129 q2021) hd_X9_least rfl ⟨Nat.le_of_ble_eq_true rfl, Nat.le_of_ble_eq_true rfl⟩ (Nat.le_of_ble_eq_true rfl) dX9_lifts_41) ⟨⟨rfl, rfl⟩, Nat.le_of_ble_eq_true rfl, Nat.le_of_ble_eq_true rfl⟩ fun v14 w15 e16 => ?_
    exact J.iret hx rfl (Nat.le_of_ble_eq_true rfl) (Nat.le_of_ble_eq_true rfl) dX9_lifts_44
theorem hd_X9_greatest : yX9_greatest.cls = RX9 ∧ yX9_greatest.cls ≠ "java/lang/invoke/MethodHandle" ∧ yX9_greatest.cls ≠ "java/lang/invoke/VarHandle" ∧ (parseMethodDescriptor yX9_greatest.desc).map (fun d => d.parameters.length) = some 0 := by decide +kernel
def f_X9_greatest_L4   : Nat → Int32 → Int32 → j_St → Option (Int32 × j_St)
  | 0, _, _, _ => none
  | n4 + 1, v1, v2, w3 => jcb (f_X9_many w3) fun v4 w5 => if v4 ≤ v2 then some (v1, w5) else jbd v2 231 fun a8 => jlt (jgi w5 47 0 a8) fun v9 => jlt (jmax v1 v9) fun v10 => jlt (v2 + 1) fun v11 => f_X9_greatest_L4 n4 v10 v11 w5
def f_X9_greatest  (w : j_St) : Option (Int32 × j_St) := f_X9_greatest_L4 jFU 0 0 w
abbrev rm_X9_greatest : Room := { frames := 1, cells := 0, slots := 0, locals := 21 }
set_option maxRecDepth 100000 in
set_option maxHeartbeats 4000000 in
theorem mt_X9_greatest {g : j_G} {B : j_B}  {w w' : j_St} (a0 : B.2.1 1 0 ∧ B.2.2 1 0) {r : Int32} (h : f_X9_greatest  w = some (r, w')) : j_M g yX9_greatest cX9_greatest 3 (some FieldType.int) rm_X9_greatest B [.ref (B.1 1 0)] w w' (jri r) := by
  refine j_met (rv := jri) (by decide) (Nat.le_of_ble_eq_true rfl) (fun x hx => ?_) h
  unfold f_X9_greatest
  refine J.sub (lv' := [(0, .ref (B.1 1 0))]) [0] rfl ?_
  refine J.iconst (v := 0) hx dX9_greatest_0 (by decide) ?_
  refine J.istore_n (lv' := [(1, .int 0), (0, .ref (B.1 1 0))]) hx dX9_greatest_1 rfl (by decide) rfl ?_
  refine J.iconst (v := 0) hx dX9_greatest_2 (by decide) ?_
  refine J.istore_n (lv' := [(2, .int 0), (1, .int 0), (0, .ref (B.1 1 0))]) hx dX9_greatest_3 rfl (by decide) rfl ?_
  have hL4 : ∀ (n4 : Nat) (v1 : Int32) (v2 : Int32) (w3 : j_St), J g x 3 B (j_Q g x B rm_X9_greatest jri) 0 0 (f_X9_greatest_L4 n4 v1 v2 w3) 4 [(0, .ref (B.1 1 0)), (1, .int v1), (2, .int v2)] [] w3 := by
    intro n4
    induction n4 with
    | zero =>
      intro v1 v2 w3
      rw [f_X9_greatest_L4]
      exact J.nne
    | succ n4 ih =>
      intro v1 v2 w3
      rw [f_X9_greatest_L4]
      refine J.iload_n hx dX9_greatest_4 rfl 2 rfl ?_
      refine J.aload_n hx dX9_greatest_5 rfl 0 rfl ?_
      refine J.calli hx (fun r z1 z => j_callV (κ := 1) hx rfl rfl a0.1 (mt_X9_many a0 z) (lw_V q1941 q1943 qs59 q129 q1944) hd_X9_many rfl ⟨Nat.le_of_ble_eq_true rfl, Nat.le_of_ble_eq_true rfl⟩ (Nat.le_of_ble_eq_true rfl) dX9_greatest_6) ⟨⟨rfl, rfl⟩, Nat.le_of_ble_eq_true rfl, Nat.le_of_ble_eq_true rfl⟩ fun v4 w5 e6 => ?_
      refine J.icmp_ge (tgt := 29) hx dX9_greatest_9 (by decide) ?_ ?_
      · refine J.iload_n hx dX9_greatest_29 rfl 1 rfl ?_
        exact J.iret hx rfl (Nat.le_of_ble_eq_true rfl) (Nat.le_of_ble_eq_true rfl) dX9_greatest_30
      · refine J.iload_n hx dX9_greatest_12 rfl 1 rfl ?_
        refine J.aload_n hx dX9_greatest_13 rfl 0 rfl ?_
        refine J.getc (κ' := 47) (i' := 0) (κ := 1) (k := 22) hx rfl rfl rfl rfl rfl in_X9 (by decide) (Or.inl q1675) a0.2 dX9_greatest_14 fun h7 => ?_
        refine J.iload_n hx dX9_greatest_17 rfl 2 rfl ?_
        refine J.iald (κ := 47) hx rfl rfl h7.1 dX9_greatest_18 fun v9 => ?_
        refine J.mmax hx q1981 q195 q123 q196 ⟨Nat.le_of_ble_eq_true rfl, Nat.le_of_ble_eq_true rfl⟩ (Nat.le_of_ble_eq_true rfl) (Nat.le_of_ble_eq_true rfl) (Nat.le_of_ble_eq_true rfl) dX9_greatest_19 ?_
        refine J.nmi fun v10 => ?_
        refine J.istore_n (lv' := [(1, .int v10), (0, .ref (B.1 1 0)), (2, .int v2)]) hx dX9_greatest_22 rfl (by decide) rfl ?_
        refine J.nmx fun v11 ev11 => ?_
        refine J.iinc (p := 2) (v := v11) (lv' := [(2, .int v11), (1, .int v10), (0, .ref (B.1 1 0))]) hx dX9_greatest_23 rfl (by rw [ev11]; rfl) (by decide) rfl ?_
        refine J.goto (tgt := 4) hx dX9_greatest_26 (by decide) ?_
        exact J.sub [2, 1, 0] rfl (ih v10 v11 w5)
  refine J.sub [2, 1, 0] rfl (hL4 jFU 0 0 w)
theorem hd_X9_scales : yX9_scales.cls = RX9 ∧ yX9_scales.cls ≠ "java/lang/invoke/MethodHandle" ∧ yX9_scales.cls ≠ "java/lang/invoke/VarHandle" ∧ (parseMethodDescriptor yX9_scales.desc).map (fun d => d.parameters.length) = some 2 := by decide +kernel
def f_X9_scales_L2 (p1 : Int32) (p2 : Int32) (k38 : j_St → Option (Int32 × j_St)) : Nat → Int32 → j_St → Option (Int32 × j_St)
  | 0, _, _ => none
  | n2 + 1, v1, w2 => jcb (f_X9_many w2) fun v3 w4 => if v3 ≤ v1 then k38 w4 else jbd v1 231 fun a8 => jlt (jgi w4 47 0 a8) fun v9 => if p2 = 0 then none else jbd v1 231 fun a11 => jlt (jsi w4 47 0 a11 (jmin 999 ((v9 * p1) / p2))) fun w10 => jlt (v1 + 1) fun v12 => f_X9_scales_L2 p1 p2 k38 n2 v12 w10
def f_X9_scales (p1 : Int32) (p2 : Int32) (w : j_St) : Option (Int32 × j_St) := f_X9_scales_L2 p1 p2 (fun (w13 : j_St) => jcb (f_X9_greatest w13) fun v14 w15 => some (v14, w15)) jFU 0 w
abbrev rm_X9_scales : Room := { frames := 2, cells := 0, slots := 0, locals := 43 }
set_option maxRecDepth 100000 in
set_option maxHeartbeats 4000000 in
theorem mt_X9_scales {g : j_G} {B : j_B} {p1 : Int32} {p2 : Int32} {w w' : j_St} (a0 : B.2.1 1 0 ∧ B.2.2 1 0) {r : Int32} (h : f_X9_scales p1 p2 w = some (r, w')) : j_M g yX9_scales cX9_scales 4 (some FieldType.int) rm_X9_scales B [.ref (B.1 1 0), .int p1, .int p2] w w' (jri r) := by
  refine j_met (rv := jri) (by decide) (Nat.le_of_ble_eq_true rfl) (fun x hx => ?_) h
  unfold f_X9_scales
  refine J.sub (lv' := [(0, .ref (B.1 1 0)), (1, .int p1), (2, .int p2)]) [0, 1, 2] rfl ?_
  refine J.iconst (v := 0) hx dX9_scales_0 (by decide) ?_
  refine J.istore_n (lv' := [(3, .int 0), (0, .ref (B.1 1 0)), (1, .int p1), (2, .int p2)]) hx dX9_scales_1 rfl (by decide) rfl ?_
  have hL2 : ∀ (k38 : j_St → Option (Int32 × j_St)) (hk38 : ∀  (w13 : j_St), J g x 4 B (j_Q g x B rm_X9_scales jri) 0 0 (k38 w13) 38 [(0, .ref (B.1 1 0))] [] w13) (n2 : Nat) (v1 : Int32) (w2 : j_St), J g x 4 B (j_Q g x B rm_X9_scales jri) 0 0 (f_X9_scales_L2 p1 p2 k38 n2 v1 w2) 2 [(0, .ref (B.1 1 0)), (1, .int p1), (2, .int p2), (3, .int v1)] [] w2 := by
    intro k38 hk38 n2
    induction n2 with
    | zero =>
      intro v1 w2
      rw [f_X9_scales_L2]
      exact J.nne
    | succ n2 ih =>
      intro v1 w2
      rw [f_X9_scales_L2]
      refine J.iload_n hx dX9_scales_2 rfl 3 rfl ?_
      refine J.aload_n hx dX9_scales_3 rfl 0 rfl ?_
      refine J.calli hx (fun r z1 z => j_callV (κ := 1) hx rfl rfl a0.1 (mt_X9_many a0 z) (lw_V q1941 q1943 qs59 q129 q1944) hd_X9_many rfl ⟨Nat.le_of_ble_eq_true rfl, Nat.le_of_ble_eq_true rfl⟩ (Nat.le_of_ble_eq_true rfl) dX9_scales_4) ⟨⟨rfl, rfl⟩, Nat.le_of_ble_eq_true rfl, Nat.le_of_ble_eq_true rfl⟩ fun v3 w4 e5 => ?_
      refine J.icmp_ge (tgt := 38) hx dX9_scales_7 (by decide) ?_ ?_
      · exact J.sub [0] rfl (hk38 w4)
      · refine J.aload_n hx dX9_scales_10 rfl 0 rfl ?_
        refine J.getc (κ' := 47) (i' := 0) (κ := 1) (k := 22) hx rfl rfl rfl rfl rfl in_X9 (by decide) (Or.inl q1675) a0.2 dX9_scales_11 fun h6 => ?_
        refine J.iload_n hx dX9_scales_14 rfl 3 rfl ?_
        refine J.sipush (v := 999) hx dX9_scales_15 (by decide) ?_
        refine J.aload_n hx dX9_scales_18 rfl 0 rfl ?_
        refine J.getc (κ' := 47) (i' := 0) (κ := 1) (k := 22) hx rfl rfl rfl rfl rfl in_X9 (by decide) (Or.inl q1675) a0.2 dX9_scales_19 fun h7 => ?_
        refine J.iload_n hx dX9_scales_22 rfl 3 rfl ?_
        refine J.iald (κ := 47) hx rfl rfl h7.1 dX9_scales_23 fun v9 => ?_
        refine J.iload_n hx dX9_scales_24 rfl 1 rfl ?_
        refine J.imul hx dX9_scales_25 ?_
        refine J.iload_n hx dX9_scales_26 rfl 2 rfl ?_
        refine J.idiv hx dX9_scales_27 ?_
        refine J.mmin hx q1982 q192 q123 q193 ⟨Nat.le_of_ble_eq_true rfl, Nat.le_of_ble_eq_true rfl⟩ (Nat.le_of_ble_eq_true rfl) (Nat.le_of_ble_eq_true rfl) (Nat.le_of_ble_eq_true rfl) dX9_scales_28 ?_
        refine J.iast (κ := 47) hx rfl rfl rfl h6.1 dX9_scales_31 fun w10 => ?_
        refine J.nmx fun v12 ev12 => ?_
        refine J.iinc (p := 3) (v := v12) (lv' := [(3, .int v12), (0, .ref (B.1 1 0)), (1, .int p1), (2, .int p2)]) hx dX9_scales_32 rfl (by rw [ev12]; rfl) (by decide) rfl ?_
        refine J.goto (tgt := 2) hx dX9_scales_35 (by decide) ?_
        exact J.sub [1, 2, 3, 0] rfl (ih v12 w10)
  refine J.sub [1, 2, 3, 0] rfl (hL2 _ ?_ jFU 0 w)
  · intro w13
    refine J.aload_n hx dX9_scales_38 rfl 0 rfl ?_
    refine J.calli hx (fun r z1 z => j_callV (κ := 1) hx rfl rfl a0.1 (mt_X9_greatest a0 z) (lw_V q2061 q2063 qs86 q129 q2064) hd_X9_greatest rfl ⟨Nat.le_of_ble_eq_true rfl, Nat.le_of_ble_eq_true rfl⟩ (Nat.le_of_ble_eq_true rfl) dX9_scales_39) ⟨⟨rfl, rfl⟩, Nat.le_of_ble_eq_true rfl, Nat.le_of_ble_eq_true rfl⟩ fun v14 w15 e16 => ?_
    exact J.iret hx rfl (Nat.le_of_ble_eq_true rfl) (Nat.le_of_ble_eq_true rfl) dX9_scales_42
theorem hd_X9_sets : yX9_sets.cls = RX9 ∧ yX9_sets.cls ≠ "java/lang/invoke/MethodHandle" ∧ yX9_sets.cls ≠ "java/lang/invoke/VarHandle" ∧ (parseMethodDescriptor yX9_sets.desc).map (fun d => d.parameters.length) = some 2 := by decide +kernel
def f_X9_sets (p1 : Int32) (p2 : Int32) (w : j_St) : Option (Int32 × j_St) := jbd p1 231 fun a2 => jlt (jgi w 47 0 a2) fun v3 => jbd p1 231 fun a6 => jlt (jsi w 47 0 a6 p2) fun w5 => some (v3, w5)
abbrev rm_X9_sets : Room := { frames := 0, cells := 0, slots := 0, locals := 0 }
set_option maxRecDepth 100000 in
set_option maxHeartbeats 4000000 in
theorem mt_X9_sets {g : j_G} {B : j_B} {p1 : Int32} {p2 : Int32} {w w' : j_St} (a0 : B.2.1 1 0 ∧ B.2.2 1 0) {r : Int32} (h : f_X9_sets p1 p2 w = some (r, w')) : j_M g yX9_sets cX9_sets 4 (some FieldType.int) rm_X9_sets B [.ref (B.1 1 0), .int p1, .int p2] w w' (jri r) := by
  refine j_met (rv := jri) (by decide) (Nat.le_of_ble_eq_true rfl) (fun x hx => ?_) h
  unfold f_X9_sets
  refine J.sub (lv' := [(0, .ref (B.1 1 0)), (1, .int p1), (2, .int p2)]) [0, 1, 2] rfl ?_
  refine J.aload_n hx dX9_sets_0 rfl 0 rfl ?_
  refine J.getc (κ' := 47) (i' := 0) (κ := 1) (k := 22) hx rfl rfl rfl rfl rfl in_X9 (by decide) (Or.inl q1675) a0.2 dX9_sets_1 fun h1 => ?_
  refine J.iload_n hx dX9_sets_4 rfl 1 rfl ?_
  refine J.iald (κ := 47) hx rfl rfl h1.1 dX9_sets_5 fun v3 => ?_
  refine J.istore_n (lv' := [(3, .int v3), (0, .ref (B.1 1 0)), (1, .int p1), (2, .int p2)]) hx dX9_sets_6 rfl (by decide) rfl ?_
  refine J.aload_n hx dX9_sets_7 rfl 1 rfl ?_
  refine J.getc (κ' := 47) (i' := 0) (κ := 1) (k := 22) hx rfl rfl rfl rfl rfl in_X9 (by decide) (Or.inl q1675) a0.2 dX9_sets_8 fun h4 => ?_
  refine J.iload_n hx dX9_sets_11 rfl 2 rfl ?_
  refine J.iload_n hx dX9_sets_12 rfl 3 rfl ?_
  refine J.iast (κ := 47) hx rfl rfl rfl h4.1 dX9_sets_13 fun w5 => ?_
  refine J.iload_n hx dX9_sets_14 rfl 0 rfl ?_
  exact J.iret hx rfl (Nat.le_of_ble_eq_true rfl) (Nat.le_of_ble_eq_true rfl) dX9_sets_15
theorem hd_X9_cuts : yX9_cuts.cls = RX9 ∧ yX9_cuts.cls ≠ "java/lang/invoke/MethodHandle" ∧ yX9_cuts.cls ≠ "java/lang/invoke/VarHandle" ∧ (parseMethodDescriptor yX9_cuts.desc).map (fun d => d.parameters.length) = some 2 := by decide +kernel
def f_X9_cuts_L6 (p1 : Int32) (p2 : Int32) (k41 : j_St → Option (Int32 × j_St)) : Nat → Int32 → j_St → Option (Int32 × j_St)
  | 0, _, _ => none
  | n6 + 1, v4, w5 => if 48 ≤ v4 then k41 w5 else jlt (fun (v10 : Int32) (w11 : j_St) => jbd v4 231 fun a13 => jlt (jsi w11 47 0 a13 v10) fun w12 => jlt (v4 + 1) fun v14 => f_X9_cuts_L6 p1 p2 k41 n6 v14 w12) fun K34 => if p2 ≤ v4 then K34 0 w5 else jbd (p1 + v4) 48 fun a8 => jlt (jgi w5 61 0 a8) fun v9 => K34 v9 w5
def f_X9_cuts (p1 : Int32) (p2 : Int32) (w : j_St) : Option (Int32 × j_St) := jcb (f_X9_keepWas w) fun _ w2 => f_X9_cuts_L6 p1 p2 (fun (w15 : j_St) => jcb (f_X9_many w15) fun v16 w17 => jlt (v16 - p2) fun v19 => jbd 48 231 fun a22 => jlt (jsi w17 47 0 a22 p2) fun w21 => some (v19, w21)) jFU 0 w2
abbrev rm_X9_cuts : Room := { frames := 1, cells := 0, slots := 0, locals := 21 }
set_option maxRecDepth 100000 in
set_option maxHeartbeats 4000000 in
theorem mt_X9_cuts {g : j_G} {B : j_B} {p1 : Int32} {p2 : Int32} {w w' : j_St} (a0 : B.2.1 1 0 ∧ B.2.2 1 0) {r : Int32} (h : f_X9_cuts p1 p2 w = some (r, w')) : j_M g yX9_cuts cX9_cuts 4 (some FieldType.int) rm_X9_cuts B [.ref (B.1 1 0), .int p1, .int p2] w w' (jri r) := by
  refine j_met (rv := jri) (by decide) (Nat.le_of_ble_eq_true rfl) (fun x hx => ?_) h
  unfold f_X9_cuts
  refine J.sub (lv' := [(0, .ref (B.1 1 0)), (1, .int p1), (2, .int p2)]) [0, 1, 2] rfl ?_
  refine J.aload_n hx dX9_cuts_0 rfl 0 rfl ?_
  refine J.callv hx (fun r z1 z => j_callV (κ := 1) hx rfl rfl a0.1 (mt_X9_keepWas a0 z) (lw_V q1977 q1979 qs67 q129 q1980) hd_X9_keepWas rfl ⟨Nat.le_of_ble_eq_true rfl, Nat.le_of_ble_eq_true rfl⟩ (Nat.le_of_ble_eq_true rfl) dX9_cuts_1) ⟨⟨rfl, rfl⟩, Nat.le_of_ble_eq_true rfl, Nat.le_of_ble_eq_true rfl⟩ fun _ w2 e3 => ?_
  refine J.iconst (v := 0) hx dX9_cuts_4 (by decide) ?_
  refine J.istore_n (lv' := [(3, .int 0), (0, .ref (B.1 1 0)), (1, .int p1), (2, .int p2)]) hx dX9_cuts_5 rfl (by decide) rfl ?_
  have hL6 : ∀ (k41 : j_St → Option (Int32 × j_St)) (hk41 : ∀  (w15 : j_St), J g x 4 B (j_Q g x B rm_X9_cuts jri) 0 0 (k41 w15) 41 [(0, .ref (B.1 1 0)), (2, .int p2)] [] w15) (n6 : Nat) (v4 : Int32) (w5 : j_St), J g x 4 B (j_Q g x B rm_X9_cuts jri) 0 0 (f_X9_cuts_L6 p1 p2 k41 n6 v4 w5) 6 [(0, .ref (B.1 1 0)), (1, .int p1), (2, .int p2), (3, .int v4)] [] w5 := by
    intro k41 hk41 n6
    induction n6 with
    | zero =>
      intro v4 w5
      rw [f_X9_cuts_L6]
      exact J.nne
    | succ n6 ih =>
      intro v4 w5
      rw [f_X9_cuts_L6]
      refine J.iload_n hx dX9_cuts_6 rfl 3 rfl ?_
      refine J.bipush (v := 48) hx dX9_cuts_7 (by decide) ?_
      refine J.icmp_ge (tgt := 41) hx dX9_cuts_9 (by decide) ?_ ?_
      · exact J.sub [0, 2] rfl (hk41 w5)
      · refine J.aload_n hx dX9_cuts_12 rfl 0 rfl ?_
        refine J.getc (κ' := 47) (i' := 0) (κ := 1) (k := 22) hx rfl rfl rfl rfl rfl in_X9 (by decide) (Or.inl q1675) a0.2 dX9_cuts_13 fun h6 => ?_
        refine J.iload_n hx dX9_cuts_16 rfl 3 rfl ?_
        refine J.iload_n hx dX9_cuts_17 rfl 3 rfl ?_
        refine J.iload_n hx dX9_cuts_18 rfl 2 rfl ?_
        refine J.fn (fun (K34 : Int32 → j_St → Option (Int32 × j_St)) => ∀ (v10 : Int32) (w11 : j_St), J g x 4 B (j_Q g x B rm_X9_cuts jri) 0 0 (K34 v10 w11) 34 [(0, .ref (B.1 1 0)), (1, .int p1), (2, .int p2), (3, .int v4)] [.int v10, .int v4, .ref (B.1 47 0)] w11) ?_ ?_
        · intro v10 w11
          refine J.iast (κ := 47) hx rfl rfl rfl h6.1 dX9_cuts_34 fun w12 => ?_
          refine J.nmx fun v14 ev14 => ?_
          refine J.iinc (p := 3) (v := v14) (lv' := [(3, .int v14), (0, .ref (B.1 1 0)), (1, .int p1), (2, .int p2)]) hx dX9_cuts_35 rfl (by rw [ev14]; rfl) (by decide) rfl ?_
          refine J.goto (tgt := 6) hx dX9_cuts_38 (by decide) ?_
          exact J.sub [1, 2, 3, 0] rfl (ih v14 w12)
        · intro K34 hK34
          refine J.icmp_ge (tgt := 33) hx dX9_cuts_19 (by decide) ?_ ?_
          · refine J.iconst (v := 0) hx dX9_cuts_33 (by decide) ?_
            exact J.sub [0, 1, 2, 3] rfl (hK34 0 w5)
          · refine J.aload_n hx dX9_cuts_22 rfl 0 rfl ?_
            refine J.getc (κ' := 61) (i' := 0) (κ := 1) (k := 42) hx rfl rfl rfl rfl rfl in_X9 (by decide) (Or.inl q1695) a0.2 dX9_cuts_23 fun h7 => ?_
            refine J.iload_n hx dX9_cuts_26 rfl 1 rfl ?_
            refine J.iload_n hx dX9_cuts_27 rfl 3 rfl ?_
            refine J.iadd hx dX9_cuts_28 ?_
            refine J.iald (κ := 61) hx rfl rfl h7.1 dX9_cuts_29 fun v9 => ?_
            refine J.goto (tgt := 34) hx dX9_cuts_30 (by decide) ?_
            exact J.sub [0, 1, 2, 3] rfl (hK34 v9 w5)
  refine J.sub [1, 2, 3, 0] rfl (hL6 _ ?_ jFU 0 w2)
  · intro w15
    refine J.aload_n hx dX9_cuts_41 rfl 0 rfl ?_
    refine J.calli hx (fun r z1 z => j_callV (κ := 1) hx rfl rfl a0.1 (mt_X9_many a0 z) (lw_V q1941 q1943 qs59 q129 q1944) hd_X9_many rfl ⟨Nat.le_of_ble_eq_true rfl, Nat.le_of_ble_eq_true rfl⟩ (Nat.le_of_ble_eq_true rfl) dX9_cuts_42) ⟨⟨rfl, rfl⟩, Nat.le_of_ble_eq_true rfl, Nat.le_of_ble_eq_true rfl⟩ fun v16 w17 e18 => ?_
    refine J.iload_n hx dX9_cuts_45 rfl 1 rfl ?_
    refine J.isub hx dX9_cuts_46 ?_
    refine J.nmi fun v19 => ?_
    refine J.istore_n (lv' := [(3, .int v19), (0, .ref (B.1 1 0)), (2, .int p2)]) hx dX9_cuts_47 rfl (by decide) rfl ?_
    refine J.aload_n hx dX9_cuts_48 rfl 1 rfl ?_
    refine J.getc (κ' := 47) (i' := 0) (κ := 1) (k := 22) hx rfl rfl rfl rfl rfl in_X9 (by decide) (Or.inl q1675) a0.2 dX9_cuts_49 fun h20 => ?_
    refine J.bipush (v := 48) hx dX9_cuts_52 (by decide) ?_
    refine J.iload_n hx dX9_cuts_54 rfl 2 rfl ?_
    refine J.iast (κ := 47) hx rfl rfl rfl h20.1 dX9_cuts_55 fun w21 => ?_
    refine J.iload_n hx dX9_cuts_56 rfl 0 rfl ?_
    exact J.iret hx rfl (Nat.le_of_ble_eq_true rfl) (Nat.le_of_ble_eq_true rfl) dX9_cuts_57
theorem hd_X9_doNow : yX9_doNow.cls = RX9 ∧ yX9_doNow.cls ≠ "java/lang/invoke/MethodHandle" ∧ yX9_doNow.cls ≠ "java/lang/invoke/VarHandle" ∧ (parseMethodDescriptor yX9_doNow.desc).map (fun d => d.parameters.length) = some 3 := by decide +kernel
def f_X9_doNow (p1 : Int32) (p2 : Int32) (p3 : Int32) (w : j_St) : Option (Int32 × j_St) := if p1 = 0 then jcb (f_X9_blends 0 w) fun _ w2 => jcb (f_X9_keptNow w2) fun v4 w5 => some (v4, w5) else if p1 = 1 then jcb (f_X9_blends 1 w) fun _ w8 => jcb (f_X9_keptNow w8) fun v10 w11 => some (v10, w11) else if p1 = 2 then jcb (f_X9_flattens w) fun v13 w14 => some (v13, w14) else if p1 = 3 then jcb (f_X9_turns w) fun v16 w17 => some (v16, w17) else if p1 = 4 then jcb (f_X9_clips p2 w) fun v19 w20 => some (v19, w20) else if p1 = 5 then jcb (f_X9_lifts p2 w) fun v22 w23 => some (v22, w23) else if p1 = 6 then jcb (f_X9_scales p2 p3 w) fun v25 w26 => some (v25, w26) else if p1 = 7 then jcb (f_X9_sets p2 p3 w) fun v28 w29 => some (v28, w29) else if p1 = 8 then jbd 49 231 fun a32 => jlt (jgi w 47 0 a32) fun v33 => jbd 49 231 fun a36 => jlt (jsi w 47 0 a36 p2) fun w35 => some (v33, w35) else jcb (f_X9_cuts p2 p3 w) fun v37 w38 => some (v37, w38)
abbrev rm_X9_doNow : Room := { frames := 5, cells := 0, slots := 0, locals := 119 }
set_option maxRecDepth 100000 in
set_option maxHeartbeats 4000000 in
theorem mt_X9_doNow {g : j_G} {B : j_B} {p1 : Int32} {p2 : Int32} {p3 : Int32} {w w' : j_St} (a0 : B.2.1 1 0 ∧ B.2.2 1 0) {r : Int32} (h : f_X9_doNow p1 p2 p3 w = some (r, w')) : j_M g yX9_doNow cX9_doNow 5 (some FieldType.int) rm_X9_doNow B [.ref (B.1 1 0), .int p1, .int p2, .int p3] w w' (jri r) := by
  refine j_met (rv := jri) (by decide) (Nat.le_of_ble_eq_true rfl) (fun x hx => ?_) h
  unfold f_X9_doNow
  refine J.sub (lv' := [(0, .ref (B.1 1 0)), (1, .int p1), (2, .int p2), (3, .int p3)]) [0, 1, 2, 3] rfl ?_
  refine J.iconst (v := 0) hx dX9_doNow_0 (by decide) ?_
  refine J.istore (lv' := [(4, .int 0), (0, .ref (B.1 1 0)), (1, .int p1), (2, .int p2), (3, .int p3)]) hx dX9_doNow_1 (by decide) rfl ?_
  refine J.iload_n hx dX9_doNow_3 rfl 2 rfl ?_
  refine J.ite (fun e0 => ?_) (fun n0 => ?_)
  · refine J.tsw (off := 52) (tgt := 56) hx dX9_doNow_4 (by rw [e0]; decide) (by rw [e0]; decide) (by rw [e0]; rfl) (by decide) ?_
    refine J.aload_n hx dX9_doNow_56 rfl 1 rfl ?_
    refine J.iconst (v := 0) hx dX9_doNow_57 (by decide) ?_
    refine J.callv hx (fun r z1 z => j_callV (κ := 1) hx rfl rfl a0.1 (mt_X9_blends a0 z) (lw_V q1973 q1975 qs66 q129 q1976) hd_X9_blends rfl ⟨Nat.le_of_ble_eq_true rfl, Nat.le_of_ble_eq_true rfl⟩ (Nat.le_of_ble_eq_true rfl) dX9_doNow_58) ⟨⟨rfl, rfl⟩, Nat.le_of_ble_eq_true rfl, Nat.le_of_ble_eq_true rfl⟩ fun _ w2 e3 => ?_
    refine J.aload_n hx dX9_doNow_61 rfl 1 rfl ?_
    refine J.calli hx (fun r z1 z => j_callV (κ := 1) hx rfl rfl a0.1 (mt_X9_keptNow a0 z) (lw_V q1986 q1988 qs68 q129 q1989) hd_X9_keptNow rfl ⟨Nat.le_of_ble_eq_true rfl, Nat.le_of_ble_eq_true rfl⟩ (Nat.le_of_ble_eq_true rfl) dX9_doNow_62) ⟨⟨rfl, rfl⟩, Nat.le_of_ble_eq_true rfl, Nat.le_of_ble_eq_true rfl⟩ fun v4 w5 e6 => ?_
    exact J.iret hx rfl (Nat.le_of_ble_eq_true rfl) (Nat.le_of_ble_eq_true rfl) dX9_doNow_65
  · refine J.ite (fun e1 => ?_) (fun n1 => ?_)
    · refine J.tsw (off := 62) (tgt := 66) hx dX9_doNow_4 (by rw [e1]; decide) (by rw [e1]; decide) (by rw [e1]; rfl) (by decide) ?_
      refine J.aload_n hx dX9_doNow_66 rfl 1 rfl ?_
      refine J.iconst (v := 1) hx dX9_doNow_67 (by decide) ?_
      refine J.callv hx (fun r z1 z => j_callV (κ := 1) hx rfl rfl a0.1 (mt_X9_blends a0 z) (lw_V q1973 q1975 qs66 q129 q1976) hd_X9_blends rfl ⟨Nat.le_of_ble_eq_true rfl, Nat.le_of_ble_eq_true rfl⟩ (Nat.le_of_ble_eq_true rfl) dX9_doNow_68) ⟨⟨rfl, rfl⟩, Nat.le_of_ble_eq_true rfl, Nat.le_of_ble_eq_true rfl⟩ fun _ w8 e9 => ?_
      refine J.aload_n hx dX9_doNow_71 rfl 1 rfl ?_
      refine J.calli hx (fun r z1 z => j_callV (κ := 1) hx rfl rfl a0.1 (mt_X9_keptNow a0 z) (lw_V q1986 q1988 qs68 q129 q1989) hd_X9_keptNow rfl ⟨Nat.le_of_ble_eq_true rfl, Nat.le_of_ble_eq_true rfl⟩ (Nat.le_of_ble_eq_true rfl) dX9_doNow_72) ⟨⟨rfl, rfl⟩, Nat.le_of_ble_eq_true rfl, Nat.le_of_ble_eq_true rfl⟩ fun v10 w11 e12 => ?_
      exact J.iret hx rfl (Nat.le_of_ble_eq_true rfl) (Nat.le_of_ble_eq_true rfl) dX9_doNow_75
    · refine J.ite (fun e2 => ?_) (fun n2 => ?_)
      · refine J.tsw (off := 72) (tgt := 76) hx dX9_doNow_4 (by rw [e2]; decide) (by rw [e2]; decide) (by rw [e2]; rfl) (by decide) ?_
        refine J.aload_n hx dX9_doNow_76 rfl 1 rfl ?_
        refine J.calli hx (fun r z1 z => j_callV (κ := 1) hx rfl rfl a0.1 (mt_X9_flattens a0 z) (lw_V q2037 q2039 qs80 q129 q2040) hd_X9_flattens rfl ⟨Nat.le_of_ble_eq_true rfl, Nat.le_of_ble_eq_true rfl⟩ (Nat.le_of_ble_eq_true rfl) dX9_doNow_77) ⟨⟨rfl, rfl⟩, Nat.le_of_ble_eq_true rfl, Nat.le_of_ble_eq_true rfl⟩ fun v13 w14 e15 => ?_
        exact J.iret hx rfl (Nat.le_of_ble_eq_true rfl) (Nat.le_of_ble_eq_true rfl) dX9_doNow_80
      · refine J.ite (fun e3 => ?_) (fun n3 => ?_)
        · refine J.tsw (off := 77) (tgt := 81) hx dX9_doNow_4 (by rw [e3]; decide) (by rw [e3]; decide) (by rw [e3]; rfl) (by decide) ?_
          refine J.aload_n hx dX9_doNow_81 rfl 1 rfl ?_
          refine J.calli hx (fun r z1 z => j_callV (κ := 1) hx rfl rfl a0.1 (mt_X9_turns a0 z) (lw_V q2045 q2047 qs82 q129 q2048) hd_X9_turns rfl ⟨Nat.le_of_ble_eq_true rfl, Nat.le_of_ble_eq_true rfl⟩ (Nat.le_of_ble_eq_true rfl) dX9_doNow_82) ⟨⟨rfl, rfl⟩, Nat.le_of_ble_eq_true rfl, Nat.le_of_ble_eq_true rfl⟩ fun v16 w17 e18 => ?_
          exact J.iret hx rfl (Nat.le_of_ble_eq_true rfl) (Nat.le_of_ble_eq_true rfl) dX9_doNow_85
        · refine J.ite (fun e4 => ?_) (fun n4 => ?_)
          · refine J.tsw (off := 82) (tgt := 86) hx dX9_doNow_4 (by rw [e4]; decide) (by rw [e4]; decide) (by rw [e4]; rfl) (by decide) ?_
            refine J.aload_n hx dX9_doNow_86 rfl 1 rfl ?_
            refine J.iload_n hx dX9_doNow_87 rfl 3 rfl ?_
            refine J.calli hx (fun r z1 z => j_callV (κ := 1) hx rfl rfl a0.1 (mt_X9_clips a0 z) (lw_V q2049 q2051 qs83 q129 q2052) hd_X9_clips rfl ⟨Nat.le_of_ble_eq_true rfl, Nat.le_of_ble_eq_true rfl⟩ (Nat.le_of_ble_eq_true rfl) dX9_doNow_88) ⟨⟨rfl, rfl⟩, Nat.le_of_ble_eq_true rfl, Nat.le_of_ble_eq_true rfl⟩ fun v19 w20 e21 => ?_
            exact J.iret hx rfl (Nat.le_of_ble_eq_true rfl) (Nat.le_of_ble_eq_true rfl) dX9_doNow_91
          · refine J.ite (fun e5 => ?_) (fun n5 => ?_)
            · refine J.tsw (off := 88) (tgt := 92) hx dX9_doNow_4 (by rw [e5]; decide) (by rw [e5]; decide) (by rw [e5]; rfl) (by decide) ?_
              refine J.aload_n hx dX9_doNow_92 rfl 1 rfl ?_
              refine J.iload_n hx dX9_doNow_93 rfl 3 rfl ?_
              refine J.calli hx (fun r z1 z => j_callV (κ := 1) hx rfl rfl a0.1 (mt_X9_lifts a0 z) (lw_V q2053 q2055 qs84 q129 q2056) hd_X9_lifts rfl ⟨Nat.le_of_ble_eq_true rfl, Nat.le_of_ble_eq_true rfl⟩ (Nat.le_of_ble_eq_true rfl) dX9_doNow_94) ⟨⟨rfl, rfl⟩, Nat.le_of_ble_eq_true rfl, Nat.le_of_ble_eq_true rfl⟩ fun v22 w23 e24 => ?_
              exact J.iret hx rfl (Nat.le_of_ble_eq_true rfl) (Nat.le_of_ble_eq_true rfl) dX9_doNow_97
            · refine J.ite (fun e6 => ?_) (fun n6 => ?_)
              · refine J.tsw (off := 94) (tgt := 98) hx dX9_doNow_4 (by rw [e6]; decide) (by rw [e6]; decide) (by rw [e6]; rfl) (by decide) ?_
                refine J.aload_n hx dX9_doNow_98 rfl 1 rfl ?_
                refine J.iload_n hx dX9_doNow_99 rfl 3 rfl ?_
                refine J.iload_n hx dX9_doNow_100 rfl 4 rfl ?_
                refine J.calli hx (fun r z1 z => j_callV (κ := 1) hx rfl rfl a0.1 (mt_X9_scales a0 z) (lw_V q2057 q2059 qs85 q129 q2060) hd_X9_scales rfl ⟨Nat.le_of_ble_eq_true rfl, Nat.le_of_ble_eq_true rfl⟩ (Nat.le_of_ble_eq_true rfl) dX9_doNow_101) ⟨⟨rfl, rfl⟩, Nat.le_of_ble_eq_true rfl, Nat.le_of_ble_eq_true rfl⟩ fun v25 w26 e27 => ?_
                exact J.iret hx rfl (Nat.le_of_ble_eq_true rfl) (Nat.le_of_ble_eq_true rfl) dX9_doNow_104
              · refine J.ite (fun e7 => ?_) (fun n7 => ?_)
                · refine J.tsw (off := 101) (tgt := 105) hx dX9_doNow_4 (by rw [e7]; decide) (by rw [e7]; decide) (by rw [e7]; rfl) (by decide) ?_
                  refine J.aload_n hx dX9_doNow_105 rfl 1 rfl ?_
                  refine J.iload_n hx dX9_doNow_106 rfl 3 rfl ?_
                  refine J.iload_n hx dX9_doNow_107 rfl 4 rfl ?_
                  refine J.calli hx (fun r z1 z => j_callV (κ := 1) hx rfl rfl a0.1 (mt_X9_sets a0 z) (lw_V q2065 q2067 qs87 q129 q2068) hd_X9_sets rfl ⟨Nat.le_of_ble_eq_true rfl, Nat.le_of_ble_eq_true rfl⟩ (Nat.le_of_ble_eq_true rfl) dX9_doNow_108) ⟨⟨rfl, rfl⟩, Nat.le_of_ble_eq_true rfl, Nat.le_of_ble_eq_true rfl⟩ fun v28 w29 e30 => ?_
                  exact J.iret hx rfl (Nat.le_of_ble_eq_true rfl) (Nat.le_of_ble_eq_true rfl) dX9_doNow_111
                · refine J.ite (fun e8 => ?_) (fun n8 => ?_)
                  · refine J.tsw (off := 108) (tgt := 112) hx dX9_doNow_4 (by rw [e8]; decide) (by rw [e8]; decide) (by rw [e8]; rfl) (by decide) ?_
                    refine J.aload_n hx dX9_doNow_112 rfl 1 rfl ?_
                    refine J.getc (κ' := 47) (i' := 0) (κ := 1) (k := 22) hx rfl rfl rfl rfl rfl in_X9 (by decide) (Or.inl q1675) a0.2 dX9_doNow_113 fun h31 => ?_
                    refine J.bipush (v := 49) hx dX9_doNow_116 (by decide) ?_
                    refine J.iald (κ := 47) hx rfl rfl h31.1 dX9_doNow_118 fun v33 => ?_
                    refine J.istore (lv' := [(4, .int v33), (0, .ref (B.1 1 0)), (1, .int p1), (2, .int p2), (3, .int p3)]) hx dX9_doNow_119 (by decide) rfl ?_
                    refine J.aload_n hx dX9_doNow_121 rfl 1 rfl ?_
                    refine J.getc (κ' := 47) (i' := 0) (κ := 1) (k := 22) hx rfl rfl rfl rfl rfl in_X9 (by decide) (Or.inl q1675) a0.2 dX9_doNow_122 fun h34 => ?_
                    refine J.bipush (v := 49) hx dX9_doNow_125 (by decide) ?_
                    refine J.iload_n hx dX9_doNow_127 rfl 3 rfl ?_
                    refine J.iast (κ := 47) hx rfl rfl rfl h34.1 dX9_doNow_128 fun w35 => ?_
                    refine J.iload hx dX9_doNow_129 0 rfl ?_
                    exact J.iret hx rfl (Nat.le_of_ble_eq_true rfl) (Nat.le_of_ble_eq_true rfl) dX9_doNow_131
                  · have z0 := j_neT n0 (a := 0) (by decide)
                    have z1 := j_neT n1 (a := 1) (by decide)
                    have z2 := j_neT n2 (a := 2) (by decide)
                    have z3 := j_neT n3 (a := 3) (by decide)
                    have z4 := j_neT n4 (a := 4) (by decide)
                    have z5 := j_neT n5 (a := 5) (by decide)
                    have z6 := j_neT n6 (a := 6) (by decide)
                    have z7 := j_neT n7 (a := 7) (by decide)
                    have z8 := j_neT n8 (a := 8) (by decide)
                    refine J.tswD (tgt := 132) hx dX9_doNow_4 (by omega) (by decide) ?_
                    refine J.aload_n hx dX9_doNow_132 rfl 1 rfl ?_
                    refine J.iload_n hx dX9_doNow_133 rfl 3 rfl ?_
                    refine J.iload_n hx dX9_doNow_134 rfl 4 rfl ?_
                    refine J.calli hx (fun r z1 z => j_callV (κ := 1) hx rfl rfl a0.1 (mt_X9_cuts a0 z) (lw_V q2069 q2071 qs88 q129 q2072) hd_X9_cuts rfl ⟨Nat.le_of_ble_eq_true rfl, Nat.le_of_ble_eq_true rfl⟩ (Nat.le_of_ble_eq_true rfl) dX9_doNow_135) ⟨⟨rfl, rfl⟩, Nat.le_of_ble_eq_true rfl, Nat.le_of_ble_eq_true rfl⟩ fun v37 w38 e39 => ?_
                    exact J.iret hx rfl (Nat.le_of_ble_eq_true rfl) (Nat.le_of_ble_eq_true rfl) dX9_doNow_138
theorem hd_X9_note : yX9_note.cls = RX9 ∧ yX9_note.cls ≠ "java/lang/invoke/MethodHandle" ∧ yX9_note.cls ≠ "java/lang/invoke/VarHandle" ∧ (parseMethodDescriptor yX9_note.desc).map (fun d => d.parameters.length) = some 2 := by decide +kernel
def f_X9_note_L14  (k47 : j_St → Option (Unit × j_St)) : Nat → Int32 → j_St → Option (Unit × j_St)
  | 0, _, _ => none
  | n14 + 1, v4, w5 => if 180 ≤ v4 then k47 w5 else jbd (51 + v4) 231 fun a8 => jlt (jgi w5 47 0 a8) fun v9 => jbd ((51 + v4) - 3) 231 fun a11 => jlt (jsi w5 47 0 a11 v9) fun w10 => jlt (v4 + 1) fun v12 => f_X9_note_L14 k47 n14 v12 w10
def f_X9_note (p1 : Int32) (p2 : Int32) (w : j_St) : Option (Unit × j_St) := jbd 50 231 fun a2 => jlt (jgi w 47 0 a2) fun v3 => jlt (fun (w19 : j_St) => jbd 50 231 fun a21 => jlt (jgi w19 47 0 a21) fun v22 => jlt (51 + (3 * v22)) fun v23 => jbd v23 231 fun a26 => jlt (jsi w19 47 0 a26 p1) fun w25 => jbd (v23 + 1) 231 fun a29 => jlt (jsi w25 47 0 a29 p2) fun w28 => jcb (f_X9_keptNow w28) fun v31 w32 => jbd (v23 + 2) 231 fun a35 => jlt (jsi w32 47 0 a35 v31) fun w34 => jbd 50 231 fun a37 => jlt (jgi w34 47 0 a37) fun v38 => jbd 50 231 fun a40 => jlt (jsi w34 47 0 a40 (v38 + 1)) fun w39 => some ((), w39)) fun K58 => if v3 = 60 then f_X9_note_L14 (fun (w13 : j_St) => jbd 50 231 fun a15 => jlt (jgi w13 47 0 a15) fun v16 => jbd 50 231 fun a18 => jlt (jsi w13 47 0 a18 (v16 - 1)) fun w17 => K58 w17) jFU 3 w else K58 w
abbrev rm_X9_note : Room := { frames := 5, cells := 0, slots := 0, locals := 113 }
set_option maxRecDepth 100000 in
set_option maxHeartbeats 4000000 in
theorem mt_X9_note {g : j_G} {B : j_B} {p1 : Int32} {p2 : Int32} {w w' : j_St} (a0 : B.2.1 1 0 ∧ B.2.2 1 0) {r : Unit} (h : f_X9_note p1 p2 w = some (r, w')) : j_M g yX9_note cX9_note 4 none rm_X9_note B [.ref (B.1 1 0), .int p1, .int p2] w w' (jrv r) := by
  refine j_met (rv := jrv) (by decide) (Nat.le_of_ble_eq_true rfl) (fun x hx => ?_) h
  unfold f_X9_note
  refine J.sub (lv' := [(0, .ref (B.1 1 0)), (1, .int p1), (2, .int p2)]) [0, 1, 2] rfl ?_
  refine J.aload_n hx dX9_note_0 rfl 0 rfl ?_
  refine J.getc (κ' := 47) (i' := 0) (κ := 1) (k := 22) hx rfl rfl rfl rfl rfl in_X9 (by decide) (Or.inl q1675) a0.2 dX9_note_1 fun h1 => ?_
  refine J.bipush (v := 50) hx dX9_note_4 (by decide) ?_
  refine J.iald (κ := 47) hx rfl rfl h1.1 dX9_note_6 fun v3 => ?_
  refine J.bipush (v := 60) hx dX9_note_7 (by decide) ?_
  refine J.fn (fun (K58 : j_St → Option (Unit × j_St)) => ∀  (w19 : j_St), J g x 4 B (j_Q g x B rm_X9_note jrv) 0 0 (K58 w19) 58 [(0, .ref (B.1 1 0)), (1, .int p1), (2, .int p2)] [] w19) ?_ ?_
  · intro w19
    refine J.bipush (v := 51) hx dX9_note_58 (by decide) ?_
    refine J.iconst (v := 3) hx dX9_note_60 (by decide) ?_
    refine J.aload_n hx dX9_note_61 rfl 0 rfl ?_
    refine J.getc (κ' := 47) (i' := 0) (κ := 1) (k := 22) hx rfl rfl rfl rfl rfl in_X9 (by decide) (Or.inl q1675) a0.2 dX9_note_62 fun h20 => ?_
    refine J.bipush (v := 50) hx dX9_note_65 (by decide) ?_
    refine J.iald (κ := 47) hx rfl rfl h20.1 dX9_note_67 fun v22 => ?_
    refine J.imul hx dX9_note_68 ?_
    refine J.iadd hx dX9_note_69 ?_
    refine J.nmi fun v23 => ?_
    refine J.istore_n (lv' := [(3, .int v23), (0, .ref (B.1 1 0)), (1, .int p1), (2, .int p2)]) hx dX9_note_70 rfl (by decide) rfl ?_
    refine J.aload_n hx dX9_note_71 rfl 1 rfl ?_
    refine J.getc (κ' := 47) (i' := 0) (κ := 1) (k := 22) hx rfl rfl rfl rfl rfl in_X9 (by decide) (Or.inl q1675) a0.2 dX9_note_72 fun h24 => ?_
    refine J.iload_n hx dX9_note_75 rfl 0 rfl ?_
    refine J.iload_n hx dX9_note_76 rfl 2 rfl ?_
    refine J.iast (κ := 47) hx rfl rfl rfl h24.1 dX9_note_77 fun w25 => ?_
    refine J.aload_n hx dX9_note_78 rfl 1 rfl ?_
    refine J.getc (κ' := 47) (i' := 0) (κ := 1) (k := 22) hx rfl rfl rfl rfl rfl in_X9 (by decide) (Or.inl q1675) a0.2 dX9_note_79 fun h27 => ?_
    refine J.iload_n hx dX9_note_82 rfl 0 rfl ?_
    refine J.iconst (v := 1) hx dX9_note_83 (by decide) ?_
    refine J.iadd hx dX9_note_84 ?_
    refine J.iload_n hx dX9_note_85 rfl 3 rfl ?_
    refine J.iast (κ := 47) hx rfl rfl rfl h27.1 dX9_note_86 fun w28 => ?_
    refine J.aload_n hx dX9_note_87 rfl 1 rfl ?_
    refine J.getc (κ' := 47) (i' := 0) (κ := 1) (k := 22) hx rfl rfl rfl rfl rfl in_X9 (by decide) (Or.inl q1675) a0.2 dX9_note_88 fun h30 => ?_
    refine J.iload_n hx dX9_note_91 rfl 0 rfl ?_
    refine J.iconst (v := 2) hx dX9_note_92 (by decide) ?_
    refine J.iadd hx dX9_note_93 ?_
    refine J.aload_n hx dX9_note_94 rfl 1 rfl ?_
    refine J.calli hx (fun r z1 z => j_callV (κ := 1) hx rfl rfl a0.1 (mt_X9_keptNow a0 z) (lw_V q1986 q1988 qs68 q129 q1989) hd_X9_keptNow rfl ⟨Nat.le_of_ble_eq_true rfl, Nat.le_of_ble_eq_true rfl⟩ (Nat.le_of_ble_eq_true rfl) dX9_note_95) ⟨⟨rfl, rfl⟩, Nat.le_of_ble_eq_true rfl, Nat.le_of_ble_eq_true rfl⟩ fun v31 w32 e33 => ?_
    refine J.iast (κ := 47) hx rfl rfl rfl h30.1 dX9_note_98 fun w34 => ?_
    refine J.aload_n hx dX9_note_99 rfl 1 rfl ?_
    refine J.getc (κ' := 47) (i' := 0) (κ := 1) (k := 22) hx rfl rfl rfl rfl rfl in_X9 (by decide) (Or.inl q1675) a0.2 dX9_note_100 fun h36 => ?_
    refine J.bipush (v := 50) hx dX9_note_103 (by decide) ?_
    refine J.dup2_11 hx dX9_note_105 rfl rfl ?_
    refine J.iald (κ := 47) hx rfl rfl h36.1 dX9_note_106 fun v38 => ?_
    refine J.iconst (v := 1) hx dX9_note_107 (by decide) ?_
    refine J.iadd hx dX9_note_108 ?_
    refine J.iast (κ := 47) hx rfl rfl rfl h36.1 dX9_note_109 fun w39 => ?_
    exact J.vret hx rfl (Nat.le_of_ble_eq_true rfl) (Nat.le_of_ble_eq_true rfl) dX9_note_110
  · intro K58 hK58
    refine J.icmp_ne (tgt := 58) hx dX9_note_9 (by decide) ?_ ?_
    · refine J.iconst (v := 3) hx dX9_note_12 (by decide) ?_
      refine J.istore_n (lv' := [(3, .int 3), (0, .ref (B.1 1 0)), (1, .int p1), (2, .int p2)]) hx dX9_note_13 rfl (by decide) rfl ?_
      have hL14 : ∀ (k47 : j_St → Option (Unit × j_St)) (hk47 : ∀  (w13 : j_St), J g x 4 B (j_Q g x B rm_X9_note jrv) 0 0 (k47 w13) 47 [(0, .ref (B.1 1 0)), (1, .int p1), (2, .int p2)] [] w13) (n14 : Nat) (v4 : Int32) (w5 : j_St), J g x 4 B (j_Q g x B rm_X9_note jrv) 0 0 (f_X9_note_L14 k47 n14 v4 w5) 14 [(0, .ref (B.1 1 0)), (1, .int p1), (2, .int p2), (3, .int v4)] [] w5 := by
        intro k47 hk47 n14
        induction n14 with
        | zero =>
          intro v4 w5
          rw [f_X9_note_L14]
          exact J.nne
        | succ n14 ih =>
          intro v4 w5
          rw [f_X9_note_L14]
          refine J.iload_n hx dX9_note_14 rfl 3 rfl ?_
          refine J.sipush (v := 180) hx dX9_note_15 (by decide) ?_
          refine J.icmp_ge (tgt := 47) hx dX9_note_18 (by decide) ?_ ?_
          · exact J.sub [0, 1, 2] rfl (hk47 w5)
          · refine J.aload_n hx dX9_note_21 rfl 0 rfl ?_
            refine J.getc (κ' := 47) (i' := 0) (κ := 1) (k := 22) hx rfl rfl rfl rfl rfl in_X9 (by decide) (Or.inl q1675) a0.2 dX9_note_22 fun h6 => ?_
            refine J.bipush (v := 51) hx dX9_note_25 (by decide) ?_
            refine J.iload_n hx dX9_note_27 rfl 3 rfl ?_
            refine J.iadd hx dX9_note_28 ?_
            refine J.iconst (v := 3) hx dX9_note_29 (by decide) ?_
            refine J.isub hx dX9_note_30 ?_
            refine J.aload_n hx dX9_note_31 rfl 0 rfl ?_
            refine J.getc (κ' := 47) (i' := 0) (κ := 1) (k := 22) hx rfl rfl rfl rfl rfl in_X9 (by decide) (Or.inl q1675) a0.2 dX9_note_32 fun h7 => ?_
            refine J.bipush (v := 51) hx dX9_note_35 (by decide) ?_
            refine J.iload_n hx dX9_note_37 rfl 3 rfl ?_
            refine J.iadd hx dX9_note_38 ?_
            refine J.iald (κ := 47) hx rfl rfl h7.1 dX9_note_39 fun v9 => ?_
            refine J.iast (κ := 47) hx rfl rfl rfl h6.1 dX9_note_40 fun w10 => ?_
            refine J.nmx fun v12 ev12 => ?_
            refine J.iinc (p := 3) (v := v12) (lv' := [(3, .int v12), (0, .ref (B.1 1 0)), (1, .int p1), (2, .int p2)]) hx dX9_note_41 rfl (by rw [ev12]; rfl) (by decide) rfl ?_
            refine J.goto (tgt := 14) hx dX9_note_44 (by decide) ?_
            exact J.sub [1, 2, 3, 0] rfl (ih v12 w10)
      refine J.sub [1, 2, 3, 0] rfl (hL14 _ ?_ jFU 3 w)
      · intro w13
        refine J.aload_n hx dX9_note_47 rfl 0 rfl ?_
        refine J.getc (κ' := 47) (i' := 0) (κ := 1) (k := 22) hx rfl rfl rfl rfl rfl in_X9 (by decide) (Or.inl q1675) a0.2 dX9_note_48 fun h14 => ?_
        refine J.bipush (v := 50) hx dX9_note_51 (by decide) ?_
        refine J.dup2_11 hx dX9_note_53 rfl rfl ?_
        refine J.iald (κ := 47) hx rfl rfl h14.1 dX9_note_54 fun v16 => ?_
        refine J.iconst (v := 1) hx dX9_note_55 (by decide) ?_
        refine J.isub hx dX9_note_56 ?_
        refine J.iast (κ := 47) hx rfl rfl rfl h14.1 dX9_note_57 fun w17 => ?_
        exact J.sub [0, 1, 2] rfl (hK58 w17)
    · exact J.sub [0, 1, 2] rfl (hK58 w)
theorem hd_X9_act : yX9_act.cls = RX9 ∧ yX9_act.cls ≠ "java/lang/invoke/MethodHandle" ∧ yX9_act.cls ≠ "java/lang/invoke/VarHandle" ∧ (parseMethodDescriptor yX9_act.desc).map (fun d => d.parameters.length) = some 3 := by decide +kernel
def f_X9_act (p1 : Int32) (p2 : Int32) (p3 : Int32) (w : j_St) : Option (Int32 × j_St) := jcb (f_X9_keep w) fun _ w2 => jcb (f_X9_doNow p1 p2 p3 w2) fun v4 w5 => jlt (fun (v7 : Int32) (w8 : j_St) => jcb (f_X9_note p1 v7 w8) fun _ w10 => some (v4, w10)) fun K25 => if 3 < p1 then K25 p2 w5 else K25 0 w5
abbrev rm_X9_act : Room := { frames := 6, cells := 0, slots := 0, locals := 143 }
set_option maxRecDepth 100000 in
set_option maxHeartbeats 4000000 in
theorem mt_X9_act {g : j_G} {B : j_B} {p1 : Int32} {p2 : Int32} {p3 : Int32} {w w' : j_St} (a0 : B.2.1 1 0 ∧ B.2.2 1 0) {r : Int32} (h : f_X9_act p1 p2 p3 w = some (r, w')) : j_M g yX9_act cX9_act 5 (some FieldType.int) rm_X9_act B [.ref (B.1 1 0), .int p1, .int p2, .int p3] w w' (jri r) := by
  refine j_met (rv := jri) (by decide) (Nat.le_of_ble_eq_true rfl) (fun x hx => ?_) h
  unfold f_X9_act
  refine J.sub (lv' := [(0, .ref (B.1 1 0)), (1, .int p1), (2, .int p2), (3, .int p3)]) [0, 1, 2, 3] rfl ?_
  refine J.aload_n hx dX9_act_0 rfl 0 rfl ?_
  refine J.callv hx (fun r z1 z => j_callV (κ := 1) hx rfl rfl a0.1 (mt_X9_keep a0 z) (lw_V q1965 q1967 qs64 q129 q1968) hd_X9_keep rfl ⟨Nat.le_of_ble_eq_true rfl, Nat.le_of_ble_eq_true rfl⟩ (Nat.le_of_ble_eq_true rfl) dX9_act_1) ⟨⟨rfl, rfl⟩, Nat.le_of_ble_eq_true rfl, Nat.le_of_ble_eq_true rfl⟩ fun _ w2 e3 => ?_
  refine J.aload_n hx dX9_act_4 rfl 0 rfl ?_
  refine J.iload_n hx dX9_act_5 rfl 1 rfl ?_
  refine J.iload_n hx dX9_act_6 rfl 2 rfl ?_
  refine J.iload_n hx dX9_act_7 rfl 3 rfl ?_
  refine J.calli hx (fun r z1 z => j_callV (κ := 1) hx rfl rfl a0.1 (mt_X9_doNow a0 z) (lw_V q1969 q1971 qs65 q129 q1972) hd_X9_doNow rfl ⟨Nat.le_of_ble_eq_true rfl, Nat.le_of_ble_eq_true rfl⟩ (Nat.le_of_ble_eq_true rfl) dX9_act_8) ⟨⟨rfl, rfl⟩, Nat.le_of_ble_eq_true rfl, Nat.le_of_ble_eq_true rfl⟩ fun v4 w5 e6 => ?_
  refine J.istore (lv' := [(4, .int v4), (0, .ref (B.1 1 0)), (1, .int p1), (2, .int p2), (3, .int p3)]) hx dX9_act_11 (by decide) rfl ?_
  refine J.aload_n hx dX9_act_13 rfl 1 rfl ?_
  refine J.iload_n hx dX9_act_14 rfl 2 rfl ?_
  refine J.iload_n hx dX9_act_15 rfl 2 rfl ?_
  refine J.iconst (v := 3) hx dX9_act_16 (by decide) ?_
  refine J.fn (fun (K25 : Int32 → j_St → Option (Int32 × j_St)) => ∀ (v7 : Int32) (w8 : j_St), J g x 5 B (j_Q g x B rm_X9_act jri) 0 0 (K25 v7 w8) 25 [(4, .int v4)] [.int v7, .int p1, .ref (B.1 1 0)] w8) ?_ ?_
  · intro v7 w8
    refine J.callv hx (fun r z1 z => j_callV (κ := 1) hx rfl rfl a0.1 (mt_X9_note a0 z) (lw_V q2073 q2075 qs89 q129 q2076) hd_X9_note rfl ⟨Nat.le_of_ble_eq_true rfl, Nat.le_of_ble_eq_true rfl⟩ (Nat.le_of_ble_eq_true rfl) dX9_act_25) ⟨⟨rfl, rfl⟩, Nat.le_of_ble_eq_true rfl, Nat.le_of_ble_eq_true rfl⟩ fun _ w10 e11 => ?_
    refine J.iload hx dX9_act_28 0 rfl ?_
    exact J.iret hx rfl (Nat.le_of_ble_eq_true rfl) (Nat.le_of_ble_eq_true rfl) dX9_act_30
  · intro K25 hK25
    refine J.icmp_gt (tgt := 24) hx dX9_act_17 (by decide) ?_ ?_
    · refine J.iload_n hx dX9_act_24 rfl 3 rfl ?_
      exact J.sub [0] rfl (hK25 p2 w5)
    · refine J.iconst (v := 0) hx dX9_act_20 (by decide) ?_
      refine J.goto (tgt := 25) hx dX9_act_21 (by decide) ?_
      exact J.sub [0] rfl (hK25 0 w5)
theorem hd_X9_hand : yX9_hand.cls = RX9 ∧ yX9_hand.cls ≠ "java/lang/invoke/MethodHandle" ∧ yX9_hand.cls ≠ "java/lang/invoke/VarHandle" ∧ (parseMethodDescriptor yX9_hand.desc).map (fun d => d.parameters.length) = some 3 := by decide +kernel
def f_X9_hand (p1 : Int32) (p2 : Int32) (p3 : Int32) (w : j_St) : Option (Int32 × j_St) := jcb (f_X9_whyNot p1 p2 p3 w) fun v1 w2 => if v1 = (-1) then jcb (f_X9_act p1 p2 p3 w2) fun v4 w5 => some (v4, w5) else jbd v1 2 fun a8 => jlt (jgi w2 48 0 a8) fun v9 => jbd v1 2 fun a11 => jlt (jsi w2 48 0 a11 (v9 + 1)) fun w10 => some ((-1), w10)
abbrev rm_X9_hand : Room := { frames := 7, cells := 0, slots := 0, locals := 167 }
set_option maxRecDepth 100000 in
set_option maxHeartbeats 4000000 in
theorem mt_X9_hand {g : j_G} {B : j_B} {p1 : Int32} {p2 : Int32} {p3 : Int32} {w w' : j_St} (a0 : B.2.1 1 0 ∧ B.2.2 1 0) {r : Int32} (h : f_X9_hand p1 p2 p3 w = some (r, w')) : j_M g yX9_hand cX9_hand 5 (some FieldType.int) rm_X9_hand B [.ref (B.1 1 0), .int p1, .int p2, .int p3] w w' (jri r) := by
  refine j_met (rv := jri) (by decide) (Nat.le_of_ble_eq_true rfl) (fun x hx => ?_) h
  unfold f_X9_hand
  refine J.sub (lv' := [(0, .ref (B.1 1 0)), (1, .int p1), (2, .int p2), (3, .int p3)]) [0, 1, 2, 3] rfl ?_
  refine J.aload_n hx dX9_hand_0 rfl 0 rfl ?_
  refine J.iload_n hx dX9_hand_1 rfl 1 rfl ?_
  refine J.iload_n hx dX9_hand_2 rfl 2 rfl ?_
  refine J.iload_n hx dX9_hand_3 rfl 3 rfl ?_
  refine J.calli hx (fun r z1 z => j_callV (κ := 1) hx rfl rfl a0.1 (mt_X9_whyNot a0 z) (lw_V q1953 q1955 qs61 q129 q1956) hd_X9_whyNot rfl ⟨Nat.le_of_ble_eq_true rfl, Nat.le_of_ble_eq_true rfl⟩ (Nat.le_of_ble_eq_true rfl) dX9_hand_4) ⟨⟨rfl, rfl⟩, Nat.le_of_ble_eq_true rfl, Nat.le_of_ble_eq_true rfl⟩ fun v1 w2 e3 => ?_
  refine J.istore (lv' := [(4, .int v1), (0, .ref (B.1 1 0)), (1, .int p1), (2, .int p2), (3, .int p3)]) hx dX9_hand_7 (by decide) rfl ?_
  refine J.iload hx dX9_hand_9 0 rfl ?_
  refine J.iconst (v := (-1)) hx dX9_hand_11 (by decide) ?_
  refine J.icmp_eq (tgt := 28) hx dX9_hand_12 (by decide) ?_ ?_
  · refine J.aload_n hx dX9_hand_28 rfl 1 rfl ?_
    refine J.iload_n hx dX9_hand_29 rfl 2 rfl ?_
    refine J.iload_n hx dX9_hand_30 rfl 3 rfl ?_
    refine J.iload_n hx dX9_hand_31 rfl 4 rfl ?_
    refine J.calli hx (fun r z1 z => j_callV (κ := 1) hx rfl rfl a0.1 (mt_X9_act a0 z) (lw_V q1961 q1963 qs63 q129 q1964) hd_X9_act rfl ⟨Nat.le_of_ble_eq_true rfl, Nat.le_of_ble_eq_true rfl⟩ (Nat.le_of_ble_eq_true rfl) dX9_hand_32) ⟨⟨rfl, rfl⟩, Nat.le_of_ble_eq_true rfl, Nat.le_of_ble_eq_true rfl⟩ fun v4 w5 e6 => ?_
    exact J.iret hx rfl (Nat.le_of_ble_eq_true rfl) (Nat.le_of_ble_eq_true rfl) dX9_hand_35
  · refine J.aload_n hx dX9_hand_15 rfl 1 rfl ?_
    refine J.getc (κ' := 48) (i' := 0) (κ := 1) (k := 23) hx rfl rfl rfl rfl rfl in_X9 (by decide) (Or.inl q1676) a0.2 dX9_hand_16 fun h7 => ?_
    refine J.iload hx dX9_hand_19 0 rfl ?_
    refine J.dup2_11 hx dX9_hand_21 rfl rfl ?_
    refine J.iald (κ := 48) hx rfl rfl h7.1 dX9_hand_22 fun v9 => ?_
    refine J.iconst (v := 1) hx dX9_hand_23 (by decide) ?_
    refine J.iadd hx dX9_hand_24 ?_
    refine J.iast (κ := 48) hx rfl rfl rfl h7.1 dX9_hand_25 fun w10 => ?_
    refine J.iconst (v := (-1)) hx dX9_hand_26 (by decide) ?_
    exact J.iret hx rfl (Nat.le_of_ble_eq_true rfl) (Nat.le_of_ble_eq_true rfl) dX9_hand_27
theorem hd_X9_smooth : yX9_smooth.cls = RX9 ∧ yX9_smooth.cls ≠ "java/lang/invoke/MethodHandle" ∧ yX9_smooth.cls ≠ "java/lang/invoke/VarHandle" ∧ (parseMethodDescriptor yX9_smooth.desc).map (fun d => d.parameters.length) = some 0 := by decide +kernel
def f_X9_smooth  (w : j_St) : Option (Int32 × j_St) := jcb (f_X9_hand 0 0 0 w) fun v1 w2 => some (v1, w2)
abbrev rm_X9_smooth : Room := { frames := 8, cells := 0, slots := 0, locals := 191 }
set_option maxRecDepth 100000 in
set_option maxHeartbeats 4000000 in
theorem mt_X9_smooth {g : j_G} {B : j_B}  {w w' : j_St} (a0 : B.2.1 1 0 ∧ B.2.2 1 0) {r : Int32} (h : f_X9_smooth  w = some (r, w')) : j_M g yX9_smooth cX9_smooth 1 (some FieldType.int) rm_X9_smooth B [.ref (B.1 1 0)] w w' (jri r) := by
  refine j_met (rv := jri) (by decide) (Nat.le_of_ble_eq_true rfl) (fun x hx => ?_) h
  unfold f_X9_smooth
  refine J.sub (lv' := [(0, .ref (B.1 1 0))]) [0] rfl ?_
  refine J.aload_n hx dX9_smooth_0 rfl 0 rfl ?_
  refine J.iconst (v := 0) hx dX9_smooth_1 (by decide) ?_
  refine J.iconst (v := 0) hx dX9_smooth_2 (by decide) ?_
  refine J.iconst (v := 0) hx dX9_smooth_3 (by decide) ?_
  refine J.calli hx (fun r z1 z => j_callV (κ := 1) hx rfl rfl a0.1 (mt_X9_hand a0 z) (lw_V q1949 q1951 qs60 q129 q1952) hd_X9_hand rfl ⟨Nat.le_of_ble_eq_true rfl, Nat.le_of_ble_eq_true rfl⟩ (Nat.le_of_ble_eq_true rfl) dX9_smooth_4) ⟨⟨rfl, rfl⟩, Nat.le_of_ble_eq_true rfl, Nat.le_of_ble_eq_true rfl⟩ fun v1 w2 e3 => ?_
  exact J.iret hx rfl (Nat.le_of_ble_eq_true rfl) (Nat.le_of_ble_eq_true rfl) dX9_smooth_7
