theorem hd_X1_best : yX1_best.cls = RX1 ∧ yX1_best.cls ≠ "java/lang/invoke/MethodHandle" ∧ yX1_best.cls ≠ "java/lang/invoke/VarHandle" ∧ (parseMethodDescriptor yX1_best.desc).map (fun d => d.parameters.length) = some 1 := by decide +kernel
def f_X1_best_L4 (i1 : Nat)  : Nat → Int32 → Int32 → j_St → Option (Int32 × j_St)
  | 0, _, _, _ => none
  | n4 + 1, v1, v2, w3 => jlt (jgi w3 2 0 5) fun v5 => if v5 ≤ v2 then some (v1, w3) else jcb (f_Rat_of i1 v2 w3) fun v6 w7 => jlt (fun (v16 : Int32) (w17 : j_St) => jlt (v2 + 1) fun v18 => f_X1_best_L4 i1 n4 v16 v18 w17) fun K50 => if v6 = (-1) then K50 v1 w7 else jlt (fun (w15 : j_St) => K50 v2 w15) fun K48 => if v1 = (-1) then K48 w7 else jcb (f_Rat_of i1 v2 w7) fun v9 w10 => jcb (f_Rat_of i1 v1 w10) fun v12 w13 => if v9 ≤ v12 then K50 v1 w13 else K48 w13
def f_X1_best (i1 : Nat) (w : j_St) : Option (Int32 × j_St) := f_X1_best_L4 i1 jFU (-1) 0 w
abbrev rm_X1_best : Room := { frames := 6, cells := 0, slots := 0, locals := 127 }
set_option maxRecDepth 100000 in
set_option maxHeartbeats 4000000 in
theorem mt_X1_best {g : j_G} {B : j_B} {i1 : Nat} {w w' : j_St} (a0 : B.2.1 0 0 ∧ B.2.2 0 0) (b1 : B.2.1 14 i1 ∧ B.2.2 14 i1) {r : Int32} (h : f_X1_best i1 w = some (r, w')) : j_M g yX1_best cX1_best 4 (some FieldType.int) rm_X1_best B [.ref (B.1 0 0), .ref (B.1 14 i1)] w w' (jri r) := by
  refine j_met (rv := jri) (by decide) (Nat.le_of_ble_eq_true rfl) (fun x hx => ?_) h
  unfold f_X1_best
  refine J.sub (lv' := [(0, .ref (B.1 0 0)), (1, .ref (B.1 14 i1))]) [0, 1] rfl ?_
  have a9 := a0
  refine J.iconst (v := (-1)) hx dX1_best_0 (by decide) ?_
  refine J.istore_n (lv' := [(2, .int (-1)), (0, .ref (B.1 0 0)), (1, .ref (B.1 14 i1))]) hx dX1_best_1 rfl (by decide) rfl ?_
  refine J.iconst (v := 0) hx dX1_best_2 (by decide) ?_
  refine J.istore_n (lv' := [(3, .int 0), (2, .int (-1)), (0, .ref (B.1 0 0)), (1, .ref (B.1 14 i1))]) hx dX1_best_3 rfl (by decide) rfl ?_
  have hL4 : ∀ (n4 : Nat) (v1 : Int32) (v2 : Int32) (w3 : j_St), J g x 4 B (j_Q g x B rm_X1_best jri) 0 0 (f_X1_best_L4 i1 n4 v1 v2 w3) 4 [(0, .ref (B.1 0 0)), (1, .ref (B.1 14 i1)), (2, .int v1), (3, .int v2)] [] w3 := by
    intro n4
    induction n4 with
    | zero =>
      intro v1 v2 w3
      rw [f_X1_best_L4]
      exact J.nne
    | succ n4 ih =>
      intro v1 v2 w3
      rw [f_X1_best_L4]
      refine J.iload_n hx dX1_best_4 rfl 3 rfl ?_
      refine J.aload_n hx dX1_best_5 rfl 0 rfl ?_
      refine J.getc (κ' := 2) (i' := 0) (κ := 0) (k := 10) hx rfl rfl rfl rfl rfl in_X1 (by decide) (Or.inl q378) a0.2 dX1_best_6 fun h4 => ?_
      refine J.geti (κ := 2) (k := 5) hx rfl rfl rfl in_X5 (by decide) (Or.inr ⟨_, j_nl q283 rfl⟩) h4.1 dX1_best_9 fun v5 => ?_
      refine J.icmp_ge (tgt := 56) hx dX1_best_12 (by decide) ?_ ?_
      · refine J.iload_n hx dX1_best_56 rfl 2 rfl ?_
        exact J.iret hx rfl (Nat.le_of_ble_eq_true rfl) (Nat.le_of_ble_eq_true rfl) dX1_best_57
      · refine J.aload_n hx dX1_best_15 rfl 1 rfl ?_
        refine J.iload_n hx dX1_best_16 rfl 3 rfl ?_
        refine J.calli hx (fun r z1 z => j_callRat hx a9 b1 z q1358 ⟨Nat.le_of_ble_eq_true rfl, Nat.le_of_ble_eq_true rfl⟩ (Nat.le_of_ble_eq_true rfl) dX1_best_17) ⟨⟨rfl, rfl⟩, Nat.le_of_ble_eq_true rfl, Nat.le_of_ble_eq_true rfl⟩ fun v6 w7 e8 => ?_
        refine J.iconst (v := (-1)) hx dX1_best_22 (by decide) ?_
        refine J.fn (fun (K50 : Int32 → j_St → Option (Int32 × j_St)) => ∀ (v16 : Int32) (w17 : j_St), J g x 4 B (j_Q g x B rm_X1_best jri) 0 0 (K50 v16 w17) 50 [(0, .ref (B.1 0 0)), (1, .ref (B.1 14 i1)), (2, .int v16), (3, .int v2)] [] w17) ?_ ?_
        · intro v16 w17
          refine J.nmx fun v18 ev18 => ?_
          refine J.iinc (p := 3) (v := v18) (lv' := [(3, .int v18), (0, .ref (B.1 0 0)), (1, .ref (B.1 14 i1)), (2, .int v16)]) hx dX1_best_50 rfl (by rw [ev18]; rfl) (by decide) rfl ?_
          refine J.goto (tgt := 4) hx dX1_best_53 (by decide) ?_
          exact J.sub [1, 2, 3, 0] rfl (ih v16 v18 w17)
        · intro K50 hK50
          refine J.icmp_eq (tgt := 50) hx dX1_best_23 (by decide) ?_ ?_
          · exact J.sub [0, 1, 2, 3] rfl (hK50 v1 w7)
          · refine J.iload_n hx dX1_best_26 rfl 2 rfl ?_
            refine J.iconst (v := (-1)) hx dX1_best_27 (by decide) ?_
            refine J.fn (fun (K48 : j_St → Option (Int32 × j_St)) => ∀  (w15 : j_St), J g x 4 B (j_Q g x B rm_X1_best jri) 0 0 (K48 w15) 48 [(0, .ref (B.1 0 0)), (1, .ref (B.1 14 i1)), (3, .int v2)] [] w15) ?_ ?_
            · intro w15
              refine J.iload_n hx dX1_best_48 rfl 2 rfl ?_
              refine J.istore_n (lv' := [(2, .int v2), (0, .ref (B.1 0 0)), (1, .ref (B.1 14 i1)), (3, .int v2)]) hx dX1_best_49 rfl (by decide) rfl ?_
              exact J.sub [1, 2, 0, 3] rfl (hK50 v2 w15)
            · intro K48 hK48
              refine J.icmp_eq (tgt := 48) hx dX1_best_28 (by decide) ?_ ?_
              · exact J.sub [0, 1, 3] rfl (hK48 w7)
              · refine J.aload_n hx dX1_best_31 rfl 1 rfl ?_
                refine J.iload_n hx dX1_best_32 rfl 3 rfl ?_
                refine J.calli hx (fun r z1 z => j_callRat hx a9 b1 z q1358 ⟨Nat.le_of_ble_eq_true rfl, Nat.le_of_ble_eq_true rfl⟩ (Nat.le_of_ble_eq_true rfl) dX1_best_33) ⟨⟨rfl, rfl⟩, Nat.le_of_ble_eq_true rfl, Nat.le_of_ble_eq_true rfl⟩ fun v9 w10 e11 => ?_
                refine J.aload_n hx dX1_best_38 rfl 1 rfl ?_
                refine J.iload_n hx dX1_best_39 rfl 2 rfl ?_
                refine J.calli hx (fun r z1 z => j_callRat hx a9 b1 z q1358 ⟨Nat.le_of_ble_eq_true rfl, Nat.le_of_ble_eq_true rfl⟩ (Nat.le_of_ble_eq_true rfl) dX1_best_40) ⟨⟨rfl, rfl⟩, Nat.le_of_ble_eq_true rfl, Nat.le_of_ble_eq_true rfl⟩ fun v12 w13 e14 => ?_
                refine J.icmp_le (tgt := 50) hx dX1_best_45 (by decide) ?_ ?_
                · exact J.sub [0, 1, 2, 3] rfl (hK50 v1 w13)
                · exact J.sub [0, 1, 3] rfl (hK48 w13)
  refine J.sub [2, 3, 1, 0] rfl (hL4 jFU (-1) 0 w)
theorem hd_X1_sum : yX1_sum.cls = RX1 ∧ yX1_sum.cls ≠ "java/lang/invoke/MethodHandle" ∧ yX1_sum.cls ≠ "java/lang/invoke/VarHandle" ∧ (parseMethodDescriptor yX1_sum.desc).map (fun d => d.parameters.length) = some 2 := by decide +kernel
def f_X1_sum_L5 (i1 : Nat) (p2 : Int32)  : Nat → Int32 → Int32 → j_St → Option (Int32 × j_St)
  | 0, _, _, _ => none
  | n5 + 1, v1, v2, w3 => jlt (jgi w3 2 0 5) fun v5 => if v5 ≤ v2 then some (v1, w3) else jlt (fun (v18 : Int32) (w19 : j_St) => jlt (v1 + v18) fun v20 => jlt (v2 + 1) fun v21 => f_X1_sum_L5 i1 p2 n5 v20 v21 w19) fun K50 => jlt (fun (w14 : j_St) => jcb (f_Rat_of i1 v2 w14) fun v15 w16 => K50 v15 w16) fun K38 => if p2 = 0 then K38 w3 else jbd v2 48 fun a8 => jlt (jgr w3 27 0 a8) fun v9 => job v9 fun y11 => jlt (jgi w3 3 y11 6) fun v13 => if v13 = 0 then K50 0 w3 else K38 w3
def f_X1_sum (i1 : Nat) (p2 : Int32) (w : j_St) : Option (Int32 × j_St) := f_X1_sum_L5 i1 p2 jFU 0 0 w
abbrev rm_X1_sum : Room := { frames := 6, cells := 0, slots := 0, locals := 127 }
set_option maxRecDepth 100000 in
set_option maxHeartbeats 4000000 in
theorem mt_X1_sum {g : j_G} {B : j_B} {i1 : Nat} {p2 : Int32} {w w' : j_St} (a0 : B.2.1 0 0 ∧ B.2.2 0 0) (b1 : B.2.1 14 i1 ∧ B.2.2 14 i1) {r : Int32} (h : f_X1_sum i1 p2 w = some (r, w')) : j_M g yX1_sum cX1_sum 5 (some FieldType.int) rm_X1_sum B [.ref (B.1 0 0), .ref (B.1 14 i1), .int p2] w w' (jri r) := by
  refine j_met (rv := jri) (by decide) (Nat.le_of_ble_eq_true rfl) (fun x hx => ?_) h
  unfold f_X1_sum
  refine J.sub (lv' := [(0, .ref (B.1 0 0)), (1, .ref (B.1 14 i1)), (2, .int p2)]) [0, 1, 2] rfl ?_
  have a9 := a0
  refine J.iconst (v := 0) hx dX1_sum_0 (by decide) ?_
  refine J.istore_n (lv' := [(3, .int 0), (0, .ref (B.1 0 0)), (1, .ref (B.1 14 i1)), (2, .int p2)]) hx dX1_sum_1 rfl (by decide) rfl ?_
  refine J.iconst (v := 0) hx dX1_sum_2 (by decide) ?_
  refine J.istore (lv' := [(4, .int 0), (3, .int 0), (0, .ref (B.1 0 0)), (1, .ref (B.1 14 i1)), (2, .int p2)]) hx dX1_sum_3 (by decide) rfl ?_
  have hL5 : ∀ (n5 : Nat) (v1 : Int32) (v2 : Int32) (w3 : j_St), J g x 5 B (j_Q g x B rm_X1_sum jri) 0 0 (f_X1_sum_L5 i1 p2 n5 v1 v2 w3) 5 [(0, .ref (B.1 0 0)), (1, .ref (B.1 14 i1)), (2, .int p2), (3, .int v1), (4, .int v2)] [] w3 := by
    intro n5
    induction n5 with
    | zero =>
      intro v1 v2 w3
      rw [f_X1_sum_L5]
      exact J.nne
    | succ n5 ih =>
      intro v1 v2 w3
      rw [f_X1_sum_L5]
      refine J.iload hx dX1_sum_5 4 rfl ?_
      refine J.aload_n hx dX1_sum_7 rfl 0 rfl ?_
      refine J.getc (κ' := 2) (i' := 0) (κ := 0) (k := 10) hx rfl rfl rfl rfl rfl in_X1 (by decide) (Or.inl q378) a0.2 dX1_sum_8 fun h4 => ?_
      refine J.geti (κ := 2) (k := 5) hx rfl rfl rfl in_X5 (by decide) (Or.inr ⟨_, j_nl q283 rfl⟩) h4.1 dX1_sum_11 fun v5 => ?_
      refine J.icmp_ge (tgt := 58) hx dX1_sum_14 (by decide) ?_ ?_
      · refine J.iload_n hx dX1_sum_58 rfl 3 rfl ?_
        exact J.iret hx rfl (Nat.le_of_ble_eq_true rfl) (Nat.le_of_ble_eq_true rfl) dX1_sum_59
      · refine J.iload_n hx dX1_sum_17 rfl 3 rfl ?_
        refine J.iload_n hx dX1_sum_18 rfl 2 rfl ?_
        refine J.fn (fun (K50 : Int32 → j_St → Option (Int32 × j_St)) => ∀ (v18 : Int32) (w19 : j_St), J g x 5 B (j_Q g x B rm_X1_sum jri) 0 0 (K50 v18 w19) 50 [(0, .ref (B.1 0 0)), (1, .ref (B.1 14 i1)), (2, .int p2), (4, .int v2)] [.int v18, .int v1] w19) ?_ ?_
        · intro v18 w19
          refine J.iadd hx dX1_sum_50 ?_
          refine J.nmi fun v20 => ?_
          refine J.istore_n (lv' := [(3, .int v20), (0, .ref (B.1 0 0)), (1, .ref (B.1 14 i1)), (2, .int p2), (4, .int v2)]) hx dX1_sum_51 rfl (by decide) rfl ?_
          refine J.nmx fun v21 ev21 => ?_
          refine J.iinc (p := 4) (v := v21) (lv' := [(4, .int v21), (3, .int v20), (0, .ref (B.1 0 0)), (1, .ref (B.1 14 i1)), (2, .int p2)]) hx dX1_sum_52 rfl (by rw [ev21]; rfl) (by decide) rfl ?_
          refine J.goto (tgt := 5) hx dX1_sum_55 (by decide) ?_
          exact J.sub [2, 3, 4, 1, 0] rfl (ih v20 v21 w19)
        · intro K50 hK50
          refine J.fn (fun (K38 : j_St → Option (Int32 × j_St)) => ∀  (w14 : j_St), J g x 5 B (j_Q g x B rm_X1_sum jri) 0 0 (K38 w14) 38 [(0, .ref (B.1 0 0)), (1, .ref (B.1 14 i1)), (2, .int p2), (4, .int v2)] [.int v1] w14) ?_ ?_
          · intro w14
            refine J.aload_n hx dX1_sum_38 rfl 1 rfl ?_
            refine J.iload hx dX1_sum_39 3 rfl ?_
            refine J.calli hx (fun r z1 z => j_callRat hx a9 b1 z q1358 ⟨Nat.le_of_ble_eq_true rfl, Nat.le_of_ble_eq_true rfl⟩ (Nat.le_of_ble_eq_true rfl) dX1_sum_41) ⟨⟨rfl, rfl⟩, Nat.le_of_ble_eq_true rfl, Nat.le_of_ble_eq_true rfl⟩ fun v15 w16 e17 => ?_
            refine J.goto (tgt := 50) hx dX1_sum_46 (by decide) ?_
            exact J.sub [0, 1, 2, 3] rfl (hK50 v15 w16)
          · intro K38 hK38
            refine J.if_eq (tgt := 38) hx dX1_sum_19 (by decide) ?_ ?_
            · exact J.sub [0, 1, 2, 4] rfl (hK38 w3)
            · refine J.aload_n hx dX1_sum_22 rfl 0 rfl ?_
              refine J.getc (κ' := 2) (i' := 0) (κ := 0) (k := 10) hx rfl rfl rfl rfl rfl in_X1 (by decide) (Or.inl q378) a0.2 dX1_sum_23 fun h6 => ?_
              refine J.getc (κ' := 27) (i' := 0) (κ := 2) (k := 1) hx rfl rfl rfl rfl rfl in_X5 (by decide) (Or.inr ⟨_, j_nl q277 rfl⟩) h6.2 dX1_sum_26 fun h7 => ?_
              refine J.iload hx dX1_sum_29 4 rfl ?_
              refine J.aald (κ' := 3) (κ := 27) hx rfl rfl (by decide) rfl rfl h7.1 dX1_sum_31 fun v9 h10 => ?_
              refine J.obU fun y11 e12 => ?_
              subst e12
              refine J.geti (κ := 3) (k := 6) hx rfl rfl rfl in_X6 (by decide) (Or.inr ⟨_, j_nl q256 rfl⟩) (h10 y11 rfl).1 dX1_sum_32 fun v13 => ?_
              refine J.if_eq (tgt := 49) hx dX1_sum_35 (by decide) ?_ ?_
              · refine J.iconst (v := 0) hx dX1_sum_49 (by decide) ?_
                exact J.sub [0, 1, 2, 4] rfl (hK50 0 w3)
              · exact J.sub [0, 1, 2, 4] rfl (hK38 w3)
  refine J.sub [2, 3, 4, 1, 0] rfl (hL5 jFU 0 0 w)
