/-! traces, scripts, readers: built once their constructors are through -/
theorem jbb_own {B : j_B} {S : Nat → Nat → Prop} {κ i : Nat} (h : B.2.1 κ i) (hs : S κ i) : (jbb B S).2.1 κ i ∧ (jbb B S).2.2 κ i := ⟨h, Or.inr hs⟩
def jS6 (n : Nat) (κ i : Nat) : Prop := (κ = 6 ∧ i = n) ∨ (κ = 4 ∧ i = 2 * n + 2) ∨ (κ = 32 ∧ i = 2 * n + 2) ∨ (κ = 34 ∧ i = n) ∨ (κ = 35 ∧ i = n)
def jS7 (n : Nat) (κ i : Nat) : Prop := (κ = 7 ∧ i = n) ∨ (κ = 36 ∧ i = n) ∨ (κ = 37 ∧ i = n)
def jS8 (n : Nat) (κ i : Nat) : Prop := κ = 8 ∧ i = n
theorem jS6_o {n : Nat} : jS6 n 6 n := Or.inl ⟨rfl, rfl⟩
theorem jS7_o {n : Nat} : jS7 n 7 n := Or.inl ⟨rfl, rfl⟩
theorem jS8_o {n : Nat} : jS8 n 8 n := ⟨rfl, rfl⟩
theorem jfs6 {k : Nat} (h : jfs 6 k = 3) : k = 0 ∨ k = 1 ∨ k = 2 := by
  match k, h with
  | 0, _ => exact Or.inl rfl
  | 1, _ => exact Or.inr (Or.inl rfl)
  | 2, _ => exact Or.inr (Or.inr rfl)
  | 3, h => exact absurd h (by decide)
  | 4, h => exact absurd h (by decide)
  | 5, h => exact absurd h (by decide)
  | k + 6, h => exact absurd h (by show ¬ 0 = 3; decide)
theorem jfs7 {k : Nat} (h : jfs 7 k = 3) : k = 0 ∨ k = 1 := by
  match k, h with
  | 0, _ => exact Or.inl rfl
  | 1, _ => exact Or.inr rfl
  | 2, h => exact absurd h (by decide)
  | k + 3, h => exact absurd h (by show ¬ 0 = 3; decide)
theorem jfs8 {k : Nat} (h : jfs 8 k = 3) : k = 1 := by
  match k, h with
  | 0, h => exact absurd h (by decide)
  | 1, _ => rfl
  | k + 2, h => exact absurd h (by show ¬ 0 = 3; decide)
theorem jb_X11r {n : Nat} {w w1 : j_St} {r : Unit} (h : f_X11_init n w = some (r, w1)) : jgr w1 6 n 0 = some (2 * n + 2) ∧ jgr w1 6 n 1 = some n ∧ jgr w1 6 n 2 = some n ∧ jgr w1 4 (2 * n + 2) 0 = some (2 * n + 2) := by
  simp only [f_X11_init, f_X7_init, jlt, jcb, Option.some.injEq, Prod.mk.injEq] at h
  obtain ⟨-, rfl⟩ := h
  refine ⟨?_, ?_, ?_, ?_⟩ <;> simp [jgr, jsr, jsi, jnw, ju3]
theorem jb_X11 {B0 B : j_B} {n : Nat} {w w1 : j_St} {r : Unit} (h : f_X11_init n w = some (r, w1)) (h6 : B.2.1 6 n ∧ True) (hp : jadd B0 [(4, (2 * n + 2)), (32, (2 * n + 2)), (34, n), (35, n)] B) :
    ∀ κ i, jS6 n κ i → B.2.1 κ i ∧ ∀ k, jfs κ k = 3 → jgr w1 κ i k = some (jci κ i k) ∧ (B.2.2 (jfk κ k) (jci κ i k) ∨ jS6 n (jfk κ k) (jci κ i k)) := by
  obtain ⟨r0, r1, r2, r4⟩ := jb_X11r h
  rintro κ i (⟨rfl, rfl⟩ | ⟨rfl, rfl⟩ | ⟨rfl, rfl⟩ | ⟨rfl, rfl⟩ | ⟨rfl, rfl⟩)
  · refine ⟨h6.1, fun k hk => ?_⟩
    rcases jfs6 hk with rfl | rfl | rfl
    · exact ⟨r0, Or.inr (Or.inr (Or.inl ⟨rfl, rfl⟩))⟩
    · exact ⟨r1, Or.inr (Or.inr (Or.inr (Or.inr (Or.inl ⟨rfl, rfl⟩))))⟩
    · exact ⟨r2, Or.inr (Or.inr (Or.inr (Or.inr (Or.inr ⟨rfl, rfl⟩))))⟩
  · refine ⟨hp.2.1 _ _ (by simp), fun k hk => ?_⟩
    rcases jfs4 hk with rfl
    exact ⟨r4, Or.inr (Or.inr (Or.inr (Or.inl ⟨rfl, rfl⟩)))⟩
  · exact ⟨hp.2.1 _ _ (by simp), fun k hk => absurd hk (by unfold jfs jfd; simp [jk0, jkt, jfi])⟩
  · exact ⟨hp.2.1 _ _ (by simp), fun k hk => absurd hk (by unfold jfs jfd; simp [jk0, jkt, jfi, jfr])⟩
  · exact ⟨hp.2.1 _ _ (by simp), fun k hk => absurd hk (by unfold jfs jfd; simp [jk0, jkt, jfi])⟩
theorem jb_X13r {n : Nat} {w w1 : j_St} {r : Unit} (h : f_X13_init n w = some (r, w1)) : jgr w1 7 n 0 = some n ∧ jgr w1 7 n 1 = some n := by
  simp only [f_X13_init, jlt, jcb, Option.some.injEq, Prod.mk.injEq] at h
  obtain ⟨-, rfl⟩ := h
  refine ⟨?_, ?_⟩ <;> simp [jgr, jsr, jsi, jnw, ju3]
theorem jb_X13 {B0 B : j_B} {n : Nat} {w w1 : j_St} {r : Unit} (h : f_X13_init n w = some (r, w1)) (h6 : B.2.1 7 n ∧ True) (hp : jadd B0 [(36, n), (37, n)] B) :
    ∀ κ i, jS7 n κ i → B.2.1 κ i ∧ ∀ k, jfs κ k = 3 → jgr w1 κ i k = some (jci κ i k) ∧ (B.2.2 (jfk κ k) (jci κ i k) ∨ jS7 n (jfk κ k) (jci κ i k)) := by
  obtain ⟨r0, r1⟩ := jb_X13r h
  rintro κ i (⟨rfl, rfl⟩ | ⟨rfl, rfl⟩ | ⟨rfl, rfl⟩)
  · refine ⟨h6.1, fun k hk => ?_⟩
    rcases jfs7 hk with rfl | rfl
    · exact ⟨r0, Or.inr (Or.inr (Or.inl ⟨rfl, rfl⟩))⟩
    · exact ⟨r1, Or.inr (Or.inr (Or.inr ⟨rfl, rfl⟩))⟩
  · exact ⟨hp.2.1 _ _ (by simp), fun k hk => absurd hk (by unfold jfs jfd; simp [jk0, jkt, jfi])⟩
  · exact ⟨hp.2.1 _ _ (by simp), fun k hk => absurd hk (by unfold jfs jfd; simp [jk0, jkt, jfi])⟩
theorem jb_X10 {B0 B : j_B} {n : Nat} {w w1 : j_St} {r : Unit} (h : f_X10_init n w = some (r, w1)) (h6 : B.2.1 8 n ∧ True) (_ : jadd B0 [] B) (h0 : B.2.1 0 0 ∧ B.2.2 0 0) :
    ∀ κ i, jS8 n κ i → B.2.1 κ i ∧ ∀ k, jfs κ k = 3 → jgr w1 κ i k = some (jci κ i k) ∧ (B.2.2 (jfk κ k) (jci κ i k) ∨ jS8 n (jfk κ k) (jci κ i k)) := by
  have r0 : jgr w1 8 n 1 = some 0 := by
    simp only [f_X10_init, jlt, jcb, Option.some.injEq, Prod.mk.injEq] at h
    obtain ⟨-, rfl⟩ := h
    simp [jgr, jsr, ju3]
  rintro κ i ⟨rfl, rfl⟩
  refine ⟨h6.1, fun k hk => ?_⟩
  rcases jfs8 hk with rfl
  exact ⟨r0, Or.inl h0.2⟩
theorem hd_J10_init : yJ10_init.cls = RJ10 ∧ yJ10_init.cls ≠ "java/lang/invoke/MethodHandle" ∧ yJ10_init.cls ≠ "java/lang/invoke/VarHandle" ∧ (parseMethodDescriptor yJ10_init.desc).map (fun d => d.parameters.length) = some 4 := by decide +kernel
def f_J10_init (i0 : Nat) (q1 : Option Nat) (q2 : Option Nat) (p3 : Int32) (p4 : Int32) (w : j_St) : Option (Unit × j_St) := jcb (f_J9_init_2 i0 q1 q2 p3 p4 w) fun _ w2 => some ((), w2)
abbrev rm_J10_init : Room := { frames := 2, cells := 0, slots := 0, locals := 44 }
set_option maxRecDepth 100000 in
set_option maxHeartbeats 4000000 in
theorem mt_J10_init {g : j_G} {B : j_B} {i0 : Nat} {q1 : Option Nat} {q2 : Option Nat} {p3 : Int32} {p4 : Int32} {w w' : j_St} (a0 : B.2.1 9 i0 ∧ True) (b1 : ∀ q, q1 = some q → B.2.1 18 q ∧ B.2.2 18 q) (b2 : ∀ q, q2 = some q → B.2.1 18 q ∧ B.2.2 18 q) {r : Unit} (h : f_J10_init i0 q1 q2 p3 p4 w = some (r, w')) : j_M g yJ10_init cJ10_init 5 none rm_J10_init B [.ref (B.1 9 i0), va_re (B.1 18) q1, va_re (B.1 18) q2, .int p3, .int p4] w w' (jrv r) := by
  refine j_met (rv := jrv) (by decide) (by simp [lg_sl, va_re_cat, jct_i, jct_l, jct_r, jct_n]) (fun x hx => ?_) h
  unfold f_J10_init
  rw [show lv_args 0 [.ref (B.1 9 i0), va_re (B.1 18) q1, va_re (B.1 18) q2, .int p3, .int p4] = [(0, .ref (B.1 9 i0)), (1, va_re (B.1 18) q1), (2, va_re (B.1 18) q2), (3, .int p3), (4, .int p4)] from by simp [lv_args, va_re_cat, jct_i, jct_l, jct_r, jct_n]]
  refine J.sub (lv' := [(0, .ref (B.1 9 i0)), (1, va_re (B.1 18) q1), (2, va_re (B.1 18) q2), (3, .int p3), (4, .int p4)]) [0, 1, 2, 3, 4] rfl ?_
  refine J.aload_n hx dJ10_init_0 rfl 0 rfl ?_
  refine J.aload_nq hx dJ10_init_1 rfl 1 rfl ?_
  refine J.aload_nq hx dJ10_init_2 rfl 2 rfl ?_
  refine J.iload_n hx dJ10_init_3 rfl 3 rfl ?_
  refine J.iload hx dJ10_init_4 4 rfl ?_
  refine J.callv hx (fun r z1 z => j_callI (κ := 9) hx (mt_J9_init_2 a0 b1 b2 z) (lw_meth q828) q826 q827 q141 rfl hd_J9_init_2.2 rfl ⟨Nat.le_of_ble_eq_true rfl, Nat.le_of_ble_eq_true rfl⟩ (Nat.le_of_ble_eq_true rfl) dJ10_init_6) ⟨⟨rfl, rfl⟩, (Nat.le_of_ble_eq_true rfl), (Nat.le_of_ble_eq_true rfl)⟩ fun _ w2 e3 => ?_
  exact J.vret hx rfl (Nat.le_of_ble_eq_true rfl) (Nat.le_of_ble_eq_true rfl) dJ10_init_9
theorem hd_X12_init : yX12_init.cls = RX12 ∧ yX12_init.cls ≠ "java/lang/invoke/MethodHandle" ∧ yX12_init.cls ≠ "java/lang/invoke/VarHandle" ∧ (parseMethodDescriptor yX12_init.desc).map (fun d => d.parameters.length) = some 1 := by decide +kernel
def f_X12_init (i0 : Nat) (p1 : Int32) (w : j_St) : Option (Unit × j_St) := jcb (f_J10_init i0 none none 0 0 w) fun _ w2 => jlt (jsi w2 9 i0 6 p1) fun w4 => some ((), w4)
abbrev rm_X12_init : Room := { frames := 3, cells := 0, slots := 0, locals := 68 }
set_option maxRecDepth 100000 in
set_option maxHeartbeats 4000000 in
theorem mt_X12_init {g : j_G} {B : j_B} {i0 : Nat} {p1 : Int32} {w w' : j_St} (a0 : B.2.1 9 i0 ∧ True)  {r : Unit} (h : f_X12_init i0 p1 w = some (r, w')) : j_MA g yX12_init cX12_init 2 none rm_X12_init B [.ref (B.1 9 i0), .int p1] w w' ((fun _ _ => none) r) ((fun _ _ _ => True) r w') := by
  refine j_metA (rv := (fun _ _ => none)) (PB := (fun _ _ _ => True)) (by decide) (Nat.le_of_ble_eq_true rfl) (fun x hx hnm => ?_) h
  unfold f_X12_init
  refine J.sub (lv' := [(0, .ref (B.1 9 i0)), (1, .int p1)]) [0, 1] rfl ?_
  refine J.aload_n hx dX12_init_0 rfl 0 rfl ?_
  refine J.null (ad := fun _ => 0) hx dX12_init_1 ?_
  refine J.null (ad := fun _ => 0) hx dX12_init_2 ?_
  refine J.iconst (v := 0) hx dX12_init_3 (by decide) ?_
  refine J.iconst (v := 0) hx dX12_init_4 (by decide) ?_
  refine J.callv hx (fun r z1 z => j_callI (κ := 9) hx (mt_J10_init a0 j_nn j_nn z) (lw_meth q825) q823 q824 q142 rfl hd_J10_init.2 rfl ⟨Nat.le_of_ble_eq_true rfl, Nat.le_of_ble_eq_true rfl⟩ (Nat.le_of_ble_eq_true rfl) dX12_init_5) ⟨⟨rfl, rfl⟩, (Nat.le_of_ble_eq_true rfl), (Nat.le_of_ble_eq_true rfl)⟩ fun _ w2 e3 => ?_
  refine J.aload_n hx dX12_init_8 rfl 0 rfl ?_
  refine J.iload_n hx dX12_init_9 rfl 1 rfl ?_
  refine J.putFi (κ := 9) (k := 6) hx hnm rfl rfl rfl in_X12 tyX12_ok nmX12 (by decide) q829 rfl rfl rfl a0.1 ⟨rfl, rfl⟩ dX12_init_10 fun w4 => ?_
  exact J.vretA hx j_ext.rf trivial rfl (Nat.le_of_ble_eq_true rfl) (Nat.le_of_ble_eq_true rfl) dX12_init_13
theorem hd_X10_peek : yX10_peek.cls = RX10 ∧ yX10_peek.cls ≠ "java/lang/invoke/MethodHandle" ∧ yX10_peek.cls ≠ "java/lang/invoke/VarHandle" ∧ (parseMethodDescriptor yX10_peek.desc).map (fun d => d.parameters.length) = some 0 := by decide +kernel
def f_X10_peek_L0 (i0 : Nat) (k44 : j_St → Option (Int32 × j_St)) : Nat → j_St → Option (Int32 × j_St)
  | 0, _ => none
  | n0 + 1, w1 => jlt (jgi w1 8 i0 0) fun v2 => jlt (jgi w1 0 0 3) fun v4 => if v4 ≤ v2 then k44 w1 else jlt (jgi w1 8 i0 0) fun v7 => jbd v7 400 fun a8 => jlt (jgi w1 20 0 a8) fun v9 => if v9 = 32 then jlt (jgi w1 8 i0 0) fun v10 => jlt (jsi w1 8 i0 0 (v10 + 1)) fun w11 => f_X10_peek_L0 i0 k44 n0 w11 else k44 w1
def f_X10_peek (i0 : Nat) (w : j_St) : Option (Int32 × j_St) := f_X10_peek_L0 i0 (fun (w12 : j_St) => jlt (jgi w12 8 i0 0) fun v13 => jlt (jgi w12 0 0 3) fun v15 => if v15 ≤ v13 then some ((-1), w12) else jlt (jgi w12 8 i0 0) fun v18 => jbd v18 400 fun a19 => jlt (jgi w12 20 0 a19) fun v20 => some (v20 &&& 255, w12)) jFU w
abbrev rm_X10_peek : Room := { frames := 0, cells := 0, slots := 0, locals := 0 }
set_option maxRecDepth 100000 in
set_option maxHeartbeats 4000000 in
theorem mt_X10_peek {g : j_G} {B : j_B} {i0 : Nat} {w w' : j_St} (a0 : B.2.1 8 i0 ∧ B.2.2 8 i0) {r : Int32} (h : f_X10_peek i0 w = some (r, w')) : j_M g yX10_peek cX10_peek 1 (some FieldType.int) rm_X10_peek B [.ref (B.1 8 i0)] w w' (jri r) := by
  refine j_met (rv := jri) (by decide) (Nat.le_of_ble_eq_true rfl) (fun x hx => ?_) h
  unfold f_X10_peek
  refine J.sub (lv' := [(0, .ref (B.1 8 i0))]) [0] rfl ?_
  have hL0 : ∀ (k44 : j_St → Option (Int32 × j_St)) (hk44 : ∀  (w12 : j_St), J g x 1 B (j_Q g x B rm_X10_peek jri) 0 0 (k44 w12) 44 [(0, .ref (B.1 8 i0))] [] w12) (n0 : Nat)  (w1 : j_St), J g x 1 B (j_Q g x B rm_X10_peek jri) 0 0 (f_X10_peek_L0 i0 k44 n0 w1) 0 [(0, .ref (B.1 8 i0))] [] w1 := by
    intro k44 hk44 n0
    induction n0 with
    | zero =>
      intro w1
      rw [f_X10_peek_L0]
      exact J.nne
    | succ n0 ih =>
      intro w1
      rw [f_X10_peek_L0]
      refine J.aload_n hx dX10_peek_0 rfl 0 rfl ?_
      refine J.geti (κ := 8) (k := 0) hx rfl rfl rfl in_X10 (by decide) (Or.inl q450) a0.1 dX10_peek_1 fun v2 => ?_
      refine J.aload_n hx dX10_peek_4 rfl 0 rfl ?_
      refine J.getc (κ' := 0) (i' := 0) (κ := 8) (k := 1) hx rfl rfl rfl rfl rfl in_X10 (by decide) (Or.inl q451) a0.2 dX10_peek_5 fun h3 => ?_
      refine J.geti (κ := 0) (k := 3) hx rfl rfl rfl in_X1 (by decide) (Or.inr ⟨_, j_nl q369 rfl⟩) h3.1 dX10_peek_8 fun v4 => ?_
      refine J.icmp_ge (tgt := 44) hx dX10_peek_11 (by decide) ?_ ?_
      · exact J.sub [0] rfl (hk44 w1)
      · refine J.aload_n hx dX10_peek_14 rfl 0 rfl ?_
        refine J.getc (κ' := 0) (i' := 0) (κ := 8) (k := 1) hx rfl rfl rfl rfl rfl in_X10 (by decide) (Or.inl q451) a0.2 dX10_peek_15 fun h5 => ?_
        refine J.getc (κ' := 20) (i' := 0) (κ := 0) (k := 2) hx rfl rfl rfl rfl rfl in_X1 (by decide) (Or.inr ⟨_, j_nl q367 rfl⟩) h5.2 dX10_peek_18 fun h6 => ?_
        refine J.aload_n hx dX10_peek_21 rfl 0 rfl ?_
        refine J.geti (κ := 8) (k := 0) hx rfl rfl rfl in_X10 (by decide) (Or.inl q450) a0.1 dX10_peek_22 fun v7 => ?_
        refine J.bald (κ := 20) hx rfl rfl h6.1 dX10_peek_25 fun v9 => ?_
        refine J.bipush (v := 32) hx dX10_peek_26 (by decide) ?_
        refine J.icmp_ne (tgt := 44) hx dX10_peek_28 (by decide) ?_ ?_
        · refine J.aload_n hx dX10_peek_31 rfl 0 rfl ?_
          refine J.dup hx dX10_peek_32 rfl ?_
          refine J.geti (κ := 8) (k := 0) hx rfl rfl rfl in_X10 (by decide) (Or.inl q450) a0.1 dX10_peek_33 fun v10 => ?_
          refine J.iconst (v := 1) hx dX10_peek_36 (by decide) ?_
          refine J.iadd hx dX10_peek_37 ?_
          refine J.puti (κ := 8) (k := 0) hx rfl rfl rfl in_X10 tyX10_ok nmX10 (by decide) (Or.inl q450) rfl rfl a0.1 ⟨rfl, rfl⟩ dX10_peek_38 fun w11 => ?_
          refine J.goto (tgt := 0) hx dX10_peek_41 (by decide) ?_
          exact J.sub [0] rfl (ih w11)
        · exact J.sub [0] rfl (hk44 w1)
  refine J.sub [0] rfl (hL0 _ ?_ jFU w)
  · intro w12
    refine J.aload_n hx dX10_peek_44 rfl 0 rfl ?_
    refine J.geti (κ := 8) (k := 0) hx rfl rfl rfl in_X10 (by decide) (Or.inl q450) a0.1 dX10_peek_45 fun v13 => ?_
    refine J.aload_n hx dX10_peek_48 rfl 0 rfl ?_
    refine J.getc (κ' := 0) (i' := 0) (κ := 8) (k := 1) hx rfl rfl rfl rfl rfl in_X10 (by decide) (Or.inl q451) a0.2 dX10_peek_49 fun h14 => ?_
    refine J.geti (κ := 0) (k := 3) hx rfl rfl rfl in_X1 (by decide) (Or.inr ⟨_, j_nl q369 rfl⟩) h14.1 dX10_peek_52 fun v15 => ?_
    refine J.icmp_ge (tgt := 77) hx dX10_peek_55 (by decide) ?_ ?_
    · refine J.iconst (v := (-1)) hx dX10_peek_77 (by decide) ?_
      exact J.iret hx rfl (Nat.le_of_ble_eq_true rfl) (Nat.le_of_ble_eq_true rfl) dX10_peek_78
    · refine J.aload_n hx dX10_peek_58 rfl 0 rfl ?_
      refine J.getc (κ' := 0) (i' := 0) (κ := 8) (k := 1) hx rfl rfl rfl rfl rfl in_X10 (by decide) (Or.inl q451) a0.2 dX10_peek_59 fun h16 => ?_
      refine J.getc (κ' := 20) (i' := 0) (κ := 0) (k := 2) hx rfl rfl rfl rfl rfl in_X1 (by decide) (Or.inr ⟨_, j_nl q367 rfl⟩) h16.2 dX10_peek_62 fun h17 => ?_
      refine J.aload_n hx dX10_peek_65 rfl 0 rfl ?_
      refine J.geti (κ := 8) (k := 0) hx rfl rfl rfl in_X10 (by decide) (Or.inl q450) a0.1 dX10_peek_66 fun v18 => ?_
      refine J.bald (κ := 20) hx rfl rfl h17.1 dX10_peek_69 fun v20 => ?_
      refine J.sipush (v := 255) hx dX10_peek_70 (by decide) ?_
      refine J.iand hx dX10_peek_73 ?_
      refine J.goto (tgt := 78) hx dX10_peek_74 (by decide) ?_
      exact J.iret hx rfl (Nat.le_of_ble_eq_true rfl) (Nat.le_of_ble_eq_true rfl) dX10_peek_78
theorem hd_X10_isLetter : yX10_isLetter.cls = RX10 ∧ yX10_isLetter.cls ≠ "java/lang/invoke/MethodHandle" ∧ yX10_isLetter.cls ≠ "java/lang/invoke/VarHandle" ∧ (parseMethodDescriptor yX10_isLetter.desc).map (fun d => d.parameters.length) = some 0 := by decide +kernel
def f_X10_isLetter (i0 : Nat) (w : j_St) : Option (Int32 × j_St) := jlt (jgi w 8 i0 0) fun v1 => jlt (jgi w 0 0 3) fun v3 => if v3 ≤ v1 then some (0, w) else jlt (jgi w 8 i0 0) fun v6 => jbd v6 400 fun a7 => jlt (jgi w 20 0 a7) fun v8 => if v8 < 97 then some (0, w) else jlt (jgi w 8 i0 0) fun v11 => jbd v11 400 fun a12 => jlt (jgi w 20 0 a12) fun v13 => if 122 < v13 then some (0, w) else some (1, w)
abbrev rm_X10_isLetter : Room := { frames := 0, cells := 0, slots := 0, locals := 0 }
set_option maxRecDepth 100000 in
set_option maxHeartbeats 4000000 in
theorem mt_X10_isLetter {g : j_G} {B : j_B} {i0 : Nat} {w w' : j_St} (a0 : B.2.1 8 i0 ∧ B.2.2 8 i0) {r : Int32} (h : f_X10_isLetter i0 w = some (r, w')) : j_M g yX10_isLetter cX10_isLetter 1 (some FieldType.boolean) rm_X10_isLetter B [.ref (B.1 8 i0)] w w' (jri r) := by
  refine j_met (rv := jri) (by decide) (Nat.le_of_ble_eq_true rfl) (fun x hx => ?_) h
  unfold f_X10_isLetter
  refine J.sub (lv' := [(0, .ref (B.1 8 i0))]) [0] rfl ?_
  refine J.aload_n hx dX10_isLetter_0 rfl 0 rfl ?_
  refine J.geti (κ := 8) (k := 0) hx rfl rfl rfl in_X10 (by decide) (Or.inl q450) a0.1 dX10_isLetter_1 fun v1 => ?_
  refine J.aload_n hx dX10_isLetter_4 rfl 0 rfl ?_
  refine J.getc (κ' := 0) (i' := 0) (κ := 8) (k := 1) hx rfl rfl rfl rfl rfl in_X10 (by decide) (Or.inl q451) a0.2 dX10_isLetter_5 fun h2 => ?_
  refine J.geti (κ := 0) (k := 3) hx rfl rfl rfl in_X1 (by decide) (Or.inr ⟨_, j_nl q369 rfl⟩) h2.1 dX10_isLetter_8 fun v3 => ?_
  refine J.icmp_ge (tgt := 52) hx dX10_isLetter_11 (by decide) ?_ ?_
  · refine J.iconst (v := 0) hx dX10_isLetter_52 (by decide) ?_
    exact J.zret hx rfl rfl (Nat.le_of_ble_eq_true rfl) (Nat.le_of_ble_eq_true rfl) dX10_isLetter_53
  · refine J.aload_n hx dX10_isLetter_14 rfl 0 rfl ?_
    refine J.getc (κ' := 0) (i' := 0) (κ := 8) (k := 1) hx rfl rfl rfl rfl rfl in_X10 (by decide) (Or.inl q451) a0.2 dX10_isLetter_15 fun h4 => ?_
    refine J.getc (κ' := 20) (i' := 0) (κ := 0) (k := 2) hx rfl rfl rfl rfl rfl in_X1 (by decide) (Or.inr ⟨_, j_nl q367 rfl⟩) h4.2 dX10_isLetter_18 fun h5 => ?_
    refine J.aload_n hx dX10_isLetter_21 rfl 0 rfl ?_
    refine J.geti (κ := 8) (k := 0) hx rfl rfl rfl in_X10 (by decide) (Or.inl q450) a0.1 dX10_isLetter_22 fun v6 => ?_
    refine J.bald (κ := 20) hx rfl rfl h5.1 dX10_isLetter_25 fun v8 => ?_
    refine J.bipush (v := 97) hx dX10_isLetter_26 (by decide) ?_
    refine J.icmp_lt (tgt := 52) hx dX10_isLetter_28 (by decide) ?_ ?_
    · refine J.iconst (v := 0) hx dX10_isLetter_52 (by decide) ?_
      exact J.zret hx rfl rfl (Nat.le_of_ble_eq_true rfl) (Nat.le_of_ble_eq_true rfl) dX10_isLetter_53
    · refine J.aload_n hx dX10_isLetter_31 rfl 0 rfl ?_
      refine J.getc (κ' := 0) (i' := 0) (κ := 8) (k := 1) hx rfl rfl rfl rfl rfl in_X10 (by decide) (Or.inl q451) a0.2 dX10_isLetter_32 fun h9 => ?_
      refine J.getc (κ' := 20) (i' := 0) (κ := 0) (k := 2) hx rfl rfl rfl rfl rfl in_X1 (by decide) (Or.inr ⟨_, j_nl q367 rfl⟩) h9.2 dX10_isLetter_35 fun h10 => ?_
      refine J.aload_n hx dX10_isLetter_38 rfl 0 rfl ?_
      refine J.geti (κ := 8) (k := 0) hx rfl rfl rfl in_X10 (by decide) (Or.inl q450) a0.1 dX10_isLetter_39 fun v11 => ?_
      refine J.bald (κ := 20) hx rfl rfl h10.1 dX10_isLetter_42 fun v13 => ?_
      refine J.bipush (v := 122) hx dX10_isLetter_43 (by decide) ?_
      refine J.icmp_gt (tgt := 52) hx dX10_isLetter_45 (by decide) ?_ ?_
      · refine J.iconst (v := 0) hx dX10_isLetter_52 (by decide) ?_
        exact J.zret hx rfl rfl (Nat.le_of_ble_eq_true rfl) (Nat.le_of_ble_eq_true rfl) dX10_isLetter_53
      · refine J.iconst (v := 1) hx dX10_isLetter_48 (by decide) ?_
        refine J.goto (tgt := 53) hx dX10_isLetter_49 (by decide) ?_
        exact J.zret hx rfl rfl (Nat.le_of_ble_eq_true rfl) (Nat.le_of_ble_eq_true rfl) dX10_isLetter_53
theorem hd_X10_isDigit : yX10_isDigit.cls = RX10 ∧ yX10_isDigit.cls ≠ "java/lang/invoke/MethodHandle" ∧ yX10_isDigit.cls ≠ "java/lang/invoke/VarHandle" ∧ (parseMethodDescriptor yX10_isDigit.desc).map (fun d => d.parameters.length) = some 0 := by decide +kernel
def f_X10_isDigit (i0 : Nat) (w : j_St) : Option (Int32 × j_St) := jlt (jgi w 8 i0 0) fun v1 => jlt (jgi w 0 0 3) fun v3 => if v3 ≤ v1 then some (0, w) else jlt (jgi w 8 i0 0) fun v6 => jbd v6 400 fun a7 => jlt (jgi w 20 0 a7) fun v8 => if v8 < 48 then some (0, w) else jlt (jgi w 8 i0 0) fun v11 => jbd v11 400 fun a12 => jlt (jgi w 20 0 a12) fun v13 => if 57 < v13 then some (0, w) else some (1, w)
abbrev rm_X10_isDigit : Room := { frames := 0, cells := 0, slots := 0, locals := 0 }
set_option maxRecDepth 100000 in
set_option maxHeartbeats 4000000 in
theorem mt_X10_isDigit {g : j_G} {B : j_B} {i0 : Nat} {w w' : j_St} (a0 : B.2.1 8 i0 ∧ B.2.2 8 i0) {r : Int32} (h : f_X10_isDigit i0 w = some (r, w')) : j_M g yX10_isDigit cX10_isDigit 1 (some FieldType.boolean) rm_X10_isDigit B [.ref (B.1 8 i0)] w w' (jri r) := by
  refine j_met (rv := jri) (by decide) (Nat.le_of_ble_eq_true rfl) (fun x hx => ?_) h
  unfold f_X10_isDigit
  refine J.sub (lv' := [(0, .ref (B.1 8 i0))]) [0] rfl ?_
  refine J.aload_n hx dX10_isDigit_0 rfl 0 rfl ?_
  refine J.geti (κ := 8) (k := 0) hx rfl rfl rfl in_X10 (by decide) (Or.inl q450) a0.1 dX10_isDigit_1 fun v1 => ?_
  refine J.aload_n hx dX10_isDigit_4 rfl 0 rfl ?_
  refine J.getc (κ' := 0) (i' := 0) (κ := 8) (k := 1) hx rfl rfl rfl rfl rfl in_X10 (by decide) (Or.inl q451) a0.2 dX10_isDigit_5 fun h2 => ?_
  refine J.geti (κ := 0) (k := 3) hx rfl rfl rfl in_X1 (by decide) (Or.inr ⟨_, j_nl q369 rfl⟩) h2.1 dX10_isDigit_8 fun v3 => ?_
  refine J.icmp_ge (tgt := 52) hx dX10_isDigit_11 (by decide) ?_ ?_
  · refine J.iconst (v := 0) hx dX10_isDigit_52 (by decide) ?_
    exact J.zret hx rfl rfl (Nat.le_of_ble_eq_true rfl) (Nat.le_of_ble_eq_true rfl) dX10_isDigit_53
  · refine J.aload_n hx dX10_isDigit_14 rfl 0 rfl ?_
    refine J.getc (κ' := 0) (i' := 0) (κ := 8) (k := 1) hx rfl rfl rfl rfl rfl in_X10 (by decide) (Or.inl q451) a0.2 dX10_isDigit_15 fun h4 => ?_
    refine J.getc (κ' := 20) (i' := 0) (κ := 0) (k := 2) hx rfl rfl rfl rfl rfl in_X1 (by decide) (Or.inr ⟨_, j_nl q367 rfl⟩) h4.2 dX10_isDigit_18 fun h5 => ?_
    refine J.aload_n hx dX10_isDigit_21 rfl 0 rfl ?_
    refine J.geti (κ := 8) (k := 0) hx rfl rfl rfl in_X10 (by decide) (Or.inl q450) a0.1 dX10_isDigit_22 fun v6 => ?_
    refine J.bald (κ := 20) hx rfl rfl h5.1 dX10_isDigit_25 fun v8 => ?_
    refine J.bipush (v := 48) hx dX10_isDigit_26 (by decide) ?_
    refine J.icmp_lt (tgt := 52) hx dX10_isDigit_28 (by decide) ?_ ?_
    · refine J.iconst (v := 0) hx dX10_isDigit_52 (by decide) ?_
      exact J.zret hx rfl rfl (Nat.le_of_ble_eq_true rfl) (Nat.le_of_ble_eq_true rfl) dX10_isDigit_53
    · refine J.aload_n hx dX10_isDigit_31 rfl 0 rfl ?_
      refine J.getc (κ' := 0) (i' := 0) (κ := 8) (k := 1) hx rfl rfl rfl rfl rfl in_X10 (by decide) (Or.inl q451) a0.2 dX10_isDigit_32 fun h9 => ?_
      refine J.getc (κ' := 20) (i' := 0) (κ := 0) (k := 2) hx rfl rfl rfl rfl rfl in_X1 (by decide) (Or.inr ⟨_, j_nl q367 rfl⟩) h9.2 dX10_isDigit_35 fun h10 => ?_
      refine J.aload_n hx dX10_isDigit_38 rfl 0 rfl ?_
      refine J.geti (κ := 8) (k := 0) hx rfl rfl rfl in_X10 (by decide) (Or.inl q450) a0.1 dX10_isDigit_39 fun v11 => ?_
      refine J.bald (κ := 20) hx rfl rfl h10.1 dX10_isDigit_42 fun v13 => ?_
      refine J.bipush (v := 57) hx dX10_isDigit_43 (by decide) ?_
      refine J.icmp_gt (tgt := 52) hx dX10_isDigit_45 (by decide) ?_ ?_
      · refine J.iconst (v := 0) hx dX10_isDigit_52 (by decide) ?_
        exact J.zret hx rfl rfl (Nat.le_of_ble_eq_true rfl) (Nat.le_of_ble_eq_true rfl) dX10_isDigit_53
      · refine J.iconst (v := 1) hx dX10_isDigit_48 (by decide) ?_
        refine J.goto (tgt := 53) hx dX10_isDigit_49 (by decide) ?_
        exact J.zret hx rfl rfl (Nat.le_of_ble_eq_true rfl) (Nat.le_of_ble_eq_true rfl) dX10_isDigit_53
theorem hd_X10_word : yX10_word.cls = RX10 ∧ yX10_word.cls ≠ "java/lang/invoke/MethodHandle" ∧ yX10_word.cls ≠ "java/lang/invoke/VarHandle" ∧ (parseMethodDescriptor yX10_word.desc).map (fun d => d.parameters.length) = some 0 := by decide +kernel
def f_X10_word_L13 (i0 : Nat) (n4 : Nat)  : Nat → Nat → Nat → j_St → Option (Nat × j_St)
  | 0, _, _, _ => none
  | n13 + 1, c22, c23, w19 => if c22 ≤ 10 ∧ c23 ≤ 4820 then jcb (f_X10_isLetter i0 w19) fun v24 w25 => if v24 = 0 then if c22 ≤ 10 ∧ c23 ≤ 4820 then some (n4, w25) else none else jlt (jgi w25 8 i0 0) fun v31 => jbd v31 400 fun a32 => jlt (jgi w25 20 0 a32) fun v33 => if (f_J2_append_n n4 ((v33.toUInt32 % 65536).toInt32) w25).isSome = true then if c22 + 0 ≤ 10 ∧ c23 + 0 ≤ 4820 then jcb (f_J2_append_n n4 ((v33.toUInt32 % 65536).toInt32) w25) fun v34 w35 => jlt (jgi w35 8 i0 0) fun v41 => jlt (jsi w35 8 i0 0 (v41 + 1)) fun w42 => f_X10_word_L13 i0 n4 n13 (c22 + 0) (c23 + 0) w42 else none else if c22 + 1 ≤ 10 ∧ c23 + 600 ≤ 4820 then jcb (f_J2_append n4 ((v33.toUInt32 % 65536).toInt32) w25) fun v43 w44 => jlt (jgi w44 8 i0 0) fun v50 => jlt (jsi w44 8 i0 0 (v50 + 1)) fun w51 => f_X10_word_L13 i0 n4 n13 (c22 + 1) (c23 + 600) w51 else none else none
def f_X10_word (i0 : Nat) (w : j_St) : Option (Nat × j_St) := jcb (f_X10_peek i0 w) fun v1 w2 => jlt (jgn w2 116 0) fun n4 => jlt (jbump w2 16) fun w6 => jlt (jnw w6 16 n4 0) fun w11 => jcb (f_J2_init n4 w11) fun _ w14 => f_X10_word_L13 i0 n4 jFU 2 20 w14
abbrev rm_X10_word : Room := { frames := 6, cells := 10, slots := 4820, locals := 146 }
set_option maxRecDepth 100000 in
set_option maxHeartbeats 4000000 in
theorem mt_X10_word {g : j_G} {B : j_B} {i0 : Nat} {w w' : j_St} (a0 : B.2.1 8 i0 ∧ B.2.2 8 i0)  {r : Nat} (h : f_X10_word i0 w = some (r, w')) : j_MA g yX10_word cX10_word 3 (some (FieldType.object "java/lang/CharSequence")) rm_X10_word B [.ref (B.1 8 i0)] w w' ((fun r B => jrr B 16 r) r) ((fun r _ B9 => B9.2.1 16 r ∧ B9.2.2 16 r) r w') := by
  refine j_metA (rv := (fun r B => jrr B 16 r)) (PB := (fun r _ B9 => B9.2.1 16 r ∧ B9.2.2 16 r)) (by decide) (Nat.le_of_ble_eq_true rfl) (fun x hx hnm => ?_) h
  unfold f_X10_word
  refine J.sub (lv' := [(0, .ref (B.1 8 i0))]) [0] rfl ?_
  refine J.aload_n hx dX10_word_0 rfl 0 rfl ?_
  refine J.calli hx (fun r z1 z => j_callV (κ := 8) hx rfl rfl a0.1 (mt_X10_peek a0 z) (lw_V q508 q510 qs3 q130 q511) hd_X10_peek rfl ⟨Nat.le_of_ble_eq_true rfl, Nat.le_of_ble_eq_true rfl⟩ (Nat.le_of_ble_eq_true rfl) dX10_word_1) ⟨⟨rfl, rfl⟩, (Nat.le_of_ble_eq_true rfl), (Nat.le_of_ble_eq_true rfl)⟩ fun v1 w2 e3 => ?_
  refine J.istore_n (lv' := [(1, .int v1), (0, .ref (B.1 8 i0))]) hx dX10_word_4 rfl (by decide) rfl ?_
  refine J.nmx fun n4 e5 => ?_
  refine J.fact (P := ¬ B.2.1 16 n4) (fun H hR z => by have h9 := hR.2.2.2.2.2.2.2.2.2 _ _ z; simp only [jcnt] at h9; simp at h9; omega) fun h8 => ?_
  refine J.bumpe fun w6 e7 => ?_
  refine J.fact (P := ¬ B.2.2 16 n4) (fun H hR z => h8 (hR.2.2.2.2.2.2.2.2.1 _ _ z)) fun h9 => ?_
  refine J.newB (κ := 16) (i := n4) hx rfl rfl in_J2 tyJ2_ok (by decide +kernel) (by decide) h8 h9 (by rw [e7, e5]; simp [jcnt, jbump, jgn]) jn3_16 q516 q517 q133 ⟨Nat.le_of_ble_eq_true rfl, Nat.le_of_ble_eq_true rfl⟩ dX10_word_5 fun z12 w11 => ?_
  refine J.dup hx dX10_word_8 rfl ?_
  refine J.callAv hx (fun r z1 z => j_callA_of (j_runI (κ := 16) hx (mt_J2_init (j_hf2 jN_al) z) (lw_meth q520) q518 q519 q133 rfl hd_J2_init.2 rfl ⟨Nat.le_of_ble_eq_true rfl, Nat.le_of_ble_eq_true rfl⟩ (Nat.le_of_ble_eq_true rfl) dX10_word_9)) ⟨Nat.le_of_ble_eq_true rfl, Nat.le_of_ble_eq_true rfl⟩ fun _ w14 B16 e15 x17 x18 => ?_
  refine J.cv (lv' := [(1, .int v1), (0, .ref (B16.1 8 i0))]) (st' := [.ref (B16.1 16 n4)]) (by first | rfl | (simp only [x17.ad (jN_old a0), x17.ad jN_al]; done) | (simp only [x17.ad (jN_old a0), x17.ad jN_al]; rfl)) (by first | rfl | (simp only [x17.ad (jN_old a0), x17.ad jN_al]; done) | (simp only [x17.ad (jN_old a0), x17.ad jN_al]; rfl)) ?_
  refine J.astore_n (lv' := [(2, .ref (B16.1 16 n4)), (1, .int v1), (0, .ref (B16.1 8 i0))]) hx dX10_word_12 rfl (by decide) rfl ?_
  have hL13 : ∀ (n13 : Nat)  (c22 c23 : Nat) (B20 : j_B) (x21 : j_ext B16 B20) (w19 : j_St), J g x 3 B20 (j_QA g x B rm_X10_word (fun r B => jrr B 16 r) (fun r _ B9 => B9.2.1 16 r ∧ B9.2.2 16 r)) c22 c23 (f_X10_word_L13 i0 n4 n13 c22 c23 w19) 13 [(0, .ref (B20.1 8 i0)), (2, .ref (B20.1 16 n4))] [] w19 := by
    intro n13
    induction n13 with
    | zero =>
      intro c22 c23 B20 x21 w19
      rw [f_X10_word_L13]
      exact J.nne
    | succ n13 ih =>
      intro c22 c23 B20 x21 w19
      rw [f_X10_word_L13]
      refine J.aload_n hx dX10_word_13 rfl 0 rfl ?_
      refine J.ite (fun h27 => ?_) (fun _ => J.nne)
      refine J.calli hx (fun r z1 z => j_callV (κ := 8) hx rfl rfl (x21.mv (x17.mv (jN_old a0))).1 (mt_X10_isLetter (x21.mv (x17.mv (jN_old a0))) z) (lw_V q547 q549 qs5 q130 q550) hd_X10_isLetter rfl ⟨Nat.le_of_ble_eq_true rfl, Nat.le_of_ble_eq_true rfl⟩ (Nat.le_of_ble_eq_true rfl) dX10_word_14) ⟨⟨rfl, rfl⟩, h27.1, h27.2⟩ fun v24 w25 e26 => ?_
      refine J.if_eq (tgt := 51) hx dX10_word_17 (by decide) ?_ ?_
      · refine J.aload_n hx dX10_word_51 rfl 1 rfl ?_
        refine J.ite (fun h28 => ?_) (fun _ => J.nne)
        exact J.aretA (κ := 16) (q := n4) hx (((j_ext.rf.tr (jN_ext h8)).tr x17).tr x21) (x21.mv (x17.mv jN_al)) rfl (Or.inl ⟨_, rfl⟩) h28.1 h28.2 dX10_word_52
      · refine J.aload_n hx dX10_word_20 rfl 1 rfl ?_
        refine J.aload_n hx dX10_word_21 rfl 0 rfl ?_
        refine J.getc (κ' := 0) (i' := 0) (κ := 8) (k := 1) hx rfl rfl rfl rfl rfl in_X10 (by decide) (Or.inl q451) (x21.mv (x17.mv (jN_old a0))).2 dX10_word_22 fun h29 => ?_
        refine J.getc (κ' := 20) (i' := 0) (κ := 0) (k := 2) hx rfl rfl rfl rfl rfl in_X1 (by decide) (Or.inr ⟨_, j_nl q367 rfl⟩) h29.2 dX10_word_25 fun h30 => ?_
        refine J.aload_n hx dX10_word_28 rfl 0 rfl ?_
        refine J.geti (κ := 8) (k := 0) hx rfl rfl rfl in_X10 (by decide) (Or.inl q450) (x21.mv (x17.mv (jN_old a0))).1 dX10_word_29 fun v31 => ?_
        refine J.bald (κ := 20) hx rfl rfl h30.1 dX10_word_32 fun v33 => ?_
        refine J.i2c hx dX10_word_33 ?_
        refine J.ite (fun h52 => ?_) (fun h52 => ?_)
        · refine J.ite (fun h37 => ?_) (fun _ => J.nne)
          refine J.callAr (κ := 16) hx (fun r z1 z => j_callA_of (j_runV (κ := 16) hx rfl rfl (x21.mv (x17.mv jN_al)).1 (mt_J2_append_n (x21.mv (x17.mv jN_al)) z) (lw_V q551 q552 q553 q133 q554) hd_J2_append rfl ⟨Nat.le_of_ble_eq_true rfl, Nat.le_of_ble_eq_true rfl⟩ (Nat.le_of_ble_eq_true rfl) dX10_word_34)) h37 fun v34 w35 B38 e36 x39 x40 => ?_
          refine J.cv (lv' := [(0, .ref (B38.1 8 i0)), (2, .ref (B38.1 16 n4))]) (st' := [.ref (B38.1 16 v34)]) (by first | rfl | (simp only [x39.ad (x21.mv (x17.mv (jN_old a0))), x39.ad (x21.mv (x17.mv jN_al))]; done) | (simp only [x39.ad (x21.mv (x17.mv (jN_old a0))), x39.ad (x21.mv (x17.mv jN_al))]; rfl)) (by first | rfl | (simp only [x39.ad (x21.mv (x17.mv (jN_old a0))), x39.ad (x21.mv (x17.mv jN_al))]; done) | (simp only [x39.ad (x21.mv (x17.mv (jN_old a0))), x39.ad (x21.mv (x17.mv jN_al))]; rfl)) ?_
          refine J.pop hx dX10_word_37 rfl ?_
          refine J.aload_n hx dX10_word_38 rfl 0 rfl ?_
          refine J.dup hx dX10_word_39 rfl ?_
          refine J.geti (κ := 8) (k := 0) hx rfl rfl rfl in_X10 (by decide) (Or.inl q450) (x39.mv (x21.mv (x17.mv (jN_old a0)))).1 dX10_word_40 fun v41 => ?_
          refine J.iconst (v := 1) hx dX10_word_43 (by decide) ?_
          refine J.iadd hx dX10_word_44 ?_
          refine J.puti (κ := 8) (k := 0) hx rfl rfl rfl in_X10 tyX10_ok nmX10 (by decide) (Or.inl q450) rfl rfl (x39.mv (x21.mv (x17.mv (jN_old a0)))).1 ⟨rfl, rfl⟩ dX10_word_45 fun w42 => ?_
          refine J.goto (tgt := 13) hx dX10_word_48 (by decide) ?_
          exact J.sub [0, 1] rfl (ih (c22 + 0) (c23 + 0) B38 (x21.tr x39) w42)
        · refine J.ite (fun h46 => ?_) (fun _ => J.nne)
          refine J.callAr (κ := 16) hx (fun r z1 z => j_callA_of (j_runV (κ := 16) hx rfl rfl (x21.mv (x17.mv jN_al)).1 (mt_J2_append (x21.mv (x17.mv jN_al)) z) (lw_V q551 q552 q553 q133 q554) hd_J2_append rfl ⟨Nat.le_of_ble_eq_true rfl, Nat.le_of_ble_eq_true rfl⟩ (Nat.le_of_ble_eq_true rfl) dX10_word_34)) h46 fun v43 w44 B47 e45 x48 x49 => ?_
          refine J.cv (lv' := [(0, .ref (B47.1 8 i0)), (2, .ref (B47.1 16 n4))]) (st' := [.ref (B47.1 16 v43)]) (by first | rfl | (simp only [x48.ad (x21.mv (x17.mv (jN_old a0))), x48.ad (x21.mv (x17.mv jN_al))]; done) | (simp only [x48.ad (x21.mv (x17.mv (jN_old a0))), x48.ad (x21.mv (x17.mv jN_al))]; rfl)) (by first | rfl | (simp only [x48.ad (x21.mv (x17.mv (jN_old a0))), x48.ad (x21.mv (x17.mv jN_al))]; done) | (simp only [x48.ad (x21.mv (x17.mv (jN_old a0))), x48.ad (x21.mv (x17.mv jN_al))]; rfl)) ?_
          refine J.pop hx dX10_word_37 rfl ?_
          refine J.aload_n hx dX10_word_38 rfl 0 rfl ?_
          refine J.dup hx dX10_word_39 rfl ?_
          refine J.geti (κ := 8) (k := 0) hx rfl rfl rfl in_X10 (by decide) (Or.inl q450) (x48.mv (x21.mv (x17.mv (jN_old a0)))).1 dX10_word_40 fun v50 => ?_
          refine J.iconst (v := 1) hx dX10_word_43 (by decide) ?_
          refine J.iadd hx dX10_word_44 ?_
          refine J.puti (κ := 8) (k := 0) hx rfl rfl rfl in_X10 tyX10_ok nmX10 (by decide) (Or.inl q450) rfl rfl (x48.mv (x21.mv (x17.mv (jN_old a0)))).1 ⟨rfl, rfl⟩ dX10_word_45 fun w51 => ?_
          refine J.goto (tgt := 13) hx dX10_word_48 (by decide) ?_
          exact J.sub [0, 1] rfl (ih (c22 + 1) (c23 + 600) B47 (x21.tr x48) w51)
  refine J.sub [2, 0] rfl (hL13 jFU 2 20 B16 j_ext.rf w14)
theorem hd_X10_number : yX10_number.cls = RX10 ∧ yX10_number.cls ≠ "java/lang/invoke/MethodHandle" ∧ yX10_number.cls ≠ "java/lang/invoke/VarHandle" ∧ (parseMethodDescriptor yX10_number.desc).map (fun d => d.parameters.length) = some 2 := by decide +kernel
def f_X10_number_L52 (i0 : Nat) (v17 : Int32) (k111 : Int32 → Nat → Nat → j_St → Option ((Nat ⊕ Int32) × j_St)) : Nat → Int32 → Nat → Nat → j_St → Option ((Nat ⊕ Int32) × j_St)
  | 0, _, _, _, _ => none
  | n52 + 1, v18, c22, c23, w19 => if c22 ≤ 1 ∧ c23 ≤ 7 then jcb (f_X10_isDigit i0 w19) fun v24 w25 => if v24 = 0 then k111 v18 c22 c23 w25 else jlt (jgi w25 8 i0 0) fun v28 => jlt (fun (v34 : Int32) (c38 : Nat) (c39 : Nat) (w35 : j_St) => jlt (jgi w35 8 i0 0) fun v40 => jlt (jsi w35 8 i0 0 (v40 + 1)) fun w41 => f_X10_number_L52 i0 v17 k111 n52 v34 c38 c39 w41) fun K96 => if 3 ≤ v28 - v17 then K96 v18 c22 c23 w25 else jlt (jgi w25 8 i0 0) fun v31 => jbd v31 400 fun a32 => jlt (jgi w25 20 0 a32) fun v33 => K96 (((10 * v18) + v33) - 48) c22 c23 w25 else none
def f_X10_number (i0 : Nat) (p1 : Int32) (p2 : Int32) (w : j_St) : Option ((Nat ⊕ Int32) × j_St) := jcb (f_X10_peek i0 w) fun v1 w2 => jlt (jgi w2 8 i0 0) fun v4 => jlt (fun (v8 : Int32) (w9 : j_St) => jlt (fun (w14 : j_St) => jlt (jgi w14 8 i0 0) fun v17 => f_X10_number_L52 i0 v17 (fun (v42 : Int32) (c46 : Nat) (c47 : Nat) (w43 : j_St) => jlt (jgi w43 8 i0 0) fun v48 => if c46 ≤ 1 ∧ c47 ≤ 7 then jcb (f_X1_isIn ((v48 - v17).toInt64) 1 3 w43) fun v49 w50 => jlt (fun (c58 : Nat) (c59 : Nat) (w55 : j_St) => jlt (jgn w55 109 0) fun n60 => jlt (jbump w55 9) fun w62 => if c58 + 1 ≤ 1 ∧ c59 + 7 ≤ 7 then jlt (jnw w62 9 n60 0) fun w67 => if c58 + 1 + 0 ≤ 1 ∧ c59 + 7 + 0 ≤ 7 then jcb (f_X12_init n60 v4 w67) fun _ w71 => if c58 + 1 + 0 ≤ 1 ∧ c59 + 7 + 0 ≤ 7 then some (.inl n60, w71) else none else none else none) fun K135 => if v49 = 0 then K135 c46 c47 w50 else if v42 ≤ p2 then if v8 = 0 then if c46 ≤ 1 ∧ c47 ≤ 7 then some (.inr v42, w50) else none else if c46 ≤ 1 ∧ c47 ≤ 7 then some (.inr (-v42), w50) else none else K135 c46 c47 w50 else none) jFU 0 0 0 w14) fun K43 => if v8 = 0 then K43 w9 else jlt (jgi w9 8 i0 0) fun v12 => jlt (jsi w9 8 i0 0 (v12 + 1)) fun w13 => K43 w13) fun K26 => jlt (fun (w5 : j_St) => K26 0 w5) fun K25 => if p1 = 0 then K25 w2 else if v1 = 45 then K26 1 w2 else K25 w2
abbrev rm_X10_number : Room := { frames := 4, cells := 1, slots := 7, locals := 89 }
set_option maxRecDepth 100000 in
set_option maxHeartbeats 4000000 in
theorem mt_X10_number {g : j_G} {B : j_B} {i0 : Nat} {p1 : Int32} {p2 : Int32} {w w' : j_St} (a0 : B.2.1 8 i0 ∧ B.2.2 8 i0)  {r : (Nat ⊕ Int32)} (h : f_X10_number i0 p1 p2 w = some (r, w')) : j_MX g yX10_number cX10_number 8 (some FieldType.int) rm_X10_number B [.ref (B.1 8 i0), .int p1, .int p2] w w' r (fun v _ => jri v) (fun _ _ _ => True) := by
  refine j_metX (rv := (fun v _ => jri v)) (PB := (fun _ _ _ => True)) (by decide) (Nat.le_of_ble_eq_true rfl) (fun x hx hnt => ?_) h
  unfold f_X10_number
  refine J.sub (lv' := [(0, .ref (B.1 8 i0)), (1, .int p1), (2, .int p2)]) [0, 1, 2] rfl ?_
  refine J.aload_n hx dX10_number_0 rfl 0 rfl ?_
  refine J.calli hx (fun r z1 z => j_callV (κ := 8) hx rfl rfl a0.1 (mt_X10_peek a0 z) (lw_V q508 q510 qs3 q130 q511) hd_X10_peek rfl ⟨Nat.le_of_ble_eq_true rfl, Nat.le_of_ble_eq_true rfl⟩ (Nat.le_of_ble_eq_true rfl) dX10_number_1) ⟨⟨rfl, rfl⟩, (Nat.le_of_ble_eq_true rfl), (Nat.le_of_ble_eq_true rfl)⟩ fun v1 w2 e3 => ?_
  refine J.istore_n (lv' := [(3, .int v1), (0, .ref (B.1 8 i0)), (1, .int p1), (2, .int p2)]) hx dX10_number_4 rfl (by decide) rfl ?_
  refine J.aload_n hx dX10_number_5 rfl 1 rfl ?_
  refine J.geti (κ := 8) (k := 0) hx rfl rfl rfl in_X10 (by decide) (Or.inl q450) a0.1 dX10_number_6 fun v4 => ?_
  refine J.istore (lv' := [(4, .int v4), (3, .int v1), (0, .ref (B.1 8 i0)), (1, .int p1), (2, .int p2)]) hx dX10_number_9 (by decide) rfl ?_
  refine J.iload_n hx dX10_number_11 rfl 3 rfl ?_
  refine J.fn (fun (K26 : Int32 → j_St → Option ((Nat ⊕ Int32) × j_St)) => ∀ (v8 : Int32) (B10 : j_B) (x11 : j_ext B B10) (w9 : j_St), J g x 8 B10 (j_QX g x B rm_X10_number (fun v _ => jri v) (fun _ _ _ => True)) 0 0 (K26 v8 w9) 26 [(0, .ref (B10.1 8 i0)), (2, .int p2), (4, .int v4)] [.int v8] w9) ?_ ?_
  · intro v8 B10 x11 w9
    refine J.istore (lv' := [(5, .int v8), (0, .ref (B10.1 8 i0)), (2, .int p2), (4, .int v4)]) hx dX10_number_26 (by decide) rfl ?_
    refine J.iload hx dX10_number_28 0 rfl ?_
    refine J.fn (fun (K43 : j_St → Option ((Nat ⊕ Int32) × j_St)) => ∀  (B15 : j_B) (x16 : j_ext B10 B15) (w14 : j_St), J g x 8 B15 (j_QX g x B rm_X10_number (fun v _ => jri v) (fun _ _ _ => True)) 0 0 (K43 w14) 43 [(0, .ref (B15.1 8 i0)), (2, .int p2), (4, .int v4), (5, .int v8)] [] w14) ?_ ?_
    · intro B15 x16 w14
      refine J.aload_n hx dX10_number_43 rfl 0 rfl ?_
      refine J.geti (κ := 8) (k := 0) hx rfl rfl rfl in_X10 (by decide) (Or.inl q450) (x16.mv (x11.mv a0)).1 dX10_number_44 fun v17 => ?_
      refine J.istore (lv' := [(6, .int v17), (0, .ref (B15.1 8 i0)), (2, .int p2), (4, .int v4), (5, .int v8)]) hx dX10_number_47 (by decide) rfl ?_
      refine J.iconst (v := 0) hx dX10_number_49 (by decide) ?_
      refine J.istore (lv' := [(7, .int 0), (6, .int v17), (0, .ref (B15.1 8 i0)), (2, .int p2), (4, .int v4), (5, .int v8)]) hx dX10_number_50 (by decide) rfl ?_
      have hL52 : ∀ (k111 : Int32 → Nat → Nat → j_St → Option ((Nat ⊕ Int32) × j_St)) (hk111 : ∀ (v42 : Int32) (c46 : Nat) (c47 : Nat) (B44 : j_B) (x45 : j_ext B15 B44) (w43 : j_St), J g x 8 B44 (j_QX g x B rm_X10_number (fun v _ => jri v) (fun _ _ _ => True)) c46 c47 (k111 v42 c46 c47 w43) 111 [(0, .ref (B44.1 8 i0)), (2, .int p2), (4, .int v4), (5, .int v8), (6, .int v17), (7, .int v42)] [] w43) (n52 : Nat) (v18 : Int32) (c22 c23 : Nat) (B20 : j_B) (x21 : j_ext B15 B20) (w19 : j_St), J g x 8 B20 (j_QX g x B rm_X10_number (fun v _ => jri v) (fun _ _ _ => True)) c22 c23 (f_X10_number_L52 i0 v17 k111 n52 v18 c22 c23 w19) 52 [(0, .ref (B20.1 8 i0)), (2, .int p2), (4, .int v4), (5, .int v8), (6, .int v17), (7, .int v18)] [] w19 := by
        intro k111 hk111 n52
        induction n52 with
        | zero =>
          intro v18 c22 c23 B20 x21 w19
          rw [f_X10_number_L52]
          exact J.nne
        | succ n52 ih =>
          intro v18 c22 c23 B20 x21 w19
          rw [f_X10_number_L52]
          refine J.aload_n hx dX10_number_52 rfl 0 rfl ?_
          refine J.ite (fun h27 => ?_) (fun _ => J.nne)
          refine J.calli hx (fun r z1 z => j_callV (κ := 8) hx rfl rfl (x21.mv (x16.mv (x11.mv a0))).1 (mt_X10_isDigit (x21.mv (x16.mv (x11.mv a0))) z) (lw_V q854 q856 qs9 q130 q857) hd_X10_isDigit rfl ⟨Nat.le_of_ble_eq_true rfl, Nat.le_of_ble_eq_true rfl⟩ (Nat.le_of_ble_eq_true rfl) dX10_number_53) ⟨⟨rfl, rfl⟩, h27.1, h27.2⟩ fun v24 w25 e26 => ?_
          refine J.if_eq (tgt := 111) hx dX10_number_56 (by decide) ?_ ?_
          · exact J.sub [0, 1, 2, 3, 4, 5] rfl (hk111 v18 c22 c23 B20 x21 w25)
          · refine J.aload_n hx dX10_number_59 rfl 0 rfl ?_
            refine J.geti (κ := 8) (k := 0) hx rfl rfl rfl in_X10 (by decide) (Or.inl q450) (x21.mv (x16.mv (x11.mv a0))).1 dX10_number_60 fun v28 => ?_
            refine J.iload hx dX10_number_63 4 rfl ?_
            refine J.isub hx dX10_number_65 ?_
            refine J.iconst (v := 3) hx dX10_number_66 (by decide) ?_
            refine J.fn (fun (K96 : Int32 → Nat → Nat → j_St → Option ((Nat ⊕ Int32) × j_St)) => ∀ (v34 : Int32) (c38 : Nat) (c39 : Nat) (B36 : j_B) (x37 : j_ext B20 B36) (w35 : j_St), J g x 8 B36 (j_QX g x B rm_X10_number (fun v _ => jri v) (fun _ _ _ => True)) c38 c39 (K96 v34 c38 c39 w35) 96 [(0, .ref (B36.1 8 i0)), (2, .int p2), (4, .int v4), (5, .int v8), (6, .int v17)] [.int v34] w35) ?_ ?_
            · intro v34 c38 c39 B36 x37 w35
              refine J.istore (lv' := [(7, .int v34), (0, .ref (B36.1 8 i0)), (2, .int p2), (4, .int v4), (5, .int v8), (6, .int v17)]) hx dX10_number_96 (by decide) rfl ?_
              refine J.aload_n hx dX10_number_98 rfl 1 rfl ?_
              refine J.dup hx dX10_number_99 rfl ?_
              refine J.geti (κ := 8) (k := 0) hx rfl rfl rfl in_X10 (by decide) (Or.inl q450) (x37.mv (x21.mv (x16.mv (x11.mv a0)))).1 dX10_number_100 fun v40 => ?_
              refine J.iconst (v := 1) hx dX10_number_103 (by decide) ?_
              refine J.iadd hx dX10_number_104 ?_
              refine J.puti (κ := 8) (k := 0) hx rfl rfl rfl in_X10 tyX10_ok nmX10 (by decide) (Or.inl q450) rfl rfl (x37.mv (x21.mv (x16.mv (x11.mv a0)))).1 ⟨rfl, rfl⟩ dX10_number_105 fun w41 => ?_
              refine J.goto (tgt := 52) hx dX10_number_108 (by decide) ?_
              exact J.sub [1, 2, 3, 4, 5, 0] rfl (ih v34 c38 c39 B36 (x21.tr x37) w41)
            · intro K96 hK96
              refine J.icmp_ge (tgt := 94) hx dX10_number_67 (by decide) ?_ ?_
              · refine J.iload hx dX10_number_94 5 rfl ?_
                exact J.sub [0, 1, 2, 3, 4] rfl (hK96 v18 c22 c23 B20 j_ext.rf w25)
              · refine J.bipush (v := 10) hx dX10_number_70 (by decide) ?_
                refine J.iload hx dX10_number_72 5 rfl ?_
                refine J.imul hx dX10_number_74 ?_
                refine J.aload_n hx dX10_number_75 rfl 0 rfl ?_
                refine J.getc (κ' := 0) (i' := 0) (κ := 8) (k := 1) hx rfl rfl rfl rfl rfl in_X10 (by decide) (Or.inl q451) (x21.mv (x16.mv (x11.mv a0))).2 dX10_number_76 fun h29 => ?_
                refine J.getc (κ' := 20) (i' := 0) (κ := 0) (k := 2) hx rfl rfl rfl rfl rfl in_X1 (by decide) (Or.inr ⟨_, j_nl q367 rfl⟩) h29.2 dX10_number_79 fun h30 => ?_
                refine J.aload_n hx dX10_number_82 rfl 0 rfl ?_
                refine J.geti (κ := 8) (k := 0) hx rfl rfl rfl in_X10 (by decide) (Or.inl q450) (x21.mv (x16.mv (x11.mv a0))).1 dX10_number_83 fun v31 => ?_
                refine J.bald (κ := 20) hx rfl rfl h30.1 dX10_number_86 fun v33 => ?_
                refine J.iadd hx dX10_number_87 ?_
                refine J.bipush (v := 48) hx dX10_number_88 (by decide) ?_
                refine J.isub hx dX10_number_90 ?_
                refine J.goto (tgt := 96) hx dX10_number_91 (by decide) ?_
                exact J.sub [0, 1, 2, 3, 4] rfl (hK96 (((10 * v18) + v33) - 48) c22 c23 B20 j_ext.rf w25)
      refine J.sub [2, 3, 4, 5, 1, 0] rfl (hL52 _ ?_ jFU 0 0 0 B15 j_ext.rf w14)
      · intro v42 c46 c47 B44 x45 w43
        refine J.aload_n hx dX10_number_111 rfl 0 rfl ?_
        refine J.geti (κ := 8) (k := 0) hx rfl rfl rfl in_X10 (by decide) (Or.inl q450) (x45.mv (x16.mv (x11.mv a0))).1 dX10_number_112 fun v48 => ?_
        refine J.iload hx dX10_number_115 4 rfl ?_
        refine J.isub hx dX10_number_117 ?_
        refine J.i2l hx dX10_number_118 ?_
        refine J.lconst (v := 1) hx dX10_number_119 (by decide) ?_
        refine J.ldc2 (v := 3) hx q858 dX10_number_120 ?_
        refine J.ite (fun h52 => ?_) (fun _ => J.nne)
        refine J.calli hx (fun r z1 z => j_callSN hx (mt_X1_isIn z) (lw_meth q443) (j_nl q859 rfl) q442 q120 hd_X1_isIn.2 rfl ⟨Nat.le_of_ble_eq_true rfl, Nat.le_of_ble_eq_true rfl⟩ (Nat.le_of_ble_eq_true rfl) dX10_number_123) ⟨⟨rfl, rfl⟩, h52.1, h52.2⟩ fun v49 w50 e51 => ?_
        refine J.fn (fun (K135 : Nat → Nat → j_St → Option ((Nat ⊕ Int32) × j_St)) => ∀  (c58 : Nat) (c59 : Nat) (B56 : j_B) (x57 : j_ext B44 B56) (w55 : j_St), J g x 8 B56 (j_QX g x B rm_X10_number (fun v _ => jri v) (fun _ _ _ => True)) c58 c59 (K135 c58 c59 w55) 135 [(4, .int v4)] [] w55) ?_ ?_
        · intro c58 c59 B56 x57 w55
          refine J.nmx fun n60 e61 => ?_
          refine J.fact (P := ¬ B56.2.1 9 n60) (fun H hR z => by have h9 := hR.2.2.2.2.2.2.2.2.2 _ _ z; simp only [jcnt] at h9; simp at h9; omega) fun h64 => ?_
          refine J.bumpe fun w62 e63 => ?_
          refine J.fact (P := ¬ B56.2.2 9 n60) (fun H hR z => h64 (hR.2.2.2.2.2.2.2.2.1 _ _ z)) fun h65 => ?_
          refine J.ite (fun h69 => ?_) (fun _ => J.nne)
          refine J.newB (κ := 9) (i := n60) hx rfl rfl in_X12 tyX12_ok (by decide +kernel) (by decide) h64 h65 (by rw [e63, e61]; simp [jcnt, jbump, jgn]) jn3_9 q782 q783 q143 h69 dX10_number_135 fun z68 w67 => ?_
          refine J.dup hx dX10_number_138 rfl ?_
          refine J.iload hx dX10_number_139 0 rfl ?_
          refine J.ite (fun h73 => ?_) (fun _ => J.nne)
          refine J.callAv hx (fun r z1 z => j_callA_of (j_runI (κ := 9) hx (mt_X12_init (j_hf2 jN_al) z) (lw_meth q822) q820 q821 q143 rfl hd_X12_init.2 rfl ⟨Nat.le_of_ble_eq_true rfl, Nat.le_of_ble_eq_true rfl⟩ (Nat.le_of_ble_eq_true rfl) dX10_number_141)) h73 fun _ w71 B74 e72 x75 x76 => ?_
          refine J.cv (lv' := [(4, .int v4)]) (st' := [.ref (B74.1 9 n60)]) (by first | rfl | (simp only [x75.ad jN_al]; done) | (simp only [x75.ad jN_al]; rfl)) (by first | rfl | (simp only [x75.ad jN_al]; done) | (simp only [x75.ad jN_al]; rfl)) ?_
          refine J.ite (fun h77 => ?_) (fun _ => J.nne)
          exact J.throw hx hnt (n := n60) ((((((j_ext.rf.tr x11).tr x16).tr x45).tr x57).tr (jN_ext h64)).tr x75) (x75.mv jN_al) h77.1 h77.2 dX10_number_144
        · intro K135 hK135
          refine J.if_eq (tgt := 135) hx dX10_number_126 (by decide) ?_ ?_
          · exact J.sub [2] rfl (hK135 c46 c47 B44 j_ext.rf w50)
          · refine J.iload hx dX10_number_129 5 rfl ?_
            refine J.iload_n hx dX10_number_131 rfl 1 rfl ?_
            refine J.icmp_le (tgt := 145) hx dX10_number_132 (by decide) ?_ ?_
            · refine J.iload hx dX10_number_145 3 rfl ?_
              refine J.if_eq (tgt := 156) hx dX10_number_147 (by decide) ?_ ?_
              · refine J.iload hx dX10_number_156 5 rfl ?_
                refine J.ite (fun h53 => ?_) (fun _ => J.nne)
                exact J.iretX hx (((j_ext.rf.tr x11).tr x16).tr x45) trivial rfl h53.1 h53.2 dX10_number_158
              · refine J.iload hx dX10_number_150 5 rfl ?_
                refine J.ineg hx dX10_number_152 ?_
                refine J.goto (tgt := 158) hx dX10_number_153 (by decide) ?_
                refine J.ite (fun h54 => ?_) (fun _ => J.nne)
                exact J.iretX hx (((j_ext.rf.tr x11).tr x16).tr x45) trivial rfl h54.1 h54.2 dX10_number_158
            · exact J.sub [2] rfl (hK135 c46 c47 B44 j_ext.rf w50)
    · intro K43 hK43
      refine J.if_eq (tgt := 43) hx dX10_number_30 (by decide) ?_ ?_
      · exact J.sub [1, 2, 3, 0] rfl (hK43 B10 j_ext.rf w9)
      · refine J.aload_n hx dX10_number_33 rfl 1 rfl ?_
        refine J.dup hx dX10_number_34 rfl ?_
        refine J.geti (κ := 8) (k := 0) hx rfl rfl rfl in_X10 (by decide) (Or.inl q450) (x11.mv a0).1 dX10_number_35 fun v12 => ?_
        refine J.iconst (v := 1) hx dX10_number_38 (by decide) ?_
        refine J.iadd hx dX10_number_39 ?_
        refine J.puti (κ := 8) (k := 0) hx rfl rfl rfl in_X10 tyX10_ok nmX10 (by decide) (Or.inl q450) rfl rfl (x11.mv a0).1 ⟨rfl, rfl⟩ dX10_number_40 fun w13 => ?_
        exact J.sub [1, 2, 3, 0] rfl (hK43 B10 j_ext.rf w13)
  · intro K26 hK26
    refine J.fn (fun (K25 : j_St → Option ((Nat ⊕ Int32) × j_St)) => ∀  (B6 : j_B) (x7 : j_ext B B6) (w5 : j_St), J g x 8 B6 (j_QX g x B rm_X10_number (fun v _ => jri v) (fun _ _ _ => True)) 0 0 (K25 w5) 25 [(0, .ref (B6.1 8 i0)), (2, .int p2), (4, .int v4)] [] w5) ?_ ?_
    · intro B6 x7 w5
      refine J.iconst (v := 0) hx dX10_number_25 (by decide) ?_
      exact J.sub [0, 1, 2] rfl (hK26 0 B6 x7 w5)
    · intro K25 hK25
      refine J.if_eq (tgt := 25) hx dX10_number_12 (by decide) ?_ ?_
      · exact J.sub [2, 4, 0] rfl (hK25 B j_ext.rf w2)
      · refine J.iload_n hx dX10_number_15 rfl 1 rfl ?_
        refine J.bipush (v := 45) hx dX10_number_16 (by decide) ?_
        refine J.icmp_ne (tgt := 25) hx dX10_number_18 (by decide) ?_ ?_
        · refine J.iconst (v := 1) hx dX10_number_21 (by decide) ?_
          refine J.goto (tgt := 26) hx dX10_number_22 (by decide) ?_
          exact J.sub [2, 4, 0] rfl (hK26 1 B j_ext.rf w2)
        · exact J.sub [2, 4, 0] rfl (hK25 B j_ext.rf w2)
theorem hd_X10_goesOn : yX10_goesOn.cls = RX10 ∧ yX10_goesOn.cls ≠ "java/lang/invoke/MethodHandle" ∧ yX10_goesOn.cls ≠ "java/lang/invoke/VarHandle" ∧ (parseMethodDescriptor yX10_goesOn.desc).map (fun d => d.parameters.length) = some 0 := by decide +kernel
def f_X10_goesOn (i0 : Nat) (w : j_St) : Option ((Nat ⊕ Int32) × j_St) := jcb (f_X10_peek i0 w) fun v1 w2 => jlt (fun (w20 : j_St) => jlt (fun (w25 : j_St) => if v1 = 59 then some (.inr 1, w25) else some (.inr 0, w25)) fun K44 => if v1 = 59 then jlt (jgi w20 8 i0 0) fun v23 => jlt (jsi w20 8 i0 0 (v23 + 1)) fun w24 => K44 w24 else K44 w20) fun K28 => if v1 = (-1) then K28 w2 else if v1 = 59 then K28 w2 else jlt (jgn w2 109 0) fun n4 => jlt (jbump w2 9) fun w6 => jlt (jnw w6 9 n4 0) fun w11 => jlt (jgi w11 8 i0 0) fun v13 => jcb (f_X12_init n4 v13 w11) fun _ w15 => some (.inl n4, w15)
abbrev rm_X10_goesOn : Room := { frames := 4, cells := 1, slots := 7, locals := 89 }
set_option maxRecDepth 100000 in
set_option maxHeartbeats 4000000 in
theorem mt_X10_goesOn {g : j_G} {B : j_B} {i0 : Nat} {w w' : j_St} (a0 : B.2.1 8 i0 ∧ B.2.2 8 i0)  {r : (Nat ⊕ Int32)} (h : f_X10_goesOn i0 w = some (r, w')) : j_MX g yX10_goesOn cX10_goesOn 2 (some FieldType.boolean) rm_X10_goesOn B [.ref (B.1 8 i0)] w w' r (fun v _ => jri v) (fun _ _ _ => True) := by
  refine j_metX (rv := (fun v _ => jri v)) (PB := (fun _ _ _ => True)) (by decide) (Nat.le_of_ble_eq_true rfl) (fun x hx hnt => ?_) h
  unfold f_X10_goesOn
  refine J.sub (lv' := [(0, .ref (B.1 8 i0))]) [0] rfl ?_
  refine J.aload_n hx dX10_goesOn_0 rfl 0 rfl ?_
  refine J.calli hx (fun r z1 z => j_callV (κ := 8) hx rfl rfl a0.1 (mt_X10_peek a0 z) (lw_V q508 q510 qs3 q130 q511) hd_X10_peek rfl ⟨Nat.le_of_ble_eq_true rfl, Nat.le_of_ble_eq_true rfl⟩ (Nat.le_of_ble_eq_true rfl) dX10_goesOn_1) ⟨⟨rfl, rfl⟩, (Nat.le_of_ble_eq_true rfl), (Nat.le_of_ble_eq_true rfl)⟩ fun v1 w2 e3 => ?_
  refine J.istore_n (lv' := [(1, .int v1), (0, .ref (B.1 8 i0))]) hx dX10_goesOn_4 rfl (by decide) rfl ?_
  refine J.iload_n hx dX10_goesOn_5 rfl 0 rfl ?_
  refine J.iconst (v := (-1)) hx dX10_goesOn_6 (by decide) ?_
  refine J.fn (fun (K28 : j_St → Option ((Nat ⊕ Int32) × j_St)) => ∀  (B21 : j_B) (x22 : j_ext B B21) (w20 : j_St), J g x 2 B21 (j_QX g x B rm_X10_goesOn (fun v _ => jri v) (fun _ _ _ => True)) 0 0 (K28 w20) 28 [(0, .ref (B21.1 8 i0)), (1, .int v1)] [] w20) ?_ ?_
  · intro B21 x22 w20
    refine J.iload_n hx dX10_goesOn_28 rfl 1 rfl ?_
    refine J.bipush (v := 59) hx dX10_goesOn_29 (by decide) ?_
    refine J.fn (fun (K44 : j_St → Option ((Nat ⊕ Int32) × j_St)) => ∀  (B26 : j_B) (x27 : j_ext B21 B26) (w25 : j_St), J g x 2 B26 (j_QX g x B rm_X10_goesOn (fun v _ => jri v) (fun _ _ _ => True)) 0 0 (K44 w25) 44 [(1, .int v1)] [] w25) ?_ ?_
    · intro B26 x27 w25
      refine J.iload_n hx dX10_goesOn_44 rfl 0 rfl ?_
      refine J.bipush (v := 59) hx dX10_goesOn_45 (by decide) ?_
      refine J.icmp_ne (tgt := 54) hx dX10_goesOn_47 (by decide) ?_ ?_
      · refine J.iconst (v := 1) hx dX10_goesOn_50 (by decide) ?_
        refine J.goto (tgt := 55) hx dX10_goesOn_51 (by decide) ?_
        exact J.zretX hx ((j_ext.rf.tr x22).tr x27) trivial rfl rfl (Nat.le_of_ble_eq_true rfl) (Nat.le_of_ble_eq_true rfl) dX10_goesOn_55
      · refine J.iconst (v := 0) hx dX10_goesOn_54 (by decide) ?_
        exact J.zretX hx ((j_ext.rf.tr x22).tr x27) trivial rfl rfl (Nat.le_of_ble_eq_true rfl) (Nat.le_of_ble_eq_true rfl) dX10_goesOn_55
    · intro K44 hK44
      refine J.icmp_ne (tgt := 44) hx dX10_goesOn_31 (by decide) ?_ ?_
      · refine J.aload_n hx dX10_goesOn_34 rfl 0 rfl ?_
        refine J.dup hx dX10_goesOn_35 rfl ?_
        refine J.geti (κ := 8) (k := 0) hx rfl rfl rfl in_X10 (by decide) (Or.inl q450) (x22.mv a0).1 dX10_goesOn_36 fun v23 => ?_
        refine J.iconst (v := 1) hx dX10_goesOn_39 (by decide) ?_
        refine J.iadd hx dX10_goesOn_40 ?_
        refine J.puti (κ := 8) (k := 0) hx rfl rfl rfl in_X10 tyX10_ok nmX10 (by decide) (Or.inl q450) rfl rfl (x22.mv a0).1 ⟨rfl, rfl⟩ dX10_goesOn_41 fun w24 => ?_
        exact J.sub [1] rfl (hK44 B21 j_ext.rf w24)
      · exact J.sub [1] rfl (hK44 B21 j_ext.rf w20)
  · intro K28 hK28
    refine J.icmp_eq (tgt := 28) hx dX10_goesOn_7 (by decide) ?_ ?_
    · exact J.sub [1, 0] rfl (hK28 B j_ext.rf w2)
    · refine J.iload_n hx dX10_goesOn_10 rfl 0 rfl ?_
      refine J.bipush (v := 59) hx dX10_goesOn_11 (by decide) ?_
      refine J.icmp_eq (tgt := 28) hx dX10_goesOn_13 (by decide) ?_ ?_
      · exact J.sub [1, 0] rfl (hK28 B j_ext.rf w2)
      · refine J.nmx fun n4 e5 => ?_
        refine J.fact (P := ¬ B.2.1 9 n4) (fun H hR z => by have h9 := hR.2.2.2.2.2.2.2.2.2 _ _ z; simp only [jcnt] at h9; simp at h9; omega) fun h8 => ?_
        refine J.bumpe fun w6 e7 => ?_
        refine J.fact (P := ¬ B.2.2 9 n4) (fun H hR z => h8 (hR.2.2.2.2.2.2.2.2.1 _ _ z)) fun h9 => ?_
        refine J.newB (κ := 9) (i := n4) hx rfl rfl in_X12 tyX12_ok (by decide +kernel) (by decide) h8 h9 (by rw [e7, e5]; simp [jcnt, jbump, jgn]) jn3_9 q782 q783 q143 ⟨Nat.le_of_ble_eq_true rfl, Nat.le_of_ble_eq_true rfl⟩ dX10_goesOn_16 fun z12 w11 => ?_
        refine J.dup hx dX10_goesOn_19 rfl ?_
        refine J.aload_n hx dX10_goesOn_20 rfl 1 rfl ?_
        refine J.geti (κ := 8) (k := 0) hx rfl rfl rfl in_X10 (by decide) (Or.inl q450) (jN_old a0).1 dX10_goesOn_21 fun v13 => ?_
        refine J.callAv hx (fun r z1 z => j_callA_of (j_runI (κ := 9) hx (mt_X12_init (j_hf2 jN_al) z) (lw_meth q822) q820 q821 q143 rfl hd_X12_init.2 rfl ⟨Nat.le_of_ble_eq_true rfl, Nat.le_of_ble_eq_true rfl⟩ (Nat.le_of_ble_eq_true rfl) dX10_goesOn_24)) ⟨Nat.le_of_ble_eq_true rfl, Nat.le_of_ble_eq_true rfl⟩ fun _ w15 B17 e16 x18 x19 => ?_
        refine J.cv (lv' := [(1, .int v1), (0, .ref (B17.1 8 i0))]) (st' := [.ref (B17.1 9 n4)]) (by first | rfl | (simp only [x18.ad (jN_old a0), x18.ad jN_al]; done) | (simp only [x18.ad (jN_old a0), x18.ad jN_al]; rfl)) (by first | rfl | (simp only [x18.ad (jN_old a0), x18.ad jN_al]; done) | (simp only [x18.ad (jN_old a0), x18.ad jN_al]; rfl)) ?_
        exact J.throw hx hnt (n := n4) ((j_ext.rf.tr (jN_ext h8)).tr x18) (x18.mv jN_al) (Nat.le_of_ble_eq_true rfl) (Nat.le_of_ble_eq_true rfl) dX10_goesOn_27
theorem hd_X10_samples : yX10_samples.cls = RX10 ∧ yX10_samples.cls ≠ "java/lang/invoke/MethodHandle" ∧ yX10_samples.cls ≠ "java/lang/invoke/VarHandle" ∧ (parseMethodDescriptor yX10_samples.desc).map (fun d => d.parameters.length) = some 1 := by decide +kernel
def f_X10_samples_L17 (i0 : Nat) (i1 : Nat) (k33 : Nat → Nat → j_St → Option ((Nat ⊕ Unit) × j_St)) : Nat → Nat → Nat → j_St → Option ((Nat ⊕ Unit) × j_St)
  | 0, _, _, _ => none
  | n17 + 1, c16, c17, w13 => if c16 ≤ 52 ∧ c17 ≤ 364 then jcb (f_X10_isDigit i0 w13) fun v18 w19 => if v18 = 0 then if c16 ≤ 52 ∧ c17 ≤ 364 then some (.inr (), w19) else none else jlt (jgi w19 4 i1 1) fun v23 => if v23 = 48 then k33 c16 c17 w19 else if c16 + 1 ≤ 52 ∧ c17 + 7 ≤ 364 then jcx (f_X10_number i0 0 999 w19) fun v24 w25 => if c16 + 1 ≤ 52 ∧ c17 + 7 ≤ 364 then jcb (f_X7_add i1 v24 w25) fun _ w32 => if c16 + 1 ≤ 52 ∧ c17 + 7 ≤ 364 then jcb (f_X10_peek i0 w32) fun v35 w36 => f_X10_samples_L17 i0 i1 k33 n17 (c16 + 1) (c17 + 7) w36 else none else none else none else none
def f_X10_samples (i0 : Nat) (i1 : Nat) (w : j_St) : Option ((Nat ⊕ Unit) × j_St) := jcx (f_X10_number i0 0 999 w) fun v1 w2 => jcb (f_X7_add i1 v1 w2) fun _ w8 => jcb (f_X10_peek i0 w8) fun v10 w11 => f_X10_samples_L17 i0 i1 (fun (c42 : Nat) (c43 : Nat) (w39 : j_St) => jlt (jgn w39 109 0) fun n44 => jlt (jbump w39 9) fun w46 => if c42 + 1 ≤ 52 ∧ c43 + 7 ≤ 364 then jlt (jnw w46 9 n44 0) fun w51 => jlt (jgi w51 8 i0 0) fun v54 => if c42 + 1 + 0 ≤ 52 ∧ c43 + 7 + 0 ≤ 364 then jcb (f_X12_init n44 v54 w51) fun _ w56 => if c42 + 1 + 0 ≤ 52 ∧ c43 + 7 + 0 ≤ 364 then some (.inl n44, w56) else none else none else none) jFU 1 7 w11
abbrev rm_X10_samples : Room := { frames := 5, cells := 52, slots := 364, locals := 116 }
set_option maxRecDepth 100000 in
set_option maxHeartbeats 4000000 in
theorem mt_X10_samples {g : j_G} {B : j_B} {i0 : Nat} {i1 : Nat} {w w' : j_St} (a0 : B.2.1 8 i0 ∧ B.2.2 8 i0) (b1 : B.2.1 4 i1 ∧ B.2.2 4 i1)  {r : (Nat ⊕ Unit)} (h : f_X10_samples i0 i1 w = some (r, w')) : j_MX g yX10_samples cX10_samples 3 none rm_X10_samples B [.ref (B.1 8 i0), .ref (B.1 4 i1)] w w' r (fun _ _ => none) (fun _ _ _ => True) := by
  refine j_metX (rv := (fun _ _ => none)) (PB := (fun _ _ _ => True)) (by decide) (Nat.le_of_ble_eq_true rfl) (fun x hx hnt => ?_) h
  unfold f_X10_samples
  refine J.sub (lv' := [(0, .ref (B.1 8 i0)), (1, .ref (B.1 4 i1))]) [0, 1] rfl ?_
  refine J.aload_n hx dX10_samples_0 rfl 1 rfl ?_
  refine J.aload_n hx dX10_samples_1 rfl 0 rfl ?_
  refine J.iconst (v := 0) hx dX10_samples_2 (by decide) ?_
  refine J.sipush (v := 999) hx dX10_samples_3 (by decide) ?_
  refine J.callX (rvY := (fun v _ => jri v)) hx hnt (fun r z1 z => j_callVX (κ := 8) hx rfl rfl a0.1 (mt_X10_number a0 z) (lw_V q850 q852 qs8 q130 q853) hd_X10_number rfl ⟨Nat.le_of_ble_eq_true rfl, Nat.le_of_ble_eq_true rfl⟩ (Nat.le_of_ble_eq_true rfl) dX10_samples_6) j_ext.rf ⟨Nat.le_of_ble_eq_true rfl, Nat.le_of_ble_eq_true rfl⟩ fun v1 w2 B4 e3 x5 x6 => ?_
  refine J.cv (lv' := [(0, .ref (B4.1 8 i0)), (1, .ref (B4.1 4 i1))]) (st' := [.int v1, .ref (B4.1 4 i1)]) (by first | rfl | (simp only [x5.ad a0, x5.ad b1]; done) | (simp only [x5.ad a0, x5.ad b1]; rfl)) (by first | rfl | (simp only [x5.ad a0, x5.ad b1]; done) | (simp only [x5.ad a0, x5.ad b1]; rfl)) ?_
  refine J.callv hx (fun r z1 z => j_callV (κ := 4) hx rfl rfl (x5.mv b1).1 (mt_X7_add (x5.mv b1) z) (lw_V q860 q861 q862 q127 q863) hd_X7_add rfl ⟨Nat.le_of_ble_eq_true rfl, Nat.le_of_ble_eq_true rfl⟩ (Nat.le_of_ble_eq_true rfl) dX10_samples_9) ⟨⟨rfl, rfl⟩, (Nat.le_of_ble_eq_true rfl), (Nat.le_of_ble_eq_true rfl)⟩ fun _ w8 e9 => ?_
  refine J.aload_n hx dX10_samples_12 rfl 0 rfl ?_
  refine J.calli hx (fun r z1 z => j_callV (κ := 8) hx rfl rfl (x5.mv a0).1 (mt_X10_peek (x5.mv a0) z) (lw_V q508 q510 qs3 q130 q511) hd_X10_peek rfl ⟨Nat.le_of_ble_eq_true rfl, Nat.le_of_ble_eq_true rfl⟩ (Nat.le_of_ble_eq_true rfl) dX10_samples_13) ⟨⟨rfl, rfl⟩, (Nat.le_of_ble_eq_true rfl), (Nat.le_of_ble_eq_true rfl)⟩ fun v10 w11 e12 => ?_
  refine J.istore_n (lv' := [(2, .int v10), (0, .ref (B4.1 8 i0)), (1, .ref (B4.1 4 i1))]) hx dX10_samples_16 rfl (by decide) rfl ?_
  have hL17 : ∀ (k33 : Nat → Nat → j_St → Option ((Nat ⊕ Unit) × j_St)) (hk33 : ∀  (c42 : Nat) (c43 : Nat) (B40 : j_B) (x41 : j_ext B4 B40) (w39 : j_St), J g x 3 B40 (j_QX g x B rm_X10_samples (fun _ _ => none) (fun _ _ _ => True)) c42 c43 (k33 c42 c43 w39) 33 [(0, .ref (B40.1 8 i0))] [] w39) (n17 : Nat)  (c16 c17 : Nat) (B14 : j_B) (x15 : j_ext B4 B14) (w13 : j_St), J g x 3 B14 (j_QX g x B rm_X10_samples (fun _ _ => none) (fun _ _ _ => True)) c16 c17 (f_X10_samples_L17 i0 i1 k33 n17 c16 c17 w13) 17 [(0, .ref (B14.1 8 i0)), (1, .ref (B14.1 4 i1))] [] w13 := by
    intro k33 hk33 n17
    induction n17 with
    | zero =>
      intro c16 c17 B14 x15 w13
      rw [f_X10_samples_L17]
      exact J.nne
    | succ n17 ih =>
      intro c16 c17 B14 x15 w13
      rw [f_X10_samples_L17]
      refine J.aload_n hx dX10_samples_17 rfl 0 rfl ?_
      refine J.ite (fun h21 => ?_) (fun _ => J.nne)
      refine J.calli hx (fun r z1 z => j_callV (κ := 8) hx rfl rfl (x15.mv (x5.mv a0)).1 (mt_X10_isDigit (x15.mv (x5.mv a0)) z) (lw_V q854 q856 qs9 q130 q857) hd_X10_isDigit rfl ⟨Nat.le_of_ble_eq_true rfl, Nat.le_of_ble_eq_true rfl⟩ (Nat.le_of_ble_eq_true rfl) dX10_samples_18) ⟨⟨rfl, rfl⟩, h21.1, h21.2⟩ fun v18 w19 e20 => ?_
      refine J.if_eq (tgt := 65) hx dX10_samples_21 (by decide) ?_ ?_
      · refine J.ite (fun h22 => ?_) (fun _ => J.nne)
        exact J.vretX hx ((j_ext.rf.tr x5).tr x15) trivial rfl h22.1 h22.2 dX10_samples_65
      · refine J.aload_n hx dX10_samples_24 rfl 1 rfl ?_
        refine J.geti (κ := 4) (k := 1) hx rfl rfl rfl in_X7 (by decide) (Or.inr ⟨_, j_nl q323 rfl⟩) (x15.mv (x5.mv b1)).1 dX10_samples_25 fun v23 => ?_
        refine J.bipush (v := 48) hx dX10_samples_28 (by decide) ?_
        refine J.icmp_ne (tgt := 45) hx dX10_samples_30 (by decide) ?_ ?_
        · exact J.sub [0] rfl (hk33 c16 c17 B14 x15 w19)
        · refine J.aload_n hx dX10_samples_45 rfl 1 rfl ?_
          refine J.aload_n hx dX10_samples_46 rfl 0 rfl ?_
          refine J.iconst (v := 0) hx dX10_samples_47 (by decide) ?_
          refine J.sipush (v := 999) hx dX10_samples_48 (by decide) ?_
          refine J.ite (fun h27 => ?_) (fun _ => J.nne)
          refine J.callX (rvY := (fun v _ => jri v)) hx hnt (fun r z1 z => j_callVX (κ := 8) hx rfl rfl (x15.mv (x5.mv a0)).1 (mt_X10_number (x15.mv (x5.mv a0)) z) (lw_V q850 q852 qs8 q130 q853) hd_X10_number rfl ⟨Nat.le_of_ble_eq_true rfl, Nat.le_of_ble_eq_true rfl⟩ (Nat.le_of_ble_eq_true rfl) dX10_samples_51) ((j_ext.rf.tr x5).tr x15) h27 fun v24 w25 B28 e26 x29 x30 => ?_
          refine J.cv (lv' := [(0, .ref (B28.1 8 i0)), (1, .ref (B28.1 4 i1))]) (st' := [.int v24, .ref (B28.1 4 i1)]) (by first | rfl | (simp only [x29.ad (x15.mv (x5.mv a0)), x29.ad (x15.mv (x5.mv b1))]; done) | (simp only [x29.ad (x15.mv (x5.mv a0)), x29.ad (x15.mv (x5.mv b1))]; rfl)) (by first | rfl | (simp only [x29.ad (x15.mv (x5.mv a0)), x29.ad (x15.mv (x5.mv b1))]; done) | (simp only [x29.ad (x15.mv (x5.mv a0)), x29.ad (x15.mv (x5.mv b1))]; rfl)) ?_
          refine J.ite (fun h34 => ?_) (fun _ => J.nne)
          refine J.callv hx (fun r z1 z => j_callV (κ := 4) hx rfl rfl (x29.mv (x15.mv (x5.mv b1))).1 (mt_X7_add (x29.mv (x15.mv (x5.mv b1))) z) (lw_V q860 q861 q862 q127 q863) hd_X7_add rfl ⟨Nat.le_of_ble_eq_true rfl, Nat.le_of_ble_eq_true rfl⟩ (Nat.le_of_ble_eq_true rfl) dX10_samples_54) ⟨⟨rfl, rfl⟩, h34.1, h34.2⟩ fun _ w32 e33 => ?_
          refine J.aload_n hx dX10_samples_57 rfl 0 rfl ?_
          refine J.ite (fun h38 => ?_) (fun _ => J.nne)
          refine J.calli hx (fun r z1 z => j_callV (κ := 8) hx rfl rfl (x29.mv (x15.mv (x5.mv a0))).1 (mt_X10_peek (x29.mv (x15.mv (x5.mv a0))) z) (lw_V q508 q510 qs3 q130 q511) hd_X10_peek rfl ⟨Nat.le_of_ble_eq_true rfl, Nat.le_of_ble_eq_true rfl⟩ (Nat.le_of_ble_eq_true rfl) dX10_samples_58) ⟨⟨rfl, rfl⟩, h38.1, h38.2⟩ fun v35 w36 e37 => ?_
          refine J.istore_n (lv' := [(2, .int v35), (0, .ref (B28.1 8 i0)), (1, .ref (B28.1 4 i1))]) hx dX10_samples_61 rfl (by decide) rfl ?_
          refine J.goto (tgt := 17) hx dX10_samples_62 (by decide) ?_
          exact J.sub [1, 2] rfl (ih (c16 + 1) (c17 + 7) B28 (x15.tr x29) w36)
  refine J.sub [1, 2] rfl (hL17 _ ?_ jFU 1 7 B4 j_ext.rf w11)
  · intro c42 c43 B40 x41 w39
    refine J.nmx fun n44 e45 => ?_
    refine J.fact (P := ¬ B40.2.1 9 n44) (fun H hR z => by have h9 := hR.2.2.2.2.2.2.2.2.2 _ _ z; simp only [jcnt] at h9; simp at h9; omega) fun h48 => ?_
    refine J.bumpe fun w46 e47 => ?_
    refine J.fact (P := ¬ B40.2.2 9 n44) (fun H hR z => h48 (hR.2.2.2.2.2.2.2.2.1 _ _ z)) fun h49 => ?_
    refine J.ite (fun h53 => ?_) (fun _ => J.nne)
    refine J.newB (κ := 9) (i := n44) hx rfl rfl in_X12 tyX12_ok (by decide +kernel) (by decide) h48 h49 (by rw [e47, e45]; simp [jcnt, jbump, jgn]) jn3_9 q782 q783 q143 h53 dX10_samples_33 fun z52 w51 => ?_
    refine J.dup hx dX10_samples_36 rfl ?_
    refine J.aload_n hx dX10_samples_37 rfl 0 rfl ?_
    refine J.geti (κ := 8) (k := 0) hx rfl rfl rfl in_X10 (by decide) (Or.inl q450) (jN_old (x41.mv (x5.mv a0))).1 dX10_samples_38 fun v54 => ?_
    refine J.ite (fun h58 => ?_) (fun _ => J.nne)
    refine J.callAv hx (fun r z1 z => j_callA_of (j_runI (κ := 9) hx (mt_X12_init (j_hf2 jN_al) z) (lw_meth q822) q820 q821 q143 rfl hd_X12_init.2 rfl ⟨Nat.le_of_ble_eq_true rfl, Nat.le_of_ble_eq_true rfl⟩ (Nat.le_of_ble_eq_true rfl) dX10_samples_41)) h58 fun _ w56 B59 e57 x60 x61 => ?_
    refine J.cv (lv' := [(0, .ref (B59.1 8 i0))]) (st' := [.ref (B59.1 9 n44)]) (by first | rfl | (simp only [x60.ad (jN_old (x41.mv (x5.mv a0))), x60.ad jN_al]; done) | (simp only [x60.ad (jN_old (x41.mv (x5.mv a0))), x60.ad jN_al]; rfl)) (by first | rfl | (simp only [x60.ad (jN_old (x41.mv (x5.mv a0))), x60.ad jN_al]; done) | (simp only [x60.ad (jN_old (x41.mv (x5.mv a0))), x60.ad jN_al]; rfl)) ?_
    refine J.ite (fun h62 => ?_) (fun _ => J.nne)
    exact J.throw hx hnt (n := n44) ((((j_ext.rf.tr x5).tr x41).tr (jN_ext h48)).tr x60) (x60.mv jN_al) h62.1 h62.2 dX10_samples_44
theorem hd_X11_has : yX11_has.cls = RX11 ∧ yX11_has.cls ≠ "java/lang/invoke/MethodHandle" ∧ yX11_has.cls ≠ "java/lang/invoke/VarHandle" ∧ (parseMethodDescriptor yX11_has.desc).map (fun d => d.parameters.length) = some 1 := by decide +kernel
def f_X11_has_L2 (i0 : Nat) (i1 : Nat)  : Nat → Int32 → Nat → Nat → j_St → Option (Int32 × j_St)
  | 0, _, _, _, _ => none
  | n2 + 1, v1, c5, c6, w2 => jlt (jgi w2 6 i0 3) fun v7 => if v7 ≤ v1 then if c5 ≤ 16 ∧ c6 ≤ 4832 then some (0, w2) else none else jbd v1 8 fun a10 => jlt (jgr w2 34 i0 a10) fun v11 => if c5 + 2 ≤ 16 ∧ c6 + 604 ≤ 4832 then jcb (f_J2_toString i1 w2) fun v13 w14 => job v11 fun y20 => if c5 + 2 ≤ 16 ∧ c6 + 604 ≤ 4832 then jcb (f_J3_equals_a15 y20 v13 w14) fun v22 w23 => if v22 = 0 then jlt (v1 + 1) fun v26 => f_X11_has_L2 i0 i1 n2 v26 (c5 + 2) (c6 + 604) w23 else if c5 + 2 ≤ 16 ∧ c6 + 604 ≤ 4832 then some (1, w23) else none else none else none
def f_X11_has (i0 : Nat) (i1 : Nat) (w : j_St) : Option (Int32 × j_St) := f_X11_has_L2 i0 i1 jFU 0 0 0 w
abbrev rm_X11_has : Room := { frames := 6, cells := 16, slots := 4832, locals := 171 }
set_option maxRecDepth 100000 in
set_option maxHeartbeats 4000000 in
theorem mt_X11_has {g : j_G} {B : j_B} {i0 : Nat} {i1 : Nat} {w w' : j_St} (a0 : B.2.1 6 i0 ∧ B.2.2 6 i0) (b1 : B.2.1 16 i1 ∧ B.2.2 16 i1)  {r : Int32} (h : f_X11_has i0 i1 w = some (r, w')) : j_MA g yX11_has cX11_has 3 (some FieldType.boolean) rm_X11_has B [.ref (B.1 6 i0), .ref (B.1 16 i1)] w w' ((fun r _ => jri r) r) ((fun _ _ _ => True) r w') := by
  refine j_metA (rv := (fun r _ => jri r)) (PB := (fun _ _ _ => True)) (by decide) (Nat.le_of_ble_eq_true rfl) (fun x hx hnm => ?_) h
  unfold f_X11_has
  refine J.sub (lv' := [(0, .ref (B.1 6 i0)), (1, .ref (B.1 16 i1))]) [0, 1] rfl ?_
  refine J.iconst (v := 0) hx dX11_has_0 (by decide) ?_
  refine J.istore_n (lv' := [(2, .int 0), (0, .ref (B.1 6 i0)), (1, .ref (B.1 16 i1))]) hx dX11_has_1 rfl (by decide) rfl ?_
  have hL2 : ∀ (n2 : Nat) (v1 : Int32) (c5 c6 : Nat) (B3 : j_B) (x4 : j_ext B B3) (w2 : j_St), J g x 3 B3 (j_QA g x B rm_X11_has (fun r _ => jri r) (fun _ _ _ => True)) c5 c6 (f_X11_has_L2 i0 i1 n2 v1 c5 c6 w2) 2 [(0, .ref (B3.1 6 i0)), (1, .ref (B3.1 16 i1)), (2, .int v1)] [] w2 := by
    intro n2
    induction n2 with
    | zero =>
      intro v1 c5 c6 B3 x4 w2
      rw [f_X11_has_L2]
      exact J.nne
    | succ n2 ih =>
      intro v1 c5 c6 B3 x4 w2
      rw [f_X11_has_L2]
      refine J.iload_n hx dX11_has_2 rfl 2 rfl ?_
      refine J.aload_n hx dX11_has_3 rfl 0 rfl ?_
      refine J.geti (κ := 6) (k := 3) hx rfl rfl rfl in_X11 (by decide) (Or.inl q481) (x4.mv a0).1 dX11_has_4 fun v7 => ?_
      refine J.icmp_ge (tgt := 36) hx dX11_has_7 (by decide) ?_ ?_
      · refine J.iconst (v := 0) hx dX11_has_36 (by decide) ?_
        refine J.ite (fun h8 => ?_) (fun _ => J.nne)
        exact J.zretA hx (j_ext.rf.tr x4) trivial rfl rfl h8.1 h8.2 dX11_has_37
      · refine J.aload_n hx dX11_has_10 rfl 0 rfl ?_
        refine J.getc (κ' := 34) (i' := i0) (κ := 6) (k := 1) hx rfl rfl rfl rfl rfl in_X11 (by decide) (Or.inl q474) (x4.mv a0).2 dX11_has_11 fun h9 => ?_
        refine J.iload_n hx dX11_has_14 rfl 2 rfl ?_
        refine J.aald (κ' := 15) (κ := 34) hx rfl rfl (by decide) rfl rfl h9.1 dX11_has_15 fun v11 h12 => ?_
        refine J.aload_n hx dX11_has_16 rfl 1 rfl ?_
        refine J.ite (fun h16 => ?_) (fun _ => J.nne)
        refine J.callAr (κ := 15) hx (fun r z1 z => j_callA_of5 (j_runF (n := 0) (κ := 16) hx rfl rfl (x4.mv b1).1 (mt_J2_toString (x4.mv b1) z) (j_wF q890 q653 q655 q133 q657) (List.mem_of_getElem? (i := 4) rfl) (by decide +kernel) rfl ⟨Nat.le_of_ble_eq_true rfl, Nat.le_of_ble_eq_true rfl⟩ (by simp [va_re_cat, jct_i, jct_l, jct_r, jct_n]) dX11_has_17)) h16 fun v13 w14 B17 e15 x18 x19 => ?_
        refine J.cv (lv' := [(0, .ref (B17.1 6 i0)), (1, .ref (B17.1 16 i1)), (2, .int v1)]) (st' := [.ref (B17.1 15 v13), va_re (B17.1 15) v11]) (by first | rfl | (simp only [x18.ad (x4.mv a0), x18.ad (x4.mv b1), x18.re h12]; done) | (simp only [x18.ad (x4.mv a0), x18.ad (x4.mv b1), x18.re h12]; rfl)) (by first | rfl | (simp only [x18.ad (x4.mv a0), x18.ad (x4.mv b1), x18.re h12]; done) | (simp only [x18.ad (x4.mv a0), x18.ad (x4.mv b1), x18.re h12]; rfl)) ?_
        refine J.obU fun y20 e21 => ?_
        subst e21
        refine J.ite (fun h25 => ?_) (fun _ => J.nne)
        refine J.calli hx (fun r z1 z => j_callV (κ := 15) hx rfl rfl ((x18.mvq h12) y20 rfl).1 (mt_J3_equals_a15 ((x18.mvq h12) y20 rfl) x19 z) (lw_V q891 q772 q773 q134 q774) hd_J3_equals rfl ⟨Nat.le_of_ble_eq_true rfl, Nat.le_of_ble_eq_true rfl⟩ (Nat.le_of_ble_eq_true rfl) dX11_has_22) ⟨⟨rfl, rfl⟩, h25.1, h25.2⟩ fun v22 w23 e24 => ?_
        refine J.if_eq (tgt := 30) hx dX11_has_25 (by decide) ?_ ?_
        · refine J.nmx fun v26 ev26 => ?_
          refine J.iinc (p := 2) (v := v26) (lv' := [(2, .int v26), (0, .ref (B17.1 6 i0)), (1, .ref (B17.1 16 i1))]) hx dX11_has_30 rfl (by rw [ev26]; rfl) (by decide) rfl ?_
          refine J.goto (tgt := 2) hx dX11_has_33 (by decide) ?_
          exact J.sub [1, 2, 0] rfl (ih v26 (c5 + 2) (c6 + 604) B17 (x4.tr x18) w23)
        · refine J.iconst (v := 1) hx dX11_has_28 (by decide) ?_
          refine J.ite (fun h27 => ?_) (fun _ => J.nne)
          exact J.zretA hx ((j_ext.rf.tr x4).tr x18) trivial rfl rfl h27.1 h27.2 dX11_has_29
  refine J.sub [1, 2, 0] rfl (hL2 jFU 0 0 0 B j_ext.rf w)
theorem hd_X10_line : yX10_line.cls = RX10 ∧ yX10_line.cls ≠ "java/lang/invoke/MethodHandle" ∧ yX10_line.cls ≠ "java/lang/invoke/VarHandle" ∧ (parseMethodDescriptor yX10_line.desc).map (fun d => d.parameters.length) = some 1 := by decide +kernel
def f_X10_line (i0 : Nat) (i1 : Nat) (w : j_St) : Option ((Nat ⊕ Unit) × j_St) := jcb (f_X10_peek i0 w) fun v1 w2 => jlt (jgi w2 8 i0 0) fun v4 => jcb (f_X10_word i0 w2) fun v5 w6 => jcb (f_J2_length v5 w6) fun v11 w12 => jcb (f_X1_isIn v11.toInt64 1 6 w12) fun v14 w15 => jlt (fun (w45 : j_St) => jlt (jgn w45 109 0) fun n48 => jlt (jbump w45 9) fun w50 => jlt (jnw w50 9 n48 0) fun w55 => jcb (f_X12_init n48 v4 w55) fun _ w58 => some (.inl n48, w58)) fun K43 => if v14 = 0 then K43 w15 else jcb (f_X11_has i1 v5 w15) fun v17 w18 => if v17 = 0 then jlt (jgi w18 6 i1 3) fun v24 => jcb (f_J2_toString v5 w18) fun v25 w26 => jbd v24 8 fun a32 => jlt (jsr w26 34 i1 a32 (some v25)) fun w31 => jlt (jgi w31 6 i1 3) fun v34 => jcx (f_X10_number i0 0 47 w31) fun v35 w36 => jbd v34 8 fun a42 => jlt (jsi w36 35 i1 a42 v35) fun w41 => jlt (jgi w41 6 i1 3) fun v43 => jlt (jsi w41 6 i1 3 (v43 + 1)) fun w44 => some (.inr (), w44) else K43 w18
abbrev rm_X10_line : Room := { frames := 7, cells := 31, slots := 10290, locals := 193 }
set_option maxRecDepth 100000 in
set_option maxHeartbeats 4000000 in
theorem mt_X10_line {g : j_G} {B : j_B} {i0 : Nat} {i1 : Nat} {w w' : j_St} (a0 : B.2.1 8 i0 ∧ B.2.2 8 i0) (b1 : B.2.1 6 i1 ∧ B.2.2 6 i1)  {r : (Nat ⊕ Unit)} (h : f_X10_line i0 i1 w = some (r, w')) : j_MX g yX10_line cX10_line 5 none rm_X10_line B [.ref (B.1 8 i0), .ref (B.1 6 i1)] w w' r (fun _ _ => none) (fun _ _ _ => True) := by
  refine j_metX (rv := (fun _ _ => none)) (PB := (fun _ _ _ => True)) (by decide) (Nat.le_of_ble_eq_true rfl) (fun x hx hnt => ?_) h
  unfold f_X10_line
  refine J.sub (lv' := [(0, .ref (B.1 8 i0)), (1, .ref (B.1 6 i1))]) [0, 1] rfl ?_
  refine J.aload_n hx dX10_line_0 rfl 0 rfl ?_
  refine J.calli hx (fun r z1 z => j_callV (κ := 8) hx rfl rfl a0.1 (mt_X10_peek a0 z) (lw_V q508 q510 qs3 q130 q511) hd_X10_peek rfl ⟨Nat.le_of_ble_eq_true rfl, Nat.le_of_ble_eq_true rfl⟩ (Nat.le_of_ble_eq_true rfl) dX10_line_1) ⟨⟨rfl, rfl⟩, (Nat.le_of_ble_eq_true rfl), (Nat.le_of_ble_eq_true rfl)⟩ fun v1 w2 e3 => ?_
  refine J.istore_n (lv' := [(2, .int v1), (0, .ref (B.1 8 i0)), (1, .ref (B.1 6 i1))]) hx dX10_line_4 rfl (by decide) rfl ?_
  refine J.aload_n hx dX10_line_5 rfl 1 rfl ?_
  refine J.geti (κ := 8) (k := 0) hx rfl rfl rfl in_X10 (by decide) (Or.inl q450) a0.1 dX10_line_6 fun v4 => ?_
  refine J.istore_n (lv' := [(3, .int v4), (2, .int v1), (0, .ref (B.1 8 i0)), (1, .ref (B.1 6 i1))]) hx dX10_line_9 rfl (by decide) rfl ?_
  refine J.aload_n hx dX10_line_10 rfl 2 rfl ?_
  refine J.callAr (κ := 16) hx (fun r z1 z => j_callA_of (j_runV (κ := 8) hx rfl rfl a0.1 (mt_X10_word a0 z) (lw_V q512 q514 qs4 q130 q515) hd_X10_word rfl ⟨Nat.le_of_ble_eq_true rfl, Nat.le_of_ble_eq_true rfl⟩ (Nat.le_of_ble_eq_true rfl) dX10_line_11)) ⟨Nat.le_of_ble_eq_true rfl, Nat.le_of_ble_eq_true rfl⟩ fun v5 w6 B8 e7 x9 x10 => ?_
  refine J.cv (lv' := [(3, .int v4), (2, .int v1), (0, .ref (B8.1 8 i0)), (1, .ref (B8.1 6 i1))]) (st' := [.ref (B8.1 16 v5)]) (by first | rfl | (simp only [x9.ad a0, x9.ad b1]; done) | (simp only [x9.ad a0, x9.ad b1]; rfl)) (by first | rfl | (simp only [x9.ad a0, x9.ad b1]; done) | (simp only [x9.ad a0, x9.ad b1]; rfl)) ?_
  refine J.astore (lv' := [(4, .ref (B8.1 16 v5)), (3, .int v4), (2, .int v1), (0, .ref (B8.1 8 i0)), (1, .ref (B8.1 6 i1))]) hx dX10_line_14 (by decide) rfl ?_
  refine J.aload hx dX10_line_16 0 rfl ?_
  refine J.calli hx (fun r z1 z => j_callF (n := 0) (κ := 16) hx rfl rfl x10.1 (mt_J2_length x10 z) (j_wF q869 q881 q676 q133 q677) (List.mem_of_getElem? (i := 5) rfl) (by decide +kernel) rfl ⟨Nat.le_of_ble_eq_true rfl, Nat.le_of_ble_eq_true rfl⟩ (Nat.le_of_ble_eq_true rfl) dX10_line_18) ⟨⟨rfl, rfl⟩, (Nat.le_of_ble_eq_true rfl), (Nat.le_of_ble_eq_true rfl)⟩ fun v11 w12 e13 => ?_
  refine J.i2l hx dX10_line_23 ?_
  refine J.lconst (v := 1) hx dX10_line_24 (by decide) ?_
  refine J.ldc2 (v := 6) hx q884 dX10_line_25 ?_
  refine J.calli hx (fun r z1 z => j_callSN hx (mt_X1_isIn z) (lw_meth q443) (j_nl q859 rfl) q442 q120 hd_X1_isIn.2 rfl ⟨Nat.le_of_ble_eq_true rfl, Nat.le_of_ble_eq_true rfl⟩ (Nat.le_of_ble_eq_true rfl) dX10_line_28) ⟨⟨rfl, rfl⟩, (Nat.le_of_ble_eq_true rfl), (Nat.le_of_ble_eq_true rfl)⟩ fun v14 w15 e16 => ?_
  refine J.fn (fun (K43 : j_St → Option ((Nat ⊕ Unit) × j_St)) => ∀  (B46 : j_B) (x47 : j_ext B8 B46) (w45 : j_St), J g x 5 B46 (j_QX g x B rm_X10_line (fun _ _ => none) (fun _ _ _ => True)) 26 9652 (K43 w45) 43 [(3, .int v4)] [] w45) ?_ ?_
  · intro B46 x47 w45
    refine J.nmx fun n48 e49 => ?_
    refine J.fact (P := ¬ B46.2.1 9 n48) (fun H hR z => by have h9 := hR.2.2.2.2.2.2.2.2.2 _ _ z; simp only [jcnt] at h9; simp at h9; omega) fun h52 => ?_
    refine J.bumpe fun w50 e51 => ?_
    refine J.fact (P := ¬ B46.2.2 9 n48) (fun H hR z => h52 (hR.2.2.2.2.2.2.2.2.1 _ _ z)) fun h53 => ?_
    refine J.newB (κ := 9) (i := n48) hx rfl rfl in_X12 tyX12_ok (by decide +kernel) (by decide) h52 h53 (by rw [e51, e49]; simp [jcnt, jbump, jgn]) jn3_9 q782 q783 q143 ⟨Nat.le_of_ble_eq_true rfl, Nat.le_of_ble_eq_true rfl⟩ dX10_line_43 fun z56 w55 => ?_
    refine J.dup hx dX10_line_46 rfl ?_
    refine J.iload_n hx dX10_line_47 rfl 0 rfl ?_
    refine J.callAv hx (fun r z1 z => j_callA_of (j_runI (κ := 9) hx (mt_X12_init (j_hf2 jN_al) z) (lw_meth q822) q820 q821 q143 rfl hd_X12_init.2 rfl ⟨Nat.le_of_ble_eq_true rfl, Nat.le_of_ble_eq_true rfl⟩ (Nat.le_of_ble_eq_true rfl) dX10_line_48)) ⟨Nat.le_of_ble_eq_true rfl, Nat.le_of_ble_eq_true rfl⟩ fun _ w58 B60 e59 x61 x62 => ?_
    refine J.cv (lv' := [(3, .int v4)]) (st' := [.ref (B60.1 9 n48)]) (by first | rfl | (simp only [x61.ad jN_al]; done) | (simp only [x61.ad jN_al]; rfl)) (by first | rfl | (simp only [x61.ad jN_al]; done) | (simp only [x61.ad jN_al]; rfl)) ?_
    exact J.throw hx hnt (n := n48) ((((j_ext.rf.tr x9).tr x47).tr (jN_ext h52)).tr x61) (x61.mv jN_al) (Nat.le_of_ble_eq_true rfl) (Nat.le_of_ble_eq_true rfl) dX10_line_51
  · intro K43 hK43
    refine J.if_eq (tgt := 43) hx dX10_line_31 (by decide) ?_ ?_
    · exact J.widen (Nat.le_of_ble_eq_true rfl) (Nat.le_of_ble_eq_true rfl) (J.sub [1] rfl (hK43 B8 j_ext.rf w15))
    · refine J.aload_n hx dX10_line_34 rfl 4 rfl ?_
      refine J.aload hx dX10_line_35 0 rfl ?_
      refine J.callAi hx (fun r z1 z => j_callA_of (j_runV (κ := 6) hx rfl rfl (x9.mv b1).1 (mt_X11_has (x9.mv b1) x10 z) (lw_V q885 q886 q887 q131 q888) hd_X11_has rfl ⟨Nat.le_of_ble_eq_true rfl, Nat.le_of_ble_eq_true rfl⟩ (Nat.le_of_ble_eq_true rfl) dX10_line_37)) ⟨Nat.le_of_ble_eq_true rfl, Nat.le_of_ble_eq_true rfl⟩ fun v17 w18 B20 e19 x21 x22 => ?_
      refine J.cv (lv' := [(4, .ref (B20.1 16 v5)), (3, .int v4), (2, .int v1), (0, .ref (B20.1 8 i0)), (1, .ref (B20.1 6 i1))]) (st' := [.int v17]) (by first | rfl | (simp only [x21.ad x10, x21.ad (x9.mv a0), x21.ad (x9.mv b1)]; done) | (simp only [x21.ad x10, x21.ad (x9.mv a0), x21.ad (x9.mv b1)]; rfl)) (by first | rfl | (simp only [x21.ad x10, x21.ad (x9.mv a0), x21.ad (x9.mv b1)]; done) | (simp only [x21.ad x10, x21.ad (x9.mv a0), x21.ad (x9.mv b1)]; rfl)) ?_
      refine J.if_eq (tgt := 52) hx dX10_line_40 (by decide) ?_ ?_
      · refine J.aload_n hx dX10_line_52 rfl 4 rfl ?_
        refine J.getc (κ' := 34) (i' := i1) (κ := 6) (k := 1) hx rfl rfl rfl rfl rfl in_X11 (by decide) (Or.inr ⟨_, j_nl q475 rfl⟩) (x21.mv (x9.mv b1)).2 dX10_line_53 fun h23 => ?_
        refine J.aload_n hx dX10_line_56 rfl 4 rfl ?_
        refine J.geti (κ := 6) (k := 3) hx rfl rfl rfl in_X11 (by decide) (Or.inr ⟨_, j_nl q482 rfl⟩) (x21.mv (x9.mv b1)).1 dX10_line_57 fun v24 => ?_
        refine J.aload hx dX10_line_60 0 rfl ?_
        refine J.callAr (κ := 15) hx (fun r z1 z => j_callA_of5 (j_runF (n := 0) (κ := 16) hx rfl rfl (x21.mv x10).1 (mt_J2_toString (x21.mv x10) z) (j_wF q643 q653 q655 q133 q657) (List.mem_of_getElem? (i := 4) rfl) (by decide +kernel) rfl ⟨Nat.le_of_ble_eq_true rfl, Nat.le_of_ble_eq_true rfl⟩ (Nat.le_of_ble_eq_true rfl) dX10_line_62)) ⟨Nat.le_of_ble_eq_true rfl, Nat.le_of_ble_eq_true rfl⟩ fun v25 w26 B28 e27 x29 x30 => ?_
        refine J.cv (lv' := [(4, .ref (B28.1 16 v5)), (3, .int v4), (2, .int v1), (0, .ref (B28.1 8 i0)), (1, .ref (B28.1 6 i1))]) (st' := [.ref (B28.1 15 v25), .int v24, .ref (B28.1 34 i1)]) (by first | rfl | (simp only [x29.ad (x21.mv x10), x29.ad (x21.mv (x9.mv a0)), x29.ad (x21.mv (x9.mv b1)), x29.ad h23]; done) | (simp only [x29.ad (x21.mv x10), x29.ad (x21.mv (x9.mv a0)), x29.ad (x21.mv (x9.mv b1)), x29.ad h23]; rfl)) (by first | rfl | (simp only [x29.ad (x21.mv x10), x29.ad (x21.mv (x9.mv a0)), x29.ad (x21.mv (x9.mv b1)), x29.ad h23]; done) | (simp only [x29.ad (x21.mv x10), x29.ad (x21.mv (x9.mv a0)), x29.ad (x21.mv (x9.mv b1)), x29.ad h23]; rfl)) ?_
        refine J.aast (κ' := 15) (v := (some v25)) (κ := 34) hx rfl rfl (by decide) rfl rfl rfl rfl rfl (x29.mv h23).1 (j_sm x30) dX10_line_67 fun w31 => ?_
        refine J.aload_n hx dX10_line_68 rfl 4 rfl ?_
        refine J.getc (κ' := 35) (i' := i1) (κ := 6) (k := 2) hx rfl rfl rfl rfl rfl in_X11 (by decide) (Or.inr ⟨_, j_nl q478 rfl⟩) (x29.mv (x21.mv (x9.mv b1))).2 dX10_line_69 fun h33 => ?_
        refine J.aload_n hx dX10_line_72 rfl 4 rfl ?_
        refine J.geti (κ := 6) (k := 3) hx rfl rfl rfl in_X11 (by decide) (Or.inr ⟨_, j_nl q482 rfl⟩) (x29.mv (x21.mv (x9.mv b1))).1 dX10_line_73 fun v34 => ?_
        refine J.aload_n hx dX10_line_76 rfl 3 rfl ?_
        refine J.iconst (v := 0) hx dX10_line_77 (by decide) ?_
        refine J.bipush (v := 47) hx dX10_line_78 (by decide) ?_
        refine J.callX (rvY := (fun v _ => jri v)) hx hnt (fun r z1 z => j_callVX (κ := 8) hx rfl rfl (x29.mv (x21.mv (x9.mv a0))).1 (mt_X10_number (x29.mv (x21.mv (x9.mv a0))) z) (lw_V q850 q852 qs8 q130 q853) hd_X10_number rfl ⟨Nat.le_of_ble_eq_true rfl, Nat.le_of_ble_eq_true rfl⟩ (Nat.le_of_ble_eq_true rfl) dX10_line_80) (((j_ext.rf.tr x9).tr x21).tr x29) ⟨Nat.le_of_ble_eq_true rfl, Nat.le_of_ble_eq_true rfl⟩ fun v35 w36 B38 e37 x39 x40 => ?_
        refine J.cv (lv' := [(4, .ref (B38.1 16 v5)), (3, .int v4), (2, .int v1), (0, .ref (B38.1 8 i0)), (1, .ref (B38.1 6 i1))]) (st' := [.int v35, .int v34, .ref (B38.1 35 i1)]) (by first | rfl | (simp only [x39.ad (x29.mv (x21.mv x10)), x39.ad (x29.mv (x21.mv (x9.mv a0))), x39.ad (x29.mv (x21.mv (x9.mv b1))), x39.ad h33]; done) | (simp only [x39.ad (x29.mv (x21.mv x10)), x39.ad (x29.mv (x21.mv (x9.mv a0))), x39.ad (x29.mv (x21.mv (x9.mv b1))), x39.ad h33]; rfl)) (by first | rfl | (simp only [x39.ad (x29.mv (x21.mv x10)), x39.ad (x29.mv (x21.mv (x9.mv a0))), x39.ad (x29.mv (x21.mv (x9.mv b1))), x39.ad h33]; done) | (simp only [x39.ad (x29.mv (x21.mv x10)), x39.ad (x29.mv (x21.mv (x9.mv a0))), x39.ad (x29.mv (x21.mv (x9.mv b1))), x39.ad h33]; rfl)) ?_
        refine J.iast (κ := 35) hx rfl rfl rfl (x39.mv h33).1 dX10_line_83 fun w41 => ?_
        refine J.aload_n hx dX10_line_84 rfl 4 rfl ?_
        refine J.dup hx dX10_line_85 rfl ?_
        refine J.geti (κ := 6) (k := 3) hx rfl rfl rfl in_X11 (by decide) (Or.inr ⟨_, j_nl q482 rfl⟩) (x39.mv (x29.mv (x21.mv (x9.mv b1)))).1 dX10_line_86 fun v43 => ?_
        refine J.iconst (v := 1) hx dX10_line_89 (by decide) ?_
        refine J.iadd hx dX10_line_90 ?_
        refine J.puti (κ := 6) (k := 3) hx rfl rfl rfl in_X11 tyX11_ok nmX11 (by decide) (Or.inr ⟨_, j_nl q482 rfl⟩) rfl rfl (x39.mv (x29.mv (x21.mv (x9.mv b1)))).1 ⟨rfl, rfl⟩ dX10_line_91 fun w44 => ?_
        exact J.vretX hx ((((j_ext.rf.tr x9).tr x21).tr x29).tr x39) trivial rfl (Nat.le_of_ble_eq_true rfl) (Nat.le_of_ble_eq_true rfl) dX10_line_94
      · exact J.sub [1] rfl (hK43 B20 x21 w18)
theorem hd_X10_clause : yX10_clause.cls = RX10 ∧ yX10_clause.cls ≠ "java/lang/invoke/MethodHandle" ∧ yX10_clause.cls ≠ "java/lang/invoke/VarHandle" ∧ (parseMethodDescriptor yX10_clause.desc).map (fun d => d.parameters.length) = some 2 := by decide +kernel
def f_X10_clause (i0 : Nat) (i1 : Nat) (p2 : Int32) (w : j_St) : Option ((Nat ⊕ Int32) × j_St) := jcb (f_X10_peek i0 w) fun v1 w2 => jlt (jgi w2 8 i0 0) fun v4 => jcb (f_X10_word i0 w2) fun v5 w6 => jcb (f_J2_toString v5 w6) fun v11 w12 => jcb (f_J3_hashCode v11 w12) fun v17 w18 => jlt (fun (v32 : Int32) (w33 : j_St) => jlt (fun (v36 : Int32) (w37 : j_St) => jlt (fun (w74 : j_St) => jlt (jgn w74 109 0) fun n77 => jlt (jbump w74 9) fun w79 => jlt (jnw w79 9 n77 0) fun w84 => jcb (f_X12_init n77 v4 w84) fun _ w87 => some (.inl n77, w87)) fun K214 => if v36 = (-1) then K214 w37 else if p2 &&& v36 = 0 then jlt (fun (w41 : j_St) => jlt (fun (w71 : j_St) => some (.inr (p2 ||| v36), w71)) fun K287 => if v36 = 1 then jcx (f_X10_samples i0 (2 * i1 + 2) w41) fun _ w66 => K287 w66 else if v36 = 2 then jcx (f_X10_number i0 0 999 w41) fun v57 w58 => jlt (jsi w58 6 i1 4 v57) fun w63 => K287 w63 else if v36 = 4 then jcx (f_X10_number i0 0 9 w41) fun v50 w51 => jlt (jsi w51 6 i1 5 v50) fun w56 => K287 w56 else jcx (f_X10_line i0 i1 w41) fun _ w45 => K287 w45) fun K224 => if v36 = 0 then jlt (jgi w37 6 i1 3) fun v40 => if v40 = 8 then K214 w37 else K224 w37 else K224 w37 else K214 w37) fun K185 => if v32 = 0 then K185 1 w33 else if v32 = 1 then K185 2 w33 else if v32 = 2 then K185 4 w33 else if v32 = 3 then K185 0 w33 else K185 (-1) w33) fun K137 => if v17 = 3321844 then jcb (f_J3_equals_a17 v11 3 w18) fun v20 w21 => if v20 = 0 then K137 (-1) w21 else K137 3 w21 else if v17 = 104998682 then jcb (f_J3_equals_a17 v11 1 w18) fun v23 w24 => if v23 = 0 then K137 (-1) w24 else K137 1 w24 else if v17 = 108386675 then jcb (f_J3_equals_a17 v11 2 w18) fun v26 w27 => if v26 = 0 then K137 (-1) w27 else K137 2 w27 else if v17 = 110620997 then jcb (f_J3_equals_a17 v11 0 w18) fun v29 w30 => if v29 = 0 then K137 (-1) w30 else K137 0 w30 else K137 (-1) w18
abbrev rm_X10_clause : Room := { frames := 8, cells := 64, slots := 16000, locals := 217 }
set_option maxRecDepth 100000 in
set_option maxHeartbeats 4000000 in
theorem mt_X10_clause {g : j_G} {B : j_B} {i0 : Nat} {i1 : Nat} {p2 : Int32} {w w' : j_St} (a0 : B.2.1 8 i0 ∧ B.2.2 8 i0) (b1 : B.2.1 6 i1 ∧ B.2.2 6 i1) (hL : j_lit g B)  {r : (Nat ⊕ Int32)} (h : f_X10_clause i0 i1 p2 w = some (r, w')) : j_MX g yX10_clause cX10_clause 9 (some FieldType.int) rm_X10_clause B [.ref (B.1 8 i0), .ref (B.1 6 i1), .int p2] w w' r (fun v _ => jri v) (fun _ _ _ => True) := by
  refine j_metX (rv := (fun v _ => jri v)) (PB := (fun _ _ _ => True)) (by decide) (Nat.le_of_ble_eq_true rfl) (fun x hx hnt => ?_) h
  unfold f_X10_clause
  refine J.sub (lv' := [(0, .ref (B.1 8 i0)), (1, .ref (B.1 6 i1)), (2, .int p2)]) [0, 1, 2] rfl ?_
  refine J.aload_n hx dX10_clause_0 rfl 0 rfl ?_
  refine J.calli hx (fun r z1 z => j_callV (κ := 8) hx rfl rfl a0.1 (mt_X10_peek a0 z) (lw_V q508 q510 qs3 q130 q511) hd_X10_peek rfl ⟨Nat.le_of_ble_eq_true rfl, Nat.le_of_ble_eq_true rfl⟩ (Nat.le_of_ble_eq_true rfl) dX10_clause_1) ⟨⟨rfl, rfl⟩, (Nat.le_of_ble_eq_true rfl), (Nat.le_of_ble_eq_true rfl)⟩ fun v1 w2 e3 => ?_
  refine J.istore_n (lv' := [(3, .int v1), (0, .ref (B.1 8 i0)), (1, .ref (B.1 6 i1)), (2, .int p2)]) hx dX10_clause_4 rfl (by decide) rfl ?_
  refine J.aload_n hx dX10_clause_5 rfl 1 rfl ?_
  refine J.geti (κ := 8) (k := 0) hx rfl rfl rfl in_X10 (by decide) (Or.inl q450) a0.1 dX10_clause_6 fun v4 => ?_
  refine J.istore (lv' := [(4, .int v4), (3, .int v1), (0, .ref (B.1 8 i0)), (1, .ref (B.1 6 i1)), (2, .int p2)]) hx dX10_clause_9 (by decide) rfl ?_
  refine J.aload_n hx dX10_clause_11 rfl 2 rfl ?_
  refine J.callAr (κ := 16) hx (fun r z1 z => j_callA_of (j_runV (κ := 8) hx rfl rfl a0.1 (mt_X10_word a0 z) (lw_V q512 q514 qs4 q130 q515) hd_X10_word rfl ⟨Nat.le_of_ble_eq_true rfl, Nat.le_of_ble_eq_true rfl⟩ (Nat.le_of_ble_eq_true rfl) dX10_clause_12)) ⟨Nat.le_of_ble_eq_true rfl, Nat.le_of_ble_eq_true rfl⟩ fun v5 w6 B8 e7 x9 x10 => ?_
  refine J.cv (lv' := [(4, .int v4), (3, .int v1), (0, .ref (B8.1 8 i0)), (1, .ref (B8.1 6 i1)), (2, .int p2)]) (st' := [.ref (B8.1 16 v5)]) (by first | rfl | (simp only [x9.ad a0, x9.ad b1]; done) | (simp only [x9.ad a0, x9.ad b1]; rfl)) (by first | rfl | (simp only [x9.ad a0, x9.ad b1]; done) | (simp only [x9.ad a0, x9.ad b1]; rfl)) ?_
  refine J.astore (lv' := [(5, .ref (B8.1 16 v5)), (4, .int v4), (3, .int v1), (0, .ref (B8.1 8 i0)), (1, .ref (B8.1 6 i1)), (2, .int p2)]) hx dX10_clause_15 (by decide) rfl ?_
  refine J.aload hx dX10_clause_17 0 rfl ?_
  refine J.callAr (κ := 15) hx (fun r z1 z => j_callA_of5 (j_runF (n := 0) (κ := 16) hx rfl rfl x10.1 (mt_J2_toString x10 z) (j_wF q643 q653 q655 q133 q657) (List.mem_of_getElem? (i := 4) rfl) (by decide +kernel) rfl ⟨Nat.le_of_ble_eq_true rfl, Nat.le_of_ble_eq_true rfl⟩ (Nat.le_of_ble_eq_true rfl) dX10_clause_19)) ⟨Nat.le_of_ble_eq_true rfl, Nat.le_of_ble_eq_true rfl⟩ fun v11 w12 B14 e13 x15 x16 => ?_
  refine J.cv (lv' := [(5, .ref (B14.1 16 v5)), (4, .int v4), (3, .int v1), (0, .ref (B14.1 8 i0)), (1, .ref (B14.1 6 i1)), (2, .int p2)]) (st' := [.ref (B14.1 15 v11)]) (by first | rfl | (simp only [x15.ad x10, x15.ad (x9.mv a0), x15.ad (x9.mv b1)]; done) | (simp only [x15.ad x10, x15.ad (x9.mv a0), x15.ad (x9.mv b1)]; rfl)) (by first | rfl | (simp only [x15.ad x10, x15.ad (x9.mv a0), x15.ad (x9.mv b1)]; done) | (simp only [x15.ad x10, x15.ad (x9.mv a0), x15.ad (x9.mv b1)]; rfl)) ?_
  refine J.astore (lv' := [(7, .ref (B14.1 15 v11)), (5, .ref (B14.1 16 v5)), (4, .int v4), (3, .int v1), (0, .ref (B14.1 8 i0)), (1, .ref (B14.1 6 i1)), (2, .int p2)]) hx dX10_clause_24 (by decide) rfl ?_
  refine J.iconst (v := (-1)) hx dX10_clause_26 (by decide) ?_
  refine J.istore (lv' := [(8, .int (-1)), (7, .ref (B14.1 15 v11)), (5, .ref (B14.1 16 v5)), (4, .int v4), (3, .int v1), (0, .ref (B14.1 8 i0)), (1, .ref (B14.1 6 i1)), (2, .int p2)]) hx dX10_clause_27 (by decide) rfl ?_
  refine J.aload hx dX10_clause_29 1 rfl ?_
  refine J.calli hx (fun r z1 z => j_callV (κ := 15) hx rfl rfl x16.1 (mt_J3_hashCode x16 z) (lw_V q717 q718 q719 q134 q720) hd_J3_hashCode rfl ⟨Nat.le_of_ble_eq_true rfl, Nat.le_of_ble_eq_true rfl⟩ (Nat.le_of_ble_eq_true rfl) dX10_clause_31) ⟨⟨rfl, rfl⟩, (Nat.le_of_ble_eq_true rfl), (Nat.le_of_ble_eq_true rfl)⟩ fun v17 w18 e19 => ?_
  refine J.fn (fun (K137 : Int32 → j_St → Option ((Nat ⊕ Int32) × j_St)) => ∀ (v32 : Int32) (B34 : j_B) (x35 : j_ext B14 B34) (w33 : j_St), J g x 9 B34 (j_QX g x B rm_X10_clause (fun v _ => jri v) (fun _ _ _ => True)) 12 5424 (K137 v32 w33) 137 [(0, .ref (B34.1 8 i0)), (1, .ref (B34.1 6 i1)), (2, .int p2), (4, .int v4), (8, .int v32)] [] w33) ?_ ?_
  · intro v32 B34 x35 w33
    refine J.iload hx dX10_clause_137 4 rfl ?_
    refine J.fn (fun (K185 : Int32 → j_St → Option ((Nat ⊕ Int32) × j_St)) => ∀ (v36 : Int32) (B38 : j_B) (x39 : j_ext B34 B38) (w37 : j_St), J g x 9 B38 (j_QX g x B rm_X10_clause (fun v _ => jri v) (fun _ _ _ => True)) 12 5424 (K185 v36 w37) 185 [(0, .ref (B38.1 8 i0)), (1, .ref (B38.1 6 i1)), (2, .int p2), (4, .int v4)] [.int v36] w37) ?_ ?_
    · intro v36 B38 x39 w37
      refine J.istore (lv' := [(6, .int v36), (0, .ref (B38.1 8 i0)), (1, .ref (B38.1 6 i1)), (2, .int p2), (4, .int v4)]) hx dX10_clause_185 (by decide) rfl ?_
      refine J.iload hx dX10_clause_187 0 rfl ?_
      refine J.iconst (v := (-1)) hx dX10_clause_189 (by decide) ?_
      refine J.fn (fun (K214 : j_St → Option ((Nat ⊕ Int32) × j_St)) => ∀  (B75 : j_B) (x76 : j_ext B38 B75) (w74 : j_St), J g x 9 B75 (j_QX g x B rm_X10_clause (fun v _ => jri v) (fun _ _ _ => True)) 12 5424 (K214 w74) 214 [(4, .int v4)] [] w74) ?_ ?_
      · intro B75 x76 w74
        refine J.nmx fun n77 e78 => ?_
        refine J.fact (P := ¬ B75.2.1 9 n77) (fun H hR z => by have h9 := hR.2.2.2.2.2.2.2.2.2 _ _ z; simp only [jcnt] at h9; simp at h9; omega) fun h81 => ?_
        refine J.bumpe fun w79 e80 => ?_
        refine J.fact (P := ¬ B75.2.2 9 n77) (fun H hR z => h81 (hR.2.2.2.2.2.2.2.2.1 _ _ z)) fun h82 => ?_
        refine J.newB (κ := 9) (i := n77) hx rfl rfl in_X12 tyX12_ok (by decide +kernel) (by decide) h81 h82 (by rw [e80, e78]; simp [jcnt, jbump, jgn]) jn3_9 q782 q783 q143 ⟨Nat.le_of_ble_eq_true rfl, Nat.le_of_ble_eq_true rfl⟩ dX10_clause_214 fun z85 w84 => ?_
        refine J.dup hx dX10_clause_217 rfl ?_
        refine J.iload hx dX10_clause_218 0 rfl ?_
        refine J.callAv hx (fun r z1 z => j_callA_of (j_runI (κ := 9) hx (mt_X12_init (j_hf2 jN_al) z) (lw_meth q822) q820 q821 q143 rfl hd_X12_init.2 rfl ⟨Nat.le_of_ble_eq_true rfl, Nat.le_of_ble_eq_true rfl⟩ (Nat.le_of_ble_eq_true rfl) dX10_clause_220)) ⟨Nat.le_of_ble_eq_true rfl, Nat.le_of_ble_eq_true rfl⟩ fun _ w87 B89 e88 x90 x91 => ?_
        refine J.cv (lv' := [(4, .int v4)]) (st' := [.ref (B89.1 9 n77)]) (by first | rfl | (simp only [x90.ad jN_al]; done) | (simp only [x90.ad jN_al]; rfl)) (by first | rfl | (simp only [x90.ad jN_al]; done) | (simp only [x90.ad jN_al]; rfl)) ?_
        exact J.throw hx hnt (n := n77) (((((((j_ext.rf.tr x9).tr x15).tr x35).tr x39).tr x76).tr (jN_ext h81)).tr x90) (x90.mv jN_al) (Nat.le_of_ble_eq_true rfl) (Nat.le_of_ble_eq_true rfl) dX10_clause_223
      · intro K214 hK214
        refine J.icmp_eq (tgt := 214) hx dX10_clause_190 (by decide) ?_ ?_
        · exact J.sub [4] rfl (hK214 B38 j_ext.rf w37)
        · refine J.iload_n hx dX10_clause_193 rfl 3 rfl ?_
          refine J.iload hx dX10_clause_194 0 rfl ?_
          refine J.iand hx dX10_clause_196 ?_
          refine J.if_ne (tgt := 214) hx dX10_clause_197 (by decide) ?_ ?_
          · refine J.iload hx dX10_clause_200 0 rfl ?_
            refine J.fn (fun (K224 : j_St → Option ((Nat ⊕ Int32) × j_St)) => ∀  (B42 : j_B) (x43 : j_ext B38 B42) (w41 : j_St), J g x 9 B42 (j_QX g x B rm_X10_clause (fun v _ => jri v) (fun _ _ _ => True)) 12 5424 (K224 w41) 224 [(0, .ref (B42.1 8 i0)), (1, .ref (B42.1 6 i1)), (2, .int p2), (6, .int v36)] [] w41) ?_ ?_
            · intro B42 x43 w41
              refine J.iload hx dX10_clause_224 3 rfl ?_
              refine J.iconst (v := 1) hx dX10_clause_226 (by decide) ?_
              refine J.fn (fun (K287 : j_St → Option ((Nat ⊕ Int32) × j_St)) => ∀  (B72 : j_B) (x73 : j_ext B42 B72) (w71 : j_St), J g x 9 B72 (j_QX g x B rm_X10_clause (fun v _ => jri v) (fun _ _ _ => True)) 64 15714 (K287 w71) 287 [(2, .int p2), (6, .int v36)] [] w71) ?_ ?_
              · intro B72 x73 w71
                refine J.iload_n hx dX10_clause_287 rfl 0 rfl ?_
                refine J.iload hx dX10_clause_288 1 rfl ?_
                refine J.ior hx dX10_clause_290 ?_
                exact J.iretX hx ((((((j_ext.rf.tr x9).tr x15).tr x35).tr x39).tr x43).tr x73) trivial rfl (Nat.le_of_ble_eq_true rfl) (Nat.le_of_ble_eq_true rfl) dX10_clause_291
              · intro K287 hK287
                refine J.icmp_ne (tgt := 241) hx dX10_clause_227 (by decide) ?_ ?_
                · refine J.aload_n hx dX10_clause_230 rfl 0 rfl ?_
                  refine J.aload_n hx dX10_clause_231 rfl 1 rfl ?_
                  refine J.getc (κ' := 4) (i' := (2 * i1 + 2)) (κ := 6) (k := 0) hx rfl rfl rfl rfl rfl in_X11 (by decide) (Or.inr ⟨_, j_nl q473 rfl⟩) (x43.mv (x39.mv (x35.mv (x15.mv (x9.mv b1))))).2 dX10_clause_232 fun h64 => ?_
                  refine J.callX (rvY := (fun _ _ => none)) hx hnt (fun r z1 z => j_callVX (κ := 8) hx rfl rfl (x43.mv (x39.mv (x35.mv (x15.mv (x9.mv a0))))).1 (mt_X10_samples (x43.mv (x39.mv (x35.mv (x15.mv (x9.mv a0))))) h64 z) (lw_V q846 q848 qs7 q130 q849) hd_X10_samples rfl ⟨Nat.le_of_ble_eq_true rfl, Nat.le_of_ble_eq_true rfl⟩ (Nat.le_of_ble_eq_true rfl) dX10_clause_235) (((((j_ext.rf.tr x9).tr x15).tr x35).tr x39).tr x43) ⟨Nat.le_of_ble_eq_true rfl, Nat.le_of_ble_eq_true rfl⟩ fun _ w66 B68 e67 x69 x70 => ?_
                  refine J.cv (lv' := [(0, .ref (B68.1 8 i0)), (1, .ref (B68.1 6 i1)), (2, .int p2), (6, .int v36)]) (st' := []) (by first | rfl | (simp only [x69.ad (x43.mv (x39.mv (x35.mv (x15.mv (x9.mv a0))))), x69.ad (x43.mv (x39.mv (x35.mv (x15.mv (x9.mv b1)))))]; done) | (simp only [x69.ad (x43.mv (x39.mv (x35.mv (x15.mv (x9.mv a0))))), x69.ad (x43.mv (x39.mv (x35.mv (x15.mv (x9.mv b1)))))]; rfl)) (by first | rfl | (simp only [x69.ad (x43.mv (x39.mv (x35.mv (x15.mv (x9.mv a0))))), x69.ad (x43.mv (x39.mv (x35.mv (x15.mv (x9.mv b1)))))]; done) | (simp only [x69.ad (x43.mv (x39.mv (x35.mv (x15.mv (x9.mv a0))))), x69.ad (x43.mv (x39.mv (x35.mv (x15.mv (x9.mv b1)))))]; rfl)) ?_
                  refine J.goto (tgt := 287) hx dX10_clause_238 (by decide) ?_
                  exact J.widen (Nat.le_of_ble_eq_true rfl) (Nat.le_of_ble_eq_true rfl) (J.sub [2, 3] rfl (hK287 B68 x69 w66))
                · refine J.iload hx dX10_clause_241 3 rfl ?_
                  refine J.iconst (v := 2) hx dX10_clause_243 (by decide) ?_
                  refine J.icmp_ne (tgt := 262) hx dX10_clause_244 (by decide) ?_ ?_
                  · refine J.aload_n hx dX10_clause_247 rfl 1 rfl ?_
                    refine J.aload_n hx dX10_clause_248 rfl 0 rfl ?_
                    refine J.iconst (v := 0) hx dX10_clause_249 (by decide) ?_
                    refine J.sipush (v := 999) hx dX10_clause_250 (by decide) ?_
                    refine J.callX (rvY := (fun v _ => jri v)) hx hnt (fun r z1 z => j_callVX (κ := 8) hx rfl rfl (x43.mv (x39.mv (x35.mv (x15.mv (x9.mv a0))))).1 (mt_X10_number (x43.mv (x39.mv (x35.mv (x15.mv (x9.mv a0))))) z) (lw_V q850 q852 qs8 q130 q853) hd_X10_number rfl ⟨Nat.le_of_ble_eq_true rfl, Nat.le_of_ble_eq_true rfl⟩ (Nat.le_of_ble_eq_true rfl) dX10_clause_253) (((((j_ext.rf.tr x9).tr x15).tr x35).tr x39).tr x43) ⟨Nat.le_of_ble_eq_true rfl, Nat.le_of_ble_eq_true rfl⟩ fun v57 w58 B60 e59 x61 x62 => ?_
                    refine J.cv (lv' := [(0, .ref (B60.1 8 i0)), (1, .ref (B60.1 6 i1)), (2, .int p2), (6, .int v36)]) (st' := [.int v57, .ref (B60.1 6 i1)]) (by first | rfl | (simp only [x61.ad (x43.mv (x39.mv (x35.mv (x15.mv (x9.mv a0))))), x61.ad (x43.mv (x39.mv (x35.mv (x15.mv (x9.mv b1)))))]; done) | (simp only [x61.ad (x43.mv (x39.mv (x35.mv (x15.mv (x9.mv a0))))), x61.ad (x43.mv (x39.mv (x35.mv (x15.mv (x9.mv b1)))))]; rfl)) (by first | rfl | (simp only [x61.ad (x43.mv (x39.mv (x35.mv (x15.mv (x9.mv a0))))), x61.ad (x43.mv (x39.mv (x35.mv (x15.mv (x9.mv b1)))))]; done) | (simp only [x61.ad (x43.mv (x39.mv (x35.mv (x15.mv (x9.mv a0))))), x61.ad (x43.mv (x39.mv (x35.mv (x15.mv (x9.mv b1)))))]; rfl)) ?_
                    refine J.puti (κ := 6) (k := 4) hx rfl rfl rfl in_X11 tyX11_ok nmX11 (by decide) (Or.inr ⟨_, j_nl q486 rfl⟩) rfl rfl (x61.mv (x43.mv (x39.mv (x35.mv (x15.mv (x9.mv b1)))))).1 ⟨rfl, rfl⟩ dX10_clause_256 fun w63 => ?_
                    refine J.goto (tgt := 287) hx dX10_clause_259 (by decide) ?_
                    exact J.widen (Nat.le_of_ble_eq_true rfl) (Nat.le_of_ble_eq_true rfl) (J.sub [2, 3] rfl (hK287 B60 x61 w63))
                  · refine J.iload hx dX10_clause_262 3 rfl ?_
                    refine J.iconst (v := 4) hx dX10_clause_264 (by decide) ?_
                    refine J.icmp_ne (tgt := 282) hx dX10_clause_265 (by decide) ?_ ?_
                    · refine J.aload_n hx dX10_clause_268 rfl 1 rfl ?_
                      refine J.aload_n hx dX10_clause_269 rfl 0 rfl ?_
                      refine J.iconst (v := 0) hx dX10_clause_270 (by decide) ?_
                      refine J.bipush (v := 9) hx dX10_clause_271 (by decide) ?_
                      refine J.callX (rvY := (fun v _ => jri v)) hx hnt (fun r z1 z => j_callVX (κ := 8) hx rfl rfl (x43.mv (x39.mv (x35.mv (x15.mv (x9.mv a0))))).1 (mt_X10_number (x43.mv (x39.mv (x35.mv (x15.mv (x9.mv a0))))) z) (lw_V q850 q852 qs8 q130 q853) hd_X10_number rfl ⟨Nat.le_of_ble_eq_true rfl, Nat.le_of_ble_eq_true rfl⟩ (Nat.le_of_ble_eq_true rfl) dX10_clause_273) (((((j_ext.rf.tr x9).tr x15).tr x35).tr x39).tr x43) ⟨Nat.le_of_ble_eq_true rfl, Nat.le_of_ble_eq_true rfl⟩ fun v50 w51 B53 e52 x54 x55 => ?_
                      refine J.cv (lv' := [(0, .ref (B53.1 8 i0)), (1, .ref (B53.1 6 i1)), (2, .int p2), (6, .int v36)]) (st' := [.int v50, .ref (B53.1 6 i1)]) (by first | rfl | (simp only [x54.ad (x43.mv (x39.mv (x35.mv (x15.mv (x9.mv a0))))), x54.ad (x43.mv (x39.mv (x35.mv (x15.mv (x9.mv b1)))))]; done) | (simp only [x54.ad (x43.mv (x39.mv (x35.mv (x15.mv (x9.mv a0))))), x54.ad (x43.mv (x39.mv (x35.mv (x15.mv (x9.mv b1)))))]; rfl)) (by first | rfl | (simp only [x54.ad (x43.mv (x39.mv (x35.mv (x15.mv (x9.mv a0))))), x54.ad (x43.mv (x39.mv (x35.mv (x15.mv (x9.mv b1)))))]; done) | (simp only [x54.ad (x43.mv (x39.mv (x35.mv (x15.mv (x9.mv a0))))), x54.ad (x43.mv (x39.mv (x35.mv (x15.mv (x9.mv b1)))))]; rfl)) ?_
                      refine J.puti (κ := 6) (k := 5) hx rfl rfl rfl in_X11 tyX11_ok nmX11 (by decide) (Or.inr ⟨_, j_nl q488 rfl⟩) rfl rfl (x54.mv (x43.mv (x39.mv (x35.mv (x15.mv (x9.mv b1)))))).1 ⟨rfl, rfl⟩ dX10_clause_276 fun w56 => ?_
                      refine J.goto (tgt := 287) hx dX10_clause_279 (by decide) ?_
                      exact J.widen (Nat.le_of_ble_eq_true rfl) (Nat.le_of_ble_eq_true rfl) (J.sub [2, 3] rfl (hK287 B53 x54 w56))
                    · refine J.aload_n hx dX10_clause_282 rfl 0 rfl ?_
                      refine J.aload_n hx dX10_clause_283 rfl 1 rfl ?_
                      refine J.callX (rvY := (fun _ _ => none)) hx hnt (fun r z1 z => j_callVX (κ := 8) hx rfl rfl (x43.mv (x39.mv (x35.mv (x15.mv (x9.mv a0))))).1 (mt_X10_line (x43.mv (x39.mv (x35.mv (x15.mv (x9.mv a0))))) (x43.mv (x39.mv (x35.mv (x15.mv (x9.mv b1))))) z) (lw_V q864 q866 qs10 q130 q867) hd_X10_line rfl ⟨Nat.le_of_ble_eq_true rfl, Nat.le_of_ble_eq_true rfl⟩ (Nat.le_of_ble_eq_true rfl) dX10_clause_284) (((((j_ext.rf.tr x9).tr x15).tr x35).tr x39).tr x43) ⟨Nat.le_of_ble_eq_true rfl, Nat.le_of_ble_eq_true rfl⟩ fun _ w45 B47 e46 x48 x49 => ?_
                      refine J.cv (lv' := [(0, .ref (B47.1 8 i0)), (1, .ref (B47.1 6 i1)), (2, .int p2), (6, .int v36)]) (st' := []) (by first | rfl | (simp only [x48.ad (x43.mv (x39.mv (x35.mv (x15.mv (x9.mv a0))))), x48.ad (x43.mv (x39.mv (x35.mv (x15.mv (x9.mv b1)))))]; done) | (simp only [x48.ad (x43.mv (x39.mv (x35.mv (x15.mv (x9.mv a0))))), x48.ad (x43.mv (x39.mv (x35.mv (x15.mv (x9.mv b1)))))]; rfl)) (by first | rfl | (simp only [x48.ad (x43.mv (x39.mv (x35.mv (x15.mv (x9.mv a0))))), x48.ad (x43.mv (x39.mv (x35.mv (x15.mv (x9.mv b1)))))]; done) | (simp only [x48.ad (x43.mv (x39.mv (x35.mv (x15.mv (x9.mv a0))))), x48.ad (x43.mv (x39.mv (x35.mv (x15.mv (x9.mv b1)))))]; rfl)) ?_
                      exact J.widen (Nat.le_of_ble_eq_true rfl) (Nat.le_of_ble_eq_true rfl) (J.sub [2, 3] rfl (hK287 B47 x48 w45))
            · intro K224 hK224
              refine J.if_ne (tgt := 224) hx dX10_clause_202 (by decide) ?_ ?_
              · refine J.aload_n hx dX10_clause_205 rfl 2 rfl ?_
                refine J.geti (κ := 6) (k := 3) hx rfl rfl rfl in_X11 (by decide) (Or.inr ⟨_, j_nl q482 rfl⟩) (x39.mv (x35.mv (x15.mv (x9.mv b1)))).1 dX10_clause_206 fun v40 => ?_
                refine J.bipush (v := 8) hx dX10_clause_209 (by decide) ?_
                refine J.icmp_ne (tgt := 224) hx dX10_clause_211 (by decide) ?_ ?_
                · exact J.sub [4] rfl (hK214 B38 j_ext.rf w37)
                · exact J.sub [1, 2, 3, 0] rfl (hK224 B38 j_ext.rf w37)
              · exact J.sub [1, 2, 3, 0] rfl (hK224 B38 j_ext.rf w37)
          · exact J.sub [4] rfl (hK214 B38 j_ext.rf w37)
    · intro K185 hK185
      refine J.ite (fun e0 => ?_) (fun n0 => ?_)
      · refine J.tsw (off := 29) (tgt := 168) hx dX10_clause_139 (by rw [e0]; decide) (by rw [e0]; decide) (by rw [e0]; rfl) (by decide) ?_
        refine J.iconst (v := 1) hx dX10_clause_168 (by decide) ?_
        refine J.goto (tgt := 185) hx dX10_clause_169 (by decide) ?_
        exact J.sub [0, 1, 2, 3] rfl (hK185 1 B34 j_ext.rf w33)
      · refine J.ite (fun e1 => ?_) (fun n1 => ?_)
        · refine J.tsw (off := 33) (tgt := 172) hx dX10_clause_139 (by rw [e1]; decide) (by rw [e1]; decide) (by rw [e1]; rfl) (by decide) ?_
          refine J.iconst (v := 2) hx dX10_clause_172 (by decide) ?_
          refine J.goto (tgt := 185) hx dX10_clause_173 (by decide) ?_
          exact J.sub [0, 1, 2, 3] rfl (hK185 2 B34 j_ext.rf w33)
        · refine J.ite (fun e2 => ?_) (fun n2 => ?_)
          · refine J.tsw (off := 37) (tgt := 176) hx dX10_clause_139 (by rw [e2]; decide) (by rw [e2]; decide) (by rw [e2]; rfl) (by decide) ?_
            refine J.iconst (v := 4) hx dX10_clause_176 (by decide) ?_
            refine J.goto (tgt := 185) hx dX10_clause_177 (by decide) ?_
            exact J.sub [0, 1, 2, 3] rfl (hK185 4 B34 j_ext.rf w33)
          · refine J.ite (fun e3 => ?_) (fun n3 => ?_)
            · refine J.tsw (off := 41) (tgt := 180) hx dX10_clause_139 (by rw [e3]; decide) (by rw [e3]; decide) (by rw [e3]; rfl) (by decide) ?_
              refine J.iconst (v := 0) hx dX10_clause_180 (by decide) ?_
              refine J.goto (tgt := 185) hx dX10_clause_181 (by decide) ?_
              exact J.sub [0, 1, 2, 3] rfl (hK185 0 B34 j_ext.rf w33)
            · have z0 := j_neT n0 (a := 0) (by decide)
              have z1 := j_neT n1 (a := 1) (by decide)
              have z2 := j_neT n2 (a := 2) (by decide)
              have z3 := j_neT n3 (a := 3) (by decide)
              refine J.tswD (tgt := 184) hx dX10_clause_139 (by omega) (by decide) ?_
              refine J.iconst (v := (-1)) hx dX10_clause_184 (by decide) ?_
              exact J.sub [0, 1, 2, 3] rfl (hK185 (-1) B34 j_ext.rf w33)
  · intro K137 hK137
    refine J.ite (fun e3321844 => ?_) (fun n3321844 => ?_)
    · refine J.lsw (off := 90) (tgt := 124) hx dX10_clause_34 (by decide) (by rw [e3321844] <;> rfl) (by decide) ?_
      refine J.aload hx dX10_clause_124 1 rfl ?_
      refine J.ldcS (own := "TracePeaks$Reader") (index := 113) (n := 3) hx "line" (List.mem_of_getElem? (i := 3) rfl) (hL.mv ((j_ext.rf.tr x9).tr x15)) (by decide) dX10_clause_126 ?_
      refine J.calli hx (fun r z1 z => j_callV (κ := 15) hx rfl rfl x16.1 (mt_J3_equals_a17 x16 ((hL.mv ((j_ext.rf.tr x9).tr x15)).1 3 (by decide)).1 z) (lw_V q771 q772 q773 q134 q774) hd_J3_equals rfl ⟨Nat.le_of_ble_eq_true rfl, Nat.le_of_ble_eq_true rfl⟩ (Nat.le_of_ble_eq_true rfl) dX10_clause_128) ⟨⟨rfl, rfl⟩, (Nat.le_of_ble_eq_true rfl), (Nat.le_of_ble_eq_true rfl)⟩ fun v20 w21 e22 => ?_
      refine J.if_eq (tgt := 137) hx dX10_clause_131 (by decide) ?_ ?_
      · exact J.sub [5, 6, 7, 3, 0] rfl (hK137 (-1) B14 j_ext.rf w21)
      · refine J.iconst (v := 3) hx dX10_clause_134 (by decide) ?_
        refine J.istore (lv' := [(8, .int 3), (7, .ref (B14.1 15 v11)), (5, .ref (B14.1 16 v5)), (4, .int v4), (3, .int v1), (0, .ref (B14.1 8 i0)), (1, .ref (B14.1 6 i1)), (2, .int p2)]) hx dX10_clause_135 (by decide) rfl ?_
        exact J.sub [5, 6, 7, 3, 0] rfl (hK137 3 B14 j_ext.rf w21)
    · refine J.ite (fun e104998682 => ?_) (fun n104998682 => ?_)
      · refine J.lsw (off := 58) (tgt := 92) hx dX10_clause_34 (by decide) (by rw [e104998682] <;> rfl) (by decide) ?_
        refine J.aload hx dX10_clause_92 1 rfl ?_
        refine J.ldcS (own := "TracePeaks$Reader") (index := 109) (n := 1) hx "noise" (List.mem_of_getElem? (i := 1) rfl) (hL.mv ((j_ext.rf.tr x9).tr x15)) (by decide) dX10_clause_94 ?_
        refine J.calli hx (fun r z1 z => j_callV (κ := 15) hx rfl rfl x16.1 (mt_J3_equals_a17 x16 ((hL.mv ((j_ext.rf.tr x9).tr x15)).1 1 (by decide)).1 z) (lw_V q771 q772 q773 q134 q774) hd_J3_equals rfl ⟨Nat.le_of_ble_eq_true rfl, Nat.le_of_ble_eq_true rfl⟩ (Nat.le_of_ble_eq_true rfl) dX10_clause_96) ⟨⟨rfl, rfl⟩, (Nat.le_of_ble_eq_true rfl), (Nat.le_of_ble_eq_true rfl)⟩ fun v23 w24 e25 => ?_
        refine J.if_eq (tgt := 137) hx dX10_clause_99 (by decide) ?_ ?_
        · exact J.sub [5, 6, 7, 3, 0] rfl (hK137 (-1) B14 j_ext.rf w24)
        · refine J.iconst (v := 1) hx dX10_clause_102 (by decide) ?_
          refine J.istore (lv' := [(8, .int 1), (7, .ref (B14.1 15 v11)), (5, .ref (B14.1 16 v5)), (4, .int v4), (3, .int v1), (0, .ref (B14.1 8 i0)), (1, .ref (B14.1 6 i1)), (2, .int p2)]) hx dX10_clause_103 (by decide) rfl ?_
          refine J.goto (tgt := 137) hx dX10_clause_105 (by decide) ?_
          exact J.sub [5, 6, 7, 3, 0] rfl (hK137 1 B14 j_ext.rf w24)
      · refine J.ite (fun e108386675 => ?_) (fun n108386675 => ?_)
        · refine J.lsw (off := 74) (tgt := 108) hx dX10_clause_34 (by decide) (by rw [e108386675] <;> rfl) (by decide) ?_
          refine J.aload hx dX10_clause_108 1 rfl ?_
          refine J.ldcS (own := "TracePeaks$Reader") (index := 111) (n := 2) hx "reach" (List.mem_of_getElem? (i := 2) rfl) (hL.mv ((j_ext.rf.tr x9).tr x15)) (by decide) dX10_clause_110 ?_
          refine J.calli hx (fun r z1 z => j_callV (κ := 15) hx rfl rfl x16.1 (mt_J3_equals_a17 x16 ((hL.mv ((j_ext.rf.tr x9).tr x15)).1 2 (by decide)).1 z) (lw_V q771 q772 q773 q134 q774) hd_J3_equals rfl ⟨Nat.le_of_ble_eq_true rfl, Nat.le_of_ble_eq_true rfl⟩ (Nat.le_of_ble_eq_true rfl) dX10_clause_112) ⟨⟨rfl, rfl⟩, (Nat.le_of_ble_eq_true rfl), (Nat.le_of_ble_eq_true rfl)⟩ fun v26 w27 e28 => ?_
          refine J.if_eq (tgt := 137) hx dX10_clause_115 (by decide) ?_ ?_
          · exact J.sub [5, 6, 7, 3, 0] rfl (hK137 (-1) B14 j_ext.rf w27)
          · refine J.iconst (v := 2) hx dX10_clause_118 (by decide) ?_
            refine J.istore (lv' := [(8, .int 2), (7, .ref (B14.1 15 v11)), (5, .ref (B14.1 16 v5)), (4, .int v4), (3, .int v1), (0, .ref (B14.1 8 i0)), (1, .ref (B14.1 6 i1)), (2, .int p2)]) hx dX10_clause_119 (by decide) rfl ?_
            refine J.goto (tgt := 137) hx dX10_clause_121 (by decide) ?_
            exact J.sub [5, 6, 7, 3, 0] rfl (hK137 2 B14 j_ext.rf w27)
        · refine J.ite (fun e110620997 => ?_) (fun n110620997 => ?_)
          · refine J.lsw (off := 42) (tgt := 76) hx dX10_clause_34 (by decide) (by rw [e110620997] <;> rfl) (by decide) ?_
            refine J.aload hx dX10_clause_76 1 rfl ?_
            refine J.ldcS (own := "TracePeaks$Reader") (index := 103) (n := 0) hx "trace" (List.mem_of_getElem? (i := 0) rfl) (hL.mv ((j_ext.rf.tr x9).tr x15)) (by decide) dX10_clause_78 ?_
            refine J.calli hx (fun r z1 z => j_callV (κ := 15) hx rfl rfl x16.1 (mt_J3_equals_a17 x16 ((hL.mv ((j_ext.rf.tr x9).tr x15)).1 0 (by decide)).1 z) (lw_V q771 q772 q773 q134 q774) hd_J3_equals rfl ⟨Nat.le_of_ble_eq_true rfl, Nat.le_of_ble_eq_true rfl⟩ (Nat.le_of_ble_eq_true rfl) dX10_clause_80) ⟨⟨rfl, rfl⟩, (Nat.le_of_ble_eq_true rfl), (Nat.le_of_ble_eq_true rfl)⟩ fun v29 w30 e31 => ?_
            refine J.if_eq (tgt := 137) hx dX10_clause_83 (by decide) ?_ ?_
            · exact J.sub [5, 6, 7, 3, 0] rfl (hK137 (-1) B14 j_ext.rf w30)
            · refine J.iconst (v := 0) hx dX10_clause_86 (by decide) ?_
              refine J.istore (lv' := [(8, .int 0), (7, .ref (B14.1 15 v11)), (5, .ref (B14.1 16 v5)), (4, .int v4), (3, .int v1), (0, .ref (B14.1 8 i0)), (1, .ref (B14.1 6 i1)), (2, .int p2)]) hx dX10_clause_87 (by decide) rfl ?_
              refine J.goto (tgt := 137) hx dX10_clause_89 (by decide) ?_
              exact J.sub [5, 6, 7, 3, 0] rfl (hK137 0 B14 j_ext.rf w30)
          · refine J.lsw (off := 103) (tgt := 137) hx dX10_clause_34 (by decide) ((lv_osw n3321844 (by decide)).trans ((lv_osw n104998682 (by decide)).trans ((lv_osw n108386675 (by decide)).trans ((lv_osw n110620997 (by decide)).trans rfl)))) (by decide) ?_
            exact J.sub [5, 6, 7, 3, 0] rfl (hK137 (-1) B14 j_ext.rf w18)
theorem hd_X1_sortOf : yX1_sortOf.cls = RX1 ∧ yX1_sortOf.cls ≠ "java/lang/invoke/MethodHandle" ∧ yX1_sortOf.cls ≠ "java/lang/invoke/VarHandle" ∧ (parseMethodDescriptor yX1_sortOf.desc).map (fun d => d.parameters.length) = some 1 := by decide +kernel
def f_X1_sortOf (i0 : Nat) (w : j_St) : Option (Int32 × j_St) := jcb (f_J2_toString i0 w) fun v1 w2 => jcb (f_J3_hashCode v1 w2) fun v7 w8 => jlt (fun (v40 : Int32) (w41 : j_St) => if v40 = 0 then some (0, w41) else if v40 = 1 then some (1, w41) else if v40 = 2 then some (2, w41) else if v40 = 3 then some (3, w41) else if v40 = 4 then some (4, w41) else if v40 = 5 then some (5, w41) else if v40 = 6 then some (6, w41) else if v40 = 7 then some (7, w41) else if v40 = 8 then some (8, w41) else if v40 = 9 then some (9, w41) else some ((-1), w41)) fun K245 => if v7 = (-1078031094) then jcb (f_J3_equals_a17 v1 5 w8) fun v10 w11 => if v10 = 0 then K245 (-1) w11 else K245 1 w11 else if v7 = (-898533970) then jcb (f_J3_equals_a17 v1 4 w8) fun v13 w14 => if v13 = 0 then K245 (-1) w14 else K245 0 w14 else if v7 = 98882 then jcb (f_J3_equals_a17 v1 12 w8) fun v16 w17 => if v16 = 0 then K245 (-1) w17 else K245 9 w17 else if v7 = 113762 then jcb (f_J3_equals_a17 v1 11 w8) fun v19 w20 => if v19 = 0 then K245 (-1) w20 else K245 7 w20 else if v7 = 3056464 then jcb (f_J3_equals_a17 v1 8 w8) fun v22 w23 => if v22 = 0 then K245 (-1) w23 else K245 4 w23 else if v7 = 3145593 then jcb (f_J3_equals_a17 v1 6 w8) fun v25 w26 => if v25 = 0 then K245 (-1) w26 else K245 2 w26 else if v7 = 3321611 then jcb (f_J3_equals_a17 v1 9 w8) fun v28 w29 => if v28 = 0 then K245 (-1) w29 else K245 5 w29 else if v7 = 3571837 then jcb (f_J3_equals_a17 v1 7 w8) fun v31 w32 => if v31 = 0 then K245 (-1) w32 else K245 3 w32 else if v7 = 104998682 then jcb (f_J3_equals_a17 v1 1 w8) fun v34 w35 => if v34 = 0 then K245 (-1) w35 else K245 8 w35 else if v7 = 109250890 then jcb (f_J3_equals_a17 v1 10 w8) fun v37 w38 => if v37 = 0 then K245 (-1) w38 else K245 6 w38 else K245 (-1) w8
abbrev rm_X1_sortOf : Room := { frames := 6, cells := 2, slots := 604, locals := 171 }
set_option maxRecDepth 100000 in
set_option maxHeartbeats 4000000 in
theorem mt_X1_sortOf {g : j_G} {B : j_B} {i0 : Nat} {w w' : j_St} (b0 : B.2.1 16 i0 ∧ B.2.2 16 i0) (hL : j_lit g B)  {r : Int32} (h : f_X1_sortOf i0 w = some (r, w')) : j_MA g yX1_sortOf cX1_sortOf 3 (some FieldType.int) rm_X1_sortOf B [.ref (B.1 16 i0)] w w' ((fun r _ => jri r) r) ((fun _ _ _ => True) r w') := by
  refine j_metA (rv := (fun r _ => jri r)) (PB := (fun _ _ _ => True)) (by decide) (Nat.le_of_ble_eq_true rfl) (fun x hx hnm => ?_) h
  unfold f_X1_sortOf
  refine J.sub (lv' := [(0, .ref (B.1 16 i0))]) [0] rfl ?_
  refine J.aload_n hx dX1_sortOf_0 rfl 0 rfl ?_
  refine J.callAr (κ := 15) hx (fun r z1 z => j_callA_of5 (j_runF (n := 0) (κ := 16) hx rfl rfl b0.1 (mt_J2_toString b0 z) (j_wF q928 q653 q655 q133 q657) (List.mem_of_getElem? (i := 4) rfl) (by decide +kernel) rfl ⟨Nat.le_of_ble_eq_true rfl, Nat.le_of_ble_eq_true rfl⟩ (Nat.le_of_ble_eq_true rfl) dX1_sortOf_1)) ⟨Nat.le_of_ble_eq_true rfl, Nat.le_of_ble_eq_true rfl⟩ fun v1 w2 B4 e3 x5 x6 => ?_
  refine J.cv (lv' := [(0, .ref (B4.1 16 i0))]) (st' := [.ref (B4.1 15 v1)]) (by first | rfl | (simp only [x5.ad b0]; done) | (simp only [x5.ad b0]; rfl)) (by first | rfl | (simp only [x5.ad b0]; done) | (simp only [x5.ad b0]; rfl)) ?_
  refine J.astore_n (lv' := [(1, .ref (B4.1 15 v1)), (0, .ref (B4.1 16 i0))]) hx dX1_sortOf_6 rfl (by decide) rfl ?_
  refine J.iconst (v := (-1)) hx dX1_sortOf_7 (by decide) ?_
  refine J.istore_n (lv' := [(2, .int (-1)), (1, .ref (B4.1 15 v1)), (0, .ref (B4.1 16 i0))]) hx dX1_sortOf_8 rfl (by decide) rfl ?_
  refine J.aload_n hx dX1_sortOf_9 rfl 1 rfl ?_
  refine J.calli hx (fun r z1 z => j_callV (κ := 15) hx rfl rfl x6.1 (mt_J3_hashCode x6 z) (lw_V q929 q718 q719 q134 q720) hd_J3_hashCode rfl ⟨Nat.le_of_ble_eq_true rfl, Nat.le_of_ble_eq_true rfl⟩ (Nat.le_of_ble_eq_true rfl) dX1_sortOf_10) ⟨⟨rfl, rfl⟩, (Nat.le_of_ble_eq_true rfl), (Nat.le_of_ble_eq_true rfl)⟩ fun v7 w8 e9 => ?_
  refine J.fn (fun (K245 : Int32 → j_St → Option (Int32 × j_St)) => ∀ (v40 : Int32) (B42 : j_B) (x43 : j_ext B4 B42) (w41 : j_St), J g x 3 B42 (j_QA g x B rm_X1_sortOf (fun r _ => jri r) (fun _ _ _ => True)) 2 604 (K245 v40 w41) 245 [(2, .int v40)] [] w41) ?_ ?_
  · intro v40 B42 x43 w41
    refine J.iload_n hx dX1_sortOf_245 rfl 0 rfl ?_
    refine J.ite (fun e0 => ?_) (fun n0 => ?_)
    · refine J.tsw (off := 54) (tgt := 300) hx dX1_sortOf_246 (by rw [e0]; decide) (by rw [e0]; decide) (by rw [e0]; rfl) (by decide) ?_
      refine J.iconst (v := 0) hx dX1_sortOf_300 (by decide) ?_
      refine J.goto (tgt := 345) hx dX1_sortOf_301 (by decide) ?_
      exact J.iretA hx ((j_ext.rf.tr x5).tr x43) trivial rfl (Nat.le_of_ble_eq_true rfl) (Nat.le_of_ble_eq_true rfl) dX1_sortOf_345
    · refine J.ite (fun e1 => ?_) (fun n1 => ?_)
      · refine J.tsw (off := 58) (tgt := 304) hx dX1_sortOf_246 (by rw [e1]; decide) (by rw [e1]; decide) (by rw [e1]; rfl) (by decide) ?_
        refine J.iconst (v := 1) hx dX1_sortOf_304 (by decide) ?_
        refine J.goto (tgt := 345) hx dX1_sortOf_305 (by decide) ?_
        exact J.iretA hx ((j_ext.rf.tr x5).tr x43) trivial rfl (Nat.le_of_ble_eq_true rfl) (Nat.le_of_ble_eq_true rfl) dX1_sortOf_345
      · refine J.ite (fun e2 => ?_) (fun n2 => ?_)
        · refine J.tsw (off := 62) (tgt := 308) hx dX1_sortOf_246 (by rw [e2]; decide) (by rw [e2]; decide) (by rw [e2]; rfl) (by decide) ?_
          refine J.iconst (v := 2) hx dX1_sortOf_308 (by decide) ?_
          refine J.goto (tgt := 345) hx dX1_sortOf_309 (by decide) ?_
          exact J.iretA hx ((j_ext.rf.tr x5).tr x43) trivial rfl (Nat.le_of_ble_eq_true rfl) (Nat.le_of_ble_eq_true rfl) dX1_sortOf_345
        · refine J.ite (fun e3 => ?_) (fun n3 => ?_)
          · refine J.tsw (off := 66) (tgt := 312) hx dX1_sortOf_246 (by rw [e3]; decide) (by rw [e3]; decide) (by rw [e3]; rfl) (by decide) ?_
            refine J.iconst (v := 3) hx dX1_sortOf_312 (by decide) ?_
            refine J.goto (tgt := 345) hx dX1_sortOf_313 (by decide) ?_
            exact J.iretA hx ((j_ext.rf.tr x5).tr x43) trivial rfl (Nat.le_of_ble_eq_true rfl) (Nat.le_of_ble_eq_true rfl) dX1_sortOf_345
          · refine J.ite (fun e4 => ?_) (fun n4 => ?_)
            · refine J.tsw (off := 70) (tgt := 316) hx dX1_sortOf_246 (by rw [e4]; decide) (by rw [e4]; decide) (by rw [e4]; rfl) (by decide) ?_
              refine J.iconst (v := 4) hx dX1_sortOf_316 (by decide) ?_
              refine J.goto (tgt := 345) hx dX1_sortOf_317 (by decide) ?_
              exact J.iretA hx ((j_ext.rf.tr x5).tr x43) trivial rfl (Nat.le_of_ble_eq_true rfl) (Nat.le_of_ble_eq_true rfl) dX1_sortOf_345
            · refine J.ite (fun e5 => ?_) (fun n5 => ?_)
              · refine J.tsw (off := 74) (tgt := 320) hx dX1_sortOf_246 (by rw [e5]; decide) (by rw [e5]; decide) (by rw [e5]; rfl) (by decide) ?_
                refine J.iconst (v := 5) hx dX1_sortOf_320 (by decide) ?_
                refine J.goto (tgt := 345) hx dX1_sortOf_321 (by decide) ?_
                exact J.iretA hx ((j_ext.rf.tr x5).tr x43) trivial rfl (Nat.le_of_ble_eq_true rfl) (Nat.le_of_ble_eq_true rfl) dX1_sortOf_345
              · refine J.ite (fun e6 => ?_) (fun n6 => ?_)
                · refine J.tsw (off := 78) (tgt := 324) hx dX1_sortOf_246 (by rw [e6]; decide) (by rw [e6]; decide) (by rw [e6]; rfl) (by decide) ?_
                  refine J.bipush (v := 6) hx dX1_sortOf_324 (by decide) ?_
                  refine J.goto (tgt := 345) hx dX1_sortOf_326 (by decide) ?_
                  exact J.iretA hx ((j_ext.rf.tr x5).tr x43) trivial rfl (Nat.le_of_ble_eq_true rfl) (Nat.le_of_ble_eq_true rfl) dX1_sortOf_345
                · refine J.ite (fun e7 => ?_) (fun n7 => ?_)
                  · refine J.tsw (off := 83) (tgt := 329) hx dX1_sortOf_246 (by rw [e7]; decide) (by rw [e7]; decide) (by rw [e7]; rfl) (by decide) ?_
                    refine J.bipush (v := 7) hx dX1_sortOf_329 (by decide) ?_
                    refine J.goto (tgt := 345) hx dX1_sortOf_331 (by decide) ?_
                    exact J.iretA hx ((j_ext.rf.tr x5).tr x43) trivial rfl (Nat.le_of_ble_eq_true rfl) (Nat.le_of_ble_eq_true rfl) dX1_sortOf_345
                  · refine J.ite (fun e8 => ?_) (fun n8 => ?_)
                    · refine J.tsw (off := 88) (tgt := 334) hx dX1_sortOf_246 (by rw [e8]; decide) (by rw [e8]; decide) (by rw [e8]; rfl) (by decide) ?_
                      refine J.bipush (v := 8) hx dX1_sortOf_334 (by decide) ?_
                      refine J.goto (tgt := 345) hx dX1_sortOf_336 (by decide) ?_
                      exact J.iretA hx ((j_ext.rf.tr x5).tr x43) trivial rfl (Nat.le_of_ble_eq_true rfl) (Nat.le_of_ble_eq_true rfl) dX1_sortOf_345
                    · refine J.ite (fun e9 => ?_) (fun n9 => ?_)
                      · refine J.tsw (off := 93) (tgt := 339) hx dX1_sortOf_246 (by rw [e9]; decide) (by rw [e9]; decide) (by rw [e9]; rfl) (by decide) ?_
                        refine J.bipush (v := 9) hx dX1_sortOf_339 (by decide) ?_
                        refine J.goto (tgt := 345) hx dX1_sortOf_341 (by decide) ?_
                        exact J.iretA hx ((j_ext.rf.tr x5).tr x43) trivial rfl (Nat.le_of_ble_eq_true rfl) (Nat.le_of_ble_eq_true rfl) dX1_sortOf_345
                      · have z0 := j_neT n0 (a := 0) (by decide)
                        have z1 := j_neT n1 (a := 1) (by decide)
                        have z2 := j_neT n2 (a := 2) (by decide)
                        have z3 := j_neT n3 (a := 3) (by decide)
                        have z4 := j_neT n4 (a := 4) (by decide)
                        have z5 := j_neT n5 (a := 5) (by decide)
                        have z6 := j_neT n6 (a := 6) (by decide)
                        have z7 := j_neT n7 (a := 7) (by decide)
                        have z8 := j_neT n8 (a := 8) (by decide)
                        have z9 := j_neT n9 (a := 9) (by decide)
                        refine J.tswD (tgt := 344) hx dX1_sortOf_246 (by omega) (by decide) ?_
                        refine J.iconst (v := (-1)) hx dX1_sortOf_344 (by decide) ?_
                        exact J.iretA hx ((j_ext.rf.tr x5).tr x43) trivial rfl (Nat.le_of_ble_eq_true rfl) (Nat.le_of_ble_eq_true rfl) dX1_sortOf_345
  · intro K245 hK245
    refine J.ite (fun em1078031094 => ?_) (fun nm1078031094 => ?_)
    · refine J.lsw (off := 105) (tgt := 118) hx dX1_sortOf_13 (by decide) (by rw [em1078031094] <;> rfl) (by decide) ?_
      refine J.aload_n hx dX1_sortOf_118 rfl 1 rfl ?_
      refine J.ldcS (own := "TracePeaks") (index := 40) (n := 5) hx "median" (List.mem_of_getElem? (i := 5) rfl) (hL.mv (j_ext.rf.tr x5)) (by decide) dX1_sortOf_119 ?_
      refine J.calli hx (fun r z1 z => j_callV (κ := 15) hx rfl rfl x6.1 (mt_J3_equals_a17 x6 ((hL.mv (j_ext.rf.tr x5)).1 5 (by decide)).1 z) (lw_V q931 q772 q773 q134 q774) hd_J3_equals rfl ⟨Nat.le_of_ble_eq_true rfl, Nat.le_of_ble_eq_true rfl⟩ (Nat.le_of_ble_eq_true rfl) dX1_sortOf_121) ⟨⟨rfl, rfl⟩, (Nat.le_of_ble_eq_true rfl), (Nat.le_of_ble_eq_true rfl)⟩ fun v10 w11 e12 => ?_
      refine J.if_eq (tgt := 245) hx dX1_sortOf_124 (by decide) ?_ ?_
      · exact J.sub [0] rfl (hK245 (-1) B4 j_ext.rf w11)
      · refine J.iconst (v := 1) hx dX1_sortOf_127 (by decide) ?_
        refine J.istore_n (lv' := [(2, .int 1), (1, .ref (B4.1 15 v1)), (0, .ref (B4.1 16 i0))]) hx dX1_sortOf_128 rfl (by decide) rfl ?_
        refine J.goto (tgt := 245) hx dX1_sortOf_129 (by decide) ?_
        exact J.sub [0] rfl (hK245 1 B4 j_ext.rf w11)
    · refine J.ite (fun em898533970 => ?_) (fun nm898533970 => ?_)
      · refine J.lsw (off := 91) (tgt := 104) hx dX1_sortOf_13 (by decide) (by rw [em898533970] <;> rfl) (by decide) ?_
        refine J.aload_n hx dX1_sortOf_104 rfl 1 rfl ?_
        refine J.ldcS (own := "TracePeaks") (index := 34) (n := 4) hx "smooth" (List.mem_of_getElem? (i := 4) rfl) (hL.mv (j_ext.rf.tr x5)) (by decide) dX1_sortOf_105 ?_
        refine J.calli hx (fun r z1 z => j_callV (κ := 15) hx rfl rfl x6.1 (mt_J3_equals_a17 x6 ((hL.mv (j_ext.rf.tr x5)).1 4 (by decide)).1 z) (lw_V q931 q772 q773 q134 q774) hd_J3_equals rfl ⟨Nat.le_of_ble_eq_true rfl, Nat.le_of_ble_eq_true rfl⟩ (Nat.le_of_ble_eq_true rfl) dX1_sortOf_107) ⟨⟨rfl, rfl⟩, (Nat.le_of_ble_eq_true rfl), (Nat.le_of_ble_eq_true rfl)⟩ fun v13 w14 e15 => ?_
        refine J.if_eq (tgt := 245) hx dX1_sortOf_110 (by decide) ?_ ?_
        · exact J.sub [0] rfl (hK245 (-1) B4 j_ext.rf w14)
        · refine J.iconst (v := 0) hx dX1_sortOf_113 (by decide) ?_
          refine J.istore_n (lv' := [(2, .int 0), (1, .ref (B4.1 15 v1)), (0, .ref (B4.1 16 i0))]) hx dX1_sortOf_114 rfl (by decide) rfl ?_
          refine J.goto (tgt := 245) hx dX1_sortOf_115 (by decide) ?_
          exact J.sub [0] rfl (hK245 0 B4 j_ext.rf w14)
      · refine J.ite (fun e98882 => ?_) (fun n98882 => ?_)
        · refine J.lsw (off := 220) (tgt := 233) hx dX1_sortOf_13 (by decide) (by rw [e98882] <;> rfl) (by decide) ?_
          refine J.aload_n hx dX1_sortOf_233 rfl 1 rfl ?_
          refine J.ldcS (own := "TracePeaks") (index := 56) (n := 12) hx "cut" (List.mem_of_getElem? (i := 13) rfl) (hL.mv (j_ext.rf.tr x5)) (by decide) dX1_sortOf_234 ?_
          refine J.calli hx (fun r z1 z => j_callV (κ := 15) hx rfl rfl x6.1 (mt_J3_equals_a17 x6 ((hL.mv (j_ext.rf.tr x5)).1 12 (by decide)).1 z) (lw_V q931 q772 q773 q134 q774) hd_J3_equals rfl ⟨Nat.le_of_ble_eq_true rfl, Nat.le_of_ble_eq_true rfl⟩ (Nat.le_of_ble_eq_true rfl) dX1_sortOf_236) ⟨⟨rfl, rfl⟩, (Nat.le_of_ble_eq_true rfl), (Nat.le_of_ble_eq_true rfl)⟩ fun v16 w17 e18 => ?_
          refine J.if_eq (tgt := 245) hx dX1_sortOf_239 (by decide) ?_ ?_
          · exact J.sub [0] rfl (hK245 (-1) B4 j_ext.rf w17)
          · refine J.bipush (v := 9) hx dX1_sortOf_242 (by decide) ?_
            refine J.istore_n (lv' := [(2, .int 9), (1, .ref (B4.1 15 v1)), (0, .ref (B4.1 16 i0))]) hx dX1_sortOf_244 rfl (by decide) rfl ?_
            exact J.sub [0] rfl (hK245 9 B4 j_ext.rf w17)
        · refine J.ite (fun e113762 => ?_) (fun n113762 => ?_)
          · refine J.lsw (off := 190) (tgt := 203) hx dX1_sortOf_13 (by decide) (by rw [e113762] <;> rfl) (by decide) ?_
            refine J.aload_n hx dX1_sortOf_203 rfl 1 rfl ?_
            refine J.ldcS (own := "TracePeaks") (index := 52) (n := 11) hx "set" (List.mem_of_getElem? (i := 11) rfl) (hL.mv (j_ext.rf.tr x5)) (by decide) dX1_sortOf_204 ?_
            refine J.calli hx (fun r z1 z => j_callV (κ := 15) hx rfl rfl x6.1 (mt_J3_equals_a17 x6 ((hL.mv (j_ext.rf.tr x5)).1 11 (by decide)).1 z) (lw_V q931 q772 q773 q134 q774) hd_J3_equals rfl ⟨Nat.le_of_ble_eq_true rfl, Nat.le_of_ble_eq_true rfl⟩ (Nat.le_of_ble_eq_true rfl) dX1_sortOf_206) ⟨⟨rfl, rfl⟩, (Nat.le_of_ble_eq_true rfl), (Nat.le_of_ble_eq_true rfl)⟩ fun v19 w20 e21 => ?_
            refine J.if_eq (tgt := 245) hx dX1_sortOf_209 (by decide) ?_ ?_
            · exact J.sub [0] rfl (hK245 (-1) B4 j_ext.rf w20)
            · refine J.bipush (v := 7) hx dX1_sortOf_212 (by decide) ?_
              refine J.istore_n (lv' := [(2, .int 7), (1, .ref (B4.1 15 v1)), (0, .ref (B4.1 16 i0))]) hx dX1_sortOf_214 rfl (by decide) rfl ?_
              refine J.goto (tgt := 245) hx dX1_sortOf_215 (by decide) ?_
              exact J.sub [0] rfl (hK245 7 B4 j_ext.rf w20)
          · refine J.ite (fun e3056464 => ?_) (fun n3056464 => ?_)
            · refine J.lsw (off := 147) (tgt := 160) hx dX1_sortOf_13 (by decide) (by rw [e3056464] <;> rfl) (by decide) ?_
              refine J.aload_n hx dX1_sortOf_160 rfl 1 rfl ?_
              refine J.ldcS (own := "TracePeaks") (index := 46) (n := 8) hx "clip" (List.mem_of_getElem? (i := 8) rfl) (hL.mv (j_ext.rf.tr x5)) (by decide) dX1_sortOf_161 ?_
              refine J.calli hx (fun r z1 z => j_callV (κ := 15) hx rfl rfl x6.1 (mt_J3_equals_a17 x6 ((hL.mv (j_ext.rf.tr x5)).1 8 (by decide)).1 z) (lw_V q931 q772 q773 q134 q774) hd_J3_equals rfl ⟨Nat.le_of_ble_eq_true rfl, Nat.le_of_ble_eq_true rfl⟩ (Nat.le_of_ble_eq_true rfl) dX1_sortOf_163) ⟨⟨rfl, rfl⟩, (Nat.le_of_ble_eq_true rfl), (Nat.le_of_ble_eq_true rfl)⟩ fun v22 w23 e24 => ?_
              refine J.if_eq (tgt := 245) hx dX1_sortOf_166 (by decide) ?_ ?_
              · exact J.sub [0] rfl (hK245 (-1) B4 j_ext.rf w23)
              · refine J.iconst (v := 4) hx dX1_sortOf_169 (by decide) ?_
                refine J.istore_n (lv' := [(2, .int 4), (1, .ref (B4.1 15 v1)), (0, .ref (B4.1 16 i0))]) hx dX1_sortOf_170 rfl (by decide) rfl ?_
                refine J.goto (tgt := 245) hx dX1_sortOf_171 (by decide) ?_
                exact J.sub [0] rfl (hK245 4 B4 j_ext.rf w23)
            · refine J.ite (fun e3145593 => ?_) (fun n3145593 => ?_)
              · refine J.lsw (off := 119) (tgt := 132) hx dX1_sortOf_13 (by decide) (by rw [e3145593] <;> rfl) (by decide) ?_
                refine J.aload_n hx dX1_sortOf_132 rfl 1 rfl ?_
                refine J.ldcS (own := "TracePeaks") (index := 42) (n := 6) hx "flat" (List.mem_of_getElem? (i := 6) rfl) (hL.mv (j_ext.rf.tr x5)) (by decide) dX1_sortOf_133 ?_
                refine J.calli hx (fun r z1 z => j_callV (κ := 15) hx rfl rfl x6.1 (mt_J3_equals_a17 x6 ((hL.mv (j_ext.rf.tr x5)).1 6 (by decide)).1 z) (lw_V q931 q772 q773 q134 q774) hd_J3_equals rfl ⟨Nat.le_of_ble_eq_true rfl, Nat.le_of_ble_eq_true rfl⟩ (Nat.le_of_ble_eq_true rfl) dX1_sortOf_135) ⟨⟨rfl, rfl⟩, (Nat.le_of_ble_eq_true rfl), (Nat.le_of_ble_eq_true rfl)⟩ fun v25 w26 e27 => ?_
                refine J.if_eq (tgt := 245) hx dX1_sortOf_138 (by decide) ?_ ?_
                · exact J.sub [0] rfl (hK245 (-1) B4 j_ext.rf w26)
                · refine J.iconst (v := 2) hx dX1_sortOf_141 (by decide) ?_
                  refine J.istore_n (lv' := [(2, .int 2), (1, .ref (B4.1 15 v1)), (0, .ref (B4.1 16 i0))]) hx dX1_sortOf_142 rfl (by decide) rfl ?_
                  refine J.goto (tgt := 245) hx dX1_sortOf_143 (by decide) ?_
                  exact J.sub [0] rfl (hK245 2 B4 j_ext.rf w26)
              · refine J.ite (fun e3321611 => ?_) (fun n3321611 => ?_)
                · refine J.lsw (off := 161) (tgt := 174) hx dX1_sortOf_13 (by decide) (by rw [e3321611] <;> rfl) (by decide) ?_
                  refine J.aload_n hx dX1_sortOf_174 rfl 1 rfl ?_
                  refine J.ldcS (own := "TracePeaks") (index := 48) (n := 9) hx "lift" (List.mem_of_getElem? (i := 9) rfl) (hL.mv (j_ext.rf.tr x5)) (by decide) dX1_sortOf_175 ?_
                  refine J.calli hx (fun r z1 z => j_callV (κ := 15) hx rfl rfl x6.1 (mt_J3_equals_a17 x6 ((hL.mv (j_ext.rf.tr x5)).1 9 (by decide)).1 z) (lw_V q931 q772 q773 q134 q774) hd_J3_equals rfl ⟨Nat.le_of_ble_eq_true rfl, Nat.le_of_ble_eq_true rfl⟩ (Nat.le_of_ble_eq_true rfl) dX1_sortOf_177) ⟨⟨rfl, rfl⟩, (Nat.le_of_ble_eq_true rfl), (Nat.le_of_ble_eq_true rfl)⟩ fun v28 w29 e30 => ?_
                  refine J.if_eq (tgt := 245) hx dX1_sortOf_180 (by decide) ?_ ?_
                  · exact J.sub [0] rfl (hK245 (-1) B4 j_ext.rf w29)
                  · refine J.iconst (v := 5) hx dX1_sortOf_183 (by decide) ?_
                    refine J.istore_n (lv' := [(2, .int 5), (1, .ref (B4.1 15 v1)), (0, .ref (B4.1 16 i0))]) hx dX1_sortOf_184 rfl (by decide) rfl ?_
                    refine J.goto (tgt := 245) hx dX1_sortOf_185 (by decide) ?_
                    exact J.sub [0] rfl (hK245 5 B4 j_ext.rf w29)
                · refine J.ite (fun e3571837 => ?_) (fun n3571837 => ?_)
                  · refine J.lsw (off := 133) (tgt := 146) hx dX1_sortOf_13 (by decide) (by rw [e3571837] <;> rfl) (by decide) ?_
                    refine J.aload_n hx dX1_sortOf_146 rfl 1 rfl ?_
                    refine J.ldcS (own := "TracePeaks") (index := 44) (n := 7) hx "turn" (List.mem_of_getElem? (i := 7) rfl) (hL.mv (j_ext.rf.tr x5)) (by decide) dX1_sortOf_147 ?_
                    refine J.calli hx (fun r z1 z => j_callV (κ := 15) hx rfl rfl x6.1 (mt_J3_equals_a17 x6 ((hL.mv (j_ext.rf.tr x5)).1 7 (by decide)).1 z) (lw_V q931 q772 q773 q134 q774) hd_J3_equals rfl ⟨Nat.le_of_ble_eq_true rfl, Nat.le_of_ble_eq_true rfl⟩ (Nat.le_of_ble_eq_true rfl) dX1_sortOf_149) ⟨⟨rfl, rfl⟩, (Nat.le_of_ble_eq_true rfl), (Nat.le_of_ble_eq_true rfl)⟩ fun v31 w32 e33 => ?_
                    refine J.if_eq (tgt := 245) hx dX1_sortOf_152 (by decide) ?_ ?_
                    · exact J.sub [0] rfl (hK245 (-1) B4 j_ext.rf w32)
                    · refine J.iconst (v := 3) hx dX1_sortOf_155 (by decide) ?_
                      refine J.istore_n (lv' := [(2, .int 3), (1, .ref (B4.1 15 v1)), (0, .ref (B4.1 16 i0))]) hx dX1_sortOf_156 rfl (by decide) rfl ?_
                      refine J.goto (tgt := 245) hx dX1_sortOf_157 (by decide) ?_
                      exact J.sub [0] rfl (hK245 3 B4 j_ext.rf w32)
                  · refine J.ite (fun e104998682 => ?_) (fun n104998682 => ?_)
                    · refine J.lsw (off := 205) (tgt := 218) hx dX1_sortOf_13 (by decide) (by rw [e104998682] <;> rfl) (by decide) ?_
                      refine J.aload_n hx dX1_sortOf_218 rfl 1 rfl ?_
                      refine J.ldcS (own := "TracePeaks") (index := 54) (n := 1) hx "noise" (List.mem_of_getElem? (i := 12) rfl) (hL.mv (j_ext.rf.tr x5)) (by decide) dX1_sortOf_219 ?_
                      refine J.calli hx (fun r z1 z => j_callV (κ := 15) hx rfl rfl x6.1 (mt_J3_equals_a17 x6 ((hL.mv (j_ext.rf.tr x5)).1 1 (by decide)).1 z) (lw_V q931 q772 q773 q134 q774) hd_J3_equals rfl ⟨Nat.le_of_ble_eq_true rfl, Nat.le_of_ble_eq_true rfl⟩ (Nat.le_of_ble_eq_true rfl) dX1_sortOf_221) ⟨⟨rfl, rfl⟩, (Nat.le_of_ble_eq_true rfl), (Nat.le_of_ble_eq_true rfl)⟩ fun v34 w35 e36 => ?_
                      refine J.if_eq (tgt := 245) hx dX1_sortOf_224 (by decide) ?_ ?_
                      · exact J.sub [0] rfl (hK245 (-1) B4 j_ext.rf w35)
                      · refine J.bipush (v := 8) hx dX1_sortOf_227 (by decide) ?_
                        refine J.istore_n (lv' := [(2, .int 8), (1, .ref (B4.1 15 v1)), (0, .ref (B4.1 16 i0))]) hx dX1_sortOf_229 rfl (by decide) rfl ?_
                        refine J.goto (tgt := 245) hx dX1_sortOf_230 (by decide) ?_
                        exact J.sub [0] rfl (hK245 8 B4 j_ext.rf w35)
                    · refine J.ite (fun e109250890 => ?_) (fun n109250890 => ?_)
                      · refine J.lsw (off := 175) (tgt := 188) hx dX1_sortOf_13 (by decide) (by rw [e109250890] <;> rfl) (by decide) ?_
                        refine J.aload_n hx dX1_sortOf_188 rfl 1 rfl ?_
                        refine J.ldcS (own := "TracePeaks") (index := 50) (n := 10) hx "scale" (List.mem_of_getElem? (i := 10) rfl) (hL.mv (j_ext.rf.tr x5)) (by decide) dX1_sortOf_189 ?_
                        refine J.calli hx (fun r z1 z => j_callV (κ := 15) hx rfl rfl x6.1 (mt_J3_equals_a17 x6 ((hL.mv (j_ext.rf.tr x5)).1 10 (by decide)).1 z) (lw_V q931 q772 q773 q134 q774) hd_J3_equals rfl ⟨Nat.le_of_ble_eq_true rfl, Nat.le_of_ble_eq_true rfl⟩ (Nat.le_of_ble_eq_true rfl) dX1_sortOf_191) ⟨⟨rfl, rfl⟩, (Nat.le_of_ble_eq_true rfl), (Nat.le_of_ble_eq_true rfl)⟩ fun v37 w38 e39 => ?_
                        refine J.if_eq (tgt := 245) hx dX1_sortOf_194 (by decide) ?_ ?_
                        · exact J.sub [0] rfl (hK245 (-1) B4 j_ext.rf w38)
                        · refine J.bipush (v := 6) hx dX1_sortOf_197 (by decide) ?_
                          refine J.istore_n (lv' := [(2, .int 6), (1, .ref (B4.1 15 v1)), (0, .ref (B4.1 16 i0))]) hx dX1_sortOf_199 rfl (by decide) rfl ?_
                          refine J.goto (tgt := 245) hx dX1_sortOf_200 (by decide) ?_
                          exact J.sub [0] rfl (hK245 6 B4 j_ext.rf w38)
                      · refine J.lsw (off := 232) (tgt := 245) hx dX1_sortOf_13 (by decide) ((lv_osw nm1078031094 (by decide)).trans ((lv_osw nm898533970 (by decide)).trans ((lv_osw n98882 (by decide)).trans ((lv_osw n113762 (by decide)).trans ((lv_osw n3056464 (by decide)).trans ((lv_osw n3145593 (by decide)).trans ((lv_osw n3321611 (by decide)).trans ((lv_osw n3571837 (by decide)).trans ((lv_osw n104998682 (by decide)).trans ((lv_osw n109250890 (by decide)).trans rfl)))))))))) (by decide) ?_
                        exact J.sub [0] rfl (hK245 (-1) B4 j_ext.rf w8)
theorem hd_X10_trace : yX10_trace.cls = RX10 ∧ yX10_trace.cls ≠ "java/lang/invoke/MethodHandle" ∧ yX10_trace.cls ≠ "java/lang/invoke/VarHandle" ∧ (parseMethodDescriptor yX10_trace.desc).map (fun d => d.parameters.length) = some 0 := by decide +kernel
def f_X10_trace_L10 (i0 : Nat) (n1 : Nat) (k24 : Nat → Nat → j_St → Option ((Nat ⊕ Nat) × j_St)) : Nat → Int32 → Nat → Nat → j_St → Option ((Nat ⊕ Nat) × j_St)
  | 0, _, _, _, _ => none
  | n10 + 1, v20, c24, c25, w21 => if c24 + 64 ≤ 790 ∧ c25 + 16000 ≤ 192300 then jcx (f_X10_clause i0 n1 v20 w21) fun v26 w27 => if c24 + 64 + 1 ≤ 790 ∧ c25 + 16000 + 7 ≤ 192300 then jcx (f_X10_goesOn i0 w27) fun v33 w34 => if v33 = 0 then k24 (c24 + 64 + 1) (c25 + 16000 + 7) w34 else f_X10_trace_L10 i0 n1 k24 n10 v26 (c24 + 64 + 1) (c25 + 16000 + 7) w34 else none else none
def f_X10_trace (i0 : Nat) (w : j_St) : Option ((Nat ⊕ Nat) × j_St) := jlt (jgn w 106 0) fun n1 => jlt (jbump w 6) fun w3 => jlt (jnw w3 6 n1 0) fun w12 => jcb (f_X11_init n1 w12) fun _ w15 => f_X10_trace_L10 i0 n1 (fun (c43 : Nat) (c44 : Nat) (w40 : j_St) => jlt (jgi w40 4 (2 * n1 + 2) 1) fun v46 => if v46 = 0 then jlt (jgn w40 109 0) fun n48 => jlt (jbump w40 9) fun w50 => if c43 + 1 ≤ 790 ∧ c44 + 7 ≤ 192300 then jlt (jnw w50 9 n48 0) fun w55 => jlt (jgi w55 8 i0 0) fun v58 => if c43 + 1 + 0 ≤ 790 ∧ c44 + 7 + 0 ≤ 192300 then jcb (f_X12_init n48 v58 w55) fun _ w60 => if c43 + 1 + 0 ≤ 790 ∧ c44 + 7 + 0 ≤ 192300 then some (.inl n48, w60) else none else none else none else if c43 ≤ 790 ∧ c44 ≤ 192300 then some (.inr n1, w40) else none) jFU 0 5 72 w15
abbrev rm_X10_trace : Room := { frames := 9, cells := 790, slots := 192300, locals := 245 }
set_option maxRecDepth 100000 in
set_option maxHeartbeats 4000000 in
theorem mt_X10_trace {g : j_G} {B : j_B} {i0 : Nat} {w w' : j_St} (a0 : B.2.1 8 i0 ∧ B.2.2 8 i0) (hL : j_lit g B)  {r : (Nat ⊕ Nat)} (h : f_X10_trace i0 w = some (r, w')) : j_MX g yX10_trace cX10_trace 3 (some (FieldType.object "TracePeaks$Trace")) rm_X10_trace B [.ref (B.1 8 i0)] w w' r (fun r B => jrr B 6 r) (fun r _ B9 => B9.2.1 6 r ∧ B9.2.2 6 r) := by
  refine j_metX (rv := (fun r B => jrr B 6 r)) (PB := (fun r _ B9 => B9.2.1 6 r ∧ B9.2.2 6 r)) (by decide) (Nat.le_of_ble_eq_true rfl) (fun x hx hnt => ?_) h
  unfold f_X10_trace
  refine J.sub (lv' := [(0, .ref (B.1 8 i0))]) [0] rfl ?_
  refine J.nmx fun n1 e2 => ?_
  refine J.fact (P := ¬ B.2.1 6 n1) (fun H hR z => by have h9 := hR.2.2.2.2.2.2.2.2.2 _ _ z; simp only [jcnt] at h9; simp at h9; omega) fun h5 => ?_
  refine J.fact (P := ¬ B.2.1 4 (2 * n1 + 2)) (fun H hR z => by have h9 := hR.2.2.2.2.2.2.2.2.2 _ _ z; simp only [jcnt] at h9; simp at h9; omega) fun h6 => ?_
  refine J.fact (P := ¬ B.2.1 32 (2 * n1 + 2)) (fun H hR z => by have h9 := hR.2.2.2.2.2.2.2.2.2 _ _ z; simp only [jcnt] at h9; simp at h9; omega) fun h7 => ?_
  refine J.fact (P := ¬ B.2.1 34 n1) (fun H hR z => by have h9 := hR.2.2.2.2.2.2.2.2.2 _ _ z; simp only [jcnt] at h9; simp at h9; omega) fun h8 => ?_
  refine J.fact (P := ¬ B.2.1 35 n1) (fun H hR z => by have h9 := hR.2.2.2.2.2.2.2.2.2 _ _ z; simp only [jcnt] at h9; simp at h9; omega) fun h9 => ?_
  refine J.bumpe fun w3 e4 => ?_
  refine J.fact (P := ¬ B.2.2 6 n1) (fun H hR z => h5 (hR.2.2.2.2.2.2.2.2.1 _ _ z)) fun h10 => ?_
  refine J.new (κ := 6) (i := n1) hx rfl rfl in_X11 tyX11_ok (by decide +kernel) (by decide) h5 h10 (by rw [e4, e2]; simp [jcnt, jbump, jgn]) q461 q462 q131 ⟨Nat.le_of_ble_eq_true rfl, Nat.le_of_ble_eq_true rfl⟩ dX10_trace_0 fun z13 w12 => ?_
  refine J.dup hx dX10_trace_3 rfl ?_
  refine J.callAv hx (fun r z1 z => j_callA_of (j_runIN (κ := 6) hx (mt_X11_init jbn_alh (jbn_noK h6 (by decide)) (jbn_noK h7 (by decide)) (jbn_noK h8 (by decide)) (jbn_noK h9 (by decide)) h10 z) (lw_meth q465) (j_nl q463 rfl) q464 q131 rfl hd_X11_init.2 rfl ⟨Nat.le_of_ble_eq_true rfl, Nat.le_of_ble_eq_true rfl⟩ (Nat.le_of_ble_eq_true rfl) dX10_trace_4)) ⟨Nat.le_of_ble_eq_true rfl, Nat.le_of_ble_eq_true rfl⟩ fun _ w15 B17 e16 x18 x19 => ?_
  refine J.cv (lv' := [(0, .ref (B17.1 8 i0))]) (st' := [.ref (B17.1 6 n1)]) (by first | rfl | (simp only [x18.ad (jbn_old a0), x18.adh jbn_alh]; done) | (simp only [x18.ad (jbn_old a0), x18.adh jbn_alh]; rfl)) (by first | rfl | (simp only [x18.ad (jbn_old a0), x18.adh jbn_alh]; done) | (simp only [x18.ad (jbn_old a0), x18.adh jbn_alh]; rfl)) ?_
  refine J.built (jS6 n1) (jb_X11 e16 (x18.mvh jbn_alh) x19) ?_
  refine J.astore_n (lv' := [(1, .ref ((jbb B17 (jS6 n1)).1 6 n1)), (0, .ref ((jbb B17 (jS6 n1)).1 8 i0))]) hx dX10_trace_7 rfl (by decide) rfl ?_
  refine J.iconst (v := 0) hx dX10_trace_8 (by decide) ?_
  refine J.istore_n (lv' := [(2, .int 0), (1, .ref ((jbb B17 (jS6 n1)).1 6 n1)), (0, .ref ((jbb B17 (jS6 n1)).1 8 i0))]) hx dX10_trace_9 rfl (by decide) rfl ?_
  have hL10 : ∀ (k24 : Nat → Nat → j_St → Option ((Nat ⊕ Nat) × j_St)) (hk24 : ∀  (c43 : Nat) (c44 : Nat) (B41 : j_B) (x42 : j_ext (jbb B17 (jS6 n1)) B41) (w40 : j_St), J g x 3 B41 (j_QX g x B rm_X10_trace (fun r B => jrr B 6 r) (fun r _ B9 => B9.2.1 6 r ∧ B9.2.2 6 r)) c43 c44 (k24 c43 c44 w40) 24 [(0, .ref (B41.1 8 i0)), (1, .ref (B41.1 6 n1))] [] w40) (n10 : Nat) (v20 : Int32) (c24 c25 : Nat) (B22 : j_B) (x23 : j_ext (jbb B17 (jS6 n1)) B22) (w21 : j_St), J g x 3 B22 (j_QX g x B rm_X10_trace (fun r B => jrr B 6 r) (fun r _ B9 => B9.2.1 6 r ∧ B9.2.2 6 r)) c24 c25 (f_X10_trace_L10 i0 n1 k24 n10 v20 c24 c25 w21) 10 [(0, .ref (B22.1 8 i0)), (1, .ref (B22.1 6 n1)), (2, .int v20)] [] w21 := by
    intro k24 hk24 n10
    induction n10 with
    | zero =>
      intro v20 c24 c25 B22 x23 w21
      rw [f_X10_trace_L10]
      exact J.nne
    | succ n10 ih =>
      intro v20 c24 c25 B22 x23 w21
      rw [f_X10_trace_L10]
      refine J.aload_n hx dX10_trace_10 rfl 0 rfl ?_
      refine J.aload_n hx dX10_trace_11 rfl 1 rfl ?_
      refine J.iload_n hx dX10_trace_12 rfl 2 rfl ?_
      refine J.ite (fun h29 => ?_) (fun _ => J.nne)
      refine J.callX (rvY := (fun v _ => jri v)) hx hnt (fun r z1 z => j_callVX (κ := 8) hx rfl rfl (x23.mv (jbb_ext.mv (x18.mv (jbn_old a0)))).1 (mt_X10_clause (x23.mv (jbb_ext.mv (x18.mv (jbn_old a0)))) (x23.mv (jbb_own (S := jS6 n1) (x18.mvh jbn_alh).1 jS6_o)) (hL.mv ((((j_ext.rf.tr (jbn_ext h5)).tr x18).tr jbb_ext).tr x23)) z) (lw_V q504 q506 qs2 q130 q507) hd_X10_clause rfl ⟨Nat.le_of_ble_eq_true rfl, Nat.le_of_ble_eq_true rfl⟩ (Nat.le_of_ble_eq_true rfl) dX10_trace_13) ((((j_ext.rf.tr (jbn_ext h5)).tr x18).tr jbb_ext).tr x23) h29 fun v26 w27 B30 e28 x31 x32 => ?_
      refine J.cv (lv' := [(0, .ref (B30.1 8 i0)), (1, .ref (B30.1 6 n1)), (2, .int v20)]) (st' := [.int v26]) (by first | rfl | (simp only [x31.ad (x23.mv (jbb_ext.mv (x18.mv (jbn_old a0)))), x31.ad (x23.mv (jbb_own (S := jS6 n1) (x18.mvh jbn_alh).1 jS6_o))]; done) | (simp only [x31.ad (x23.mv (jbb_ext.mv (x18.mv (jbn_old a0)))), x31.ad (x23.mv (jbb_own (S := jS6 n1) (x18.mvh jbn_alh).1 jS6_o))]; rfl)) (by first | rfl | (simp only [x31.ad (x23.mv (jbb_ext.mv (x18.mv (jbn_old a0)))), x31.ad (x23.mv (jbb_own (S := jS6 n1) (x18.mvh jbn_alh).1 jS6_o))]; done) | (simp only [x31.ad (x23.mv (jbb_ext.mv (x18.mv (jbn_old a0)))), x31.ad (x23.mv (jbb_own (S := jS6 n1) (x18.mvh jbn_alh).1 jS6_o))]; rfl)) ?_
      refine J.istore_n (lv' := [(2, .int v26), (0, .ref (B30.1 8 i0)), (1, .ref (B30.1 6 n1))]) hx dX10_trace_16 rfl (by decide) rfl ?_
      refine J.aload_n hx dX10_trace_17 rfl 1 rfl ?_
      refine J.ite (fun h36 => ?_) (fun _ => J.nne)
      refine J.callX (rvY := (fun v _ => jri v)) hx hnt (fun r z1 z => j_callVX (κ := 8) hx rfl rfl (x31.mv (x23.mv (jbb_ext.mv (x18.mv (jbn_old a0))))).1 (mt_X10_goesOn (x31.mv (x23.mv (jbb_ext.mv (x18.mv (jbn_old a0))))) z) (lw_V q892 q894 qs11 q130 q895) hd_X10_goesOn rfl ⟨Nat.le_of_ble_eq_true rfl, Nat.le_of_ble_eq_true rfl⟩ (Nat.le_of_ble_eq_true rfl) dX10_trace_18) (((((j_ext.rf.tr (jbn_ext h5)).tr x18).tr jbb_ext).tr x23).tr x31) h36 fun v33 w34 B37 e35 x38 x39 => ?_
      refine J.cv (lv' := [(2, .int v26), (0, .ref (B37.1 8 i0)), (1, .ref (B37.1 6 n1))]) (st' := [.int v33]) (by first | rfl | (simp only [x38.ad (x31.mv (x23.mv (jbb_ext.mv (x18.mv (jbn_old a0))))), x38.ad (x31.mv (x23.mv (jbb_own (S := jS6 n1) (x18.mvh jbn_alh).1 jS6_o)))]; done) | (simp only [x38.ad (x31.mv (x23.mv (jbb_ext.mv (x18.mv (jbn_old a0))))), x38.ad (x31.mv (x23.mv (jbb_own (S := jS6 n1) (x18.mvh jbn_alh).1 jS6_o)))]; rfl)) (by first | rfl | (simp only [x38.ad (x31.mv (x23.mv (jbb_ext.mv (x18.mv (jbn_old a0))))), x38.ad (x31.mv (x23.mv (jbb_own (S := jS6 n1) (x18.mvh jbn_alh).1 jS6_o)))]; done) | (simp only [x38.ad (x31.mv (x23.mv (jbb_ext.mv (x18.mv (jbn_old a0))))), x38.ad (x31.mv (x23.mv (jbb_own (S := jS6 n1) (x18.mvh jbn_alh).1 jS6_o)))]; rfl)) ?_
      refine J.if_ne (tgt := 10) hx dX10_trace_21 (by decide) ?_ ?_
      · exact J.sub [1, 2] rfl (hk24 (c24 + 64 + 1) (c25 + 16000 + 7) B37 ((x23.tr x31).tr x38) w34)
      · exact J.sub [1, 2, 0] rfl (ih v26 (c24 + 64 + 1) (c25 + 16000 + 7) B37 ((x23.tr x31).tr x38) w34)
  refine J.sub [2, 1, 0] rfl (hL10 _ ?_ jFU 0 5 72 (jbb B17 (jS6 n1)) j_ext.rf w15)
  · intro c43 c44 B41 x42 w40
    refine J.aload_n hx dX10_trace_24 rfl 1 rfl ?_
    refine J.getc (κ' := 4) (i' := (2 * n1 + 2)) (κ := 6) (k := 0) hx rfl rfl rfl rfl rfl in_X11 (by decide) (Or.inr ⟨_, j_nl q473 rfl⟩) (x42.mv (jbb_own (S := jS6 n1) (x18.mvh jbn_alh).1 jS6_o)).2 dX10_trace_25 fun h45 => ?_
    refine J.geti (κ := 4) (k := 1) hx rfl rfl rfl in_X7 (by decide) (Or.inr ⟨_, j_nl q323 rfl⟩) h45.1 dX10_trace_28 fun v46 => ?_
    refine J.if_ne (tgt := 46) hx dX10_trace_31 (by decide) ?_ ?_
    · refine J.nmx fun n48 e49 => ?_
      refine J.fact (P := ¬ B41.2.1 9 n48) (fun H hR z => by have h9 := hR.2.2.2.2.2.2.2.2.2 _ _ z; simp only [jcnt] at h9; simp at h9; omega) fun h52 => ?_
      refine J.bumpe fun w50 e51 => ?_
      refine J.fact (P := ¬ B41.2.2 9 n48) (fun H hR z => h52 (hR.2.2.2.2.2.2.2.2.1 _ _ z)) fun h53 => ?_
      refine J.ite (fun h57 => ?_) (fun _ => J.nne)
      refine J.newB (κ := 9) (i := n48) hx rfl rfl in_X12 tyX12_ok (by decide +kernel) (by decide) h52 h53 (by rw [e51, e49]; simp [jcnt, jbump, jgn]) jn3_9 q782 q783 q143 h57 dX10_trace_34 fun z56 w55 => ?_
      refine J.dup hx dX10_trace_37 rfl ?_
      refine J.aload_n hx dX10_trace_38 rfl 0 rfl ?_
      refine J.geti (κ := 8) (k := 0) hx rfl rfl rfl in_X10 (by decide) (Or.inl q450) (jN_old (x42.mv (jbb_ext.mv (x18.mv (jbn_old a0))))).1 dX10_trace_39 fun v58 => ?_
      refine J.ite (fun h62 => ?_) (fun _ => J.nne)
      refine J.callAv hx (fun r z1 z => j_callA_of (j_runI (κ := 9) hx (mt_X12_init (j_hf2 jN_al) z) (lw_meth q822) q820 q821 q143 rfl hd_X12_init.2 rfl ⟨Nat.le_of_ble_eq_true rfl, Nat.le_of_ble_eq_true rfl⟩ (Nat.le_of_ble_eq_true rfl) dX10_trace_42)) h62 fun _ w60 B63 e61 x64 x65 => ?_
      refine J.cv (lv' := [(0, .ref (B63.1 8 i0)), (1, .ref (B63.1 6 n1))]) (st' := [.ref (B63.1 9 n48)]) (by first | rfl | (simp only [x64.ad (jN_old (x42.mv (jbb_ext.mv (x18.mv (jbn_old a0))))), x64.ad (jN_old (x42.mv (jbb_own (S := jS6 n1) (x18.mvh jbn_alh).1 jS6_o))), x64.ad jN_al]; done) | (simp only [x64.ad (jN_old (x42.mv (jbb_ext.mv (x18.mv (jbn_old a0))))), x64.ad (jN_old (x42.mv (jbb_own (S := jS6 n1) (x18.mvh jbn_alh).1 jS6_o))), x64.ad jN_al]; rfl)) (by first | rfl | (simp only [x64.ad (jN_old (x42.mv (jbb_ext.mv (x18.mv (jbn_old a0))))), x64.ad (jN_old (x42.mv (jbb_own (S := jS6 n1) (x18.mvh jbn_alh).1 jS6_o))), x64.ad jN_al]; done) | (simp only [x64.ad (jN_old (x42.mv (jbb_ext.mv (x18.mv (jbn_old a0))))), x64.ad (jN_old (x42.mv (jbb_own (S := jS6 n1) (x18.mvh jbn_alh).1 jS6_o))), x64.ad jN_al]; rfl)) ?_
      refine J.ite (fun h66 => ?_) (fun _ => J.nne)
      exact J.throw hx hnt (n := n48) ((((((j_ext.rf.tr (jbn_ext h5)).tr x18).tr jbb_ext).tr x42).tr (jN_ext h52)).tr x64) (x64.mv jN_al) h66.1 h66.2 dX10_trace_45
    · refine J.aload_n hx dX10_trace_46 rfl 1 rfl ?_
      refine J.ite (fun h47 => ?_) (fun _ => J.nne)
      exact J.aretX (κ := 6) (q := n1) hx ((((j_ext.rf.tr (jbn_ext h5)).tr x18).tr jbb_ext).tr x42) (x42.mv (jbb_own (S := jS6 n1) (x18.mvh jbn_alh).1 jS6_o)) rfl (Or.inl ⟨_, rfl⟩) h47.1 h47.2 dX10_trace_47
theorem hd_X10_step : yX10_step.cls = RX10 ∧ yX10_step.cls ≠ "java/lang/invoke/MethodHandle" ∧ yX10_step.cls ≠ "java/lang/invoke/VarHandle" ∧ (parseMethodDescriptor yX10_step.desc).map (fun d => d.parameters.length) = some 1 := by decide +kernel
def f_X10_step_L48 (i0 : Nat) (i1 : Nat) (v11 : Int32) (k97 : Nat → Nat → j_St → Option ((Nat ⊕ Unit) × j_St)) : Nat → Int32 → Nat → Nat → j_St → Option ((Nat ⊕ Unit) × j_St)
  | 0, _, _, _, _ => none
  | n48 + 1, v21, c25, c26, w22 => if 2 ≤ v21 then k97 c25 c26 w22 else jlt (jgi w22 7 i1 2) fun v28 => if c25 ≤ 16 ∧ c26 ≤ 5460 then jcb (f_X1_numbersOf v11 w22) fun v29 w30 => jlt (fun (v40 : Int32) (c44 : Nat) (c45 : Nat) (w41 : j_St) => jbd ((2 * v28) + v21) 24 fun a47 => jlt (jsi w41 37 i1 a47 v40) fun w46 => jlt (v21 + 1) fun v48 => f_X10_step_L48 i0 i1 v11 k97 n48 v48 c44 c45 w46) fun K90 => if v29 ≤ v21 then K90 (-1000000) c25 c26 w30 else if c25 + 1 ≤ 16 ∧ c26 + 7 ≤ 5460 then jcx (f_X10_number i0 1 999 w30) fun v33 w34 => K90 v33 (c25 + 1) (c26 + 7) w34 else none else none
def f_X10_step (i0 : Nat) (i1 : Nat) (w : j_St) : Option ((Nat ⊕ Unit) × j_St) := jcb (f_X10_peek i0 w) fun v1 w2 => jlt (jgi w2 8 i0 0) fun v4 => jcb (f_X10_word i0 w2) fun v5 w6 => jcb (f_X1_sortOf v5 w6) fun v11 w12 => if v11 = (-1) then jlt (jgn w12 109 0) fun n57 => jlt (jbump w12 9) fun w59 => jlt (jnw w59 9 n57 0) fun w64 => jcb (f_X12_init n57 v4 w64) fun _ w67 => some (.inl n57, w67) else jlt (jgi w12 7 i1 2) fun v18 => jbd v18 12 fun a20 => jlt (jsi w12 36 i1 a20 v11) fun w19 => f_X10_step_L48 i0 i1 v11 (fun (c52 : Nat) (c53 : Nat) (w49 : j_St) => jlt (jgi w49 7 i1 2) fun v54 => jlt (jsi w49 7 i1 2 (v54 + 1)) fun w55 => if c52 ≤ 16 ∧ c53 ≤ 5460 then some (.inr (), w55) else none) jFU 0 12 5424 w19
abbrev rm_X10_step : Room := { frames := 7, cells := 16, slots := 5460, locals := 193 }
set_option maxRecDepth 100000 in
set_option maxHeartbeats 4000000 in
theorem mt_X10_step {g : j_G} {B : j_B} {i0 : Nat} {i1 : Nat} {w w' : j_St} (a0 : B.2.1 8 i0 ∧ B.2.2 8 i0) (b1 : B.2.1 7 i1 ∧ B.2.2 7 i1) (hL : j_lit g B)  {r : (Nat ⊕ Unit)} (h : f_X10_step i0 i1 w = some (r, w')) : j_MX g yX10_step cX10_step 6 none rm_X10_step B [.ref (B.1 8 i0), .ref (B.1 7 i1)] w w' r (fun _ _ => none) (fun _ _ _ => True) := by
  refine j_metX (rv := (fun _ _ => none)) (PB := (fun _ _ _ => True)) (by decide) (Nat.le_of_ble_eq_true rfl) (fun x hx hnt => ?_) h
  unfold f_X10_step
  refine J.sub (lv' := [(0, .ref (B.1 8 i0)), (1, .ref (B.1 7 i1))]) [0, 1] rfl ?_
  refine J.aload_n hx dX10_step_0 rfl 0 rfl ?_
  refine J.calli hx (fun r z1 z => j_callV (κ := 8) hx rfl rfl a0.1 (mt_X10_peek a0 z) (lw_V q508 q510 qs3 q130 q511) hd_X10_peek rfl ⟨Nat.le_of_ble_eq_true rfl, Nat.le_of_ble_eq_true rfl⟩ (Nat.le_of_ble_eq_true rfl) dX10_step_1) ⟨⟨rfl, rfl⟩, (Nat.le_of_ble_eq_true rfl), (Nat.le_of_ble_eq_true rfl)⟩ fun v1 w2 e3 => ?_
  refine J.istore_n (lv' := [(2, .int v1), (0, .ref (B.1 8 i0)), (1, .ref (B.1 7 i1))]) hx dX10_step_4 rfl (by decide) rfl ?_
  refine J.aload_n hx dX10_step_5 rfl 1 rfl ?_
  refine J.geti (κ := 8) (k := 0) hx rfl rfl rfl in_X10 (by decide) (Or.inl q450) a0.1 dX10_step_6 fun v4 => ?_
  refine J.istore_n (lv' := [(3, .int v4), (2, .int v1), (0, .ref (B.1 8 i0)), (1, .ref (B.1 7 i1))]) hx dX10_step_9 rfl (by decide) rfl ?_
  refine J.aload_n hx dX10_step_10 rfl 2 rfl ?_
  refine J.callAr (κ := 16) hx (fun r z1 z => j_callA_of (j_runV (κ := 8) hx rfl rfl a0.1 (mt_X10_word a0 z) (lw_V q512 q514 qs4 q130 q515) hd_X10_word rfl ⟨Nat.le_of_ble_eq_true rfl, Nat.le_of_ble_eq_true rfl⟩ (Nat.le_of_ble_eq_true rfl) dX10_step_11)) ⟨Nat.le_of_ble_eq_true rfl, Nat.le_of_ble_eq_true rfl⟩ fun v5 w6 B8 e7 x9 x10 => ?_
  refine J.cv (lv' := [(3, .int v4), (2, .int v1), (0, .ref (B8.1 8 i0)), (1, .ref (B8.1 7 i1))]) (st' := [.ref (B8.1 16 v5)]) (by first | rfl | (simp only [x9.ad a0, x9.ad b1]; done) | (simp only [x9.ad a0, x9.ad b1]; rfl)) (by first | rfl | (simp only [x9.ad a0, x9.ad b1]; done) | (simp only [x9.ad a0, x9.ad b1]; rfl)) ?_
  refine J.callAi hx (fun r z1 z => j_callA_of (j_runSN hx (mt_X1_sortOf x10 (hL.mv (j_ext.rf.tr x9)) z) (lw_meth q926) (j_nl q924 rfl) q925 q120 hd_X1_sortOf.2 rfl ⟨Nat.le_of_ble_eq_true rfl, Nat.le_of_ble_eq_true rfl⟩ (Nat.le_of_ble_eq_true rfl) dX10_step_14)) ⟨Nat.le_of_ble_eq_true rfl, Nat.le_of_ble_eq_true rfl⟩ fun v11 w12 B14 e13 x15 x16 => ?_
  refine J.cv (lv' := [(3, .int v4), (2, .int v1), (0, .ref (B14.1 8 i0)), (1, .ref (B14.1 7 i1))]) (st' := [.int v11]) (by first | rfl | (simp only [x15.ad (x9.mv a0), x15.ad (x9.mv b1)]; done) | (simp only [x15.ad (x9.mv a0), x15.ad (x9.mv b1)]; rfl)) (by first | rfl | (simp only [x15.ad (x9.mv a0), x15.ad (x9.mv b1)]; done) | (simp only [x15.ad (x9.mv a0), x15.ad (x9.mv b1)]; rfl)) ?_
  refine J.istore (lv' := [(4, .int v11), (3, .int v4), (2, .int v1), (0, .ref (B14.1 8 i0)), (1, .ref (B14.1 7 i1))]) hx dX10_step_17 (by decide) rfl ?_
  refine J.iload hx dX10_step_19 0 rfl ?_
  refine J.iconst (v := (-1)) hx dX10_step_21 (by decide) ?_
  refine J.icmp_ne (tgt := 34) hx dX10_step_22 (by decide) ?_ ?_
  · refine J.nmx fun n57 e58 => ?_
    refine J.fact (P := ¬ B14.2.1 9 n57) (fun H hR z => by have h9 := hR.2.2.2.2.2.2.2.2.2 _ _ z; simp only [jcnt] at h9; simp at h9; omega) fun h61 => ?_
    refine J.bumpe fun w59 e60 => ?_
    refine J.fact (P := ¬ B14.2.2 9 n57) (fun H hR z => h61 (hR.2.2.2.2.2.2.2.2.1 _ _ z)) fun h62 => ?_
    refine J.newB (κ := 9) (i := n57) hx rfl rfl in_X12 tyX12_ok (by decide +kernel) (by decide) h61 h62 (by rw [e60, e58]; simp [jcnt, jbump, jgn]) jn3_9 q782 q783 q143 ⟨Nat.le_of_ble_eq_true rfl, Nat.le_of_ble_eq_true rfl⟩ dX10_step_25 fun z65 w64 => ?_
    refine J.dup hx dX10_step_28 rfl ?_
    refine J.iload_n hx dX10_step_29 rfl 1 rfl ?_
    refine J.callAv hx (fun r z1 z => j_callA_of (j_runI (κ := 9) hx (mt_X12_init (j_hf2 jN_al) z) (lw_meth q822) q820 q821 q143 rfl hd_X12_init.2 rfl ⟨Nat.le_of_ble_eq_true rfl, Nat.le_of_ble_eq_true rfl⟩ (Nat.le_of_ble_eq_true rfl) dX10_step_30)) ⟨Nat.le_of_ble_eq_true rfl, Nat.le_of_ble_eq_true rfl⟩ fun _ w67 B69 e68 x70 x71 => ?_
    refine J.cv (lv' := [(4, .int v11), (3, .int v4), (2, .int v1), (0, .ref (B69.1 8 i0)), (1, .ref (B69.1 7 i1))]) (st' := [.ref (B69.1 9 n57)]) (by first | rfl | (simp only [x70.ad (jN_old (x15.mv (x9.mv a0))), x70.ad (jN_old (x15.mv (x9.mv b1))), x70.ad jN_al]; done) | (simp only [x70.ad (jN_old (x15.mv (x9.mv a0))), x70.ad (jN_old (x15.mv (x9.mv b1))), x70.ad jN_al]; rfl)) (by first | rfl | (simp only [x70.ad (jN_old (x15.mv (x9.mv a0))), x70.ad (jN_old (x15.mv (x9.mv b1))), x70.ad jN_al]; done) | (simp only [x70.ad (jN_old (x15.mv (x9.mv a0))), x70.ad (jN_old (x15.mv (x9.mv b1))), x70.ad jN_al]; rfl)) ?_
    exact J.throw hx hnt (n := n57) ((((j_ext.rf.tr x9).tr x15).tr (jN_ext h61)).tr x70) (x70.mv jN_al) (Nat.le_of_ble_eq_true rfl) (Nat.le_of_ble_eq_true rfl) dX10_step_33
  · refine J.aload_n hx dX10_step_34 rfl 4 rfl ?_
    refine J.getc (κ' := 36) (i' := i1) (κ := 7) (k := 0) hx rfl rfl rfl rfl rfl in_X13 (by decide) (Or.inr ⟨_, j_nl q907 rfl⟩) (x15.mv (x9.mv b1)).2 dX10_step_35 fun h17 => ?_
    refine J.aload_n hx dX10_step_38 rfl 4 rfl ?_
    refine J.geti (κ := 7) (k := 2) hx rfl rfl rfl in_X13 (by decide) (Or.inr ⟨_, j_nl q911 rfl⟩) (x15.mv (x9.mv b1)).1 dX10_step_39 fun v18 => ?_
    refine J.iload hx dX10_step_42 0 rfl ?_
    refine J.iast (κ := 36) hx rfl rfl rfl h17.1 dX10_step_44 fun w19 => ?_
    refine J.iconst (v := 0) hx dX10_step_45 (by decide) ?_
    refine J.istore (lv' := [(5, .int 0), (4, .int v11), (3, .int v4), (2, .int v1), (0, .ref (B14.1 8 i0)), (1, .ref (B14.1 7 i1))]) hx dX10_step_46 (by decide) rfl ?_
    have hL48 : ∀ (k97 : Nat → Nat → j_St → Option ((Nat ⊕ Unit) × j_St)) (hk97 : ∀  (c52 : Nat) (c53 : Nat) (B50 : j_B) (x51 : j_ext B14 B50) (w49 : j_St), J g x 6 B50 (j_QX g x B rm_X10_step (fun _ _ => none) (fun _ _ _ => True)) c52 c53 (k97 c52 c53 w49) 97 [(1, .ref (B50.1 7 i1))] [] w49) (n48 : Nat) (v21 : Int32) (c25 c26 : Nat) (B23 : j_B) (x24 : j_ext B14 B23) (w22 : j_St), J g x 6 B23 (j_QX g x B rm_X10_step (fun _ _ => none) (fun _ _ _ => True)) c25 c26 (f_X10_step_L48 i0 i1 v11 k97 n48 v21 c25 c26 w22) 48 [(0, .ref (B23.1 8 i0)), (1, .ref (B23.1 7 i1)), (4, .int v11), (5, .int v21)] [] w22 := by
      intro k97 hk97 n48
      induction n48 with
      | zero =>
        intro v21 c25 c26 B23 x24 w22
        rw [f_X10_step_L48]
        exact J.nne
      | succ n48 ih =>
        intro v21 c25 c26 B23 x24 w22
        rw [f_X10_step_L48]
        refine J.iload hx dX10_step_48 3 rfl ?_
        refine J.iconst (v := 2) hx dX10_step_50 (by decide) ?_
        refine J.icmp_ge (tgt := 97) hx dX10_step_51 (by decide) ?_ ?_
        · exact J.sub [1] rfl (hk97 c25 c26 B23 x24 w22)
        · refine J.aload_n hx dX10_step_54 rfl 1 rfl ?_
          refine J.getc (κ' := 37) (i' := i1) (κ := 7) (k := 1) hx rfl rfl rfl rfl rfl in_X13 (by decide) (Or.inr ⟨_, j_nl q910 rfl⟩) (x24.mv (x15.mv (x9.mv b1))).2 dX10_step_55 fun h27 => ?_
          refine J.iconst (v := 2) hx dX10_step_58 (by decide) ?_
          refine J.aload_n hx dX10_step_59 rfl 1 rfl ?_
          refine J.geti (κ := 7) (k := 2) hx rfl rfl rfl in_X13 (by decide) (Or.inr ⟨_, j_nl q911 rfl⟩) (x24.mv (x15.mv (x9.mv b1))).1 dX10_step_60 fun v28 => ?_
          refine J.imul hx dX10_step_63 ?_
          refine J.iload hx dX10_step_64 3 rfl ?_
          refine J.iadd hx dX10_step_66 ?_
          refine J.iload hx dX10_step_67 3 rfl ?_
          refine J.iload hx dX10_step_69 2 rfl ?_
          refine J.ite (fun h32 => ?_) (fun _ => J.nne)
          refine J.calli hx (fun r z1 z => j_callSN hx (mt_X1_numbersOf z) (lw_meth q943) (j_nl q941 rfl) q942 q120 hd_X1_numbersOf.2 rfl ⟨Nat.le_of_ble_eq_true rfl, Nat.le_of_ble_eq_true rfl⟩ (Nat.le_of_ble_eq_true rfl) dX10_step_71) ⟨⟨rfl, rfl⟩, h32.1, h32.2⟩ fun v29 w30 e31 => ?_
          refine J.fn (fun (K90 : Int32 → Nat → Nat → j_St → Option ((Nat ⊕ Unit) × j_St)) => ∀ (v40 : Int32) (c44 : Nat) (c45 : Nat) (B42 : j_B) (x43 : j_ext B23 B42) (w41 : j_St), J g x 6 B42 (j_QX g x B rm_X10_step (fun _ _ => none) (fun _ _ _ => True)) c44 c45 (K90 v40 c44 c45 w41) 90 [(0, .ref (B42.1 8 i0)), (1, .ref (B42.1 7 i1)), (4, .int v11), (5, .int v21)] [.int v40, .int ((2 * v28) + v21), .ref (B42.1 37 i1)] w41) ?_ ?_
          · intro v40 c44 c45 B42 x43 w41
            refine J.iast (κ := 37) hx rfl rfl rfl (x43.mv h27).1 dX10_step_90 fun w46 => ?_
            refine J.nmx fun v48 ev48 => ?_
            refine J.iinc (p := 3) (v := v48) (lv' := [(5, .int v48), (0, .ref (B42.1 8 i0)), (1, .ref (B42.1 7 i1)), (4, .int v11)]) hx dX10_step_91 rfl (by rw [ev48]; rfl) (by decide) rfl ?_
            refine J.goto (tgt := 48) hx dX10_step_94 (by decide) ?_
            exact J.sub [1, 2, 3, 0] rfl (ih v48 c44 c45 B42 (x24.tr x43) w46)
          · intro K90 hK90
            refine J.icmp_ge (tgt := 88) hx dX10_step_74 (by decide) ?_ ?_
            · refine J.ldc (v := (-1000000)) hx q944 dX10_step_88 ?_
              exact J.sub [0, 1, 2, 3] rfl (hK90 (-1000000) c25 c26 B23 j_ext.rf w30)
            · refine J.aload_n hx dX10_step_77 rfl 0 rfl ?_
              refine J.iconst (v := 1) hx dX10_step_78 (by decide) ?_
              refine J.sipush (v := 999) hx dX10_step_79 (by decide) ?_
              refine J.ite (fun h36 => ?_) (fun _ => J.nne)
              refine J.callX (rvY := (fun v _ => jri v)) hx hnt (fun r z1 z => j_callVX (κ := 8) hx rfl rfl (x24.mv (x15.mv (x9.mv a0))).1 (mt_X10_number (x24.mv (x15.mv (x9.mv a0))) z) (lw_V q850 q852 qs8 q130 q853) hd_X10_number rfl ⟨Nat.le_of_ble_eq_true rfl, Nat.le_of_ble_eq_true rfl⟩ (Nat.le_of_ble_eq_true rfl) dX10_step_82) (((j_ext.rf.tr x9).tr x15).tr x24) h36 fun v33 w34 B37 e35 x38 x39 => ?_
              refine J.cv (lv' := [(0, .ref (B37.1 8 i0)), (1, .ref (B37.1 7 i1)), (4, .int v11), (5, .int v21)]) (st' := [.int v33, .int ((2 * v28) + v21), .ref (B37.1 37 i1)]) (by first | rfl | (simp only [x38.ad (x24.mv (x15.mv (x9.mv a0))), x38.ad (x24.mv (x15.mv (x9.mv b1))), x38.ad h27]; done) | (simp only [x38.ad (x24.mv (x15.mv (x9.mv a0))), x38.ad (x24.mv (x15.mv (x9.mv b1))), x38.ad h27]; rfl)) (by first | rfl | (simp only [x38.ad (x24.mv (x15.mv (x9.mv a0))), x38.ad (x24.mv (x15.mv (x9.mv b1))), x38.ad h27]; done) | (simp only [x38.ad (x24.mv (x15.mv (x9.mv a0))), x38.ad (x24.mv (x15.mv (x9.mv b1))), x38.ad h27]; rfl)) ?_
              refine J.goto (tgt := 90) hx dX10_step_85 (by decide) ?_
              exact J.sub [0, 1, 2, 3] rfl (hK90 v33 (c25 + 1) (c26 + 7) B37 x38 w34)
    refine J.sub [4, 5, 1, 0] rfl (hL48 _ ?_ jFU 0 12 5424 B14 j_ext.rf w19)
    · intro c52 c53 B50 x51 w49
      refine J.aload_n hx dX10_step_97 rfl 0 rfl ?_
      refine J.dup hx dX10_step_98 rfl ?_
      refine J.geti (κ := 7) (k := 2) hx rfl rfl rfl in_X13 (by decide) (Or.inr ⟨_, j_nl q911 rfl⟩) (x51.mv (x15.mv (x9.mv b1))).1 dX10_step_99 fun v54 => ?_
      refine J.iconst (v := 1) hx dX10_step_102 (by decide) ?_
      refine J.iadd hx dX10_step_103 ?_
      refine J.puti (κ := 7) (k := 2) hx rfl rfl rfl in_X13 tyX13_ok nmX13 (by decide) (Or.inr ⟨_, j_nl q911 rfl⟩) rfl rfl (x51.mv (x15.mv (x9.mv b1))).1 ⟨rfl, rfl⟩ dX10_step_104 fun w55 => ?_
      refine J.ite (fun h56 => ?_) (fun _ => J.nne)
      exact J.vretX hx (((j_ext.rf.tr x9).tr x15).tr x51) trivial rfl h56.1 h56.2 dX10_step_107
theorem hd_X10_script : yX10_script.cls = RX10 ∧ yX10_script.cls ≠ "java/lang/invoke/MethodHandle" ∧ yX10_script.cls ≠ "java/lang/invoke/VarHandle" ∧ (parseMethodDescriptor yX10_script.desc).map (fun d => d.parameters.length) = some 0 := by decide +kernel
def f_X10_script_L10 (i0 : Nat) (n1 : Nat) (k37 : Nat → Nat → j_St → Option ((Nat ⊕ Nat) × j_St)) : Nat → Int32 → Nat → Nat → j_St → Option ((Nat ⊕ Nat) × j_St)
  | 0, _, _, _, _ => none
  | n10 + 1, v18, c22, c23, w19 => if v18 = 0 then if c22 ≤ 300 ∧ c23 ≤ 70000 then some (.inr n1, w19) else none else if c22 + 16 ≤ 300 ∧ c23 + 5460 ≤ 70000 then jcx (f_X10_step i0 n1 w19) fun _ w26 => if c22 + 16 ≤ 300 ∧ c23 + 5460 ≤ 70000 then jcb (f_X10_peek i0 w26) fun v32 w33 => jlt (fun (c40 : Nat) (c41 : Nat) (w37 : j_St) => if c40 + 1 ≤ 300 ∧ c41 + 7 ≤ 70000 then jcx (f_X10_goesOn i0 w37) fun v42 w43 => f_X10_script_L10 i0 n1 k37 n10 v42 (c40 + 1) (c41 + 7) w43 else none) fun K49 => if v32 = 59 then jlt (jgi w33 7 n1 2) fun v36 => if v36 = 12 then k37 (c22 + 16) (c23 + 5460) w33 else K49 (c22 + 16) (c23 + 5460) w33 else K49 (c22 + 16) (c23 + 5460) w33 else none else none
def f_X10_script (i0 : Nat) (w : j_St) : Option ((Nat ⊕ Nat) × j_St) := jlt (jgn w 107 0) fun n1 => jlt (jbump w 7) fun w3 => jlt (jnw w3 7 n1 0) fun w10 => jcb (f_X13_init n1 w10) fun _ w13 => f_X10_script_L10 i0 n1 (fun (c52 : Nat) (c53 : Nat) (w49 : j_St) => jlt (jgn w49 109 0) fun n54 => jlt (jbump w49 9) fun w56 => if c52 + 1 ≤ 300 ∧ c53 + 7 ≤ 70000 then jlt (jnw w56 9 n54 0) fun w61 => jlt (jgi w61 8 i0 0) fun v64 => if c52 + 1 + 0 ≤ 300 ∧ c53 + 7 + 0 ≤ 70000 then jcb (f_X12_init n54 v64 w61) fun _ w66 => if c52 + 1 + 0 ≤ 300 ∧ c53 + 7 + 0 ≤ 70000 then some (.inl n54, w66) else none else none else none) jFU 1 3 39 w13
abbrev rm_X10_script : Room := { frames := 8, cells := 300, slots := 70000, locals := 218 }
set_option maxRecDepth 100000 in
set_option maxHeartbeats 4000000 in
theorem mt_X10_script {g : j_G} {B : j_B} {i0 : Nat} {w w' : j_St} (a0 : B.2.1 8 i0 ∧ B.2.2 8 i0) (hL : j_lit g B)  {r : (Nat ⊕ Nat)} (h : f_X10_script i0 w = some (r, w')) : j_MX g yX10_script cX10_script 3 (some (FieldType.object "TracePeaks$Script")) rm_X10_script B [.ref (B.1 8 i0)] w w' r (fun r B => jrr B 7 r) (fun r _ B9 => B9.2.1 7 r ∧ B9.2.2 7 r) := by
  refine j_metX (rv := (fun r B => jrr B 7 r)) (PB := (fun r _ B9 => B9.2.1 7 r ∧ B9.2.2 7 r)) (by decide) (Nat.le_of_ble_eq_true rfl) (fun x hx hnt => ?_) h
  unfold f_X10_script
  refine J.sub (lv' := [(0, .ref (B.1 8 i0))]) [0] rfl ?_
  refine J.nmx fun n1 e2 => ?_
  refine J.fact (P := ¬ B.2.1 7 n1) (fun H hR z => by have h9 := hR.2.2.2.2.2.2.2.2.2 _ _ z; simp only [jcnt] at h9; simp at h9; omega) fun h5 => ?_
  refine J.fact (P := ¬ B.2.1 36 n1) (fun H hR z => by have h9 := hR.2.2.2.2.2.2.2.2.2 _ _ z; simp only [jcnt] at h9; simp at h9; omega) fun h6 => ?_
  refine J.fact (P := ¬ B.2.1 37 n1) (fun H hR z => by have h9 := hR.2.2.2.2.2.2.2.2.2 _ _ z; simp only [jcnt] at h9; simp at h9; omega) fun h7 => ?_
  refine J.bumpe fun w3 e4 => ?_
  refine J.fact (P := ¬ B.2.2 7 n1) (fun H hR z => h5 (hR.2.2.2.2.2.2.2.2.1 _ _ z)) fun h8 => ?_
  refine J.new (κ := 7) (i := n1) hx rfl rfl in_X13 tyX13_ok (by decide +kernel) (by decide) h5 h8 (by rw [e4, e2]; simp [jcnt, jbump, jgn]) q900 q901 q144 ⟨Nat.le_of_ble_eq_true rfl, Nat.le_of_ble_eq_true rfl⟩ dX10_script_0 fun z11 w10 => ?_
  refine J.dup hx dX10_script_3 rfl ?_
  refine J.callAv hx (fun r z1 z => j_callA_of (j_runIN (κ := 7) hx (mt_X13_init jbn_alh (jbn_noK h6 (by decide)) (jbn_noK h7 (by decide)) h8 z) (lw_meth q904) (j_nl q902 rfl) q903 q144 rfl hd_X13_init.2 rfl ⟨Nat.le_of_ble_eq_true rfl, Nat.le_of_ble_eq_true rfl⟩ (Nat.le_of_ble_eq_true rfl) dX10_script_4)) ⟨Nat.le_of_ble_eq_true rfl, Nat.le_of_ble_eq_true rfl⟩ fun _ w13 B15 e14 x16 x17 => ?_
  refine J.cv (lv' := [(0, .ref (B15.1 8 i0))]) (st' := [.ref (B15.1 7 n1)]) (by first | rfl | (simp only [x16.ad (jbn_old a0), x16.adh jbn_alh]; done) | (simp only [x16.ad (jbn_old a0), x16.adh jbn_alh]; rfl)) (by first | rfl | (simp only [x16.ad (jbn_old a0), x16.adh jbn_alh]; done) | (simp only [x16.ad (jbn_old a0), x16.adh jbn_alh]; rfl)) ?_
  refine J.built (jS7 n1) (jb_X13 e14 (x16.mvh jbn_alh) x17) ?_
  refine J.astore_n (lv' := [(1, .ref ((jbb B15 (jS7 n1)).1 7 n1)), (0, .ref ((jbb B15 (jS7 n1)).1 8 i0))]) hx dX10_script_7 rfl (by decide) rfl ?_
  refine J.iconst (v := 1) hx dX10_script_8 (by decide) ?_
  refine J.istore_n (lv' := [(2, .int 1), (1, .ref ((jbb B15 (jS7 n1)).1 7 n1)), (0, .ref ((jbb B15 (jS7 n1)).1 8 i0))]) hx dX10_script_9 rfl (by decide) rfl ?_
  have hL10 : ∀ (k37 : Nat → Nat → j_St → Option ((Nat ⊕ Nat) × j_St)) (hk37 : ∀  (c52 : Nat) (c53 : Nat) (B50 : j_B) (x51 : j_ext (jbb B15 (jS7 n1)) B50) (w49 : j_St), J g x 3 B50 (j_QX g x B rm_X10_script (fun r B => jrr B 7 r) (fun r _ B9 => B9.2.1 7 r ∧ B9.2.2 7 r)) c52 c53 (k37 c52 c53 w49) 37 [(0, .ref (B50.1 8 i0))] [] w49) (n10 : Nat) (v18 : Int32) (c22 c23 : Nat) (B20 : j_B) (x21 : j_ext (jbb B15 (jS7 n1)) B20) (w19 : j_St), J g x 3 B20 (j_QX g x B rm_X10_script (fun r B => jrr B 7 r) (fun r _ B9 => B9.2.1 7 r ∧ B9.2.2 7 r)) c22 c23 (f_X10_script_L10 i0 n1 k37 n10 v18 c22 c23 w19) 10 [(0, .ref (B20.1 8 i0)), (1, .ref (B20.1 7 n1)), (2, .int v18)] [] w19 := by
    intro k37 hk37 n10
    induction n10 with
    | zero =>
      intro v18 c22 c23 B20 x21 w19
      rw [f_X10_script_L10]
      exact J.nne
    | succ n10 ih =>
      intro v18 c22 c23 B20 x21 w19
      rw [f_X10_script_L10]
      refine J.iload_n hx dX10_script_10 rfl 2 rfl ?_
      refine J.if_eq (tgt := 57) hx dX10_script_11 (by decide) ?_ ?_
      · refine J.aload_n hx dX10_script_57 rfl 1 rfl ?_
        refine J.ite (fun h24 => ?_) (fun _ => J.nne)
        exact J.aretX (κ := 7) (q := n1) hx ((((j_ext.rf.tr (jbn_ext h5)).tr x16).tr jbb_ext).tr x21) (x21.mv (jbb_own (S := jS7 n1) (x16.mvh jbn_alh).1 jS7_o)) rfl (Or.inl ⟨_, rfl⟩) h24.1 h24.2 dX10_script_58
      · refine J.aload_n hx dX10_script_14 rfl 0 rfl ?_
        refine J.aload_n hx dX10_script_15 rfl 1 rfl ?_
        refine J.ite (fun h28 => ?_) (fun _ => J.nne)
        refine J.callX (rvY := (fun _ _ => none)) hx hnt (fun r z1 z => j_callVX (κ := 8) hx rfl rfl (x21.mv (jbb_ext.mv (x16.mv (jbn_old a0)))).1 (mt_X10_step (x21.mv (jbb_ext.mv (x16.mv (jbn_old a0)))) (x21.mv (jbb_own (S := jS7 n1) (x16.mvh jbn_alh).1 jS7_o)) (hL.mv ((((j_ext.rf.tr (jbn_ext h5)).tr x16).tr jbb_ext).tr x21)) z) (lw_V q920 q922 qs12 q130 q923) hd_X10_step rfl ⟨Nat.le_of_ble_eq_true rfl, Nat.le_of_ble_eq_true rfl⟩ (Nat.le_of_ble_eq_true rfl) dX10_script_16) ((((j_ext.rf.tr (jbn_ext h5)).tr x16).tr jbb_ext).tr x21) h28 fun _ w26 B29 e27 x30 x31 => ?_
        refine J.cv (lv' := [(0, .ref (B29.1 8 i0)), (1, .ref (B29.1 7 n1)), (2, .int v18)]) (st' := []) (by first | rfl | (simp only [x30.ad (x21.mv (jbb_ext.mv (x16.mv (jbn_old a0)))), x30.ad (x21.mv (jbb_own (S := jS7 n1) (x16.mvh jbn_alh).1 jS7_o))]; done) | (simp only [x30.ad (x21.mv (jbb_ext.mv (x16.mv (jbn_old a0)))), x30.ad (x21.mv (jbb_own (S := jS7 n1) (x16.mvh jbn_alh).1 jS7_o))]; rfl)) (by first | rfl | (simp only [x30.ad (x21.mv (jbb_ext.mv (x16.mv (jbn_old a0)))), x30.ad (x21.mv (jbb_own (S := jS7 n1) (x16.mvh jbn_alh).1 jS7_o))]; done) | (simp only [x30.ad (x21.mv (jbb_ext.mv (x16.mv (jbn_old a0)))), x30.ad (x21.mv (jbb_own (S := jS7 n1) (x16.mvh jbn_alh).1 jS7_o))]; rfl)) ?_
        refine J.aload_n hx dX10_script_19 rfl 0 rfl ?_
        refine J.ite (fun h35 => ?_) (fun _ => J.nne)
        refine J.calli hx (fun r z1 z => j_callV (κ := 8) hx rfl rfl (x30.mv (x21.mv (jbb_ext.mv (x16.mv (jbn_old a0))))).1 (mt_X10_peek (x30.mv (x21.mv (jbb_ext.mv (x16.mv (jbn_old a0))))) z) (lw_V q508 q510 qs3 q130 q511) hd_X10_peek rfl ⟨Nat.le_of_ble_eq_true rfl, Nat.le_of_ble_eq_true rfl⟩ (Nat.le_of_ble_eq_true rfl) dX10_script_20) ⟨⟨rfl, rfl⟩, h35.1, h35.2⟩ fun v32 w33 e34 => ?_
        refine J.bipush (v := 59) hx dX10_script_23 (by decide) ?_
        refine J.fn (fun (K49 : Nat → Nat → j_St → Option ((Nat ⊕ Nat) × j_St)) => ∀  (c40 : Nat) (c41 : Nat) (B38 : j_B) (x39 : j_ext B29 B38) (w37 : j_St), J g x 3 B38 (j_QX g x B rm_X10_script (fun r B => jrr B 7 r) (fun r _ B9 => B9.2.1 7 r ∧ B9.2.2 7 r)) c40 c41 (K49 c40 c41 w37) 49 [(0, .ref (B38.1 8 i0)), (1, .ref (B38.1 7 n1))] [] w37) ?_ ?_
        · intro c40 c41 B38 x39 w37
          refine J.aload_n hx dX10_script_49 rfl 0 rfl ?_
          refine J.ite (fun h45 => ?_) (fun _ => J.nne)
          refine J.callX (rvY := (fun v _ => jri v)) hx hnt (fun r z1 z => j_callVX (κ := 8) hx rfl rfl (x39.mv (x30.mv (x21.mv (jbb_ext.mv (x16.mv (jbn_old a0)))))).1 (mt_X10_goesOn (x39.mv (x30.mv (x21.mv (jbb_ext.mv (x16.mv (jbn_old a0)))))) z) (lw_V q892 q894 qs11 q130 q895) hd_X10_goesOn rfl ⟨Nat.le_of_ble_eq_true rfl, Nat.le_of_ble_eq_true rfl⟩ (Nat.le_of_ble_eq_true rfl) dX10_script_50) ((((((j_ext.rf.tr (jbn_ext h5)).tr x16).tr jbb_ext).tr x21).tr x30).tr x39) h45 fun v42 w43 B46 e44 x47 x48 => ?_
          refine J.cv (lv' := [(0, .ref (B46.1 8 i0)), (1, .ref (B46.1 7 n1))]) (st' := [.int v42]) (by first | rfl | (simp only [x47.ad (x39.mv (x30.mv (x21.mv (jbb_ext.mv (x16.mv (jbn_old a0)))))), x47.ad (x39.mv (x30.mv (x21.mv (jbb_own (S := jS7 n1) (x16.mvh jbn_alh).1 jS7_o))))]; done) | (simp only [x47.ad (x39.mv (x30.mv (x21.mv (jbb_ext.mv (x16.mv (jbn_old a0)))))), x47.ad (x39.mv (x30.mv (x21.mv (jbb_own (S := jS7 n1) (x16.mvh jbn_alh).1 jS7_o))))]; rfl)) (by first | rfl | (simp only [x47.ad (x39.mv (x30.mv (x21.mv (jbb_ext.mv (x16.mv (jbn_old a0)))))), x47.ad (x39.mv (x30.mv (x21.mv (jbb_own (S := jS7 n1) (x16.mvh jbn_alh).1 jS7_o))))]; done) | (simp only [x47.ad (x39.mv (x30.mv (x21.mv (jbb_ext.mv (x16.mv (jbn_old a0)))))), x47.ad (x39.mv (x30.mv (x21.mv (jbb_own (S := jS7 n1) (x16.mvh jbn_alh).1 jS7_o))))]; rfl)) ?_
          refine J.istore_n (lv' := [(2, .int v42), (0, .ref (B46.1 8 i0)), (1, .ref (B46.1 7 n1))]) hx dX10_script_53 rfl (by decide) rfl ?_
          refine J.goto (tgt := 10) hx dX10_script_54 (by decide) ?_
          exact J.sub [1, 2, 0] rfl (ih v42 (c40 + 1) (c41 + 7) B46 (((x21.tr x30).tr x39).tr x47) w43)
        · intro K49 hK49
          refine J.icmp_ne (tgt := 49) hx dX10_script_25 (by decide) ?_ ?_
          · refine J.aload_n hx dX10_script_28 rfl 1 rfl ?_
            refine J.geti (κ := 7) (k := 2) hx rfl rfl rfl in_X13 (by decide) (Or.inr ⟨_, j_nl q911 rfl⟩) (x30.mv (x21.mv (jbb_own (S := jS7 n1) (x16.mvh jbn_alh).1 jS7_o))).1 dX10_script_29 fun v36 => ?_
            refine J.bipush (v := 12) hx dX10_script_32 (by decide) ?_
            refine J.icmp_ne (tgt := 49) hx dX10_script_34 (by decide) ?_ ?_
            · exact J.sub [0] rfl (hk37 (c22 + 16) (c23 + 5460) B29 (x21.tr x30) w33)
            · exact J.sub [0, 1] rfl (hK49 (c22 + 16) (c23 + 5460) B29 j_ext.rf w33)
          · exact J.sub [0, 1] rfl (hK49 (c22 + 16) (c23 + 5460) B29 j_ext.rf w33)
  refine J.sub [2, 1, 0] rfl (hL10 _ ?_ jFU 1 3 39 (jbb B15 (jS7 n1)) j_ext.rf w13)
  · intro c52 c53 B50 x51 w49
    refine J.nmx fun n54 e55 => ?_
    refine J.fact (P := ¬ B50.2.1 9 n54) (fun H hR z => by have h9 := hR.2.2.2.2.2.2.2.2.2 _ _ z; simp only [jcnt] at h9; simp at h9; omega) fun h58 => ?_
    refine J.bumpe fun w56 e57 => ?_
    refine J.fact (P := ¬ B50.2.2 9 n54) (fun H hR z => h58 (hR.2.2.2.2.2.2.2.2.1 _ _ z)) fun h59 => ?_
    refine J.ite (fun h63 => ?_) (fun _ => J.nne)
    refine J.newB (κ := 9) (i := n54) hx rfl rfl in_X12 tyX12_ok (by decide +kernel) (by decide) h58 h59 (by rw [e57, e55]; simp [jcnt, jbump, jgn]) jn3_9 q782 q783 q143 h63 dX10_script_37 fun z62 w61 => ?_
    refine J.dup hx dX10_script_40 rfl ?_
    refine J.aload_n hx dX10_script_41 rfl 0 rfl ?_
    refine J.geti (κ := 8) (k := 0) hx rfl rfl rfl in_X10 (by decide) (Or.inl q450) (jN_old (x51.mv (jbb_ext.mv (x16.mv (jbn_old a0))))).1 dX10_script_42 fun v64 => ?_
    refine J.ite (fun h68 => ?_) (fun _ => J.nne)
    refine J.callAv hx (fun r z1 z => j_callA_of (j_runI (κ := 9) hx (mt_X12_init (j_hf2 jN_al) z) (lw_meth q822) q820 q821 q143 rfl hd_X12_init.2 rfl ⟨Nat.le_of_ble_eq_true rfl, Nat.le_of_ble_eq_true rfl⟩ (Nat.le_of_ble_eq_true rfl) dX10_script_45)) h68 fun _ w66 B69 e67 x70 x71 => ?_
    refine J.cv (lv' := [(0, .ref (B69.1 8 i0))]) (st' := [.ref (B69.1 9 n54)]) (by first | rfl | (simp only [x70.ad (jN_old (x51.mv (jbb_ext.mv (x16.mv (jbn_old a0))))), x70.ad jN_al]; done) | (simp only [x70.ad (jN_old (x51.mv (jbb_ext.mv (x16.mv (jbn_old a0))))), x70.ad jN_al]; rfl)) (by first | rfl | (simp only [x70.ad (jN_old (x51.mv (jbb_ext.mv (x16.mv (jbn_old a0))))), x70.ad jN_al]; done) | (simp only [x70.ad (jN_old (x51.mv (jbb_ext.mv (x16.mv (jbn_old a0))))), x70.ad jN_al]; rfl)) ?_
    refine J.ite (fun h72 => ?_) (fun _ => J.nne)
    exact J.throw hx hnt (n := n54) ((((((j_ext.rf.tr (jbn_ext h5)).tr x16).tr jbb_ext).tr x51).tr (jN_ext h58)).tr x70) (x70.mv jN_al) h72.1 h72.2 dX10_script_48
