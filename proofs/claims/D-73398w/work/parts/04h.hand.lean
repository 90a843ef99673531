/-! written by hand: what Throwable's constructor answers; String.checkIndex -/
theorem j_hf2 {a b : Prop} (h : a ∧ b) : a ∧ True := ⟨h.1, trivial⟩
def f_J9_init_2 (i0 : Nat) (q1 q2 : Option Nat) (p3 p4 : Int32) (w : j_St) : Option (Unit × j_St) := if q1 = none ∧ q2 = none ∧ p3 = 0 ∧ p4 = 0 ∧ jgr w 9 i0 0 = none ∧ jgr w 9 i0 1 = none ∧ jgr w 9 i0 2 = none ∧ jgr w 9 i0 3 = none then some ((), w) else none
theorem mt_J9_init_2 {g : j_G} {B : j_B} {i0 : Nat} {q1 q2 : Option Nat} {p3 p4 : Int32} {w w' : j_St} (a0 : B.2.1 9 i0 ∧ True) (_ : ∀ q, q1 = some q → B.2.1 18 q ∧ B.2.2 18 q) (_ : ∀ q, q2 = some q → B.2.1 18 q ∧ B.2.2 18 q) {r : Unit} (h : f_J9_init_2 i0 q1 q2 p3 p4 w = some (r, w')) : j_M g yJ9_init_2 cJ9_init_2 5 none rm_J9_init_2 B [.ref (B.1 9 i0), va_re (B.1 18) q1, va_re (B.1 18) q2, .int p3, .int p4] w w' (jrv r) := by
  unfold f_J9_init_2 at h
  split at h
  · next hc =>
    obtain ⟨rfl, rfl, rfl, rfl, n0, n1, n2, n3⟩ := hc
    cases h
    exact mt0_J9_init_2 a0.1 n0 n1 n2 n3
  · cases h
section JO
variable {α : Type} {g : j_G} {x : j_X} {cc : ByteArray} {nL : Nat} {own : String} {ret : Option FieldType} {rm : Room} {B : j_B} {Q : α → j_St → State → Prop} {cells slots : Nat} {o : Option (α × j_St)} {pc index : Nat} {lv : List (Nat × Value)} {st : List Value} {w : j_St}
theorem J.getsO (hx : j_C cc nL own ret rm g x) (hl : Cond.fieldLink own index "jdk/internal/util/Preconditions" "SIOOBE_FORMATTER" "Ljava/util/function/BiFunction;" ∈ lw_all) (hd : decode cc pc = .ok (.getstatic index, 3)) (k : ∀ v : Value, j_nr v → J g x nL B Q cells slots o (pc + 3) lv (v :: st) w) : J g x nL B Q cells slots o pc lv st w := by
  intro r w' ho H locs ls h hR hq
  have k := fun v hv => k v hv r w' ho H locs ls h hR hq
  obtain ⟨p, e, R, s, m, args, below, meth, c⟩ := x
  obtain ⟨h1, h2, h3, h4, h5, h6, h7⟩ := hx
  have key : ∀ v : Value, va_Z "jdk/internal/util/Preconditions" "SIOOBE_FORMATTER" "Ljava/util/function/BiFunction;" v (fun q => jgb g ≤ q) s (jgH g) → j_nr v → j_W g (p, e, R, s, m, args, below, meth, c) H locs cells slots (Q r w') pc ls st := fun v hZ hv => by
    obtain ⟨cf, kf, fi, f, a, cell, g1, g2, g3, g4, g5, g6, g7, g8⟩ := hZ
    exact W.gets h1 h2 h4 (h5 _ hl) g1 g2 g3 g4 (by rw [hR.2.2.2.2.1 a (Nat.not_le.mp g8)]; exact g5) (fun e => by rw [e] at g6; cases g6) g7 rfl hd (k v hv)
  rcases (h6.2.2.2.2.2.2.2.2.2.2).2.2.2.2.1 with z | ⟨t, z⟩
  · exact key _ z (Or.inl rfl)
  · exact key _ z (Or.inr ⟨t, rfl⟩)
end JO
section JOD
variable {α β : Type} {g : j_G} {x : j_X} {cc : ByteArray} {nL : Nat} {own : String} {ret : Option FieldType} {rm : Room} {B B0 : j_B} {Q : α → j_St → State → Prop} {cells slots : Nat} {o o1 o2 : Option (α × j_St)} {pc pc' : Nat} {lv lv' : List (Nat × Value)} {st st' rest : List Value} {w w1 : j_St}
variable {y : MethodName} {cy : ByteArray} {nY : Nat} {rY : Option FieldType} {rmY : Room} {As : List Value} {v : Option Value} {index n : Nat}
/-- an overriding method is found; that which is named is declared -/
theorem j_runOD (hx : j_C cc nL own ret rm g x) {κ b : Nat} {C : String} {owner : String} {z : MethodName} {T : u_T} {N : Nat} (h0 : jk0 κ = 0) (hcl : jcl[jk1 κ]? = some (C, T, N)) (ha : B.2.1 κ b) {Qc : Array Value → State → Outcome → State → Prop} (hM : Met g.1 y (ws_ y cy nY rY) rmY (j_Pc g B (.ref (B.1 κ b) :: As) w) Qc rmY.cells rmY.slots (j_fr g)) (hT : GoodIn lw_all (va_wsO own index C owner z y (ws_ y cy nY rY))) (hdec : Cond.declares ⟨owner, z.name, z.desc⟩ ∈ jnl)
    (hd : owner ≠ "java/lang/invoke/MethodHandle" ∧ owner ≠ "java/lang/invoke/VarHandle" ∧ (parseMethodDescriptor z.desc).map (fun d => d.parameters.length) = some n) (hn : As.length = n) (hRm : j_rm rm rmY nY) (hW : (rest.map fun v => v.category).sum ≤ 8) (d : decode cc pc = .ok (.invokevirtual index, 3)) :
    ∀ (H : Heap) (locs : List Loc) (ls : Array Slot) (cells slots : Nat), ls.size = nL → j_R g B w H → cells + rmY.cells ≤ (jxR x).cells → slots + rmY.slots ≤ (jxR x).slots → va_Run x.1 g.1 x.2.1 x.2.2.1 x.2.2.2.1 x.2.2.2.2.1 x.2.2.2.2.2.1 x.2.2.2.2.2.2.1 x.2.2.2.2.2.2.2.1 x.2.2.2.2.2.2.2.2 H locs cells slots rmY.cells rmY.slots (F0 x.2.2.2.2.1 pc ls (As.reverse ++ .ref (B.1 κ b) :: rest)) rest (Qc (Value.ref (B.1 κ b) :: As).toArray) (j_fr g) := by
  intro H locs ls cells slots hls hR hc hs
  obtain ⟨p, e, R, s, m, args, below, meth, c⟩ := x
  obtain ⟨h1, h2, h3, h4, h5, h6, -, -, h9⟩ := hx
  cases h9
  obtain ⟨hK, hA, hN, hK2⟩ := h6
  have hrec : ∃ cellB : Cell, H[B.1 κ b]? = some cellB ∧ cellB.vm.isStatics = false ∧ s.vm.findClass C = some cellB.cls := by
    obtain ⟨cell, g1, g2, g3, -⟩ := (hR.1 κ b ha).obj h0 hcl
    exact ⟨cell, g1, by rw [g3]; rfl, by rw [g2]; exact (hK.1 _ _ hcl).2.1⟩
  have ok : ∀ w ∈ va_wsO own index C owner z y (ws_ y cy nY rY), w.before args s = true := fun w h => h5 w (hT w h).1
  have hG : GoodIn lw_all (ws_ y cy nY rY) := fun w h => hT w (by unfold va_wsO; exact List.mem_append_right _ h)
  have hdecl : va_Decl s ⟨owner, z.name, z.desc⟩ := by
    have h1 := va_Nw.use (A := args) rfl (hN _ hdec)
    have h2 : (Cond.instanceMethod ⟨owner, z.name, z.desc⟩).before args s = true := ok _ (by simp [va_wsO])
    obtain ⟨r0, r, hn, hrm, hst, -⟩ := Cond.instanceMethod_spec h2
    obtain ⟨r1, r2, hn1, hrm1, -, hsig⟩ := Cond.declares_spec h1
    cases hn.symm.trans hn1
    cases hrm.symm.trans hrm1
    exact ⟨r0, r, hn, hrm, hst, hsig⟩
  have hcw : va_CU R s args own C owner index z y cy nY rY (ws_ y cy nY rY) rmY rmY.cells rmY.slots n := ⟨⟨rfl, rfl, hRm.1, hRm.2, pay_in h5 hG, List.mem_cons_self⟩, ok _ (by simp [va_wsO]), ok _ (by simp [va_wsO]), ⟨hd.1, hd.2.1⟩, fun sig hsg => by
    have h2 := hd.2.2
    rw [hsg] at h2
    exact (Option.some.inj h2).symm, ok _ (by simp [va_wsO]), ok _ (by simp [va_wsO]), hdecl, ok _ (by simp [va_wsO]), ok _ (by simp [va_wsO])⟩
  exact va_runU (As := As) (rest := rest) ⟨h1, h2, h3, h4, h5⟩ hM hcw ⟨j_Pc_blind, hrec, j_Pc_start hR ⟨hK, hA, hN, hK2⟩⟩ rfl hn hls rfl (lv_room hW) d ⟨by assumption, hs⟩
end JOD
theorem hd_J8_checkIndex : yJ8_checkIndex.cls = RJ8 ∧ yJ8_checkIndex.cls ≠ "java/lang/invoke/MethodHandle" ∧ yJ8_checkIndex.cls ≠ "java/lang/invoke/VarHandle" ∧ (parseMethodDescriptor yJ8_checkIndex.desc).map (fun d => d.parameters.length) = some 3 := by decide +kernel
theorem hd_J3_checkIndex : yJ3_checkIndex.cls = RJ3 ∧ yJ3_checkIndex.cls ≠ "java/lang/invoke/MethodHandle" ∧ yJ3_checkIndex.cls ≠ "java/lang/invoke/VarHandle" ∧ (parseMethodDescriptor yJ3_checkIndex.desc).map (fun d => d.parameters.length) = some 2 := by decide +kernel
def f_J8_checkIndex (p0 p1 : Int32) (w : j_St) : Option (Int32 × j_St) := if p0 < 0 then none else if p0 < p1 then some (p0, w) else none
abbrev rm_J8_checkIndex : Room := { frames := 0, cells := 0, slots := 0, locals := 0 }
theorem mt_J8_checkIndex {g : j_G} {B : j_B} {p0 p1 : Int32} {v : Value} {w w' : j_St} (hv : j_nr v) {r : Int32} (h : f_J8_checkIndex p0 p1 w = some (r, w')) : j_M g yJ8_checkIndex cJ8_checkIndex 3 (some .int) rm_J8_checkIndex B [.int p0, .int p1, v] w w' (jri r) := by
  rcases hv with rfl | ⟨t, rfl⟩
  all_goals
    refine j_met (rv := jri) (by decide) (Nat.le_of_ble_eq_true rfl) (fun x hx => ?_) h
    unfold f_J8_checkIndex
    refine J.sub (lv' := [(0, .int p0), (1, .int p1)]) [0, 1] rfl ?_
    refine J.iload_n hx dJ8_checkIndex_0 rfl 0 rfl ?_
    refine J.if_lt (tgt := 9) hx dJ8_checkIndex_1 (by decide) ?_ ?_
    · exact J.nne
    · refine J.iload_n hx dJ8_checkIndex_4 rfl 0 rfl ?_
      refine J.iload_n hx dJ8_checkIndex_5 rfl 1 rfl ?_
      refine J.icmp_lt (tgt := 16) hx dJ8_checkIndex_6 (by decide) ?_ ?_
      · refine J.iload_n hx dJ8_checkIndex_16 rfl 0 rfl ?_
        exact J.iret hx rfl (Nat.le_of_ble_eq_true rfl) (Nat.le_of_ble_eq_true rfl) dJ8_checkIndex_17
      · exact J.nne
def f_J3_checkIndex (p0 p1 : Int32) (w : j_St) : Option (Unit × j_St) := jcb (f_J8_checkIndex p0 p1 w) fun _ w2 => some ((), w2)
abbrev rm_J3_checkIndex : Room := { frames := 1, cells := 0, slots := 0, locals := 22 }
theorem mt_J3_checkIndex {g : j_G} {B : j_B} {p0 p1 : Int32} {w w' : j_St} {r : Unit} (h : f_J3_checkIndex p0 p1 w = some (r, w')) : j_M g yJ3_checkIndex cJ3_checkIndex 2 none rm_J3_checkIndex B [.int p0, .int p1] w w' (jrv r) := by
  refine j_met (rv := jrv) (by decide) (Nat.le_of_ble_eq_true rfl) (fun x hx => ?_) h
  unfold f_J3_checkIndex
  refine J.sub (lv' := [(0, .int p0), (1, .int p1)]) [0, 1] rfl ?_
  refine J.iload_n hx dJ3_checkIndex_0 rfl 0 rfl ?_
  refine J.iload_n hx dJ3_checkIndex_1 rfl 1 rfl ?_
  refine J.getsO hx q616 dJ3_checkIndex_2 fun v hv => ?_
  refine J.calli hx (fun r z1 z => j_callS (As := [.int p0, .int p1, v]) hx (mt_J8_checkIndex hv z) (lw_S q639 q640 q140 q641) hd_J8_checkIndex.2 rfl ⟨Nat.le_of_ble_eq_true rfl, Nat.le_of_ble_eq_true rfl⟩ (Nat.le_of_ble_eq_true rfl) dJ3_checkIndex_5) ⟨⟨rfl, rfl⟩, Nat.le_of_ble_eq_true rfl, Nat.le_of_ble_eq_true rfl⟩ fun v4 w2 e2 => ?_
  refine J.pop hx dJ3_checkIndex_8 rfl ?_
  exact J.vret hx rfl (Nat.le_of_ble_eq_true rfl) (Nat.le_of_ble_eq_true rfl) dJ3_checkIndex_9
