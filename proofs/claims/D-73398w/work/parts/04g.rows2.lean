/-! J: more rows for text and exceptions: methods with handlers, NoSuchElementException, references of two kinds -/
theorem j_callA_of5 {g : j_G} {x : j_X} {nL : Nat} {B : j_B} {w w1 : j_St} {pc : Nat} {st0 rest : List Value} {mc ms : Nat} {rv : j_B → Option Value} {PB : j_B → Prop} {a : Array Value}
    (hr : ∀ (H : Heap) (locs : List Loc) (ls : Array Slot) (cells slots : Nat), ls.size = nL → j_R g B w H → cells + mc ≤ (jxR x).cells → slots + ms ≤ (jxR x).slots → va_Run5 x.1 g.1 x.2.1 x.2.2.1 x.2.2.2.1 x.2.2.2.2.1 x.2.2.2.2.2.1 x.2.2.2.2.2.2.1 x.2.2.2.2.2.2.2.1 x.2.2.2.2.2.2.2.2 H locs cells slots mc ms (F0 x.2.2.2.2.1 pc ls st0) rest (j_QrA g B rv PB w1 a) (j_fr g)) :
    j_CallA g x nL B w w1 pc (pc + 5) st0 rest mc ms rv PB := by
  intro H locs ls cells slots Q hls hR hq hc hs kk T hT X
  obtain ⟨v, st₀, t, T', L, h0, X', hL, e1, e2, ⟨B1, he, hp, hv, hR1⟩, st⟩ := hr H locs ls cells slots hls hR hc hs T hT X
  cases hv
  obtain ⟨t2, a1, b1⟩ := kk B1 T'.heap (locs ++ L) he hp (by rw [e1]; exact hR1) (fun q hq0 => by
    rcases List.mem_append.mp hq0 with z | z
    · exact hq q z
    · exact hL q z) T' rfl X'
  exact ⟨t2, st t2 a1, b1⟩
def j_MAW (g : j_G) (y : MethodName) (cc : ByteArray) (nL : Nat) (ret : Option FieldType) (hh : List (Nat × Nat × Nat × Nat)) (rm : Room) (B : j_B) (As : List Value) (w w' : j_St) (rv : j_B → Option Value) (PB : j_B → Prop) : Prop :=
  Met g.1 y (wsW_ y cc nL ret hh) rm (j_Pc g B As w) (j_QrA g B rv PB w') rm.cells rm.slots (j_fr g)
theorem j_metAW {α : Type} {g : j_G} {y : MethodName} {cc : ByteArray} {nL : Nat} {ret : Option FieldType} {hh : List (Nat × Nat × Nat × Nat)} {rm : Room} {B : j_B} {As : List Value} {w : j_St} {rv : α → j_B → Option Value} {PB : α → j_St → j_B → Prop} {o : Option (α × j_St)}
    (hy : plainName y.cls = true) (hn : (lg_sl As).length ≤ nL)
    (body : ∀ x : j_X, j_C cc nL y.cls ret rm g x → (jxC x).exceptionTable.toList = tableOf hh → J g x nL B (j_QA g x B rm rv PB) 0 0 o 0 (lv_args 0 As) [] w) {r : α} {w' : j_St} (ho : o = some (r, w')) : j_MAW g y cc nL ret hh rm B As w w' (rv r) (PB r w') := by
  refine va_MetW (cc := cc) (maxL := nL) (ret := ret) (hh := hh) hy rfl ?_
  intro p e s m args below meth c s₁ BL hml hv
  obtain ⟨rfl, hR, hK⟩ := hv
  have hts0 := atoms_spec (ws := wsW_ y cc nL ret hh) BL.pre
  have hts : ∀ w ∈ lw_all, w.before _ s = true := fun w h => hts0 w (List.mem_cons_of_mem _ h)
  have htab := vx_table (x := y) BL (hts0 _ List.mem_cons_self)
  have hown : s.vm.findClass y.cls = some m.cls := findClass_of_methodNamed BL.named
  have k := body (p, e, rm, s, m, As.toArray, below, meth, c) ⟨BL.exec, BL.bytes, hml, hown, hts, hK, BL.notSynchronized, BL.returns, rfl⟩ htab r w' ho s.heap [] _ (lv_entry As hn) hR (fun q h => by cases h)
  rw [lg_entry_eq]
  exact k
/-- more cells that the book doesn't know -/
theorem j_R.more {g : j_G} {B : j_B} {w : j_St} {H H' : Heap} (hR : j_R g B w H) (e2 : H.size ≤ H'.size) (e3 : ∀ q : Nat, q < H.size → H'[q]? = H[q]?) : j_R g B w H' := by
  obtain ⟨r1, r2, r3, r4, r5, r6⟩ := hR
  exact ⟨fun κ i h => (r1 κ i h).kept (e3 _ (r1 κ i h).lt) rfl rfl, r2, r3, Nat.le_trans r4 e2, fun q hq => by rw [e3 q (by omega)]; exact r5 q hq, r6⟩
section JY
variable {α β : Type} {g : j_G} {x : j_X} {cc : ByteArray} {nL : Nat} {own : String} {ret : Option FieldType} {rm : Room} {B B0 : j_B} {Q : α → j_St → State → Prop} {cells slots : Nat} {o o1 o2 : Option (α × j_St)} {pc pc' : Nat} {lv lv' : List (Nat × Value)} {st st' rest : List Value} {w w1 : j_St}
variable {y : MethodName} {cy : ByteArray} {nY : Nat} {rY : Option FieldType} {hh : List (Nat × Nat × Nat × Nat)} {rmY : Room} {As : List Value} {v : Option Value} {index n : Nat}
theorem j_runVW (hx : j_C cc nL own ret rm g x) {κ b : Nat} {C : String} {T : u_T} {N : Nat} (h0 : jk0 κ = 0) (hcl : jcl[jk1 κ]? = some (C, T, N)) (ha : B.2.1 κ b) {Qc : Array Value → State → Outcome → State → Prop} (hM : Met g.1 y (wsW_ y cy nY rY hh) rmY (j_Pc g B (.ref (B.1 κ b) :: As) w) Qc rmY.cells rmY.slots (j_fr g)) (hT : GoodIn lw_all (wsV own index C y (wsW_ y cy nY rY hh)))
    (hd : y.cls = C ∧ y.cls ≠ "java/lang/invoke/MethodHandle" ∧ y.cls ≠ "java/lang/invoke/VarHandle" ∧ (parseMethodDescriptor y.desc).map (fun d => d.parameters.length) = some n) (hn : As.length = n) (hRm : j_rm rm rmY nY) (hW : (rest.map fun v => v.category).sum ≤ 8) (d : decode cc pc = .ok (.invokevirtual index, 3)) :
    ∀ (H : Heap) (locs : List Loc) (ls : Array Slot) (cells slots : Nat), ls.size = nL → j_R g B w H → cells + rmY.cells ≤ (jxR x).cells → slots + rmY.slots ≤ (jxR x).slots → va_Run x.1 g.1 x.2.1 x.2.2.1 x.2.2.2.1 x.2.2.2.2.1 x.2.2.2.2.2.1 x.2.2.2.2.2.2.1 x.2.2.2.2.2.2.2.1 x.2.2.2.2.2.2.2.2 H locs cells slots rmY.cells rmY.slots (F0 x.2.2.2.2.1 pc ls (As.reverse ++ .ref (B.1 κ b) :: rest)) rest (Qc (Value.ref (B.1 κ b) :: As).toArray) (j_fr g) := by
  intro H locs ls cells slots hls hR hc hs
  obtain ⟨p, e, R, s, m, args, below, meth, c⟩ := x
  obtain ⟨h1, h2, h3, h4, h5, h6, -, -, h9⟩ := hx
  cases h9
  obtain ⟨hK, hK2⟩ := h6
  have hrec : ∃ cellB : Cell, H[B.1 κ b]? = some cellB ∧ cellB.vm.isStatics = false ∧ s.vm.findClass C = some cellB.cls := by
    obtain ⟨cell, g1, g2, g3, -⟩ := (hR.1 κ b ha).obj h0 hcl
    exact ⟨cell, g1, by rw [g3]; rfl, by rw [g2]; exact (hK.1 _ _ hcl).2.1⟩
  exact vx_runVW (As := As) (rest := rest) ⟨h1, h2, h3, h4, h5⟩ hM (vx_cwVW n h5 hT rfl rfl rfl hd hRm) ⟨j_Pc_blind, hrec, j_Pc_start hR ⟨hK, hK2⟩⟩ rfl hn hls rfl (lv_room hW) d ⟨hc, hs⟩
theorem j_runSW (hx : j_C cc nL own ret rm g x) {Qc : Array Value → State → Outcome → State → Prop} (hM : Met g.1 y (wsW_ y cy nY rY hh) rmY (j_Pc g B As w) Qc rmY.cells rmY.slots (j_fr g)) (hT : GoodIn lw_all (va_wsS own index y (wsW_ y cy nY rY hh)))
    (hd : y.cls ≠ "java/lang/invoke/MethodHandle" ∧ y.cls ≠ "java/lang/invoke/VarHandle" ∧ (parseMethodDescriptor y.desc).map (fun d => d.parameters.length) = some n) (hn : As.length = n) (hRm : j_rm rm rmY nY) (hW : (rest.map fun v => v.category).sum ≤ 8) (d : decode cc pc = .ok (.invokestatic index, 3)) :
    ∀ (H : Heap) (locs : List Loc) (ls : Array Slot) (cells slots : Nat), ls.size = nL → j_R g B w H → cells + rmY.cells ≤ (jxR x).cells → slots + rmY.slots ≤ (jxR x).slots → va_Run x.1 g.1 x.2.1 x.2.2.1 x.2.2.2.1 x.2.2.2.2.1 x.2.2.2.2.2.1 x.2.2.2.2.2.2.1 x.2.2.2.2.2.2.2.1 x.2.2.2.2.2.2.2.2 H locs cells slots rmY.cells rmY.slots (F0 x.2.2.2.2.1 pc ls (As.reverse ++ rest)) rest (Qc As.toArray) (j_fr g) := by
  intro H locs ls cells slots hls hR hc hs
  obtain ⟨p, e, R, s, m, args, below, meth, c⟩ := x
  obtain ⟨h1, h2, h3, h4, h5, h6, -, -, h9⟩ := hx
  cases h9
  exact vx_runSW (As := As) (rest := rest) ⟨h1, h2, h3, h4, h5⟩ hM (vx_cwSW n h5 hT rfl rfl rfl hd hRm) ⟨j_Pc_blind, j_Pc_start hR h6⟩ rfl hn hls rfl (lv_room hW) d ⟨hc, hs⟩
/-- references of two kinds are never one -/
theorem J.acmp_neD (hx : j_C cc nL own ret rm g x) {κ κ' a b : Nat} {off : Int} (tgt : Nat) (d : decode cc pc = .ok (.if_acmp .ne off, 3)) (ht : (pc : Int) + off = (tgt : Int)) (hk : κ ≠ κ') (ha : B.2.1 κ a) (hb : B.2.1 κ' b) (k2 : J g x nL B Q cells slots o tgt lv st w) : J g x nL B Q cells slots o pc lv (.ref (B.1 κ' b) :: .ref (B.1 κ a) :: st) w := by
  intro r w' ho H locs ls h hR hq
  have hne : ¬ B.1 κ a = B.1 κ' b := fun e => hk (hR.2.1 κ a κ' b ha hb e).1
  exact lv_acmp_ne (rx := some (B.1 κ a)) (ry := some (B.1 κ' b)) hx.1 hx.2.1 d ht (fun _ => k2 r w' ho H locs ls h hR hq) (fun hc => absurd (Option.some.inj hc) hne)
/-- a final reference that may be null, in a constructor -/
theorem J.putFq (hx : j_C cc nL own ret rm g x) (hnm0 : (jxM x).name = "<init>") {κ i k index : Nat} (κ' : Nat) {C : String} {T : u_T} {N : Nat} {v : Option Nat} {f : j_St → Option (α × j_St)} (h0 : jk0 κ = 0) (hc : jcl[jk1 κ]? = some (C, T, N)) (hs : jfs κ k = 2) (hκ : jfk κ k = κ') (hin : ∀ w ∈ u_ws C T N, w ∈ lw_all) {ty0 : Nat → FieldType} (hty : ∀ k, k < N → parseFieldDescriptor (T k).2.2.1 = some (ty0 k)) (hnm : ∀ a, a < N → ∀ b, b < N → a ≠ b → (T a).2.1 ≠ (T b).2.1) (hk : k < N) (hl : Cond.fieldLink own index (T k).1 (T k).2.1 (T k).2.2.1 ∈ lw_all) (hfin : (T k).2.2.2 = true) (hdecl : (T k).1 = own) (hro : jro κ = false) (ha : B.2.1 κ i)
    (hn : ∀ a, narrow (ty0 k) (.ref a) = .ref a ∧ fits (ty0 k) (.ref a) = true ∧ narrow (ty0 k) .null = .null ∧ fits (ty0 k) .null = true) (hv : ∀ q, v = some q → B.2.1 κ' q ∧ B.2.2 κ' q) (d : decode cc pc = .ok (.putfield index, 3))
    (kk : ∀ w2 : j_St, J g x nL B Q cells slots (f w2) (pc + 3) lv st w2) : J g x nL B Q cells slots (jlt (jsr w κ i k v) f) pc lv (va_re (B.1 κ') v :: .ref (B.1 κ i) :: st) w := by
  subst hκ
  refine J.putF0 hx hnm0 h0 hc hin hty hnm hk hl hfin hdecl hro ha ?_ ?_ d (jfv_sr (by omega)) (fun H H' hR e2 e3 hok => hR.sr ha hro e2 e3 hok (fun q hq => ⟨(hv q hq).1, fun _ => (hv q hq).2⟩) (fun z => by omega)) (kk _)
  · cases v with
    | none => exact (hn 0).2.2.1
    | some q => exact (hn _).1
  · cases v with
    | none => exact (hn 0).2.2.2
    | some q => exact (hn _).2.1
theorem J.zretX (hx : j_C cc nL own ret rm g x) {v : Int32} {lv : List (Nat × Value)} {ty : FieldType} {PB : Int32 → j_St → j_B → Prop} (he : j_ext B0 B) (hp : PB v w B) (hr : ret = some ty) (hn : narrow ty (.int v) = .int v) (hc : cells ≤ rm.cells) (hs : slots ≤ rm.slots) (d : decode cc pc = .ok (.ireturn, 1)) : J g x nL B (j_QX g x B0 rm (fun v _ => jri v) PB) cells slots (some (.inr v, w)) pc lv [.int v] w := by
  intro r w' ho H locs ls h hR hq
  cases ho
  refine W.widen hc hs (vz_ret ?_)
  exact W.zret hx.1 hx.2.1 (hx.2.2.2.2.2.2.2.1.trans hr) hn (fun t ht _ => ⟨v, rfl, B, he, hp, rfl, by rw [ht]; exact hR⟩) hq d hx.2.2.2.2.2.2.1
theorem J.zretA (hx : j_C cc nL own ret rm g x) {v : Int32} {lv : List (Nat × Value)} {ty : FieldType} {PB : Int32 → j_St → j_B → Prop} (he : j_ext B0 B) (hp : PB v w B) (hr : ret = some ty) (hn : narrow ty (.int v) = .int v) (hc : cells ≤ rm.cells) (hs : slots ≤ rm.slots) (d : decode cc pc = .ok (.ireturn, 1)) : J g x nL B (j_QA g x B0 rm (fun v _ => jri v) PB) cells slots (some (v, w)) pc lv [.int v] w := by
  intro r w' ho H locs ls h hR hq
  cases ho
  refine W.widen hc hs ?_
  exact W.zret hx.1 hx.2.1 (hx.2.2.2.2.2.2.2.1.trans hr) hn (fun t ht _ => ⟨B, he, hp, rfl, by rw [ht]; exact hR⟩) hq d hx.2.2.2.2.2.2.1
/-! NoSuchElementException leaves TracePeaks.peak -/
def j_QcN (g : j_G) (B : j_B) (r : Nat ⊕ Int32) (w' : j_St) : Array Value → State → Outcome → State → Prop := fun _ _ o t => ∃ a, r = .inr a ∧ o = .returned (jri a) ∧ j_R g B w' t.heap
def j_XcN (g : j_G) (B : j_B) (r : Nat ⊕ Int32) (w' : j_St) : String → State → State → Prop := fun E _ t => (∃ n, r = .inl n) ∧ E = "java/util/NoSuchElementException" ∧ j_R g B w' t.heap
def j_MN (g : j_G) (y : MethodName) (cc : ByteArray) (nL : Nat) (ret : Option FieldType) (rm : Room) (B : j_B) (As : List Value) (w w' : j_St) (r : Nat ⊕ Int32) : Prop :=
  vx_Met g.1 y (ws_ y cc nL ret) rm (j_Pc g B As w) (j_QcN g B r w') (j_XcN g B r w') rm.cells rm.slots (j_fr g)
def j_QN (g : j_G) (x : j_X) (B : j_B) (rm : Room) : (Nat ⊕ Int32) → j_St → State → Prop := fun r w' => vx_MQ x.2.2.2.2.2.2.1 (j_QcN g B r w') (j_XcN g B r w') x.2.2.2.2.2.1 x.2.2.2.1 rm.cells rm.slots (j_fr g)
theorem j_metN {o : Option ((Nat ⊕ Int32) × j_St)}
    (hy : plainName y.cls = true) (hn : (lg_sl As).length ≤ nY)
    (body : ∀ x : j_X, j_C cy nY y.cls rY rmY g x → (∀ z ∈ (jxC x).exceptionTable.toList, False) → jgb g ≤ x.2.2.2.1.heap.size → J g x nY B (j_QN g x B rmY) 0 0 o 0 (lv_args 0 As) [] w) {r : Nat ⊕ Int32} {w' : j_St} (ho : o = some (r, w')) : j_MN g y cy nY rY rmY B As w w' r := by
  refine vx_ofW (cc := cy) (maxL := nY) (ret := rY) hy rfl ?_
  intro p e s m args below meth c s₁ BL hml htab hv
  obtain ⟨rfl, hR, hK⟩ := hv
  have hts := atoms_spec (ws := ws_ y cy nY rY) BL.pre
  have hts : ∀ w ∈ lw_all, w.before _ s = true := fun w h => hts w (List.mem_cons_of_mem _ h)
  have hown : s.vm.findClass y.cls = some m.cls := findClass_of_methodNamed BL.named
  have k := body (p, e, rmY, s, m, As.toArray, below, meth, c) ⟨BL.exec, BL.bytes, hml, hown, hts, hK, BL.notSynchronized, BL.returns, rfl⟩ htab hR.2.2.2.1 r w' ho s.heap [] _ (lv_entry As hn) hR (fun q h => by cases h)
  rw [lg_entry_eq]
  exact k
theorem J.iretN (hx : j_C cc nL own ret rm g x) {v : Int32} {lv : List (Nat × Value)} (hr : ret = some .int) (hc : cells ≤ rm.cells) (hs : slots ≤ rm.slots) (d : decode cc pc = .ok (.ireturn, 1)) : J g x nL B (j_QN g x B rm) cells slots (some (.inr v, w)) pc lv [.int v] w := by
  intro r w' ho H locs ls h hR hq
  cases ho
  refine W.widen hc hs (vx_ret ?_)
  exact W.iret hx.1 hx.2.1 (hx.2.2.2.2.2.2.2.1.trans hr) (fun t ht _ => ⟨v, rfl, rfl, by rw [ht]; exact hR⟩) hq d hx.2.2.2.2.2.2.1
end JY
abbrev jNS : String := "java/util/NoSuchElementException"
theorem jNS_tbl : (vx_at0 "TracePeaks" 306 jNS ["java/lang/RuntimeException", "java/lang/Exception"]).all (fun w => decide (w ∈ lw_tbl)) = true := by decide +kernel
abbrev jNSi (c : String) : MethodName := ⟨c, "<init>", "()V"⟩
def jNS_l : List Cond := [Cond.castable jNS jNS, Cond.declares (jNSi "java/lang/RuntimeException"), Cond.declares (jNSi "java/lang/Exception"), Cond.declares (jNSi "java/lang/Throwable")]
theorem jNS_ng : ((vx_at0 "TracePeaks" 306 jNS ["java/lang/RuntimeException", "java/lang/Exception"]).filter (fun w => !goodWord w)).all (fun w => decide (w ∈ jNS_l)) = true := by decide +kernel
theorem jNS_jn : jNS_l.all (fun w => decide (w ∈ lw_tbl) && jng w) = true := by decide +kernel
theorem jNS_ok : (vx_at0 "TracePeaks" 306 jNS ["java/lang/RuntimeException", "java/lang/Exception"]).all vx_ot = true := by decide +kernel
theorem jNS_hat {g : j_G} {s : State} {args : Array Value} (hts : ∀ w ∈ lw_all, w.before args s = true) (hK : j_K g s) : ∀ w ∈ vx_at0 "TracePeaks" 306 jNS ["java/lang/RuntimeException", "java/lang/Exception"], w.before args s = true := by
  intro w hw
  by_cases hg : goodWord w = true
  · exact hts w (lw_g (of_decide_eq_true (List.all_eq_true.mp jNS_tbl w hw)) hg)
  · have h1 : w ∈ (vx_at0 "TracePeaks" 306 jNS ["java/lang/RuntimeException", "java/lang/Exception"]).filter (fun w => !goodWord w) := List.mem_filter.mpr ⟨hw, by simpa using hg⟩
    have h2 := of_decide_eq_true (List.all_eq_true.mp jNS_ng w h1)
    have h3 := List.all_eq_true.mp jNS_jn w h2
    rw [Bool.and_eq_true] at h3
    have h4 := hK.2.2.1 w (j_nl (of_decide_eq_true h3.1) h3.2)
    have h5 := List.all_eq_true.mp jNS_ok w hw
    have hon : w.onTables = true := by
      cases w <;> first | rfl | (simp [jng] at h3; done)
    exact va_Nw.use hon h4
section JNS
variable {g : j_G} {x : j_X} {cc : ByteArray} {nL : Nat} {ret : Option FieldType} {rm : Room} {B : j_B} {cells slots : Nat} {pc : Nat} {lv : List (Nat × Value)} {rest : List Value} {w : j_St}
theorem J.throwN (hx : j_C cc nL "TracePeaks" ret rm g x) (hnt : ∀ z ∈ (jxC x).exceptionTable.toList, False) (hsz : jgb g ≤ x.2.2.2.1.heap.size) {ik : Nat} (hk : Cond.classLink "TracePeaks" ik jNS ∈ lw_all) (hini : Cond.initialized jNS ∈ lw_all) (hgk : vx_ot (Cond.classLink "TracePeaks" ik jNS) = true ∧ vx_ot (Cond.initialized jNS) = true)
    (d0 : decode cc pc = .ok (.new ik, 3)) (d3 : decode cc (pc + 3) = .ok (.dup, 1)) (d4 : decode cc (pc + 4) = .ok (.invokespecial 306, 3)) (d7 : decode cc (pc + 7) = .ok (.athrow, 1))
    (hW : (rest.map fun v => v.category).sum ≤ 8) (hRm : 6 ≤ rm.frames ∧ 100 ≤ rm.locals) (hc : cells + 1 ≤ rm.cells) (hs : slots + 6 ≤ rm.slots) : J g x nL B (j_QN g x B rm) cells slots (some (.inl 0, w)) pc lv rest w := by
  intro r w' ho H locs ls h hR hq
  cases ho
  obtain ⟨p, e, R, s, m, args, below, meth, c⟩ := x
  obtain ⟨h1, h2, h3, h4, h5, h6, h7, -, h9⟩ := hx
  cases h9
  have hK3 := h6.2.2.2.2.2.2.2.2.2.2
  intro T hT X
  have hfr := vx_frame (U := T) X.same
  have hold : ∀ q : Nat, q < jgb g → T.heap[q]? = s.heap[q]? := fun q hq0 => hfr.2 q (Nat.lt_of_lt_of_le hq0 hsz) fun z hz e => absurd hq0 (Nat.not_lt.mpr (e ▸ hq z hz))
  have hz : ∀ {C n d : String}, vx_Zq C n d (fun q => jgb g ≤ q) s (jgH g) → vx_Zq C n d (fun q => jgb g ≤ q) s s.heap := fun {C n d} z => z.kept fun a _ ha => by
    have ha' : a < jgb g := Nat.not_le.mp ha
    rw [← hold a ha', hT]
    exact hR.2.2.2.2.1 a ha'
  have hS0 : va_S (fun q => jgb g ≤ q) s.heap H locs := ⟨by rw [← hT]; exact hfr.1, fun q _ hq0 => by rw [← hT]; exact hold q (Nat.not_le.mp hq0), hq⟩
  have hRm1 : 6 ≤ R.frames := hRm.1
  have hRm2 : 100 ≤ R.locals := hRm.2
  refine vx_throw0 (names := ["java/lang/RuntimeException", "java/lang/Exception"]) h1 h2 hK3.2.2.2.2.2.1 h4 (by decide +kernel) (by decide +kernel) (h5 _ hk) (h5 _ hini) (jNS_hat h5 h6) (fun w hw => ?_) (hz hK3.2.2.1) (hz hK3.2.2.2.1) hS0 (h.1.trans h3.symm) d0 d3 d4 d7 (fun z hz => (hnt z hz).elim) (by show 2 + 3 < R.frames; omega) (by show _ + (13 * (2 + 1) + 42) ≤ R.locals; omega) hc hs h7 (fun t _ e2 e3 => ⟨⟨0, rfl⟩, rfl, hR.more e2 e3⟩) hq hc hs T hT X
  rcases List.mem_cons.mp hw with e | hw
  · rw [e]; exact hgk.1
  · rcases List.mem_cons.mp hw with e | hw
    · rw [e]; exact hgk.2
    · exact List.all_eq_true.mp jNS_ok w hw
end JNS
