/-! J: methods that throw a TracePeaks$Wrong (kind 9), calls of them, and what catches it -/
def jxC (x : j_X) : Code := x.2.2.2.2.2.2.2.2
def jcx {α β : Type} (o : Option ((Nat ⊕ β) × j_St)) (k : β → j_St → Option ((Nat ⊕ α) × j_St)) : Option ((Nat ⊕ α) × j_St) := match o with
  | none => none
  | some (.inl n, w) => some (.inl n, w)
  | some (.inr a, w) => k a w
def jch {α β : Type} (o : Option ((Nat ⊕ β) × j_St)) (h : Nat → j_St → Option (α × j_St)) (k : β → j_St → Option (α × j_St)) : Option (α × j_St) := match o with
  | none => none
  | some (.inl n, w) => h n w
  | some (.inr a, w) => k a w
def j_QcX {α : Type} (g : j_G) (B : j_B) (r : Nat ⊕ α) (w' : j_St) (rv : α → j_B → Option Value) (PB : α → j_St → j_B → Prop) : Array Value → State → Outcome → State → Prop := fun _ _ o t => ∃ a, r = .inr a ∧ ∃ B', j_ext B B' ∧ PB a w' B' ∧ o = .returned (rv a B') ∧ j_R g B' w' t.heap
def j_XcX {α : Type} (g : j_G) (B : j_B) (r : Nat ⊕ α) (w' : j_St) : Addr → String → State → State → Prop := fun q E _ t => ∃ n, r = .inl n ∧ E = RX12 ∧ ∃ B', j_ext B B' ∧ (B'.2.1 9 n ∧ B'.2.2 9 n) ∧ q = B'.1 9 n ∧ j_R g B' w' t.heap
def j_MX {α : Type} (g : j_G) (y : MethodName) (cc : ByteArray) (nL : Nat) (ret : Option FieldType) (rm : Room) (B : j_B) (As : List Value) (w w' : j_St) (r : Nat ⊕ α) (rv : α → j_B → Option Value) (PB : α → j_St → j_B → Prop) : Prop :=
  vz_Met g.1 y (ws_ y cc nL ret) rm (j_Pc g B As w) (j_QcX g B r w' rv PB) (j_XcX g B r w') rm.cells rm.slots (j_fr g)
def j_QX {α : Type} (g : j_G) (x : j_X) (B : j_B) (rm : Room) (rv : α → j_B → Option Value) (PB : α → j_St → j_B → Prop) : (Nat ⊕ α) → j_St → State → Prop := fun r w' => vz_MQ x.2.2.2.2.2.2.1 (j_QcX g B r w' rv PB) (j_XcX g B r w') x.2.2.2.2.2.1 x.2.2.2.1 rm.cells rm.slots (j_fr g)
theorem j_metX {α : Type} {g : j_G} {y : MethodName} {cc : ByteArray} {nL : Nat} {ret : Option FieldType} {rm : Room} {B : j_B} {As : List Value} {w : j_St} {rv : α → j_B → Option Value} {PB : α → j_St → j_B → Prop} {o : Option ((Nat ⊕ α) × j_St)}
    (hy : plainName y.cls = true) (hn : (lg_sl As).length ≤ nL)
    (body : ∀ x : j_X, j_C cc nL y.cls ret rm g x → (∀ z ∈ (jxC x).exceptionTable.toList, False) → J g x nL B (j_QX g x B rm rv PB) 0 0 o 0 (lv_args 0 As) [] w) {r : Nat ⊕ α} {w' : j_St} (ho : o = some (r, w')) : j_MX g y cc nL ret rm B As w w' r rv PB := by
  refine vz_ofW (cc := cc) (maxL := nL) (ret := ret) hy rfl ?_
  intro p e s m args below meth c s₁ BL hml htab hv
  obtain ⟨rfl, hR, hK⟩ := hv
  have hts := atoms_spec (ws := ws_ y cc nL ret) BL.pre
  have hts : ∀ w ∈ lw_all, w.before _ s = true := fun w h => hts w (List.mem_cons_of_mem _ h)
  have hown : s.vm.findClass y.cls = some m.cls := findClass_of_methodNamed BL.named
  have k := body (p, e, rm, s, m, As.toArray, below, meth, c) ⟨BL.exec, BL.bytes, hml, hown, hts, hK, BL.notSynchronized, BL.returns, rfl⟩ htab r w' ho s.heap [] _ (lv_entry As hn) hR (fun q h => by cases h)
  rw [lg_entry_eq]
  exact k
def j_CallX {β : Type} (g : j_G) (x : j_X) (nL : Nat) (B : j_B) (w w1 : j_St) (pc pc' : Nat) (st0 rest : List Value) (mc ms : Nat) (r : Nat ⊕ β) (rv : β → j_B → Option Value) (PB : β → j_St → j_B → Prop) : Prop :=
  ∀ (H : Heap) (locs : List Loc) (ls : Array Slot) (cells slots : Nat) (Q : State → Prop), ls.size = nL → j_R g B w H → (∀ q ∈ locs, jgb g ≤ q.base) → cells + mc ≤ (jxR x).cells → slots + ms ≤ (jxR x).slots →
    (∀ (a : β) (B1 : j_B) (H1 : Heap) (locs1 : List Loc), r = .inr a → j_ext B B1 → PB a w1 B1 → j_R g B1 w1 H1 → (∀ q ∈ locs1, jgb g ≤ q.base) → j_W g x H1 locs1 (cells + mc) (slots + ms) Q pc' ls ((rv a B1).toList ++ rest)) →
    (∀ (n : Nat) (B1 : j_B) (H1 : Heap) (locs1 : List Loc), r = .inl n → j_ext B B1 → (B1.2.1 9 n ∧ B1.2.2 9 n) → j_R g B1 w1 H1 → (∀ q ∈ locs1, jgb g ≤ q.base) →
      vx_W x.1 g.1 x.2.1 x.2.2.1 x.2.2.2.1 x.2.2.2.2.1 x.2.2.2.2.2.1 x.2.2.2.2.2.2.1 x.2.2.2.2.2.2.2.1 x.2.2.2.2.2.2.2.2 H1 locs1 (cells + mc) (slots + ms) Q (F0 x.2.2.2.2.1 pc ls rest) (B1.1 9 n)) → j_W g x H locs cells slots Q pc ls st0
theorem j_callX_of {β : Type} {g : j_G} {x : j_X} {nL : Nat} {B : j_B} {w w1 : j_St} {pc : Nat} {st0 rest : List Value} {mc ms : Nat} {r : Nat ⊕ β} {rv : β → j_B → Option Value} {PB : β → j_St → j_B → Prop} {a : Array Value}
    (hr : ∀ (H : Heap) (locs : List Loc) (ls : Array Slot) (cells slots : Nat), ls.size = nL → j_R g B w H → cells + mc ≤ (jxR x).cells → slots + ms ≤ (jxR x).slots → vz_Run x.1 g.1 x.2.1 x.2.2.1 x.2.2.2.1 x.2.2.2.2.1 x.2.2.2.2.2.1 x.2.2.2.2.2.2.1 x.2.2.2.2.2.2.2.1 x.2.2.2.2.2.2.2.2 H locs cells slots mc ms (F0 x.2.2.2.2.1 pc ls st0) rest (j_QcX g B r w1 rv PB a) (j_XcX g B r w1) (j_fr g)) :
    j_CallX g x nL B w w1 pc (pc + 3) st0 rest mc ms r rv PB := by
  intro H locs ls cells slots Q hls hR hq hc hs kk kx T hT X
  rcases hr H locs ls cells slots hls hR hc hs T hT X with ⟨v, st₀, t, T', L, h0, X', hL, e1, e2, hQ, st⟩ | ⟨q, st₀, t, T', L, E, ce, h0, X', hL, e1, e2, hX, hce, hcv, hcl, st⟩
  · obtain ⟨a1, hr1, B1, he, hp, hv, hR1⟩ := hQ
    cases hv
    obtain ⟨t2, y1, y2⟩ := kk a1 B1 T'.heap (locs ++ L) hr1 he hp (by rw [e1]; exact hR1) (fun q hq0 => by
      rcases List.mem_append.mp hq0 with z | z
      · exact hq q z
      · exact hL q z) T' rfl X'
    exact ⟨t2, st t2 y1, y2⟩
  · obtain ⟨n, hr1, -, B1, he, hb, hqa, hR1⟩ := hX
    subst hqa
    obtain ⟨t2, y1, y2⟩ := kx n B1 T'.heap (locs ++ L) hr1 he hb (by rw [e1]; exact hR1) (fun q hq0 => by
      rcases List.mem_append.mp hq0 with z | z
      · exact hq q z
      · exact hL q z) T' rfl X'
    exact ⟨t2, st.trans y1, y2⟩
section JX
variable {α β : Type} {g : j_G} {x : j_X} {cc : ByteArray} {nL : Nat} {own : String} {ret : Option FieldType} {rm : Room} {B B0 : j_B} {Q : α → j_St → State → Prop} {cells slots : Nat} {o o1 o2 : Option (α × j_St)} {pc pc' : Nat} {lv lv' : List (Nat × Value)} {st st' rest : List Value} {w w1 : j_St}
variable {y : MethodName} {cy : ByteArray} {nY : Nat} {rY : Option FieldType} {rmY : Room} {As : List Value} {index n : Nat}
theorem j_callVX (hx : j_C cc nL own ret rm g x) {κ b : Nat} {C : String} {T : u_T} {N : Nat} {r : Nat ⊕ β} {rv : β → j_B → Option Value} {PB : β → j_St → j_B → Prop} (h0 : jk0 κ = 0) (hcl : jcl[jk1 κ]? = some (C, T, N)) (ha : B.2.1 κ b) (hM : j_MX g y cy nY rY rmY B (.ref (B.1 κ b) :: As) w w1 r rv PB) (hT : GoodIn lw_all (wsV own index C y (ws_ y cy nY rY)))
    (hd : y.cls = C ∧ y.cls ≠ "java/lang/invoke/MethodHandle" ∧ y.cls ≠ "java/lang/invoke/VarHandle" ∧ (parseMethodDescriptor y.desc).map (fun d => d.parameters.length) = some n) (hn : As.length = n) (hRm : j_rm rm rmY nY) (hW : (rest.map fun v => v.category).sum ≤ 8) (d : decode cc pc = .ok (.invokevirtual index, 3)) :
    j_CallX g x nL B w w1 pc (pc + 3) (As.reverse ++ .ref (B.1 κ b) :: rest) rest rmY.cells rmY.slots r rv PB := by
  refine j_callX_of (a := (Value.ref (B.1 κ b) :: As).toArray) ?_
  intro H locs ls cells slots hls hR hc hs
  obtain ⟨p, e, R, s, m, args, below, meth, c⟩ := x
  obtain ⟨h1, h2, h3, h4, h5, h6, -, -, h9⟩ := hx
  cases h9
  obtain ⟨hK, hK2⟩ := h6
  have hrec : ∃ cellB : Cell, H[B.1 κ b]? = some cellB ∧ cellB.vm.isStatics = false ∧ s.vm.findClass C = some cellB.cls := by
    obtain ⟨cell, g1, g2, g3, -⟩ := (hR.1 κ b ha).obj h0 hcl
    exact ⟨cell, g1, by rw [g3]; rfl, by rw [g2]; exact (hK.1 _ _ hcl).2.1⟩
  exact vz_runV (As := As) (rest := rest) ⟨h1, h2, h3, h4, h5⟩ hM (cwV n h5 hT rfl rfl rfl hd hRm) ⟨j_Pc_blind, hrec, j_Pc_start hR ⟨hK, hK2⟩⟩ rfl hn hls rfl (lv_room hW) d ⟨hc, hs⟩
/-- it goes on to the caller -/
theorem j_outX {rv : α → j_B → Option Value} {PB : α → j_St → j_B → Prop} {ls : Array Slot} {H1 : Heap} {locs1 : List Loc} {n : Nat} (hx : j_C cc nL own ret rm g x) (hnt : ∀ z ∈ (jxC x).exceptionTable.toList, False) (he : j_ext B0 B) (ha : B.2.1 9 n ∧ B.2.2 9 n) (hR : j_R g B w H1) (hq : ∀ q ∈ locs1, jgb g ≤ q.base) (hc : cells ≤ rm.cells) (hs : slots ≤ rm.slots) :
    vx_W x.1 g.1 x.2.1 x.2.2.1 x.2.2.2.1 x.2.2.2.2.1 x.2.2.2.2.2.1 x.2.2.2.2.2.2.1 x.2.2.2.2.2.2.2.1 x.2.2.2.2.2.2.2.2 H1 locs1 cells slots (j_QX (α := α) g x B0 rm rv PB (.inl n) w) (F0 x.2.2.2.2.1 pc ls rest) (B.1 9 n) := by
  obtain ⟨p, e, R, s, m, args, below, meth, c⟩ := x
  obtain ⟨h1, h2, h3, h4, h5, h6, h7, -, h9⟩ := hx
  cases h9
  have hcl : jcl[jk1 9]? = some (RX12, TX12, 7) := rfl
  obtain ⟨cell, g1, g2, g3, -⟩ := (hR.1 9 n ha.1).obj rfl hcl
  exact vz_out (fun z hz => (hnt z hz).elim) h7 g1 g3 (by rw [g2]; exact (h6.1.1 _ _ hcl).2.1) (fun t ht _ => ⟨n, rfl, rfl, B, he, ha, rfl, by rw [ht]; exact hR⟩) hq hc hs
theorem J.throw (hx : j_C cc nL own ret rm g x) (hnt : ∀ z ∈ (jxC x).exceptionTable.toList, False) {n : Nat} {rv : α → j_B → Option Value} {PB : α → j_St → j_B → Prop} (he : j_ext B0 B) (ha : B.2.1 9 n ∧ B.2.2 9 n) (hc : cells ≤ rm.cells) (hs : slots ≤ rm.slots) (d : decode cc pc = .ok (.athrow, 1)) : J g x nL B (j_QX g x B0 rm rv PB) cells slots (some (.inl n, w)) pc lv (.ref (B.1 9 n) :: st) w := by
  intro r w' ho H locs ls h hR hq
  cases ho
  exact vx_athrow hx.1 hx.2.1 d (j_outX hx hnt he ha hR hq hc hs)
theorem J.callX (hx : j_C cc nL own ret rm g x) (hnt : ∀ z ∈ (jxC x).exceptionTable.toList, False) {f : Option ((Nat ⊕ β) × j_St)} {k : β → j_St → Option ((Nat ⊕ α) × j_St)} {rv : α → j_B → Option Value} {PB : α → j_St → j_B → Prop} {rvY : β → j_B → Option Value} {PBY : β → j_St → j_B → Prop} {mc ms : Nat}
    (hc : ∀ r w1, f = some (r, w1) → j_CallX g x nL B w w1 pc pc' st rest mc ms r rvY PBY) (he0 : j_ext B0 B) (hcs : cells + mc ≤ rm.cells ∧ slots + ms ≤ rm.slots)
    (kk : ∀ a w1 B1, f = some (.inr a, w1) → j_ext B B1 → PBY a w1 B1 → J g x nL B1 (j_QX g x B0 rm rv PB) (cells + mc) (slots + ms) (k a w1) pc' lv ((rvY a B1).toList ++ rest) w1) : J g x nL B (j_QX g x B0 rm rv PB) cells slots (jcx f k) pc lv st w := by
  have hR0 : jxR x = rm := hx.2.2.2.2.2.2.2.2
  cases hf : f with
  | none => exact J.nne
  | some p =>
    obtain ⟨r, w1⟩ := p
    cases r with
    | inl n =>
      intro r' w' ho H locs ls h hR hq
      cases ho
      refine hc (.inl n) w1 hf H locs ls cells slots _ h.1 hR hq (by rw [hR0]; exact hcs.1) (by rw [hR0]; exact hcs.2) (fun a B1 H1 locs1 hr => by cases hr) fun n' B1 H1 locs1 hr he hb hR1 hq1 => ?_
      cases hr
      exact j_outX hx hnt (he0.tr he) hb hR1 hq1 hcs.1 hcs.2
    | inr a =>
      intro r' w' ho H locs ls h hR hq
      refine hc (.inr a) w1 hf H locs ls cells slots _ h.1 hR hq (by rw [hR0]; exact hcs.1) (by rw [hR0]; exact hcs.2) (fun a' B1 H1 locs1 hr he hp hR1 hq1 => ?_) fun n' B1 H1 locs1 hr => by cases hr
      cases hr
      exact kk a w1 B1 hf he hp r' w' ho H1 locs1 ls h hR1 hq1
theorem J.callXi (hx : j_C cc nL own ret rm g x) (hnt : ∀ z ∈ (jxC x).exceptionTable.toList, False) {f : Option ((Nat ⊕ Int32) × j_St)} {k : Int32 → j_St → Option ((Nat ⊕ α) × j_St)} {rv : α → j_B → Option Value} {PB : α → j_St → j_B → Prop} {PBY : Int32 → j_St → j_B → Prop} {mc ms : Nat}
    (hc : ∀ r w1, f = some (r, w1) → j_CallX g x nL B w w1 pc pc' st rest mc ms r (fun v _ => jri v) PBY) (he0 : j_ext B0 B) (hcs : cells + mc ≤ rm.cells ∧ slots + ms ≤ rm.slots)
    (kk : ∀ a w1 B1, f = some (.inr a, w1) → j_ext B B1 → PBY a w1 B1 → J g x nL B1 (j_QX g x B0 rm rv PB) (cells + mc) (slots + ms) (k a w1) pc' lv (.int a :: rest) w1) : J g x nL B (j_QX g x B0 rm rv PB) cells slots (jcx f k) pc lv st w := J.callX hx hnt hc he0 hcs kk
theorem J.callXv (hx : j_C cc nL own ret rm g x) (hnt : ∀ z ∈ (jxC x).exceptionTable.toList, False) {f : Option ((Nat ⊕ Unit) × j_St)} {k : Unit → j_St → Option ((Nat ⊕ α) × j_St)} {rv : α → j_B → Option Value} {PB : α → j_St → j_B → Prop} {PBY : Unit → j_St → j_B → Prop} {mc ms : Nat}
    (hc : ∀ r w1, f = some (r, w1) → j_CallX g x nL B w w1 pc pc' st rest mc ms r (fun _ _ => none) PBY) (he0 : j_ext B0 B) (hcs : cells + mc ≤ rm.cells ∧ slots + ms ≤ rm.slots)
    (kk : ∀ a w1 B1, f = some (.inr a, w1) → j_ext B B1 → PBY a w1 B1 → J g x nL B1 (j_QX g x B0 rm rv PB) (cells + mc) (slots + ms) (k a w1) pc' lv rest w1) : J g x nL B (j_QX g x B0 rm rv PB) cells slots (jcx f k) pc lv st w := J.callX hx hnt hc he0 hcs kk
/-- ends -/
theorem J.iretX (hx : j_C cc nL own ret rm g x) {v : Int32} {lv : List (Nat × Value)} {PB : Int32 → j_St → j_B → Prop} (he : j_ext B0 B) (hp : PB v w B) (hr : ret = some .int) (hc : cells ≤ rm.cells) (hs : slots ≤ rm.slots) (d : decode cc pc = .ok (.ireturn, 1)) : J g x nL B (j_QX g x B0 rm (fun v _ => jri v) PB) cells slots (some (.inr v, w)) pc lv [.int v] w := by
  intro r w' ho H locs ls h hR hq
  cases ho
  refine W.widen hc hs (vz_ret ?_)
  exact W.iret hx.1 hx.2.1 (hx.2.2.2.2.2.2.2.1.trans hr) (fun t ht _ => ⟨v, rfl, B, he, hp, rfl, by rw [ht]; exact hR⟩) hq d hx.2.2.2.2.2.2.1
theorem J.vretX (hx : j_C cc nL own ret rm g x) {lv : List (Nat × Value)} {PB : Unit → j_St → j_B → Prop} (he : j_ext B0 B) (hp : PB () w B) (hr : ret = none) (hc : cells ≤ rm.cells) (hs : slots ≤ rm.slots) (d : decode cc pc = .ok (.return_, 1)) : J g x nL B (j_QX g x B0 rm (fun _ _ => none) PB) cells slots (some (.inr (), w)) pc lv [] w := by
  intro r w' ho H locs ls h hR hq
  cases ho
  refine W.widen hc hs (vz_ret ?_)
  exact W.vret hx.1 hx.2.1 (hx.2.2.2.2.2.2.2.1.trans hr) (fun t ht _ => ⟨(), rfl, B, he, hp, rfl, by rw [ht]; exact hR⟩) hq d hx.2.2.2.2.2.2.1
theorem J.aretX (hx : j_C cc nL own ret rm g x) {κ q : Nat} {rt : FieldType} {lv : List (Nat × Value)} {PB : Nat → j_St → j_B → Prop} (he : j_ext B0 B) (hp : PB q w B) (hr : ret = some rt) (hrt : (∃ n, rt = .object n) ∨ ∃ t, rt = .array t) (hc : cells ≤ rm.cells) (hs : slots ≤ rm.slots) (d : decode cc pc = .ok (.areturn, 1)) : J g x nL B (j_QX g x B0 rm (fun q B => jrr B κ q) PB) cells slots (some (.inr q, w)) pc lv [.ref (B.1 κ q)] w := by
  intro r w' ho H locs ls h hR hq
  cases ho
  refine W.widen hc hs (vz_ret ?_)
  exact W.aret hx.1 hx.2.1 (hx.2.2.2.2.2.2.2.1.trans hr) hrt (Or.inr ⟨_, rfl⟩) (fun t ht _ => ⟨q, rfl, B, he, hp, rfl, by rw [ht]; exact hR⟩) hq d hx.2.2.2.2.2.2.1
/-- a call whose throw is caught here -/
theorem J.callH (hx : j_C cc nL own ret rm g x) {f : Option ((Nat ⊕ β) × j_St)} {kh : Nat → j_St → Option (α × j_St)} {k : β → j_St → Option (α × j_St)} {rvY : β → j_B → Option Value} {PBY : β → j_St → j_B → Prop} {mc ms : Nat}
    (hc : ∀ r w1, f = some (r, w1) → j_CallX g x nL B w w1 pc pc' st rest mc ms r rvY PBY) (hcs : cells + mc ≤ rm.cells ∧ slots + ms ≤ rm.slots)
    {z : ExceptionTableEntry} (htab : (jxC x).exceptionTable.toList = [z]) (hcov : covers z pc = true) (hz : z.catchType ≠ 0) (hl : Cond.classLink own z.catchType RX12 ∈ lw_all)
    (kx : ∀ n w1 B1, f = some (.inl n, w1) → j_ext B B1 → (B1.2.1 9 n ∧ B1.2.2 9 n) → J g x nL B1 Q (cells + mc) (slots + ms) (kh n w1) z.handlerPc lv [.ref (B1.1 9 n)] w1)
    (kk : ∀ a w1 B1, f = some (.inr a, w1) → j_ext B B1 → PBY a w1 B1 → J g x nL B1 Q (cells + mc) (slots + ms) (k a w1) pc' lv ((rvY a B1).toList ++ rest) w1) : J g x nL B Q cells slots (jch f kh k) pc lv st w := by
  have hR0 : jxR x = rm := hx.2.2.2.2.2.2.2.2
  cases hf : f with
  | none => exact J.nne
  | some p =>
    obtain ⟨r, w1⟩ := p
    cases r with
    | inl n =>
      intro r' w' ho H locs ls h hR hq
      refine hc (.inl n) w1 hf H locs ls cells slots _ h.1 hR hq (by rw [hR0]; exact hcs.1) (by rw [hR0]; exact hcs.2) (fun a B1 H1 locs1 hr => by cases hr) fun n' B1 H1 locs1 hr he hb hR1 hq1 => ?_
      cases hr
      have k2 := kx n w1 B1 hf he hb r' w' ho H1 locs1 ls h hR1 hq1
      obtain ⟨p, e, R, s, m, args, below, meth, c⟩ := x
      obtain ⟨h1, h2, h3, h4, h5, h6, h7, -, h9⟩ := hx
      cases h9
      have hcl : jcl[jk1 9]? = some (RX12, TX12, 7) := rfl
      obtain ⟨cell, g1, g2, g3, -⟩ := (hR1.1 9 n hb.1).obj rfl hcl
      exact vx_catch (name := RX12) (E := RX12) h4 [] z [] htab (fun q h => by cases h) hcov hz (h5 _ hl) (va_Nw.use (A := args) rfl (h6.2.2.1 _ (j_nl q784 rfl))) g1 g3 (by rw [g2]; exact (h6.1.1 _ _ hcl).2.1) k2
    | inr a =>
      intro r' w' ho H locs ls h hR hq
      refine hc (.inr a) w1 hf H locs ls cells slots _ h.1 hR hq (by rw [hR0]; exact hcs.1) (by rw [hR0]; exact hcs.2) (fun a' B1 H1 locs1 hr he hp hR1 hq1 => ?_) fun n' B1 H1 locs1 hr => by cases hr
      cases hr
      exact kk a w1 B1 hf he hp r' w' ho H1 locs1 ls h hR1 hq1
end JX
