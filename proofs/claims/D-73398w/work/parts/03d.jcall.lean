/-! J: calls of methods that make no cells (or no more than their room says), and what makes cells -/
/-- behind a call -/
theorem j_Pc_blind {g : j_G} {B : j_B} {As : List Value} {w : j_St} : FrameBlind (j_Pc g B As w) := fun a U f mk h => ⟨h.1, h.2.1, j_K_vm (s := U) (U := U.calling f mk a) rfl h.2.2⟩
theorem j_Pc_start {g : j_G} {B : j_B} {As : List Value} {w : j_St} {s : State} {H : Heap} (hR : j_R g B w H) (hK : j_K g s) : ∀ U : State, U.heap = H → s.WarmedH U.vm → j_Pc g B As w As.toArray U := fun U hU hW => ⟨rfl, by rw [hU]; exact hR, j_K_moved hW hK⟩
/-- what a call does: run, and behind it -/
def j_Call (g : j_G) (x : j_X) (nL : Nat) (B : j_B) (As : List Value) (w w1 : j_St) (pc pc' : Nat) (st0 rest : List Value) (mc ms : Nat) (v : Option Value) : Prop :=
  ∀ (H : Heap) (locs : List Loc) (ls : Array Slot) (cells slots : Nat) (Q : State → Prop), ls.size = nL → j_R g B w H → (∀ q ∈ locs, jgb g ≤ q.base) → cells + mc ≤ (jxR x).cells → slots + ms ≤ (jxR x).slots →
    (∀ (H1 : Heap) (locs1 : List Loc), j_R g B w1 H1 → (∀ q ∈ locs1, jgb g ≤ q.base) → j_W g x H1 locs1 (cells + mc) (slots + ms) Q pc' ls (v.toList ++ rest)) → j_W g x H locs cells slots Q pc ls st0
theorem j_call_of {g : j_G} {x : j_X} {nL : Nat} {B : j_B} {As : List Value} {w w1 : j_St} {pc : Nat} {st0 rest : List Value} {mc ms : Nat} {rv : Option Value} {a : Array Value}
    (hr : ∀ (H : Heap) (locs : List Loc) (ls : Array Slot) (cells slots : Nat), ls.size = nL → j_R g B w H → cells + mc ≤ (jxR x).cells → slots + ms ≤ (jxR x).slots → va_Run x.1 g.1 x.2.1 x.2.2.1 x.2.2.2.1 x.2.2.2.2.1 x.2.2.2.2.2.1 x.2.2.2.2.2.2.1 x.2.2.2.2.2.2.2.1 x.2.2.2.2.2.2.2.2 H locs cells slots mc ms (F0 x.2.2.2.2.1 pc ls st0) rest (j_Qr g B rv w1 a) (j_fr g)) :
    j_Call g x nL B As w w1 pc (pc + 3) st0 rest mc ms rv := by
  intro H locs ls cells slots Q hls hR hq hc hs kk T hT X
  obtain ⟨v, st₀, t, T', L, h0, X', hL, e1, e2, ⟨hv, hR1⟩, st⟩ := hr H locs ls cells slots hls hR hc hs T hT X
  cases hv
  obtain ⟨t2, a1, b1⟩ := kk T'.heap (locs ++ L) (by rw [e1]; exact hR1) (fun q hq0 => by
    rcases List.mem_append.mp hq0 with z | z
    · exact hq q z
    · exact hL q z) T' rfl X'
  exact ⟨t2, st t2 a1, b1⟩
theorem j_call_of5 {g : j_G} {x : j_X} {nL : Nat} {B : j_B} {As : List Value} {w w1 : j_St} {pc : Nat} {st0 rest : List Value} {mc ms : Nat} {rv : Option Value} {a : Array Value}
    (hr : ∀ (H : Heap) (locs : List Loc) (ls : Array Slot) (cells slots : Nat), ls.size = nL → j_R g B w H → cells + mc ≤ (jxR x).cells → slots + ms ≤ (jxR x).slots → va_Run5 x.1 g.1 x.2.1 x.2.2.1 x.2.2.2.1 x.2.2.2.2.1 x.2.2.2.2.2.1 x.2.2.2.2.2.2.1 x.2.2.2.2.2.2.2.1 x.2.2.2.2.2.2.2.2 H locs cells slots mc ms (F0 x.2.2.2.2.1 pc ls st0) rest (j_Qr g B rv w1 a) (j_fr g)) :
    j_Call g x nL B As w w1 pc (pc + 5) st0 rest mc ms rv := by
  intro H locs ls cells slots Q hls hR hq hc hs kk T hT X
  obtain ⟨v, st₀, t, T', L, h0, X', hL, e1, e2, ⟨hv, hR1⟩, st⟩ := hr H locs ls cells slots hls hR hc hs T hT X
  cases hv
  obtain ⟨t2, a1, b1⟩ := kk T'.heap (locs ++ L) (by rw [e1]; exact hR1) (fun q hq0 => by
    rcases List.mem_append.mp hq0 with z | z
    · exact hq q z
    · exact hL q z) T' rfl X'
  exact ⟨t2, st t2 a1, b1⟩
section JC
variable {α β : Type} {g : j_G} {x : j_X} {cc : ByteArray} {nL : Nat} {own : String} {ret : Option FieldType} {rm : Room} {B : j_B} {Q : α → j_St → State → Prop} {cells slots : Nat} {o o1 o2 : Option (α × j_St)} {pc pc' : Nat} {lv lv' : List (Nat × Value)} {st rest : List Value} {w w1 : j_St}
variable {y : MethodName} {cy : ByteArray} {nY : Nat} {rY : Option FieldType} {rmY : Room} {As : List Value} {v : Option Value} {index n : Nat}
/-- the rest of a walk behind a call -/
theorem J.call (hx : j_C cc nL own ret rm g x) {f : Option (β × j_St)} {k : β → j_St → Option (α × j_St)} {rv : β → Option Value} {mc ms : Nat}
    (hc : ∀ r w1, f = some (r, w1) → j_Call g x nL B As w w1 pc pc' st rest mc ms (rv r)) (hcs : cells + mc ≤ rm.cells ∧ slots + ms ≤ rm.slots)
    (kk : ∀ r w1, f = some (r, w1) → J g x nL B Q (cells + mc) (slots + ms) (k r w1) pc' lv ((rv r).toList ++ rest) w1) : J g x nL B Q cells slots (jcb f k) pc lv st w := by
  have hR0 : jxR x = rm := hx.2.2.2.2.2.2.2.2
  cases hf : f with
  | none => exact J.nne
  | some p =>
    obtain ⟨r, w1⟩ := p
    intro r' w' ho H locs ls h hR hq
    exact hc r w1 hf H locs ls cells slots _ h.1 hR hq (by rw [hR0]; exact hcs.1) (by rw [hR0]; exact hcs.2) fun H1 locs1 hR1 hq1 => kk r w1 hf r' w' ho H1 locs1 ls h hR1 hq1
theorem J.calli (hx : j_C cc nL own ret rm g x) {f : Option (Int32 × j_St)} {k : Int32 → j_St → Option (α × j_St)} {mc ms : Nat}
    (hc : ∀ r w1, f = some (r, w1) → j_Call g x nL B As w w1 pc pc' st rest mc ms (jri r)) (hcs : (mc = 0 ∧ ms = 0) ∧ cells ≤ rm.cells ∧ slots ≤ rm.slots)
    (kk : ∀ r w1, f = some (r, w1) → J g x nL B Q cells slots (k r w1) pc' lv (.int r :: rest) w1) : J g x nL B Q cells slots (jcb f k) pc lv st w := by
  obtain ⟨⟨rfl, rfl⟩, h1, h2⟩ := hcs
  exact J.call hx (rv := jri) hc ⟨h1, h2⟩ kk
theorem J.calll (hx : j_C cc nL own ret rm g x) {f : Option (Int64 × j_St)} {k : Int64 → j_St → Option (α × j_St)} {mc ms : Nat}
    (hc : ∀ r w1, f = some (r, w1) → j_Call g x nL B As w w1 pc pc' st rest mc ms (jrl r)) (hcs : (mc = 0 ∧ ms = 0) ∧ cells ≤ rm.cells ∧ slots ≤ rm.slots)
    (kk : ∀ r w1, f = some (r, w1) → J g x nL B Q cells slots (k r w1) pc' lv (.long r :: rest) w1) : J g x nL B Q cells slots (jcb f k) pc lv st w := by
  obtain ⟨⟨rfl, rfl⟩, h1, h2⟩ := hcs
  exact J.call hx (rv := jrl) hc ⟨h1, h2⟩ kk
theorem J.callv (hx : j_C cc nL own ret rm g x) {f : Option (Unit × j_St)} {k : Unit → j_St → Option (α × j_St)} {mc ms : Nat}
    (hc : ∀ r w1, f = some (r, w1) → j_Call g x nL B As w w1 pc pc' st rest mc ms none) (hcs : (mc = 0 ∧ ms = 0) ∧ cells ≤ rm.cells ∧ slots ≤ rm.slots)
    (kk : ∀ r w1, f = some (r, w1) → J g x nL B Q cells slots (k r w1) pc' lv rest w1) : J g x nL B Q cells slots (jcb f k) pc lv st w := by
  obtain ⟨⟨rfl, rfl⟩, h1, h2⟩ := hcs
  exact J.call hx (rv := fun _ => none) hc ⟨h1, h2⟩ kk
theorem J.callt (hx : j_C cc nL own ret rm g x) {f : Option (Unit × j_St)} {k : Unit → j_St → Option (α × j_St)} {mc ms : Nat} {v0 : Value}
    (hc : ∀ r w1, f = some (r, w1) → j_Call g x nL B As w w1 pc pc' st rest mc ms (some v0)) (hcs : (mc = 0 ∧ ms = 0) ∧ cells ≤ rm.cells ∧ slots ≤ rm.slots)
    (kk : ∀ r w1, f = some (r, w1) → J g x nL B Q cells slots (k r w1) pc' lv (v0 :: rest) w1) : J g x nL B Q cells slots (jcb f k) pc lv st w := by
  obtain ⟨⟨rfl, rfl⟩, h1, h2⟩ := hcs
  exact J.call hx (rv := fun _ => some v0) hc ⟨h1, h2⟩ kk
theorem J.callq (hx : j_C cc nL own ret rm g x) {κ : Nat} {f : Option (Option Nat × j_St)} {k : Option Nat → j_St → Option (α × j_St)} {mc ms : Nat}
    (hc : ∀ r w1, f = some (r, w1) → j_Call g x nL B As w w1 pc pc' st rest mc ms (jro_ B κ r)) (hcs : (mc = 0 ∧ ms = 0) ∧ cells ≤ rm.cells ∧ slots ≤ rm.slots)
    (kk : ∀ r w1, f = some (r, w1) → J g x nL B Q cells slots (k r w1) pc' lv (va_re (B.1 κ) r :: rest) w1) : J g x nL B Q cells slots (jcb f k) pc lv st w := by
  obtain ⟨⟨rfl, rfl⟩, h1, h2⟩ := hcs
  exact J.call hx (rv := jro_ B κ) hc ⟨h1, h2⟩ kk
/-- what a callee asks of the room -/
def j_rm (R rmY : Room) (nY : Nat) : Prop := rmY.frames + 1 ≤ R.frames ∧ 8 + (nY + 11) + rmY.locals ≤ R.locals
theorem j_runV (hx : j_C cc nL own ret rm g x) {κ b : Nat} {C : String} {T : u_T} {N : Nat} (h0 : jk0 κ = 0) (hcl : jcl[jk1 κ]? = some (C, T, N)) (ha : B.2.1 κ b) {Qc : Array Value → State → Outcome → State → Prop} (hM : Met g.1 y (ws_ y cy nY rY) rmY (j_Pc g B (.ref (B.1 κ b) :: As) w) Qc rmY.cells rmY.slots (j_fr g)) (hT : GoodIn lw_all (wsV own index C y (ws_ y cy nY rY)))
    (hd : y.cls = C ∧ y.cls ≠ "java/lang/invoke/MethodHandle" ∧ y.cls ≠ "java/lang/invoke/VarHandle" ∧ (parseMethodDescriptor y.desc).map (fun d => d.parameters.length) = some n) (hn : As.length = n) (hRm : j_rm rm rmY nY) (hW : (rest.map fun v => v.category).sum ≤ 8) (d : decode cc pc = .ok (.invokevirtual index, 3)) :
    ∀ (H : Heap) (locs : List Loc) (ls : Array Slot) (cells slots : Nat), ls.size = nL → j_R g B w H → cells + rmY.cells ≤ (jxR x).cells → slots + rmY.slots ≤ (jxR x).slots → va_Run x.1 g.1 x.2.1 x.2.2.1 x.2.2.2.1 x.2.2.2.2.1 x.2.2.2.2.2.1 x.2.2.2.2.2.2.1 x.2.2.2.2.2.2.2.1 x.2.2.2.2.2.2.2.2 H locs cells slots rmY.cells rmY.slots (F0 x.2.2.2.2.1 pc ls (As.reverse ++ .ref (B.1 κ b) :: rest)) rest (Qc (Value.ref (B.1 κ b) :: As).toArray) (j_fr g) := by
  intro H locs ls cells slots hls hR hc hs
  obtain ⟨p, e, R, s, m, args, below, meth, c⟩ := x
  obtain ⟨h1, h2, h3, h4, h5, h6, -, -, h9⟩ := hx
  cases h9
  obtain ⟨hK, hK2⟩ := h6
  have hrec : ∃ cellB : Cell, H[B.1 κ b]? = some cellB ∧ cellB.vm.isStatics = false ∧ s.vm.findClass C = some cellB.cls := by
    obtain ⟨cell, g1, g2, g3, -⟩ := (hR.1 κ b ha).obj h0 hcl
    exact ⟨cell, g1, by rw [g3]; rfl, by rw [g2]; exact (hK.1 _ _ hcl).2.1⟩
  exact va_runV (As := As) (rest := rest) ⟨h1, h2, h3, h4, h5⟩ hM (cwV n h5 hT rfl rfl rfl hd hRm) ⟨j_Pc_blind, hrec, j_Pc_start hR ⟨hK, hK2⟩⟩ rfl hn hls rfl (lv_room hW) d ⟨hc, hs⟩
theorem j_callV (hx : j_C cc nL own ret rm g x) {κ b : Nat} {C : String} {T : u_T} {N : Nat} (h0 : jk0 κ = 0) (hcl : jcl[jk1 κ]? = some (C, T, N)) (ha : B.2.1 κ b) (hM : j_M g y cy nY rY rmY B (.ref (B.1 κ b) :: As) w w1 v) (hT : GoodIn lw_all (wsV own index C y (ws_ y cy nY rY)))
    (hd : y.cls = C ∧ y.cls ≠ "java/lang/invoke/MethodHandle" ∧ y.cls ≠ "java/lang/invoke/VarHandle" ∧ (parseMethodDescriptor y.desc).map (fun d => d.parameters.length) = some n) (hn : As.length = n) (hRm : j_rm rm rmY nY) (hW : (rest.map fun v => v.category).sum ≤ 8) (d : decode cc pc = .ok (.invokevirtual index, 3)) :
    j_Call g x nL B (.ref (B.1 κ b) :: As) w w1 pc (pc + 3) (As.reverse ++ .ref (B.1 κ b) :: rest) rest rmY.cells rmY.slots v := j_call_of (a := (Value.ref (B.1 κ b) :: As).toArray) (j_runV (κ := κ) hx h0 hcl ha hM hT hd hn hRm hW d)
theorem j_runS (hx : j_C cc nL own ret rm g x) {Qc : Array Value → State → Outcome → State → Prop} (hM : Met g.1 y (ws_ y cy nY rY) rmY (j_Pc g B As w) Qc rmY.cells rmY.slots (j_fr g)) (hT : GoodIn lw_all (va_wsS own index y (ws_ y cy nY rY)))
    (hd : y.cls ≠ "java/lang/invoke/MethodHandle" ∧ y.cls ≠ "java/lang/invoke/VarHandle" ∧ (parseMethodDescriptor y.desc).map (fun d => d.parameters.length) = some n) (hn : As.length = n) (hRm : j_rm rm rmY nY) (hW : (rest.map fun v => v.category).sum ≤ 8) (d : decode cc pc = .ok (.invokestatic index, 3)) :
    ∀ (H : Heap) (locs : List Loc) (ls : Array Slot) (cells slots : Nat), ls.size = nL → j_R g B w H → cells + rmY.cells ≤ (jxR x).cells → slots + rmY.slots ≤ (jxR x).slots → va_Run x.1 g.1 x.2.1 x.2.2.1 x.2.2.2.1 x.2.2.2.2.1 x.2.2.2.2.2.1 x.2.2.2.2.2.2.1 x.2.2.2.2.2.2.2.1 x.2.2.2.2.2.2.2.2 H locs cells slots rmY.cells rmY.slots (F0 x.2.2.2.2.1 pc ls (As.reverse ++ rest)) rest (Qc As.toArray) (j_fr g) := by
  intro H locs ls cells slots hls hR hc hs
  obtain ⟨p, e, R, s, m, args, below, meth, c⟩ := x
  obtain ⟨h1, h2, h3, h4, h5, h6, -, -, h9⟩ := hx
  cases h9
  exact va_runS (As := As) (rest := rest) ⟨h1, h2, h3, h4, h5⟩ hM (va_cwS n h5 hT rfl rfl rfl hd hRm) ⟨j_Pc_blind, j_Pc_start hR h6⟩ rfl hn hls rfl (lv_room hW) d ⟨hc, hs⟩
theorem j_callS (hx : j_C cc nL own ret rm g x) (hM : j_M g y cy nY rY rmY B As w w1 v) (hT : GoodIn lw_all (va_wsS own index y (ws_ y cy nY rY)))
    (hd : y.cls ≠ "java/lang/invoke/MethodHandle" ∧ y.cls ≠ "java/lang/invoke/VarHandle" ∧ (parseMethodDescriptor y.desc).map (fun d => d.parameters.length) = some n) (hn : As.length = n) (hRm : j_rm rm rmY nY) (hW : (rest.map fun v => v.category).sum ≤ 8) (d : decode cc pc = .ok (.invokestatic index, 3)) :
    j_Call g x nL B As w w1 pc (pc + 3) (As.reverse ++ rest) rest rmY.cells rmY.slots v := j_call_of (a := As.toArray) (j_runS hx hM hT hd hn hRm hW d)
theorem j_runI (hx : j_C cc nL own ret rm g x) {κ b : Nat} {Qc : Array Value → State → Outcome → State → Prop} (hM : Met g.1 y (ws_ y cy nY none) rmY (j_Pc g B (.ref (B.1 κ b) :: As) w) Qc rmY.cells rmY.slots (j_fr g)) (hT : GoodIn lw_all (ws_ y cy nY none)) (hl : Cond.methodLink own index y ∈ lw_all) (hin : Cond.instanceMethod y ∈ lw_all) (hini : Cond.initialized y.cls ∈ lw_all) (hy : y.name = "<init>")
    (hd : y.cls ≠ "java/lang/invoke/MethodHandle" ∧ y.cls ≠ "java/lang/invoke/VarHandle" ∧ (parseMethodDescriptor y.desc).map (fun d => d.parameters.length) = some n) (hn : As.length = n) (hRm : j_rm rm rmY nY) (hW : (rest.map fun v => v.category).sum ≤ 8) (d : decode cc pc = .ok (.invokespecial index, 3)) :
    ∀ (H : Heap) (locs : List Loc) (ls : Array Slot) (cells slots : Nat), ls.size = nL → j_R g B w H → cells + rmY.cells ≤ (jxR x).cells → slots + rmY.slots ≤ (jxR x).slots → va_Run x.1 g.1 x.2.1 x.2.2.1 x.2.2.2.1 x.2.2.2.2.1 x.2.2.2.2.2.1 x.2.2.2.2.2.2.1 x.2.2.2.2.2.2.2.1 x.2.2.2.2.2.2.2.2 H locs cells slots rmY.cells rmY.slots (F0 x.2.2.2.2.1 pc ls (As.reverse ++ .ref (B.1 κ b) :: rest)) rest (Qc (Value.ref (B.1 κ b) :: As).toArray) (j_fr g) := by
  intro H locs ls cells slots hls hR hc hs
  obtain ⟨p, e, R, s, m, args, below, meth, c⟩ := x
  obtain ⟨h1, h2, h3, h4, h5, h6, -, -, h9⟩ := hx
  cases h9
  exact va_runI (As := As) (rest := rest) ⟨h1, h2, h3, h4, h5⟩ hM (cwI n h5 hT rfl rfl rfl (h5 _ hini) (h5 _ hl) (h5 _ hin) hy hd hRm) ⟨j_Pc_blind, j_Pc_start hR h6⟩ rfl hn hls rfl (lv_room hW) d ⟨hc, hs⟩
theorem j_callI (hx : j_C cc nL own ret rm g x) {κ b : Nat} (hM : j_M g y cy nY none rmY B (.ref (B.1 κ b) :: As) w w1 none) (hT : GoodIn lw_all (ws_ y cy nY none)) (hl : Cond.methodLink own index y ∈ lw_all) (hin : Cond.instanceMethod y ∈ lw_all) (hini : Cond.initialized y.cls ∈ lw_all) (hy : y.name = "<init>")
    (hd : y.cls ≠ "java/lang/invoke/MethodHandle" ∧ y.cls ≠ "java/lang/invoke/VarHandle" ∧ (parseMethodDescriptor y.desc).map (fun d => d.parameters.length) = some n) (hn : As.length = n) (hRm : j_rm rm rmY nY) (hW : (rest.map fun v => v.category).sum ≤ 8) (d : decode cc pc = .ok (.invokespecial index, 3)) :
    j_Call g x nL B (.ref (B.1 κ b) :: As) w w1 pc (pc + 3) (As.reverse ++ .ref (B.1 κ b) :: rest) rest rmY.cells rmY.slots none := j_call_of (a := (Value.ref (B.1 κ b) :: As).toArray) (j_runI (κ := κ) hx hM hT hl hin hini hy hd hn hRm hW d)
/-- a nest mate's private method -/
theorem j_runVN (hx : j_C cc nL own ret rm g x) {κ b : Nat} {C host : String} {T : u_T} {N : Nat} (h0 : jk0 κ = 0) (hcl : jcl[jk1 κ]? = some (C, T, N)) (ha : B.2.1 κ b) {Qc : Array Value → State → Outcome → State → Prop} (hM : Met g.1 y (ws_ y cy nY rY) rmY (j_Pc g B (.ref (B.1 κ b) :: As) w) Qc rmY.cells rmY.slots (j_fr g)) (hT : GoodIn lw_all (ws_ y cy nY rY)) (hl : Cond.methodLinkNest own index y host ∈ jnl) (hin : Cond.instanceMethod y ∈ lw_all) (hse : Cond.selects C y y ∈ lw_all) (hini : Cond.initialized y.cls ∈ lw_all)
    (hd : y.cls ≠ "java/lang/invoke/MethodHandle" ∧ y.cls ≠ "java/lang/invoke/VarHandle" ∧ (parseMethodDescriptor y.desc).map (fun d => d.parameters.length) = some n) (hn : As.length = n) (hRm : j_rm rm rmY nY) (hW : (rest.map fun v => v.category).sum ≤ 8) (d : decode cc pc = .ok (.invokevirtual index, 3)) :
    ∀ (H : Heap) (locs : List Loc) (ls : Array Slot) (cells slots : Nat), ls.size = nL → j_R g B w H → cells + rmY.cells ≤ (jxR x).cells → slots + rmY.slots ≤ (jxR x).slots → va_Run x.1 g.1 x.2.1 x.2.2.1 x.2.2.2.1 x.2.2.2.2.1 x.2.2.2.2.2.1 x.2.2.2.2.2.2.1 x.2.2.2.2.2.2.2.1 x.2.2.2.2.2.2.2.2 H locs cells slots rmY.cells rmY.slots (F0 x.2.2.2.2.1 pc ls (As.reverse ++ .ref (B.1 κ b) :: rest)) rest (Qc (Value.ref (B.1 κ b) :: As).toArray) (j_fr g) := by
  intro H locs ls cells slots hls hR hc hs
  obtain ⟨p, e, R, s, m, args, below, meth, c⟩ := x
  obtain ⟨h1, h2, h3, h4, h5, h6, -, -, h9⟩ := hx
  cases h9
  obtain ⟨hK, hA, hN, hF⟩ := h6
  have hrec : ∃ cellB : Cell, H[B.1 κ b]? = some cellB ∧ cellB.vm.isStatics = false ∧ s.vm.findClass C = some cellB.cls := by
    obtain ⟨cell, g1, g2, g3, -⟩ := (hR.1 κ b ha).obj h0 hcl
    exact ⟨cell, g1, by rw [g3]; rfl, by rw [g2]; exact (hK.1 _ _ hcl).2.1⟩
  exact va_runVN (As := As) (rest := rest) ⟨h1, h2, h3, h4, h5⟩ hM ⟨va_cnB n h5 hT rfl rfl rfl (hN _ hl) (h5 _ hini) hd hRm, h5 _ hin, h5 _ hse⟩ ⟨j_Pc_blind, hrec, j_Pc_start hR ⟨hK, hA, hN, hF⟩⟩ rfl hn hls rfl (lv_room hW) d ⟨hc, hs⟩
theorem j_callVN (hx : j_C cc nL own ret rm g x) {κ b : Nat} {C host : String} {T : u_T} {N : Nat} (h0 : jk0 κ = 0) (hcl : jcl[jk1 κ]? = some (C, T, N)) (ha : B.2.1 κ b) (hM : j_M g y cy nY rY rmY B (.ref (B.1 κ b) :: As) w w1 v) (hT : GoodIn lw_all (ws_ y cy nY rY)) (hl : Cond.methodLinkNest own index y host ∈ jnl) (hin : Cond.instanceMethod y ∈ lw_all) (hse : Cond.selects C y y ∈ lw_all) (hini : Cond.initialized y.cls ∈ lw_all)
    (hd : y.cls ≠ "java/lang/invoke/MethodHandle" ∧ y.cls ≠ "java/lang/invoke/VarHandle" ∧ (parseMethodDescriptor y.desc).map (fun d => d.parameters.length) = some n) (hn : As.length = n) (hRm : j_rm rm rmY nY) (hW : (rest.map fun v => v.category).sum ≤ 8) (d : decode cc pc = .ok (.invokevirtual index, 3)) :
    j_Call g x nL B (.ref (B.1 κ b) :: As) w w1 pc (pc + 3) (As.reverse ++ .ref (B.1 κ b) :: rest) rest rmY.cells rmY.slots v := j_call_of (a := (Value.ref (B.1 κ b) :: As).toArray) (j_runVN (κ := κ) hx h0 hcl ha hM hT hl hin hse hini hd hn hRm hW d)
theorem j_runSN (hx : j_C cc nL own ret rm g x) {host : String} {Qc : Array Value → State → Outcome → State → Prop} (hM : Met g.1 y (ws_ y cy nY rY) rmY (j_Pc g B As w) Qc rmY.cells rmY.slots (j_fr g)) (hT : GoodIn lw_all (ws_ y cy nY rY)) (hl : Cond.methodLinkNest own index y host ∈ jnl) (hst : Cond.static y ∈ lw_all) (hini : Cond.initialized y.cls ∈ lw_all)
    (hd : y.cls ≠ "java/lang/invoke/MethodHandle" ∧ y.cls ≠ "java/lang/invoke/VarHandle" ∧ (parseMethodDescriptor y.desc).map (fun d => d.parameters.length) = some n) (hn : As.length = n) (hRm : j_rm rm rmY nY) (hW : (rest.map fun v => v.category).sum ≤ 8) (d : decode cc pc = .ok (.invokestatic index, 3)) :
    ∀ (H : Heap) (locs : List Loc) (ls : Array Slot) (cells slots : Nat), ls.size = nL → j_R g B w H → cells + rmY.cells ≤ (jxR x).cells → slots + rmY.slots ≤ (jxR x).slots → va_Run x.1 g.1 x.2.1 x.2.2.1 x.2.2.2.1 x.2.2.2.2.1 x.2.2.2.2.2.1 x.2.2.2.2.2.2.1 x.2.2.2.2.2.2.2.1 x.2.2.2.2.2.2.2.2 H locs cells slots rmY.cells rmY.slots (F0 x.2.2.2.2.1 pc ls (As.reverse ++ rest)) rest (Qc As.toArray) (j_fr g) := by
  intro H locs ls cells slots hls hR hc hs
  obtain ⟨p, e, R, s, m, args, below, meth, c⟩ := x
  obtain ⟨h1, h2, h3, h4, h5, h6, -, -, h9⟩ := hx
  cases h9
  exact va_runSN (As := As) (rest := rest) ⟨h1, h2, h3, h4, h5⟩ hM ⟨va_cnB n h5 hT rfl rfl rfl (h6.2.2.1 _ hl) (h5 _ hini) hd hRm, h5 _ hst, trivial⟩ ⟨j_Pc_blind, j_Pc_start hR h6⟩ rfl hn hls rfl (lv_room hW) d ⟨hc, hs⟩
theorem j_callSN (hx : j_C cc nL own ret rm g x) {host : String} (hM : j_M g y cy nY rY rmY B As w w1 v) (hT : GoodIn lw_all (ws_ y cy nY rY)) (hl : Cond.methodLinkNest own index y host ∈ jnl) (hst : Cond.static y ∈ lw_all) (hini : Cond.initialized y.cls ∈ lw_all)
    (hd : y.cls ≠ "java/lang/invoke/MethodHandle" ∧ y.cls ≠ "java/lang/invoke/VarHandle" ∧ (parseMethodDescriptor y.desc).map (fun d => d.parameters.length) = some n) (hn : As.length = n) (hRm : j_rm rm rmY nY) (hW : (rest.map fun v => v.category).sum ≤ 8) (d : decode cc pc = .ok (.invokestatic index, 3)) :
    j_Call g x nL B As w w1 pc (pc + 3) (As.reverse ++ rest) rest rmY.cells rmY.slots v := j_call_of (a := As.toArray) (j_runSN hx hM hT hl hst hini hd hn hRm hW d)
/-- through an interface, the receiver's class known -/
theorem j_runF (hx : j_C cc nL own ret rm g x) {κ b count : Nat} {C : String} {z : MethodName} {T : u_T} {N : Nat} (h0 : jk0 κ = 0) (hcl : jcl[jk1 κ]? = some (C, T, N)) (ha : B.2.1 κ b) {Qc : Array Value → State → Outcome → State → Prop} (hM : Met g.1 y (ws_ y cy nY rY) rmY (j_Pc g B (.ref (B.1 κ b) :: As) w) Qc rmY.cells rmY.slots (j_fr g)) (hT : GoodIn lw_all (va_wsF own index C z y (ws_ y cy nY rY))) (hF : (C, z, y) ∈ jfs_)
    (hd : z.cls ≠ "java/lang/invoke/MethodHandle" ∧ z.cls ≠ "java/lang/invoke/VarHandle" ∧ (parseMethodDescriptor z.desc).map (fun d => d.parameters.length) = some n) (hn : As.length = n) (hRm : j_rm rm rmY nY) (hW : (rest.map fun v => v.category).sum ≤ 8) (d : decode cc pc = .ok (.invokeinterface index count, 5)) :
    ∀ (H : Heap) (locs : List Loc) (ls : Array Slot) (cells slots : Nat), ls.size = nL → j_R g B w H → cells + rmY.cells ≤ (jxR x).cells → slots + rmY.slots ≤ (jxR x).slots → va_Run5 x.1 g.1 x.2.1 x.2.2.1 x.2.2.2.1 x.2.2.2.2.1 x.2.2.2.2.2.1 x.2.2.2.2.2.2.1 x.2.2.2.2.2.2.2.1 x.2.2.2.2.2.2.2.2 H locs cells slots rmY.cells rmY.slots (F0 x.2.2.2.2.1 pc ls (As.reverse ++ .ref (B.1 κ b) :: rest)) rest (Qc (Value.ref (B.1 κ b) :: As).toArray) (j_fr g) := by
  intro H locs ls cells slots hls hR hc hs
  obtain ⟨p, e, R, s, m, args, below, meth, c⟩ := x
  obtain ⟨h1, h2, h3, h4, h5, h6, -, -, h9⟩ := hx
  cases h9
  obtain ⟨hK, hA, hN, hFw, hO⟩ := h6
  have hrec : ∃ cellB : Cell, H[B.1 κ b]? = some cellB ∧ cellB.vm.isStatics = false ∧ s.vm.findClass C = some cellB.cls := by
    obtain ⟨cell, g1, g2, g3, -⟩ := (hR.1 κ b ha).obj h0 hcl
    exact ⟨cell, g1, by rw [g3]; rfl, by rw [g2]; exact (hK.1 _ _ hcl).2.1⟩
  exact va_runF (As := As) (rest := rest) (hK.1 _ _ hcl).2 ⟨h1, h2, h3, h4, h5⟩ hM (va_cwF n h5 hT rfl rfl rfl (hFw _ hF) hd hRm) ⟨j_Pc_blind, hrec, j_Pc_start hR ⟨hK, hA, hN, hFw, hO⟩⟩ rfl hn hls rfl (lv_room hW) d ⟨hc, hs⟩
theorem j_callF (hx : j_C cc nL own ret rm g x) {κ b count : Nat} {C : String} {z : MethodName} {T : u_T} {N : Nat} (h0 : jk0 κ = 0) (hcl : jcl[jk1 κ]? = some (C, T, N)) (ha : B.2.1 κ b) (hM : j_M g y cy nY rY rmY B (.ref (B.1 κ b) :: As) w w1 v) (hT : GoodIn lw_all (va_wsF own index C z y (ws_ y cy nY rY))) (hF : (C, z, y) ∈ jfs_)
    (hd : z.cls ≠ "java/lang/invoke/MethodHandle" ∧ z.cls ≠ "java/lang/invoke/VarHandle" ∧ (parseMethodDescriptor z.desc).map (fun d => d.parameters.length) = some n) (hn : As.length = n) (hRm : j_rm rm rmY nY) (hW : (rest.map fun v => v.category).sum ≤ 8) (d : decode cc pc = .ok (.invokeinterface index count, 5)) :
    j_Call g x nL B (.ref (B.1 κ b) :: As) w w1 pc (pc + 5) (As.reverse ++ .ref (B.1 κ b) :: rest) rest rmY.cells rmY.slots v := j_call_of5 (a := (Value.ref (B.1 κ b) :: As).toArray) (j_runF (κ := κ) hx h0 hcl ha hM hT hF hd hn hRm hW d)
/-- a nest mate's private constructor -/
theorem j_runIN (hx : j_C cc nL own ret rm g x) {κ b : Nat} {host : String} {Qc : Array Value → State → Outcome → State → Prop} (hM : Met g.1 y (ws_ y cy nY none) rmY (j_Pc g B (.ref (B.1 κ b) :: As) w) Qc rmY.cells rmY.slots (j_fr g)) (hT : GoodIn lw_all (ws_ y cy nY none)) (hl : Cond.methodLinkNest own index y host ∈ jnl) (hin : Cond.instanceMethod y ∈ lw_all) (hini : Cond.initialized y.cls ∈ lw_all) (hy : y.name = "<init>")
    (hd : y.cls ≠ "java/lang/invoke/MethodHandle" ∧ y.cls ≠ "java/lang/invoke/VarHandle" ∧ (parseMethodDescriptor y.desc).map (fun d => d.parameters.length) = some n) (hn : As.length = n) (hRm : j_rm rm rmY nY) (hW : (rest.map fun v => v.category).sum ≤ 8) (d : decode cc pc = .ok (.invokespecial index, 3)) :
    ∀ (H : Heap) (locs : List Loc) (ls : Array Slot) (cells slots : Nat), ls.size = nL → j_R g B w H → cells + rmY.cells ≤ (jxR x).cells → slots + rmY.slots ≤ (jxR x).slots → va_Run x.1 g.1 x.2.1 x.2.2.1 x.2.2.2.1 x.2.2.2.2.1 x.2.2.2.2.2.1 x.2.2.2.2.2.2.1 x.2.2.2.2.2.2.2.1 x.2.2.2.2.2.2.2.2 H locs cells slots rmY.cells rmY.slots (F0 x.2.2.2.2.1 pc ls (As.reverse ++ .ref (B.1 κ b) :: rest)) rest (Qc (Value.ref (B.1 κ b) :: As).toArray) (j_fr g) := by
  intro H locs ls cells slots hls hR hc hs
  obtain ⟨p, e, R, s, m, args, below, meth, c⟩ := x
  obtain ⟨h1, h2, h3, h4, h5, h6, -, -, h9⟩ := hx
  cases h9
  exact va_runIN (As := As) (rest := rest) ⟨h1, h2, h3, h4, h5⟩ hM ⟨va_cnB n h5 hT rfl rfl rfl (h6.2.2.1 _ hl) (h5 _ hini) hd hRm, hy, h5 _ hin⟩ ⟨j_Pc_blind, j_Pc_start hR h6⟩ rfl hn hls rfl (lv_room hW) d ⟨hc, hs⟩
theorem j_callIN (hx : j_C cc nL own ret rm g x) {κ b : Nat} {host : String} (hM : j_M g y cy nY none rmY B (.ref (B.1 κ b) :: As) w w1 none) (hT : GoodIn lw_all (ws_ y cy nY none)) (hl : Cond.methodLinkNest own index y host ∈ jnl) (hin : Cond.instanceMethod y ∈ lw_all) (hini : Cond.initialized y.cls ∈ lw_all) (hy : y.name = "<init>")
    (hd : y.cls ≠ "java/lang/invoke/MethodHandle" ∧ y.cls ≠ "java/lang/invoke/VarHandle" ∧ (parseMethodDescriptor y.desc).map (fun d => d.parameters.length) = some n) (hn : As.length = n) (hRm : j_rm rm rmY nY) (hW : (rest.map fun v => v.category).sum ≤ 8) (d : decode cc pc = .ok (.invokespecial index, 3)) :
    j_Call g x nL B (.ref (B.1 κ b) :: As) w w1 pc (pc + 3) (As.reverse ++ .ref (B.1 κ b) :: rest) rest rmY.cells rmY.slots none := j_call_of (a := (Value.ref (B.1 κ b) :: As).toArray) (j_runIN (κ := κ) hx hM hT hl hin hini hy hd hn hRm hW d)
/-! Math.max, min, abs: answered in one row -/
theorem J.mmax (hx : j_C cc nL own ret rm g x) {a b : Int32} (hl : Cond.methodLink own index Lib.Math.max.name ∈ lw_all) (hst : Cond.static Lib.Math.max.name ∈ lw_all) (hin : Cond.initialized "java/lang/Math" ∈ lw_all) (hco : Cond.code Lib.Math.max.name Lib.Math.max.code 2 (some .int) ∈ lw_all) (hR0 : 1 ≤ rm.frames ∧ 21 ≤ rm.locals) (hW : (rest.map fun v => v.category).sum ≤ 8) (hc : cells ≤ rm.cells) (hs : slots ≤ rm.slots) (d : decode cc pc = .ok (.invokestatic index, 3))
    (kk : J g x nL B Q cells slots o (pc + 3) lv (.int (if a < b then b else a) :: rest) w) : J g x nL B Q cells slots o pc lv (.int b :: .int a :: rest) w := by
  intro r w' ho H locs ls h hR hq
  have kk := kk r w' ho H locs ls h hR hq
  obtain ⟨p, e, R, s, m, args, below, meth, c⟩ := x
  obtain ⟨h1, h2, h3, h4, h5, h6, -, -, h9⟩ := hx
  cases h9
  exact va_mmax h1 h2 (h3.trans h.1.symm) h4 (h5 _ hl) (h5 _ hst) (h5 _ hin) (h5 _ hco) hR0.1 (by have := hR0.2; omega) hc hs d kk
theorem J.mmin (hx : j_C cc nL own ret rm g x) {a b : Int32} (hl : Cond.methodLink own index Lib.Math.min.name ∈ lw_all) (hst : Cond.static Lib.Math.min.name ∈ lw_all) (hin : Cond.initialized "java/lang/Math" ∈ lw_all) (hco : Cond.code Lib.Math.min.name Lib.Math.min.code 2 (some .int) ∈ lw_all) (hR0 : 1 ≤ rm.frames ∧ 21 ≤ rm.locals) (hW : (rest.map fun v => v.category).sum ≤ 8) (hc : cells ≤ rm.cells) (hs : slots ≤ rm.slots) (d : decode cc pc = .ok (.invokestatic index, 3))
    (kk : J g x nL B Q cells slots o (pc + 3) lv (.int (if b < a then b else a) :: rest) w) : J g x nL B Q cells slots o pc lv (.int b :: .int a :: rest) w := by
  intro r w' ho H locs ls h hR hq
  have kk := kk r w' ho H locs ls h hR hq
  obtain ⟨p, e, R, s, m, args, below, meth, c⟩ := x
  obtain ⟨h1, h2, h3, h4, h5, h6, -, -, h9⟩ := hx
  cases h9
  exact va_mmin h1 h2 (h3.trans h.1.symm) h4 (h5 _ hl) (h5 _ hst) (h5 _ hin) (h5 _ hco) hR0.1 (by have := hR0.2; omega) hc hs d kk
theorem J.mabs (hx : j_C cc nL own ret rm g x) {a : Int32} (hl : Cond.methodLink own index Lib.Math.abs.name ∈ lw_all) (hst : Cond.static Lib.Math.abs.name ∈ lw_all) (hin : Cond.initialized "java/lang/Math" ∈ lw_all) (hco : Cond.code Lib.Math.abs.name Lib.Math.abs.code 1 (some .int) ∈ lw_all) (hR0 : 1 ≤ rm.frames ∧ 21 ≤ rm.locals) (hW : (rest.map fun v => v.category).sum ≤ 8) (hc : cells ≤ rm.cells) (hs : slots ≤ rm.slots) (d : decode cc pc = .ok (.invokestatic index, 3))
    (kk : J g x nL B Q cells slots o (pc + 3) lv (.int (if 0 ≤ a then a else 0 - a) :: rest) w) : J g x nL B Q cells slots o pc lv (.int a :: rest) w := by
  intro r w' ho H locs ls h hR hq
  have kk := kk r w' ho H locs ls h hR hq
  obtain ⟨p, e, R, s, m, args, below, meth, c⟩ := x
  obtain ⟨h1, h2, h3, h4, h5, h6, -, -, h9⟩ := hx
  cases h9
  exact va_mabs h1 h2 (h3.trans h.1.symm) h4 (h5 _ hl) (h5 _ hst) (h5 _ hin) (h5 _ hco) hR0.1 (by have := hR0.2; omega) hc hs d kk
end JC
