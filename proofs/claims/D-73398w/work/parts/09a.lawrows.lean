/-! the law's rows: TracePeaksLaw.peak catches NoSuchElementException; the law's own ends -/
/-! THE CLAIM OUT OF ONE WALK OF THE LAW'S BODY. Your part is whole_start (and what it stands on); all else here is the same for every law, but numbers. -/
def R_law : String := "TracePeaksLaw"
def lw_P (b : Addr) (xs : List Int32) (args : Array Value) (s : State) : Prop := args = #[.ref b] ∧ s.IntsAt b xs ∧ xs.length ≤ 144 ∧ (Jvm.Cond.and given_1 narrow_1).before args s = true
def lw_Q (_ : Array Value) (s : State) (o : Outcome) (t : State) : Prop := o = .returned (some (.int 1)) ∧ Framed s o t [] 1200048 5501818
def lw_Z (below : List Frame) (a : Array Value) (s : State) : State → Prop := fun t => ∃ o, t.status = .running ∧ Ended t below o ∧ lw_Q a s o t
/-- the law's own end, with 1 on the stack, nothing written that was there before, its room as the claim has it -/
theorem lw_ret {p : Program} {l : Launch} {e : Env} {s : State} {m : MethodId} {below : List Frame} {meth : Method} {c : Code} {b : Nat} (hx : p.tables.exec = Jvm.exec) (hb : c.code = code) (hr : meth.sig.returnType = ret) (hlocks : meth.locks = false) {pc : Nat} {H : Heap} {ls : Array Slot} (hdg : decode code pc = .ok (.ireturn, 1)) : W p l e room_1 s m #[Value.ref b] below meth c H [] 1200048 5501818 (lw_Z below #[Value.ref b] s) (F0 m pc ls [.int 1]) := by
  intro T hT X
  obtain ⟨fs, hret, hrun, hended, hW, hframe⟩ := X.leave (v := some (.int 1)) (hlocks := hlocks) (fun h => by rw [hr] at h; cases h)
  have hmeth' : T.vm.method? m = some meth := X.method'
  refine ⟨T.setFrames fs, ?_, .returned (some (.int 1)), hrun, hended, rfl, ⟨_, rfl⟩, hW, hframe⟩
  jvm_step X.here [X.here.top, hx, hb, hdg, hmeth', hr, ret, narrow_b1]
  (try refine ⟨rfl, ?_⟩); (try refine ⟨rfl, ?_⟩)
  first | (intro acts; rw [hret _ acts rfl rfl rfl]) | rw [hret _ _ rfl rfl rfl]
  exact Steps.refl _
/-- what holds at the law's entry: the machine, the code, the tables' words (any of lw_tbl by 'hts w (by decide +kernel)'), the script of L ints xs at the cell b, what the Statement gives of the start (any of its parts by flat_of_before) -/
def lw_At (p : Program) (s : State) (m : MethodId) (meth : Method) (c : Code) (b L : Nat) (xs : Nat → Int32) : Prop :=
  p.tables.exec = Jvm.exec ∧ c.code = code ∧ meth.sig.returnType = ret ∧ c.maxLocals = 7 ∧ s.vm.findClass R_law = some m.cls ∧ (∀ w ∈ lw_tbl, w.before #[Value.ref b] s = true) ∧ va_X b L xs s s.heap ∧ b < s.heap.size ∧ meth.locks = false ∧ (Jvm.Cond.and given_1 narrow_1).before #[Value.ref b] s = true
section JLW
variable {α : Type} {g : j_G} {x : j_X} {cc : ByteArray} {nL : Nat} {own : String} {rT : Option FieldType} {rm : Room} {B B0 : j_B} {Q : α → j_St → State → Prop} {cells slots : Nat} {pc index n : Nat} {lv : List (Nat × Value)} {st rest : List Value} {w w1 : j_St}
variable {y : MethodName} {cy : ByteArray} {nY : Nat} {rY : Option FieldType} {rmY : Room} {As : List Value}
theorem j_runVNX (hx : j_C cc nL own rT rm g x) {κ b : Nat} {C : String} {T : u_T} {N : Nat} {r : Nat ⊕ Int32} (h0 : jk0 κ = 0) (hcl : jcl[jk1 κ]? = some (C, T, N)) (ha : B.2.1 κ b) (hM : j_MN g y cy nY rY rmY B (.ref (B.1 κ b) :: As) w w1 r) (hT : GoodIn lw_all (wsV own index C y (ws_ y cy nY rY)))
    (hd : y.cls = C ∧ y.cls ≠ "java/lang/invoke/MethodHandle" ∧ y.cls ≠ "java/lang/invoke/VarHandle" ∧ (parseMethodDescriptor y.desc).map (fun d => d.parameters.length) = some n) (hn : As.length = n) (hRm : j_rm rm rmY nY) (hW : (rest.map fun v => v.category).sum ≤ 8) (d : decode cc pc = .ok (.invokevirtual index, 3)) :
    ∀ (H : Heap) (locs : List Loc) (ls : Array Slot) (cells slots : Nat), ls.size = nL → j_R g B w H → cells + rmY.cells ≤ (jxR x).cells → slots + rmY.slots ≤ (jxR x).slots → vx_Run x.1 g.1 x.2.1 x.2.2.1 x.2.2.2.1 x.2.2.2.2.1 x.2.2.2.2.2.1 x.2.2.2.2.2.2.1 x.2.2.2.2.2.2.2.1 x.2.2.2.2.2.2.2.2 H locs cells slots rmY.cells rmY.slots (F0 x.2.2.2.2.1 pc ls (As.reverse ++ .ref (B.1 κ b) :: rest)) rest (j_QcN g B r w1 (Value.ref (B.1 κ b) :: As).toArray) (j_XcN g B r w1) (j_fr g) := by
  intro H locs ls cells slots hls hR hc hs
  obtain ⟨p, e, R, s, m, args, below, meth, c⟩ := x
  obtain ⟨h1, h2, h3, h4, h5, h6, -, -, h9⟩ := hx
  cases h9
  obtain ⟨hK, hK2⟩ := h6
  have hrec : ∃ cellB : Cell, H[B.1 κ b]? = some cellB ∧ cellB.vm.isStatics = false ∧ s.vm.findClass C = some cellB.cls := by
    obtain ⟨cell, g1, g2, g3, -⟩ := (hR.1 κ b ha).obj h0 hcl
    exact ⟨cell, g1, by rw [g3]; rfl, by rw [g2]; exact (hK.1 _ _ hcl).2.1⟩
  exact vx_runV (As := As) (rest := rest) ⟨h1, h2, h3, h4, h5⟩ hM (cwV n h5 hT rfl rfl rfl hd hRm) ⟨j_Pc_blind, hrec, j_Pc_start hR ⟨hK, hK2⟩⟩ rfl hn hls rfl (lv_room hW) d ⟨hc, hs⟩
theorem J.callHN (hx : j_C cc nL own rT rm g x) {f : Option ((Nat ⊕ Int32) × j_St)} {kh : Nat → j_St → Option (α × j_St)} {k : Int32 → j_St → Option (α × j_St)} {mc ms : Nat} {a : Array Value}
    (hr : ∀ r w1, f = some (r, w1) → ∀ (H : Heap) (locs : List Loc) (ls : Array Slot) (cells slots : Nat), ls.size = nL → j_R g B w H → cells + mc ≤ (jxR x).cells → slots + ms ≤ (jxR x).slots → vx_Run x.1 g.1 x.2.1 x.2.2.1 x.2.2.2.1 x.2.2.2.2.1 x.2.2.2.2.2.1 x.2.2.2.2.2.2.1 x.2.2.2.2.2.2.2.1 x.2.2.2.2.2.2.2.2 H locs cells slots mc ms (F0 x.2.2.2.2.1 pc ls st) rest (j_QcN g B r w1 a) (j_XcN g B r w1) (j_fr g))
    (hcs : cells + mc ≤ rm.cells ∧ slots + ms ≤ rm.slots) {z : ExceptionTableEntry} (htab : (jxC x).exceptionTable.toList = [z]) (hcov : covers z pc = true) (hz : z.catchType ≠ 0) (hl : Cond.classLink own z.catchType jNS ∈ lw_all)
    (kx : ∀ n w1 (q : Nat), f = some (.inl n, w1) → J g x nL B Q (cells + mc) (slots + ms) (kh n w1) z.handlerPc lv [.ref q] w1)
    (kk : ∀ v w1, f = some (.inr v, w1) → J g x nL B Q (cells + mc) (slots + ms) (k v w1) (pc + 3) lv (.int v :: rest) w1) : J g x nL B Q cells slots (jch f kh k) pc lv st w := by
  have hR0 : jxR x = rm := hx.2.2.2.2.2.2.2.2
  cases hf : f with
  | none => exact J.nne
  | some p =>
    obtain ⟨r, w1⟩ := p
    intro r' w' ho H locs ls h hR hq T hT X
    have hq2 : ∀ L : List Loc, (∀ z ∈ L, j_fr g z.base) → ∀ q ∈ locs ++ L, jgb g ≤ q.base := fun L hL q hq0 => by
      rcases List.mem_append.mp hq0 with z | z
      · exact hq q z
      · exact hL q z
    rcases hr r w1 hf H locs ls cells slots h.1 hR (by rw [hR0]; exact hcs.1) (by rw [hR0]; exact hcs.2) T hT X with ⟨v, st₀, t, T', L, h0, X', hL, e1, e2, ⟨a1, hr1, hv, hR1⟩, st⟩ | ⟨q, st₀, t, T', L, E, ce, h0, X', hL, e1, e2, ⟨⟨n, hr1⟩, hE, hR1⟩, hce, hcv, hcl, st⟩
    · subst hr1
      cases hv
      obtain ⟨t2, y1, y2⟩ := kk a1 w1 hf r' w' ho T'.heap (locs ++ L) ls h (by rw [e1]; exact hR1) (hq2 L hL) T' rfl X'
      exact ⟨t2, st t2 y1, y2⟩
    · subst hr1
      subst hE
      have k2 := kx n w1 q hf r' w' ho T'.heap (locs ++ L) ls h (by rw [e1]; exact hR1) (hq2 L hL)
      obtain ⟨p, e, R, s, m, args, below, meth, c⟩ := x
      obtain ⟨h1, h2, h3, h4, h5, h6, h7, -, h9⟩ := hx
      cases h9
      obtain ⟨t2, y1, y2⟩ := vx_catch (name := jNS) (E := jNS) (rest := rest) h4 [] z [] htab (fun q h => by cases h) hcov hz (h5 _ hl) (va_Nw.use (A := args) rfl (h6.2.2.1 _ (j_nl q1622 rfl))) (by rw [e1]; exact hce) hcv hcl k2 T' rfl X'
      exact ⟨t2, st.trans y1, y2⟩
theorem jn3_38 (k : Nat) : jfs 38 k ≠ 3 := by
  show ¬ 1 = 3
  decide
theorem jN_b {κ : Nat} (h3 : ∀ k, jfs κ k ≠ 3) {i q : Nat} : ∀ a b, a = κ ∧ b = i → (jbn B κ i q).2.1 a b ∧ ∀ k, jfs a k = 3 → jgr w a b k = some (jci a b k) ∧ ((jbn B κ i q).2.2 (jfk a k) (jci a b k) ∨ (jfk a k = κ ∧ jci a b k = i)) := fun a b h => by
  obtain ⟨rfl, rfl⟩ := h
  exact ⟨jbn_al B, fun k hk => absurd hk (h3 k)⟩
/-- a constant object that holds nothing: what its place in the store says is free -/
theorem J.set13 {i : Nat} {f : j_St → Option (α × j_St)} (hi : jl6 13 i = 0) (ha : B.2.1 13 i) (h0 : B.2.1 0 0) (k : ∀ w2 : j_St, w2 = jsr w 13 i 0 (some 0) → J g x nL B Q cells slots (f w2) pc lv st w2) : J g x nL B Q cells slots (jlt (jsr w 13 i 0 (some 0)) f) pc lv st w := by
  intro r w' ho H locs ls h hR hq
  refine k _ rfl r w' ho H locs ls h ?_ hq
  obtain ⟨r1, r2, r3, r4, r5, r6, r7, r8, r9, r10⟩ := hR
  have ne : ∀ a b c, ¬ (a = 13 ∧ b = i ∧ c = 0) → jgr (jsr w 13 i 0 (some 0)) a b c = jgr w a b c := fun a b c hne => ju3_ne hne
  have eq : jgr (jsr w 13 i 0 (some 0)) 13 i 0 = some 0 := ju3_eq
  refine ⟨fun a b hab => ?_, r2, r3, r4, r5, fun a b c j hab hj => ?_, fun a b c j hab hj h2 => ?_, fun a b c hab h3 => ?_, r9, fun a b hab => r10 a b hab⟩
  · by_cases hc : a = 13 ∧ b = i
    · obtain ⟨rfl, rfl⟩ := hc
      have h1 := r1 _ _ hab
      unfold j_ok at h1 ⊢
      have hk : jk0 13 = 6 := rfl
      rw [hk] at h1 ⊢
      simp only [] at h1 ⊢
      obtain ⟨cell, g1, g2, g3, g4⟩ := h1
      refine ⟨cell, g1, g2, g3, g4.trans ?_⟩
      have hb : js6 13 b = b := rfl
      rw [hb, hi]
      exact congrArg Cell.slots (j_arrV_congr (cI := jgM g 13 b) fun j hj => absurd hj (Nat.not_lt_zero j))
    · refine (r1 a b hab).kept rfl ?_ rfl
      funext c
      exact jfv_eq rfl rfl (ne a b c fun z => hc ⟨z.1, z.2.1⟩)
  · by_cases hc : a = 13 ∧ b = i ∧ c = 0
    · obtain ⟨rfl, rfl, rfl⟩ := hc
      rw [eq] at hj
      cases hj
      exact h0
    · rw [ne a b c hc] at hj
      exact r6 a b c j hab hj
  · by_cases hc : a = 13 ∧ b = i ∧ c = 0
    · obtain ⟨rfl, rfl, rfl⟩ := hc
      exact absurd h2 (by decide)
    · rw [ne a b c hc] at hj
      exact r7 a b c j hab hj h2
  · by_cases hc : a = 13 ∧ b = i ∧ c = 0
    · obtain ⟨rfl, rfl, rfl⟩ := hc
      exact ⟨eq, (r8 _ _ _ hab h3).2⟩
    · rw [ne a b c hc]
      exact r8 a b c hab h3
/-- a new object, of which it is told what the store is then -/
theorem J.newE (hx : j_C cc nL own rT rm g x) {κ i index : Nat} {C : String} {T : u_T} {N : Nat} {f : j_St → Option (α × j_St)} (h0 : jk0 κ = 0) (hc : jcl[jk1 κ]? = some (C, T, N)) (hin : ∀ w ∈ u_ws C T N, w ∈ lw_all) {ty0 : Nat → FieldType} (hty : ∀ k, k < N → parseFieldDescriptor (T k).2.2.1 = some (ty0 k))
    (hd : ∀ k, k < N → defaultValue (ty0 k) = (if jfs κ k = 0 then .int 0 else if jfs κ k = 1 then .long 0 else .null)) (hk : κ < 100) (hf : ¬ B.2.1 κ i) (hb : ¬ B.2.2 κ i) (hcnt : jcnt w κ i)
    (hcl : Cond.classLink own index C ∈ lw_all) (hins : Cond.instantiable C N ∈ lw_all) (hini : Cond.initialized C ∈ lw_all) (hcs : cells + 1 ≤ rm.cells ∧ slots + N ≤ rm.slots) (d : decode cc pc = .ok (.new index, 3))
    (kk : ∀ (q : Nat) (w2 : j_St), w2 = jnw w κ i 0 → J g x nL (jbn B κ i q) Q (cells + 1) (slots + N) (f w2) (pc + 3) lv (.ref ((jbn B κ i q).1 κ i) :: st) w2) : J g x nL B Q cells slots (jlt (jnw w κ i 0) f) pc lv st w := by
  classical
  have h : J g x nL B Q cells slots (jlt (jnw w κ i 0) (fun w2 => if w2 = jnw w κ i 0 then f w2 else none)) pc lv st w := J.new (f := fun w2 => if w2 = jnw w κ i 0 then f w2 else none) hx h0 hc hin hty hd hk hf hb hcnt hcl hins hini hcs d (fun q w2 => by
    by_cases hw : w2 = jnw w κ i 0
    · show J g x nL (jbn B κ i q) Q (cells + 1) (slots + N) (if w2 = jnw w κ i 0 then f w2 else none) _ _ _ _
      rw [if_pos hw]
      exact kk q w2 hw
    · show J g x nL (jbn B κ i q) Q (cells + 1) (slots + N) (if w2 = jnw w κ i 0 then f w2 else none) _ _ _ _
      rw [if_neg hw]
      exact J.nne)
  have e : jlt (jnw w κ i 0) (fun w2 => if w2 = jnw w κ i 0 then f w2 else none) = jlt (jnw w κ i 0) f := if_pos rfl
  rw [e] at h
  exact h
theorem jbb_no {S : Nat → Nat → Prop} {κ i : Nat} (h : ¬ B.2.1 κ i) : ¬ (jbb B S).2.1 κ i := h
/-- the law's own end: what it answers -/
def j_QL (x : j_X) : Int32 → j_St → State → Prop := fun r _ t => r = 1 → lw_Z x.2.2.2.2.2.2.1 x.2.2.2.2.2.1 x.2.2.2.1 t
theorem J.retL {v : Int32} (hx : j_C code 7 R_law ret room_1 g x) (harg : ∃ b, x.2.2.2.2.2.1 = #[Value.ref b]) (hsz : jgb g = x.2.2.2.1.heap.size) (hc : cells ≤ 1200048) (hs : slots ≤ 5501818) (d : decode code pc = .ok (.ireturn, 1)) : J g x 7 B (j_QL x) cells slots (some (v, w)) pc lv [.int v] w := by
  intro r w' ho H locs ls h hR hq
  cases ho
  obtain ⟨b, hb⟩ := harg
  obtain ⟨p, e, R, s, m, args, below, meth, c⟩ := x
  obtain ⟨h1, h2, h3, h4, h5, h6, h7, h8, h9⟩ := hx
  cases h9
  cases hb
  by_cases hv : v = 1
  · subst hv
    refine W.widen hc hs (va_forget (fun q hq0 => by
      have h9 := hq q hq0
      rw [hsz] at h9
      exact h9) ?_)
    intro T hT X
    obtain ⟨t, y1, y2⟩ := lw_ret (p := p) (l := g.1) (e := e) (s := s) (m := m) (below := below) (meth := meth) (c := c) (b := b) (ls := ls) (H := H) h1 h2 h8 h7 d T hT X
    exact ⟨t, y1, fun _ => y2⟩
  · intro T hT X
    exact ⟨_, Steps.refl _, fun h => absurd h hv⟩
end JLW
