/-! J: rows that make cells, and contracts that do -/
def j_QrA (g : j_G) (B : j_B) (rv : j_B → Option Value) (PB : j_B → Prop) (w' : j_St) : Array Value → State → Outcome → State → Prop := fun _ _ o t => ∃ B', j_ext B B' ∧ PB B' ∧ o = .returned (rv B') ∧ j_R g B' w' t.heap
def j_MA (g : j_G) (y : MethodName) (cc : ByteArray) (nL : Nat) (ret : Option FieldType) (rm : Room) (B : j_B) (As : List Value) (w w' : j_St) (rv : j_B → Option Value) (PB : j_B → Prop) : Prop :=
  Met g.1 y (ws_ y cc nL ret) rm (j_Pc g B As w) (j_QrA g B rv PB w') rm.cells rm.slots (j_fr g)
def j_QA {α : Type} (g : j_G) (x : j_X) (B : j_B) (rm : Room) (rv : α → j_B → Option Value) (PB : α → j_St → j_B → Prop) : α → j_St → State → Prop := fun r w' => MQ x.2.2.2.2.2.2.1 (j_QrA g B (rv r) (PB r w') w') x.2.2.2.2.2.1 x.2.2.2.1 rm.cells rm.slots (j_fr g)
theorem j_metA {α : Type} {g : j_G} {y : MethodName} {cc : ByteArray} {nL : Nat} {ret : Option FieldType} {rm : Room} {B : j_B} {As : List Value} {w : j_St} {rv : α → j_B → Option Value} {PB : α → j_St → j_B → Prop} {o : Option (α × j_St)}
    (hy : plainName y.cls = true) (hn : (lg_sl As).length ≤ nL)
    (body : ∀ x : j_X, j_C cc nL y.cls ret rm g x → (jxM x).name = y.name → J g x nL B (j_QA g x B rm rv PB) 0 0 o 0 (lv_args 0 As) [] w) {r : α} {w' : j_St} (ho : o = some (r, w')) : j_MA g y cc nL ret rm B As w w' (rv r) (PB r w') := by
  refine Met.ofW (cc := cc) (maxL := nL) (ret := ret) hy rfl ?_
  intro p e s m args below meth c s₁ BL hml hv
  obtain ⟨rfl, hR, hK⟩ := hv
  have hts := atoms_spec (ws := ws_ y cc nL ret) BL.pre
  have hts : ∀ w ∈ lw_all, w.before _ s = true := fun w h => hts w (List.mem_cons_of_mem _ h)
  have hown : s.vm.findClass y.cls = some m.cls := findClass_of_methodNamed BL.named
  have k := body (p, e, rm, s, m, As.toArray, below, meth, c) ⟨BL.exec, BL.bytes, hml, hown, hts, hK, BL.notSynchronized, BL.returns, rfl⟩ (name_of_methodNamed BL.named BL.method).1 r w' ho s.heap [] _ (lv_entry As hn) hR (fun q h => by cases h)
  rw [lg_entry_eq]
  exact k
def j_CallA (g : j_G) (x : j_X) (nL : Nat) (B : j_B) (w w1 : j_St) (pc pc' : Nat) (st0 rest : List Value) (mc ms : Nat) (rv : j_B → Option Value) (PB : j_B → Prop) : Prop :=
  ∀ (H : Heap) (locs : List Loc) (ls : Array Slot) (cells slots : Nat) (Q : State → Prop), ls.size = nL → j_R g B w H → (∀ q ∈ locs, jgb g ≤ q.base) → cells + mc ≤ (jxR x).cells → slots + ms ≤ (jxR x).slots →
    (∀ (B1 : j_B) (H1 : Heap) (locs1 : List Loc), j_ext B B1 → PB B1 → j_R g B1 w1 H1 → (∀ q ∈ locs1, jgb g ≤ q.base) → j_W g x H1 locs1 (cells + mc) (slots + ms) Q pc' ls ((rv B1).toList ++ rest)) → j_W g x H locs cells slots Q pc ls st0
theorem j_callA_of {g : j_G} {x : j_X} {nL : Nat} {B : j_B} {w w1 : j_St} {pc : Nat} {st0 rest : List Value} {mc ms : Nat} {rv : j_B → Option Value} {PB : j_B → Prop} {a : Array Value}
    (hr : ∀ (H : Heap) (locs : List Loc) (ls : Array Slot) (cells slots : Nat), ls.size = nL → j_R g B w H → cells + mc ≤ (jxR x).cells → slots + ms ≤ (jxR x).slots → va_Run x.1 g.1 x.2.1 x.2.2.1 x.2.2.2.1 x.2.2.2.2.1 x.2.2.2.2.2.1 x.2.2.2.2.2.2.1 x.2.2.2.2.2.2.2.1 x.2.2.2.2.2.2.2.2 H locs cells slots mc ms (F0 x.2.2.2.2.1 pc ls st0) rest (j_QrA g B rv PB w1 a) (j_fr g)) :
    j_CallA g x nL B w w1 pc (pc + 3) st0 rest mc ms rv PB := by
  intro H locs ls cells slots Q hls hR hq hc hs kk T hT X
  obtain ⟨v, st₀, t, T', L, h0, X', hL, e1, e2, ⟨B1, he, hp, hv, hR1⟩, st⟩ := hr H locs ls cells slots hls hR hc hs T hT X
  cases hv
  obtain ⟨t2, a1, b1⟩ := kk B1 T'.heap (locs ++ L) he hp (by rw [e1]; exact hR1) (fun q hq0 => by
    rcases List.mem_append.mp hq0 with z | z
    · exact hq q z
    · exact hL q z) T' rfl X'
  exact ⟨t2, st t2 a1, b1⟩
section JN
variable {α β : Type} {g : j_G} {x : j_X} {cc : ByteArray} {nL : Nat} {own : String} {ret : Option FieldType} {rm : Room} {B B0 : j_B} {Q : α → j_St → State → Prop} {cells slots : Nat} {o o1 o2 : Option (α × j_St)} {pc pc' : Nat} {lv lv' : List (Nat × Value)} {st st' rest : List Value} {w w1 : j_St}
/-- the frame's values, told otherwise -/
theorem J.cv (hl : lv = lv') (hs : st = st') (k : J g x nL B Q cells slots o pc lv' st' w) : J g x nL B Q cells slots o pc lv st w := by
  subst hl; subst hs; exact k
theorem J.callA (hx : j_C cc nL own ret rm g x) {f : Option (β × j_St)} {k : β → j_St → Option (α × j_St)} {rv : β → j_B → Option Value} {PB : β → j_St → j_B → Prop} {mc ms : Nat}
    (hc : ∀ r w1, f = some (r, w1) → j_CallA g x nL B w w1 pc pc' st rest mc ms (rv r) (PB r w1)) (hcs : cells + mc ≤ rm.cells ∧ slots + ms ≤ rm.slots)
    (kk : ∀ r w1 B1, f = some (r, w1) → j_ext B B1 → PB r w1 B1 → J g x nL B1 Q (cells + mc) (slots + ms) (k r w1) pc' lv ((rv r B1).toList ++ rest) w1) : J g x nL B Q cells slots (jcb f k) pc lv st w := by
  have hR0 : jxR x = rm := hx.2.2.2.2.2.2.2.2
  cases hf : f with
  | none => exact J.nne
  | some p =>
    obtain ⟨r, w1⟩ := p
    intro r' w' ho H locs ls h hR hq
    exact hc r w1 hf H locs ls cells slots _ h.1 hR hq (by rw [hR0]; exact hcs.1) (by rw [hR0]; exact hcs.2) fun B1 H1 locs1 he hp hR1 hq1 => kk r w1 B1 hf he hp r' w' ho H1 locs1 ls h hR1 hq1
theorem J.bump {κ : Nat} {f : j_St → Option (α × j_St)} (k : ∀ w2 : j_St, J g x nL B Q cells slots (f w2) pc lv st w2) : J g x nL B Q cells slots (jlt (jbump w κ) f) pc lv st w := fun r w' ho H locs ls h hR hq => k _ r w' ho H locs ls h hR.bump hq
theorem J.built (S : Nat → Nat → Prop) (hS : ∀ κ i, S κ i → B.2.1 κ i ∧ ∀ k, jfs κ k = 3 → jgr w κ i k = some (jci κ i k) ∧ (B.2.2 (jfk κ k) (jci κ i k) ∨ S (jfk κ k) (jci κ i k))) (k : J g x nL (jbb B S) Q cells slots o pc lv st w) : J g x nL B Q cells slots o pc lv st w := fun r w' ho H locs ls h hR hq => k r w' ho H locs ls h (hR.built hS) hq
theorem J.objInit (hx : j_C cc nL own ret rm g x) {a idx : Nat} (hl : Cond.methodLink own idx Lib.objectInit ∈ lw_all) (hi : Cond.instanceMethod Lib.objectInit ∈ lw_all) (hc : Cond.code Lib.objectInit ⟨#[0xb1]⟩ 1 none ∈ lw_all) (hRm : 1 ≤ rm.frames ∧ 20 ≤ rm.locals) (hW : (st.map fun v => v.category).sum ≤ 8) (d : decode cc pc = .ok (.invokespecial idx, 3)) (k : J g x nL B Q cells slots o (pc + 3) lv st w) : J g x nL B Q cells slots o pc lv (.ref a :: st) w := by
  intro r w' ho H locs ls h hR hq
  have k := k r w' ho H locs ls h hR hq
  obtain ⟨p, e, R, s, m, args, below, meth, c⟩ := x
  obtain ⟨h1, h2, h3, h4, h5, h6, -, -, h9⟩ := hx
  cases h9
  exact W.objInit h1 h2 h4 (h5 _ hl) (h5 _ hi) (h5 _ hc) rfl (h.1.trans h3.symm) rfl d hRm.1 (by have := hRm.2; show 2 * 0 + _ + 12 ≤ R.locals; have h20 : 20 ≤ R.locals := hRm.2; omega) k
/-- an object -/
theorem J.new (hx : j_C cc nL own ret rm g x) {κ i index : Nat} {C : String} {T : u_T} {N : Nat} {f : j_St → Option (α × j_St)} (h0 : jk0 κ = 0) (hc : jcl[jk1 κ]? = some (C, T, N)) (hin : ∀ w ∈ u_ws C T N, w ∈ lw_all) {ty0 : Nat → FieldType} (hty : ∀ k, k < N → parseFieldDescriptor (T k).2.2.1 = some (ty0 k))
    (hd : ∀ k, k < N → defaultValue (ty0 k) = (if jfs κ k = 0 then .int 0 else if jfs κ k = 1 then .long 0 else .null)) (hk : κ < 100) (hf : ¬ B.2.1 κ i) (hb : ¬ B.2.2 κ i) (hcnt : jcnt w κ i)
    (hcl : Cond.classLink own index C ∈ lw_all) (hins : Cond.instantiable C N ∈ lw_all) (hini : Cond.initialized C ∈ lw_all) (hcs : cells + 1 ≤ rm.cells ∧ slots + N ≤ rm.slots) (d : decode cc pc = .ok (.new index, 3))
    (kk : ∀ (q : Nat) (w2 : j_St), J g x nL (jbn B κ i q) Q (cells + 1) (slots + N) (f w2) (pc + 3) lv (.ref ((jbn B κ i q).1 κ i) :: st) w2) : J g x nL B Q cells slots (jlt (jnw w κ i 0) f) pc lv st w := by
  intro r w' ho H locs ls h hR hq
  have kk := fun (H' : Heap) => kk H.size _ r w' ho H' locs ls h
  rw [jbn_at] at kk
  obtain ⟨p, e, R, s, m, args, below, meth, c⟩ := x
  obtain ⟨h1, h2, h3, h4, h5, h6, -, -, h9⟩ := hx
  cases h9
  obtain ⟨hK, -⟩ := h6
  have hKn := hK.1 _ _ hc
  refine W.newcK h1 h2 h4 (h5 _ hcl) (h5 _ hins) (h5 _ hini) rfl d hcs.1 hcs.2 hKn.2.1 rfl fun H1 kC hkC e1 z1 o1 => ?_
  refine kk H1 (hR.new hf hb hk hcnt z1 o1 (j_ok.mko h0 hc ?_)) hq
  rw [jbn_at]
  refine (u_born ty0 h5 hin hKn hkC e1 hty).to fun k hk => ?_
  rw [hd k hk]
  have zi : jgi (jnw w κ i 0) κ i k = 0 := by
    show (if κ = κ ∧ i = i then _ else _) = _
    rw [if_pos ⟨rfl, rfl⟩]
  have zl : jgl (jnw w κ i 0) κ i k = 0 := by
    show (if κ = κ ∧ i = i then _ else _) = _
    rw [if_pos ⟨rfl, rfl⟩]
  have zr : jgr (jnw w κ i 0) κ i k = none := by
    show (if κ = κ ∧ i = i then _ else _) = _
    rw [if_pos ⟨rfl, rfl⟩]
  unfold jfv
  rw [zi, zl, zr]
  split
  · next z => rw [z]; rfl
  · next hn =>
    split
    · next z => rw [z]; rfl
    · next z =>
      split
      · contradiction
      · contradiction
      · rfl
theorem j_arrzero {g : j_G} {B : j_B} {w : j_St} {H H1 : Heap} {κ i n m : Nat} {v : Value} (h0 : jk0 κ ≠ 0 ∧ jk0 κ ≠ 6 ∧ jk0 κ ≠ 8 ∧ jk0 κ ≠ 9) (hm : (if jk3 κ = 0 then m else jk3 κ) = n) (hv : v = if jfs κ 0 = 0 then .int 0 else if jfs κ 0 = 1 then .long 0 else .null) (hs : ∀ k, (jfs κ k = 0 ↔ jfs κ 0 = 0) ∧ (jfs κ k = 1 ↔ jfs κ 0 = 1)) (e1 : H1[H.size]? = some (arrV (jgA g (jk1 κ)) n (fun _ => v))) : j_ok g (jbn B κ i H.size) (jnw w κ i m) H1 κ i := by
  refine j_ok.mka h0.1 h0.2 ?_
  rw [jbn_at, e1]
  have hl : jln (jnw w κ i m) κ i = n := by
    unfold jln
    rw [show jgn (jnw w κ i m) κ i = m from by
      show (if κ = κ ∧ i = i then _ else _) = _
      rw [if_pos ⟨rfl, rfl⟩]]
    exact hm
  rw [hl]
  congr 2
  funext k
  have zi : jgi (jnw w κ i m) κ i k = 0 := by
    show (if κ = κ ∧ i = i then _ else _) = _
    rw [if_pos ⟨rfl, rfl⟩]
  have zl : jgl (jnw w κ i m) κ i k = 0 := by
    show (if κ = κ ∧ i = i then _ else _) = _
    rw [if_pos ⟨rfl, rfl⟩]
  have zr : jgr (jnw w κ i m) κ i k = none := by
    show (if κ = κ ∧ i = i then _ else _) = _
    rw [if_pos ⟨rfl, rfl⟩]
  obtain ⟨s0, s1⟩ := hs k
  rw [hv]
  by_cases z0 : jfs κ k = 0
  · rw [jfv_i z0, zi, if_pos (s0.mp z0)]
  · by_cases z1 : jfs κ k = 1
    · rw [jfv_l z1, zl, if_neg (fun q => z0 (s0.mpr q)), if_pos (s1.mp z1)]
    · rw [jfv_r (by omega), zr, if_neg (fun q => z0 (s0.mpr q)), if_neg (fun q => z1 (s1.mpr q))]
      rfl
/-- an array of numbers -/
theorem J.newa (hx : j_C cc nL own ret rm g x) {κ i m n : Nat} {j : Int32} {atype : ArrayType} {ty : FieldType} {f : j_St → Option (α × j_St)} (h0 : jk0 κ ≠ 0 ∧ jk0 κ ≠ 6 ∧ jk0 κ ≠ 8 ∧ jk0 κ ≠ 9) (hty : newarray.typeOf atype = ty) (hjt : jty (jk1 κ) = ty) (hra : ∀ U cA, va_RA U cA ty = (U.vm.findClass ("[" ++ ty.toString) = some cA)) (h9 : jk1 κ < 9) (hm : (if jk3 κ = 0 then m else jk3 κ) = n) (hj : ¬ j < 0) (hjn : j.toNatClampNeg = n) (hv : defaultValue ty = if jfs κ 0 = 0 then .int 0 else if jfs κ 0 = 1 then .long 0 else .null) (hs : ∀ k, (jfs κ k = 0 ↔ jfs κ 0 = 0) ∧ (jfs κ k = 1 ↔ jfs κ 0 = 1)) (hk : κ < 100) (hf : ¬ B.2.1 κ i) (hb : ¬ B.2.2 κ i) (hcnt : jcnt w κ i)
    (harr : Cond.arrayClass ty ∈ lw_all) (hby : n * componentBytes ty ≤ 536870912) (hcs : cells + 1 ≤ rm.cells ∧ slots + n ≤ rm.slots) (d : decode cc pc = .ok (.newarray atype, 2))
    (kk : ∀ (q : Nat) (w2 : j_St), J g x nL (jbn B κ i q) Q (cells + 1) (slots + n) (f w2) (pc + 2) lv (.ref ((jbn B κ i q).1 κ i) :: st) w2) : J g x nL B Q cells slots (jlt (jnw w κ i m) f) pc lv (.int j :: st) w := by
  subst hty
  subst hjn
  intro r w' ho H locs ls h hR hq
  have kk := fun (H' : Heap) => kk H.size _ r w' ho H' locs ls h
  rw [jbn_at] at kk
  obtain ⟨p, e, R, s, m0, args, below, meth, c⟩ := x
  obtain ⟨h1, h2, h3, h4, h5, h6, -, -, h9'⟩ := hx
  cases h9'
  obtain ⟨hK, hA, -⟩ := h6
  have hra2 := (hA _ h9).2
  rw [hjt, hra] at hra2
  refine W.newa h1 h2 (h5 _ harr) rfl d rfl hj hby hcs.1 hcs.2 fun cA kA comp g1 g2 g3 => ?_
  have hcA : cA = jgA g (jk1 κ) := Option.some.inj (g1.symm.trans hra2)
  subst hcA
  generalize hH1 : H.push ({ cls := jgA g (jk1 κ), slots := Array.replicate j.toNatClampNeg (defaultValue (newarray.typeOf atype)), vm := .none } : Cell) = H1
  refine kk H1 (hR.new hf hb hk hcnt (by rw [← hH1, Array.size_push]) (fun q hq => by rw [← hH1, Array.getElem?_push, if_neg (Nat.ne_of_lt hq)]) (j_arrzero h0 hm hv hs ?_)) hq
  rw [← hH1, Array.getElem?_push_size, ← arrV_new]
/-- an array of references -/
theorem J.newq (hx : j_C cc nL own ret rm g x) {κ i m n index : Nat} {j : Int32} {C : String} {f : j_St → Option (α × j_St)} (h0 : jk0 κ ≠ 0 ∧ jk0 κ ≠ 6 ∧ jk0 κ ≠ 8 ∧ jk0 κ ≠ 9) (hjt : jty (jk1 κ) = .object C) (h9 : jk1 κ < 9) (hm : (if jk3 κ = 0 then m else jk3 κ) = n) (hj : ¬ j < 0) (hjn : j.toNatClampNeg = n) (hv : Value.null = if jfs κ 0 = 0 then .int 0 else if jfs κ 0 = 1 then .long 0 else .null) (hs : ∀ k, (jfs κ k = 0 ↔ jfs κ 0 = 0) ∧ (jfs κ k = 1 ↔ jfs κ 0 = 1)) (hk : κ < 100) (hf : ¬ B.2.1 κ i) (hb : ¬ B.2.2 κ i) (hcnt : jcnt w κ i)
    (hcl : Cond.classLink own index C ∈ lw_all) (hC : C ∈ [RX6, RX8, RX13, RX2, RX4, "java/lang/String"]) (hby : n * 4 ≤ 536870912) (hcs : cells + 1 ≤ rm.cells ∧ slots + n ≤ rm.slots) (d : decode cc pc = .ok (.anewarray index, 3))
    (kk : ∀ (q : Nat) (w2 : j_St), J g x nL (jbn B κ i q) Q (cells + 1) (slots + n) (f w2) (pc + 3) lv (.ref ((jbn B κ i q).1 κ i) :: st) w2) : J g x nL B Q cells slots (jlt (jnw w κ i m) f) pc lv (.int j :: st) w := by
  subst hjn
  intro r w' ho H locs ls h hR hq
  have kk := fun (H' : Heap) => kk H.size _ r w' ho H' locs ls h
  rw [jbn_at] at kk
  obtain ⟨p, e, R, s, m0, args, below, meth, c⟩ := x
  obtain ⟨h1, h2, h3, h4, h5, h6, -, -, h9'⟩ := hx
  cases h9'
  obtain ⟨hK, hA, hN, hF, hO, -⟩ := h6
  have hra2 := (hA _ h9).2
  rw [hjt] at hra2
  obtain ⟨kA0, comp0, -, -, -, hfc0⟩ := hra2
  refine W.anew h1 h2 h4 (h5 _ hcl) (va_AO.use (hO C hC)) rfl d rfl hj hby hcs.1 hcs.2 fun cA kA comp g1 g2 g3 g4 => ?_
  have hcA : cA = jgA g (jk1 κ) := Option.some.inj (g1.symm.trans hfc0)
  subst hcA
  generalize hH1 : H.push ({ cls := jgA g (jk1 κ), slots := Array.replicate j.toNatClampNeg .null, vm := .none } : Cell) = H1
  refine kk H1 (hR.new hf hb hk hcnt (by rw [← hH1, Array.size_push]) (fun q hq => by rw [← hH1, Array.getElem?_push, if_neg (Nat.ne_of_lt hq)]) (j_arrzero h0 hm hv hs ?_)) hq
  rw [← hH1, Array.getElem?_push_size, ← arrV_new]
/-- a final field, in a constructor -/
theorem J.putF0 (hx : j_C cc nL own ret rm g x) (hnm0 : (jxM x).name = "<init>") {κ i k index : Nat} {C : String} {T : u_T} {N : Nat} {v : Value} {w2 : j_St} (h0 : jk0 κ = 0) (hc : jcl[jk1 κ]? = some (C, T, N)) (hin : ∀ w ∈ u_ws C T N, w ∈ lw_all) {ty0 : Nat → FieldType} (hty : ∀ k, k < N → parseFieldDescriptor (T k).2.2.1 = some (ty0 k)) (hnm : ∀ a, a < N → ∀ b, b < N → a ≠ b → (T a).2.1 ≠ (T b).2.1) (hk : k < N) (hl : Cond.fieldLink own index (T k).1 (T k).2.1 (T k).2.2.1 ∈ lw_all) (hfin : (T k).2.2.2 = true) (hdecl : (T k).1 = own) (hro : jro κ = false) (ha : B.2.1 κ i)
    (hn : narrow (ty0 k) v = v) (hf : fits (ty0 k) v = true) (d : decode cc pc = .ok (.putfield index, 3)) (hv : jfv B.1 w2 κ i = updV (jfv B.1 w κ i) k v)
    (hw : ∀ H H' : Heap, j_R g B w H → H'.size = H.size → (∀ q : Nat, q ≠ B.1 κ i → H'[q]? = H[q]?) → j_ok g B w2 H' κ i → j_R g B w2 H')
    (kk : J g x nL B Q cells slots o (pc + 3) lv st w2) : J g x nL B Q cells slots o pc lv (v :: .ref (B.1 κ i) :: st) w := by
  intro r w' ho H locs ls h hR hq
  have kk := fun (H' : Heap) (locs' : List Loc) (hR' : j_R g B w2 H') (hq' : ∀ q ∈ locs', jgb g ≤ q.base) => kk r w' ho H' locs' ls h hR' hq'
  obtain ⟨p, e, R, s, m, args, below, meth, c⟩ := x
  obtain ⟨h1, h2, h3, h4, h5, h6, h7⟩ := hx
  obtain ⟨hK, -, hN, -⟩ := h6
  have hap := va_apart (own := own) h5 hin ty0 hty hnm hK hc
  obtain ⟨cell, q1, q2, q3, q4⟩ := (hR.1 κ i ha).obj h0 hc
  obtain ⟨hS, hfc, kC, hkC, hkind⟩ := hK.1 _ _ hc
  obtain ⟨cf, kf, fi, f, hi, hsl⟩ := hS k hk
  have hst := (u_facts hfc hkC (u_lays h5 hin hk) hi).1
  have h6 := u_fits hfc hkC hkind (u_lays h5 hin hk) hi (hty k hk) hn hf
  have hcf : m.cls = cf := by
    have hlay := h5 _ (hin _ (u_in_lay hk))
    unfold u_lay at hlay
    rw [if_pos hfin] at hlay
    obtain ⟨_, _, c', _, _, _, -, -, hf', -, -, -, hown2, -⟩ := Cond.laysFinal_spec hlay
    have e1 : c' = cf := by
      have := hi.symm.trans hf'
      simp at this
      exact this.1.symm
    rw [hdecl] at hown2
    rw [← e1]
    exact Option.some.inj (h4.symm.trans hown2)
  have fin : ∀ H' : Heap, H'[B.1 κ i]? = some (cell.setSlot f.slot v) → H'.size = H.size → (∀ q : Nat, q ≠ B.1 κ i → H'[q]? = H[q]?) → j_R g B w2 H' := by
    intro H' e1 e2 e3
    refine hw H H' hR e2 e3 (j_ok.mko h0 hc ?_)
    rw [hsl] at e1
    rw [hv]
    exact ⟨_, e1, q2, q3, t_set q4 hap hk v⟩
  have hlocs : ∀ q ∈ locs ++ [(⟨B.1 κ i, f.slot⟩ : Loc)], jgb g ≤ q.base := by
    intro q hq0
    rcases List.mem_append.mp hq0 with z | z
    · exact hq q z
    · cases List.mem_singleton.mp z
      exact hR.2.2.1 κ i ha hro
  exact W.putFinK h1 h2 h4 (h5 _ hl) hi hst hcf hnm0 (by rw [q2]; exact h6) q1 q3 (by rw [hsl]; exact k2_hasslot (q4 k hk)) rfl rfl d fun H' e1 e2 e3 => kk H' _ (fin H' e1 e2 e3) hlocs
/-! ends -/
theorem J.iretA (hx : j_C cc nL own ret rm g x) {v : Int32} {lv : List (Nat × Value)} {PB : Int32 → j_St → j_B → Prop} (he : j_ext B0 B) (hp : PB v w B) (hr : ret = some .int) (hc : cells ≤ rm.cells) (hs : slots ≤ rm.slots) (d : decode cc pc = .ok (.ireturn, 1)) : J g x nL B (j_QA g x B0 rm (fun v _ => jri v) PB) cells slots (some (v, w)) pc lv [.int v] w := by
  intro r w' ho H locs ls h hR hq
  cases ho
  refine W.widen hc hs ?_
  exact W.iret hx.1 hx.2.1 (hx.2.2.2.2.2.2.2.1.trans hr) (fun t ht _ => ⟨B, he, hp, rfl, by rw [ht]; exact hR⟩) hq d hx.2.2.2.2.2.2.1
theorem J.vretA (hx : j_C cc nL own ret rm g x) {lv : List (Nat × Value)} {PB : Unit → j_St → j_B → Prop} (he : j_ext B0 B) (hp : PB () w B) (hr : ret = none) (hc : cells ≤ rm.cells) (hs : slots ≤ rm.slots) (d : decode cc pc = .ok (.return_, 1)) : J g x nL B (j_QA g x B0 rm (fun _ _ => none) PB) cells slots (some ((), w)) pc lv [] w := by
  intro r w' ho H locs ls h hR hq
  cases ho
  refine W.widen hc hs ?_
  exact W.vret hx.1 hx.2.1 (hx.2.2.2.2.2.2.2.1.trans hr) (fun t ht _ => ⟨B, he, hp, rfl, by rw [ht]; exact hR⟩) hq d hx.2.2.2.2.2.2.1
theorem J.aretA (hx : j_C cc nL own ret rm g x) {κ q : Nat} {rt : FieldType} {lv : List (Nat × Value)} {PB : Nat → j_St → j_B → Prop} (he : j_ext B0 B) (hp : PB q w B) (hr : ret = some rt) (hrt : (∃ n, rt = .object n) ∨ ∃ t, rt = .array t) (hc : cells ≤ rm.cells) (hs : slots ≤ rm.slots) (d : decode cc pc = .ok (.areturn, 1)) : J g x nL B (j_QA g x B0 rm (fun q B => jrr B κ q) PB) cells slots (some (q, w)) pc lv [.ref (B.1 κ q)] w := by
  intro r w' ho H locs ls h hR hq
  cases ho
  refine W.widen hc hs ?_
  exact W.aret hx.1 hx.2.1 (hx.2.2.2.2.2.2.2.1.trans hr) hrt (Or.inr ⟨_, rfl⟩) (fun t ht _ => ⟨B, he, hp, rfl, by rw [ht]; exact hR⟩) hq d hx.2.2.2.2.2.2.1
end JN
/-- these cells more (peaks aside), and none built -/
def jadd (B : j_B) (L : List (Nat × Nat)) (B' : j_B) : Prop := B'.2.2 = B.2.2 ∧ (∀ κ i, (κ, i) ∈ L → B'.2.1 κ i) ∧ (∀ κ i, B.2.1 κ i → B'.2.1 κ i) ∧ ∀ κ i, B'.2.1 κ i → B.2.1 κ i ∨ (κ, i) ∈ L ∨ κ = 3
theorem jadd.rf {B : j_B} : jadd B [] B := ⟨rfl, fun _ _ h => (by simp at h), fun _ _ h => h, fun _ _ h => Or.inl h⟩
theorem jadd.n {B : j_B} {L : List (Nat × Nat)} {B' : j_B} {κ i q : Nat} (h : jadd B L B') : jadd B (L ++ [(κ, i)]) (jbn B' κ i q) := by
  refine ⟨h.1, fun a b hm => ?_, fun a b hb => Or.inr (h.2.2.1 a b hb), fun a b hb => ?_⟩
  · rcases List.mem_append.mp hm with z | z
    · exact Or.inr (h.2.1 a b z)
    · rw [List.mem_singleton, Prod.mk.injEq] at z
      rw [z.1, z.2]
      exact jbn_al _
  · rcases hb with z | z
    · rw [Bool.and_eq_true, Nat.beq_eq, Nat.beq_eq] at z
      exact Or.inr (Or.inl (List.mem_append.mpr (Or.inr (by rw [z.1, z.2]; exact List.mem_singleton.mpr rfl))))
    · rcases h.2.2.2 a b z with y | y | y
      · exact Or.inl y
      · exact Or.inr (Or.inl (List.mem_append.mpr (Or.inl y)))
      · exact Or.inr (Or.inr y)
theorem jadd.p {B : j_B} {L : List (Nat × Nat)} {B' : j_B} {i q : Nat} (h : jadd B L B') : jadd B L (jbn B' 3 i q) := by
  refine ⟨h.1, fun a b hm => Or.inr (h.2.1 a b hm), fun a b hb => Or.inr (h.2.2.1 a b hb), fun a b hb => ?_⟩
  rcases hb with z | z
  · rw [Bool.and_eq_true, Nat.beq_eq, Nat.beq_eq] at z
    exact Or.inr (Or.inr z.1)
  · exact h.2.2.2 a b z
theorem jadd.tr {B B' B'' : j_B} {L M : List (Nat × Nat)} (h : jadd B L B') (h2 : jadd B' M B'') : jadd B (L ++ M) B'' := by
  refine ⟨h2.1.trans h.1, fun a b hm => ?_, fun a b hb => h2.2.2.1 a b (h.2.2.1 a b hb), fun a b hb => ?_⟩
  · rcases List.mem_append.mp hm with z | z
    · exact h2.2.2.1 a b (h.2.1 a b z)
    · exact h2.2.1 a b z
  · rcases h2.2.2.2 a b hb with y | y | y
    · rcases h.2.2.2 a b y with y | y | y
      · exact Or.inl y
      · exact Or.inr (Or.inl (List.mem_append.mpr (Or.inl y)))
      · exact Or.inr (Or.inr y)
    · exact Or.inr (Or.inl (List.mem_append.mpr (Or.inr y)))
    · exact Or.inr (Or.inr y)
theorem jadd.no {B B' : j_B} {L : List (Nat × Nat)} (h : jadd B L B') {κ i : Nat} (h1 : ¬ B.2.1 κ i) (h2 : (κ, i) ∉ L ∧ κ ≠ 3) : ¬ B'.2.1 κ i := by
  intro z
  rcases h.2.2.2 κ i z with z | z | z
  · exact h1 z
  · exact h2.1 z
  · exact h2.2 z
theorem jadd.nb {B B' : j_B} {L : List (Nat × Nat)} (h : jadd B L B') {κ i : Nat} (h1 : ¬ B.2.2 κ i) : ¬ B'.2.2 κ i := by
  rw [h.1]
  exact h1
theorem jbn_oldh {B : j_B} {κ i q a b : Nat} (h : B.2.1 a b ∧ True) : (jbn B κ i q).2.1 a b ∧ True := ⟨Or.inr h.1, trivial⟩
theorem j_ext.mvh {B B' : j_B} (h : j_ext B B') {κ i : Nat} (a : B.2.1 κ i ∧ True) : B'.2.1 κ i ∧ True := ⟨(h κ i a.1).1, trivial⟩
theorem j_ext.adh {B B' : j_B} (h : j_ext B B') {κ i : Nat} (a : B.2.1 κ i ∧ True) : B'.1 κ i = B.1 κ i := (h κ i a.1).2.1
theorem jbn_alh {B : j_B} {κ i q : Nat} : (jbn B κ i q).2.1 κ i ∧ True := ⟨jbn_al B, trivial⟩
theorem jcnt_54 {w : j_St} {i : Nat} (h : jcnt w 5 i) : jcnt w 4 (2 * i + 1) := by
  unfold jcnt at h ⊢
  simp at h ⊢
  exact Or.inl ⟨i, by omega, h⟩
theorem jcnt_64 {w : j_St} {i : Nat} (h : jcnt w 6 i) : jcnt w 4 (2 * i + 2) := by
  unfold jcnt at h ⊢
  simp at h ⊢
  exact Or.inr ⟨i, by omega, h⟩
theorem jcnt_432 {w : j_St} {i : Nat} (h : jcnt w 4 i) : jcnt w 32 i := by
  unfold jcnt at h ⊢
  simpa using h
theorem jcnt_533 {w : j_St} {i : Nat} (h : jcnt w 5 i) : jcnt w 33 i := by
  unfold jcnt at h ⊢
  simpa using h
theorem jcnt_634 {w : j_St} {i : Nat} (h : jcnt w 6 i) : jcnt w 34 i ∧ jcnt w 35 i := by
  unfold jcnt at h ⊢
  simpa using h
theorem jcnt_736 {w : j_St} {i : Nat} (h : jcnt w 7 i) : jcnt w 36 i ∧ jcnt w 37 i := by
  unfold jcnt at h ⊢
  simpa using h
theorem jbn_noK {B : j_B} {κ i q a b : Nat} (h : ¬ B.2.1 a b) (hk : a ≠ κ) : ¬ (jbn B κ i q).2.1 a b := by
  rintro (z | z)
  · rw [Bool.and_eq_true, Nat.beq_eq, Nat.beq_eq] at z
    exact hk z.1
  · exact h z
section JN2
variable {α β : Type} {g : j_G} {x : j_X} {cc : ByteArray} {nL : Nat} {own : String} {ret : Option FieldType} {rm : Room} {B B0 : j_B} {Q : α → j_St → State → Prop} {cells slots : Nat} {o o1 o2 : Option (α × j_St)} {pc pc' : Nat} {lv lv' : List (Nat × Value)} {st st' rest : List Value} {w w1 : j_St}
theorem J.callAv (hx : j_C cc nL own ret rm g x) {f : Option (Unit × j_St)} {k : Unit → j_St → Option (α × j_St)} {PB : j_St → j_B → Prop} {mc ms : Nat}
    (hc : ∀ r w1, f = some (r, w1) → j_CallA g x nL B w w1 pc pc' st rest mc ms (fun _ => none) (PB w1)) (hcs : cells + mc ≤ rm.cells ∧ slots + ms ≤ rm.slots)
    (kk : ∀ r w1 B1, f = some (r, w1) → j_ext B B1 → PB w1 B1 → J g x nL B1 Q (cells + mc) (slots + ms) (k r w1) pc' lv rest w1) : J g x nL B Q cells slots (jcb f k) pc lv st w := J.callA hx (rv := fun _ _ => none) (PB := fun _ => PB) hc hcs kk
theorem J.callAi (hx : j_C cc nL own ret rm g x) {f : Option (Int32 × j_St)} {k : Int32 → j_St → Option (α × j_St)} {PB : Int32 → j_St → j_B → Prop} {mc ms : Nat}
    (hc : ∀ r w1, f = some (r, w1) → j_CallA g x nL B w w1 pc pc' st rest mc ms (fun _ => jri r) (PB r w1)) (hcs : cells + mc ≤ rm.cells ∧ slots + ms ≤ rm.slots)
    (kk : ∀ r w1 B1, f = some (r, w1) → j_ext B B1 → PB r w1 B1 → J g x nL B1 Q (cells + mc) (slots + ms) (k r w1) pc' lv (.int r :: rest) w1) : J g x nL B Q cells slots (jcb f k) pc lv st w := J.callA hx (rv := fun r _ => jri r) hc hcs kk
theorem J.callAr (hx : j_C cc nL own ret rm g x) {κ : Nat} {f : Option (Nat × j_St)} {k : Nat → j_St → Option (α × j_St)} {PB : Nat → j_St → j_B → Prop} {mc ms : Nat}
    (hc : ∀ r w1, f = some (r, w1) → j_CallA g x nL B w w1 pc pc' st rest mc ms (fun B => jrr B κ r) (PB r w1)) (hcs : cells + mc ≤ rm.cells ∧ slots + ms ≤ rm.slots)
    (kk : ∀ r w1 B1, f = some (r, w1) → j_ext B B1 → PB r w1 B1 → J g x nL B1 Q (cells + mc) (slots + ms) (k r w1) pc' lv (.ref (B1.1 κ r) :: rest) w1) : J g x nL B Q cells slots (jcb f k) pc lv st w := J.callA hx (rv := fun r B => jrr B κ r) hc hcs kk
theorem J.bumpe {κ : Nat} {f : j_St → Option (α × j_St)} (k : ∀ w2 : j_St, w2 = jbump w κ → J g x nL B Q cells slots (f w2) pc lv st w2) : J g x nL B Q cells slots (jlt (jbump w κ) f) pc lv st w := fun r w' ho H locs ls h hR hq => k _ rfl r w' ho H locs ls h hR.bump hq
/-- a field that stays is read ahead of its object's being built -/
theorem J.getrh (hx : j_C cc nL own ret rm g x) {κ i k index : Nat} (κ' : Nat) {C : String} {T : u_T} {N : Nat} {f : Option Nat → Option (α × j_St)} (h0 : jk0 κ = 0) (hc : jcl[jk1 κ]? = some (C, T, N)) (hs : jfs κ k = 3) (hκ : jfk κ k = κ') (hin : ∀ w ∈ u_ws C T N, w ∈ lw_all) (hk : k < N) (hl : jlk own index (T k).1 (T k).2.1 (T k).2.2.1) (ha : B.2.1 κ i)
    (d : decode cc pc = .ok (.getfield index, 3)) (kk : ∀ v : Option Nat, (∀ q, v = some q → B.2.1 κ' q ∧ True) → J g x nL B Q cells slots (f v) (pc + 3) lv (va_re (B.1 κ') v :: st) w) : J g x nL B Q cells slots (jlt (jgr w κ i k) f) pc lv (.ref (B.1 κ i) :: st) w := by
  subst hκ
  intro r w' ho H locs ls h hR hq
  exact J.get0 hx h0 hc hin hk hl ha d (jfv_r (by omega)) (kk _ fun q hq' => ⟨hR.2.2.2.2.2.1 κ i k q ha hq', trivial⟩) r w' ho H locs ls h hR hq
theorem j_sort5 {κ : Nat} (h0 : jk0 κ = 5) (h3 : (jk3 κ == 0) = false) : ∀ k, (jfs κ k = 0 ↔ jfs κ 0 = 0) ∧ (jfs κ k = 1 ↔ jfs κ 0 = 1) := by
  have key : ∀ k, jfs κ k = 3 ∨ jfs κ k = 2 := fun k => by
    unfold jfs jfd
    rw [h0, if_neg (by decide), if_neg (by decide), if_neg (by decide), if_pos rfl]
    split
    · exact Or.inl rfl
    · exact Or.inr rfl
  intro k
  have a := key k
  have b := key 0
  omega
theorem jbn_oldqh {B : j_B} {κ i q κ' : Nat} {v : Option Nat} (h : ∀ a, v = some a → B.2.1 κ' a ∧ True) : ∀ a, v = some a → (jbn B κ i q).2.1 κ' a ∧ True := fun a e => jbn_oldh (h a e)
/-- a final field that holds a reference -/
theorem J.putFr (hx : j_C cc nL own ret rm g x) (hnm0 : (jxM x).name = "<init>") {κ i k index v : Nat} (κ' : Nat) {C : String} {T : u_T} {N : Nat} {f : j_St → Option (α × j_St)} (h0 : jk0 κ = 0) (hc : jcl[jk1 κ]? = some (C, T, N)) (hs : jfs κ k = 3) (hκ : jfk κ k = κ') (hin : ∀ w ∈ u_ws C T N, w ∈ lw_all) {ty0 : Nat → FieldType} (hty : ∀ k, k < N → parseFieldDescriptor (T k).2.2.1 = some (ty0 k)) (hnm : ∀ a, a < N → ∀ b, b < N → a ≠ b → (T a).2.1 ≠ (T b).2.1) (hk : k < N) (hl : Cond.fieldLink own index (T k).1 (T k).2.1 (T k).2.2.1 ∈ lw_all) (hfin : (T k).2.2.2 = true) (hdecl : (T k).1 = own) (hro : jro κ = false) (ha : B.2.1 κ i)
    (hn : ∀ a, narrow (ty0 k) (.ref a) = .ref a ∧ fits (ty0 k) (.ref a) = true) (hv : B.2.1 κ' v) (hb : ¬ B.2.2 κ i) (d : decode cc pc = .ok (.putfield index, 3))
    (kk : ∀ w2 : j_St, J g x nL B Q cells slots (f w2) (pc + 3) lv st w2) : J g x nL B Q cells slots (jlt (jsr w κ i k (some v)) f) pc lv (.ref (B.1 κ' v) :: .ref (B.1 κ i) :: st) w := by
  subst hκ
  exact J.putF0 hx hnm0 h0 hc hin hty hnm hk hl hfin hdecl hro ha (hn _).1 (hn _).2 d (jfv_sr (by omega)) (fun H H' hR e2 e3 hok => hR.sr ha hro e2 e3 hok (fun q hq => by cases hq; exact ⟨hv, fun z => by omega⟩) (fun _ => hb)) (kk _)
theorem J.putFi (hx : j_C cc nL own ret rm g x) (hnm0 : (jxM x).name = "<init>") {κ i k index : Nat} {v : Int32} {C : String} {T : u_T} {N : Nat} {f : j_St → Option (α × j_St)} (h0 : jk0 κ = 0) (hc : jcl[jk1 κ]? = some (C, T, N)) (hs : jfs κ k = 0) (hin : ∀ w ∈ u_ws C T N, w ∈ lw_all) {ty0 : Nat → FieldType} (hty : ∀ k, k < N → parseFieldDescriptor (T k).2.2.1 = some (ty0 k)) (hnm : ∀ a, a < N → ∀ b, b < N → a ≠ b → (T a).2.1 ≠ (T b).2.1) (hk : k < N) (hl : Cond.fieldLink own index (T k).1 (T k).2.1 (T k).2.2.1 ∈ lw_all) (hfin : (T k).2.2.2 = true) (hdecl : (T k).1 = own) (hro : jro κ = false) (ha : B.2.1 κ i)
    (hn : narrow (ty0 k) (.int v) = .int v ∧ fits (ty0 k) (.int v) = true) (d : decode cc pc = .ok (.putfield index, 3))
    (kk : ∀ w2 : j_St, J g x nL B Q cells slots (f w2) (pc + 3) lv st w2) : J g x nL B Q cells slots (jlt (jsi w κ i k v) f) pc lv (.int v :: .ref (B.1 κ i) :: st) w :=
  J.putF0 hx hnm0 h0 hc hin hty hnm hk hl hfin hdecl hro ha hn.1 hn.2 d (jfv_si hs) (fun H H' hR e2 e3 hok => hR.si ha hro e2 e3 hok) (kk _)
/-- a reference into an array whose references stay -/
theorem J.aastF (hx : j_C cc nL own ret rm g x) {κ i : Nat} (κ' : Nat) {j : Int32} {v : Nat} {n : Nat} {r0 : vw_C} {f : j_St → Option (α × j_St)} (h0 : jk0 κ = 5) (hκ : jk2 κ = κ') (hm : jk3 κ = n) (h9 : jk1 κ < 9) (hro : jro κ = false) (h0' : jk0 κ' = 0) (hc' : jcl[jk1 κ']? = some r0) (hC : jty (jk1 κ) = .object r0.1) (hn : jln w κ i = n) (ha : B.2.1 κ i) (hv : B.2.1 κ' v) (hb : ¬ B.2.2 κ i) (d : decode cc pc = .ok (.aastore, 1))
    (kk : ∀ w2 : j_St, J g x nL B Q cells slots (f w2) (pc + 1) lv st w2) : J g x nL B Q cells slots (jbd j n fun a => jlt (jsr w κ i a (some v)) f) pc lv (.ref (B.1 κ' v) :: .int j :: .ref (B.1 κ i) :: st) w := by
  subst hκ
  refine J.bd fun hbd => ?_
  obtain ⟨b1, b2, b3⟩ := j_ix hbd
  have hlt : j.toInt.toNat < n := by omega
  have hs : jfd κ j.toInt.toNat = (3, jk2 κ, fun i k => jk3 κ * i + k) := by
    unfold jfd
    rw [h0, if_neg (by decide), if_neg (by decide), if_neg (by decide), if_pos rfl, if_pos (by rw [hm]; exact hlt)]
  have hs3 : jfs κ j.toInt.toNat = 3 := by unfold jfs; rw [hs]
  have hsk : jfk κ j.toInt.toNat = jk2 κ := by unfold jfk; rw [hs]
  intro r w' ho H locs ls h hR hq
  have kk := fun (H' : Heap) (locs' : List Loc) => kk _ r w' ho H' locs' ls h
  obtain ⟨p, e, R, s, m, args, below, meth, c⟩ := x
  obtain ⟨h1, h2, h3, h4, h5, h6, h7⟩ := hx
  obtain ⟨hK, hA, -⟩ := h6
  have hcell := (hR.1 κ i ha).arr (by rw [h0]; decide) (by rw [h0]; decide)
  rw [hn] at hcell
  have hAr := hA _ h9
  rw [hC] at hAr
  obtain ⟨cellV, g1, g2, g3, -⟩ := (hR.1 (jk2 κ) v hv).obj h0' hc'
  have hcls := (hK.1 _ r0 hc').2
  obtain ⟨kA, comp, k1, k2, k3, -⟩ := hAr.2
  have hcomp : comp = (jgD g).1 (jk1 (jk2 κ)) := Option.some.inj (k3.symm.trans hcls.1)
  subst hcomp
  obtain ⟨kC, hkC, -⟩ := hcls.2
  refine W.aast h1 h2 hcell (fun q h => by cases h) (fun h => by cases h) k1 k2 rfl hkC ⟨fun z => b1 (Or.inl z), by rw [arrV_size]; exact b2⟩ g1 (fun q h => by rw [g3] at h; cases h) (by rw [g2]; exact hkC) (by rw [g2]; exact va_assign hcls) rfl rfl d fun H' e1 e2 e3 => kk H' _ (hR.sr ha hro e2 e3 ?_ ?_ (fun _ => hb)) ?_
  · rw [b3] at e1
    refine j_put_arr (by rw [h0]; decide) hn hn e1 ?_
    rw [jfv_sr (by rw [hs3]; omega), hsk]
    rfl
  · intro q hq
    cases hq
    rw [hsk]
    exact ⟨hv, fun z => by rw [hs3] at z; omega⟩
  · intro q hq0
    rcases List.mem_append.mp hq0 with z | z
    · exact hq q z
    · cases List.mem_singleton.mp z
      exact hR.2.2.1 κ i ha hro
end JN2
