/-! what the law's start gives: classes, words, statics, lambdas, constants -/
def stFL : List Cond := [(Jvm.Cond.eq (Jvm.Term.static "TracePeaksModel" "W_CLIP" "J") (Jvm.Term.long (68056 : Int64))), (Jvm.Cond.eq (Jvm.Term.static "TracePeaksModel" "W_CUT" "J") (Jvm.Term.long (2774 : Int64))), (Jvm.Cond.eq (Jvm.Term.static "TracePeaksModel" "W_FLAT" "J") (Jvm.Term.long (126893 : Int64))), (Jvm.Cond.eq (Jvm.Term.static "TracePeaksModel" "W_LIFT" "J") (Jvm.Term.long (242939 : Int64))), (Jvm.Cond.eq (Jvm.Term.static "TracePeaksModel" "W_LINE" "J") (Jvm.Term.long (243140 : Int64))), (Jvm.Cond.eq (Jvm.Term.static "TracePeaksModel" "W_MEDIAN" "J") (Jvm.Term.long (189278330 : Int64))), (Jvm.Cond.eq (Jvm.Term.static "TracePeaksModel" "W_NOISE" "J") (Jvm.Term.long (7742498 : Int64))), (Jvm.Cond.eq (Jvm.Term.static "TracePeaksModel" "W_REACH" "J") (Jvm.Term.long (9665171 : Int64))), (Jvm.Cond.eq (Jvm.Term.static "TracePeaksModel" "W_SCALE" "J") (Jvm.Term.long (10157486 : Int64))), (Jvm.Cond.eq (Jvm.Term.static "TracePeaksModel" "W_SET" "J") (Jvm.Term.long (14006 : Int64))), (Jvm.Cond.eq (Jvm.Term.static "TracePeaksModel" "W_SMOOTH" "J") (Jvm.Term.long (279844694 : Int64))), (Jvm.Cond.eq (Jvm.Term.static "TracePeaksModel" "W_TRACE" "J") (Jvm.Term.long (10983929 : Int64))), (Jvm.Cond.eq (Jvm.Term.static "TracePeaksModel" "W_TURN" "J") (Jvm.Term.long (409469 : Int64))), (Jvm.Cond.eq (Jvm.Term.static "java/lang/String" "COMPACT_STRINGS" "Z") (Jvm.Term.int (1 : Int32)))]
theorem stFL_ok : stFL.all (fun c => decide (c ∈ flatC (Jvm.Cond.and given_1 narrow_1))) = true := by decide +kernel
theorem st_f {s : State} {args : Array Value} (hs : ∀ c ∈ flatC (Jvm.Cond.and given_1 narrow_1), c.before args s = true) (n : Nat) {c : Cond} (h : stFL[n]? = some c) : c.before args s = true := hs c (of_decide_eq_true (List.all_eq_true.mp stFL_ok c (List.mem_of_getElem? h)))
theorem st_cls {s : State} {args : Array Value} (hts : ∀ w ∈ lw_all, w.before args s = true) : ∃ (dC : Nat → ClassId) (dI : Nat → Nat → Nat), ∀ (c : Nat) (q : vw_C), jcl[c]? = some q → u_Kn s q.1 q.2.1 q.2.2 (dC c) (dI c) := by
  have h : ∀ c : Nat, ∃ p : ClassId × (Nat → Nat), ∀ q : vw_C, jcl[c]? = some q → u_Kn s q.1 q.2.1 q.2.2 p.1 p.2 := by
    intro c
    match c with
    | 0 =>
      obtain ⟨cC, iS, h⟩ := u_known hts in_X1 (hts _ q159)
      exact ⟨(cC, iS), fun q e => by
        cases ((rfl : jcl[0]? = some (RX1, TX1, 22)).symm.trans e)
        exact h⟩
    | 1 =>
      obtain ⟨cC, iS, h⟩ := u_known hts in_X9 (hts _ q1648)
      exact ⟨(cC, iS), fun q e => by
        cases ((rfl : jcl[1]? = some (RX9, TX9, 52)).symm.trans e)
        exact h⟩
    | 2 =>
      obtain ⟨cC, iS, h⟩ := u_known hts in_X5 (hts _ q224)
      exact ⟨(cC, iS), fun q e => by
        cases ((rfl : jcl[2]? = some (RX5, TX5, 9)).symm.trans e)
        exact h⟩
    | 3 =>
      obtain ⟨cC, iS, h⟩ := u_known hts in_X6 (hts _ q231)
      exact ⟨(cC, iS), fun q e => by
        cases ((rfl : jcl[3]? = some (RX6, TX6, 7)).symm.trans e)
        exact h⟩
    | 4 =>
      obtain ⟨cC, iS, h⟩ := u_known hts in_X7 (hts _ q311)
      exact ⟨(cC, iS), fun q e => by
        cases ((rfl : jcl[4]? = some (RX7, TX7, 2)).symm.trans e)
        exact h⟩
    | 5 =>
      obtain ⟨cC, iS, h⟩ := u_known hts in_X8 (hts _ q331)
      exact ⟨(cC, iS), fun q e => by
        cases ((rfl : jcl[5]? = some (RX8, TX8, 6)).symm.trans e)
        exact h⟩
    | 6 =>
      obtain ⟨cC, iS, h⟩ := u_known hts in_X11 (hts _ q462)
      exact ⟨(cC, iS), fun q e => by
        cases ((rfl : jcl[6]? = some (RX11, TX11, 6)).symm.trans e)
        exact h⟩
    | 7 =>
      obtain ⟨cC, iS, h⟩ := u_known hts in_X13 (hts _ q901)
      exact ⟨(cC, iS), fun q e => by
        cases ((rfl : jcl[7]? = some (RX13, TX13, 3)).symm.trans e)
        exact h⟩
    | 8 =>
      obtain ⟨cC, iS, h⟩ := u_known hts in_X10 (hts _ q445)
      exact ⟨(cC, iS), fun q e => by
        cases ((rfl : jcl[8]? = some (RX10, TX10, 2)).symm.trans e)
        exact h⟩
    | 9 =>
      obtain ⟨cC, iS, h⟩ := u_known hts in_X12 (hts _ q783)
      exact ⟨(cC, iS), fun q e => by
        cases ((rfl : jcl[9]? = some (RX12, TX12, 7)).symm.trans e)
        exact h⟩
    | 10 =>
      obtain ⟨cC, iS, h⟩ := u_known hts in_X2 (hts _ q174)
      exact ⟨(cC, iS), fun q e => by
        cases ((rfl : jcl[10]? = some (RX2, TX2, 1)).symm.trans e)
        exact h⟩
    | 11 =>
      obtain ⟨cC, iS, h⟩ := u_known hts in_X4 (hts _ q199)
      exact ⟨(cC, iS), fun q e => by
        cases ((rfl : jcl[11]? = some (RX4, TX4, 1)).symm.trans e)
        exact h⟩
    | 12 =>
      obtain ⟨cC, iS, h⟩ := u_known hts in_J3 (hts _ q659)
      exact ⟨(cC, iS), fun q e => by
        cases ((rfl : jcl[12]? = some (RJ3, TJ3, 4)).symm.trans e)
        exact h⟩
    | 13 =>
      obtain ⟨cC, iS, h⟩ := u_known hts in_J2 (hts _ q517)
      exact ⟨(cC, iS), fun q e => by
        cases ((rfl : jcl[13]? = some (RJ2, TJ2, 4)).symm.trans e)
        exact h⟩
    | c + 14 => exact ⟨(0, fun _ => 0), fun q e => by simp [jcl] at e⟩
  obtain ⟨f, hf⟩ := Classical.axiomOfChoice h
  exact ⟨fun c => (f c).1, fun c => (f c).2, hf⟩
theorem st_arr {s : State} {args : Array Value} (hts0 : ∀ w ∈ lw_tbl, w.before args s = true) : ∃ dA : Nat → ClassId, ∀ t, t < 9 → ArrOfT s (dA t) (jty t) ∧ va_RA s (dA t) (jty t) := by
  have h : ∀ t : Nat, ∃ c : ClassId, t < 9 → ArrOfT s c (jty t) ∧ va_RA s c (jty t) := by
    intro t
    match t with
    | 0 =>
      obtain ⟨c, k, comp, h1, h2, h3⟩ := Cond.arrayClass_spec (hts0 _ (lw_all_tbl q273))
      exact ⟨c, fun _ => ⟨fun n z => ⟨fun k h => (by cases h), k, h2, comp, h3⟩, h1⟩⟩
    | 1 =>
      obtain ⟨c, k, comp, h1, h2, h3⟩ := Cond.arrayClass_spec (hts0 _ (lw_all_tbl q272))
      exact ⟨c, fun _ => ⟨fun n z => ⟨fun k h => (by cases h), k, h2, comp, h3⟩, h1⟩⟩
    | 2 =>
      obtain ⟨c, k, comp, h1, h2, h3⟩ := Cond.arrayClass_spec (hts0 _ (lw_all_tbl q1810))
      exact ⟨c, fun _ => ⟨fun n z => ⟨fun k h => (by cases h), k, h2, comp, h3⟩, h1⟩⟩
    | 3 =>
      obtain ⟨comp, c, k, h1, h2, h3, h4, h5⟩ := Cond.arrayOver_spec (hts0 _ q230)
      exact ⟨c, fun _ => ⟨fun n z => ⟨fun k h => (by cases h), k, h3, comp, h4⟩, k, comp, h3, h4, h1, h5⟩⟩
    | 4 =>
      obtain ⟨comp, c, k, h1, h2, h3, h4, h5⟩ := Cond.arrayOver_spec (hts0 _ q362)
      exact ⟨c, fun _ => ⟨fun n z => ⟨fun k h => (by cases h), k, h3, comp, h4⟩, k, comp, h3, h4, h1, h5⟩⟩
    | 5 =>
      obtain ⟨comp, c, k, h1, h2, h3, h4, h5⟩ := Cond.arrayOver_spec (hts0 _ q222)
      exact ⟨c, fun _ => ⟨fun n z => ⟨fun k h => (by cases h), k, h3, comp, h4⟩, k, comp, h3, h4, h1, h5⟩⟩
    | 6 =>
      obtain ⟨comp, c, k, h1, h2, h3, h4, h5⟩ := Cond.arrayOver_spec (hts0 _ q470)
      exact ⟨c, fun _ => ⟨fun n z => ⟨fun k h => (by cases h), k, h3, comp, h4⟩, k, comp, h3, h4, h1, h5⟩⟩
    | 7 =>
      obtain ⟨comp, c, k, h1, h2, h3, h4, h5⟩ := Cond.arrayOver_spec (hts0 _ q173)
      exact ⟨c, fun _ => ⟨fun n z => ⟨fun k h => (by cases h), k, h3, comp, h4⟩, k, comp, h3, h4, h1, h5⟩⟩
    | 8 =>
      obtain ⟨comp, c, k, h1, h2, h3, h4, h5⟩ := Cond.arrayOver_spec (hts0 _ q198)
      exact ⟨c, fun _ => ⟨fun n z => ⟨fun k h => (by cases h), k, h3, comp, h4⟩, k, comp, h3, h4, h1, h5⟩⟩
    | t + 9 => exact ⟨0, fun h => by omega⟩
  obtain ⟨f, hf⟩ := Classical.axiomOfChoice h
  exact ⟨f, hf⟩
theorem st_nl {s : State} {args : Array Value} (hts0 : ∀ w ∈ lw_tbl, w.before args s = true) : ∀ w ∈ jnl, va_Nw w s := fun w hw => by
  have hm := List.mem_filter.mp hw
  refine va_Nw.of ?_ (hts0 w hm.1)
  have h2 := hm.2
  cases w <;> first | rfl | (simp [jng] at h2; done)
theorem st_fs_key : jfs_.all (fun t => decide (Cond.declares t.2.1 ∈ lw_tbl) && (decide (Cond.interfaceMethod t.2.1.cls t.2.1.cls t.2.1.name t.2.1.desc ∈ lw_tbl) && (decide (Cond.publicMethod t.2.2 ∈ lw_tbl) && (decide (Cond.unhidden t.1 t.2.1.name t.2.1.desc ∈ lw_tbl) && decide (Cond.castable t.1 t.2.1.cls ∈ lw_tbl))))) = true := by decide +kernel
theorem st_fs {s : State} {args : Array Value} (hts0 : ∀ w ∈ lw_tbl, w.before args s = true) : ∀ t ∈ jfs_, va_Fw t.1 t.2.1 t.2.2 s := fun t ht => by
  have h := List.all_eq_true.mp st_fs_key t ht
  simp only [Bool.and_eq_true, decide_eq_true_eq] at h
  obtain ⟨h1, h2, h3, h4, h5⟩ := h
  exact va_Fw.of (hts0 _ h1) (hts0 _ h2) (hts0 _ h3) (hts0 _ h4) (hts0 _ h5)
theorem st_AO {s : State} {args : Array Value} (hts0 : ∀ w ∈ lw_tbl, w.before args s = true) : ∀ C, C ∈ [RX6, RX8, RX13, RX2, RX4, "java/lang/String"] → va_AO C s := fun C hC => by
  simp only [List.mem_cons, List.not_mem_nil, or_false] at hC
  rcases hC with rfl | rfl | rfl | rfl | rfl | rfl
  · exact va_AO.of (hts0 _ q230)
  · exact va_AO.of (hts0 _ q362)
  · exact va_AO.of (hts0 _ q222)
  · exact va_AO.of (hts0 _ q173)
  · exact va_AO.of (hts0 _ q198)
  · exact va_AO.of (hts0 _ q470)
theorem st_st {s : State} {args : Array Value} (hts0 : ∀ w ∈ lw_tbl, w.before args s = true) (hs : ∀ c ∈ flatC (Jvm.Cond.and given_1 narrow_1), c.before args s = true) : ∀ t ∈ jsts, va_Z t.1 t.2.1 t.2.2.1 t.2.2.2 (fun q => s.heap.size ≤ q) s s.heap := fun t ht => by
  have hA : ∀ a : Nat, a < s.heap.size → ¬ s.heap.size ≤ a := fun a h => Nat.not_le.mpr h
  simp only [jsts, List.mem_cons, List.not_mem_nil, or_false] at ht
  rcases ht with rfl | rfl | rfl | rfl | rfl | rfl | rfl | rfl | rfl | rfl | rfl | rfl | rfl | rfl
  · exact va_Zof (hts0 _ q1920) (hts0 _ (lw_all_tbl q129)) (va_eqtl (st_f hs 0 rfl)) hA
  · exact va_Zof (hts0 _ q1928) (hts0 _ (lw_all_tbl q129)) (va_eqtl (st_f hs 1 rfl)) hA
  · exact va_Zof (hts0 _ q1916) (hts0 _ (lw_all_tbl q129)) (va_eqtl (st_f hs 2 rfl)) hA
  · exact va_Zof (hts0 _ q1922) (hts0 _ (lw_all_tbl q129)) (va_eqtl (st_f hs 3 rfl)) hA
  · exact va_Zof (hts0 _ q1880) (hts0 _ (lw_all_tbl q129)) (va_eqtl (st_f hs 4 rfl)) hA
  · exact va_Zof (hts0 _ q1914) (hts0 _ (lw_all_tbl q129)) (va_eqtl (st_f hs 5 rfl)) hA
  · exact va_Zof (hts0 _ q1876) (hts0 _ (lw_all_tbl q129)) (va_eqtl (st_f hs 6 rfl)) hA
  · exact va_Zof (hts0 _ q1878) (hts0 _ (lw_all_tbl q129)) (va_eqtl (st_f hs 7 rfl)) hA
  · exact va_Zof (hts0 _ q1924) (hts0 _ (lw_all_tbl q129)) (va_eqtl (st_f hs 8 rfl)) hA
  · exact va_Zof (hts0 _ q1926) (hts0 _ (lw_all_tbl q129)) (va_eqtl (st_f hs 9 rfl)) hA
  · exact va_Zof (hts0 _ q1912) (hts0 _ (lw_all_tbl q129)) (va_eqtl (st_f hs 10 rfl)) hA
  · exact va_Zof (hts0 _ q1870) (hts0 _ (lw_all_tbl q129)) (va_eqtl (st_f hs 11 rfl)) hA
  · exact va_Zof (hts0 _ q1918) (hts0 _ (lw_all_tbl q129)) (va_eqtl (st_f hs 12 rfl)) hA
  · exact va_Zof (hts0 _ q526) (hts0 _ (lw_all_tbl q134)) (va_eqt (st_f hs 13 rfl)) hA
theorem st_dw_key : defaultWords_1.all (fun w => decide (w ∈ flatC (Jvm.Cond.and given_1 narrow_1))) = true := by decide +kernel
theorem st_dw {s : State} {args : Array Value} (hs : ∀ c ∈ flatC (Jvm.Cond.and given_1 narrow_1), c.before args s = true) : ∀ w ∈ defaultWords_1, va_Nw w s := fun w hw => va_Nw.of (j_dw_on w hw) (hs w (of_decide_eq_true (List.all_eq_true.mp st_dw_key w hw)))
theorem st_df_key : jdf.all (fun t => decide (Cond.landsInDefault t.1 ⟨t.1, t.2.1, t.2.2⟩ ⟨"TracePeaks$Numbers", t.2.1, t.2.2⟩ ∈ flatC (Jvm.Cond.and given_1 narrow_1)) && decide (Cond.declares ⟨"TracePeaks$Numbers", t.2.1, t.2.2⟩ ∈ lw_tbl)) = true := by decide +kernel
theorem st_df {s : State} {args : Array Value} (hts0 : ∀ w ∈ lw_tbl, w.before args s = true) (hs : ∀ c ∈ flatC (Jvm.Cond.and given_1 narrow_1), c.before args s = true) : ∀ t ∈ jdf, (Cond.landsInDefault t.1 ⟨t.1, t.2.1, t.2.2⟩ ⟨"TracePeaks$Numbers", t.2.1, t.2.2⟩).before #[] s = true ∧ va_Nw (Cond.declares ⟨"TracePeaks$Numbers", t.2.1, t.2.2⟩) s := fun t ht => by
  have h := List.all_eq_true.mp st_df_key t ht
  rw [Bool.and_eq_true] at h
  exact ⟨hs _ (of_decide_eq_true h.1), va_Nw.of rfl (hts0 _ (of_decide_eq_true h.2))⟩
theorem st_if_key : jlif.all (fun x => decide (Cond.declares x ∈ lw_tbl) && decide (Cond.interfaceMethod x.cls x.cls x.name x.desc ∈ lw_tbl)) = true := by decide +kernel
theorem st_if {s : State} {args : Array Value} (hts0 : ∀ w ∈ lw_tbl, w.before args s = true) : ∀ x ∈ jlif, j_Fi x s := fun x hx => by
  have h := List.all_eq_true.mp st_if_key x hx
  rw [Bool.and_eq_true] at h
  exact ⟨va_any rfl (hts0 _ (of_decide_eq_true h.1)), va_any rfl (hts0 _ (of_decide_eq_true h.2))⟩
theorem st_la_key : jlam.all (fun t => decide (t.2.2 ∈ flatC (Jvm.Cond.and given_1 narrow_1))) = true := by decide +kernel
/-- a site: the class made for it, its one object (if it holds nothing) -/
def st_L (d : ClassId) (s : State) (w : Cond) (c : ClassId) (a : Addr) : Prop := jl_ok d c a s w ∧ ((jsh w).captured = [] → ∃ cell, s.heap[a]? = some cell ∧ cell.cls = c ∧ cell.vm = .none ∧ cell.slots = #[])
theorem st_la {s : State} {args : Array Value} {d : ClassId} (hd : s.vm.findClass "TracePeaks" = some d) (hs : ∀ c ∈ flatC (Jvm.Cond.and given_1 narrow_1), c.before args s = true) {x : MethodName} {pc index : Nat} {σ : Lambda.Shape} (hx : x.cls = "TracePeaks") (hw : Cond.lambdaSite x pc index σ ∈ flatC (Jvm.Cond.and given_1 narrow_1)) : ∃ (c : ClassId) (a : Addr), st_L d s (Cond.lambdaSite x pc index σ) c a := by
  obtain ⟨c, one, h⟩ := Cond.lambdaSite_spec (hs _ hw)
  obtain ⟨m, k, cf, i0, p0, l, h1, h2, h3, h4, h5, h6, h7, h8, h9⟩ := State.lambdaAt?_spec h
  have hm : m.cls = d := by
    have e := findClass_of_methodNamed h1
    rw [hx] at e
    exact Option.some.inj (e.symm.trans hd)
  rcases h9 with ⟨a, cell, g1, g2, g3, g4, g5, g6, g7⟩ | ⟨g1, g2, g3⟩
  · exact ⟨c, a, ⟨m, k, cf, i0, p0, l, h1, hm, by rw [← hm]; exact h2, h3, h4, h6, by rw [← hm]; exact h7, h8, fun _ => g1, fun h => absurd g3 h⟩, fun _ => ⟨cell, g4, g5, g6, g7⟩⟩
  · exact ⟨c, 0, ⟨m, k, cf, i0, p0, l, h1, hm, by rw [← hm]; exact h2, h3, h4, h6, by rw [← hm]; exact h7, h8, fun h => absurd h g3, fun _ => g1⟩, fun h => absurd h g3⟩
/-- the String constants' terms, bytes, hashes -/
def stK : List (String × Nat) := [("TracePeaks$Reader", 103), ("TracePeaks$Reader", 109), ("TracePeaks$Reader", 111), ("TracePeaks$Reader", 113), ("TracePeaks", 34), ("TracePeaks", 40), ("TracePeaks", 42), ("TracePeaks", 44), ("TracePeaks", 46), ("TracePeaks", 48), ("TracePeaks", 50), ("TracePeaks", 52), ("TracePeaks", 56), ("TracePeaks", 422), ("TracePeaks", 427)]
def stB : List (List Int32) := [[116, 114, 97, 99, 101], [110, 111, 105, 115, 101], [114, 101, 97, 99, 104], [108, 105, 110, 101], [115, 109, 111, 111, 116, 104], [109, 101, 100, 105, 97, 110], [102, 108, 97, 116], [116, 117, 114, 110], [99, 108, 105, 112], [108, 105, 102, 116], [115, 99, 97, 108, 101], [115, 101, 116], [99, 117, 116], [64], [58]]
def stH : List Int32 := [110620997, 104998682, 108386675, 3321844, -898533970, -1078031094, 3145593, 3571837, 3056464, 3321611, 109250890, 113762, 98882, 64, 58]
def stT (i : Nat) : Jvm.Term := .string (stK.getD i ("", 0)).1 (stK.getD i ("", 0)).2
def stLen (i : Nat) : Nat := (stB.getD i []).length

def stA (c : Cond) : Prop := c ∈ flatC (Jvm.Cond.and given_1 narrow_1)
theorem st_1 {c : Cond} (n : Nat) (h : (flatC narrow_1_1)[n]? = some c) : stA c := by
  have h' := List.mem_of_getElem? h
  show c ∈ flatC given_1 ++ flatC narrow_1
  refine List.mem_append_right _ ?_
  show c ∈ ((flatC narrow_1_1 ++ _) ++ _) ++ _
  exact List.mem_append_left _ (List.mem_append_left _ (List.mem_append_left _ h'))
theorem st_2 {c : Cond} (n : Nat) (h : (flatC narrow_1_2)[n]? = some c) : stA c := by
  have h' := List.mem_of_getElem? h
  show c ∈ flatC given_1 ++ flatC narrow_1
  refine List.mem_append_right _ ?_
  show c ∈ ((flatC narrow_1_1 ++ (flatC narrow_1_2 ++ _)) ++ _) ++ _
  exact List.mem_append_left _ (List.mem_append_left _ (List.mem_append_right _ (List.mem_append_left _ h')))
theorem st_2s {l : List Cond} (ns : List Nat) (h : l.map some = ns.map (fun n => (flatC narrow_1_2)[n]?)) : ∀ c ∈ l, stA c := fun c hc => by
  have h1 : some c ∈ ns.map (fun n => (flatC narrow_1_2)[n]?) := h ▸ List.mem_map_of_mem hc
  obtain ⟨n, -, hn⟩ := List.mem_map.mp h1
  exact st_2 n hn
theorem st_1s {l : List Cond} (ns : List Nat) (h : l.map some = ns.map (fun n => (flatC narrow_1_1)[n]?)) : ∀ c ∈ l, stA c := fun c hc => by
  have h1 : some c ∈ ns.map (fun n => (flatC narrow_1_1)[n]?) := h ▸ List.mem_map_of_mem hc
  obtain ⟨n, -, hn⟩ := List.mem_map.mp h1
  exact st_1 n hn
def stV (i : Nat) : Jvm.Term := .field (stT i) "java/lang/String" "value" "[B"
def stC (i : Nat) : List Cond := [.exactly (stT i) "java/lang/String", .eq (.field (stT i) "java/lang/String" "coder" "B") (.int 0), .eq (.field (stT i) "java/lang/String" "hash" "I") (.int (stH.getD i 0)), .eq (.field (stT i) "java/lang/String" "hashIsZero" "Z") (.int 0), .arrayOf (stV i) .byte, .eq (.length (stV i)) (.int (Int32.ofNat (stLen i)))] ++ (List.range (stLen i)).map (fun j => .eq (.elem (stV i) (.int (Int32.ofNat j))) (.int ((stB.getD i []).getD j 0)))
def stN (i : Nat) : List Cond := (List.range i).map fun j => .not (.eq (stT j) (stT i))
def stD (n : String) (t : Nat) : List Cond := [.arrayOf (.static "java/lang/Integer" n "[B") .byte, .eq (.length (.static "java/lang/Integer" n "[B")) (.int 100)] ++ (List.range 100).map (fun j => .eq (.elem (.static "java/lang/Integer" n "[B") (.int (Int32.ofNat j))) (.int (Int32.ofNat (48 + if t = 0 then j % 10 else j / 10))))
theorem st_tx_key : (List.range 15).all (fun i => (List.range 15).all (fun j => decide (i = j) || decide (stB.getD i [] ≠ stB.getD j []))) = true := by decide +kernel
theorem st_c0 : ∀ c ∈ stC 0, stA c := st_2s [12, 13, 21, 22, 14, 15, 16, 17, 18, 19, 20] rfl
theorem st_n0 : ∀ c ∈ stN 0, stA c := st_2s [] rfl
theorem st_c1 : ∀ c ∈ stC 1, stA c := st_2s [23, 24, 32, 33, 25, 26, 27, 28, 29, 30, 31] rfl
theorem st_n1 : ∀ c ∈ stN 1, stA c := st_2s [34] rfl
theorem st_c2 : ∀ c ∈ stC 2, stA c := st_2s [35, 36, 44, 45, 37, 38, 39, 40, 41, 42, 43] rfl
theorem st_n2 : ∀ c ∈ stN 2, stA c := st_2s [46, 47] rfl
theorem st_c3 : ∀ c ∈ stC 3, stA c := st_2s [48, 49, 56, 57, 50, 51, 52, 53, 54, 55] rfl
theorem st_n3 : ∀ c ∈ stN 3, stA c := st_2s [58, 59, 60] rfl
theorem st_c4 : ∀ c ∈ stC 4, stA c := st_2s [61, 62, 71, 72, 63, 64, 65, 66, 67, 68, 69, 70] rfl
theorem st_n4 : ∀ c ∈ stN 4, stA c := st_2s [73, 74, 75, 76] rfl
theorem st_c5 : ∀ c ∈ stC 5, stA c := st_2s [77, 78, 87, 88, 79, 80, 81, 82, 83, 84, 85, 86] rfl
theorem st_n5 : ∀ c ∈ stN 5, stA c := st_2s [89, 90, 91, 92, 93] rfl
theorem st_c6 : ∀ c ∈ stC 6, stA c := st_2s [94, 95, 102, 103, 96, 97, 98, 99, 100, 101] rfl
theorem st_n6 : ∀ c ∈ stN 6, stA c := st_2s [104, 105, 106, 107, 108, 109] rfl
theorem st_c7 : ∀ c ∈ stC 7, stA c := st_2s [110, 111, 118, 119, 112, 113, 114, 115, 116, 117] rfl
theorem st_n7 : ∀ c ∈ stN 7, stA c := st_2s [120, 121, 122, 123, 124, 125, 126] rfl
theorem st_c8 : ∀ c ∈ stC 8, stA c := st_2s [127, 128, 135, 136, 129, 130, 131, 132, 133, 134] rfl
theorem st_n8 : ∀ c ∈ stN 8, stA c := st_2s [137, 138, 139, 140, 141, 142, 143, 144] rfl
theorem st_c9 : ∀ c ∈ stC 9, stA c := st_2s [145, 146, 153, 154, 147, 148, 149, 150, 151, 152] rfl
theorem st_n9 : ∀ c ∈ stN 9, stA c := st_2s [155, 156, 157, 158, 159, 160, 161, 162, 163] rfl
theorem st_c10 : ∀ c ∈ stC 10, stA c := st_2s [164, 165, 173, 174, 166, 167, 168, 169, 170, 171, 172] rfl
theorem st_n10 : ∀ c ∈ stN 10, stA c := st_2s [175, 176, 177, 178, 179, 180, 181, 182, 183, 184] rfl
theorem st_c11 : ∀ c ∈ stC 11, stA c := st_2s [185, 186, 192, 193, 187, 188, 189, 190, 191] rfl
theorem st_n11 : ∀ c ∈ stN 11, stA c := st_2s [194, 195, 196, 197, 198, 199, 200, 201, 202, 203, 204] rfl
theorem st_c12 : ∀ c ∈ stC 12, stA c := st_2s [228, 229, 235, 236, 230, 231, 232, 233, 234] rfl
theorem st_n12 : ∀ c ∈ stN 12, stA c := st_2s [237, 238, 239, 240, 241, 242, 243, 244, 245, 246, 247, 248] rfl
theorem st_c13 : ∀ c ∈ stC 13, stA c := st_2s [297, 298, 302, 303, 299, 300, 301] rfl
theorem st_n13 : ∀ c ∈ stN 13, stA c := st_2s [304, 305, 306, 307, 308, 309, 310, 311, 312, 313, 314, 315, 317] rfl
theorem st_c14 : ∀ c ∈ stC 14, stA c := st_2s [320, 321, 325, 326, 322, 323, 324] rfl
theorem st_n14 : ∀ c ∈ stN 14, stA c := st_2s [327, 328, 329, 330, 331, 332, 333, 334, 335, 336, 337, 338, 340, 343] rfl
theorem st_d0 : ∀ c ∈ stD "DigitOnes" 0, stA c := st_1s [25, 26, 27, 28, 29, 30, 31, 32, 33, 34, 35, 36, 37, 38, 39, 40, 41, 42, 43, 44, 45, 46, 47, 48, 49, 50, 51, 52, 53, 54, 55, 56, 57, 58, 59, 60, 61, 62, 63, 64, 65, 66, 67, 68, 69, 70, 71, 72, 73, 74, 75, 76, 77, 78, 79, 80, 81, 82, 83, 84, 85, 86, 87, 88, 89, 90, 91, 92, 93, 94, 95, 96, 97, 98, 99, 100, 101, 102, 103, 104, 105, 106, 107, 108, 109, 110, 111, 112, 113, 114, 115, 116, 117, 118, 119, 120, 121, 122, 123, 124, 125, 126] rfl
theorem st_d1 : ∀ c ∈ stD "DigitTens" 1, stA c := st_1s [128, 129, 130, 131, 132, 133, 134, 135, 136, 137, 138, 139, 140, 141, 142, 143, 144, 145, 146, 147, 148, 149, 150, 151, 152, 153, 154, 155, 156, 157, 158, 159, 160, 161, 162, 163, 164, 165, 166, 167, 168, 169, 170, 171, 172, 173, 174, 175, 176, 177, 178, 179, 180, 181, 182, 183, 184, 185, 186, 187, 188, 189, 190, 191, 192, 193, 194, 195, 196, 197, 198, 199, 200, 201, 202, 203, 204, 205, 206, 207, 208, 209, 210, 211, 212, 213, 214, 215, 216, 217, 218, 219, 220, 221, 222, 223, 224, 225, 226, 227, 228, 229] rfl
theorem st_c {i : Nat} (hi : i < 15) : ∀ c ∈ stC i, stA c := by
  match i, hi with
  | 0, _ => exact st_c0
  | 1, _ => exact st_c1
  | 2, _ => exact st_c2
  | 3, _ => exact st_c3
  | 4, _ => exact st_c4
  | 5, _ => exact st_c5
  | 6, _ => exact st_c6
  | 7, _ => exact st_c7
  | 8, _ => exact st_c8
  | 9, _ => exact st_c9
  | 10, _ => exact st_c10
  | 11, _ => exact st_c11
  | 12, _ => exact st_c12
  | 13, _ => exact st_c13
  | 14, _ => exact st_c14
  | i + 15, h => exact absurd h (by omega)
theorem st_n {i : Nat} (hi : i < 15) : ∀ c ∈ stN i, stA c := by
  match i, hi with
  | 0, _ => exact st_n0
  | 1, _ => exact st_n1
  | 2, _ => exact st_n2
  | 3, _ => exact st_n3
  | 4, _ => exact st_n4
  | 5, _ => exact st_n5
  | 6, _ => exact st_n6
  | 7, _ => exact st_n7
  | 8, _ => exact st_n8
  | 9, _ => exact st_n9
  | 10, _ => exact st_n10
  | 11, _ => exact st_n11
  | 12, _ => exact st_n12
  | 13, _ => exact st_n13
  | 14, _ => exact st_n14
  | i + 15, h => exact absurd h (by omega)
