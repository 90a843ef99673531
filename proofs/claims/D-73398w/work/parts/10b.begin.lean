/-! the law's start: the book, the store, the relation -/
theorem st_size {t : Jvm.Term} {a : Addr} {cell : Cell} {args : Array Value} {s : State} {N : Nat} (ht : t.eval args s none [] s = some (.ref a)) (hc : s.heap[a]? = some cell) (h : (Jvm.Term.length t).eval args s none [] s = some (.int (Int32.ofNat N))) (hN : N < 2 ^ 31) : cell.slots.size = N := by
  obtain ⟨a', cell', e1, e2, e3⟩ := Term.length_spec h
  cases ht.symm.trans e1
  obtain ⟨hcb, -, -, -⟩ := State.arrayAt?_spec e2
  cases hc.symm.trans hcb
  have hlt : cell.slots.size < 2 ^ 31 := by
    apply Classical.byContradiction
    intro hn
    simp [Term.eval, ht, e2, hn] at h
  have e4 : Int32.ofNat N = Int32.ofNat cell.slots.size := by
    have := Value.int.inj e3
    exact this
  have e5 := congrArg Int32.toInt e4
  rw [Int32.toInt_ofNat_of_lt hN, Int32.toInt_ofNat_of_lt hlt] at e5
  omega
/-- an array of bytes that the start holds -/
def st_B (s : State) (a n : Nat) (f : Nat → Int32) : Prop := ∃ cell : Cell, s.heap[a]? = some cell ∧ s.isArrayOf cell .byte ∧ cell.vm ≠ .unknown ∧ cell.slots.size = n ∧ ∀ j, j < n → cell.slots[j]? = some (.int (f j))
theorem st_Bof {t : Jvm.Term} {args : Array Value} {s : State} {N : Nat} {f : Nat → Int32} (hN : N < 2 ^ 31) (h1 : (Cond.arrayOf t .byte).before args s = true) (h2 : (Cond.eq (.length t) (.int (Int32.ofNat N))).before args s = true) (h3 : ∀ j, j < N → (Cond.eq (.elem t (.int (Int32.ofNat j))) (.int (f j))).before args s = true) : ∃ a, t.eval args s none [] s = some (.ref a) ∧ st_B s a N f := by
  obtain ⟨a, ha, cell, g1, g2, g3, g4, g5, g6, -⟩ := va_Tof (f := fun j => .int (f j)) (A := fun _ => False) hN h1 (va_eqt h2) (fun j hj => va_eqt (h3 j hj)) (fun _ _ h => h)
  exact ⟨a, ha, cell, g1, g2, g3, st_size ha g1 (va_eqt h2) hN, g6⟩
/-- a String constant that the start holds -/
def st_S (s : State) (a v : Nat) (h : Int32) : Prop := ∃ cell : Cell, s.heap[a]? = some cell ∧ s.vm.findClass "java/lang/String" = some cell.cls ∧ cell.vm.isStatics = false ∧ cell.vm ≠ .unknown ∧ ∀ iS : Nat → Nat, (∀ k, k < 4 → SlotIs s (TJ3 k).1 (TJ3 k).2.1 (TJ3 k).2.2.1 (iS k)) → cell.slots[iS 0]? = some (.ref v) ∧ cell.slots[iS 1]? = some (.int 0) ∧ cell.slots[iS 2]? = some (.int h) ∧ cell.slots[iS 3]? = some (.int 0)
theorem st_slot {s : State} {C n d : String} {a i : Nat} {cell : Cell} {v : Value} {A : Nat → Prop} (h : va_OF C n d v a A s s.heap) (hc : s.heap[a]? = some cell) (hS : SlotIs s C n d i) : cell.slots[i]? = some v := by
  obtain ⟨cf, k, fi, f, cell', g1, g2, g3, g4, g5, -⟩ := h
  obtain ⟨cf', kf', fi', fd', e1, e2⟩ := hS
  cases g1.symm.trans e1
  cases hc.symm.trans g3
  rw [← e2]
  exact g5
theorem st_Sof {t : Jvm.Term} {args : Array Value} {s : State} {h : Int32} {v : Nat} (h1 : (Cond.exactly t "java/lang/String").before args s = true) (h2 : (Cond.eq (.field t "java/lang/String" "coder" "B") (.int 0)).before args s = true) (h3 : (Cond.eq (.field t "java/lang/String" "hash" "I") (.int h)).before args s = true) (h4 : (Cond.eq (.field t "java/lang/String" "hashIsZero" "Z") (.int 0)).before args s = true) (h5 : (Jvm.Term.field t "java/lang/String" "value" "[B").eval args s none [] s = some (.ref v)) : ∃ a, t.eval args s none [] s = some (.ref a) ∧ st_S s a v h := by
  obtain ⟨a, c, cell, kA, q1, q2, q3, q4, q5, q6, -⟩ := Cond.exactly_spec (args := args) (first := s) (o := none) (s := s) (idx := []) (t := t) (cls := "java/lang/String") h1
  have hA : ∀ a : Nat, a < s.heap.size → ¬ (fun _ : Nat => False) a := fun _ _ h => h
  have o1 := vk_OFof q1 h5 hA
  have o2 := vk_OFof q1 (va_eqt h2) hA
  have o3 := vk_OFof q1 (va_eqt h3) hA
  have o4 := vk_OFof q1 (va_eqt h4) hA
  refine ⟨a, q1, cell, q3, by rw [q6]; exact q2, q5, ?_, fun iS hS => ⟨st_slot o1 q3 (hS 0 (by decide)), st_slot o2 q3 (hS 1 (by decide)), st_slot o3 q3 (hS 2 (by decide)), st_slot o4 q3 (hS 3 (by decide))⟩⟩
  obtain ⟨cf, k, fi, f, cell', g1, g2, g3, g4, g5, -⟩ := o1
  cases q3.symm.trans g3
  exact g4
theorem st_lits {s : State} {args : Array Value} (hs : ∀ c, stA c → c.before args s = true) : ∃ K V : Nat → Nat, ∀ i, i < 15 → (stT i).eval args s none [] s = some (.ref (K i)) ∧ st_S s (K i) (V i) (stH.getD i 0) ∧ st_B s (V i) (stLen i) (fun j => (stB.getD i []).getD j 0) := by
  have h : ∀ i : Nat, ∃ q : Nat × Nat, i < 15 → (stT i).eval args s none [] s = some (.ref q.1) ∧ st_S s q.1 q.2 (stH.getD i 0) ∧ st_B s q.2 (stLen i) (fun j => (stB.getD i []).getD j 0) := by
    intro i
    by_cases hi : i < 15
    · have hm : ∀ c ∈ stC i, c.before args s = true := fun c hc => hs c (st_c hi c hc)
      have hlen : ∀ i, i < 15 → stLen i < 2 ^ 31 := by decide
      have he : ∀ j, j < stLen i → (Cond.eq (.elem (stV i) (.int (Int32.ofNat j))) (.int ((stB.getD i []).getD j 0))).before args s = true := fun j hj => hm _ (List.mem_append_right _ (List.mem_map.mpr ⟨j, List.mem_range.mpr hj, rfl⟩))
      obtain ⟨v, hv, hB⟩ := st_Bof (hlen i hi) (hm _ (List.mem_append_left _ (by simp))) (hm (Cond.eq (.length (stV i)) (.int (Int32.ofNat (stLen i)))) (List.mem_append_left _ (by simp))) he
      obtain ⟨a, ha, hS⟩ := st_Sof (hm (Cond.exactly (stT i) "java/lang/String") (List.mem_append_left _ (by simp))) (hm _ (List.mem_append_left _ (by simp))) (hm (Cond.eq (.field (stT i) "java/lang/String" "hash" "I") (.int (stH.getD i 0))) (List.mem_append_left _ (by simp))) (hm _ (List.mem_append_left _ (by simp))) hv
      exact ⟨(a, v), fun _ => ⟨ha, hS, hB⟩⟩
    · exact ⟨(0, 0), fun h => absurd h hi⟩
  obtain ⟨f, hf⟩ := Classical.axiomOfChoice h
  exact ⟨fun i => (f i).1, fun i => (f i).2, hf⟩
def stDf (t j : Nat) : Int32 := Int32.ofNat (48 + if t = 0 then j % 10 else j / 10)
theorem st_dig {s : State} {args : Array Value} (hs : ∀ c, stA c → c.before args s = true) {n : String} {t : Nat} (hm : ∀ c ∈ stD n t, stA c) : ∃ a, (Jvm.Term.static "java/lang/Integer" n "[B").eval args s none [] s = some (.ref a) ∧ st_B s a 100 (stDf t) := by
  have hm : ∀ c ∈ stD n t, c.before args s = true := fun c hc => hs c (hm c hc)
  exact st_Bof (N := 100) (by decide) (hm _ (List.mem_append_left _ (by simp))) (hm (Cond.eq (.length (.static "java/lang/Integer" n "[B")) (.int 100)) (List.mem_append_left _ (by simp))) (fun j hj => hm _ (List.mem_append_right _ (List.mem_map.mpr ⟨j, List.mem_range.mpr hj, rfl⟩)))
/-- the sites -/
theorem st_lam {s : State} {args : Array Value} {d : ClassId} (hd : s.vm.findClass "TracePeaks" = some d) (hs : ∀ c ∈ flatC (Jvm.Cond.and given_1 narrow_1), c.before args s = true) : ∃ (mC mA : Nat → Nat → Nat), ∀ t ∈ jlam, st_L d s t.2.2 (mC t.1 t.2.1) (mA t.1 t.2.1) := by
  have h1 : ∀ t ∈ jlam, ∃ (c : ClassId) (a : Addr), st_L d s t.2.2 c a := by
    intro t ht
    have hm := of_decide_eq_true (List.all_eq_true.mp st_la_key t ht)
    simp only [jlam, List.mem_cons, List.not_mem_nil, or_false] at ht
    rcases ht with rfl | rfl | rfl | rfl | rfl | rfl | rfl | rfl | rfl | rfl | rfl
    all_goals exact st_la hd hs rfl hm
  have h : ∀ q : Nat × Nat, ∃ ca : Nat × Nat, ∀ t ∈ jlam, (t.1, t.2.1) = q → st_L d s t.2.2 ca.1 ca.2 := by
    intro q
    cases hf : jlam.find? (fun t => t.1 == q.1 && t.2.1 == q.2) with
    | none =>
      refine ⟨(0, 0), fun t ht e => ?_⟩
      have := List.find?_eq_none.mp hf t ht
      subst e
      simp at this
    | some t0 =>
      obtain ⟨c, a, hL⟩ := h1 t0 (List.mem_of_find?_eq_some hf)
      refine ⟨(c, a), fun t ht e => ?_⟩
      have e2 : jlam.find? (fun u => u.1 == t.1 && u.2.1 == t.2.1) = some t := by
        simp only [jlam, List.mem_cons, List.not_mem_nil, or_false] at ht
        rcases ht with rfl | rfl | rfl | rfl | rfl | rfl | rfl | rfl | rfl | rfl | rfl
        all_goals rfl
      subst e
      cases hf.symm.trans e2
      exact hL
  obtain ⟨f, hf⟩ := Classical.axiomOfChoice h
  exact ⟨fun i j => (f (i, j)).1, fun i j => (f (i, j)).2, fun t ht => hf (t.1, t.2.1) t ht rfl⟩
/-- a made class: its kind, its name, what its file names -/
def st_P (s : State) (c : ClassId) (nm : String) : Prop := ∃ (k : Class) (file : ClassFile), s.vm.classes[c]? = some k ∧ k.kind = .ordinary ∧ k.name = "TracePeaks$$Lambda" ∧ k.cf = some file ∧ (file.constantPool.nameAndType? 16).map Prod.fst = some nm
theorem st_Pof {s : State} {d c : ClassId} {a : Addr} {x : MethodName} {pc index : Nat} {σ : Lambda.Shape} (hd : s.vm.findClass "TracePeaks" = some d) (F : jl_file σ jcS 4 17 14 16 13) (h : st_L d s (.lambdaSite x pc index σ) c a) : st_P s c σ.implName := by
  obtain ⟨⟨m, k0, cf, i0, p0, l, -, -, -, -, -, -, hmade, -⟩, -⟩ := h
  obtain ⟨dk, hdk, hname⟩ := Vm.findClass_spec hd
  obtain ⟨k, tk, ok, file, methk, ck, o, toy, t, lay, g1, g2, g3, g4, -⟩ := jl_made F hdk hname hmade
  obtain ⟨dk', k', ok', tk', file', cf', object, iface, toy', lay', methods, target, found, -, hk, -, -, -, -, -, -, -, -, -, -, -, hrec, -⟩ := Lambda.isMade_spec hmade
  cases g1.symm.trans hk
  refine ⟨k, file, g1, hrec.2.1, g2, g3, ?_⟩
  rw [g4, F.2.2.2.2.1.2.2]
  rfl
