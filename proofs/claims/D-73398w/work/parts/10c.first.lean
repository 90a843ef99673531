/-! the law's start: the first book and store -/
def st_w (xs : Nat → Int32) (L : Nat) : j_St :=
  (fun κ i k => if κ = 39 then xs k else if κ = 17 then (if k = 2 then stH.getD i 0 else 0) else if κ = 71 then (stB.getD i []).getD k 0 else if κ = 72 then stDf i k else 0,
   fun _ _ _ => 0,
   fun κ i k => if κ = 17 ∧ k = 0 then some i else none,
   fun κ i => if κ = 39 then L else if κ = 71 then stLen i else if κ = 72 then 100 else 0)
def st_al (κ i : Nat) : Prop := (κ = 39 ∧ i = 0) ∨ (κ = 17 ∧ i < 15) ∨ (κ = 71 ∧ i < 15) ∨ (κ = 72 ∧ i < 2) ∨ (κ = 12 ∧ i < 2) ∨ (κ = 13 ∧ (i = 0 ∨ i = 2))
def st_bu (κ i : Nat) : Prop := (κ = 39 ∧ i = 0) ∨ (κ = 17 ∧ i < 15) ∨ (κ = 71 ∧ i < 15) ∨ (κ = 72 ∧ i < 2)
def st_ad (b : Nat) (K V D : Nat → Nat) (mA : Nat → Nat → Nat) (κ i : Nat) : Nat := if κ = 39 then b else if κ = 17 then K i else if κ = 71 then V i else if κ = 72 then D i else mA κ i
def st_cl (s : State) (a : Nat) : ClassId := match s.heap[a]? with
  | some ce => ce.cls
  | none => 0
def st_M (s : State) (b : Nat) (K V D : Nat → Nat) (mC mA : Nat → Nat → Nat) (κ i : Nat) : Nat := if κ = 117 then K i else if κ = 172 then D i else if κ = 239 then st_cl s b else if κ = 271 then st_cl s (V (if i < 15 then i else 0)) else if κ = 272 then st_cl s (D (if i < 2 then i else 0)) else if κ < 100 then mC κ i else mA (κ - 100) i
def st_g (l : Launch) (dC : Nat → ClassId) (dI : Nat → Nat → Nat) (dA : Nat → ClassId) (s : State) (b : Nat) (K V D : Nat → Nat) (mC mA : Nat → Nat → Nat) : j_G := (l, (dC, dI), dA, st_M s b K V D mC mA, s.heap, s.heap.size)
def st_Bk (b : Nat) (K V D : Nat → Nat) (mA : Nat → Nat → Nat) : j_B := (st_ad b K V D mA, st_al, st_bu)
theorem st_arr8 {s : State} {a : Nat} {cell : Cell} {ty : FieldType} (h : s.heap[a]? = some cell) (hof : s.isArrayOf cell ty) : ArrOfT s (st_cl s a) ty := by
  intro n z
  refine ⟨fun k h => (by cases h), ?_⟩
  have e : st_cl s a = cell.cls := by unfold st_cl; rw [h]
  show ∃ k, s.vm.classes[st_cl s a]? = some k ∧ _
  rw [e]
  exact hof.2
theorem jk0_8 {κ : Nat} (h : jk0 κ = 8) : κ = 39 ∨ κ = 71 ∨ κ = 72 := by
  by_cases hk : κ < 73
  · exact (by decide : ∀ κ, κ < 73 → jk0 κ = 8 → κ = 39 ∨ κ = 71 ∨ κ = 72) κ hk h
  · exfalso
    have e : jkt[κ]? = none := List.getElem?_eq_none (by show jkt.length ≤ κ; have : jkt.length = 73 := rfl; omega)
    unfold jk0 at h
    rw [List.getD_eq_getElem?_getD, e] at h
    exact absurd h (by decide)
section ST
variable {l : Launch} {s : State} {args : Array Value} {dC : Nat → ClassId} {dI : Nat → Nat → Nat} {dA : Nat → ClassId} {b L : Nat} {xs : Nat → Int32} {K V D : Nat → Nat} {mC mA : Nat → Nat → Nat}
/-- what is known of the start, of our own naming -/
def st_In (s : State) (args : Array Value) (dC : Nat → ClassId) (dI : Nat → Nat → Nat) (dA : Nat → ClassId) (b L : Nat) (xs : Nat → Int32) (K V D : Nat → Nat) (mC mA : Nat → Nat → Nat) : Prop :=
  (∀ (c : Nat) (q : vw_C), jcl[c]? = some q → u_Kn s q.1 q.2.1 q.2.2 (dC c) (dI c)) ∧ (∀ t, t < 9 → ArrOfT s (dA t) (jty t) ∧ va_RA s (dA t) (jty t)) ∧
  (∀ i, i < 15 → (stT i).eval args s none [] s = some (.ref (K i)) ∧ st_S s (K i) (V i) (stH.getD i 0) ∧ st_B s (V i) (stLen i) (fun j => (stB.getD i []).getD j 0)) ∧
  (∀ t ∈ jdig, (Jvm.Term.static "java/lang/Integer" t.1 "[B").eval args s none [] s = some (.ref (D t.2)) ∧ st_B s (D t.2) 100 (stDf t.2)) ∧
  (∀ t ∈ jlam, st_L (dC 0) s t.2.2 (mC t.1 t.2.1) (mA t.1 t.2.1)) ∧ va_X b L xs s s.heap
theorem st_K (hflags : l.flags = flags0) (hts0 : ∀ w ∈ lw_tbl, w.before args s = true) (hs : ∀ c ∈ flatC (Jvm.Cond.and given_1 narrow_1), c.before args s = true) (h : st_In s args dC dI dA b L xs K V D mC mA) : j_K (st_g l dC dI dA s b K V D mC mA) s := by
  obtain ⟨h1, h2, h3, h4, h5, h6⟩ := h
  have hA : ∀ a : Nat, a < s.heap.size → ¬ s.heap.size ≤ a := fun a h => Nat.not_le.mpr h
  refine ⟨⟨h1, fun k q e => by simp at e⟩, h2, st_nl hts0, st_fs hts0, st_AO hts0, st_st hts0 hs, st_dw hs, st_df hts0 hs, fun t ht => ?_, st_if hts0, fun t ht => ?_, fun t ht => ?_, ?_, ?_, ?_, ?_, fun κ i hk => ?_⟩
  · have hL := (h5 t ht).1
    have e1 : jgM (st_g l dC dI dA s b K V D mC mA) t.1 t.2.1 = mC t.1 t.2.1 := by
      simp only [jlam, List.mem_cons, List.not_mem_nil, or_false] at ht
      rcases ht with rfl | rfl | rfl | rfl | rfl | rfl | rfl | rfl | rfl | rfl | rfl
      all_goals rfl
    have e2 : jgM (st_g l dC dI dA s b K V D mC mA) (100 + t.1) t.2.1 = mA t.1 t.2.1 := by
      simp only [jlam, List.mem_cons, List.not_mem_nil, or_false] at ht
      rcases ht with rfl | rfl | rfl | rfl | rfl | rfl | rfl | rfl | rfl | rfl | rfl
      all_goals rfl
    rw [e1, e2]
    exact hL
  · have e1 : ∀ i, jgM (st_g l dC dI dA s b K V D mC mA) 117 i = K i := fun i => rfl
    rw [e1]
    have hn : (Jvm.Term.string "TracePeaks" 54).eval args s none [] s = some (.ref (K 1)) := va_eqR (hs _ (st_2 217 rfl)) (h3 1 (by decide)).1
    simp only [jlits, List.mem_cons, List.not_mem_nil, or_false] at ht
    rcases ht with rfl | rfl | rfl | rfl | rfl | rfl | rfl | rfl | rfl | rfl | rfl | rfl | rfl | rfl | rfl | rfl
    · exact vk_R.of (hts0 _ q770) (h3 0 (by decide)).1
    · exact vk_R.of (hts0 _ q779) (h3 1 (by decide)).1
    · exact vk_R.of (hts0 _ q780) (h3 2 (by decide)).1
    · exact vk_R.of (hts0 _ q781) (h3 3 (by decide)).1
    · exact vk_R.of (hts0 _ q930) (h3 4 (by decide)).1
    · exact vk_R.of (hts0 _ q932) (h3 5 (by decide)).1
    · exact vk_R.of (hts0 _ q933) (h3 6 (by decide)).1
    · exact vk_R.of (hts0 _ q934) (h3 7 (by decide)).1
    · exact vk_R.of (hts0 _ q935) (h3 8 (by decide)).1
    · exact vk_R.of (hts0 _ q936) (h3 9 (by decide)).1
    · exact vk_R.of (hts0 _ q937) (h3 10 (by decide)).1
    · exact vk_R.of (hts0 _ q938) (h3 11 (by decide)).1
    · exact vk_R.of (hts0 _ q939) hn
    · exact vk_R.of (hts0 _ q940) (h3 12 (by decide)).1
    · exact vk_R.of (hts0 _ q1497) (h3 13 (by decide)).1
    · exact vk_R.of (hts0 _ q1523) (h3 14 (by decide)).1
  · have e1 : ∀ i, jgM (st_g l dC dI dA s b K V D mC mA) 172 i = D i := fun i => rfl
    rw [e1]
    have hd := (h4 t ht).1
    simp only [jdig, List.mem_cons, List.not_mem_nil, or_false] at ht
    rcases ht with rfl | rfl
    · exact va_Zof (hts0 _ q1512) (hts0 _ (lw_all_tbl q148)) hd hA
    · exact va_Zof (hts0 _ q1514) (hts0 _ (lw_all_tbl q148)) hd hA
  · exact vx_Zqof (hts0 _ q807) (hts0 _ (lw_all_tbl q141)) (hs _ (st_1 22 rfl)) hA
  · exact vx_Zqof (hts0 _ q809) (hts0 _ (lw_all_tbl q141)) (hs _ (st_1 23 rfl)) hA
  · exact va_Zqof (hts0 _ q617) (hts0 _ (lw_all_tbl q140)) (hs _ (st_1 17 rfl)) hA
  · show l.stackTraces = false
    unfold Launch.stackTraces
    rw [hflags]
    decide +kernel
  · rcases jk0_8 hk with rfl | rfl | rfl
    · obtain ⟨scr, g1, g2, -⟩ := h6
      exact st_arr8 g1 g2
    · have hi : (if i < 15 then i else 0) < 15 := by split <;> omega
      obtain ⟨-, -, cell, g1, g2, -⟩ := h3 _ hi
      exact st_arr8 g1 g2
    · have hi : (if i < 2 then i else 0) = 0 ∨ (if i < 2 then i else 0) = 1 := by split <;> omega
      show ArrOfT s (st_cl s (D (if i < 2 then i else 0))) _
      rcases hi with e | e
      · rw [e]
        obtain ⟨-, cell, g1, g2, -⟩ := h4 ("DigitOnes", 0) (by simp [jdig])
        exact st_arr8 g1 g2
      · rw [e]
        obtain ⟨-, cell, g1, g2, -⟩ := h4 ("DigitTens", 1) (by simp [jdig])
        exact st_arr8 g1 g2
/-- which sort of cell stands at an address -/
def st_cd (s : State) (a : Nat) : Nat := match s.heap[a]? with
  | none => 0
  | some ce => match s.vm.classes[ce.cls]? with
    | none => 0
    | some k => match k.kind with
      | .ordinary => if k.name = "java/lang/String" then 3 else 4
      | .array _ .int => 1
      | .array _ .byte => 2
      | _ => 0
theorem st_cdI {a : Nat} {cell : Cell} (h : s.heap[a]? = some cell) (hof : s.isArrayOf cell .int) : st_cd s a = 1 := by
  obtain ⟨-, k, hk, c, hc⟩ := hof
  unfold st_cd
  rw [h]
  simp only [hk, hc]
theorem st_cdB {a n : Nat} {f : Nat → Int32} (h : st_B s a n f) : st_cd s a = 2 := by
  obtain ⟨cell, h, ⟨-, k, hk, c, hc⟩, -⟩ := h
  unfold st_cd
  rw [h]
  simp only [hk, hc]
theorem st_cdS {a v : Nat} {z : Int32} (hK : ClassAt s "java/lang/String" (dC 12)) (h : st_S s a v z) : st_cd s a = 3 := by
  obtain ⟨cell, h, hf, -⟩ := h
  obtain ⟨hf', k, hk, hkind⟩ := hK
  have hcl := Option.some.inj (hf.symm.trans hf')
  rw [← hcl] at hk
  obtain ⟨k', hk', hn⟩ := Vm.findClass_spec hf
  cases hk.symm.trans hk'
  unfold st_cd
  rw [h]
  simp only [hk, hkind, hn, if_true]
theorem st_cdP {a : Nat} {c : ClassId} {nm : String} {cell : Cell} (h : s.heap[a]? = some cell) (hc : cell.cls = c) (hP : st_P s c nm) : st_cd s a = 4 := by
  obtain ⟨k, file, hk, hkind, hn, -⟩ := hP
  unfold st_cd
  rw [h]
  simp only [hc, hk, hkind, hn]
  decide
def st_ck (κ : Nat) : Nat := if κ = 39 then 1 else if κ = 71 ∨ κ = 72 then 2 else if κ = 17 then 3 else 4
/-- the four objects of classes made for lambdas that stand from the start -/
def st_lams : List (Nat × Nat × Cond) := [(12, 0, siteWord_1_1), (12, 1, siteWord_1_2), (13, 0, siteWord_1_3), (13, 2, siteWord_1_5)]
def st_nm (κ i : Nat) : String := (jsh (if κ = 12 then (if i = 0 then siteWord_1_1 else siteWord_1_2) else if i = 0 then siteWord_1_3 else siteWord_1_5)).implName
theorem st_made (h : st_In s args dC dI dA b L xs K V D mC mA) {κ i : Nat} (hk : (κ = 12 ∧ i < 2) ∨ (κ = 13 ∧ (i = 0 ∨ i = 2))) : st_P s (mC κ i) (st_nm κ i) ∧ ∃ cell, s.heap[mA κ i]? = some cell ∧ cell.cls = mC κ i ∧ cell.vm = .none ∧ cell.slots = #[] := by
  obtain ⟨h1, h2, h3, h4, h5, h6⟩ := h
  have hd : s.vm.findClass "TracePeaks" = some (dC 0) := ((h1 0 _ rfl).2).1
  have hh : (κ = 12 ∧ i = 0) ∨ (κ = 12 ∧ i = 1) ∨ (κ = 13 ∧ i = 0) ∨ (κ = 13 ∧ i = 2) := by omega
  rcases hh with ⟨rfl, rfl⟩ | ⟨rfl, rfl⟩ | ⟨rfl, rfl⟩ | ⟨rfl, rfl⟩
  · have hL := h5 (12, 0, siteWord_1_1) (by simp [jlam])
    exact ⟨st_Pof hd jl_f1 hL, hL.2 (by decide +kernel)⟩
  · have hL := h5 (12, 1, siteWord_1_2) (by simp [jlam])
    exact ⟨st_Pof hd jl_f2 hL, hL.2 (by decide +kernel)⟩
  · have hL := h5 (13, 0, siteWord_1_3) (by simp [jlam])
    exact ⟨st_Pof hd jl_f3 hL, hL.2 (by decide +kernel)⟩
  · have hL := h5 (13, 2, siteWord_1_5) (by simp [jlam])
    exact ⟨st_Pof hd jl_f5 hL, hL.2 (by decide +kernel)⟩
theorem st_code (h : st_In s args dC dI dA b L xs K V D mC mA) {κ i : Nat} (ha : st_al κ i) : st_cd s (st_ad b K V D mA κ i) = st_ck κ := by
  have h0 := h
  obtain ⟨h1, h2, h3, h4, h5, h6⟩ := h
  rcases ha with ⟨rfl, rfl⟩ | ⟨rfl, hi⟩ | ⟨rfl, hi⟩ | ⟨rfl, hi⟩ | hm | hm
  · obtain ⟨scr, g1, g2, -⟩ := h6
    exact st_cdI g1 g2
  · exact st_cdS (dC := dC) (h1 12 _ rfl).2 (h3 i hi).2.1
  · exact st_cdB (h3 i hi).2.2
  · have : i = 0 ∨ i = 1 := by omega
    rcases this with rfl | rfl
    · exact st_cdB (h4 ("DigitOnes", 0) (by simp [jdig])).2
    · exact st_cdB (h4 ("DigitTens", 1) (by simp [jdig])).2
  · obtain ⟨hP, cell, g1, g2, -⟩ := st_made h0 (Or.inl hm)
    obtain ⟨rfl, -⟩ := hm
    exact st_cdP g1 g2 hP
  · obtain ⟨hP, cell, g1, g2, -⟩ := st_made h0 (Or.inr hm)
    obtain ⟨rfl, -⟩ := hm
    exact st_cdP g1 g2 hP
theorem st_Beq {a n n' : Nat} {f f' : Nat → Int32} (h : st_B s a n f) (h' : st_B s a n' f') : n = n' ∧ ∀ j, j < n → f j = f' j := by
  obtain ⟨cell, g1, -, -, g4, g5⟩ := h
  obtain ⟨cell', e1, -, -, e4, e5⟩ := h'
  cases g1.symm.trans e1
  refine ⟨g4.symm.trans e4, fun j hj => ?_⟩
  have e := (g5 j hj).symm.trans (e5 j (by omega))
  exact Value.int.inj (Option.some.inj e)
theorem st_getD {l : List Int32} {j : Nat} (h : j < l.length) : l.getD j 0 = l[j] := by
  rw [List.getD_eq_getElem?_getD, List.getElem?_eq_getElem h]
  rfl
theorem st_inj (hs : ∀ c, stA c → c.before args s = true) (h : st_In s args dC dI dA b L xs K V D mC mA) {κ i κ' i' : Nat} (ha : st_al κ i) (ha' : st_al κ' i') (e : st_ad b K V D mA κ i = st_ad b K V D mA κ' i') : κ = κ' ∧ i = i' := by
  have hc : st_ck κ = st_ck κ' := by rw [← st_code h ha, ← st_code h ha', e]
  have h0 := h
  obtain ⟨h1, h2, h3, h4, h5, h6⟩ := h
  have dg : ∀ i, i < 2 → st_B s (D i) 100 (stDf i) := fun i hi => by
    have : i = 0 ∨ i = 1 := by omega
    rcases this with rfl | rfl
    · exact (h4 ("DigitOnes", 0) (by simp [jdig])).2
    · exact (h4 ("DigitTens", 1) (by simp [jdig])).2
  have hlen : ∀ i, i < 15 → stLen i < 10 := by decide
  have key : ∀ {i i' : Nat}, i < 15 → i' < 15 → K i = K i' → i < i' → False := fun {i i'} hi hi' e hlt => by
    have hn := hs _ (st_n hi' (.not (.eq (stT i) (stT i'))) (List.mem_map.mpr ⟨i, List.mem_range.mpr hlt, rfl⟩))
    exact va_neR hn (h3 i hi).1 (h3 i' hi').1 e
  have mk : ∀ {κ i κ' i' : Nat}, ((κ = 12 ∧ i < 2) ∨ (κ = 13 ∧ (i = 0 ∨ i = 2))) → ((κ' = 12 ∧ i' < 2) ∨ (κ' = 13 ∧ (i' = 0 ∨ i' = 2))) → mA κ i = mA κ' i' → st_nm κ i = st_nm κ' i' := fun {κ i κ' i'} hm hm' e => by
    obtain ⟨⟨k, f, p1, p2, p3, p4, p5⟩, cell, g1, g2, -⟩ := st_made h0 hm
    obtain ⟨⟨k', f', p1', p2', p3', p4', p5'⟩, cell', g1', g2', -⟩ := st_made h0 hm'
    rw [e] at g1
    cases g1.symm.trans g1'
    rw [← g2] at p1
    rw [← g2'] at p1'
    cases p1.symm.trans p1'
    cases p4.symm.trans p4'
    exact Option.some.inj (p5.symm.trans p5')
  have two : ∀ {κ i κ' i' : Nat}, ((κ = 12 ∧ i < 2) ∨ (κ = 13 ∧ (i = 0 ∨ i = 2))) → ((κ' = 12 ∧ i' < 2) ∨ (κ' = 13 ∧ (i' = 0 ∨ i' = 2))) → mA κ i = mA κ' i' → κ = κ' ∧ i = i' := fun {κ i κ' i'} hm hm' e => by
    have hh : (κ = 12 ∧ i = 0) ∨ (κ = 12 ∧ i = 1) ∨ (κ = 13 ∧ i = 0) ∨ (κ = 13 ∧ i = 2) := by omega
    have hh' : (κ' = 12 ∧ i' = 0) ∨ (κ' = 12 ∧ i' = 1) ∨ (κ' = 13 ∧ i' = 0) ∨ (κ' = 13 ∧ i' = 2) := by omega
    have hn := mk hm hm' e
    rcases hh with ⟨rfl, rfl⟩ | ⟨rfl, rfl⟩ | ⟨rfl, rfl⟩ | ⟨rfl, rfl⟩ <;> rcases hh' with ⟨rfl, rfl⟩ | ⟨rfl, rfl⟩ | ⟨rfl, rfl⟩ | ⟨rfl, rfl⟩ <;> first | exact ⟨rfl, rfl⟩ | exact absurd hn (by decide +kernel)
  rcases ha with ⟨rfl, rfl⟩ | ⟨rfl, hi⟩ | ⟨rfl, hi⟩ | ⟨rfl, hi⟩ | hm | hm <;> rcases ha' with ⟨rfl, rfl⟩ | ⟨rfl, hi'⟩ | ⟨rfl, hi'⟩ | ⟨rfl, hi'⟩ | hm' | hm' <;> first
    | exact ⟨rfl, rfl⟩
    | (exfalso; exact absurd hc (by decide))
    | (exfalso; obtain ⟨rfl, -⟩ := hm'; exact absurd hc (by decide))
    | (exfalso; obtain ⟨rfl, -⟩ := hm; exact absurd hc (by decide))
    | skip
  · refine ⟨rfl, ?_⟩
    rcases Nat.lt_trichotomy i i' with z | z | z
    · exact (key hi hi' e z).elim
    · exact z
    · exact (key hi' hi e.symm z).elim
  · refine ⟨rfl, ?_⟩
    have e : V i = V i' := e
    have b1 := (h3 i hi).2.2
    have b2 := (h3 i' hi').2.2
    rw [e] at b1
    obtain ⟨q1, q2⟩ := st_Beq b1 b2
    apply Classical.byContradiction
    intro hne
    have ht := List.all_eq_true.mp (List.all_eq_true.mp st_tx_key i (List.mem_range.mpr hi)) i' (List.mem_range.mpr hi')
    rw [Bool.or_eq_true, decide_eq_true_eq, decide_eq_true_eq] at ht
    rcases ht with ht | ht
    · exact hne ht
    · refine ht (List.ext_getElem q1 fun j j1 j2 => ?_)
      have := q2 j j1
      rw [st_getD j1, st_getD j2] at this
      exact this
  · exfalso
    have e : V i = D i' := e
    have b1 := (h3 i hi).2.2
    rw [e] at b1
    have := (st_Beq b1 (dg i' hi')).1
    have := hlen i hi
    omega
  · exfalso
    have e : D i = V i' := e
    have b1 := (h3 i' hi').2.2
    rw [← e] at b1
    have := (st_Beq b1 (dg i hi)).1
    have := hlen i' hi'
    omega
  · refine ⟨rfl, ?_⟩
    have e : D i = D i' := e
    have b1 := dg i hi
    rw [e] at b1
    have q := (st_Beq b1 (dg i' hi')).2 1 (by decide)
    have x1 : i = 0 ∨ i = 1 := by omega
    have x2 : i' = 0 ∨ i' = 1 := by omega
    rcases x1 with rfl | rfl <;> rcases x2 with rfl | rfl <;> first | rfl | exact absurd q (by decide +kernel)
  all_goals first
    | (obtain ⟨rfl, hi⟩ := hm; obtain ⟨rfl, hi'⟩ := hm'; exact two (by omega) (by omega) e)
/-- the store and the book hold of the start -/
theorem st_R (hs : ∀ c, stA c → c.before args s = true) (h : st_In s args dC dI dA b L xs K V D mC mA) : j_R (st_g l dC dI dA s b K V D mC mA) (st_Bk b K V D mA) (st_w xs L) s.heap := by
  have h0 := h
  obtain ⟨h1, h2, h3, h4, h5, h6⟩ := h
  have dg : ∀ i, i < 2 → st_B s (D i) 100 (stDf i) := fun i hi => by
    have : i = 0 ∨ i = 1 := by omega
    rcases this with rfl | rfl
    · exact (h4 ("DigitOnes", 0) (by simp [jdig])).2
    · exact (h4 ("DigitTens", 1) (by simp [jdig])).2
  have cl : ∀ {a : Nat} {cell : Cell}, s.heap[a]? = some cell → cell.cls = st_cl s a := fun {a cell} h => by unfold st_cl; rw [h]
  have hb39 : ∀ {κ i : Nat}, st_bu κ i → st_al κ i := fun {κ i} hb => by unfold st_bu at hb; unfold st_al; omega
  have r0 : ∀ {κ i k j : Nat}, st_al κ i → jgr (st_w xs L) κ i k = some j → κ = 17 ∧ k = 0 ∧ j = i ∧ i < 15 := fun {κ i k j} ha hj => by
    have hj' : (if κ = 17 ∧ k = 0 then some i else none) = some j := hj
    by_cases hc : κ = 17 ∧ k = 0
    · rw [if_pos hc] at hj'
      cases hj'
      refine ⟨hc.1, hc.2, rfl, ?_⟩
      unfold st_al at ha
      omega
    · rw [if_neg hc] at hj'
      cases hj'
  refine ⟨fun κ i ha => ?_, fun κ i κ' i' ha ha' e => st_inj hs h0 ha ha' e, fun κ i ha hr => ?_, Nat.le_refl _, fun q _ => rfl, fun κ i k j ha hj => ?_, fun κ i k j ha hj _ => ?_, fun κ i k hb h3 => ?_, fun κ i hb => hb39 hb, fun κ i ha => ?_⟩
  · rcases ha with ⟨rfl, rfl⟩ | ⟨rfl, hi⟩ | ⟨rfl, hi⟩ | ⟨rfl, hi⟩ | hm | hm
    · obtain ⟨scr, g1, g2, g3, g4, g5⟩ := h6
      unfold j_ok
      rw [show jk0 39 = 8 from rfl]
      exact ⟨scr, g1, cl g1, fun k hk => g2.1 k hk, g3, g4, g5⟩
    · obtain ⟨cell, g1, g2, g3, g4, g5⟩ := (h3 i hi).2.1
      unfold j_ok
      rw [show jk0 17 = 9 from rfl]
      have hc := h1 12 _ rfl
      obtain ⟨e0, e1, e2, e3⟩ := g5 (dI 12) (fun k hk => hc.1 k hk)
      refine ⟨_, rfl, cell, g1, Option.some.inj (g2.symm.trans hc.2.1), g3, g4, fun k hk => ?_⟩
      have hk' : k < 4 := hk
      have : k = 0 ∨ k = 1 ∨ k = 2 ∨ k = 3 := by omega
      rcases this with rfl | rfl | rfl | rfl
      · exact e0
      · exact e1
      · exact e2
      · exact e3
    · obtain ⟨cell, g1, g2, g3, g4, g5⟩ := (h3 i hi).2.2
      unfold j_ok
      rw [show jk0 71 = 8 from rfl]
      refine ⟨cell, g1, ?_, fun k hk => g2.1 k hk, g3, g4, fun j hj => g5 j hj⟩
      show cell.cls = st_cl s (V (if i < 15 then i else 0))
      rw [if_pos hi]
      exact cl g1
    · obtain ⟨cell, g1, g2, g3, g4, g5⟩ := dg i hi
      unfold j_ok
      rw [show jk0 72 = 8 from rfl]
      refine ⟨cell, g1, ?_, fun k hk => g2.1 k hk, g3, g4, fun j hj => g5 j hj⟩
      show cell.cls = st_cl s (D (if i < 2 then i else 0))
      rw [if_pos hi]
      exact cl g1
    · obtain ⟨-, cell, g1, g2, g3, g4⟩ := st_made h0 (Or.inl hm)
      obtain ⟨rfl, -⟩ := hm
      unfold j_ok
      rw [show jk0 12 = 6 from rfl]
      refine ⟨cell, g1, g2, g3, ?_⟩
      rw [g4]
      show #[] = (arrV (mC 12 i) 0 (jfv (st_Bk b K V D mA).1 (st_w xs L) 12 i)).slots
      simp [arrV]
    · obtain ⟨-, cell, g1, g2, g3, g4⟩ := st_made h0 (Or.inr hm)
      obtain ⟨rfl, hi⟩ := hm
      unfold j_ok
      rw [show jk0 13 = 6 from rfl]
      have e : jl6 13 (js6 13 i) = 0 := by rcases hi with rfl | rfl <;> rfl
      refine ⟨cell, g1, g2, g3, ?_⟩
      rw [g4, e]
      show #[] = (arrV (mC 13 i) 0 (jfv (st_Bk b K V D mA).1 (st_w xs L) 13 i)).slots
      simp [arrV]
  · exfalso
    have : jro κ = true := by
      rcases ha with ⟨rfl, -⟩ | ⟨rfl, -⟩ | ⟨rfl, -⟩ | ⟨rfl, -⟩ | ⟨rfl, -⟩ | ⟨rfl, -⟩ <;> rfl
    rw [this] at hr
    cases hr
  · obtain ⟨rfl, rfl, rfl, hi⟩ := r0 ha hj
    exact Or.inr (Or.inr (Or.inl ⟨rfl, hi⟩))
  · obtain ⟨rfl, rfl, rfl, hi⟩ := r0 ha hj
    exact Or.inr (Or.inr (Or.inl ⟨rfl, hi⟩))
  · exfalso
    rcases hb with ⟨rfl, -⟩ | ⟨rfl, -⟩ | ⟨rfl, -⟩ | ⟨rfl, -⟩
    · exact absurd h3 (by show ¬ (0 = 3); decide)
    · match k, h3 with
      | 0, h3 => exact absurd h3 (by decide)
      | 1, h3 => exact absurd h3 (by decide)
      | 2, h3 => exact absurd h3 (by decide)
      | 3, h3 => exact absurd h3 (by decide)
      | k + 4, h3 => exact absurd h3 (by show ¬ (0 = 3); decide)
    · exact absurd h3 (by show ¬ (0 = 3); decide)
    · exact absurd h3 (by show ¬ (0 = 3); decide)
  · rcases ha with ⟨rfl, -⟩ | ⟨rfl, -⟩ | ⟨rfl, -⟩ | ⟨rfl, -⟩ | ⟨rfl, -⟩ | ⟨rfl, -⟩ <;> simp [jcnt]
theorem st_lit : j_lit (st_g l dC dI dA s b K V D mC mA) (st_Bk b K V D mA) := ⟨fun i hi => ⟨⟨Or.inr (Or.inl ⟨rfl, hi⟩), Or.inr (Or.inl ⟨rfl, hi⟩)⟩, rfl⟩, fun i hi => ⟨⟨Or.inr (Or.inr (Or.inr (Or.inl ⟨rfl, hi⟩))), Or.inr (Or.inr (Or.inr ⟨rfl, hi⟩))⟩, rfl⟩⟩
end ST
