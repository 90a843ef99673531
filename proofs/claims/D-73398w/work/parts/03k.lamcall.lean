/-! calls of lambdas, in the walk -/
section JLJ
variable {g : j_G} {x : j_X} {cc : ByteArray} {nL : Nat} {own : String} {ret : Option FieldType} {rm : Room} {B : j_B} {pc index : Nat} {rest : List Value} {w w1 : j_St} {a b c r : Int32}
theorem jl_cell {κ i : Nat} {H : Heap} (h6 : jk0 κ = 6) (h : j_ok g B w H κ i) : ∃ cell : Cell, H[B.1 κ i]? = some cell ∧ cell.cls = jgM g κ (js6 κ i) ∧ cell.vm = .none ∧ cell.slots = (arrV (jgM g κ (js6 κ i)) (jl6 κ (js6 κ i)) (jfv B.1 w κ i)).slots := by
  unfold j_ok at h
  rw [h6] at h
  exact h
theorem j_lamS (hx : j_C cc nL own ret rm g x) {κ i i9 : Nat} (hi0 : js6 κ i = i9) {W0 : Jvm.Cond} (hmem : (κ, i9, W0) ∈ jlam) {xn : MethodName} {pcx idx : Nat} {σ : Lambda.Shape} (hW0 : W0 = .lambdaSite xn pcx idx σ) (hxn : xn.cls = "TracePeaks") (hF : jl_file σ jcS 4 17 14 16 13) (h6 : jk0 κ = 6)
    {I : MethodName} (hIm : I ∈ jlif) (hI : σ.iface = I.cls ∧ σ.name = I.name ∧ σ.sam.toString = I.desc) (hIp : parseMethodDescriptor I.desc = some ⟨[.int, .int, .int], some .int⟩)
    {yN : MethodName} (hy : yN = ⟨"TracePeaks", σ.implName, σ.implDesc.toString⟩) (hyp : parseMethodDescriptor yN.desc = some ⟨[.int, .int, .int], some .int⟩) {cy : ByteArray} {nY : Nat} {rmY : Room} (hst : Cond.static yN ∈ lw_all) (hini : Cond.initialized yN.cls ∈ lw_all) (hcode : Cond.code yN cy nY (some .int) ∈ lw_all)
    (hM : j_M g yN cy nY (some .int) rmY B [.int a, .int b, .int c] w w1 (jri r)) (hrc : rmY.cells = 0 ∧ rmY.slots = 0)
    (ha : B.2.1 κ i) (hl : Cond.methodLink own index I ∈ lw_all) (hRm : rmY.frames + 2 ≤ rm.frames ∧ 34 + nY + rmY.locals ≤ rm.locals) (hWs : (rest.map fun v => v.category).sum ≤ 8) (d : decode cc pc = .ok (.invokeinterface index 4, 5)) :
    j_Call g x nL B [.ref (B.1 κ i), .int a, .int b, .int c] w w1 pc (pc + 5) (.int c :: .int b :: .int a :: .ref (B.1 κ i) :: rest) rest 0 0 (jri r) := by
  intro H locs ls cells slots Q hls hR hq hc hs kk T hT X
  obtain ⟨p, e, R, s, m, args, below, meth, cd⟩ := x
  obtain ⟨h1, h2, h3, h4, h5, hK, -, -, h9⟩ := hx
  cases h9
  have hRm1 : rmY.frames + 2 ≤ R.frames := hRm.1
  have hRm2 : 34 + nY + rmY.locals ≤ R.locals := hRm.2
  have hj := (hK.2.2.2.2.2.2).2.2.1 _ hmem
  have hfi := (hK.2.2.2.2.2.2).2.2.2.1 I hIm
  rw [hW0] at hj
  obtain ⟨mD, kD, cfD, i0, p0, lk, hmD, hmc, hkD, -, -, -, hmade, hcan, -, -⟩ := hj
  obtain ⟨kD', hkD', hnameD⟩ := className_of_methodNamed hmD
  rw [hmc] at hkD'
  cases hkD.symm.trans hkD'
  rw [hxn] at hnameD
  obtain ⟨cell, hcell, hcls, hvmc, hsls⟩ := jl_cell h6 (hR.1 κ i ha)
  rw [hi0] at hcls hsls
  clear hsls
  generalize hcK : jgM g κ i9 = cK at hmade hcan hcls
  generalize hA : B.1 κ i = A at hcell
  obtain ⟨kK, tk, ok, file, methk, ck, o, toy, t, lay, hkK, hkn, hfile, hpool, hmk, hck, hbytes, hml, hlk, hfl, hretk, htoy, htk, hlook, hready, hclsR, hitf, -⟩ := jl_made hF hkD hnameD hmade
  obtain ⟨r0, rI, hn, hrm, hstR, hsigR⟩ := Cond.declares_spec hfi.1
  obtain ⟨cL, kL, r1, hcL, hkL, hiL, hfoundL, hn1⟩ := Cond.interfaceMethod_spec hfi.2
  cases hn.symm.trans hn1
  have hr0cls : r0.cls = cL := Option.some.inj ((findClass_of_methodNamed hn).symm.trans hcL)
  obtain ⟨hnameR, hdescR⟩ := name_of_methodNamed hn hrm
  obtain ⟨-, -, -, -, -, -, -, iface', -, -, -, -, found, -, -, -, -, -, hi', -, -, -, -, -, -, hfound', -, -, -, -, -, -, -, -, -, -, hsel⟩ := Lambda.isMade_spec hmade
  rw [hI.1] at hi'
  cases hcL.symm.trans hi'
  rw [hI.2.1, hI.2.2] at hfound'
  have hfr : found = r0 := by
    have h1 : s.methodFound? I.cls I.name I.desc = some r0 := hfoundL
    simp only [State.methodFound?, hcL, hkL, hiL, Option.bind_eq_bind, Option.bind_some] at h1
    rw [hfound'] at h1
    exact Option.some.inj h1
  subst hfr
  obtain ⟨i2, hi2, hasg, hway⟩ := State.lambdaCallable_spec hcan
  rw [hI.1] at hi2
  cases hcL.symm.trans hi2
  rw [hI.2.1, hI.2.2] at hway
  have hsigI : rI.sig = ⟨[.int, .int, .int], some .int⟩ := (Option.some.inj (hIp.symm.trans hsigR)).symm
  have w_st := h5 _ hst
  have w_in := h5 _ hini
  have w_co := h5 _ hcode
  cases hmT : s.methodNamed? yN with
  | none => simp [Cond.before, Cond.holds, Cond.value, hmT] at w_co
  | some mT =>
  obtain ⟨methT, cT, hmethT, hcT, hbytesT, hlocT, hretT, hlocksT, -, hsigT⟩ := Cond.code_spec hmT w_co
  have hstaticT : methT.isStatic = true := Cond.static_spec hmT hmethT w_st
  obtain ⟨kT, hkT, hnameT⟩ := className_of_methodNamed hmT
  have hfT : s.vm.findClass yN.cls = some mT.cls := findClass_of_methodNamed hmT
  have hinitK : kT.init = .initialized := Cond.initialized_spec hfT hkT w_in
  have hsigTI : methT.sig = ⟨[.int, .int, .int], some .int⟩ := (Option.some.inj (hyp.symm.trans hsigT)).symm
  have hycls : yN.cls = "TracePeaks" := by rw [hy]
  have hcell₁ : T.heap[A]? = some cell := by rw [hT]; exact hcell
  have hmhI := jlif_mh I hIm
  obtain ⟨vm₁, X₁, hstep₁⟩ := X.invokeinterface h1 h4 (h5 _ hl) hn hrm hstR (by rw [hr0cls]; exact hkL) hiL hmhI (a := A) (cell := cell) (kcell := kK) hcell₁ (fun z h => by rw [hvmc] at h; cases h) (by rw [hcls]; exact hkK) (by rw [hr0cls, hcls]; exact hasg)
    (m' := ⟨cK, 1⟩) (meth' := methk) (by rw [Launch.admits_selectMethod X.admits, hcls]; exact hsel) hmk (by rw [hnameR, hdescR, hcls]; exact hway) (by rw [hfl]; decide) (by simp [Method.isAbstract, hfl, hasFlag, Acc.abstract])
    (g := F0 m pc ls (.int c :: .int b :: .int a :: .ref A :: rest)) rfl (argsL := [.int a, .int b, .int c]) (rest := rest) (by rw [hsigI]; rfl) rfl (by rw [h2]; exact d)
  have hW₁ : s.WarmedH vm₁ := X₁.warmed
  obtain ⟨kD₁, hkD₁, heD₁⟩ := hW₁.alike.2.2 _ _ hkD
  have hnameD₁ : kD₁.name = "TracePeaks" := by rw [heD₁]; exact hnameD
  obtain ⟨kK₁, tk₁, ok₁, file₁, methk₁, ck₁, o₁, toy₁, t₁, lay₁, hkK₁, hkn₁, hfile₁, hpool₁, hmk₁, hck₁, hbytes₁, hml₁, hlk₁, hfl₁, hretk₁, htoy₁, htk₁, hlook₁, hready₁, hclsR₁, hitf₁, -⟩ := jl_made hF hkD₁ hnameD₁ (Lambda.isMade_warmer hW₁ hmade)
  have hfT₁ : vm₁.findClass "TracePeaks" = some mT.cls := by rw [hW₁.alike.findClass, ← hycls]; exact hfT
  cases htoy₁.symm.trans hfT₁
  have hymh : yN.cls ≠ "java/lang/invoke/MethodHandle" ∧ yN.cls ≠ "java/lang/invoke/VarHandle" := by rw [hycls]; decide
  have ht₁ : t₁ = mT := by
    have h1 : (s.setVm vm₁).methodFound? yN.cls yN.name yN.desc = some mT := by rw [State.methodFound?_setVm hW₁.alike]; exact State.methodFound?_of_named hmT hymh
    rw [hy] at h1
    simp only [State.methodFound?, State.vm_setVm, hfT₁, htk₁, Option.bind_eq_bind, Option.bind_some] at h1
    rw [hlook₁] at h1
    exact Option.some.inj h1
  subst ht₁
  have hmethT₁ : vm₁.method? t₁ = some methT := by rw [hW₁.alike.method?]; exact hmethT
  obtain ⟨kT₁, hkT₁, heT₁⟩ := hW₁.alike.2.2 _ _ hkT
  cases htk₁.symm.trans hkT₁
  have hnm : tk₁.name ≠ "java/lang/invoke/MethodHandle" ∧ tk₁.name ≠ "java/lang/invoke/VarHandle" := by
    have : tk₁.name = yN.cls := by rw [heT₁]; exact hnameT
    rw [this]; exact hymh
  have hsp : ∀ y : Method, signaturePolymorphic tk₁ y = false := fun y => by simp [signaturePolymorphic, hnm.1, hnm.2]
  obtain ⟨bb, hmem2⟩ := memberRef_ask' (e := e) (vm := vm₁) (d := cK) (index := 17) hkK₁ hfile₁ (Or.inl (by rw [hpool₁]; exact hF.2.2.2.2.1.1)) (by rw [hpool₁]; exact hF.2.2.2.2.1.2.2)
  have hpk : (T.setVm vm₁).plainMethod ⟨cK, 1⟩ := State.plainMethod.of_name (fun k' hk' => by cases hkK₁.symm.trans hk'; rw [hkn₁]; decide)
  have hnamedV : ∀ U : State, U.vm = vm₁ → U.methodNamed? yN = some t₁ := fun U hU => by
    have hal : s.vm.Alike U.vm := by rw [hU]; exact hW₁.alike
    have := State.methodNamed?_setVm (s := s) hal yN
    rw [hmT] at this
    exact this
  have hmc0 : (jxR (p, e, R, s, m, args, below, meth, cd)) = R := rfl
  rw [hmc0] at hc hs
  obtain ⟨T', L, X', hT', hL, hsteps⟩ := jl_call X₁ h1 (g := F0 m pc ls rest) rfl (hls.trans h3.symm) (by rw [h2]; exact d) (mk := ⟨cK, 1⟩) (a := #[.ref A, .int a, .int b, .int c]) (R' := { frames := rmY.frames + 1, cells := 0, slots := 0, locals := nY + 11 + rmY.locals }) hmk₁ hck₁ hlk₁ hpk hretk₁
    (by show rmY.frames + 1 + 1 ≤ R.frames; omega) (by rw [hml₁]; show 2 * 0 + (rest.map fun v => v.category).sum + (4 + 11) + (nY + 11 + rmY.locals) ≤ R.locals; omega) hc hs (free := j_fr g) (r := r) (pc1 := 6) (ls1 := #[.val (.ref A), .val (.int a), .val (.int b), .val (.int c)]) (by rw [hbytes₁]; exact jd_S6)
    (PH := fun H => j_R g B w1 H) (fun U hUv hUh Y => by
      have hUv' : U.vm = vm₁ := hUv
      have hUh' : U.heap = H := hUh.trans hT
      have hWU : s.WarmedH U.vm := by rw [hUv']; exact hW₁
      have hWc : s.WarmedH ((T.setVm vm₁).calling (F0 m pc ls rest) ⟨cK, 1⟩ #[.ref A, .int a, .int b, .int c]).vm := hW₁
      have hws := pay_in h5 (lw_meth hcode)
      obtain ⟨v, B', Y₁, hpost, hst2⟩ := jl_bodyS Y h1 hbytes₁ hml₁ (t := t₁) (kt := tk₁) (metht := methT) ⟨14, _, _, bb, t₁.cls, tk₁, by rw [hUv']; exact hmem2, by rw [hUv']; exact hclsR₁, by rw [hUv']; exact htk₁, by simp [hsp]⟩ (by rw [hUv']; exact hready₁) (by rw [hUv']; exact htk₁) (by rw [hUv']; exact hmethT₁) (hsp _) hstaticT (by rw [heT₁]; exact hinitK) (by rw [hsigTI]; rfl) (hnamedV U hUv')
        (back_of (W := 0) (len := 3) hM j_Pc_blind rfl rfl (by show rmY.frames + 1 ≤ rmY.frames + 1; omega) (by show 0 + (nY + 11) + rmY.locals ≤ nY + 11 + rmY.locals; omega) (fun w hw a' V hV => hws w hw a' V (State.WarmedH.trans hWc hV)) List.mem_cons_self (fun a' V hV => pay_in h5 (ws := [Cond.initialized yN.cls]) (fun w hw => by cases List.mem_singleton.mp hw; exact lw_self _ hini) _ List.mem_cons_self a' V (State.WarmedH.trans hWc hV)))
        ⟨by rw [hrc.1]; exact Nat.zero_le _, by rw [hrc.2]; exact Nat.zero_le _, rfl, by show j_R g B w U.heap; rw [hUh']; exact hR, j_K_moved hWU hK⟩
      obtain ⟨g9, mk9, t9, L9, e1, e2, hq9, q1, hL9, q2, q3⟩ := hpost
      obtain ⟨hv9, hR9⟩ := hq9
      cases hv9
      refine ⟨B'.U, B'.locs, ?_, by show j_R g B w1 B'.U.heap; rw [e1]; exact hR9, fun q hq' => hL9 q (by
        rw [q1] at hq'
        rcases List.mem_append.mp hq' with z | z
        · cases z
        · exact z), hst2⟩
      have z1 : B'.cells = 0 := by rw [q2, hrc.1]
      have z2 : B'.slots = 0 := by rw [q3, hrc.2]
      rw [z1, z2] at Y₁
      exact Y₁)
  obtain ⟨t2, a1, b1⟩ := kk T'.heap (locs ++ L) hT' (fun q hq0 => by
    rcases List.mem_append.mp hq0 with z | z
    · exact hq q z
    · exact hL q z) T' rfl X'
  exact ⟨t2, hstep₁ _ fun acts => (hsteps acts).trans a1, b1⟩
end JLJ
