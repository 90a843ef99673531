/-! calls of objects of lambdas that hold something -/
def jlL (σ : Lambda.Shape) : Array Field × Array FieldType × Array FieldType := (layoutFields (jlD σ) 0).getD (#[], #[], #[])
def jl_fl (σ : Lambda.Shape) (fi c2 nt j : Nat) (nm ds : String) : Prop := (layoutFields (jlD σ) 0).isSome = true ∧ (jlD σ).constantPool[fi]? = some (.fieldref c2 nt) ∧ (jlD σ).constantPool.nameAndType? nt = some (nm, ds) ∧ (jlL σ).1.findIdx? (·.name == nm) = some j ∧ ((jlL σ).1[j]?).map (fun f => (f.isStatic, f.slot)) = some (false, j)
theorem jl_field {σ : Lambda.Shape} {fi c2 nt j : Nat} {nm ds : String} (F : jl_fl σ fi c2 nt j nm ds) {e : Setting} {vm : Vm} {c : ClassId} {k : Class} {lay : Array Field × Array FieldType × Array FieldType} {n : Nat} (hn : n = 0) (hk : vm.classes[c]? = some k) (hlay : layoutFields (jlD σ) n = some lay) (hfields : ∀ (i : Nat) a, lay.1[i]? = some a → k.fields[i]? = some a) (hres : ∀ (i : Nat) x, (Lambda.resolvedOf e vm (jlD σ) lay.1 c)[i]? = some (some x) → k.resolved[i]? = some (some x)) :
    ∃ f : Field, vm.fieldReady c fi c f ∧ f.isStatic = false ∧ f.slot = j := by
  obtain ⟨F1, F2, F3, F4, F5⟩ := F
  subst hn
  have e0 : jlL σ = lay := by
    unfold jlL
    rw [hlay]
    rfl
  rw [e0] at F4 F5
  obtain ⟨g0, hg0, hp0⟩ := Option.map_eq_some_iff.mp F5
  simp only [Prod.mk.injEq] at hp0
  exact ⟨g0, ⟨k, j, k, hk, hres fi _ (Lambda.resolvedOf_field F2 F3 F4), hk, hfields j _ hg0⟩, hp0.1, hp0.2⟩
theorem jd_B30 : decode ⟨jcB3⟩ 0 = .ok (.aload_n 0, 1) := by decide +kernel
theorem jd_B31 : decode ⟨jcB3⟩ 1 = .ok (.getfield 15, 3) := by decide +kernel
theorem jd_B34 : decode ⟨jcB3⟩ 4 = .ok (.iload_n 1, 1) := by decide +kernel
theorem jd_B35 : decode ⟨jcB3⟩ 5 = .ok (.iload_n 2, 1) := by decide +kernel
theorem jd_B36 : decode ⟨jcB3⟩ 6 = .ok (.iload_n 3, 1) := by decide +kernel
theorem jd_B37 : decode ⟨jcB3⟩ 7 = .ok (.invokevirtual 22, 3) := by decide +kernel
theorem jd_B310 : decode ⟨jcB3⟩ 10 = .ok (.ireturn, 1) := by decide +kernel
section JLB3
variable {p : Program} {l : Launch} {e : Env}
theorem jl_bodyB3 {R' : Room} {s' : State} {mk : MethodId} {o b : Addr} {x y z : Int32} {bel : List Frame} {methk : Method} {ck : Code} {U : State} (Y : Stand p l e R' s' mk #[.ref o, .int x, .int y, .int z] bel methk ck U [] 0 0) (hexec : p.tables.exec = Jvm.exec) (hbytes : ck.code = ⟨jcB3⟩) (hml : ck.maxLocals = 4)
    {cellK : Cell} {f1 : Field} (hcellK : U.heap[o]? = some cellK) (hknown : cellK.vm ≠ .unknown) (hf1 : U.vm.fieldReady mk.cls 15 mk.cls f1) (hf1s : f1.isStatic = false) (hslot1 : cellK.slots[f1.slot]? = some (.ref b)) 
    {t : MethodId} {kt : Class} {metht : Method} {cellB : Cell} (hnames : namesAClass U mk.cls 22) (hready : U.vm.methodReady mk.cls 22 t) (hkt : U.vm.classes[t.cls]? = some kt) (hmt : U.vm.method? t = some metht)
    (hpoly : signaturePolymorphic kt metht = false) (hstatic : metht.isStatic = false) (hpar : metht.sig.parameters.length = 3) (hcellB : U.heap[b]? = some cellB) (hobjB : ∀ k, cellB.vm ≠ .statics k) (hsel : selectMethod e.platform U.vm cellB.cls t = .method t) (habs : metht.isAbstract = false) (hitf : kt.isInterface = false)
    {yN : MethodName} (hnamed : U.methodNamed? yN = some t) {Pre : Pt → Array Value → Prop} {Post : Pt → Array Value → Option Value → Pt → Prop} (hK : Back l R' p e bel s' #[.ref o, .int x, .int y, .int z] yN 3 0 Pre Post) (hpre : Pre ⟨U, [], 0, 0⟩ #[.ref b, .int x, .int y, .int z]) :
    ∃ (v : Option Value) (B' : Pt), Stand p l e R' s' mk #[.ref o, .int x, .int y, .int z] bel methk ck B'.U B'.locs B'.cells B'.slots ∧ Post ⟨U, [], 0, 0⟩ #[.ref b, .int x, .int y, .int z] v B' ∧
      Steps p.tables e bel (U.setTop (entryFrame mk #[.ref o, .int x, .int y, .int z] ck.maxLocals)) (B'.U.setTop { method := mk, pc := 10, locals := #[.val (.ref o), .val (.int x), .val (.int y), .val (.int z)], stack := v.toList, locked := none }) := by
  obtain ⟨v, B', Y₁, hpost, hsteps⟩ := hK mk methk ck ⟨U, [], 0, 0⟩ { method := mk, pc := 7, locals := #[.val (.ref o), .val (.int x), .val (.int y), .val (.int z)], stack := [], locked := none } (.invokevirtual 22) t #[.ref b, .int x, .int y, .int z] Y rfl (by rw [hml]; rfl) (by rw [hbytes]; exact jd_B37) (by show 2 * 0 + 0 ≤ 0; omega) hnamed hpre
  refine ⟨v, B', Y₁, hpost, ?_⟩
  have hloc : entryFrame mk #[.ref o, .int x, .int y, .int z] ck.maxLocals = { method := mk, pc := 0, locals := #[.val (.ref o), .val (.int x), .val (.int y), .val (.int z)], stack := [], locked := none } := by rw [hml]; rfl
  rw [hloc]
  have hs : U.topJava?.isSome := Y.here.top
  jvm_step Y.here [hexec, hbytes, jd_B30, Value.isRef]
  jvm_step Y.here [hexec, hbytes, jd_B31, getfield.wp_ready (e := e) (s := U) (c := mk.cls) (field := f1) (a := o) (rest := []) (cell := cellK) (v := .ref b)
    (f := { method := mk, pc := 1, locals := #[.val (.ref o), .val (.int x), .val (.int y), .val (.int z)], stack := [.ref o], locked := none }) hs hf1 hf1s rfl hcellK hknown hslot1]
  jvm_step Y.here [hexec, hbytes, jd_B34]
  jvm_step Y.here [hexec, hbytes, jd_B35]
  jvm_step Y.here [hexec, hbytes, jd_B36]
  jvm_step Y.here [hexec, hbytes, jd_B37, invokevirtual.wp_ready (e := e) (s := U) (r := t) (m := t) (k := kt) (mk := kt) (rmeth := metht) (meth := metht) (a := b) (args := [.int x, .int y, .int z]) (rest := []) (cell := cellB)
    (f := { method := mk, pc := 7, locals := #[.val (.ref o), .val (.int x), .val (.int y), .val (.int z)], stack := [.int z, .int y, .int x, .ref b], locked := none }) hs hnames hready hkt hmt hpoly hstatic hpar.symm rfl hcellB hobjB hsel hmt habs hkt hitf]
  intro acts'
  rw [doInvoke_state]
  have e2 : (v.toList ++ ([] : List Value)) = v.toList := List.append_nil _
  have := hsteps
  rw [e2] at this
  exact this
end JLB3
theorem jd_B10 : decode ⟨jcB1⟩ 0 = .ok (.aload_n 0, 1) := by decide +kernel
theorem jd_B11 : decode ⟨jcB1⟩ 1 = .ok (.getfield 15, 3) := by decide +kernel
theorem jd_B14 : decode ⟨jcB1⟩ 4 = .ok (.iload_n 1, 1) := by decide +kernel
theorem jd_B15 : decode ⟨jcB1⟩ 5 = .ok (.invokevirtual 22, 3) := by decide +kernel
theorem jd_B18 : decode ⟨jcB1⟩ 8 = .ok (.ireturn, 1) := by decide +kernel
section JLB1
variable {p : Program} {l : Launch} {e : Env}
theorem jl_bodyB1 {R' : Room} {s' : State} {mk : MethodId} {o b : Addr} {x : Int32} {bel : List Frame} {methk : Method} {ck : Code} {U : State} (Y : Stand p l e R' s' mk #[.ref o, .int x] bel methk ck U [] 0 0) (hexec : p.tables.exec = Jvm.exec) (hbytes : ck.code = ⟨jcB1⟩) (hml : ck.maxLocals = 2)
    {cellK : Cell} {f1 : Field} (hcellK : U.heap[o]? = some cellK) (hknown : cellK.vm ≠ .unknown) (hf1 : U.vm.fieldReady mk.cls 15 mk.cls f1) (hf1s : f1.isStatic = false) (hslot1 : cellK.slots[f1.slot]? = some (.ref b)) 
    {t : MethodId} {kt : Class} {metht : Method} {cellB : Cell} (hnames : namesAClass U mk.cls 22) (hready : U.vm.methodReady mk.cls 22 t) (hkt : U.vm.classes[t.cls]? = some kt) (hmt : U.vm.method? t = some metht)
    (hpoly : signaturePolymorphic kt metht = false) (hstatic : metht.isStatic = false) (hpar : metht.sig.parameters.length = 1) (hcellB : U.heap[b]? = some cellB) (hobjB : ∀ k, cellB.vm ≠ .statics k) (hsel : selectMethod e.platform U.vm cellB.cls t = .method t) (habs : metht.isAbstract = false) (hitf : kt.isInterface = false)
    {yN : MethodName} (hnamed : U.methodNamed? yN = some t) {Pre : Pt → Array Value → Prop} {Post : Pt → Array Value → Option Value → Pt → Prop} (hK : Back l R' p e bel s' #[.ref o, .int x] yN 3 0 Pre Post) (hpre : Pre ⟨U, [], 0, 0⟩ #[.ref b, .int x]) :
    ∃ (v : Option Value) (B' : Pt), Stand p l e R' s' mk #[.ref o, .int x] bel methk ck B'.U B'.locs B'.cells B'.slots ∧ Post ⟨U, [], 0, 0⟩ #[.ref b, .int x] v B' ∧
      Steps p.tables e bel (U.setTop (entryFrame mk #[.ref o, .int x] ck.maxLocals)) (B'.U.setTop { method := mk, pc := 8, locals := #[.val (.ref o), .val (.int x)], stack := v.toList, locked := none }) := by
  obtain ⟨v, B', Y₁, hpost, hsteps⟩ := hK mk methk ck ⟨U, [], 0, 0⟩ { method := mk, pc := 5, locals := #[.val (.ref o), .val (.int x)], stack := [], locked := none } (.invokevirtual 22) t #[.ref b, .int x] Y rfl (by rw [hml]; rfl) (by rw [hbytes]; exact jd_B15) (by show 2 * 0 + 0 ≤ 0; omega) hnamed hpre
  refine ⟨v, B', Y₁, hpost, ?_⟩
  have hloc : entryFrame mk #[.ref o, .int x] ck.maxLocals = { method := mk, pc := 0, locals := #[.val (.ref o), .val (.int x)], stack := [], locked := none } := by rw [hml]; rfl
  rw [hloc]
  have hs : U.topJava?.isSome := Y.here.top
  jvm_step Y.here [hexec, hbytes, jd_B10, Value.isRef]
  jvm_step Y.here [hexec, hbytes, jd_B11, getfield.wp_ready (e := e) (s := U) (c := mk.cls) (field := f1) (a := o) (rest := []) (cell := cellK) (v := .ref b)
    (f := { method := mk, pc := 1, locals := #[.val (.ref o), .val (.int x)], stack := [.ref o], locked := none }) hs hf1 hf1s rfl hcellK hknown hslot1]
  jvm_step Y.here [hexec, hbytes, jd_B14]
  jvm_step Y.here [hexec, hbytes, jd_B15, invokevirtual.wp_ready (e := e) (s := U) (r := t) (m := t) (k := kt) (mk := kt) (rmeth := metht) (meth := metht) (a := b) (args := [.int x]) (rest := []) (cell := cellB)
    (f := { method := mk, pc := 5, locals := #[.val (.ref o), .val (.int x)], stack := [.int x, .ref b], locked := none }) hs hnames hready hkt hmt hpoly hstatic hpar.symm rfl hcellB hobjB hsel hmt habs hkt hitf]
  intro acts'
  rw [doInvoke_state]
  have e2 : (v.toList ++ ([] : List Value)) = v.toList := List.append_nil _
  have := hsteps
  rw [e2] at this
  exact this
end JLB1
theorem jd_L10 : decode ⟨jcL1⟩ 0 = .ok (.aload_n 0, 1) := by decide +kernel
theorem jd_L11 : decode ⟨jcL1⟩ 1 = .ok (.getfield 17, 3) := by decide +kernel
theorem jd_L14 : decode ⟨jcL1⟩ 4 = .ok (.aload_n 0, 1) := by decide +kernel
theorem jd_L15 : decode ⟨jcL1⟩ 5 = .ok (.getfield 19, 3) := by decide +kernel
theorem jd_L18 : decode ⟨jcL1⟩ 8 = .ok (.iload_n 1, 1) := by decide +kernel
theorem jd_L19 : decode ⟨jcL1⟩ 9 = .ok (.invokevirtual 27, 3) := by decide +kernel
theorem jd_L112 : decode ⟨jcL1⟩ 12 = .ok (.ireturn, 1) := by decide +kernel
section JLL1
variable {p : Program} {l : Launch} {e : Env}
theorem jl_bodyL1 {R' : Room} {s' : State} {mk : MethodId} {o b : Addr} {x : Int32} {k0 : Int32} {bel : List Frame} {methk : Method} {ck : Code} {U : State} (Y : Stand p l e R' s' mk #[.ref o, .int x] bel methk ck U [] 0 0) (hexec : p.tables.exec = Jvm.exec) (hbytes : ck.code = ⟨jcL1⟩) (hml : ck.maxLocals = 2)
    {cellK : Cell} {f1 f2 : Field} (hcellK : U.heap[o]? = some cellK) (hknown : cellK.vm ≠ .unknown) (hf1 : U.vm.fieldReady mk.cls 17 mk.cls f1) (hf1s : f1.isStatic = false) (hslot1 : cellK.slots[f1.slot]? = some (.ref b)) (hf2 : U.vm.fieldReady mk.cls 19 mk.cls f2) (hf2s : f2.isStatic = false) (hslot2 : cellK.slots[f2.slot]? = some (.int k0))
    {t : MethodId} {kt : Class} {metht : Method} {cellB : Cell} (hnames : namesAClass U mk.cls 27) (hready : U.vm.methodReady mk.cls 27 t) (hkt : U.vm.classes[t.cls]? = some kt) (hmt : U.vm.method? t = some metht)
    (hpoly : signaturePolymorphic kt metht = false) (hstatic : metht.isStatic = false) (hpar : metht.sig.parameters.length = 2) (hcellB : U.heap[b]? = some cellB) (hobjB : ∀ k, cellB.vm ≠ .statics k) (hsel : selectMethod e.platform U.vm cellB.cls t = .method t) (habs : metht.isAbstract = false) (hitf : kt.isInterface = false)
    {yN : MethodName} (hnamed : U.methodNamed? yN = some t) {Pre : Pt → Array Value → Prop} {Post : Pt → Array Value → Option Value → Pt → Prop} (hK : Back l R' p e bel s' #[.ref o, .int x] yN 3 0 Pre Post) (hpre : Pre ⟨U, [], 0, 0⟩ #[.ref b, .int k0, .int x]) :
    ∃ (v : Option Value) (B' : Pt), Stand p l e R' s' mk #[.ref o, .int x] bel methk ck B'.U B'.locs B'.cells B'.slots ∧ Post ⟨U, [], 0, 0⟩ #[.ref b, .int k0, .int x] v B' ∧
      Steps p.tables e bel (U.setTop (entryFrame mk #[.ref o, .int x] ck.maxLocals)) (B'.U.setTop { method := mk, pc := 12, locals := #[.val (.ref o), .val (.int x)], stack := v.toList, locked := none }) := by
  obtain ⟨v, B', Y₁, hpost, hsteps⟩ := hK mk methk ck ⟨U, [], 0, 0⟩ { method := mk, pc := 9, locals := #[.val (.ref o), .val (.int x)], stack := [], locked := none } (.invokevirtual 27) t #[.ref b, .int k0, .int x] Y rfl (by rw [hml]; rfl) (by rw [hbytes]; exact jd_L19) (by show 2 * 0 + 0 ≤ 0; omega) hnamed hpre
  refine ⟨v, B', Y₁, hpost, ?_⟩
  have hloc : entryFrame mk #[.ref o, .int x] ck.maxLocals = { method := mk, pc := 0, locals := #[.val (.ref o), .val (.int x)], stack := [], locked := none } := by rw [hml]; rfl
  rw [hloc]
  have hs : U.topJava?.isSome := Y.here.top
  jvm_step Y.here [hexec, hbytes, jd_L10, Value.isRef]
  jvm_step Y.here [hexec, hbytes, jd_L11, getfield.wp_ready (e := e) (s := U) (c := mk.cls) (field := f1) (a := o) (rest := []) (cell := cellK) (v := .ref b)
    (f := { method := mk, pc := 1, locals := #[.val (.ref o), .val (.int x)], stack := [.ref o], locked := none }) hs hf1 hf1s rfl hcellK hknown hslot1]
  jvm_step Y.here [hexec, hbytes, jd_L14, Value.isRef]
  jvm_step Y.here [hexec, hbytes, jd_L15, getfield.wp_ready (e := e) (s := U) (c := mk.cls) (field := f2) (a := o) (rest := [.ref b]) (cell := cellK) (v := .int k0)
    (f := { method := mk, pc := 5, locals := #[.val (.ref o), .val (.int x)], stack := [.ref o, .ref b], locked := none }) hs hf2 hf2s rfl hcellK hknown hslot2]
  jvm_step Y.here [hexec, hbytes, jd_L18]
  jvm_step Y.here [hexec, hbytes, jd_L19, invokevirtual.wp_ready (e := e) (s := U) (r := t) (m := t) (k := kt) (mk := kt) (rmeth := metht) (meth := metht) (a := b) (args := [.int k0, .int x]) (rest := []) (cell := cellB)
    (f := { method := mk, pc := 9, locals := #[.val (.ref o), .val (.int x)], stack := [.int x, .int k0, .ref b], locked := none }) hs hnames hready hkt hmt hpoly hstatic hpar.symm rfl hcellB hobjB hsel hmt habs hkt hitf]
  intro acts'
  rw [doInvoke_state]
  have e2 : (v.toList ++ ([] : List Value)) = v.toList := List.append_nil _
  have := hsteps
  rw [e2] at this
  exact this
end JLL1
section JLJ
variable {g : j_G} {x : j_X} {cc : ByteArray} {nL : Nat} {own : String} {ret : Option FieldType} {rm : Room} {B : j_B} {pc index : Nat} {rest : List Value} {w w1 : j_St} {a b c r : Int32}
theorem j_lamB3 (hx : j_C cc nL own ret rm g x) {κ i i9 : Nat} (hi0 : js6 κ i = i9) {W0 : Jvm.Cond} (hmem : (κ, i9, W0) ∈ jlam) {xn : MethodName} {pcx idx : Nat} {σ : Lambda.Shape} (hW0 : W0 = .lambdaSite xn pcx idx σ) (hxn : xn.cls = "TracePeaks") (hF : jl_file σ jcB3 4 22 19 21 18) (h6 : jk0 κ = 6)
    {I : MethodName} (hIm : I ∈ jlif) (hI : σ.iface = I.cls ∧ σ.name = I.name ∧ σ.sam.toString = I.desc) (hIp : parseMethodDescriptor I.desc = some ⟨[.int, .int, .int], some .int⟩)
    {yN : MethodName} (hy : yN = ⟨"TracePeaks", σ.implName, σ.implDesc.toString⟩) (hyp : parseMethodDescriptor yN.desc = some ⟨[.int, .int, .int], some .int⟩) {cy : ByteArray} {nY : Nat} {rmY : Room} (hst : Cond.instanceMethod yN ∈ lw_all) (hpr : Cond.privateMethod yN ∈ jnl) (hini : Cond.initialized yN.cls ∈ lw_all) (hcode : Cond.code yN cy nY (some .int) ∈ lw_all)
    (hM : j_M g yN cy nY (some .int) rmY B [.ref (B.1 0 0), .int a, .int b, .int c] w w1 (jri r)) (hrc : rmY.cells = 0 ∧ rmY.slots = 0)
    (a9 : B.2.1 0 0 ∧ B.2.2 0 0) (hs1 : jfs κ 0 = 3 ∧ jfk κ 0 = 0 ∧ jci κ i 0 = 0) (hn6 : jl6 κ i9 = 1) {nt1 : Nat} {ds1 : String} (hF1 : jl_fl σ 15 2 nt1 0 "arg$1" ds1) (ha : B.2.1 κ i ∧ B.2.2 κ i) (hl : Cond.methodLink own index I ∈ lw_all) (hRm : rmY.frames + 2 ≤ rm.frames ∧ 34 + nY + rmY.locals ≤ rm.locals) (hWs : (rest.map fun v => v.category).sum ≤ 8) (d : decode cc pc = .ok (.invokeinterface index 4, 5)) :
    j_Call g x nL B [.ref (B.1 κ i), .int a, .int b, .int c] w w1 pc (pc + 5) (.int c :: .int b :: .int a :: .ref (B.1 κ i) :: rest) rest 0 0 (jri r) := by
  intro H locs ls cells slots Q hls hR hq hc hs kk T hT X
  obtain ⟨p, e, R, s, m, args, below, meth, cd⟩ := x
  obtain ⟨h1, h2, h3, h4, h5, hK, -, -, h9⟩ := hx
  cases h9
  have hRm1 : rmY.frames + 2 ≤ R.frames := hRm.1
  have hRm2 : 34 + nY + rmY.locals ≤ R.locals := hRm.2
  have hj := (hK.2.2.2.2.2.2).2.2.1 _ hmem
  have hfi := (hK.2.2.2.2.2.2).2.2.2.1 I hIm
  rw [hW0] at hj
  obtain ⟨mD, kD, cfD, i0, p0, lk, hmD, hmc, hkD, -, -, -, hmade, hcan, -, -⟩ := hj
  obtain ⟨kD', hkD', hnameD⟩ := className_of_methodNamed hmD
  rw [hmc] at hkD'
  cases hkD.symm.trans hkD'
  rw [hxn] at hnameD
  obtain ⟨cell, hcell, hcls, hvmc, hsls⟩ := jl_cell h6 (hR.1 κ i ha.1)
  rw [hi0] at hcls hsls
  have hslot1 : cell.slots[0]? = some (.ref (B.1 0 0)) := by
    rw [hsls, arrV_read _ _ (by rw [hn6]; omega), jfv_r (by rw [hs1.1]; omega), (hR.2.2.2.2.2.2.2.1 κ i 0 ha.2 hs1.1).1, hs1.2.1, hs1.2.2]
    rfl
  obtain ⟨cellB, gB1, gB2, gB3, -⟩ := (hR.1 0 0 a9.1).obj rfl rfl
  clear hsls
  generalize hcK : jgM g κ i9 = cK at hmade hcan hcls
  generalize hA : B.1 κ i = A at hcell
  obtain ⟨kK, tk, ok, file, methk, ck, o, toy, t, lay, hkK, hkn, hfile, hpool, hmk, hck, hbytes, hml, hlk, hfl, hretk, htoy, htk, hlook, hready, hclsR, hitf, -⟩ := jl_made hF hkD hnameD hmade
  obtain ⟨r0, rI, hn, hrm, hstR, hsigR⟩ := Cond.declares_spec hfi.1
  obtain ⟨cL, kL, r1, hcL, hkL, hiL, hfoundL, hn1⟩ := Cond.interfaceMethod_spec hfi.2
  cases hn.symm.trans hn1
  have hr0cls : r0.cls = cL := Option.some.inj ((findClass_of_methodNamed hn).symm.trans hcL)
  obtain ⟨hnameR, hdescR⟩ := name_of_methodNamed hn hrm
  obtain ⟨-, -, -, -, -, -, -, iface', -, -, -, -, found, -, -, -, -, -, hi', -, -, -, -, -, -, hfound', -, -, -, -, -, -, -, -, -, -, hsel⟩ := Lambda.isMade_spec hmade
  rw [hI.1] at hi'
  cases hcL.symm.trans hi'
  rw [hI.2.1, hI.2.2] at hfound'
  have hfr : found = r0 := by
    have h1 : s.methodFound? I.cls I.name I.desc = some r0 := hfoundL
    simp only [State.methodFound?, hcL, hkL, hiL, Option.bind_eq_bind, Option.bind_some] at h1
    rw [hfound'] at h1
    exact Option.some.inj h1
  subst hfr
  obtain ⟨i2, hi2, hasg, hway⟩ := State.lambdaCallable_spec hcan
  rw [hI.1] at hi2
  cases hcL.symm.trans hi2
  rw [hI.2.1, hI.2.2] at hway
  have hsigI : rI.sig = ⟨[.int, .int, .int], some .int⟩ := (Option.some.inj (hIp.symm.trans hsigR)).symm
  have w_st := h5 _ hst
  have w_in := h5 _ hini
  have w_co := h5 _ hcode
  cases hmT : s.methodNamed? yN with
  | none => simp [Cond.before, Cond.holds, Cond.value, hmT] at w_co
  | some mT =>
  obtain ⟨methT, cT, hmethT, hcT, hbytesT, hlocT, hretT, hlocksT, -, hsigT⟩ := Cond.code_spec hmT w_co
  obtain ⟨mT2, methT2, e1T, e2T, hstaticT, habsT⟩ := Cond.instanceMethod_spec w_st
  cases hmT.symm.trans e1T
  cases hmethT.symm.trans e2T
  have hprT : methT.isPrivate = true := Cond.privateMethod_at (hK.2.2.1 _ hpr) mT methT hmT hmethT
  obtain ⟨cO, kO, hfO, hkO, -, -, -, hszO⟩ := Cond.instantiable_spec (h5 _ q2379)
  obtain ⟨kT, hkT, hnameT⟩ := className_of_methodNamed hmT
  have hfT : s.vm.findClass yN.cls = some mT.cls := findClass_of_methodNamed hmT
  have hinitK : kT.init = .initialized := Cond.initialized_spec hfT hkT w_in
  have hsigTI : methT.sig = ⟨[.int, .int, .int], some .int⟩ := (Option.some.inj (hyp.symm.trans hsigT)).symm
  have hycls : yN.cls = "TracePeaks" := by rw [hy]
  have hcell₁ : T.heap[A]? = some cell := by rw [hT]; exact hcell
  have hmhI := jlif_mh I hIm
  obtain ⟨vm₁, X₁, hstep₁⟩ := X.invokeinterface h1 h4 (h5 _ hl) hn hrm hstR (by rw [hr0cls]; exact hkL) hiL hmhI (a := A) (cell := cell) (kcell := kK) hcell₁ (fun z h => by rw [hvmc] at h; cases h) (by rw [hcls]; exact hkK) (by rw [hr0cls, hcls]; exact hasg)
    (m' := ⟨cK, 1⟩) (meth' := methk) (by rw [Launch.admits_selectMethod X.admits, hcls]; exact hsel) hmk (by rw [hnameR, hdescR, hcls]; exact hway) (by rw [hfl]; decide) (by simp [Method.isAbstract, hfl, hasFlag, Acc.abstract])
    (g := F0 m pc ls (.int c :: .int b :: .int a :: .ref A :: rest)) rfl (argsL := [.int a, .int b, .int c]) (rest := rest) (by rw [hsigI]; rfl) rfl (by rw [h2]; exact d)
  have hW₁ : s.WarmedH vm₁ := X₁.warmed
  obtain ⟨kD₁, hkD₁, heD₁⟩ := hW₁.alike.2.2 _ _ hkD
  have hnameD₁ : kD₁.name = "TracePeaks" := by rw [heD₁]; exact hnameD
  obtain ⟨kK₁, tk₁, ok₁, file₁, methk₁, ck₁, o₁, toy₁, t₁, lay₁, hkK₁, hkn₁, hfile₁, hpool₁, hmk₁, hck₁, hbytes₁, hml₁, hlk₁, hfl₁, hretk₁, htoy₁, htk₁, hlook₁, hready₁, hclsR₁, hitf₁, ho₁, hok₁, hlay₁, hflds₁, htys₁, hres₁⟩ := jl_made hF hkD₁ hnameD₁ (Lambda.isMade_warmer hW₁ hmade)
  have hfT₁ : vm₁.findClass "TracePeaks" = some mT.cls := by rw [hW₁.alike.findClass, ← hycls]; exact hfT
  cases htoy₁.symm.trans hfT₁
  have hsz₁ : ok₁.instanceTypes.size = 0 := by
    rw [hW₁.alike.findClass] at ho₁
    cases hfO.symm.trans ho₁
    obtain ⟨kO', hkO', eO⟩ := hW₁.alike.2.2 _ _ hkO
    cases hok₁.symm.trans hkO'
    rw [eO]
    exact hszO
  obtain ⟨f1, hf1, hf1s, hf1j⟩ := jl_field hF1 hsz₁ hkK₁ hlay₁ hflds₁ hres₁
  have hymh : yN.cls ≠ "java/lang/invoke/MethodHandle" ∧ yN.cls ≠ "java/lang/invoke/VarHandle" := by rw [hycls]; decide
  have ht₁ : t₁ = mT := by
    have h1 : (s.setVm vm₁).methodFound? yN.cls yN.name yN.desc = some mT := by rw [State.methodFound?_setVm hW₁.alike]; exact State.methodFound?_of_named hmT hymh
    rw [hy] at h1
    simp only [State.methodFound?, State.vm_setVm, hfT₁, htk₁, Option.bind_eq_bind, Option.bind_some] at h1
    rw [hlook₁] at h1
    exact Option.some.inj h1
  subst ht₁
  have hmethT₁ : vm₁.method? t₁ = some methT := by rw [hW₁.alike.method?]; exact hmethT
  obtain ⟨kT₁, hkT₁, heT₁⟩ := hW₁.alike.2.2 _ _ hkT
  cases htk₁.symm.trans hkT₁
  have hnm : tk₁.name ≠ "java/lang/invoke/MethodHandle" ∧ tk₁.name ≠ "java/lang/invoke/VarHandle" := by
    have : tk₁.name = yN.cls := by rw [heT₁]; exact hnameT
    rw [this]; exact hymh
  have hsp : ∀ y : Method, signaturePolymorphic tk₁ y = false := fun y => by simp [signaturePolymorphic, hnm.1, hnm.2]
  have hpk : (T.setVm vm₁).plainMethod ⟨cK, 1⟩ := State.plainMethod.of_name (fun k' hk' => by cases hkK₁.symm.trans hk'; rw [hkn₁]; decide)
  have hnamedV : ∀ U : State, U.vm = vm₁ → U.methodNamed? yN = some t₁ := fun U hU => by
    have hal : s.vm.Alike U.vm := by rw [hU]; exact hW₁.alike
    have := State.methodNamed?_setVm (s := s) hal yN
    rw [hmT] at this
    exact this
  have hmc0 : (jxR (p, e, R, s, m, args, below, meth, cd)) = R := rfl
  rw [hmc0] at hc hs
  obtain ⟨T', L, X', hT', hL, hsteps⟩ := jl_call X₁ h1 (g := F0 m pc ls rest) rfl (hls.trans h3.symm) (by rw [h2]; exact d) (mk := ⟨cK, 1⟩) (a := #[.ref A, .int a, .int b, .int c]) (R' := { frames := rmY.frames + 1, cells := 0, slots := 0, locals := nY + 11 + rmY.locals }) hmk₁ hck₁ hlk₁ hpk hretk₁
    (by show rmY.frames + 1 + 1 ≤ R.frames; omega) (by rw [hml₁]; show 2 * 0 + (rest.map fun v => v.category).sum + (4 + 11) + (nY + 11 + rmY.locals) ≤ R.locals; omega) hc hs (free := j_fr g) (r := r) (pc1 := 10) (ls1 := #[.val (.ref A), .val (.int a), .val (.int b), .val (.int c)]) (by rw [hbytes₁]; exact jd_B310)
    (PH := fun H => j_R g B w1 H) (fun U hUv hUh Y => by
      have hUv' : U.vm = vm₁ := hUv
      have hUh' : U.heap = H := hUh.trans hT
      have hWU : s.WarmedH U.vm := by rw [hUv']; exact hW₁
      have hWc : s.WarmedH ((T.setVm vm₁).calling (F0 m pc ls rest) ⟨cK, 1⟩ #[.ref A, .int a, .int b, .int c]).vm := hW₁
      have hws := pay_in h5 (lw_meth hcode)
      obtain ⟨v, B', Y₁, hpost, hst2⟩ := jl_bodyB3 Y h1 hbytes₁ hml₁ (hcellK := by rw [hUh']; exact hcell) (hknown := by rw [hvmc]; intro z; cases z) (hf1 := by rw [hUv']; exact hf1) (hf1s := hf1s) (hslot1 := by rw [hf1j]; exact hslot1) (t := t₁) (kt := tk₁) (metht := methT) (cellB := cellB) (hnames := ⟨kK₁, file₁, _, _, t₁.cls, tk₁, by rw [hUv']; exact hkK₁, hfile₁, by rw [hpool₁]; exact hF.2.2.2.2.1.1, by rw [hUv']; exact hclsR₁, by rw [hUv']; exact htk₁, hitf₁⟩) (hready := by rw [hUv']; exact hready₁) (hkt := by rw [hUv']; exact htk₁) (hmt := by rw [hUv']; exact hmethT₁) (hpoly := hsp _) (hstatic := hstaticT) (hpar := by rw [hsigTI]; rfl) (hcellB := by rw [hUh']; exact gB1) (hobjB := fun k z => by rw [gB3] at z; cases z) (hsel := by rw [hUv']; exact selectMethod_private hmethT₁ hprT) (habs := habsT) (hitf := hitf₁) (hnamed := hnamedV U hUv')
        (hK := (back_of (W := 0) (len := 3) hM j_Pc_blind rfl rfl (by show rmY.frames + 1 ≤ rmY.frames + 1; omega) (by show 0 + (nY + 11) + rmY.locals ≤ nY + 11 + rmY.locals; omega) (fun w hw a' V hV => hws w hw a' V (State.WarmedH.trans hWc hV)) List.mem_cons_self (fun a' V hV => pay_in h5 (ws := [Cond.initialized yN.cls]) (fun w hw => by cases List.mem_singleton.mp hw; exact lw_self _ hini) _ List.mem_cons_self a' V (State.WarmedH.trans hWc hV))))
        (hpre := ⟨by rw [hrc.1]; exact Nat.zero_le _, by rw [hrc.2]; exact Nat.zero_le _, rfl, by show j_R g B w U.heap; rw [hUh']; exact hR, j_K_moved hWU hK⟩)
      obtain ⟨g9, mk9, t9, L9, e1, e2, hq9, q1, hL9, q2, q3⟩ := hpost
      obtain ⟨hv9, hR9⟩ := hq9
      cases hv9
      refine ⟨B'.U, B'.locs, ?_, by show j_R g B w1 B'.U.heap; rw [e1]; exact hR9, fun q hq' => hL9 q (by
        rw [q1] at hq'
        rcases List.mem_append.mp hq' with z | z
        · cases z
        · exact z), hst2⟩
      have z1 : B'.cells = 0 := by rw [q2, hrc.1]
      have z2 : B'.slots = 0 := by rw [q3, hrc.2]
      rw [z1, z2] at Y₁
      exact Y₁)
  obtain ⟨t2, a1, b1⟩ := kk T'.heap (locs ++ L) hT' (fun q hq0 => by
    rcases List.mem_append.mp hq0 with z | z
    · exact hq q z
    · exact hL q z) T' rfl X'
  exact ⟨t2, hstep₁ _ fun acts => (hsteps acts).trans a1, b1⟩
theorem j_lamB1 (hx : j_C cc nL own ret rm g x) {κ i i9 : Nat} (hi0 : js6 κ i = i9) {W0 : Jvm.Cond} (hmem : (κ, i9, W0) ∈ jlam) {xn : MethodName} {pcx idx : Nat} {σ : Lambda.Shape} (hW0 : W0 = .lambdaSite xn pcx idx σ) (hxn : xn.cls = "TracePeaks") (hF : jl_file σ jcB1 2 22 19 21 18) (h6 : jk0 κ = 6)
    {I : MethodName} (hIm : I ∈ jlif) (hI : σ.iface = I.cls ∧ σ.name = I.name ∧ σ.sam.toString = I.desc) (hIp : parseMethodDescriptor I.desc = some ⟨[.int], some .int⟩)
    {yN : MethodName} (hy : yN = ⟨"TracePeaks", σ.implName, σ.implDesc.toString⟩) (hyp : parseMethodDescriptor yN.desc = some ⟨[.int], some .int⟩) {cy : ByteArray} {nY : Nat} {rmY : Room} (hst : Cond.instanceMethod yN ∈ lw_all) (hpr : Cond.privateMethod yN ∈ jnl) (hini : Cond.initialized yN.cls ∈ lw_all) (hcode : Cond.code yN cy nY (some .int) ∈ lw_all)
    (hM : j_M g yN cy nY (some .int) rmY B [.ref (B.1 0 0), .int a] w w1 (jri r)) (hrc : rmY.cells = 0 ∧ rmY.slots = 0)
    (a9 : B.2.1 0 0 ∧ B.2.2 0 0) (hs1 : jfs κ 0 = 3 ∧ jfk κ 0 = 0 ∧ jci κ i 0 = 0) (hn6 : jl6 κ i9 = 1) {nt1 : Nat} {ds1 : String} (hF1 : jl_fl σ 15 2 nt1 0 "arg$1" ds1) (ha : B.2.1 κ i ∧ B.2.2 κ i) (hl : Cond.methodLink own index I ∈ lw_all) (hRm : rmY.frames + 2 ≤ rm.frames ∧ 34 + nY + rmY.locals ≤ rm.locals) (hWs : (rest.map fun v => v.category).sum ≤ 8) (d : decode cc pc = .ok (.invokeinterface index 2, 5)) :
    j_Call g x nL B [.ref (B.1 κ i), .int a] w w1 pc (pc + 5) (.int a :: .ref (B.1 κ i) :: rest) rest 0 0 (jri r) := by
  intro H locs ls cells slots Q hls hR hq hc hs kk T hT X
  obtain ⟨p, e, R, s, m, args, below, meth, cd⟩ := x
  obtain ⟨h1, h2, h3, h4, h5, hK, -, -, h9⟩ := hx
  cases h9
  have hRm1 : rmY.frames + 2 ≤ R.frames := hRm.1
  have hRm2 : 34 + nY + rmY.locals ≤ R.locals := hRm.2
  have hj := (hK.2.2.2.2.2.2).2.2.1 _ hmem
  have hfi := (hK.2.2.2.2.2.2).2.2.2.1 I hIm
  rw [hW0] at hj
  obtain ⟨mD, kD, cfD, i0, p0, lk, hmD, hmc, hkD, -, -, -, hmade, hcan, -, -⟩ := hj
  obtain ⟨kD', hkD', hnameD⟩ := className_of_methodNamed hmD
  rw [hmc] at hkD'
  cases hkD.symm.trans hkD'
  rw [hxn] at hnameD
  obtain ⟨cell, hcell, hcls, hvmc, hsls⟩ := jl_cell h6 (hR.1 κ i ha.1)
  rw [hi0] at hcls hsls
  have hslot1 : cell.slots[0]? = some (.ref (B.1 0 0)) := by
    rw [hsls, arrV_read _ _ (by rw [hn6]; omega), jfv_r (by rw [hs1.1]; omega), (hR.2.2.2.2.2.2.2.1 κ i 0 ha.2 hs1.1).1, hs1.2.1, hs1.2.2]
    rfl
  obtain ⟨cellB, gB1, gB2, gB3, -⟩ := (hR.1 0 0 a9.1).obj rfl rfl
  clear hsls
  generalize hcK : jgM g κ i9 = cK at hmade hcan hcls
  generalize hA : B.1 κ i = A at hcell
  obtain ⟨kK, tk, ok, file, methk, ck, o, toy, t, lay, hkK, hkn, hfile, hpool, hmk, hck, hbytes, hml, hlk, hfl, hretk, htoy, htk, hlook, hready, hclsR, hitf, -⟩ := jl_made hF hkD hnameD hmade
  obtain ⟨r0, rI, hn, hrm, hstR, hsigR⟩ := Cond.declares_spec hfi.1
  obtain ⟨cL, kL, r1, hcL, hkL, hiL, hfoundL, hn1⟩ := Cond.interfaceMethod_spec hfi.2
  cases hn.symm.trans hn1
  have hr0cls : r0.cls = cL := Option.some.inj ((findClass_of_methodNamed hn).symm.trans hcL)
  obtain ⟨hnameR, hdescR⟩ := name_of_methodNamed hn hrm
  obtain ⟨-, -, -, -, -, -, -, iface', -, -, -, -, found, -, -, -, -, -, hi', -, -, -, -, -, -, hfound', -, -, -, -, -, -, -, -, -, -, hsel⟩ := Lambda.isMade_spec hmade
  rw [hI.1] at hi'
  cases hcL.symm.trans hi'
  rw [hI.2.1, hI.2.2] at hfound'
  have hfr : found = r0 := by
    have h1 : s.methodFound? I.cls I.name I.desc = some r0 := hfoundL
    simp only [State.methodFound?, hcL, hkL, hiL, Option.bind_eq_bind, Option.bind_some] at h1
    rw [hfound'] at h1
    exact Option.some.inj h1
  subst hfr
  obtain ⟨i2, hi2, hasg, hway⟩ := State.lambdaCallable_spec hcan
  rw [hI.1] at hi2
  cases hcL.symm.trans hi2
  rw [hI.2.1, hI.2.2] at hway
  have hsigI : rI.sig = ⟨[.int], some .int⟩ := (Option.some.inj (hIp.symm.trans hsigR)).symm
  have w_st := h5 _ hst
  have w_in := h5 _ hini
  have w_co := h5 _ hcode
  cases hmT : s.methodNamed? yN with
  | none => simp [Cond.before, Cond.holds, Cond.value, hmT] at w_co
  | some mT =>
  obtain ⟨methT, cT, hmethT, hcT, hbytesT, hlocT, hretT, hlocksT, -, hsigT⟩ := Cond.code_spec hmT w_co
  obtain ⟨mT2, methT2, e1T, e2T, hstaticT, habsT⟩ := Cond.instanceMethod_spec w_st
  cases hmT.symm.trans e1T
  cases hmethT.symm.trans e2T
  have hprT : methT.isPrivate = true := Cond.privateMethod_at (hK.2.2.1 _ hpr) mT methT hmT hmethT
  obtain ⟨cO, kO, hfO, hkO, -, -, -, hszO⟩ := Cond.instantiable_spec (h5 _ q2379)
  obtain ⟨kT, hkT, hnameT⟩ := className_of_methodNamed hmT
  have hfT : s.vm.findClass yN.cls = some mT.cls := findClass_of_methodNamed hmT
  have hinitK : kT.init = .initialized := Cond.initialized_spec hfT hkT w_in
  have hsigTI : methT.sig = ⟨[.int], some .int⟩ := (Option.some.inj (hyp.symm.trans hsigT)).symm
  have hycls : yN.cls = "TracePeaks" := by rw [hy]
  have hcell₁ : T.heap[A]? = some cell := by rw [hT]; exact hcell
  have hmhI := jlif_mh I hIm
  obtain ⟨vm₁, X₁, hstep₁⟩ := X.invokeinterface h1 h4 (h5 _ hl) hn hrm hstR (by rw [hr0cls]; exact hkL) hiL hmhI (a := A) (cell := cell) (kcell := kK) hcell₁ (fun z h => by rw [hvmc] at h; cases h) (by rw [hcls]; exact hkK) (by rw [hr0cls, hcls]; exact hasg)
    (m' := ⟨cK, 1⟩) (meth' := methk) (by rw [Launch.admits_selectMethod X.admits, hcls]; exact hsel) hmk (by rw [hnameR, hdescR, hcls]; exact hway) (by rw [hfl]; decide) (by simp [Method.isAbstract, hfl, hasFlag, Acc.abstract])
    (g := F0 m pc ls (.int a :: .ref A :: rest)) rfl (argsL := [.int a]) (rest := rest) (by rw [hsigI]; rfl) rfl (by rw [h2]; exact d)
  have hW₁ : s.WarmedH vm₁ := X₁.warmed
  obtain ⟨kD₁, hkD₁, heD₁⟩ := hW₁.alike.2.2 _ _ hkD
  have hnameD₁ : kD₁.name = "TracePeaks" := by rw [heD₁]; exact hnameD
  obtain ⟨kK₁, tk₁, ok₁, file₁, methk₁, ck₁, o₁, toy₁, t₁, lay₁, hkK₁, hkn₁, hfile₁, hpool₁, hmk₁, hck₁, hbytes₁, hml₁, hlk₁, hfl₁, hretk₁, htoy₁, htk₁, hlook₁, hready₁, hclsR₁, hitf₁, ho₁, hok₁, hlay₁, hflds₁, htys₁, hres₁⟩ := jl_made hF hkD₁ hnameD₁ (Lambda.isMade_warmer hW₁ hmade)
  have hfT₁ : vm₁.findClass "TracePeaks" = some mT.cls := by rw [hW₁.alike.findClass, ← hycls]; exact hfT
  cases htoy₁.symm.trans hfT₁
  have hsz₁ : ok₁.instanceTypes.size = 0 := by
    rw [hW₁.alike.findClass] at ho₁
    cases hfO.symm.trans ho₁
    obtain ⟨kO', hkO', eO⟩ := hW₁.alike.2.2 _ _ hkO
    cases hok₁.symm.trans hkO'
    rw [eO]
    exact hszO
  obtain ⟨f1, hf1, hf1s, hf1j⟩ := jl_field hF1 hsz₁ hkK₁ hlay₁ hflds₁ hres₁
  have hymh : yN.cls ≠ "java/lang/invoke/MethodHandle" ∧ yN.cls ≠ "java/lang/invoke/VarHandle" := by rw [hycls]; decide
  have ht₁ : t₁ = mT := by
    have h1 : (s.setVm vm₁).methodFound? yN.cls yN.name yN.desc = some mT := by rw [State.methodFound?_setVm hW₁.alike]; exact State.methodFound?_of_named hmT hymh
    rw [hy] at h1
    simp only [State.methodFound?, State.vm_setVm, hfT₁, htk₁, Option.bind_eq_bind, Option.bind_some] at h1
    rw [hlook₁] at h1
    exact Option.some.inj h1
  subst ht₁
  have hmethT₁ : vm₁.method? t₁ = some methT := by rw [hW₁.alike.method?]; exact hmethT
  obtain ⟨kT₁, hkT₁, heT₁⟩ := hW₁.alike.2.2 _ _ hkT
  cases htk₁.symm.trans hkT₁
  have hnm : tk₁.name ≠ "java/lang/invoke/MethodHandle" ∧ tk₁.name ≠ "java/lang/invoke/VarHandle" := by
    have : tk₁.name = yN.cls := by rw [heT₁]; exact hnameT
    rw [this]; exact hymh
  have hsp : ∀ y : Method, signaturePolymorphic tk₁ y = false := fun y => by simp [signaturePolymorphic, hnm.1, hnm.2]
  have hpk : (T.setVm vm₁).plainMethod ⟨cK, 1⟩ := State.plainMethod.of_name (fun k' hk' => by cases hkK₁.symm.trans hk'; rw [hkn₁]; decide)
  have hnamedV : ∀ U : State, U.vm = vm₁ → U.methodNamed? yN = some t₁ := fun U hU => by
    have hal : s.vm.Alike U.vm := by rw [hU]; exact hW₁.alike
    have := State.methodNamed?_setVm (s := s) hal yN
    rw [hmT] at this
    exact this
  have hmc0 : (jxR (p, e, R, s, m, args, below, meth, cd)) = R := rfl
  rw [hmc0] at hc hs
  obtain ⟨T', L, X', hT', hL, hsteps⟩ := jl_call X₁ h1 (g := F0 m pc ls rest) rfl (hls.trans h3.symm) (by rw [h2]; exact d) (mk := ⟨cK, 1⟩) (a := #[.ref A, .int a]) (R' := { frames := rmY.frames + 1, cells := 0, slots := 0, locals := nY + 11 + rmY.locals }) hmk₁ hck₁ hlk₁ hpk hretk₁
    (by show rmY.frames + 1 + 1 ≤ R.frames; omega) (by rw [hml₁]; show 2 * 0 + (rest.map fun v => v.category).sum + (2 + 11) + (nY + 11 + rmY.locals) ≤ R.locals; omega) hc hs (free := j_fr g) (r := r) (pc1 := 8) (ls1 := #[.val (.ref A), .val (.int a)]) (by rw [hbytes₁]; exact jd_B18)
    (PH := fun H => j_R g B w1 H) (fun U hUv hUh Y => by
      have hUv' : U.vm = vm₁ := hUv
      have hUh' : U.heap = H := hUh.trans hT
      have hWU : s.WarmedH U.vm := by rw [hUv']; exact hW₁
      have hWc : s.WarmedH ((T.setVm vm₁).calling (F0 m pc ls rest) ⟨cK, 1⟩ #[.ref A, .int a]).vm := hW₁
      have hws := pay_in h5 (lw_meth hcode)
      obtain ⟨v, B', Y₁, hpost, hst2⟩ := jl_bodyB1 Y h1 hbytes₁ hml₁ (hcellK := by rw [hUh']; exact hcell) (hknown := by rw [hvmc]; intro z; cases z) (hf1 := by rw [hUv']; exact hf1) (hf1s := hf1s) (hslot1 := by rw [hf1j]; exact hslot1) (t := t₁) (kt := tk₁) (metht := methT) (cellB := cellB) (hnames := ⟨kK₁, file₁, _, _, t₁.cls, tk₁, by rw [hUv']; exact hkK₁, hfile₁, by rw [hpool₁]; exact hF.2.2.2.2.1.1, by rw [hUv']; exact hclsR₁, by rw [hUv']; exact htk₁, hitf₁⟩) (hready := by rw [hUv']; exact hready₁) (hkt := by rw [hUv']; exact htk₁) (hmt := by rw [hUv']; exact hmethT₁) (hpoly := hsp _) (hstatic := hstaticT) (hpar := by rw [hsigTI]; rfl) (hcellB := by rw [hUh']; exact gB1) (hobjB := fun k z => by rw [gB3] at z; cases z) (hsel := by rw [hUv']; exact selectMethod_private hmethT₁ hprT) (habs := habsT) (hitf := hitf₁) (hnamed := hnamedV U hUv')
        (hK := (back_of (W := 0) (len := 3) hM j_Pc_blind rfl rfl (by show rmY.frames + 1 ≤ rmY.frames + 1; omega) (by show 0 + (nY + 11) + rmY.locals ≤ nY + 11 + rmY.locals; omega) (fun w hw a' V hV => hws w hw a' V (State.WarmedH.trans hWc hV)) List.mem_cons_self (fun a' V hV => pay_in h5 (ws := [Cond.initialized yN.cls]) (fun w hw => by cases List.mem_singleton.mp hw; exact lw_self _ hini) _ List.mem_cons_self a' V (State.WarmedH.trans hWc hV))))
        (hpre := ⟨by rw [hrc.1]; exact Nat.zero_le _, by rw [hrc.2]; exact Nat.zero_le _, rfl, by show j_R g B w U.heap; rw [hUh']; exact hR, j_K_moved hWU hK⟩)
      obtain ⟨g9, mk9, t9, L9, e1, e2, hq9, q1, hL9, q2, q3⟩ := hpost
      obtain ⟨hv9, hR9⟩ := hq9
      cases hv9
      refine ⟨B'.U, B'.locs, ?_, by show j_R g B w1 B'.U.heap; rw [e1]; exact hR9, fun q hq' => hL9 q (by
        rw [q1] at hq'
        rcases List.mem_append.mp hq' with z | z
        · cases z
        · exact z), hst2⟩
      have z1 : B'.cells = 0 := by rw [q2, hrc.1]
      have z2 : B'.slots = 0 := by rw [q3, hrc.2]
      rw [z1, z2] at Y₁
      exact Y₁)
  obtain ⟨t2, a1, b1⟩ := kk T'.heap (locs ++ L) hT' (fun q hq0 => by
    rcases List.mem_append.mp hq0 with z | z
    · exact hq q z
    · exact hL q z) T' rfl X'
  exact ⟨t2, hstep₁ _ fun acts => (hsteps acts).trans a1, b1⟩
theorem j_lamL1 (hx : j_C cc nL own ret rm g x) {κ i i9 : Nat} (hi0 : js6 κ i = i9) {W0 : Jvm.Cond} (hmem : (κ, i9, W0) ∈ jlam) {xn : MethodName} {pcx idx : Nat} {σ : Lambda.Shape} (hW0 : W0 = .lambdaSite xn pcx idx σ) (hxn : xn.cls = "TracePeaks") (hF : jl_file σ jcL1 2 27 23 26 22) (h6 : jk0 κ = 6)
    {I : MethodName} (hIm : I ∈ jlif) (hI : σ.iface = I.cls ∧ σ.name = I.name ∧ σ.sam.toString = I.desc) (hIp : parseMethodDescriptor I.desc = some ⟨[.int], some .int⟩)
    {yN : MethodName} (hy : yN = ⟨"TracePeaks", σ.implName, σ.implDesc.toString⟩) (hyp : parseMethodDescriptor yN.desc = some ⟨[.int, .int], some .int⟩) {cy : ByteArray} {nY : Nat} {rmY : Room} (hst : Cond.instanceMethod yN ∈ lw_all) (hpr : Cond.privateMethod yN ∈ jnl) (hini : Cond.initialized yN.cls ∈ lw_all) (hcode : Cond.code yN cy nY (some .int) ∈ lw_all)
    (hM : j_M g yN cy nY (some .int) rmY B [.ref (B.1 0 0), .int (jgi w κ i 1), .int a] w w1 (jri r)) (hrc : rmY.cells = 0 ∧ rmY.slots = 0)
    (a9 : B.2.1 0 0 ∧ B.2.2 0 0) (hs1 : jfs κ 0 = 3 ∧ jfk κ 0 = 0 ∧ jci κ i 0 = 0) (hn6 : jl6 κ i9 = 2) (hs2 : jfs κ 1 = 0) {nt1 : Nat} {ds1 : String} (hF1 : jl_fl σ 17 2 nt1 0 "arg$1" ds1) {nt2 : Nat} {ds2 : String} (hF2 : jl_fl σ 19 2 nt2 1 "arg$2" ds2) (ha : B.2.1 κ i ∧ B.2.2 κ i) (hl : Cond.methodLink own index I ∈ lw_all) (hRm : rmY.frames + 2 ≤ rm.frames ∧ 34 + nY + rmY.locals ≤ rm.locals) (hWs : (rest.map fun v => v.category).sum ≤ 8) (d : decode cc pc = .ok (.invokeinterface index 2, 5)) :
    j_Call g x nL B [.ref (B.1 κ i), .int a] w w1 pc (pc + 5) (.int a :: .ref (B.1 κ i) :: rest) rest 0 0 (jri r) := by
  intro H locs ls cells slots Q hls hR hq hc hs kk T hT X
  obtain ⟨p, e, R, s, m, args, below, meth, cd⟩ := x
  obtain ⟨h1, h2, h3, h4, h5, hK, -, -, h9⟩ := hx
  cases h9
  have hRm1 : rmY.frames + 2 ≤ R.frames := hRm.1
  have hRm2 : 34 + nY + rmY.locals ≤ R.locals := hRm.2
  have hj := (hK.2.2.2.2.2.2).2.2.1 _ hmem
  have hfi := (hK.2.2.2.2.2.2).2.2.2.1 I hIm
  rw [hW0] at hj
  obtain ⟨mD, kD, cfD, i0, p0, lk, hmD, hmc, hkD, -, -, -, hmade, hcan, -, -⟩ := hj
  obtain ⟨kD', hkD', hnameD⟩ := className_of_methodNamed hmD
  rw [hmc] at hkD'
  cases hkD.symm.trans hkD'
  rw [hxn] at hnameD
  obtain ⟨cell, hcell, hcls, hvmc, hsls⟩ := jl_cell h6 (hR.1 κ i ha.1)
  rw [hi0] at hcls hsls
  have hslot1 : cell.slots[0]? = some (.ref (B.1 0 0)) := by
    rw [hsls, arrV_read _ _ (by rw [hn6]; omega), jfv_r (by rw [hs1.1]; omega), (hR.2.2.2.2.2.2.2.1 κ i 0 ha.2 hs1.1).1, hs1.2.1, hs1.2.2]
    rfl
  have hslot2 : cell.slots[1]? = some (.int (jgi w κ i 1)) := by
    rw [hsls, arrV_read _ _ (by rw [hn6]; omega), jfv_i hs2]
  obtain ⟨cellB, gB1, gB2, gB3, -⟩ := (hR.1 0 0 a9.1).obj rfl rfl
  clear hsls
  generalize hcK : jgM g κ i9 = cK at hmade hcan hcls
  generalize hA : B.1 κ i = A at hcell
  obtain ⟨kK, tk, ok, file, methk, ck, o, toy, t, lay, hkK, hkn, hfile, hpool, hmk, hck, hbytes, hml, hlk, hfl, hretk, htoy, htk, hlook, hready, hclsR, hitf, -⟩ := jl_made hF hkD hnameD hmade
  obtain ⟨r0, rI, hn, hrm, hstR, hsigR⟩ := Cond.declares_spec hfi.1
  obtain ⟨cL, kL, r1, hcL, hkL, hiL, hfoundL, hn1⟩ := Cond.interfaceMethod_spec hfi.2
  cases hn.symm.trans hn1
  have hr0cls : r0.cls = cL := Option.some.inj ((findClass_of_methodNamed hn).symm.trans hcL)
  obtain ⟨hnameR, hdescR⟩ := name_of_methodNamed hn hrm
  obtain ⟨-, -, -, -, -, -, -, iface', -, -, -, -, found, -, -, -, -, -, hi', -, -, -, -, -, -, hfound', -, -, -, -, -, -, -, -, -, -, hsel⟩ := Lambda.isMade_spec hmade
  rw [hI.1] at hi'
  cases hcL.symm.trans hi'
  rw [hI.2.1, hI.2.2] at hfound'
  have hfr : found = r0 := by
    have h1 : s.methodFound? I.cls I.name I.desc = some r0 := hfoundL
    simp only [State.methodFound?, hcL, hkL, hiL, Option.bind_eq_bind, Option.bind_some] at h1
    rw [hfound'] at h1
    exact Option.some.inj h1
  subst hfr
  obtain ⟨i2, hi2, hasg, hway⟩ := State.lambdaCallable_spec hcan
  rw [hI.1] at hi2
  cases hcL.symm.trans hi2
  rw [hI.2.1, hI.2.2] at hway
  have hsigI : rI.sig = ⟨[.int], some .int⟩ := (Option.some.inj (hIp.symm.trans hsigR)).symm
  have w_st := h5 _ hst
  have w_in := h5 _ hini
  have w_co := h5 _ hcode
  cases hmT : s.methodNamed? yN with
  | none => simp [Cond.before, Cond.holds, Cond.value, hmT] at w_co
  | some mT =>
  obtain ⟨methT, cT, hmethT, hcT, hbytesT, hlocT, hretT, hlocksT, -, hsigT⟩ := Cond.code_spec hmT w_co
  obtain ⟨mT2, methT2, e1T, e2T, hstaticT, habsT⟩ := Cond.instanceMethod_spec w_st
  cases hmT.symm.trans e1T
  cases hmethT.symm.trans e2T
  have hprT : methT.isPrivate = true := Cond.privateMethod_at (hK.2.2.1 _ hpr) mT methT hmT hmethT
  obtain ⟨cO, kO, hfO, hkO, -, -, -, hszO⟩ := Cond.instantiable_spec (h5 _ q2379)
  obtain ⟨kT, hkT, hnameT⟩ := className_of_methodNamed hmT
  have hfT : s.vm.findClass yN.cls = some mT.cls := findClass_of_methodNamed hmT
  have hinitK : kT.init = .initialized := Cond.initialized_spec hfT hkT w_in
  have hsigTI : methT.sig = ⟨[.int, .int], some .int⟩ := (Option.some.inj (hyp.symm.trans hsigT)).symm
  have hycls : yN.cls = "TracePeaks" := by rw [hy]
  have hcell₁ : T.heap[A]? = some cell := by rw [hT]; exact hcell
  have hmhI := jlif_mh I hIm
  obtain ⟨vm₁, X₁, hstep₁⟩ := X.invokeinterface h1 h4 (h5 _ hl) hn hrm hstR (by rw [hr0cls]; exact hkL) hiL hmhI (a := A) (cell := cell) (kcell := kK) hcell₁ (fun z h => by rw [hvmc] at h; cases h) (by rw [hcls]; exact hkK) (by rw [hr0cls, hcls]; exact hasg)
    (m' := ⟨cK, 1⟩) (meth' := methk) (by rw [Launch.admits_selectMethod X.admits, hcls]; exact hsel) hmk (by rw [hnameR, hdescR, hcls]; exact hway) (by rw [hfl]; decide) (by simp [Method.isAbstract, hfl, hasFlag, Acc.abstract])
    (g := F0 m pc ls (.int a :: .ref A :: rest)) rfl (argsL := [.int a]) (rest := rest) (by rw [hsigI]; rfl) rfl (by rw [h2]; exact d)
  have hW₁ : s.WarmedH vm₁ := X₁.warmed
  obtain ⟨kD₁, hkD₁, heD₁⟩ := hW₁.alike.2.2 _ _ hkD
  have hnameD₁ : kD₁.name = "TracePeaks" := by rw [heD₁]; exact hnameD
  obtain ⟨kK₁, tk₁, ok₁, file₁, methk₁, ck₁, o₁, toy₁, t₁, lay₁, hkK₁, hkn₁, hfile₁, hpool₁, hmk₁, hck₁, hbytes₁, hml₁, hlk₁, hfl₁, hretk₁, htoy₁, htk₁, hlook₁, hready₁, hclsR₁, hitf₁, ho₁, hok₁, hlay₁, hflds₁, htys₁, hres₁⟩ := jl_made hF hkD₁ hnameD₁ (Lambda.isMade_warmer hW₁ hmade)
  have hfT₁ : vm₁.findClass "TracePeaks" = some mT.cls := by rw [hW₁.alike.findClass, ← hycls]; exact hfT
  cases htoy₁.symm.trans hfT₁
  have hsz₁ : ok₁.instanceTypes.size = 0 := by
    rw [hW₁.alike.findClass] at ho₁
    cases hfO.symm.trans ho₁
    obtain ⟨kO', hkO', eO⟩ := hW₁.alike.2.2 _ _ hkO
    cases hok₁.symm.trans hkO'
    rw [eO]
    exact hszO
  obtain ⟨f1, hf1, hf1s, hf1j⟩ := jl_field hF1 hsz₁ hkK₁ hlay₁ hflds₁ hres₁
  obtain ⟨f2, hf2, hf2s, hf2j⟩ := jl_field hF2 hsz₁ hkK₁ hlay₁ hflds₁ hres₁
  have hymh : yN.cls ≠ "java/lang/invoke/MethodHandle" ∧ yN.cls ≠ "java/lang/invoke/VarHandle" := by rw [hycls]; decide
  have ht₁ : t₁ = mT := by
    have h1 : (s.setVm vm₁).methodFound? yN.cls yN.name yN.desc = some mT := by rw [State.methodFound?_setVm hW₁.alike]; exact State.methodFound?_of_named hmT hymh
    rw [hy] at h1
    simp only [State.methodFound?, State.vm_setVm, hfT₁, htk₁, Option.bind_eq_bind, Option.bind_some] at h1
    rw [hlook₁] at h1
    exact Option.some.inj h1
  subst ht₁
  have hmethT₁ : vm₁.method? t₁ = some methT := by rw [hW₁.alike.method?]; exact hmethT
  obtain ⟨kT₁, hkT₁, heT₁⟩ := hW₁.alike.2.2 _ _ hkT
  cases htk₁.symm.trans hkT₁
  have hnm : tk₁.name ≠ "java/lang/invoke/MethodHandle" ∧ tk₁.name ≠ "java/lang/invoke/VarHandle" := by
    have : tk₁.name = yN.cls := by rw [heT₁]; exact hnameT
    rw [this]; exact hymh
  have hsp : ∀ y : Method, signaturePolymorphic tk₁ y = false := fun y => by simp [signaturePolymorphic, hnm.1, hnm.2]
  have hpk : (T.setVm vm₁).plainMethod ⟨cK, 1⟩ := State.plainMethod.of_name (fun k' hk' => by cases hkK₁.symm.trans hk'; rw [hkn₁]; decide)
  have hnamedV : ∀ U : State, U.vm = vm₁ → U.methodNamed? yN = some t₁ := fun U hU => by
    have hal : s.vm.Alike U.vm := by rw [hU]; exact hW₁.alike
    have := State.methodNamed?_setVm (s := s) hal yN
    rw [hmT] at this
    exact this
  have hmc0 : (jxR (p, e, R, s, m, args, below, meth, cd)) = R := rfl
  rw [hmc0] at hc hs
  obtain ⟨T', L, X', hT', hL, hsteps⟩ := jl_call X₁ h1 (g := F0 m pc ls rest) rfl (hls.trans h3.symm) (by rw [h2]; exact d) (mk := ⟨cK, 1⟩) (a := #[.ref A, .int a]) (R' := { frames := rmY.frames + 1, cells := 0, slots := 0, locals := nY + 11 + rmY.locals }) hmk₁ hck₁ hlk₁ hpk hretk₁
    (by show rmY.frames + 1 + 1 ≤ R.frames; omega) (by rw [hml₁]; show 2 * 0 + (rest.map fun v => v.category).sum + (2 + 11) + (nY + 11 + rmY.locals) ≤ R.locals; omega) hc hs (free := j_fr g) (r := r) (pc1 := 12) (ls1 := #[.val (.ref A), .val (.int a)]) (by rw [hbytes₁]; exact jd_L112)
    (PH := fun H => j_R g B w1 H) (fun U hUv hUh Y => by
      have hUv' : U.vm = vm₁ := hUv
      have hUh' : U.heap = H := hUh.trans hT
      have hWU : s.WarmedH U.vm := by rw [hUv']; exact hW₁
      have hWc : s.WarmedH ((T.setVm vm₁).calling (F0 m pc ls rest) ⟨cK, 1⟩ #[.ref A, .int a]).vm := hW₁
      have hws := pay_in h5 (lw_meth hcode)
      obtain ⟨v, B', Y₁, hpost, hst2⟩ := jl_bodyL1 Y h1 hbytes₁ hml₁ (hcellK := by rw [hUh']; exact hcell) (hknown := by rw [hvmc]; intro z; cases z) (hf1 := by rw [hUv']; exact hf1) (hf1s := hf1s) (hslot1 := by rw [hf1j]; exact hslot1) (hf2 := by rw [hUv']; exact hf2) (hf2s := hf2s) (hslot2 := by rw [hf2j]; exact hslot2) (t := t₁) (kt := tk₁) (metht := methT) (cellB := cellB) (hnames := ⟨kK₁, file₁, _, _, t₁.cls, tk₁, by rw [hUv']; exact hkK₁, hfile₁, by rw [hpool₁]; exact hF.2.2.2.2.1.1, by rw [hUv']; exact hclsR₁, by rw [hUv']; exact htk₁, hitf₁⟩) (hready := by rw [hUv']; exact hready₁) (hkt := by rw [hUv']; exact htk₁) (hmt := by rw [hUv']; exact hmethT₁) (hpoly := hsp _) (hstatic := hstaticT) (hpar := by rw [hsigTI]; rfl) (hcellB := by rw [hUh']; exact gB1) (hobjB := fun k z => by rw [gB3] at z; cases z) (hsel := by rw [hUv']; exact selectMethod_private hmethT₁ hprT) (habs := habsT) (hitf := hitf₁) (hnamed := hnamedV U hUv')
        (hK := (back_of (W := 0) (len := 3) hM j_Pc_blind rfl rfl (by show rmY.frames + 1 ≤ rmY.frames + 1; omega) (by show 0 + (nY + 11) + rmY.locals ≤ nY + 11 + rmY.locals; omega) (fun w hw a' V hV => hws w hw a' V (State.WarmedH.trans hWc hV)) List.mem_cons_self (fun a' V hV => pay_in h5 (ws := [Cond.initialized yN.cls]) (fun w hw => by cases List.mem_singleton.mp hw; exact lw_self _ hini) _ List.mem_cons_self a' V (State.WarmedH.trans hWc hV))))
        (hpre := ⟨by rw [hrc.1]; exact Nat.zero_le _, by rw [hrc.2]; exact Nat.zero_le _, rfl, by show j_R g B w U.heap; rw [hUh']; exact hR, j_K_moved hWU hK⟩)
      obtain ⟨g9, mk9, t9, L9, e1, e2, hq9, q1, hL9, q2, q3⟩ := hpost
      obtain ⟨hv9, hR9⟩ := hq9
      cases hv9
      refine ⟨B'.U, B'.locs, ?_, by show j_R g B w1 B'.U.heap; rw [e1]; exact hR9, fun q hq' => hL9 q (by
        rw [q1] at hq'
        rcases List.mem_append.mp hq' with z | z
        · cases z
        · exact z), hst2⟩
      have z1 : B'.cells = 0 := by rw [q2, hrc.1]
      have z2 : B'.slots = 0 := by rw [q3, hrc.2]
      rw [z1, z2] at Y₁
      exact Y₁)
  obtain ⟨t2, a1, b1⟩ := kk T'.heap (locs ++ L) hT' (fun q hq0 => by
    rcases List.mem_append.mp hq0 with z | z
    · exact hq q z
    · exact hL q z) T' rfl X'
  exact ⟨t2, hstep₁ _ fun acts => (hsteps acts).trans a1, b1⟩
end JLJ
