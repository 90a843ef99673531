/-! calls of the made classes' objects -/
theorem jd_S0 : decode ⟨jcS⟩ 0 = .ok (.iload_n 1, 1) := by decide +kernel
theorem jd_S1 : decode ⟨jcS⟩ 1 = .ok (.iload_n 2, 1) := by decide +kernel
theorem jd_S2 : decode ⟨jcS⟩ 2 = .ok (.iload_n 3, 1) := by decide +kernel
theorem jd_S3 : decode ⟨jcS⟩ 3 = .ok (.invokestatic 17, 3) := by decide +kernel
theorem jd_S6 : decode ⟨jcS⟩ 6 = .ok (.ireturn, 1) := by decide +kernel
section JLC
variable {p : Program} {l : Launch} {e : Env} {R : Room} {s : State} {m : MethodId} {args : Array Value} {below : List Frame} {meth : Method} {c : Code} {T : State} {locs : List Loc} {cells slots : Nat}
/-- the run inside a made class's method, put into the caller's -/
theorem jl_call (X : Stand p l e R s m args below meth c T locs cells slots) (hexec : p.tables.exec = Jvm.exec) {g : JFrame} (hg : g.method = m) (hsize : g.locals.size = c.maxLocals) {ig : Instr} {len : Nat} (hdg : decode c.code g.pc = .ok (ig, len))
    {mk : MethodId} {methk : Method} {ck : Code} {a : Array Value} {R' : Room} (hmk : T.vm.method? mk = some methk) (hck : methk.code = some ck) (hlk : methk.locks = false) (hpk : T.plainMethod mk) (hretk : methk.sig.returnType = some .int)
    (hframes : R'.frames + 1 ≤ R.frames) (hlocals : 2 * g.monitorRoom + (g.stack.map fun v => v.category).sum + (ck.maxLocals + 11) + R'.locals ≤ R.locals) (hcells : cells + R'.cells ≤ R.cells) (hslots : slots + R'.slots ≤ R.slots)
    {PH : Heap → Prop} {r : Int32} {free : Addr → Prop} {pc1 : Nat} {ls1 : Array Slot} (hpc : decode ck.code pc1 = .ok (.ireturn, 1))
    (body : ∀ U : State, U.vm = T.vm → U.heap = T.heap → Stand p l e R' (T.calling g mk a) mk a (.java g :: below) methk ck U [] 0 0 → ∃ (V : State) (L : List Loc), Stand p l e R' (T.calling g mk a) mk a (.java g :: below) methk ck V L 0 0 ∧ PH V.heap ∧ (∀ q ∈ L, free q.base) ∧
      Steps p.tables e (.java g :: below) (U.setTop (entryFrame mk a ck.maxLocals)) (V.setTop { method := mk, pc := pc1, locals := ls1, stack := [.int r], locked := none })) :
    ∃ (T' : State) (L : List Loc), Stand p l e R s m args below meth c T' (locs ++ L) cells slots ∧ PH T'.heap ∧ (∀ q ∈ L, free q.base) ∧ ∀ acts, Steps p.tables e below (doInvoke e (T.setTop g) acts mk a).1 (T'.setTop { g with pc := g.pc + len, stack := .int r :: g.stack }) := by
  obtain ⟨Y₀, hin⟩ := X.into hg hsize hdg a (R' := R') hmk hck hlk hpk hframes hlocals hcells hslots
  generalize hU : (T.setTop g).pushFrame (.java (entryFrame mk a ck.maxLocals)) = U at Y₀ hin
  have hvm : U.vm = T.vm := by rw [← hU]; rfl
  have hheap : U.heap = T.heap := by rw [← hU]; rfl
  obtain ⟨V, L, Y₁, hV, hL, hst⟩ := body U hvm hheap Y₀
  obtain ⟨fs, hleave, -, hended, hWe, hsame⟩ := Y₁.leave (v := some (.int r)) (fun h => by rw [hretk] at h; cases h) hlk
  obtain ⟨T', X', hW', -, ht⟩ := X.outOf hg hdg hended hWe hsame
  refine ⟨T', L, X', ?_, hL, fun acts => ?_⟩
  · have := congrArg State.heap ht
    have e9 : V.heap = T'.heap := this
    rw [← e9]
    exact hV
  · rw [hin acts]
    show Steps p.tables e below _ (T'.setTop { g with pc := g.pc + len, stack := (some (Value.int r)).toList ++ g.stack })
    rw [← ht]
    refine Steps.weaken (mid := [.java g]) ?_
    refine Steps.trans hst ?_
    have hs : V.topJava?.isSome := Y₁.here.top
    jvm_step Y₁.here [hs, hexec, hpc, (show V.vm.method? mk = some methk from Y₁.method'), hretk, narrow]
    intro acts''
    rw [hleave { method := mk, pc := pc1, locals := ls1, stack := [], locked := none } acts'' rfl rfl rfl]
    exact Steps.refl _
/-- a static target of three numbers -/
theorem jl_bodyS {R' : Room} {s' : State} {mk : MethodId} {o : Addr} {x y z : Int32} {bel : List Frame} {methk : Method} {ck : Code} {U : State} (Y : Stand p l e R' s' mk #[.ref o, .int x, .int y, .int z] bel methk ck U [] 0 0) (hexec : p.tables.exec = Jvm.exec) (hbytes : ck.code = ⟨jcS⟩) (hml : ck.maxLocals = 4)
    {t : MethodId} {kt : Class} {metht : Method} (href : plainRef U e mk.cls 17) (hready : U.vm.methodReady mk.cls 17 t) (hkt : U.vm.classes[t.cls]? = some kt) (hmt : U.vm.method? t = some metht)
    (hpoly : signaturePolymorphic kt metht = false) (hstatic : metht.isStatic = true) (hinit : kt.init = .initialized) (hpar : metht.sig.parameters.length = 3)
    {yN : MethodName} (hnamed : U.methodNamed? yN = some t) {Pre : Pt → Array Value → Prop} {Post : Pt → Array Value → Option Value → Pt → Prop} (hK : Back l R' p e bel s' #[.ref o, .int x, .int y, .int z] yN 3 0 Pre Post) (hpre : Pre ⟨U, [], 0, 0⟩ #[.int x, .int y, .int z]) :
    ∃ (v : Option Value) (B' : Pt), Stand p l e R' s' mk #[.ref o, .int x, .int y, .int z] bel methk ck B'.U B'.locs B'.cells B'.slots ∧ Post ⟨U, [], 0, 0⟩ #[.int x, .int y, .int z] v B' ∧
      Steps p.tables e bel (U.setTop (entryFrame mk #[.ref o, .int x, .int y, .int z] ck.maxLocals)) (B'.U.setTop { method := mk, pc := 6, locals := #[.val (.ref o), .val (.int x), .val (.int y), .val (.int z)], stack := v.toList, locked := none }) := by
  obtain ⟨v, B', Y₁, hpost, hsteps⟩ := hK mk methk ck ⟨U, [], 0, 0⟩ { method := mk, pc := 3, locals := #[.val (.ref o), .val (.int x), .val (.int y), .val (.int z)], stack := [], locked := none } (.invokestatic 17) t #[.int x, .int y, .int z] Y rfl (by rw [hml]; rfl) (by rw [hbytes]; exact jd_S3) (by show 2 * 0 + 0 ≤ 0; omega) hnamed hpre
  refine ⟨v, B', Y₁, hpost, ?_⟩
  have hloc : entryFrame mk #[.ref o, .int x, .int y, .int z] ck.maxLocals = { method := mk, pc := 0, locals := #[.val (.ref o), .val (.int x), .val (.int y), .val (.int z)], stack := [], locked := none } := by rw [hml]; rfl
  rw [hloc]
  have hs : U.topJava?.isSome := Y.here.top
  jvm_step Y.here [hexec, hbytes, jd_S0]
  jvm_step Y.here [hexec, hbytes, jd_S1]
  jvm_step Y.here [hexec, hbytes, jd_S2]
  jvm_step Y.here [hexec, hbytes, jd_S3, invokestatic.wp_ready (e := e) (s := U) (m := t) (k := kt) (meth := metht) (args := [.int x, .int y, .int z]) (rest := [])
    (f := { method := mk, pc := 3, locals := #[.val (.ref o), .val (.int x), .val (.int y), .val (.int z)], stack := [.int z, .int y, .int x], locked := none }) hs href hready hkt hmt hpoly hstatic hinit hpar.symm rfl]
  intro acts'
  rw [doInvoke_state]
  have e2 : (v.toList ++ ([] : List Value)) = v.toList := List.append_nil _
  have := hsteps
  rw [e2] at this
  exact this
end JLC
