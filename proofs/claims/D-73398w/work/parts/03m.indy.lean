/-! where lambdas are made -/
theorem jm_a {α : Type} {x : Option CpInfo} {f : Nat → Nat → Option α} {r : α} (h : Lambda.shapeOf?.match_19 (fun _ => Option α) x f (fun _ => none) = some r) : ∃ b nt, x = some (.invokeDynamic b nt) ∧ f b nt = some r := by
  split at h
  · exact ⟨_, _, rfl, h⟩
  · exact absurd h (by intro z; cases z)
theorem jm_b {α : Type} {x : Option CpInfo} {f : Nat → Option α} {r : α} (h : Lambda.shapeOf?.match_17 (fun _ => Option α) x f (fun _ => none) = some r) : ∃ y, f y = some r := by
  split at h
  · exact ⟨_, h⟩
  · exact absurd h (by intro z; cases z)
theorem jm_c {α : Type} {x : Array Nat} {f : Nat → Nat → Nat → Option α} {r : α} (h : Lambda.shapeOf?.match_15 (fun _ => Option α) x f (fun _ => none) = some r) : ∃ a b c, f a b c = some r := by
  obtain ⟨L⟩ := x
  rcases L with _ | ⟨a, _ | ⟨b, _ | ⟨c, _ | ⟨d, L⟩⟩⟩⟩
  · cases h
  · cases h
  · cases h
  · exact ⟨a, b, c, h⟩
  · cases h
theorem jm_d {α : Type} {x : Option CpInfo} {f : Nat → Option α} {r : α} (h : Lambda.shapeOf?.match_9 (fun _ => Option α) x f (fun _ => none) = some r) : ∃ y, f y = some r := by
  split at h
  · exact ⟨_, h⟩
  · exact absurd h (by intro z; cases z)
theorem jm_e {α : Type} {x : Option CpInfo} {f : Nat → Nat → Option α} {r : α} (h : Lambda.shapeOf?.match_12 (fun _ => Option α) x f (fun _ => none) = some r) : ∃ y z, f y z = some r := by
  split at h
  · exact ⟨_, _, h⟩
  · exact absurd h (by intro z; cases z)
theorem jm_f {α : Type} {x : Option FieldType} {f : String → Option α} {r : α} (h : Lambda.shapeOf?.match_6 (fun _ => Option α) x f (fun _ => none) = some r) : ∃ y, f y = some r := by
  split at h
  · exact ⟨_, h⟩
  · exact absurd h (by intro z; cases z)
theorem jl_site {cf : ClassFile} {index : Nat} {σ : Lambda.Shape} (h : Lambda.shapeOf? cf index = some σ) : ∃ (b nt : Nat) (desc : String) (site : MethodDescriptor), cf.constantPool[index]? = some (.invokeDynamic b nt) ∧ cf.constantPool.nameAndType? nt = some (σ.name, desc) ∧ parseMethodDescriptor desc = some site ∧ site.parameters = σ.captured := by
  unfold Lambda.shapeOf? at h
  obtain ⟨b, nt, hc, h⟩ := jm_a h
  obtain ⟨en, -, h⟩ := Option.bind_eq_some_iff.mp h
  obtain ⟨bm, -, h⟩ := Option.bind_eq_some_iff.mp h
  obtain ⟨r, h⟩ := jm_b h
  obtain ⟨u, -, h⟩ := Option.bind_eq_some_iff.mp h
  obtain ⟨a0, a1, a2, h⟩ := jm_c h
  obtain ⟨d0, h⟩ := jm_d h
  obtain ⟨kd, r1, h⟩ := jm_e h
  obtain ⟨d2, h⟩ := jm_d h
  obtain ⟨nd, hnt, h⟩ := Option.bind_eq_some_iff.mp h
  obtain ⟨site, hsite, h⟩ := Option.bind_eq_some_iff.mp h
  obtain ⟨ifc, h⟩ := jm_f h
  obtain ⟨im, -, h⟩ := Option.bind_eq_some_iff.mp h
  obtain ⟨x1, -, h⟩ := Option.bind_eq_some_iff.mp h
  obtain ⟨x2, -, h⟩ := Option.bind_eq_some_iff.mp h
  obtain ⟨x3, -, h⟩ := Option.bind_eq_some_iff.mp h
  obtain ⟨x4, -, h⟩ := Option.bind_eq_some_iff.mp h
  obtain ⟨x5, -, h⟩ := Option.bind_eq_some_iff.mp h
  cases h
  exact ⟨b, nt, nd.2, site, hc, hnt, hsite, rfl⟩
/-- a method that makes cells, and knows its own place in the tables -/
theorem j_metA2 {α : Type} {g : j_G} {y : MethodName} {cc : ByteArray} {nL : Nat} {ret : Option FieldType} {rm : Room} {B : j_B} {As : List Value} {w : j_St} {rv : α → j_B → Option Value} {PB : α → j_St → j_B → Prop} {o : Option (α × j_St)}
    (hy : plainName y.cls = true) (hn : (lg_sl As).length ≤ nL)
    (body : ∀ x : j_X, j_C cc nL y.cls ret rm g x → (jxM x).name = y.name → x.2.2.2.1.methodNamed? y = some x.2.2.2.2.1 → J g x nL B (j_QA g x B rm rv PB) 0 0 o 0 (lv_args 0 As) [] w) {r : α} {w' : j_St} (ho : o = some (r, w')) : j_MA g y cc nL ret rm B As w w' (rv r) (PB r w') := by
  refine Met.ofW (cc := cc) (maxL := nL) (ret := ret) hy rfl ?_
  intro p e s m args below meth c s₁ BL hml hv
  obtain ⟨rfl, hR, hK⟩ := hv
  have hts := atoms_spec (ws := ws_ y cc nL ret) BL.pre
  have hts : ∀ w ∈ lw_all, w.before _ s = true := fun w h => hts w (List.mem_cons_of_mem _ h)
  have hown : s.vm.findClass y.cls = some m.cls := findClass_of_methodNamed BL.named
  have k := body (p, e, rm, s, m, As.toArray, below, meth, c) ⟨BL.exec, BL.bytes, hml, hown, hts, hK, BL.notSynchronized, BL.returns, rfl⟩ (name_of_methodNamed BL.named BL.method).1 BL.named r w' ho s.heap [] _ (lv_entry As hn) hR (fun q h => by cases h)
  rw [lg_entry_eq]
  exact k
section JI
variable {α : Type} {g : j_G} {x : j_X} {cc : ByteArray} {nL : Nat} {own : String} {ret : Option FieldType} {rm : Room} {B : j_B} {Q : α → j_St → State → Prop} {cells slots : Nat} {o : Option (α × j_St)} {pc index : Nat} {lv : List (Nat × Value)} {st : List Value} {w : j_St}
/-- one that holds nothing -/
theorem J.indyC (hx : j_C cc nL own ret rm g x) {y : MethodName} (hnm : x.2.2.2.1.methodNamed? y = some x.2.2.2.2.1) {κ i : Nat} {W0 : Jvm.Cond} (hmem : (κ, i, W0) ∈ jlam) {σ : Lambda.Shape} (hW0 : W0 = .lambdaSite y pc index σ) (hcap : σ.captured = []) (hadd : B.1 κ i = jgM g (100 + κ) i) (hRm : 3080 ≤ rm.locals) (hW : (st.map fun v => v.category).sum ≤ 8) (d : decode cc pc = .ok (.invokedynamic index, 5))
    (k : J g x nL B Q cells slots o (pc + 5) lv (.ref (B.1 κ i) :: st) w) : J g x nL B Q cells slots o pc lv st w := by
  intro r w' ho H locs ls h hR hq T hT X
  have k := k r w' ho H locs ls h hR hq T hT
  obtain ⟨p, e, R, s, m, args, below, meth, cd⟩ := x
  obtain ⟨h1, h2, h3, h4, h5, hK, -, -, h9⟩ := hx
  cases h9
  have hRm1 : 3080 ≤ R.locals := hRm
  have hj := (hK.2.2.2.2.2.2).2.2.1 _ hmem
  rw [hW0] at hj
  obtain ⟨mD, kD, cfD, i0, p0, lk, hmD, hmc, hkD, -, -, hfind, -, -, hcn, -⟩ := hj
  cases hnm.symm.trans hmD
  have hl := hcn hcap
  subst hl
  obtain ⟨t2, a1, b1⟩ := k X
  rw [hadd] at a1
  refine ⟨t2, X.lambdaConstant h1 (g := F0 m pc ls st) rfl (h.1.trans h3.symm) (by rw [h2]; exact d) (by rw [hmc]; exact hkD) hfind (by rw [X.admits.platform]; show 2 * 0 + (st.map fun v => v.category).sum + 3072 ≤ R.locals; omega) a1, b1⟩
end JI
/-- a cell more, that holds something -/
theorem j_R.newf {g : j_G} {B : j_B} {w w2 : j_St} {H H' : Heap} {κ i : Nat} (hR : j_R g B w H) (hf : ¬ B.2.1 κ i) (hb : ¬ B.2.2 κ i) (hk : κ < 100) (hcnt : jcnt w κ i) (e2 : H'.size = H.size + 1) (e3 : ∀ q : Nat, q < H.size → H'[q]? = H[q]?) (hok : j_ok g (jbn B κ i H.size) w2 H' κ i) (eo : ∀ a b k, ¬ (a = κ ∧ b = i) → jgi w2 a b k = jgi w a b k ∧ jgl w2 a b k = jgl w a b k ∧ jgr w2 a b k = jgr w a b k) (en : ∀ a b, ¬ (a = κ ∧ b = i) → jgn w2 a b = jgn w a b) (er : ∀ k j, jgr w2 κ i k = some j → B.2.1 (jfk κ k) j ∧ (jfs κ k = 2 → B.2.2 (jfk κ k) j)) :
    j_R g (jbn B κ i H.size) w2 H' := by
  obtain ⟨r1, r2, r3, r4, r5, r6, r7, r8, r9, r10⟩ := hR
  have ne : ∀ a b, B.2.1 a b → ¬ (a = κ ∧ b = i) := fun a b h z => hf (by rw [← z.1, ← z.2]; exact h)
  have nr : ∀ a b k, ¬ (a = κ ∧ b = i) → jgr w2 a b k = jgr w a b k := fun a b k h => (eo a b k h).2.2
  have nn : ∀ a b, ¬ (a = κ ∧ b = i) → jgn w2 a b = jgn w a b := en
  have al : ∀ a b, (jbn B κ i H.size).2.1 a b → (a = κ ∧ b = i) ∨ B.2.1 a b := fun a b h => by
    rcases h with h | h
    · rw [Bool.and_eq_true, Nat.beq_eq, Nat.beq_eq] at h
      exact Or.inl h
    · exact Or.inr h
  have nv : ∀ a b, B.2.1 a b → jfv (jbn B κ i H.size).1 w2 a b = jfv B.1 w a b := fun a b h => by
    funext k
    have e1 : jgi w2 a b k = jgi w a b k := (eo a b k (ne a b h)).1
    have e2 : jgl w2 a b k = jgl w a b k := (eo a b k (ne a b h)).2.1
    unfold jfv
    rw [e1, e2, nr a b k (ne a b h)]
    cases hr : jgr w a b k with
    | none => rfl
    | some j =>
      have := ne _ _ (r6 a b k j h hr)
      simp only [Option.map_some]
      rw [jbn_ne B this]
  refine ⟨fun a b h => ?_, fun a b a' b' h h' e => ?_, fun a b h hro => ?_, by omega, fun q hq => ?_, fun a b k j h hj => ?_, fun a b k j h hj h2 => ?_, fun a b k h h3 => ?_, fun a b h => Or.inr (r9 a b h), fun a b h => ?_⟩
  · rcases al a b h with z | z
    · rw [z.1, z.2]; exact hok
    · have h1 := r1 a b z
      have hlt := h1.lt
      unfold j_ok at h1 ⊢
      unfold jln at h1 ⊢
      rw [nv a b z, nn a b (ne a b z), jbn_ne B (ne a b z)]
      split at h1
      · obtain ⟨r, g1, g2⟩ := h1
        exact ⟨r, g1, g2.kept (e3 _ hlt)⟩
      · rw [e3 _ hlt]; exact h1
      · rw [e3 _ hlt]; exact h1
      · rw [e3 _ hlt]; exact h1
      · rw [e3 _ hlt]; exact h1
  · rcases al a b h with z | z <;> rcases al a' b' h' with z' | z'
    · exact ⟨z.1.trans z'.1.symm, z.2.trans z'.2.symm⟩
    · rw [z.1, z.2, jbn_at, jbn_ne B (ne a' b' z')] at e
      have := (r1 a' b' z').lt
      omega
    · rw [z'.1, z'.2, jbn_at, jbn_ne B (ne a b z)] at e
      have := (r1 a b z).lt
      omega
    · rw [jbn_ne B (ne a b z), jbn_ne B (ne a' b' z')] at e
      exact r2 a b a' b' z z' e
  · rcases al a b h with z | z
    · rw [z.1, z.2, jbn_at]; exact r4
    · rw [jbn_ne B (ne a b z)]; exact r3 a b z hro
  · rw [e3 q (by omega)]; exact r5 q hq
  · rcases al a b h with z | z
    · obtain ⟨rfl, rfl⟩ := z
      exact Or.inr (er k j hj).1
    · rw [nr a b k (ne a b z)] at hj
      exact Or.inr (r6 a b k j z hj)
  · rcases al a b h with z | z
    · obtain ⟨rfl, rfl⟩ := z
      exact (er k j hj).2 h2
    · rw [nr a b k (ne a b z)] at hj
      exact r7 a b k j z hj h2
  · have z := r9 a b h
    rw [nr a b k (ne a b z)]
    exact r8 a b k h h3
  · refine jcnt_mono (w := w) (fun c hc => ?_) ?_
    · rw [nn c 0 (by omega)]; exact Nat.le_refl _
    · rcases al a b h with z | z
      · rw [z.1, z.2]; exact hcnt
      · exact r10 a b z
section JI2
variable {α : Type} {g : j_G} {x : j_X} {cc : ByteArray} {nL : Nat} {own : String} {ret : Option FieldType} {rm : Room} {B : j_B} {Q : α → j_St → State → Prop} {cells slots : Nat} {o : Option (α × j_St)} {pc index : Nat} {lv : List (Nat × Value)} {st : List Value} {w w2 : j_St}
/-- one that holds something -/
theorem J.indyM (hx : j_C cc nL own ret rm g x) {y : MethodName} (hnm : x.2.2.2.1.methodNamed? y = some x.2.2.2.2.1) (hycls : y.cls = "TracePeaks") {κ i i9 : Nat} (hi0 : js6 κ i = i9) {W0 : Jvm.Cond} (hmem : (κ, i9, W0) ∈ jlam) {σ : Lambda.Shape} (hW0 : W0 = .lambdaSite y pc index σ) (hcap : σ.captured ≠ []) (h6 : jk0 κ = 6)
    {T : Array FieldType} (hlay : ((σ.file "TracePeaks").bind (layoutFields · 0)).map (·.2.1) = some T) {vals : List Value} (hlen : vals.length = σ.captured.length) (hvals : ((T.toList.zip vals).map fun (t, v) => narrow t v) = vals) (hfit : ∀ (j : Nat) (v : Value), vals[j]? = some v → ∃ t, T[j]? = some t ∧ fits t v = true)
    (hf : ¬ B.2.1 κ i) (hb : ¬ B.2.2 κ i) (hk : κ < 100) (hcnt : jcnt w κ i)
    (eo : ∀ a b k, ¬ (a = κ ∧ b = i) → jgi w2 a b k = jgi w a b k ∧ jgl w2 a b k = jgl w a b k ∧ jgr w2 a b k = jgr w a b k) (en : ∀ a b, ¬ (a = κ ∧ b = i) → jgn w2 a b = jgn w a b) (er : ∀ k j, jgr w2 κ i k = some j → B.2.1 (jfk κ k) j ∧ (jfs κ k = 2 → B.2.2 (jfk κ k) j))
    (hv : ∀ q, ({ cls := jgM g κ i9, slots := vals.toArray, vm := .none } : Cell) = arrV (jgM g κ i9) (jl6 κ i9) (jfv (jbn B κ i q).1 w2 κ i))
    (hRm : 3080 ≤ rm.locals) (hcs : cells + 1 ≤ rm.cells ∧ slots + vals.length ≤ rm.slots) (hW : ((vals.reverse ++ st).map fun v => v.category).sum ≤ 8) (d : decode cc pc = .ok (.invokedynamic index, 5))
    (kk : ∀ q, J g x nL (jbn B κ i q) Q (cells + 1) (slots + vals.length) o (pc + 5) lv (.ref ((jbn B κ i q).1 κ i) :: st) w2) : J g x nL B Q cells slots o pc lv (vals.reverse ++ st) w := by
  intro r w' ho H locs ls h hR hq T0 hT X
  have k := fun (H' : Heap) (hR' : j_R g (jbn B κ i H.size) w2 H') => kk H.size r w' ho H' locs ls h hR' hq
  obtain ⟨p, e, R, s, m, args, below, meth, cd⟩ := x
  obtain ⟨h1, h2, h3, h4, h5, hK, -, -, h9⟩ := hx
  cases h9
  have hRm1 : 3080 ≤ R.locals := hRm
  have hcs1 : cells + 1 ≤ R.cells := hcs.1
  have hcs2 : slots + vals.length ≤ R.slots := hcs.2
  have hj := (hK.2.2.2.2.2.2).2.2.1 _ hmem
  rw [hW0] at hj
  obtain ⟨mD, kD, cfD, i0, p0, lk, hmD, hmc, hkD, hcf, hsh, hfind, hmade, -, -, hcm⟩ := hj
  cases hnm.symm.trans hmD
  have hl := hcm hcap
  subst hl
  obtain ⟨kD', hkD', hnameD⟩ := className_of_methodNamed hmD
  rw [hmc] at hkD'
  cases hkD.symm.trans hkD'
  rw [hycls] at hnameD
  obtain ⟨bsm, nt, desc, site, hc, hnt, hsite, hpar⟩ := jl_site hsh
  obtain ⟨cO, kO, hfO, hkO, -, -, -, hszO⟩ := Cond.instantiable_spec (h5 _ q2379)
  obtain ⟨dk', kK, ok, tk, file, cf, object, iface, t, lay, methods, target, found, z1, hkK, z3, z4, z5, z6, z7, z8, z9, z10, z11, z12, z13, ⟨z14, hkind, z15⟩, -, -, -, -, -, -, -, ⟨hty, -⟩, -⟩ := Lambda.isMade_spec hmade
  cases hkD.symm.trans z1
  cases hfO.symm.trans z5
  cases hkO.symm.trans z7
  have hemp : kO.instanceTypes = #[] := Array.eq_empty_of_size_eq_zero hszO
  rw [hszO] at z8
  rw [hnameD] at z4
  rw [z4] at hlay
  simp only [Option.bind_some, z8, Option.map_some, Option.some.injEq] at hlay
  have htyK : kK.instanceTypes = T := by rw [hty, hemp, hlay]; simp
  have hslotsE : ((kK.instanceTypes.toList.zip vals).map fun (t, v) => narrow t v) = vals := by rw [htyK]; exact hvals
  have hkK' : s.vm.classes[jgM g κ i9]? = some kK := hkK
  obtain ⟨X₁, st1⟩ := X.lambdaMakes h1 (g := F0 m pc ls (vals.reverse ++ st)) rfl (h.1.trans h3.symm) (by rw [h2]; exact d) (vals := vals) (rest := st) (cK := jgM g κ i9) (by rw [hmc]; exact hkD) hfind hcf hc hnt (parseLong_of_parse hsite) (by rw [hpar]; exact hlen) rfl hkK'
    (by rw [X.admits.platform]; show 2 * 0 + ((vals.reverse ++ st).map fun v => v.category).sum + 3072 ≤ R.locals; omega) hcs1 (by rw [hslotsE]; exact hcs2)
    (fun j v hjv => by
      rw [hslotsE] at hjv
      obtain ⟨ty, g1, g2⟩ := hfit j v (by simpa using hjv)
      have g1' : kK.instanceTypes[j]? = some ty := by rw [htyK]; exact g1
      simp [State.fitsSlot, State.slotType?, hkK', hkind, g1', g2])
  rw [hslotsE] at X₁ st1
  have hH : (T0.pushCell { cls := jgM g κ i9, slots := vals.toArray, vm := .none }).heap = H.push ({ cls := jgM g κ i9, slots := vals.toArray, vm := .none } : Cell) := by rw [← hT]; rfl
  have hR' : j_R g (jbn B κ i H.size) w2 (T0.pushCell { cls := jgM g κ i9, slots := vals.toArray, vm := .none }).heap := by
    rw [hH]
    refine hR.newf hf hb hk hcnt (by rw [Array.size_push]) (fun q hq => by rw [Array.getElem?_push, if_neg (Nat.ne_of_lt hq)]) ?_ eo en er
    unfold j_ok
    rw [h6, hi0]
    refine ⟨_, (show (H.push _)[(jbn B κ i H.size).1 κ i]? = _ by rw [jbn_at, Array.getElem?_push_size]), rfl, rfl, ?_⟩
    exact congrArg Cell.slots (hv H.size)
  obtain ⟨t2, a1, b1⟩ := k _ hR' _ rfl (by
    have e9 : vals.toArray.size = vals.length := by simp
    rw [e9] at X₁
    exact X₁)
  rw [jbn_at] at a1
  refine ⟨t2, st1 t2 ?_, b1⟩
  rw [hT]
  exact a1
end JI2
