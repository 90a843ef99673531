/-! the classes made for the lambdas: what their files hold -/
def jsh0 : Lambda.Shape := { iface := "", name := "", sam := ⟨[], none⟩, captured := [], kind := 0, implClass := "", implName := "", implDesc := ⟨[], none⟩, implItf := false, inst := ⟨[], none⟩ }
def jsh (w : Jvm.Cond) : Lambda.Shape := match w with
  | .lambdaSite _ _ _ σ => σ
  | _ => jsh0
def jlD (σ : Lambda.Shape) : ClassFile := (σ.file "TracePeaks").getD { minorVersion := 0, majorVersion := 0, constantPool := #[], accessFlags := 0, thisClass := 0, superClass := 0, interfaces := #[], fields := #[], methods := #[], attributes := #[] }
def jlF (σ : Lambda.Shape) : Method := ((layoutMethods (jlD σ)).bind (·[1]?)).getD default
def jl_file (σ : Lambda.Shape) (bytes : Array UInt8) (nL mi ci nt cn : Nat) : Prop :=
  (σ.file "TracePeaks").isSome = true ∧ ((layoutMethods (jlD σ)).bind (·[1]?)).isSome = true ∧ ((jlF σ).code.map fun c => (c.code.data, c.maxLocals)) = some (bytes, nL) ∧ ((jlF σ).accessFlags, (jlF σ).sig.returnType) = (0x0001, some FieldType.int) ∧
  ((jlD σ).constantPool[mi]? = some (.methodref ci nt) ∧ (jlD σ).constantPool.className? ci = some "TracePeaks" ∧ (jlD σ).constantPool.nameAndType? nt = some (σ.implName, σ.implDesc.toString)) ∧
  ((jlD σ).constantPool[ci]? = some (.class_ cn) ∧ (jlD σ).constantPool.string? cn = some "TracePeaks" ∧ ci ≠ (jlD σ).thisClass) ∧ (σ.implClass = "TracePeaks" ∧ σ.implItf = false)
theorem jl_made {σ : Lambda.Shape} {bytes : Array UInt8} {nL mi ci nt cn : Nat} (F : jl_file σ bytes nL mi ci nt cn) {e : Setting} {vm : Vm} {d c : ClassId} {dk : Class} (hd : vm.classes[d]? = some dk) (hname : dk.name = "TracePeaks") (h : Lambda.isMade e vm d σ c = true) :
    ∃ (k tk ok : Class) (file : ClassFile) (methk : Method) (ck : Code) (o toy : ClassId) (t : MethodId) (lay : Array Field × Array FieldType × Array FieldType),
      vm.classes[c]? = some k ∧ k.name = "TracePeaks$$Lambda" ∧ k.cf = some file ∧ file.constantPool = (jlD σ).constantPool ∧
      vm.method? ⟨c, 1⟩ = some methk ∧ methk.code = some ck ∧ ck.code = ⟨bytes⟩ ∧ ck.maxLocals = nL ∧ methk.locks = false ∧ methk.accessFlags = 0x0001 ∧ methk.sig.returnType = some .int ∧
      vm.findClass "TracePeaks" = some toy ∧ vm.classes[toy]? = some tk ∧ ((methodIn toy σ.implName σ.implDesc.toString tk.isInterface none).ask e vm).1 = .ok t ∧
      vm.methodReady c mi t ∧ vm.classReady c ci toy ∧ tk.isInterface = false ∧
      vm.findClass "java/lang/Object" = some o ∧ vm.classes[o]? = some ok ∧ layoutFields (jlD σ) ok.instanceTypes.size = some lay ∧ (∀ (i : Nat) a, lay.1[i]? = some a → k.fields[i]? = some a) ∧ k.instanceTypes = ok.instanceTypes ++ lay.2.1 ∧
      (∀ (i : Nat) x, (Lambda.resolvedOf e vm (jlD σ) lay.1 c)[i]? = some (some x) → k.resolved[i]? = some (some x)) := by
  obtain ⟨Fisf, Fism, Fcode, Fflags, Fref, Fcls, Fimpl⟩ := F
  obtain ⟨dk', k, ok, tk, file, cf, object, iface, toy, lay, methods, target, found, hd', hk, hfile, hcf, ho, -, hok, hlay, hms, ht, htk, hg, -, hrec, -, -, -, hitf, hpool, hmeth, hfields, htypes, hres, -⟩ := Lambda.isMade_spec h
  cases hd.symm.trans hd'
  have hcf' : cf = jlD σ := by
    unfold jlD
    rw [← hname, hcf]
    rfl
  subst hcf'
  rw [Fimpl.1] at ht
  obtain ⟨x0, hx0⟩ := Option.isSome_iff_exists.mp Fism
  have h1 : methods[1]? = some (jlF σ) := by
    unfold jlF
    rw [hx0]
    rw [hms] at hx0
    exact hx0
  obtain ⟨b, hb, hsame⟩ := hmeth 1 _ h1
  obtain ⟨-, -, hsig, hfl, x, y, hfc, hbc, -, hml, hbytes, -⟩ := Lambda.sameMethod_spec hsame
  have fc := Fcode
  have ff := Fflags
  simp only [Prod.mk.injEq] at ff
  rw [hfc] at fc
  simp only [Option.map_some, Option.some.injEq, Prod.mk.injEq] at fc
  refine ⟨k, tk, ok, file, b, y, object, toy, target, lay, hk, by rw [hrec.1, hname]; rfl, hfile, hpool.2.1, by simp [Vm.method?, hk, hb], hbc, by rw [hbytes]; exact ByteArray.ext fc.1, by rw [hml]; exact fc.2, ?_, by rw [hfl]; exact ff.1, by rw [hsig]; exact ff.2, ht, htk, hg,
    ⟨k, hk, hres mi _ (Lambda.resolvedOf_method Fref.1 Fref.2.1 ht htk Fref.2.2 hg)⟩, ⟨k, hk, hres ci _ (Lambda.resolvedOf_class Fcls.1 Fcls.2.2 Fcls.2.1 ht)⟩, by rw [hitf]; exact Fimpl.2, ho, hok, hlay, hfields, htypes.1, hres⟩
  simp [Method.locks, Method.isSynchronized, hfl, ff.1, hasFlag, Acc.synchronized]
def jcS : Array UInt8 := #[27, 28, 29, 184, 0, 17, 172]
def jcB3 : Array UInt8 := #[42, 180, 0, 15, 27, 28, 29, 182, 0, 22, 172]
def jcB1 : Array UInt8 := #[42, 180, 0, 15, 27, 182, 0, 22, 172]
def jcL1 : Array UInt8 := #[42, 180, 0, 17, 42, 180, 0, 19, 27, 182, 0, 27, 172]
theorem jl_f1 : jl_file (jsh siteWord_1_1) jcS 4 17 14 16 13 := ⟨by decide +kernel, by decide +kernel, by decide +kernel, by decide +kernel, by decide +kernel, by decide +kernel, by decide +kernel⟩
theorem jl_f2 : jl_file (jsh siteWord_1_2) jcS 4 17 14 16 13 := ⟨by decide +kernel, by decide +kernel, by decide +kernel, by decide +kernel, by decide +kernel, by decide +kernel, by decide +kernel⟩
theorem jl_f3 : jl_file (jsh siteWord_1_3) jcS 4 17 14 16 13 := ⟨by decide +kernel, by decide +kernel, by decide +kernel, by decide +kernel, by decide +kernel, by decide +kernel, by decide +kernel⟩
theorem jl_f4 : jl_file (jsh siteWord_1_4) jcB3 4 22 19 21 18 := ⟨by decide +kernel, by decide +kernel, by decide +kernel, by decide +kernel, by decide +kernel, by decide +kernel, by decide +kernel⟩
theorem jl_f5 : jl_file (jsh siteWord_1_5) jcS 4 17 14 16 13 := ⟨by decide +kernel, by decide +kernel, by decide +kernel, by decide +kernel, by decide +kernel, by decide +kernel, by decide +kernel⟩
theorem jl_f6 : jl_file (jsh siteWord_1_6) jcB1 2 22 19 21 18 := ⟨by decide +kernel, by decide +kernel, by decide +kernel, by decide +kernel, by decide +kernel, by decide +kernel, by decide +kernel⟩
theorem jl_f7 : jl_file (jsh siteWord_1_7) jcL1 2 27 23 26 22 := ⟨by decide +kernel, by decide +kernel, by decide +kernel, by decide +kernel, by decide +kernel, by decide +kernel, by decide +kernel⟩
theorem jl_f8 : jl_file (jsh siteWord_1_8) jcB1 2 22 19 21 18 := ⟨by decide +kernel, by decide +kernel, by decide +kernel, by decide +kernel, by decide +kernel, by decide +kernel, by decide +kernel⟩
theorem jl_f9 : jl_file (jsh siteWord_1_9) jcB1 2 22 19 21 18 := ⟨by decide +kernel, by decide +kernel, by decide +kernel, by decide +kernel, by decide +kernel, by decide +kernel, by decide +kernel⟩
theorem jl_f10 : jl_file (jsh siteWord_1_10) jcB1 2 22 19 21 18 := ⟨by decide +kernel, by decide +kernel, by decide +kernel, by decide +kernel, by decide +kernel, by decide +kernel, by decide +kernel⟩
theorem jl_f11 : jl_file (jsh siteWord_1_11) jcB1 2 22 19 21 18 := ⟨by decide +kernel, by decide +kernel, by decide +kernel, by decide +kernel, by decide +kernel, by decide +kernel, by decide +kernel⟩
