/-! what is built when x is -/
theorem j_xb {g : j_G} {B : j_B} {w : j_St} {i : Nat} (a : B.2.1 5 i ∧ B.2.2 5 i) : ∀ H, j_R g B w H → B.2.1 0 0 ∧ B.2.2 0 0 := fun H hR => by
  have h := (hR.2.2.2.2.2.2.2.1 5 i 5 a.2 rfl).2
  exact ⟨hR.2.2.2.2.2.2.2.2.1 0 0 h, h⟩
theorem j_pk0 {g : j_G} {B : j_B} {w : j_St} (a : B.2.1 0 0 ∧ B.2.2 0 0) : ∀ H, j_R g B w H → B.2.1 2 0 ∧ B.2.2 2 0 := fun H hR => by
  have h := (hR.2.2.2.2.2.2.2.1 0 0 10 a.2 rfl).2
  exact ⟨hR.2.2.2.2.2.2.2.2.1 2 0 h, h⟩
/-! calls of the lambdas -/
def f_Filt_of (i : Nat) (a b c : Int32) (w : j_St) : Option (Int32 × j_St) := if i = 0 then f_X1_quarter a b c w else if i = 1 then f_X1_middle a b c w else none
def f_Chg_of (i : Nat) (a b c : Int32) (w : j_St) : Option (Int32 × j_St) := if i = 0 then f_X1_lambda_new_0 a b c w else if i = 1 then f_X1_lifted a b c w else if i = 2 then f_X1_lambda_new_1 a b c w else none
section JL
variable {g : j_G} {x : j_X} {cc : ByteArray} {nL : Nat} {own : String} {ret : Option FieldType} {rm : Room} {B : j_B} {pc index : Nat} {rest : List Value} {w w1 : j_St} {i : Nat} {a b c r : Int32}
theorem j_callFilt (hx : j_C cc nL own ret rm g x) (a9 : B.2.1 0 0 ∧ B.2.2 0 0) (ha : B.2.1 12 i ∧ B.2.2 12 i) (z : f_Filt_of i a b c w = some (r, w1)) (hl : Cond.methodLink own index ⟨"TracePeaks$Filter", "of", "(III)I"⟩ ∈ lw_all) (hRm : 4 ≤ rm.frames ∧ 80 ≤ rm.locals) (hW : (rest.map fun v => v.category).sum ≤ 8) (d : decode cc pc = .ok (.invokeinterface index 4, 5)) :
    j_Call g x nL B [.ref (B.1 12 i), .int a, .int b, .int c] w w1 pc (pc + 5) (.int c :: .int b :: .int a :: .ref (B.1 12 i) :: rest) rest 0 0 (jri r) := by
  unfold f_Filt_of at z
  split at z
  · next h =>
    subst h
    exact j_lamS hx rfl (xn := _) (pcx := _) (idx := _) (σ := jsh siteWord_1_1) (List.mem_of_getElem? (i := 0) rfl) rfl rfl jl_f1 rfl (I := jlif[0]) (List.mem_of_getElem? (i := 0) rfl) ⟨rfl, rfl, by decide +kernel⟩ (by decide +kernel) (yN := yX1_quarter) (by decide +kernel) (by decide +kernel) q175 q120 q176 (mt_X1_quarter z) ⟨rfl, rfl⟩ ha.1 hl ⟨by have h1 := hRm.1; simp only [rm_X1_quarter]; omega, by have h2 := hRm.2; simp only [rm_X1_quarter]; omega⟩ hW d
  split at z
  · next h =>
    subst h
    exact j_lamS hx rfl (xn := _) (pcx := _) (idx := _) (σ := jsh siteWord_1_2) (List.mem_of_getElem? (i := 1) rfl) rfl rfl jl_f2 rfl (I := jlif[0]) (List.mem_of_getElem? (i := 0) rfl) ⟨rfl, rfl, by decide +kernel⟩ (by decide +kernel) (yN := yX1_middle) (by decide +kernel) (by decide +kernel) q186 q120 q187 (mt_X1_middle z) ⟨rfl, rfl⟩ ha.1 hl ⟨by have h1 := hRm.1; simp only [rm_X1_middle]; omega, by have h2 := hRm.2; simp only [rm_X1_middle]; omega⟩ hW d
  · cases z
theorem j_callChg (hx : j_C cc nL own ret rm g x) (a9 : B.2.1 0 0 ∧ B.2.2 0 0) (ha : B.2.1 13 i ∧ B.2.2 13 i) (z : f_Chg_of i a b c w = some (r, w1)) (hl : Cond.methodLink own index ⟨"TracePeaks$Change", "of", "(III)I"⟩ ∈ lw_all) (hRm : 4 ≤ rm.frames ∧ 79 ≤ rm.locals) (hW : (rest.map fun v => v.category).sum ≤ 8) (d : decode cc pc = .ok (.invokeinterface index 4, 5)) :
    j_Call g x nL B [.ref (B.1 13 i), .int a, .int b, .int c] w w1 pc (pc + 5) (.int c :: .int b :: .int a :: .ref (B.1 13 i) :: rest) rest 0 0 (jri r) := by
  unfold f_Chg_of at z
  split at z
  · next h =>
    subst h
    exact j_lamS hx rfl (xn := _) (pcx := _) (idx := _) (σ := jsh siteWord_1_3) (List.mem_of_getElem? (i := 2) rfl) rfl rfl jl_f3 rfl (I := jlif[1]) (List.mem_of_getElem? (i := 1) rfl) ⟨rfl, rfl, by decide +kernel⟩ (by decide +kernel) (yN := yX1_lambda_new_0) (by decide +kernel) (by decide +kernel) q200 q120 q201 (mt_X1_lambda_new_0 z) ⟨rfl, rfl⟩ ha.1 hl ⟨by have h1 := hRm.1; simp only [rm_X1_lambda_new_0]; omega, by have h2 := hRm.2; simp only [rm_X1_lambda_new_0]; omega⟩ hW d
  split at z
  · next h =>
    subst h
    exact j_lamB3 hx rfl (xn := _) (pcx := _) (idx := _) (σ := jsh siteWord_1_4) (List.mem_of_getElem? (i := 3) rfl) rfl rfl jl_f4 rfl (I := jlif[1]) (List.mem_of_getElem? (i := 1) rfl) ⟨rfl, rfl, by decide +kernel⟩ (by decide +kernel) (yN := yX1_lifted) (by decide +kernel) (by decide +kernel) q213 (j_nl q212 rfl) q120 q214 (mt_X1_lifted a9 z) ⟨rfl, rfl⟩ a9 ⟨rfl, rfl, rfl⟩ rfl (nt1 := 14) (ds1 := "LTracePeaks;") (by unfold jl_fl; decide +kernel) ha hl ⟨by have h1 := hRm.1; simp only [rm_X1_lifted]; omega, by have h2 := hRm.2; simp only [rm_X1_lifted]; omega⟩ hW d
  split at z
  · next h =>
    subst h
    exact j_lamS hx rfl (xn := _) (pcx := _) (idx := _) (σ := jsh siteWord_1_5) (List.mem_of_getElem? (i := 4) rfl) rfl rfl jl_f5 rfl (I := jlif[1]) (List.mem_of_getElem? (i := 1) rfl) ⟨rfl, rfl, by decide +kernel⟩ (by decide +kernel) (yN := yX1_lambda_new_1) (by decide +kernel) (by decide +kernel) q219 q120 q220 (mt_X1_lambda_new_1 z) ⟨rfl, rfl⟩ ha.1 hl ⟨by have h1 := hRm.1; simp only [rm_X1_lambda_new_1]; omega, by have h2 := hRm.2; simp only [rm_X1_lambda_new_1]; omega⟩ hW d
  · cases z
end JL
