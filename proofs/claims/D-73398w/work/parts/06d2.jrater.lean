/-! calls of the raters, numbered 6 * n + site: 0 heightBut, 1 tallest, 2..5 most -/
def f_Rat_of (i : Nat) (a : Int32) (w : j_St) : Option (Int32 × j_St) := if i % 6 = 0 then f_X1_heightBut a w else if i % 6 = 1 then f_X1_lambda_tallest_2 (jgi w 14 i 1) a w else if i % 6 = 2 then f_X1_lambda_most_3 a w else if i % 6 = 3 then f_X1_lambda_most_4 a w else if i % 6 = 4 then f_X1_lambda_most_5 a w else if i % 6 = 5 then f_X1_lambda_most_6 a w else none
section JL
variable {g : j_G} {x : j_X} {cc : ByteArray} {nL : Nat} {own : String} {ret : Option FieldType} {rm : Room} {B : j_B} {pc index : Nat} {rest : List Value} {w w1 : j_St} {i : Nat} {a b c r : Int32}
theorem j_callRat (hx : j_C cc nL own ret rm g x) (a9 : B.2.1 0 0 ∧ B.2.2 0 0) (ha : B.2.1 14 i ∧ B.2.2 14 i) (z : f_Rat_of i a w = some (r, w1)) (hl : Cond.methodLink own index ⟨"TracePeaks$Rater", "of", "(I)I"⟩ ∈ lw_all) (hRm : 6 ≤ rm.frames ∧ 127 ≤ rm.locals) (hW : (rest.map fun v => v.category).sum ≤ 8) (d : decode cc pc = .ok (.invokeinterface index 2, 5)) :
    j_Call g x nL B [.ref (B.1 14 i), .int a] w w1 pc (pc + 5) (.int a :: .ref (B.1 14 i) :: rest) rest 0 0 (jri r) := by
  unfold f_Rat_of at z
  split at z
  · next h =>
    exact j_lamB1 hx h (xn := _) (pcx := _) (idx := _) (σ := jsh siteWord_1_6) (List.mem_of_getElem? (i := 5) rfl) rfl rfl jl_f6 rfl (I := jlif[2]) (List.mem_of_getElem? (i := 2) rfl) ⟨rfl, rfl, by decide +kernel⟩ (by decide +kernel) (yN := yX1_heightBut) (by decide +kernel) (by decide +kernel) q1351 (j_nl q1350 rfl) q120 q1352 (mt_X1_heightBut a9 z) ⟨rfl, rfl⟩ a9 ⟨rfl, rfl, rfl⟩ rfl (nt1 := 14) (ds1 := "LTracePeaks;") (by unfold jl_fl; decide +kernel) ha hl ⟨by have h1 := hRm.1; simp only [rm_X1_heightBut]; omega, by have h2 := hRm.2; simp only [rm_X1_heightBut]; omega⟩ hW d
  split at z
  · next h =>
    exact j_lamL1 hx h (xn := _) (pcx := _) (idx := _) (σ := jsh siteWord_1_7) (List.mem_of_getElem? (i := 6) rfl) rfl rfl jl_f7 rfl (I := jlif[2]) (List.mem_of_getElem? (i := 2) rfl) ⟨rfl, rfl, by decide +kernel⟩ (by decide +kernel) (yN := yX1_lambda_tallest_2) (by decide +kernel) (by decide +kernel) q1366 (j_nl q1365 rfl) q120 q1367 (hM := (mt_X1_lambda_tallest_2 a9 z)) (hrc := ⟨rfl, rfl⟩) (a9 := a9) (hs1 := ⟨rfl, rfl, rfl⟩) (hn6 := rfl) (hs2 := rfl) (nt1 := 16) (ds1 := "LTracePeaks;") (hF1 := by unfold jl_fl; decide +kernel) (nt2 := 18) (ds2 := "I") (hF2 := by unfold jl_fl; decide +kernel) (ha := ha) (hl := hl) (hRm := ⟨by have h1 := hRm.1; simp only [rm_X1_lambda_tallest_2]; omega, by have h2 := hRm.2; simp only [rm_X1_lambda_tallest_2]; omega⟩) (hWs := hW) (d := d)
  split at z
  · next h =>
    exact j_lamB1 hx h (xn := _) (pcx := _) (idx := _) (σ := jsh siteWord_1_8) (List.mem_of_getElem? (i := 7) rfl) rfl rfl jl_f8 rfl (I := jlif[2]) (List.mem_of_getElem? (i := 2) rfl) ⟨rfl, rfl, by decide +kernel⟩ (by decide +kernel) (yN := yX1_lambda_most_3) (by decide +kernel) (by decide +kernel) q1579 (j_nl q1578 rfl) q120 q1580 (mt_X1_lambda_most_3 a9 z) ⟨rfl, rfl⟩ a9 ⟨rfl, rfl, rfl⟩ rfl (nt1 := 14) (ds1 := "LTracePeaks;") (by unfold jl_fl; decide +kernel) ha hl ⟨by have h1 := hRm.1; simp only [rm_X1_lambda_most_3]; omega, by have h2 := hRm.2; simp only [rm_X1_lambda_most_3]; omega⟩ hW d
  split at z
  · next h =>
    exact j_lamB1 hx h (xn := _) (pcx := _) (idx := _) (σ := jsh siteWord_1_9) (List.mem_of_getElem? (i := 8) rfl) rfl rfl jl_f9 rfl (I := jlif[2]) (List.mem_of_getElem? (i := 2) rfl) ⟨rfl, rfl, by decide +kernel⟩ (by decide +kernel) (yN := yX1_lambda_most_4) (by decide +kernel) (by decide +kernel) q1587 (j_nl q1586 rfl) q120 q1588 (mt_X1_lambda_most_4 a9 z) ⟨rfl, rfl⟩ a9 ⟨rfl, rfl, rfl⟩ rfl (nt1 := 14) (ds1 := "LTracePeaks;") (by unfold jl_fl; decide +kernel) ha hl ⟨by have h1 := hRm.1; simp only [rm_X1_lambda_most_4]; omega, by have h2 := hRm.2; simp only [rm_X1_lambda_most_4]; omega⟩ hW d
  split at z
  · next h =>
    exact j_lamB1 hx h (xn := _) (pcx := _) (idx := _) (σ := jsh siteWord_1_10) (List.mem_of_getElem? (i := 9) rfl) rfl rfl jl_f10 rfl (I := jlif[2]) (List.mem_of_getElem? (i := 2) rfl) ⟨rfl, rfl, by decide +kernel⟩ (by decide +kernel) (yN := yX1_lambda_most_5) (by decide +kernel) (by decide +kernel) q1590 (j_nl q1589 rfl) q120 q1591 (mt_X1_lambda_most_5 a9 z) ⟨rfl, rfl⟩ a9 ⟨rfl, rfl, rfl⟩ rfl (nt1 := 14) (ds1 := "LTracePeaks;") (by unfold jl_fl; decide +kernel) ha hl ⟨by have h1 := hRm.1; simp only [rm_X1_lambda_most_5]; omega, by have h2 := hRm.2; simp only [rm_X1_lambda_most_5]; omega⟩ hW d
  split at z
  · next h =>
    exact j_lamB1 hx h (xn := _) (pcx := _) (idx := _) (σ := jsh siteWord_1_11) (List.mem_of_getElem? (i := 10) rfl) rfl rfl jl_f11 rfl (I := jlif[2]) (List.mem_of_getElem? (i := 2) rfl) ⟨rfl, rfl, by decide +kernel⟩ (by decide +kernel) (yN := yX1_lambda_most_6) (by decide +kernel) (by decide +kernel) q1597 (j_nl q1596 rfl) q120 q1598 (mt_X1_lambda_most_6 a9 z) ⟨rfl, rfl⟩ a9 ⟨rfl, rfl, rfl⟩ rfl (nt1 := 14) (ds1 := "LTracePeaks;") (by unfold jl_fl; decide +kernel) ha hl ⟨by have h1 := hRm.1; simp only [rm_X1_lambda_most_6]; omega, by have h2 := hRm.2; simp only [rm_X1_lambda_most_6]; omega⟩ hW d
  · cases z
end JL
