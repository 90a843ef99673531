/-! the pure law: a line of a trace, in the model -/
section MLINE
variable {w w' w0 : j_St} {P : pP} {st ln : Nat}
theorem mL25_0 {kk : Int32 → j_St → Option (Unit × j_St)} (hl : ln ≤ 8) (h16 : jgi w 1 0 16 = nI ln) : ∀ (cnt l f : Nat), l + cnt = ln → cnt < f → f_X9_readLine_L25 kk f 0 (nI l) w = kk 0 w := by
  intro cnt
  induction cnt with
  | zero =>
    intro l f hm hf
    obtain ⟨f, rfl⟩ : ∃ f', f = f' + 1 := ⟨f - 1, by omega⟩
    rw [f_X9_readLine_L25, jlt_eq, h16, show l = ln by omega, if_pos (Int32.le_refl _)]
  | succ cnt ih =>
    intro l f hm hf
    obtain ⟨f, rfl⟩ : ∃ f', f = f' + 1 := ⟨f - 1, by omega⟩
    rw [f_X9_readLine_L25, jlt_eq, h16, if_neg (fun z => by have := (nI_leI (by omega) (by omega)).mp z; omega), jlt_eq, jlt_eq, if_pos rfl]
    dsimp only
    rw [jlt_eq, nI_1]
    exact ih (l + 1) f (by omega) (by omega)
theorem mL25_1 {kk : Int32 → j_St → Option (Unit × j_St)} (hl : ln ≤ 8) (h16 : jgi w 1 0 16 = nI ln) : ∀ (cnt l f : Nat), l + cnt = ln → cnt < f → ((∀ j, l ≤ j → j < ln → jgl w 44 0 j ≠ jgl w 1 0 9) → f_X9_readLine_L25 kk f 1 (nI l) w = kk 1 w) ∧ ((∃ j, l ≤ j ∧ j < ln ∧ jgl w 44 0 j = jgl w 1 0 9) → f_X9_readLine_L25 kk f 1 (nI l) w = kk 0 w) := by
  intro cnt
  induction cnt with
  | zero =>
    intro l f hm hf
    obtain ⟨f, rfl⟩ : ∃ f', f = f' + 1 := ⟨f - 1, by omega⟩
    refine ⟨fun _ => ?_, fun ⟨j, a, b, _⟩ => by omega⟩
    rw [f_X9_readLine_L25, jlt_eq, h16, show l = ln by omega, if_pos (Int32.le_refl _)]
  | succ cnt ih =>
    intro l f hm hf
    obtain ⟨f, rfl⟩ : ∃ f', f = f' + 1 := ⟨f - 1, by omega⟩
    obtain ⟨i1, i2⟩ := ih (l + 1) f (by omega) (by omega)
    have st : ∀ res, (if lg_cmp (jgl w 44 0 l) (jgl w 1 0 9) = 0 then f_X9_readLine_L25 kk f 0 (nI (l + 1)) w else f_X9_readLine_L25 kk f 1 (nI (l + 1)) w) = res → f_X9_readLine_L25 kk (f + 1) 1 (nI l) w = res := fun res hres => by
      rw [f_X9_readLine_L25, jlt_eq, h16, if_neg (fun z => by have := (nI_leI (by omega) (by omega)).mp z; omega), jlt_eq, jlt_eq, if_neg n10, jbd_nI (by omega) (by decide), jlt_eq, jlt_eq]
      dsimp only
      rw [jlt_eq, nI_1]
      exact hres
    by_cases e : jgl w 44 0 l = jgl w 1 0 9
    · refine ⟨fun z => absurd e (z l (Nat.le_refl _) (by omega)), fun _ => st _ ?_⟩
      rw [if_pos (lg_cmp0.mpr e)]
      exact mL25_0 hl h16 cnt (l + 1) f (by omega) (by omega)
    · refine ⟨fun z => st _ ?_, fun z => st _ ?_⟩
      · rw [if_neg (fun y => e (lg_cmp0.mp y))]
        exact i1 fun j a b => z j (by omega) b
      · rw [if_neg (fun y => e (lg_cmp0.mp y))]
        obtain ⟨j, a, b, d⟩ := z
        refine i2 ⟨j, ?_, b, d⟩
        rcases Nat.lt_or_ge l j with y | y
        · omega
        · rw [show j = l by omega] at d
          exact absurd d e
end MLINE
