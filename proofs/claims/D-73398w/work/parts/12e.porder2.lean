/-! the pure law: the order, whole -/
section PO2
variable {i0 : Nat} {w : j_St} {i1 : Nat} {rw : Nat → Option Nat} {pl : Nat → Nat} {va : Nat → Option Nat} {de : Nat → Int32} {pa : Nat → Option Nat} {cm : Nat} {ca : Nat → Nat} {he : Nat → Int32} {kt : Nat → Bool} {kp : Nat} {a : Nat → Int32} {n : Nat}
theorem sp_of_L12 (h : pCn w i1 a n) {kk : j_St → Option (Unit × j_St)} : ∀ (c f k : Nat) (od : Nat → Nat) (be : Nat → Option Nat), k + c = n → (∀ j, j < k → od j < k) → c < f → f_X5_of_L12 i0 i1 kk f (nI k) (mkP i0 w i1 od rw pl va de pa (pBe0 k be) cm ca he kt kp) = kk (mkP i0 w i1 (pWh 0 (pOm a) c k od) rw pl va de pa (pBe0 n be) cm ca he kt kp) := by
  have hn := h.2.2
  intro c
  induction c with
  | zero =>
    intro f k od be hk hw hf
    obtain ⟨f, rfl⟩ : ∃ f', f = f' + 1 := ⟨f - 1, by omega⟩
    have e : k = n := by omega
    subst e
    rw [f_X5_of_L12, jlt_eq, mkP_S4, h.1, if_pos ((nI_leI (by omega) (by omega)).mpr (Nat.le_refl _))]
    rfl
  | succ c ih =>
    intro f k od be hk hw hf
    obtain ⟨f, rfl⟩ : ∃ f', f = f' + 1 := ⟨f - 1, by omega⟩
    have e : up (pBe0 k be) k none = pBe0 (k + 1) be := by
      funext q
      unfold up pBe0
      by_cases e : q = k
      · subst e; simp
      · rw [if_neg e]
        by_cases e2 : q < k
        · rw [if_pos e2, if_pos (by omega)]
        · rw [if_neg e2, if_neg (by omega)]
    obtain ⟨i1', -⟩ := pIns_sh (l := 0) (mv := pOm a k) k od
    have s1 : jsr (mkP i0 w i1 od rw pl va de pa (pBe0 k be) cm ca he kt kp) 28 i0 k none = mkP i0 w i1 od rw pl va de pa (up (pBe0 k be) k none) cm ca he kt kp := mkP_s28 (v := none)
    rw [f_X5_of_L12, jlt_eq, mkP_S4, h.1, if_neg (fun z => absurd ((nI_leI (by omega) (by omega)).mp z) (by omega)), jbd_nI (by omega) (by decide), jlt_eq, s1, e]
    refine (sp_of_L30 h (by omega) k jFU od (by omega) (fun j hj => by have := hw j hj; omega) (jFU_gt (by omega))).trans ?_
    rw [jbd_nI (by omega) (by decide), jlt_eq, mkP_s29, jlt_eq, nI_1]
    exact ih f (k + 1) _ be (by omega) (pIns_lt hw) (by omega)
end PO2
