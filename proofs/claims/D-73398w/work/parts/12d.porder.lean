/-! the pure law: the order in which places come, in the component -/
section PO
variable {i0 : Nat} {w : j_St} {i1 : Nat} {rw : Nat → Option Nat} {pl : Nat → Nat} {va : Nat → Option Nat} {de : Nat → Int32} {pa be : Nat → Option Nat} {cm : Nat} {ca : Nat → Nat} {he : Nat → Int32} {kt : Nat → Bool} {kp : Nat} {a : Nat → Int32} {n : Nat}
/-- whether one is to give way to place k -/
def pOm (a : Nat → Int32) (k q : Nat) : Bool := !decide (a k ≤ a q)
theorem sp_of_L30 (h : pCn w i1 a n) {k : Nat} (hk : k < n) {kk : Int32 → j_St → Option (Unit × j_St)} : ∀ (i f : Nat) (od : Nat → Nat), i < 48 → (∀ j, j < i → od j < n) → i < f → f_X5_of_L30 i0 i1 (nI k) kk f (nI i) (mkP i0 w i1 od rw pl va de pa be cm ca he kt kp) = kk (nI (pIns 0 (pOm a k) i od).1) (mkP i0 w i1 (pIns 0 (pOm a k) i od).2 rw pl va de pa be cm ca he kt kp) := by
  have hn := h.2.2
  intro i
  induction i with
  | zero =>
    intro f od hi hw hf
    obtain ⟨f, rfl⟩ : ∃ f', f = f' + 1 := ⟨f - 1, by omega⟩
    rw [f_X5_of_L30, if_pos (show nI 0 ≤ 0 by decide)]
    rfl
  | succ i ih =>
    intro f od hi hw hf
    obtain ⟨f, rfl⟩ : ∃ f', f = f' + 1 := ⟨f - 1, by omega⟩
    have w1 := hw i (by omega)
    have e1 : nI (i + 1) - 1 = nI i := nI_pred i
    have e2 : nI (i + 1) + (-1) = nI i := nI_m1' (by omega)
    have nx := ih f (up od (i + 1) (od i)) (by omega) (fun j hj => by
      rw [up_ne (by omega)]
      exact hw j (by omega)) (by omega)
    have c0 : (nI (i + 1) ≤ 0) = False := eq_false (nI_nle (by omega) (by omega))
    by_cases h1 : a k ≤ a (od i)
    · have m1 : pOm a k (od i) = false := by simp [pOm, h1]
      have e3 : pIns 0 (pOm a k) (i + 1) od = (i + 1, od) := by simp [pIns, m1]
      rw [f_X5_of_L30]
      simp (disch := omega) only [c0, if_false, if_true, e1, jbd_nI, ↓jlt_e2, mkP_29, mkP_S32, h.2.1 _ w1, h.2.1 _ hk, h1, e3]
    · have m1 : pOm a k (od i) = true := by simp [pOm, h1]
      have e3 : pIns 0 (pOm a k) (i + 1) od = pIns 0 (pOm a k) i (up od (i + 1) (od i)) := by simp [pIns, m1]
      rw [f_X5_of_L30]
      simp (disch := omega) only [c0, if_false, e1, e2, jbd_nI, ↓jlt_e2, mkP_29, mkP_S32, h.2.1 _ w1, h.2.1 _ hk, h1, mkP_s29, nx, e3]
end PO
