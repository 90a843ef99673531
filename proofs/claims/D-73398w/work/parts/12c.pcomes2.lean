/-! the pure law: a place comes, in the component -/
theorem pJn_up {l g n p : Nat} {be : Nat → Option Nat} (hlg : l ≠ g) : pJn l g n 0 (up be p (some l)) = up (pJn l g n 0 be) p (some l) := by
  rw [pJn_eq, pJn_eq]
  funext q
  unfold up
  by_cases e : q = p
  · rw [if_pos e, if_pos e]
    have : ¬ (some l = some g) := fun z => hlg (Option.some.inj z)
    rw [if_neg (fun z => this z.2.2)]
  · rw [if_neg e, if_neg e]
theorem jcs_s2 {β : Type} {q : Nat} {e : β} {f : Nat → β} : jcs (some q) e f = f q := id rfl
theorem jcs_n2 {β : Type} {e : β} {f : Nat → β} : jcs none e f = e := id rfl
theorem jlt_e2 {α β : Type} {x : α} {k : α → β} : jlt x k = k x := id rfl
section PD
variable {i0 : Nat} {w : j_St} {i1 : Nat} {od : Nat → Nat} {rw : Nat → Option Nat} {S : pS} {ca : Nat → Nat} {he : Nat → Int32} {kt : Nat → Bool} {kp : Nat} {a : Nat → Int32} {n : Nat}
theorem sp_comes (h : pCn w i1 a n) {p t : Nat} (hp : p < n) (hS : pSok S) (hc : S.2.2.2.2.2 < 48) (hbe : ∀ q c, S.2.2.2.2.1 q = some c → q < n → c < S.2.2.2.2.2) (hca : ∀ x y, x < S.2.2.2.2.2 → y < S.2.2.2.2.2 → (ca y ≤ ca x ↔ y ≤ x)) (hcb : ∀ x, x < S.2.2.2.2.2 → ca x < 2 ^ 31) :
    f_X5_comes i0 (nI p) (nI t) (mkQ i0 w i1 od rw S ca he kt kp) = some ((), mkQ i0 w i1 od rw (pLS a n p S) (pLc n p t S ca) (pLh a n p S he) kt kp) := by
  have hn := h.2.2
  obtain ⟨pl, va, de, pa, be, cm⟩ := S
  have hb : ∀ q, pSm (be q) := hS.1
  have hc : cm < 48 := hc
  have hbe : ∀ q c, be q = some c → q < n → c < cm := hbe
  have hca : ∀ x y, x < cm → y < cm → (ca y ≤ ca x ↔ y ≤ x) := hca
  have hcb : ∀ x, x < cm → ca x < 2 ^ 31 := hcb
  have sL : ∀ c, (if 0 < p then be (p - 1) else none) = some c → c < cm := fun c e => by
    split at e
    · exact hbe _ c e (by omega)
    · cases e
  have sR : ∀ c, (if p + 1 < n then be (p + 1) else none) = some c → c < cm := fun c e => by
    split at e
    · exact hbe _ c e (by omega)
    · cases e
  show f_X5_comes i0 (nI p) (nI t) (mkP i0 w i1 od rw pl va de pa be cm ca he kt kp) = _
  unfold pLS pLc pLh
  simp only []
  rw [f_X5_comes, sp_cbesideL h hp, jcb_some', sp_cbesideR h hp, jcb_some']
  generalize (if 0 < p then be (p - 1) else none) = x at sL
  generalize (if p + 1 < n then be (p + 1) else none) = y at sR
  cases x with
  | none =>
    cases y with
    | none =>
      have s1 : jsr (mkP i0 w i1 od rw (up pl cm p) (up va cm none) de (up pa cm none) be cm (up ca cm t) (up he cm (a p)) kt kp) 28 i0 p (some (48 * i0 + cm)) = mkP i0 w i1 od rw (up pl cm p) (up va cm none) de (up pa cm none) (up be p (some cm)) cm (up ca cm t) (up he cm (a p)) kt kp := mkP_s28 (v := some cm)
      simp (disch := omega) only [↓jlt_e2, pQ_none, jcs_n2, mkP_2cm, jbd_nI, mkP_24, job_some', mkP_S32, h.2.1 p hp, sp_begins hc, jcb_some', s1, nI_1, mkP_s2cm, and_self, if_true, mkQ]
    | some y =>
      have s1 : jsr (mkP i0 w i1 od rw pl va de pa be cm ca he kt kp) 28 i0 p (some (48 * i0 + y)) = mkP i0 w i1 od rw pl va de pa (up be p (some y)) cm ca he kt kp := mkP_s28 (v := some y)
      simp (disch := omega) only [↓jlt_e2, pQ_none, pQ_some, jcs_n2, jcs_s2, jbd_nI, s1, mkQ, reduceCtorEq, and_false, if_false]
  | some x =>
    cases y with
    | none =>
      have s1 : jsr (mkP i0 w i1 od rw pl va de pa be cm ca he kt kp) 28 i0 p (some (48 * i0 + x)) = mkP i0 w i1 od rw pl va de pa (up be p (some x)) cm ca he kt kp := mkP_s28 (v := some x)
      simp (disch := omega) only [↓jlt_e2, pQ_none, pQ_some, jcs_n2, jcs_s2, jbd_nI, s1, mkQ, reduceCtorEq, false_and, if_false]
    | some y =>
      have hx := sL x rfl
      have hy := sR y rfl
      by_cases hxy : x = y
      · subst hxy
        have s1 : jsr (mkP i0 w i1 od rw pl va de pa be cm ca he kt kp) 28 i0 p (some (48 * i0 + x)) = mkP i0 w i1 od rw pl va de pa (up be p (some x)) cm ca he kt kp := mkP_s28 (v := some x)
        simp (disch := omega) only [↓jlt_e2, pQ_some, jcs_s2, jbd_nI, s1, mkQ, reduceCtorEq, false_and, if_false, if_true]
      · have c1 : ((some (48 * i0 + x) : Option Nat) = some (48 * i0 + y)) = False := eq_false (fun z => hxy (by have := Option.some.inj z; omega))
        have hj := sp_cjoins (i0 := i0) (od := od) (rw := rw) (pl := pl) (va := va) (de := de) (pa := pa) (be := be) (cm := cm) (he := he) (kt := kt) (kp := kp) h (show x < 48 by omega) (show y < 48 by omega) hp hxy (hca x y hx hy) (hcb x hx) (hcb y hy)
        rw [pJn_up (by omega)] at hj
        simp (disch := omega) only [↓jlt_e2, pQ_some, jcs_s2, c1, hj, jcb_some', mkQ, reduceCtorEq, false_and, if_false, hxy]
end PD
