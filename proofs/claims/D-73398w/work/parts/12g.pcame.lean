/-! the pure law: all places come, in the component -/
section PG2
variable {i0 : Nat} {w : j_St} {i1 : Nat} {od : Nat → Nat} {rw : Nat → Option Nat} {kt : Nat → Bool} {kp : Nat} {a : Nat → Int32} {n : Nat}
/-- what holds when m places have come: whose each is, when peaks came, how high they are -/
def pI2 (a : Nat → Int32) (n m : Nat) (S : pS) (ca : Nat → Nat) (he : Nat → Int32) : Prop := pI0 m S ∧ (∀ q c, S.2.2.2.2.1 q = some c → q < n → c < S.2.2.2.2.2) ∧ (∀ x, x < S.2.2.2.2.2 → ca x < m) ∧ (∀ x y, x < y → y < S.2.2.2.2.2 → ca x < ca y) ∧ ∀ x, x < S.2.2.2.2.2 → he x = a (S.1 x)
theorem pI2_ca {m : Nat} {S : pS} {ca : Nat → Nat} {he : Nat → Int32} (h : pI2 a n m S ca he) : ∀ x y, x < S.2.2.2.2.2 → y < S.2.2.2.2.2 → (ca y ≤ ca x ↔ y ≤ x) := fun x y hx hy => by
  obtain ⟨-, -, -, h4, -⟩ := h
  constructor
  · intro z
    apply Classical.byContradiction
    intro hn
    have := h4 x y (by omega) hy
    omega
  · intro z
    rcases Nat.lt_or_ge y x with q | q
    · have := h4 y x q hx
      omega
    · have : x = y := by omega
      rw [this]
      exact Nat.le_refl _
theorem pI2_s {m p : Nat} {S : pS} {ca : Nat → Nat} {he : Nat → Int32} (h : pI2 a n m S ca he) (hm : m < 48) (hp : p < n) : pI2 a n (m + 1) (pLS a n p S) (pLc n p m S ca) (pLh a n p S he) := by
  refine ⟨pI0_s h.1 hm, ?_⟩
  obtain ⟨⟨h1, h2⟩, hb, hc, hd, hh⟩ := h
  obtain ⟨pl, va, de, pa, be, cm⟩ := S
  have h2 : cm ≤ m := h2
  have hb : ∀ q c, be q = some c → q < n → c < cm := hb
  have hc : ∀ x, x < cm → ca x < m := hc
  have hd : ∀ x y, x < y → y < cm → ca x < ca y := hd
  have hh : ∀ x, x < cm → he x = a (pl x) := hh
  have sL : ∀ c, (if 0 < p then be (p - 1) else none) = some c → c < cm := fun c e => by
    split at e
    · exact hb _ c e (by omega)
    · cases e
  have sR : ∀ c, (if p + 1 < n then be (p + 1) else none) = some c → c < cm := fun c e => by
    split at e
    · exact hb _ c e (by omega)
    · cases e
  have upb : ∀ (f : Nat → Option Nat) (v M : Nat), (∀ q c, f q = some c → q < n → c < M) → v < M → ∀ q c, up f p (some v) q = some c → q < n → c < M := fun f v M hf hv q c e hq => by
    by_cases eq : q = p
    · rw [eq, up_same] at e
      cases e
      exact hv
    · rw [up_ne eq] at e
      exact hf q c e hq
  unfold pLS pLc pLh
  simp only []
  generalize (if 0 < p then be (p - 1) else none) = x at sL
  generalize (if p + 1 < n then be (p + 1) else none) = y at sR
  cases x with
  | none =>
    cases y with
    | none =>
      simp only [and_self, if_true]
      refine ⟨upb be cm (cm + 1) (fun q c e hq => by have := hb q c e hq; omega) (by omega), fun x hx => ?_, fun x y hxy hy => ?_, fun x hx => ?_⟩
      · by_cases e : x = cm
        · rw [e, up_same]; omega
        · rw [up_ne e]; have := hc x (by omega); omega
      · rw [up_ne (by omega)]
        by_cases e : y = cm
        · rw [e, up_same]; exact hc x (by omega)
        · rw [up_ne e]; exact hd x y hxy (by omega)
      · by_cases e : x = cm
        · rw [e, up_same, up_same]
        · rw [up_ne e, up_ne e]; exact hh x (by omega)
    | some y =>
      simp only [reduceCtorEq, and_false, if_false]
      exact ⟨upb be y cm hb (sR y rfl), fun x hx => by have := hc x hx; omega, hd, hh⟩
  | some x =>
    cases y with
    | none =>
      simp only [reduceCtorEq, false_and, if_false]
      exact ⟨upb be x cm hb (sL x rfl), fun x hx => by have := hc x hx; omega, hd, hh⟩
    | some y =>
      have hx := sL x rfl
      have hy := sR y rfl
      simp only [reduceCtorEq, false_and, if_false]
      by_cases hxy : x = y
      · simp only [hxy, if_true]
        exact ⟨upb be y cm hb hy, fun x hx => by have := hc x hx; omega, hd, hh⟩
      · simp only [hxy, if_false]
        refine ⟨upb _ (min x y) cm (fun q c e hq => ?_) (by omega), fun x hx => by have := hc x hx; omega, hd, hh⟩
        rw [pJn_eq] at e
        simp only [] at e
        split at e
        · cases e; omega
        · exact hb q c e hq
end PG2
