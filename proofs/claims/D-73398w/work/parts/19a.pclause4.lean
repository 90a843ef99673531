/-! the pure law: a clause of a trace, by both: noise and reach -/
section CL4
variable {w w' w0 : j_St} {P : pP} {n t p st b : Nat} {D : pD}
abbrev pCR : Type := Nat ⊕ (pD × Nat × Nat)
def mu (D : pD) (b : Nat) : Nat := D.1.2.1 + b % 2 + b / 2 % 2 + b / 4 % 2
def wfCR (P : pP) (D : pD) (b : Nat) : pCR → Prop
  | .inl e => e ≤ P.1
  | .inr (D', b', p') => wfD D' b' ∧ p' ≤ P.1 ∧ mu D' b' = mu D b + 1
def CCl (n t : Nat) (w0 w : j_St) (o : Option ((Nat ⊕ Int32) × j_St)) (R : pCR) : Prop := match R with
  | .inl e => ∃ mm w', o = some (.inl mm, w') ∧ pSame (KTr n t w0) w w' ∧ cUp w w' ∧ jgi w' 9 mm 6 = nI e
  | .inr (D', b', p') => ∃ w', o = some (.inr (nI (b' % 8)), w') ∧ pSame (KTr n t w0) w w' ∧ cUp w w' ∧ cDt w' t D' ∧ jgi w' 8 n 0 = nI p'
def MCl (P : pP) (w : j_St) (o : Option (Int32 × j_St)) (R : pCR) : Prop := match R with
  | .inl e => ∃ x w', o = some (x, w') ∧ pSame KMt w w' ∧ jgi w' 1 0 8 = nI e
  | .inr (D', b', p') => ∃ w', o = some (nI b', w') ∧ pSame KMt w w' ∧ ((jgi w' 1 0 8 = -1 ∧ TkM P w' (tE gS P p') ∧ mDt w' D') ∨ (tK P (tE gS P p') ≠ 0 ∧ tK P (tE gS P p') ≠ 3 ∧ jgi w' 1 0 8 = nI (tE gS P p')))
theorem CCl.pre {w1 : j_St} {o : Option ((Nat ⊕ Int32) × j_St)} {R : pCR} (s : pSame (KTr n t w0) w w1) (u : cUp w w1) (h : CCl n t w0 w1 o R) : CCl n t w0 w o R := by
  cases R with
  | inl e =>
    obtain ⟨mm, w', a, b, c, d⟩ := h
    exact ⟨mm, w', a, s.trans b, u.trans c, d⟩
  | inr x =>
    obtain ⟨w', a, b, c, d⟩ := h
    exact ⟨w', a, s.trans b, u.trans c, d⟩
theorem MCl.pre {w1 : j_St} {o : Option (Int32 × j_St)} {R : pCR} (s : pSame KMt w w1) (h : MCl P w1 o R) : MCl P w o R := by
  cases R with
  | inl e =>
    obtain ⟨x, w', a, b, c⟩ := h
    exact ⟨x, w', a, s.trans b, c⟩
  | inr x =>
    obtain ⟨w', a, b, c⟩ := h
    exact ⟨w', a, s.trans b, c⟩
/-- a bit more -/
theorem mu_bit (hb : b < 16) {j : Nat} (hj : j < 3) (h : ¬ b.testBit j = true) : (b ||| 2 ^ j) % 2 + (b ||| 2 ^ j) / 2 % 2 + (b ||| 2 ^ j) / 4 % 2 = b % 2 + b / 2 % 2 + b / 4 % 2 + 1 ∧ ((b ||| 2 ^ j).testBit 0 = true ↔ (b.testBit 0 = true ∨ j = 0)) := by
  have hd : ∀ b : Fin 16, ∀ j : Fin 3, ¬ b.val.testBit j.val = true → (b.val ||| 2 ^ j.val) % 2 + (b.val ||| 2 ^ j.val) / 2 % 2 + (b.val ||| 2 ^ j.val) / 4 % 2 = b.val % 2 + b.val / 2 % 2 + b.val / 4 % 2 + 1 ∧ ((b.val ||| 2 ^ j.val).testBit 0 = true ↔ (b.val.testBit 0 = true ∨ j.val = 0)) := by decide +kernel
  exact hd ⟨b, hb⟩ ⟨j, hj⟩ h
theorem mu_3 (hb : b < 16) : (b ||| 2 ^ 3) % 2 + (b ||| 2 ^ 3) / 2 % 2 + (b ||| 2 ^ 3) / 4 % 2 = b % 2 + b / 2 % 2 + b / 4 % 2 ∧ ((b ||| 2 ^ 3).testBit 0 = true ↔ b.testBit 0 = true) := by
  have hd : ∀ b : Fin 16, (b.val ||| 2 ^ 3) % 2 + (b.val ||| 2 ^ 3) / 2 % 2 + (b.val ||| 2 ^ 3) / 4 % 2 = b.val % 2 + b.val / 2 % 2 + b.val / 4 % 2 ∧ ((b.val ||| 2 ^ 3).testBit 0 = true ↔ b.val.testBit 0 = true) := by decide +kernel
  exact hd ⟨b, hb⟩
theorem mu_le (h : wfD D b) : mu D b ≤ 11 := by
  have := h.1
  unfold mu
  omega
theorem KL.tr {κ i k : Nat} (h : KL n w0 κ i k) : KTr n t w0 κ i k := Or.inl h
theorem KTk.mt {κ i k : Nat} (h : KTk κ i k) : KMt κ i k := Or.inl h
end CL4
