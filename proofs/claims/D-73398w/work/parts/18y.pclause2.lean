/-! the pure law: what was seen already, as bits; what stands of a trace so far -/
section BITS
variable {w w' w0 : j_St} {P : pP} {n t p st : Nat}
def bC (j : Nat) : Int32 := if j = 0 then 1 else if j = 1 then 2 else if j = 2 then 4 else 0
theorem bits_all {b j : Nat} (hb : b < 16) (hj : j < 4) : (j < 3 → ((nI b >>> (nI j &&& 31)) &&& 1 = 1 ↔ b.testBit j = true)) ∧ (nI (b % 8) &&& bC j = 0 ↔ ¬ (j < 3 ∧ b.testBit j = true)) ∧ nI b ||| ((1 : Int32) <<< (nI j &&& 31)) = nI (b ||| 2 ^ j) ∧ nI (b % 8) ||| bC j = nI ((b ||| 2 ^ j) % 8) ∧ b ||| 2 ^ j < 16 := by
  have hd : ∀ b : Fin 16, ∀ j : Fin 4, (j.val < 3 → ((nI b.val >>> (nI j.val &&& 31)) &&& 1 = 1 ↔ b.val.testBit j.val = true)) ∧ (nI (b.val % 8) &&& bC j.val = 0 ↔ ¬ (j.val < 3 ∧ b.val.testBit j.val = true)) ∧ nI b.val ||| ((1 : Int32) <<< (nI j.val &&& 31)) = nI (b.val ||| 2 ^ j.val) ∧ nI (b.val % 8) ||| bC j.val = nI ((b.val ||| 2 ^ j.val) % 8) ∧ b.val ||| 2 ^ j.val < 16 := by decide +kernel
  exact hd ⟨b, hb⟩ ⟨j, hj⟩
/-- a trace so far: its lines and reach, its samples, how many, the noise -/
abbrev pD : Type := pX × (Nat → Nat) × Nat × Nat
def wfD (D : pD) (b : Nat) : Prop := D.1.2.1 ≤ 8 ∧ (∀ l, l < D.1.2.1 → D.1.1 l ≤ 47) ∧ D.1.2.2.1 ≤ 9 ∧ wfN D.1.2.1 D.1.2.2.2.1 D.1.2.2.2.2 ∧ D.2.2.2 ≤ 999 ∧ D.2.2.1 ≤ 48 ∧ (∀ i, i < D.2.2.1 → D.2.1 i ≤ 999) ∧ b < 16 ∧ (b.testBit 0 = true ↔ 0 < D.2.2.1)
def cDt (w : j_St) (t : Nat) (D : pD) : Prop := jgi w 6 t 3 = nI D.1.2.1 ∧ jgi w 6 t 4 = nI D.2.2.2 ∧ jgi w 6 t 5 = nI D.1.2.2.1 ∧ (∀ l, l < D.1.2.1 → jgi w 35 t l = nI (D.1.1 l)) ∧ cNm w t D.1.2.1 D.1.2.2.2.1 D.1.2.2.2.2 ∧ jgi w 4 (2 * t + 2) 1 = nI D.2.2.1 ∧ ∀ i, i < D.2.2.1 → jgi w 32 (2 * t + 2) i = nI (D.2.1 i)
def mDt (w : j_St) (D : pD) : Prop := jgi w 1 0 16 = nI D.1.2.1 ∧ jgi w 1 0 17 = nI D.2.2.2 ∧ jgi w 1 0 18 = nI D.1.2.2.1 ∧ (∀ l, l < D.1.2.1 → jgi w 42 0 l = nI (D.1.1 l) ∧ jgi w 43 0 l = nI (D.1.2.2.2.1 l) ∧ jgl w 44 0 l = lN (pWord (D.1.2.2.2.1 l) (D.1.2.2.2.2 l))) ∧ (0 < D.2.2.1 → mSa w D.2.1 D.2.2.1)
def KTr (n t : Nat) (w0 : j_St) (κ i k : Nat) : Prop := KL n w0 κ i k ∨ ((κ = 6 ∨ κ = 34 ∨ κ = 35) ∧ i = t) ∨ ((κ = 4 ∨ κ = 32) ∧ i = 2 * t + 2)
def KMt (κ i k : Nat) : Prop := KTk κ i k ∨ (κ = 1 ∧ i = 0 ∧ (k = 8 ∨ (15 ≤ k ∧ k ≤ 18))) ∨ ((41 ≤ κ ∧ κ ≤ 44) ∧ i = 0)
theorem cDt.l {D : pD} (h : cDt w t D) (s : pSame (KL n w) w w') (u : cUp w w') : cDt w' t D := by
  obtain ⟨h1, h2, h3, h4, h5, h6, h7⟩ := h
  refine ⟨by rw [s.1 _ _ _ (by unfold KL KR; omega)]; exact h1, by rw [s.1 _ _ _ (by unfold KL KR; omega)]; exact h2, by rw [s.1 _ _ _ (by unfold KL KR; omega)]; exact h3, fun l hl => by rw [s.1 _ _ _ (by unfold KL KR; omega)]; exact h4 l hl, fun j hj => ?_, by rw [s.1 _ _ _ (by unfold KL KR; omega)]; exact h6, fun i hi => by rw [s.1 _ _ _ (by unfold KL KR; omega)]; exact h7 i hi⟩
  obtain ⟨q, a, b, b1, b2, b3, b4, b5, b6⟩ := h5 j hj
  exact ⟨q, by rw [s.2.2.1 _ _ _ (by unfold KL KR; omega)]; exact a, b, by rw [s.2.2.1 _ _ _ (by unfold KL KR; omega)]; exact b1, by rw [s.1 _ _ _ (by unfold KL KR; omega)]; exact b2, by rw [s.2.2.2 _ _ (by unfold KL KR; omega)]; exact b3, fun i hi => by rw [s.1 _ _ _ (by unfold KL KR; omega)]; exact b4 i hi, Nat.lt_of_lt_of_le b5 u.1, Nat.lt_of_lt_of_le b6 u.2⟩
theorem mDt.tk {D : pD} (h : mDt w D) (s : pSame KTk w w') : mDt w' D := by
  obtain ⟨h1, h2, h3, h4, h5⟩ := h
  exact ⟨by rw [s.1 _ _ _ (by unfold KTk; omega)]; exact h1, by rw [s.1 _ _ _ (by unfold KTk; omega)]; exact h2, by rw [s.1 _ _ _ (by unfold KTk; omega)]; exact h3, fun l hl => by rw [s.1 42 _ _ (by unfold KTk; omega), s.1 43 _ _ (by unfold KTk; omega), s.2.1 44 _ _ (by unfold KTk; omega)]; exact h4 l hl, fun z => ⟨by rw [s.1 _ _ _ (by unfold KTk; omega)]; exact (h5 z).1, fun i hi => by rw [s.1 _ _ _ (by unfold KTk; omega)]; exact (h5 z).2 i hi⟩⟩
end BITS
