/-! the pure law: a script, read by both -/
section SCRIPT
variable {w w' w0 : j_St} {P : pP} {n t m p sl : Nat}
theorem bt_59 (hP : ∀ k, k < P.1 → 1 ≤ P.2 k ∧ P.2 k ≤ 255) {st : Nat} : bt P st = 59 ↔ tK P st = 3 := by
  unfold bt tK
  by_cases c : st < P.1
  · have := hP st c
    rw [if_pos c, if_pos c]
    have e : nI (P.2 st) = 59 ↔ P.2 st = 59 := nI_eq (b := 59) (by omega) (by omega)
    rw [e]
    constructor
    · intro z
      rw [z, if_neg (by decide), if_neg (by decide), if_pos rfl]
    · intro z
      by_cases a : gL (P.2 st) = true
      · rw [if_pos a] at z; omega
      · rw [if_neg a] at z
        by_cases d : gD (P.2 st) = true ∨ P.2 st = 45
        · rw [if_pos d] at z
          split at z <;> omega
        · rw [if_neg d] at z
          by_cases f : P.2 st = 59
          · exact f
          · rw [if_neg f] at z; omega
  · rw [if_neg c, if_neg c]
    exact ⟨fun z => absurd z (by decide), fun z => absurd z (by decide)⟩
theorem bt_m1 (hP : ∀ k, k < P.1 → 1 ≤ P.2 k ∧ P.2 k ≤ 255) {st : Nat} : bt P st = -1 ↔ tK P st = 0 := by
  unfold bt tK
  by_cases c : st < P.1
  · have := hP st c
    rw [if_pos c, if_pos c]
    constructor
    · intro z
      exact absurd z (nI_ne1 (by omega))
    · intro z
      repeat' split at z
      all_goals omega
  · rw [if_neg c, if_neg c]
    exact ⟨fun _ => rfl, fun _ => rfl⟩
/-- does it go on -/
theorem c_goesOn (hT : TpC P w) (hp : jgi w 8 n 0 = nI p) (h4 : p ≤ P.1) :
    (tK P (tE gS P p) = 0 → ∃ w', f_X10_goesOn n w = some (.inr 0, w') ∧ pSame (KY n) w w' ∧ jgi w' 8 n 0 = nI (tE gS P p)) ∧
    (tK P (tE gS P p) = 3 → ∃ w', f_X10_goesOn n w = some (.inr 1, w') ∧ pSame (KY n) w w' ∧ jgi w' 8 n 0 = nI (tE gS P p + 1)) ∧
    (tK P (tE gS P p) ≠ 0 → tK P (tE gS P p) ≠ 3 → ∃ mm w', f_X10_goesOn n w = some (.inl mm, w') ∧ pSame (KY n) w w' ∧ jgi w' 9 mm 6 = nI (tE gS P p)) := by
  obtain ⟨w1, e1, s1, p1⟩ := c_peek hT hp h4
  have b59 := bt_59 hT.2.2.2 (st := tE gS P p)
  have bm1 := bt_m1 hT.2.2.2 (st := tE gS P p)
  refine ⟨fun h => ?_, fun h => ?_, fun h h' => ?_⟩
  · refine ⟨w1, ?_, s1.mono fun κ i k y => Or.inl y, p1⟩
    have n59 : ¬ bt P (tE gS P p) = 59 := fun z => by have := b59.mp z; omega
    rw [f_X10_goesOn, e1, jcb_s2, jlt_eq, if_pos (bm1.mpr h)]
    dsimp only
    rw [jlt_eq, if_neg n59]
    dsimp only
    rw [if_neg n59]
  · refine ⟨jsi w1 8 n 0 (nI (tE gS P p + 1)), ?_, (s1.mono fun κ i k y => Or.inl y).trans (pSame.jsi (Or.inl ⟨rfl, rfl, rfl⟩)), jgi_eq⟩
    have nm : ¬ bt P (tE gS P p) = -1 := fun z => by have := bm1.mp z; omega
    rw [f_X10_goesOn, e1, jcb_s2, jlt_eq, if_neg nm, if_pos (b59.mpr h)]
    dsimp only
    rw [jlt_eq, if_pos (b59.mpr h), jlt_eq, p1, jlt_eq, nI_1]
    dsimp only
    rw [if_pos (b59.mpr h)]
  · have nm : ¬ bt P (tE gS P p) = -1 := fun z => h (bm1.mp z)
    have n59 : ¬ bt P (tE gS P p) = 59 := fun z => h' (b59.mp z)
    have r8 : jgi (jnw (jbump w1 9) 9 (jgn w1 109 0) 0) 8 n 0 = nI (tE gS P p) := by rw [jgi_jnw, if_neg (by omega), jgi_bump]; exact p1
    refine ⟨jgn w1 109 0, _, ?_, (s1.mono fun κ i k y => Or.inl y).trans wr_same, jgi_eq⟩
    rw [f_X10_goesOn, e1, jcb_s2, jlt_eq, if_neg nm, if_neg n59, jlt_eq, jlt_eq, jlt_eq, jlt_eq, r8, c_wrong, jcb_s2]
def KScr (n t : Nat) (w0 : j_St) (κ i k : Nat) : Prop := KL n w0 κ i k ∨ ((κ = 36 ∨ κ = 37) ∧ i = t) ∨ (κ = 7 ∧ i = t ∧ k = 2)
def KMsc (sl κ i k : Nat) : Prop := KTk κ i k ∨ (κ = 1 ∧ i = 0 ∧ k = 8) ∨ (κ = 45 ∧ i = 0 ∧ 36 * sl ≤ k ∧ k < 36 * sl + 36) ∨ (κ = 46 ∧ i = 0 ∧ k = sl)
def cRow (w : j_St) (t k : Nat) (f : Nat → Int32) : Prop := jgi w 7 t 2 = nI k ∧ ∀ i, i < k → jgi w 36 t i = f (3 * i) ∧ jgi w 37 t (2 * i) = f (3 * i + 1) ∧ jgi w 37 t (2 * i + 1) = f (3 * i + 2)
def mRow (w : j_St) (sl k : Nat) (f : Nat → Int32) : Prop := jgi w 46 0 sl = nI k ∧ ∀ i, i < 3 * k → jgi w 45 0 (36 * sl + i) = f i
theorem KSc.s {κ i k : Nat} (h : KSc n t m w0 κ i k) : KScr n t w0 κ i k := by
  unfold KSc at h
  unfold KScr
  rcases h with h | h | h | h
  · exact Or.inl h
  · exact Or.inr (Or.inl ⟨Or.inl h.1, h.2.1⟩)
  · exact Or.inr (Or.inl ⟨Or.inr h.1, h.2.1⟩)
  · exact Or.inr (Or.inr h)
theorem TpC.s (h : TpC P w) (s : pSame (KScr n t w0) w w') : TpC P w' := h.same s ⟨by unfold KScr KL KR; omega, fun k => by unfold KScr KL KR; omega⟩
theorem cLit.s (h : cLit w) (s : pSame (KScr n t w0) w w') : cLit w' := h.same s (fun κ i k hk => by unfold KScr KL KR; omega)
theorem TpM.ms {o : Nat} (h : TpM P w) (s : pSame (KMs o) w w') : TpM P w' := h.same s ⟨by unfold KMs KTk; omega, fun k => by unfold KMs KTk; omega⟩
abbrev pSR : Type := Nat ⊕ (Nat × (Nat → Int32))
def wfSR (P : pP) : pSR → Prop
  | .inl e => e ≤ P.1
  | .inr (k, f) => 1 ≤ k ∧ k ≤ 12 ∧ ∀ i, i < k → ∃ q, q < 10 ∧ f (3 * i) = nI q
/-- what the component's reading of a script ends with -/
def CScr (n t : Nat) (w0 w : j_St) (o : Option ((Nat ⊕ Nat) × j_St)) (R : pSR) : Prop := match R with
  | .inl e => ∃ mm w', o = some (.inl mm, w') ∧ pSame (KScr n t w0) w w' ∧ cUp w w' ∧ jgi w' 9 mm 6 = nI e
  | .inr (k, f) => ∃ w', o = some (.inr t, w') ∧ pSame (KScr n t w0) w w' ∧ cUp w w' ∧ cRow w' t k f
def MScr (sl : Nat) (w : j_St) (o : Option (Int32 × j_St)) (R : pSR) : Prop := match R with
  | .inl e => ∃ w', o = some (nI e, w') ∧ pSame (KMsc sl) w w'
  | .inr (k, f) => ∃ w', o = some (-1, w') ∧ pSame (KMsc sl) w w' ∧ mRow w' sl k f
theorem CScr.pre {w1 : j_St} {o : Option ((Nat ⊕ Nat) × j_St)} {R : pSR} (s : pSame (KScr n t w0) w w1) (u : cUp w w1) (h : CScr n t w0 w1 o R) : CScr n t w0 w o R := by
  cases R with
  | inl e =>
    obtain ⟨mm, w', a, b, c, d⟩ := h
    exact ⟨mm, w', a, s.trans b, u.trans c, d⟩
  | inr x =>
    obtain ⟨w', a, b, c, d⟩ := h
    exact ⟨w', a, s.trans b, u.trans c, d⟩
theorem MScr.pre {w1 : j_St} {o : Option (Int32 × j_St)} {R : pSR} (s : pSame (KMsc sl) w w1) (h : MScr sl w1 o R) : MScr sl w o R := by
  cases R with
  | inl e =>
    obtain ⟨w', a, b⟩ := h
    exact ⟨w', a, s.trans b⟩
  | inr x =>
    obtain ⟨w', a, b, c⟩ := h
    exact ⟨w', a, s.trans b, c⟩
end SCRIPT
