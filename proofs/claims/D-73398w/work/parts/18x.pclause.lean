/-! the pure law: a clause of a trace: which, in the model and in the component -/
section CLAUSE
variable {w w' w0 : j_St} {P : pP} {n t p st : Nat}
def mC (p1 v13 : Int32) (w14 : j_St) : Option (Int32 × j_St) := jlt (fun (w39 : j_St) => jcb (f_X9_bad w39) fun _ w41 => some (p1, w41)) fun K90 => if v13 = (-1) then K90 w14 else jlt (fun (w18 : j_St) => jlt (fun (w20 : j_St) => jcb (f_X9_next w20) fun _ w22 => jlt (fun (w38 : j_St) => some (p1 ||| ((1 : Int32) <<< (v13 &&& 31)), w38)) fun K168 => if v13 = 0 then jcb (f_X9_readSamples w22) fun _ w25 => K168 w25 else if v13 = 1 then jcb (f_X9_number 0 999 w22) fun v27 w28 => jlt (jsi w28 1 0 17 v27) fun w30 => K168 w30 else if v13 = 2 then jcb (f_X9_number 0 9 w22) fun v31 w32 => jlt (jsi w32 1 0 18 v31) fun w34 => K168 w34 else jcb (f_X9_readLine w22) fun _ w36 => K168 w36) fun K96 => if v13 = 3 then jlt (jgi w18 1 0 16) fun v19 => if v19 = 8 then K90 w18 else K96 w18 else K96 w18) fun K76 => if 3 ≤ v13 then K76 w14 else jcb (f_X9_has p1 v13 w14) fun v15 w16 => if v15 = 0 then K76 w16 else K90 w16
theorem m_clauseW (hk : TkM P w st) (p1 : Int32) : f_X9_clause p1 w = mC p1 (kT (wl P st) (wc P st)) w := by
  obtain ⟨l0, l1, l2, l3, -⟩ := lnV_is
  have i0 : f_X9_isWord 10983929 w = some (if wQ (wl P st) (wc P st) (stB.getD 0 []) = true then 1 else 0, w) := by
    have := m_isWord hk (j := 0) (by decide)
    rw [l0] at this
    exact this
  have i1 : f_X9_isWord 7742498 w = some (if wQ (wl P st) (wc P st) (stB.getD 1 []) = true then 1 else 0, w) := by
    have := m_isWord hk (j := 1) (by decide)
    rw [l1] at this
    exact this
  have i2 : f_X9_isWord 9665171 w = some (if wQ (wl P st) (wc P st) (stB.getD 2 []) = true then 1 else 0, w) := by
    have := m_isWord hk (j := 2) (by decide)
    rw [l2] at this
    exact this
  have i3 : f_X9_isWord 243140 w = some (if wQ (wl P st) (wc P st) (stB.getD 3 []) = true then 1 else 0, w) := by
    have := m_isWord hk (j := 3) (by decide)
    rw [l3] at this
    exact this
  unfold kT
  rw [f_X9_clause, i0, jcb_s2, jlt_eq]
  by_cases a0 : wQ (wl P st) (wc P st) (stB.getD 0 []) = true
  · rw [if_pos a0, if_neg n10, if_pos a0]
    rfl
  rw [if_neg a0, if_pos rfl, i1, jcb_s2]
  by_cases a1 : wQ (wl P st) (wc P st) (stB.getD 1 []) = true
  · rw [if_pos a1, if_neg n10, if_neg a0, if_pos a1]
    rfl
  rw [if_neg a1, if_pos rfl, i2, jcb_s2]
  by_cases a2 : wQ (wl P st) (wc P st) (stB.getD 2 []) = true
  · rw [if_pos a2, if_neg n10, if_neg a0, if_neg a1, if_pos a2]
    rfl
  rw [if_neg a2, if_pos rfl, i3, jcb_s2]
  by_cases a3 : wQ (wl P st) (wc P st) (stB.getD 3 []) = true
  · rw [if_pos a3, if_neg n10, if_neg a0, if_neg a1, if_neg a2, if_pos a3]
    rfl
  · rw [if_neg a3, if_pos rfl, if_neg a0, if_neg a1, if_neg a2, if_neg a3]
    rfl
/-- what the component does then -/
def cC (i0 i1 : Nat) (p2 v4 : Int32) (v32 : Int32) (w33 : j_St) : Option ((Nat ⊕ Int32) × j_St) := jlt (fun (v36 : Int32) (w37 : j_St) => jlt (fun (w74 : j_St) => jlt (jgn w74 109 0) fun n77 => jlt (jbump w74 9) fun w79 => jlt (jnw w79 9 n77 0) fun w84 => jcb (f_X12_init n77 v4 w84) fun _ w87 => some ((Sum.inl n77 : Nat ⊕ Int32), w87)) fun K214 => if v36 = (-1) then K214 w37 else if p2 &&& v36 = 0 then jlt (fun (w41 : j_St) => jlt (fun (w71 : j_St) => some (.inr (p2 ||| v36), w71)) fun K287 => if v36 = 1 then jcx (f_X10_samples i0 (2 * i1 + 2) w41) fun _ w66 => K287 w66 else if v36 = 2 then jcx (f_X10_number i0 0 999 w41) fun v57 w58 => jlt (jsi w58 6 i1 4 v57) fun w63 => K287 w63 else if v36 = 4 then jcx (f_X10_number i0 0 9 w41) fun v50 w51 => jlt (jsi w51 6 i1 5 v50) fun w56 => K287 w56 else jcx (f_X10_line i0 i1 w41) fun _ w45 => K287 w45) fun K224 => if v36 = 0 then jlt (jgi w37 6 i1 3) fun v40 => if v40 = 8 then K214 w37 else K224 w37 else K224 w37 else K214 w37) fun K185 => if v32 = 0 then K185 1 w33 else if v32 = 1 then K185 2 w33 else if v32 = 2 then K185 4 w33 else if v32 = 3 then K185 0 w33 else K185 (-1) w33
theorem c_clauseW (hT : TpC P w) (hL : cLit w) (hp : jgi w 8 n 0 = nI p) (h4 : p ≤ P.1) (hu : cUp w0 w) (p2 : Int32) : ∃ w3, f_X10_clause n t p2 w = cC n t p2 (nI (tE gS P p)) (kT (wl P (tE gS P p)) (wc P (tE gS P p))) w3 ∧ pSame (KL n w0) w w3 ∧ pSame (KL n w) w w3 ∧ cUp w w3 ∧ jgi w3 8 n 0 = nI (tE gL P (tE gS P p)) := by
  have hst : tE gS P p ≤ P.1 := tE_le h4
  have hL4 := hT.2.2.1
  obtain ⟨w1, e1, s1, p1⟩ := c_peek hT hp h4
  obtain ⟨g, mm, w2, e2, s2, p2', B2, hg, r2⟩ := c_word (hT.rd s1) p1 hst
  rw [tE_idem] at p2' B2
  generalize tE gS P p = st at *
  have kb : wl P st ≤ 400 := by have : tE gL P st ≤ P.1 := tE_le hst; unfold wl; omega
  have u1 : cUp w w1 := ⟨Nat.le_of_eq (s1.2.2.2 _ _ (by unfold KR; omega)).symm, Nat.le_of_eq (s1.2.2.2 _ _ (by unfold KR; omega)).symm⟩
  have u2 : cUp w w2 := u1.trans ⟨Nat.le_of_eq (s2.2.2.2 _ _ (by unfold KWo KWd KR KBu; omega)).symm, r2⟩
  have B2 : pSB w1 w2 mm (wl P st) g (wc P st) := B2
  have hc : ∀ i, i < wl P st → wc P st i < 128 := fun i hi => by have := wc_L (P := P) hi; omega
  obtain ⟨w3, e3, s3, q3, z2, z3, n3, n3'⟩ := sb_str B2 hg hc
  obtain ⟨w4, e4, s4⟩ := c_hash q3 z2 z3 hc (by omega)
  have u3 : cUp w w3 := u2.trans ⟨by omega, by omega⟩
  have all : ∀ v : j_St, cUp v w → pSame (KL n v) w w4 := fun v hv => (((s1.mono fun κ i k y => y.l).trans (s2.mono fun κ i k y => y.l (hv.trans u1))).trans (s3.mono fun κ i k y => y.l (hv.trans u2))).trans (s4.mono fun κ i k y => by
    have a := (hv.trans u2).1
    unfold KHs at y
    exact Or.inr (Or.inr (Or.inr (Or.inr (Or.inl ⟨y.1, by omega⟩)))))
  have q4 : pStr w4 (jgn w2 115 0) (wl P st) (wc P st) := by
    obtain ⟨b, b1, b2, b3, b4, b5, b6⟩ := q3
    exact ⟨b, by rw [s4.2.2.1 _ _ _ (by unfold KHs; omega)]; exact b1, by rw [s4.1 _ _ _ (by unfold KHs; omega)]; exact b2, by rw [s4.2.2.2 _ _ (by unfold KHs; omega)]; exact b3, fun i hi => by rw [s4.1 _ _ _ (by unfold KHs; omega)]; exact b4 i hi, by rw [s4.2.2.2 _ _ (by unfold KHs; omega)]; exact b5, by rw [s4.2.2.2 _ _ (by unfold KHs; omega)]; exact b6⟩
  have L4 : cLit w4 := hL.l (all w cUp.rfl')
  have hh := c_kT (v := hs (wl P st) (fun i => nI (wc P st i))) rfl q4 L4 (by omega) (cC n t p2 (nI st))
  refine ⟨w4, ?_, all w0 hu, all w cUp.rfl', u3.trans ⟨Nat.le_of_eq (s4.2.2.2 _ _ (by unfold KHs; omega)).symm, Nat.le_of_eq (s4.2.2.2 _ _ (by unfold KHs; omega)).symm⟩, by rw [s4.1 _ _ _ (by unfold KHs; omega), s3.1 _ _ _ (by unfold KSt; omega)]; exact p2'⟩
  refine Eq.trans ?_ hh
  rw [f_X10_clause, e1, jcb_s2, jlt_eq, p1, e2, jcb_s2, e3, jcb_s2, e4, jcb_s2, jlt_eq]
  rfl
end CLAUSE
