/-! the pure law: noise and reach of a trace, by both -/
section CL5
variable {w w' w0 : j_St} {P : pP} {n t p b j : Nat} {D : pD}
def setN (D : pD) (j v : Nat) : pD := if j = 1 then (D.1, D.2.1, D.2.2.1, v) else ((D.1.1, D.1.2.1, v, D.1.2.2.2), D.2)
def mxN (j : Nat) : Nat := if j = 1 then 999 else 9
theorem setN_wf (h : wfD D b) (hj : j = 1 ∨ j = 2) {v : Nat} (hv : v ≤ mxN j) (ht : ¬ b.testBit j = true) : wfD (setN D j v) (b ||| 2 ^ j) ∧ mu (setN D j v) (b ||| 2 ^ j) = mu D b + 1 := by
  obtain ⟨h1, h2, h3, h4, h5, h6, h7, h8, h9⟩ := h
  obtain ⟨m1, m2⟩ := mu_bit h8 (j := j) (by omega) ht
  have b16 := (bits_all h8 (show j < 4 by omega)).2.2.2.2
  unfold mu
  rcases hj with rfl | rfl
  · refine ⟨⟨h1, h2, h3, h4, hv, h6, h7, b16, ?_⟩, ?_⟩
    · rw [m2]
      exact ⟨fun z => h9.mp (z.resolve_right (by decide)), fun z => Or.inl (h9.mpr z)⟩
    · show D.1.2.1 + _ + _ + _ = _
      omega
  · refine ⟨⟨h1, h2, hv, h4, h5, h6, h7, b16, ?_⟩, ?_⟩
    · rw [m2]
      exact ⟨fun z => h9.mp (z.resolve_right (by decide)), fun z => Or.inl (h9.mpr z)⟩
    · show D.1.2.1 + _ + _ + _ = _
      omega
theorem num_both (hP4 : P.1 ≤ 400) (hp : p ≤ P.1) (hD : wfD D b) (hj : j = 1 ∨ j = 2) (ht : ¬ b.testBit j = true) : ∃ R, wfCR P D b R ∧
    (∀ w w0, TpC P w → jgi w 8 n 0 = nI p → cDt w t D → CCl n t w0 w (jcx (f_X10_number n 0 (nI (mxN j)) w) fun v57 w58 => jlt (jsi w58 6 t (if j = 1 then 4 else 5) v57) fun w63 => some (.inr (nI ((b ||| 2 ^ j) % 8)), w63)) R) ∧
    ∀ w, TpM P w → TkM P w (tE gS P p) → jgi w 1 0 8 = -1 → mDt w D → MCl P w (jcb (f_X9_number 0 (nI (mxN j)) w) fun v27 w28 => jlt (jsi w28 1 0 (if j = 1 then 17 else 18) v27) fun w30 => some (nI (b ||| 2 ^ j), w30)) R := by
  have hst : tE gS P p ≤ P.1 := tE_le hp
  have mx : mxN j < 1000 := by unfold mxN; split <;> omega
  by_cases ho : nOk P false (mxN j) (tE gS P p)
  · have lt := (tK2 ho.1).1
    have tv : tV P (tE gS P p) = nI (nv P (tS P (tE gS P p)) (tN P (tE gS P p))) := if_neg (ho.2.1 rfl)
    have he : tE gD P (tS P (tE gS P p)) ≤ P.1 := tE_le (tS_le lt)
    have wf := setN_wf hD hj ho.2.2 ht
    refine ⟨.inr (setN D j (nv P (tS P (tE gS P p)) (tN P (tE gS P p))), b ||| 2 ^ j, tE gD P (tS P (tE gS P p))), ⟨wf.1, he, wf.2⟩, fun w w0 hT h8 hc => ?_, fun w hT hk h8 hm => ?_⟩
    · obtain ⟨w1, e1, s1, p1⟩ := (c_number hT h8 hp false mx).1 ho
      have e1 : f_X10_number n 0 (nI (mxN j)) w = some (.inr (tV P (tE gS P p)), w1) := e1
      have C1 := hc.l (s1.mono fun κ i k y => KY.l (w0 := w) y) (KY.up s1)
      have s2 : pSame (fun κ i k => κ = 6 ∧ i = t ∧ (k = 4 ∨ k = 5)) w1 (jsi w1 6 t (if j = 1 then 4 else 5) (tV P (tE gS P p))) := pSame.jsi ⟨rfl, rfl, by split <;> omega⟩
      refine ⟨jsi w1 6 t (if j = 1 then 4 else 5) (tV P (tE gS P p)), by rw [e1, jcx_s, jlt_eq], (s1.mono fun κ i k y => Or.inl y.l).trans (s2.mono fun κ i k y => Or.inr (Or.inl ⟨Or.inl y.1, y.2.1⟩)), (KY.up s1).trans ⟨Nat.le_refl _, Nat.le_refl _⟩, ?_, by rw [jgi_ne (by omega)]; exact p1⟩
      obtain ⟨c1, c2, c3, c4, c5, c6, c7⟩ := C1
      have c5' : cNm (jsi w1 6 t (if j = 1 then 4 else 5) (tV P (tE gS P p))) t D.1.2.1 D.1.2.2.2.1 D.1.2.2.2.2 := fun i hi => by
        obtain ⟨q, a, b, b1, b2, b3, b4, b5, b6⟩ := c5 i hi
        exact ⟨q, a, b, b1, by rw [jgi_ne (by omega)]; exact b2, b3, fun i hi => by rw [jgi_ne (by omega)]; exact b4 i hi, b5, b6⟩
      rcases hj with rfl | rfl
      · exact ⟨by rw [s2.1 _ _ _ (by omega)]; exact c1, jgi_eq.trans tv, by rw [jgi_ne (by rw [if_pos rfl]; omega)]; exact c3, fun l hl => by rw [s2.1 _ _ _ (by omega)]; exact c4 l hl, c5', by rw [s2.1 _ _ _ (by omega)]; exact c6, fun i hi => by rw [s2.1 _ _ _ (by omega)]; exact c7 i hi⟩
      · exact ⟨by rw [s2.1 _ _ _ (by omega)]; exact c1, by rw [jgi_ne (by rw [if_neg (by decide)]; omega)]; exact c2, jgi_eq.trans tv, fun l hl => by rw [s2.1 _ _ _ (by omega)]; exact c4 l hl, c5', by rw [s2.1 _ _ _ (by omega)]; exact c6, fun i hi => by rw [s2.1 _ _ _ (by omega)]; exact c7 i hi⟩
    · obtain ⟨w1, e1, s1, t1, g8⟩ := (m_number hT hk h8 mx).1 ho
      have M1 := hm.tk s1
      have s2 : pSame (fun κ i k => κ = 1 ∧ i = 0 ∧ (k = 17 ∨ k = 18)) w1 (jsi w1 1 0 (if j = 1 then 17 else 18) (tV P (tE gS P p))) := pSame.jsi ⟨rfl, rfl, by split <;> omega⟩
      refine ⟨jsi w1 1 0 (if j = 1 then 17 else 18) (tV P (tE gS P p)), by rw [e1, jcb_s2, jlt_eq], (s1.mono fun κ i k y => Or.inl y).trans (s2.mono fun κ i k y => Or.inr (Or.inl ⟨y.1, y.2.1, by omega⟩)), Or.inl ⟨by rw [s2.1 _ _ _ (by omega)]; exact g8, t1.same s2 (fun k a => by omega), ?_⟩⟩
      obtain ⟨c1, c2, c3, c4, c5⟩ := M1
      have c5' : 0 < D.2.2.1 → mSa (jsi w1 1 0 (if j = 1 then 17 else 18) (tV P (tE gS P p))) D.2.1 D.2.2.1 := fun z => ⟨by rw [s2.1 _ _ _ (by omega)]; exact (c5 z).1, fun i hi => by rw [s2.1 _ _ _ (by omega)]; exact (c5 z).2 i hi⟩
      have c4' : ∀ l, l < D.1.2.1 → jgi (jsi w1 1 0 (if j = 1 then 17 else 18) (tV P (tE gS P p))) 42 0 l = nI (D.1.1 l) ∧ jgi (jsi w1 1 0 (if j = 1 then 17 else 18) (tV P (tE gS P p))) 43 0 l = nI (D.1.2.2.2.1 l) ∧ jgl (jsi w1 1 0 (if j = 1 then 17 else 18) (tV P (tE gS P p))) 44 0 l = lN (pWord (D.1.2.2.2.1 l) (D.1.2.2.2.2 l)) := fun l hl => by
        rw [s2.1 42 _ _ (by omega), s2.1 43 _ _ (by omega), s2.2.1 44 _ _ (by omega)]
        exact c4 l hl
      rcases hj with rfl | rfl
      · exact ⟨by rw [s2.1 _ _ _ (by omega)]; exact c1, jgi_eq.trans tv, by rw [jgi_ne (by rw [if_pos rfl]; omega)]; exact c3, c4', c5'⟩
      · exact ⟨by rw [s2.1 _ _ _ (by omega)]; exact c1, by rw [jgi_ne (by rw [if_neg (by decide)]; omega)]; exact c2, jgi_eq.trans tv, c4', c5'⟩
  · refine ⟨.inl (tE gS P p), hst, fun w w0 hT h8 hc => ?_, fun w hT hk h8 hm => ?_⟩
    · obtain ⟨mm, w1, e1, s1, p1⟩ := (c_number hT h8 hp false mx).2 ho
      have e1 : f_X10_number n 0 (nI (mxN j)) w = some (.inl mm, w1) := e1
      exact ⟨mm, w1, by rw [e1, jcx_e], s1.mono fun κ i k y => Or.inl y.l, KY.up s1, p1⟩
    · have e1 := (m_number hT hk h8 mx).2 ho
      refine ⟨_, jsi (jsi w 1 0 8 (nI (tE gS P p))) 1 0 (if j = 1 then 17 else 18) 0, by rw [e1, jcb_s2, jlt_eq], (pSame.jsi (Or.inr (Or.inl ⟨rfl, rfl, Or.inl rfl⟩))).trans (pSame.jsi (Or.inr (Or.inl ⟨rfl, rfl, Or.inr (by split <;> omega)⟩))), ?_⟩
      rw [jgi_ne (by split <;> omega)]
      exact jgi_eq
end CL5
