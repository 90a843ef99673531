/-! the pure law: the samples' clause, by both -/
section CL6
variable {w w' w0 : j_St} {P : pP} {n t p b : Nat} {D : pD}
theorem sam_both (hP4 : P.1 ≤ 400) (hP : ∀ k, k < P.1 → 1 ≤ P.2 k ∧ P.2 k ≤ 255) (hp : p ≤ P.1) (hD : wfD D b) (ht : ¬ b.testBit 0 = true) : ∃ R, wfCR P D b R ∧
    (∀ w w0, TpC P w → jgi w 8 n 0 = nI p → cDt w t D → cUp w0 w → CCl n t w0 w (jcx (f_X10_samples n (2 * t + 2) w) fun _ w66 => some (.inr (nI ((b ||| 2 ^ 0) % 8)), w66)) R) ∧
    ∀ w, TpM P w → TkM P w (tE gS P p) → jgi w 1 0 8 = -1 → mDt w D → MCl P w (jcb (f_X9_readSamples w) fun _ w25 => some (nI (b ||| 2 ^ 0), w25)) R := by
  obtain ⟨d1, d2, d3, d4, d5, d6, d7, d8, d9⟩ := hD
  have k0 : D.2.2.1 = 0 := by
    rcases Nat.eq_zero_or_pos D.2.2.1 with z | z
    · exact z
    · exact absurd (d9.mpr z) ht
  obtain ⟨m1, m2⟩ := mu_bit d8 (j := 0) (by omega) ht
  have b16 := (bits_all d8 (show 0 < 4 by omega)).2.2.2.2
  obtain ⟨R, wf, cR, mR⟩ := samples_both (n := n) (i1 := 2 * t + 2) hP4 hP hp
  cases R with
  | inl e =>
    refine ⟨.inl e, wf, fun w w0 hT h8 hc hu => ?_, fun w hT hk h8 hm => ?_⟩
    · obtain ⟨mm, w1, e1, s1, u1, r1⟩ := cR w w0 hT h8 (by rw [hc.2.2.2.2.2.1, k0]; rfl) hu
      refine ⟨mm, w1, by rw [e1, jcx_e], s1.mono fun κ i k y => ?_, u1, r1⟩
      rcases y with y | y
      · exact Or.inl y
      · exact Or.inr (Or.inr y)
    · obtain ⟨w1, e1, s1, r1⟩ := mR w hT hk h8
      refine ⟨_, w1, by rw [e1, jcb_s2], s1.mono fun κ i k y => ?_, r1⟩
      unfold KMq at y
      unfold KMt
      rcases y with y | y | y
      · exact Or.inl y
      · exact Or.inr (Or.inl ⟨y.1, y.2.1, by omega⟩)
      · exact Or.inr (Or.inr ⟨by omega, y.2⟩)
  | inr x =>
    obtain ⟨s, k, p'⟩ := x
    obtain ⟨q1, q2, q3, q4, q5⟩ := wf
    refine ⟨.inr ((D.1, s, k, D.2.2.2), b ||| 2 ^ 0, p'), ⟨⟨d1, d2, d3, d4, d5, q2, q3, b16, by rw [m2]; exact ⟨fun _ => q1, fun _ => Or.inr rfl⟩⟩, q4, ?_⟩, fun w w0 hT h8 hc hu => ?_, fun w hT hk h8 hm => ?_⟩
    · unfold mu
      show D.1.2.1 + _ + _ + _ = _
      omega
    · have z0 : jgi w 4 (2 * t + 2) 1 = 0 := by rw [hc.2.2.2.2.2.1, k0]; rfl
      obtain ⟨w1, e1, s1, u1, n1, p1⟩ := cR w w0 hT h8 z0 hu
      obtain ⟨w1', e1', s1', -, -, -⟩ := cR w w hT h8 z0 cUp.rfl'
      have ew : w1' = w1 := by
        rw [e1] at e1'
        exact (Prod.mk.inj (Option.some.inj e1')).2.symm
      rw [ew] at s1'
      refine ⟨w1, by rw [e1, jcx_s], s1.mono fun κ i k y => ?_, u1, ?_, p1⟩
      · rcases y with y | y
        · exact Or.inl y
        · exact Or.inr (Or.inr y)
      · obtain ⟨c1, c2, c3, c4, c5, c6, c7⟩ := hc
        refine ⟨by rw [s1'.1 _ _ _ (by unfold KSa KL KR; omega)]; exact c1, by rw [s1'.1 _ _ _ (by unfold KSa KL KR; omega)]; exact c2, by rw [s1'.1 _ _ _ (by unfold KSa KL KR; omega)]; exact c3, fun l hl => by rw [s1'.1 _ _ _ (by unfold KSa KL KR; omega)]; exact c4 l hl, fun j hj => ?_, n1.1, fun i hi => n1.2.1 i hi⟩
        obtain ⟨q, a, b, b1, b2, b3, b4, b5, b6⟩ := c5 j hj
        exact ⟨q, by rw [s1'.2.2.1 _ _ _ (by unfold KSa KL KR; omega)]; exact a, b, by rw [s1'.2.2.1 _ _ _ (by unfold KSa KL KR; omega)]; exact b1, by rw [s1'.1 _ _ _ (by unfold KSa KL KR; omega)]; exact b2, by rw [s1'.2.2.2 _ _ (by unfold KSa KL KR; omega)]; exact b3, fun i hi => by rw [s1'.1 _ _ _ (by unfold KSa KL KR; omega)]; exact b4 i hi, Nat.lt_of_lt_of_le b5 u1.1, Nat.lt_of_lt_of_le b6 u1.2⟩
    · obtain ⟨w1, e1, s1, r1⟩ := mR w hT hk h8
      refine ⟨w1, by rw [e1, jcb_s2], s1.mono fun κ i k y => ?_, ?_⟩
      · unfold KMq at y
        unfold KMt
        rcases y with y | y | y
        · exact Or.inl y
        · exact Or.inr (Or.inl ⟨y.1, y.2.1, by omega⟩)
        · exact Or.inr (Or.inr ⟨by omega, y.2⟩)
      · rw [q5]
        rcases r1 with ⟨g8, t1, m1⟩ | r1
        · obtain ⟨c1, c2, c3, c4, c5⟩ := hm
          exact Or.inl ⟨g8, t1, by rw [s1.1 _ _ _ (by unfold KMq KTk; omega)]; exact c1, by rw [s1.1 _ _ _ (by unfold KMq KTk; omega)]; exact c2, by rw [s1.1 _ _ _ (by unfold KMq KTk; omega)]; exact c3, fun l hl => by rw [s1.1 42 _ _ (by unfold KMq KTk; omega), s1.1 43 _ _ (by unfold KMq KTk; omega), s1.2.1 44 _ _ (by unfold KMq KTk; omega)]; exact c4 l hl, fun _ => m1⟩
        · exact Or.inr r1
end CL6
