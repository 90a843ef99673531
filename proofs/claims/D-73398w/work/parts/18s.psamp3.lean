/-! the pure law: all samples of a trace -/
section SAMP3
variable {w w' w0 : j_St} {P : pP} {n t p st : Nat}
theorem CSa.pre {i1 : Nat} {w1 : j_St} {o : Option ((Nat ⊕ Unit) × j_St)} {R : pQR} (s : pSame (KSa n i1 w0) w w1) (u : cUp w w1) (h : CSa n i1 w0 w1 o R) : CSa n i1 w0 w o R := by
  cases R with
  | inl e =>
    obtain ⟨mm, w', a, b, c, d⟩ := h
    exact ⟨mm, w', a, s.trans b, u.trans c, d⟩
  | inr x =>
    obtain ⟨w', a, b, c, d⟩ := h
    exact ⟨w', a, s.trans b, u.trans c, d⟩
theorem MSa.pre {w1 : j_St} {o : Option (Unit × j_St)} {R : pQR} (s : pSame KMq w w1) (h : MSa P w1 o R) : MSa P w o R := by
  cases R with
  | inl e =>
    obtain ⟨w', a, b, c⟩ := h
    exact ⟨w', a, s.trans b, c⟩
  | inr x =>
    obtain ⟨w', a, b, c⟩ := h
    exact ⟨w', a, s.trans b, c⟩
theorem samples_both {i1 : Nat} (hL4 : P.1 ≤ 400) (hP : ∀ k, k < P.1 → 1 ≤ P.2 k ∧ P.2 k ≤ 255) (hp : p ≤ P.1) : ∃ R, wfQR P R ∧
    (∀ w w0, TpC P w → jgi w 8 n 0 = nI p → jgi w 4 i1 1 = 0 → cUp w0 w → CSa n i1 w0 w (f_X10_samples n i1 w) R) ∧
    ∀ w, TpM P w → TkM P w (tE gS P p) → jgi w 1 0 8 = -1 → MSa P w (f_X9_readSamples w) R := by
  have hst : tE gS P p ≤ P.1 := tE_le hp
  have m0 : ∀ w, f_X9_readSamples w = f_X9_readSamples_L7 mKs (19998 + 1 + 1) 1 (jsi w 1 0 15 0) := fun w => by
    rw [f_X9_readSamples, jlt_eq]
    rfl
  have mk : ∀ w, TkM P w (tE gS P p) → TkM P (jsi w 1 0 15 0) (tE gS P p) := fun w hk => hk.same (pSame.jsi (K := fun κ _ k => κ = 1 ∧ k = 15) ⟨rfl, rfl⟩) (fun k a => by omega)
  have ms : ∀ w : j_St, pSame KMq w (jsi w 1 0 15 0) := fun w => pSame.jsi (Or.inr (Or.inl ⟨rfl, rfl, Or.inr rfl⟩))
  have mm0 : ∀ w : j_St, mSa (jsi w 1 0 15 0) (fun _ => 0) 0 := fun w => ⟨jgi_eq, fun i hi => by omega⟩
  by_cases ho : nOk P false 999 (tE gS P p)
  · have z := ho.1
    have lt := (tK2 z).1
    have n45 : ¬ P.2 (tE gS P p) = 45 := ho.2.1 rfl
    have tv : tV P (tE gS P p) = nI (nv P (tS P (tE gS P p)) (tN P (tE gS P p))) := if_neg n45
    have he : tE gD P (tS P (tE gS P p)) ≤ P.1 := tE_le (tS_le lt)
    obtain ⟨R, wf, cR, mR⟩ := samp_both (n := n) (i1 := i1) hL4 hP 47 1 (tE gS P (tE gD P (tS P (tE gS P p)))) (up (fun _ => 0) 0 (nv P (tS P (tE gS P p)) (tN P (tE gS P p)))) rfl (by omega) (tE_le he) tE_idem (fun i hi => by
      rw [show i = 0 by omega, up_same]; exact ho.2.2)
    refine ⟨R, wf, fun w w0 hT h8 hn hu => ?_, fun w hT hk h8 => ?_⟩
    · obtain ⟨w1, e1, s1, p1⟩ := (c_number hT h8 hp false (mx := 999) (by decide)).1 ho
      have e1 : f_X10_number n 0 999 w = some (.inr (tV P (tE gS P p)), w1) := e1
      rw [tv] at e1
      obtain ⟨w2, e2, s2, n2, v2⟩ := c_add (i1 := i1) (k := 0) (x := nv P (tS P (tE gS P p)) (tN P (tE gS P p))) (s := fun _ => 0) (w := w1) ⟨by rw [s1.1 _ _ _ (by unfold KY KR; omega)]; exact hn, fun i hi => by omega⟩ (by omega)
      have L2 : pSame (KSa n i1 w0) w w2 := (s1.mono fun κ i k y => Or.inl y.l).trans (s2.mono fun κ i k y => Or.inr y)
      have u2 : cUp w w2 := (KY.up s1).trans ⟨Nat.le_of_eq (s2.2.2.2 _ _ (by omega)).symm, Nat.le_of_eq (s2.2.2.2 _ _ (by omega)).symm⟩
      obtain ⟨w3, e3, s3, p3⟩ := c_peek (hT.sa L2) (n := n) (p := tE gD P (tS P (tE gS P p))) (by rw [s2.1 _ _ _ (by omega)]; exact p1) he
      have L3 : pSame (KSa n i1 w0) w w3 := L2.trans (s3.mono fun κ i k y => Or.inl (Or.inl y))
      have u3 : cUp w w3 := u2.trans ⟨Nat.le_of_eq (s3.2.2.2 _ _ (by unfold KR; omega)).symm, Nat.le_of_eq (s3.2.2.2 _ _ (by unfold KR; omega)).symm⟩
      have h := cR jFU w3 w0 (jFU_gt (by omega)) (hT.sa L3) p3 ⟨by rw [s3.1 _ _ _ (by unfold KR; omega)]; exact n2, fun i hi => by rw [s3.1 _ _ _ (by unfold KR; omega)]; exact v2 i hi⟩ (hu.trans u3)
      have st1 : f_X10_samples n i1 w = f_X10_samples_L17 n i1 (cKs n) jFU 1 (7 * 1) w3 := by
        rw [f_X10_samples, e1, jcx_s, e2, jcb_s2, e3, jcb_s2]
        rfl
      rw [st1]
      exact h.pre L3 u3
    · obtain ⟨w1, e1, s1, g8, t1, m1⟩ := mL7_ok (f := 19998 + 1) (hT.q (K := KMq) (ms w)) (mk w hk) (by rw [jgi_ne (by omega)]; exact h8) (mm0 w) (by omega) ho
      have h := mR (19998 + 1) w1 (by omega) ((hT.q (K := KMq) (ms w)).q (K := KMq) s1) t1 g8 m1
      rw [m0, e1]
      exact h.pre ((ms w).trans s1)
  · refine ⟨.inl (tE gS P p), hst, fun w w0 hT h8 hn hu => ?_, fun w hT hk h8 => ?_⟩
    · obtain ⟨mm, w1, e1, s1, p1⟩ := (c_number hT h8 hp false (mx := 999) (by decide)).2 ho
      have e1 : f_X10_number n 0 999 w = some (.inl mm, w1) := e1
      exact ⟨mm, w1, by rw [f_X10_samples, e1, jcx_e], s1.mono fun κ i k y => Or.inl y.l, KY.up s1, p1⟩
    · obtain ⟨w1, e1, s1, r1⟩ := mL7_no (f := 19998) (hT.q (K := KMq) (ms w)) (mk w hk) (by rw [jgi_ne (by omega)]; exact h8) (mm0 w) (by omega) (Or.inr ho)
      exact ⟨w1, by rw [m0]; exact e1, (ms w).trans s1, r1⟩
end SAMP3
