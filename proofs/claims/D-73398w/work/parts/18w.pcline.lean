/-! the pure law: a line of a trace, in the component -/
section CLINE
variable {w w' w0 : j_St} {P : pP} {n t ln p : Nat} {len : Nat → Nat} {le : Nat → Nat → Nat}
def KLi (n t ln : Nat) (w0 : j_St) (κ i k : Nat) : Prop := KL n w0 κ i k ∨ ((κ = 34 ∨ κ = 35) ∧ i = t ∧ k = ln) ∨ (κ = 6 ∧ i = t ∧ k = 3)
theorem c_line (hT : TpC P w) (hp : jgi w 8 n 0 = nI p) (h4 : p ≤ P.1) (hl : ln < 8) (h3 : jgi w 6 t 3 = nI ln) (hN : cNm w t ln len le) (hn : wfN ln len le) (hu : cUp w0 w) :
    (¬ (1 ≤ wl P (tE gS P p) ∧ wl P (tE gS P p) ≤ 6 ∧ ¬ isNm ln len le (wl P (tE gS P p)) (wc P (tE gS P p))) → ∃ mm w', f_X10_line n t w = some (.inl mm, w') ∧ pSame (KLi n t ln w0) w w' ∧ cUp w w' ∧ jgi w' 9 mm 6 = nI (tE gS P p)) ∧
    ((1 ≤ wl P (tE gS P p) ∧ wl P (tE gS P p) ≤ 6 ∧ ¬ isNm ln len le (wl P (tE gS P p)) (wc P (tE gS P p))) → ¬ nOk P false 47 (tE gS P (tE gL P (tE gS P p))) → ∃ mm w', f_X10_line n t w = some (.inl mm, w') ∧ pSame (KLi n t ln w0) w w' ∧ cUp w w' ∧ jgi w' 9 mm 6 = nI (tE gS P (tE gL P (tE gS P p)))) ∧
    ((1 ≤ wl P (tE gS P p) ∧ wl P (tE gS P p) ≤ 6 ∧ ¬ isNm ln len le (wl P (tE gS P p)) (wc P (tE gS P p))) → nOk P false 47 (tE gS P (tE gL P (tE gS P p))) → ∃ w', f_X10_line n t w = some (.inr (), w') ∧ pSame (KLi n t ln w0) w w' ∧ cUp w w' ∧ jgi w' 8 n 0 = nI (tE gD P (tS P (tE gS P (tE gL P (tE gS P p))))) ∧ jgi w' 6 t 3 = nI (ln + 1) ∧ jgi w' 35 t ln = tV P (tE gS P (tE gL P (tE gS P p))) ∧ cNm w' t ln len le ∧ ∃ q, jgr w' 34 t ln = some q ∧ pStr w' q (wl P (tE gS P p)) (wc P (tE gS P p))) := by
  have hst : tE gS P p ≤ P.1 := tE_le h4
  have hL4 := hT.2.2.1
  obtain ⟨w1, e1, s1, p1⟩ := c_peek hT hp h4
  obtain ⟨g, mm, w2, e2, s2, p2, B2, hg, r2⟩ := c_word (hT.rd s1) p1 hst
  rw [tE_idem] at p2 B2
  generalize tE gS P p = st at *
  have hp1 : tE gL P st ≤ P.1 := tE_le hst
  have kb : wl P st ≤ 400 := by unfold wl; omega
  have u1 : cUp w w1 := ⟨Nat.le_of_eq (s1.2.2.2 _ _ (by unfold KR; omega)).symm, Nat.le_of_eq (s1.2.2.2 _ _ (by unfold KR; omega)).symm⟩
  have u2 : cUp w w2 := u1.trans ⟨Nat.le_of_eq (s2.2.2.2 _ _ (by unfold KWo KWd KR KBu; omega)).symm, r2⟩
  have L2 : pSame (KL n w0) w w2 := (s1.mono fun κ i k y => y.l).trans (s2.mono fun κ i k y => y.l (hu.trans u1))
  have B2 : pSB w1 w2 mm (wl P st) g (wc P st) := B2
  have hc : ∀ i, i < wl P st → wc P st i < 128 := fun i hi => by have := wc_L (P := P) hi; omega
  have h32 : jgi w2 6 t 3 = nI ln := by rw [L2.1 _ _ _ (by unfold KL KR; omega)]; exact h3
  have N2 : cNm w2 t ln len le := fun j hj => by
    obtain ⟨q, a, b, b1, b2, b3, b4, b5, b6⟩ := hN j hj
    have L2' : pSame (KL n w) w w2 := (s1.mono fun κ i k y => y.l).trans (s2.mono fun κ i k y => y.l u1)
    exact ⟨q, by rw [L2'.2.2.1 _ _ _ (by unfold KL KR; omega)]; exact a, b, by rw [L2'.2.2.1 _ _ _ (by unfold KL KR; omega)]; exact b1, by rw [L2'.1 _ _ _ (by unfold KL KR; omega)]; exact b2, by rw [L2'.2.2.2 _ _ (by unfold KL KR; omega)]; exact b3, fun i hi => by rw [L2'.1 _ _ _ (by unfold KL KR; omega)]; exact b4 i hi, Nat.lt_of_lt_of_le b5 u2.1, Nat.lt_of_lt_of_le b6 u2.2⟩
  have el : f_J2_length mm w2 = some (nI (wl P st), w2) := by
    obtain ⟨b, b1, b2, b3, -⟩ := B2
    rw [f_J2_length, f_J1_length, jlt_eq, b3, jcb_s2]
  have i16 : (1 : Int32) ≤ nI (wl P st) ∧ nI (wl P st) ≤ (6 : Int32) ↔ 1 ≤ wl P st ∧ wl P st ≤ 6 := ⟨fun z => ⟨(nI_leI (a := 1) (by omega) (by omega)).mp z.1, (nI_leI (b := 6) (by omega) (by omega)).mp z.2⟩, fun z => ⟨(nI_leI (a := 1) (by omega) (by omega)).mpr z.1, (nI_leI (b := 6) (by omega) (by omega)).mpr z.2⟩⟩
  have thr : ∀ x : j_St, pSame (KL n w0) w x → cUp w x → ∃ m' w', (jlt (jgn x 109 0) fun n48 => jlt (jbump x 9) fun w50 => jlt (jnw w50 9 n48 0) fun w55 => jcb (f_X12_init n48 (nI st) w55) fun _ w58 => some ((Sum.inl n48 : Nat ⊕ Unit), w58)) = some (.inl m', w') ∧ pSame (KLi n t ln w0) w w' ∧ cUp w w' ∧ jgi w' 9 m' 6 = nI st := fun x hx ux => by
    obtain ⟨w5, e5, s5, r5⟩ := c_throw (n := n) (w := x) (v := nI st)
    exact ⟨_, w5, by rw [jlt_eq, jlt_eq, jlt_eq]; exact e5, (hx.mono fun κ i k y => Or.inl y).trans (s5.mono fun κ i k y => Or.inl y.l), ux.trans (KY.up s5), r5⟩
  have hh := c_has (n := n) (w0 := w0) (t := t) (m := mm) (wB := w1) (c := wc P st) (k := wl P st) (g := g) (ln := ln) (len := len) (le := le) (by omega) hg hc (by omega) (fun j hj => ⟨by have := (hn j hj).2.1; omega, fun i hi => by have := (hn j hj).2.2 i hi; omega⟩) ln 0 jFU w2 (by omega) (jFU_gt (by omega)) B2 h32 N2 (fun ⟨j, a, _⟩ => by omega) (hu.trans u2)
  have st0 : ∀ res, (jlt (fun (w45 : j_St) => jlt (jgn w45 109 0) fun n48 => jlt (jbump w45 9) fun w50 => jlt (jnw w50 9 n48 0) fun w55 => jcb (f_X12_init n48 (nI st) w55) fun _ w58 => some ((Sum.inl n48 : Nat ⊕ Unit), w58)) fun K43 => if (if 1 ≤ nI (wl P st) ∧ nI (wl P st) ≤ 6 then (1 : Int32) else 0) = 0 then K43 w2 else jcb (f_X11_has t mm w2) fun v17 w18 => if v17 = 0 then jlt (jgi w18 6 t 3) fun v24 => jcb (f_J2_toString mm w18) fun v25 w26 => jbd v24 8 fun a32 => jlt (jsr w26 34 t a32 (some v25)) fun w31 => jlt (jgi w31 6 t 3) fun v34 => jcx (f_X10_number n 0 47 w31) fun v35 w36 => jbd v34 8 fun a42 => jlt (jsi w36 35 t a42 v35) fun w41 => jlt (jgi w41 6 t 3) fun v43 => jlt (jsi w41 6 t 3 (v43 + 1)) fun w44 => some (.inr (), w44) else K43 w18) = res → f_X10_line n t w = res := fun res hres => by
    rw [f_X10_line, e1, jcb_s2, jlt_eq, p1, e2, jcb_s2, el, jcb_s2, sp_isIn (l := 1) (h := 6) (l' := 1) (h' := 6) (by decide) (by decide), jcb_s2]
    exact hres
  have good : (1 ≤ wl P st ∧ wl P st ≤ 6 ∧ ¬ isNm ln len le (wl P st) (wc P st)) → ∃ w5 q, (∀ res, (jcx (f_X10_number n 0 47 w5) fun v35 w36 => jbd (nI ln) 8 fun a42 => jlt (jsi w36 35 t a42 v35) fun w41 => jlt (jgi w41 6 t 3) fun v43 => jlt (jsi w41 6 t 3 (v43 + 1)) fun w44 => some ((Sum.inr () : Nat ⊕ Unit), w44)) = res → f_X10_line n t w = res) ∧ pSame (KLi n t ln w0) w w5 ∧ cUp w w5 ∧ TpC P w5 ∧ jgi w5 8 n 0 = nI (tE gL P st) ∧ jgi w5 6 t 3 = nI ln ∧ jgr w5 34 t ln = some q ∧ pStr w5 q (wl P st) (wc P st) ∧ cNm w5 t ln len le := fun ⟨a, b, d⟩ => by
    obtain ⟨w3, e3, s3, u3, B3, N3, f8⟩ := hh.2 d
    have e3 : f_X11_has t mm w2 = some (0, w3) := e3
    obtain ⟨w4, e4, s4, q4, -, -, n4, n4'⟩ := sb_str B3 hg hc
    have N4 := N3.st s4 (by omega) (by omega)
    have i3 : jgi w3 6 t 3 = nI ln := by rw [s3.1 _ _ _ (by unfold KL KR; omega)]; exact h32
    have i4 : jgi w4 6 t 3 = nI ln := by rw [s4.1 _ _ _ (by unfold KSt; omega)]; exact i3
    have L4 : pSame (KL n w0) w w4 := (L2.trans s3).trans (s4.mono fun κ i k y => y.l (hu.trans (u2.trans u3)))
    have s5 : pSame (fun κ i k => κ = 34 ∧ i = t ∧ k = ln) w4 (jsr w4 34 t ln (some (jgn w3 115 0))) := pSame.jsr ⟨rfl, rfl, rfl⟩
    refine ⟨jsr w4 34 t ln (some (jgn w3 115 0)), jgn w3 115 0, fun res hres => st0 _ ?_, (L4.mono fun κ i k y => Or.inl y).trans (s5.mono fun κ i k y => Or.inr (Or.inl ⟨Or.inl y.1, y.2⟩)), u2.trans (u3.trans (show cUp w3 w4 from ⟨by omega, by omega⟩)), (hT.l L4).same s5 ⟨by omega, fun k => by omega⟩, ?_, i4, jgr_same, ?_, fun j hj => ?_⟩
    · rw [jlt_eq, if_pos (i16.mpr ⟨a, b⟩), if_neg n10, e3, jcb_s2, if_pos rfl, jlt_eq, i3, e4, jcb_s2, jbd_nI hl (by decide), jlt_eq, jlt_eq, show jgi (jsr w4 34 t ln (some (jgn w3 115 0))) 6 t 3 = nI ln from i4]
      exact hres
    · show jgi w4 8 n 0 = _
      rw [s4.1 _ _ _ (by unfold KSt; omega), f8]
      exact p2
    · obtain ⟨b', b1, b2, b3, b4, b5, b6⟩ := q4
      exact ⟨b', by rw [jgr_other (by omega)]; exact b1, b2, b3, b4, b5, b6⟩
    · obtain ⟨q, a', b', b1, b2, b3, b4, b5, b6⟩ := N4 j hj
      exact ⟨q, by rw [jgr_other (by omega)]; exact a', b', by rw [jgr_other (by omega)]; exact b1, b2, b3, b4, b5, b6⟩
  refine ⟨fun h => ?_, fun h ho => ?_, fun h ho => ?_⟩
  · by_cases c : 1 ≤ wl P st ∧ wl P st ≤ 6
    · have z : isNm ln len le (wl P st) (wc P st) := Classical.byContradiction fun y => h ⟨c.1, c.2, y⟩
      obtain ⟨w3, e3, s3, u3, -⟩ := hh.1 z
      have e3 : f_X11_has t mm w2 = some (1, w3) := e3
      obtain ⟨m', w', e5, r⟩ := thr w3 (L2.trans s3) (u2.trans u3)
      refine ⟨m', w', st0 _ ?_, r⟩
      rw [jlt_eq, if_pos (i16.mpr c), if_neg n10, e3, jcb_s2, if_neg n10]
      exact e5
    · obtain ⟨m', w', e5, r⟩ := thr w2 L2 u2
      refine ⟨m', w', st0 _ ?_, r⟩
      rw [jlt_eq, if_neg (fun y => c (i16.mp y)), if_pos rfl]
      exact e5
  · obtain ⟨w5, q, go, s5, u5, T5, p5, i5, -⟩ := good h
    obtain ⟨m', w6, e6, s6, r6⟩ := (c_number T5 p5 hp1 false (mx := 47) (by decide)).2 ho
    have e6 : f_X10_number n 0 47 w5 = some (.inl m', w6) := e6
    exact ⟨m', w6, go _ (by rw [e6, jcx_e]), s5.trans (s6.mono fun κ i k y => Or.inl y.l), u5.trans (KY.up s6), r6⟩
  · obtain ⟨w5, q, go, s5, u5, T5, p5, i5, q5, Q5, N5⟩ := good h
    obtain ⟨w6, e6, s6, p6⟩ := (c_number T5 p5 hp1 false (mx := 47) (by decide)).1 ho
    have e6 : f_X10_number n 0 47 w5 = some (.inr (tV P (tE gS P (tE gL P st))), w6) := e6
    have i6 : jgi (jsi w6 35 t ln (tV P (tE gS P (tE gL P st)))) 6 t 3 = nI ln := by rw [jgi_ne (by omega), s6.1 _ _ _ (by unfold KY KR; omega)]; exact i5
    have s7 : pSame (fun κ i k => κ = 35 ∨ κ = 6) w6 (jsi (jsi w6 35 t ln (tV P (tE gS P (tE gL P st)))) 6 t 3 (nI (ln + 1))) := (pSame.jsi (Or.inl rfl)).trans (pSame.jsi (Or.inr rfl))
    have mvS : ∀ q k c, pStr w5 q k c → pStr (jsi (jsi w6 35 t ln (tV P (tE gS P (tE gL P st)))) 6 t 3 (nI (ln + 1))) q k c := fun q k c z => by
      obtain ⟨b, b1, b2, b3, b4, b5, b6⟩ := z
      exact ⟨b, by rw [s7.2.2.1 _ _ _ (by omega), s6.2.2.1 _ _ _ (by unfold KY KR; omega)]; exact b1, by rw [s7.1 _ _ _ (by omega), s6.1 _ _ _ (by unfold KY KR; omega)]; exact b2, by rw [s7.2.2.2 _ _ (by omega), s6.2.2.2 _ _ (by unfold KY KR; omega)]; exact b3, fun i hi => by rw [s7.1 _ _ _ (by omega), s6.1 _ _ _ (by unfold KY KR; omega)]; exact b4 i hi, by rw [s7.2.2.2 _ _ (by omega), s6.2.2.2 _ _ (by unfold KY KR; omega)]; exact b5, by rw [s7.2.2.2 _ _ (by omega), s6.2.2.2 _ _ (by unfold KY KR; omega)]; exact b6⟩
    have mv34 : ∀ j, jgr (jsi (jsi w6 35 t ln (tV P (tE gS P (tE gL P st)))) 6 t 3 (nI (ln + 1))) 34 t j = jgr w5 34 t j := fun j => by rw [s7.2.2.1 _ _ _ (by omega), s6.2.2.1 _ _ _ (by unfold KY KR; omega)]
    refine ⟨jsi (jsi w6 35 t ln (tV P (tE gS P (tE gL P st)))) 6 t 3 (nI (ln + 1)), go _ ?_, ((s5.trans (s6.mono fun κ i k y => Or.inl y.l)).trans (pSame.jsi (Or.inr (Or.inl ⟨Or.inr rfl, rfl, rfl⟩)))).trans (pSame.jsi (Or.inr (Or.inr ⟨rfl, rfl, rfl⟩))), (u5.trans (KY.up s6)).trans ⟨Nat.le_refl _, Nat.le_refl _⟩, ?_, jgi_eq, ?_, fun j hj => ?_, q, by rw [mv34]; exact q5, mvS _ _ _ Q5⟩
    · rw [e6, jcx_s, jbd_nI hl (by decide), jlt_eq, jlt_eq, i6, jlt_eq, nI_1]
    · rw [jgi_ne (by omega), jgi_ne (by omega)]; exact p6
    · rw [jgi_ne (by omega)]; exact jgi_eq
    · obtain ⟨q', a', b'⟩ := N5 j hj
      exact ⟨q', by rw [mv34]; exact a', mvS _ _ _ b'⟩
end CLINE
