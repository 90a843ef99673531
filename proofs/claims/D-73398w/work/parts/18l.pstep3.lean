/-! the pure law: a step of a script, both alike -/
section STEP3
variable {w w' w0 : j_St} {P : pP} {n t m o p : Nat}
def KSc (n t m : Nat) (w0 : j_St) (κ i k : Nat) : Prop := KL n w0 κ i k ∨ (κ = 36 ∧ i = t ∧ k = m) ∨ (κ = 37 ∧ i = t ∧ (k = 2 * m ∨ k = 2 * m + 1)) ∨ (κ = 7 ∧ i = t ∧ k = 2)
abbrev pR : Type := Nat ⊕ (Nat × Int32 × Int32 × Nat)
def CSt (P : pP) (n t m p : Nat) (R : pR) : Prop := ∀ w w0, TpC P w → cLit w → jgi w 8 n 0 = nI p → jgi w 7 t 2 = nI m → cUp w0 w → match R with
  | .inl e => ∃ mm w', f_X10_step n t w = some (.inl mm, w') ∧ pSame (KSc n t m w0) w w' ∧ cUp w w' ∧ jgi w' 9 mm 6 = nI e
  | .inr (q, a, b, p') => ∃ w', f_X10_step n t w = some (.inr (), w') ∧ pSame (KSc n t m w0) w w' ∧ cUp w w' ∧ jgi w' 8 n 0 = nI p' ∧ jgi w' 7 t 2 = nI (m + 1) ∧ jgi w' 36 t m = nI q ∧ jgi w' 37 t (2 * m) = a ∧ jgi w' 37 t (2 * m + 1) = b
def KMs (o κ i k : Nat) : Prop := KTk κ i k ∨ (κ = 1 ∧ i = 0 ∧ k = 8) ∨ (κ = 45 ∧ i = 0 ∧ (k = o ∨ k = o + 1 ∨ k = o + 2))
def MSt (P : pP) (o p : Nat) (R : pR) : Prop := ∀ w, TpM P w → TkM P w (tE gS P p) → jgi w 1 0 8 = -1 → match R with
  | .inl e => ∃ w', f_X9_readStep (nI o) w = some ((), w') ∧ pSame (KMs o) w w' ∧ jgi w' 1 0 8 = nI e
  | .inr (q, a, b, p') => ∃ w', f_X9_readStep (nI o) w = some ((), w') ∧ pSame (KMs o) w w' ∧ jgi w' 1 0 8 = -1 ∧ TkM P w' (tE gS P p') ∧ jgi w' 45 0 o = nI q ∧ jgi w' 45 0 (o + 1) = a ∧ jgi w' 45 0 (o + 2) = b
def wfR (P : pP) : pR → Prop
  | .inl e => e ≤ P.1
  | .inr (q, _, _, p') => q < 10 ∧ p' ≤ P.1
theorem tE_idem {p : Nat} : tE gS P (tE gS P p) = tE gS P p := tE_F (tE_stop p)
/-- the word of a step, in the component -/
theorem c_stepW (hT : TpC P w) (hL : cLit w) (hp : jgi w 8 n 0 = nI p) (h4 : p ≤ P.1) (hu : cUp w0 w) : ∃ mm w2 w3, f_X10_peek n w = some (bt P (tE gS P p), w2) ∧ jgi w2 8 n 0 = nI (tE gS P p) ∧ (∃ w2', f_X10_word n w2 = some (mm, w2') ∧ f_X1_sortOf mm w2' = some (kS (wl P (tE gS P p)) (wc P (tE gS P p)), w3)) ∧ pSame (KL n w0) w w3 ∧ cUp w w3 ∧ jgi w3 8 n 0 = nI (tE gL P (tE gS P p)) ∧ TpC P w3 := by
  obtain ⟨w2, e2, s2, p2⟩ := c_peek hT hp h4
  have hst : tE gS P p ≤ P.1 := tE_le h4
  have u2 : cUp w w2 := ⟨Nat.le_of_eq (s2.2.2.2 _ _ (by unfold KR; omega)).symm, Nat.le_of_eq (s2.2.2.2 _ _ (by unfold KR; omega)).symm⟩
  obtain ⟨g, mm, w3, e3, s3, p3, B3, hg, r3⟩ := c_word (hT.rd s2) p2 hst
  rw [tE_idem] at p3 B3
  have u3 : cUp w2 w3 := ⟨Nat.le_of_eq (s3.2.2.2 _ _ (by unfold KWo KWd KR KBu; omega)).symm, r3⟩
  have L2 : pSame (KL n w0) w w3 := (s2.mono fun κ i k y => y.l).trans (s3.mono fun κ i k y => y.l (hu.trans u2))
  obtain ⟨w4, e4, s4, n4, n4'⟩ := c_sortOf (w0 := w2) B3 hg (fun i hi => by
    have := wc_L (P := P) (st := tE gS P p) (i := i) hi
    unfold wc at this
    omega) (hL.l L2) r3
  have L3 : pSame (KL n w0) w w4 := L2.trans (s4.mono fun κ i k y => y.l (hu.trans (u2.trans u3)))
  exact ⟨mm, w2, w4, e2, p2, ⟨w3, e3, e4⟩, L3, u2.trans (u3.trans ⟨by omega, by omega⟩), by rw [s4.1 _ _ _ (by unfold KSt; omega)]; exact p3, hT.l L3⟩
theorem step_fuel : jFU = 19997 + 1 + 1 + 1 := rfl
theorem step_both (hL4 : P.1 ≤ 400) (h4 : p ≤ P.1) (hm : m < 12) (ho : o + 2 < 180) : ∃ R, wfR P R ∧ CSt P n t m p R ∧ MSt P o p R := by
  have hst : tE gS P p ≤ P.1 := tE_le h4
  have hp1 : tE gL P (tE gS P p) ≤ P.1 := tE_le hst
  rcases kS_or (wl P (tE gS P p)) (wc P (tE gS P p)) with h | ⟨j, hj, h⟩
  · refine ⟨.inl (tE gS P p), hst, fun w w0 hT hL hp h7 hu => ?_, fun w hT hk h8 => ?_⟩
    · obtain ⟨mm, w2, w3, e2, p2, ⟨w2', e3, e4⟩, L3, u3, p3, T3⟩ := c_stepW hT hL hp h4 hu
      obtain ⟨w5, e5, s5, r5⟩ := c_throw (n := n) (w := w3) (v := nI (tE gS P p))
      refine ⟨_, w5, ?_, (L3.mono fun κ i k y => Or.inl y).trans (s5.mono fun κ i k y => Or.inl y.l), u3.trans (KY.up s5), r5⟩
      rw [f_X10_step, e2, jcb_s2, jlt_eq, p2, e3, jcb_s2, e4, jcb_s2, if_pos h, jlt_eq, jlt_eq, jlt_eq]
      exact e5
    · refine ⟨jsi w 1 0 8 (nI (tE gS P p)), ?_, pSame.jsi (Or.inr (Or.inl ⟨rfl, rfl, rfl⟩)), jgi_eq⟩
      rw [f_X9_readStep, m_which hk, if_pos h, m_bad h8, jcb_s2, hk.1]
  · -- a word
    have nl : nI j ≠ -1 := nI_ne1 (by omega)
    have n2 := nOf_le j
    have cpre : ∀ w w0, TpC P w → cLit w → jgi w 8 n 0 = nI p → jgi w 7 t 2 = nI m → cUp w0 w → ∃ w4, (∀ res, f_X10_step_L48 n t (nI j) (fun (c52 : Nat) (c53 : Nat) (w49 : j_St) => jlt (jgi w49 7 t 2) fun v54 => jlt (jsi w49 7 t 2 (v54 + 1)) fun w55 => if c52 ≤ 16 ∧ c53 ≤ 5460 then some (.inr (), w55) else none) (19997 + 1 + 1 + 1) (nI 0) 12 5424 w4 = res → f_X10_step n t w = res) ∧ pSame (KSc n t m w0) w w4 ∧ cUp w w4 ∧ jgi w4 8 n 0 = nI (tE gL P (tE gS P p)) ∧ TpC P w4 ∧ jgi w4 7 t 2 = nI m ∧ jgi w4 36 t m = nI j := fun w w0 hT hL hp h7 hu => by
      obtain ⟨mm, w2, w3, e2, p2, ⟨w2', e3, e4⟩, L3, u3, p3, T3⟩ := c_stepW hT hL hp h4 hu
      have i7 : jgi w3 7 t 2 = nI m := by rw [L3.1 _ _ _ (by unfold KL KR; omega)]; exact h7
      have s4 : pSame (fun κ i k => κ = 36 ∧ i = t ∧ k = m) w3 (jsi w3 36 t m (nI j)) := pSame.jsi ⟨rfl, rfl, rfl⟩
      refine ⟨jsi w3 36 t m (nI j), fun res hres => ?_, (L3.mono fun κ i k y => Or.inl y).trans (s4.mono fun κ i k y => Or.inr (Or.inl y)), u3.trans ⟨Nat.le_refl _, Nat.le_refl _⟩, by rw [jgi_ne (by omega)]; exact p3, T3.same s4 ⟨by omega, fun k => by omega⟩, by rw [jgi_ne (by omega)]; exact i7, jgi_eq⟩
      rw [f_X10_step, e2, jcb_s2, jlt_eq, p2, e3, jcb_s2, e4, jcb_s2, h, if_neg nl, jlt_eq, i7, jbd_nI (by omega) (by decide), jlt_eq, step_fuel]
      exact hres
    have mpre : ∀ w, TpM P w → TkM P w (tE gS P p) → jgi w 1 0 8 = -1 → ∃ w4, (∀ res, f_X9_readStep_L56 (nI o) (nI j) (19997 + 1 + 1 + 1) (nI 1) w4 = res → f_X9_readStep (nI o) w = res) ∧ pSame (KMs o) w w4 ∧ jgi w4 1 0 8 = -1 ∧ TpM P w4 ∧ TkM P w4 (tE gS P (tE gL P (tE gS P p))) ∧ jgi w4 45 0 o = nI j := fun w hT hk h8 => by
      have k1 : tK P (tE gS P p) = 1 := Classical.byContradiction fun z => by
        have := wl_0 z
        rw [this] at h
        have q : kS 0 (wc P (tE gS P p)) = -1 := kS_no fun i hi y => by
          have a := (wQ_iff.mp y).1
          have b := (ln_lit (kI_lt i)).1
          have d := (ln_len (kI_lt i)).1
          omega
        rw [q] at h
        exact nl h.symm
      obtain ⟨q1, q2, q3, q4, q5, -⟩ := id hk
      obtain ⟨-, -, r3⟩ := q5 k1
      obtain ⟨w3, e3, s3, t3⟩ := m_next hT r3 hp1
      have s4 : pSame (fun κ i k => κ = 45 ∧ i = 0 ∧ k = o) w3 (jsi w3 45 0 o (nI j)) := pSame.jsi ⟨rfl, rfl, rfl⟩
      refine ⟨jsi w3 45 0 o (nI j), fun res hres => ?_, (s3.mono fun κ i k y => Or.inl y).trans (s4.mono fun κ i k y => Or.inr (Or.inr ⟨y.1, y.2.1, Or.inl y.2.2⟩)), ?_, (hT.tk s3).same s4 ⟨by omega, fun k => by omega⟩, t3.a s4 (fun κ i k y => Or.inl y.1), jgi_eq⟩
      · rw [f_X9_readStep, m_which hk, h, if_neg nl, e3, jcb_s2, jbd_nI (by omega) (by decide), jlt_eq, step_fuel]
        exact hres
      · rw [jgi_ne (by omega), s3.1 _ _ _ (by unfold KTk; omega)]; exact h8
    have cfin : ∀ {f c25 c26 : Nat} {w : j_St}, c25 ≤ 16 → c26 ≤ 5460 → jgi w 7 t 2 = nI m → f_X10_step_L48 n t (nI j) (fun (c52 : Nat) (c53 : Nat) (w49 : j_St) => jlt (jgi w49 7 t 2) fun v54 => jlt (jsi w49 7 t 2 (v54 + 1)) fun w55 => if c52 ≤ 16 ∧ c53 ≤ 5460 then some ((Sum.inr () : Nat ⊕ Unit), w55) else none) (f + 1) (nI 2) c25 c26 w = some (.inr (), jsi w 7 t 2 (nI (m + 1))) := fun a b d => by
      rw [f_X10_step_L48, if_pos (by decide), jlt_eq, d, jlt_eq, nI_1, if_pos ⟨a, b⟩]
    have mfin : ∀ {f : Nat} {w : j_St}, f_X9_readStep_L56 (nI o) (nI j) (f + 1) (nI 3) w = some ((), w) := fun {f w} => by
      rw [f_X9_readStep_L56, if_pos (by decide)]
    generalize hP1 : tE gL P (tE gS P p) = p1 at hp1 cpre mpre
    have K37 : ∀ i, i < 2 → ∀ w0 : j_St, KSc n t m w0 37 t (2 * m + i) := fun i hi w0 => Or.inr (Or.inr (Or.inl ⟨rfl, rfl, by omega⟩))
    have K7 : ∀ w0 : j_St, KSc n t m w0 7 t 2 := fun w0 => Or.inr (Or.inr (Or.inr ⟨rfl, rfl, rfl⟩))
    have Ka : ∀ i, 1 ≤ i → i ≤ 2 → ∀ κ i' k, KMa (o + i) κ i' k → KMs o κ i' k := fun i h1 h2 κ i' k y => by
      rcases y with y | y | y
      · exact Or.inl y
      · exact Or.inr (Or.inl y)
      · exact Or.inr (Or.inr ⟨y.1, y.2.1, by omega⟩)
    by_cases c0 : nOf j = 0
    · refine ⟨.inr (j, -1000000, -1000000, p1), ⟨hj, hp1⟩, fun w w0 hT hL hp h7 hu => ?_, fun w hT hk h8 => ?_⟩
      · obtain ⟨w4, go, s4, u4, p4, T4, i7, i36⟩ := cpre w w0 hT hL hp h7 hu
        refine ⟨jsi (jsi (jsi w4 37 t (2 * m + 0) (-1000000)) 37 t (2 * m + 1) (-1000000)) 7 t 2 (nI (m + 1)), go _ ?_, ((s4.trans (pSame.jsi (K37 0 (by omega) w0))).trans (pSame.jsi (K37 1 (by omega) w0))).trans (pSame.jsi (K7 w0)), u4.trans ⟨Nat.le_refl _, Nat.le_refl _⟩, ?_, jgi_eq, ?_, ?_, ?_⟩
        · rw [(c_arg T4 p4 hp1 i7 hm hj (by omega) ⟨by omega, by omega⟩).1 (by omega)]
          have s5 : pSame (fun κ i k => κ = 37) w4 (jsi w4 37 t (2 * m + 0) (-1000000)) := pSame.jsi rfl
          rw [(c_arg (p := p1) (T4.same s5 ⟨by omega, fun k => by omega⟩) (by rw [jgi_ne (by omega)]; exact p4) hp1 (by rw [jgi_ne (by omega)]; exact i7) hm hj (by omega) ⟨by omega, by omega⟩).1 (by omega)]
          exact cfin (by omega) (by omega) (by rw [jgi_ne (by omega), jgi_ne (by omega)]; exact i7)
        · rw [jgi_ne (by omega), jgi_ne (by omega), jgi_ne (by omega)]; exact p4
        · rw [jgi_ne (by omega), jgi_ne (by omega), jgi_ne (by omega)]; exact i36
        · rw [jgi_ne (by omega), jgi_ne (by omega)]; exact jgi_eq
        · rw [jgi_ne (by omega)]; exact jgi_eq
      · obtain ⟨w4, go, s4, q8, T4, t4, i45⟩ := mpre w hT hk h8
        have s5 : pSame (fun κ i k => κ = 45 ∧ i = 0 ∧ k = o + 1) w4 (jsi w4 45 0 (o + 1) (-1000000)) := pSame.jsi ⟨rfl, rfl, rfl⟩
        have s6 : pSame (fun κ i k => κ = 45 ∧ i = 0 ∧ k = o + 2) (jsi w4 45 0 (o + 1) (-1000000)) (jsi (jsi w4 45 0 (o + 1) (-1000000)) 45 0 (o + 2) (-1000000)) := pSame.jsi ⟨rfl, rfl, rfl⟩
        have t5 := t4.a s5 (fun κ i k y => Or.inl y.1)
        refine ⟨jsi (jsi w4 45 0 (o + 1) (-1000000)) 45 0 (o + 2) (-1000000), go _ ?_, (s4.trans (s5.mono fun κ i k y => Or.inr (Or.inr ⟨y.1, y.2.1, by omega⟩))).trans (s6.mono fun κ i k y => Or.inr (Or.inr ⟨y.1, y.2.1, by omega⟩)), ?_, t5.a s6 (fun κ i k y => Or.inl y.1), ?_, ?_, jgi_eq⟩
        · rw [(m_arg T4 t4 q8 hj (by omega) (by omega)).1 (by omega), (m_arg (T4.same s5 ⟨by omega, fun k => by omega⟩) t5 (by rw [jgi_ne (by omega)]; exact q8) hj (by omega) (by omega)).1 (by omega)]
          exact mfin
        · rw [jgi_ne (by omega), jgi_ne (by omega)]; exact q8
        · rw [jgi_ne (by omega), jgi_ne (by omega)]; exact i45
        · rw [jgi_ne (by omega)]; exact jgi_eq
    · by_cases k1 : tK P (tE gS P p1) = 2
      · have lt1 := (tK2 k1).1
        have hp2 : tE gD P (tS P (tE gS P p1)) ≤ P.1 := tE_le (tS_le lt1)
        by_cases c1 : nOf j = 1
        · refine ⟨.inr (j, tV P (tE gS P p1), -1000000, tE gD P (tS P (tE gS P p1))), ⟨hj, hp2⟩, fun w w0 hT hL hp h7 hu => ?_, fun w hT hk h8 => ?_⟩
          · obtain ⟨w4, go, s4, u4, p4, T4, i7, i36⟩ := cpre w w0 hT hL hp h7 hu
            obtain ⟨w5, e5, s5, p5⟩ := (c_arg (f := 19997 + 1 + 1) (kk := fun (c52 : Nat) (c53 : Nat) (w49 : j_St) => jlt (jgi w49 7 t 2) fun v54 => jlt (jsi w49 7 t 2 (v54 + 1)) fun w55 => if c52 ≤ 16 ∧ c53 ≤ 5460 then some ((Sum.inr () : Nat ⊕ Unit), w55) else none) (c25 := 12) (c26 := 5424) T4 p4 hp1 i7 hm hj (i := 0) (by omega) ⟨by omega, by omega⟩).2.1 (by omega) k1
            have T5 := T4.l (s5.mono fun κ i k y => y.l (w0 := w4))
            have s6 : pSame (fun κ i k => κ = 37) w5 (jsi w5 37 t (2 * m + 0) (tV P (tE gS P p1))) := pSame.jsi rfl
            have j7 : jgi w5 7 t 2 = nI m := by rw [s5.1 _ _ _ (by unfold KY KR; omega)]; exact i7
            refine ⟨jsi (jsi (jsi w5 37 t (2 * m + 0) (tV P (tE gS P p1))) 37 t (2 * m + 1) (-1000000)) 7 t 2 (nI (m + 1)), go _ (e5.trans ?_), (((s4.trans (s5.mono fun κ i k y => Or.inl y.l)).trans (pSame.jsi (K37 0 (by omega) w0))).trans (pSame.jsi (K37 1 (by omega) w0))).trans (pSame.jsi (K7 w0)), (u4.trans (KY.up s5)).trans ⟨Nat.le_refl _, Nat.le_refl _⟩, ?_, jgi_eq, ?_, ?_, ?_⟩
            · rw [(c_arg (p := tE gD P (tS P (tE gS P p1))) (T5.same s6 ⟨by omega, fun k => by omega⟩) (by rw [jgi_ne (by omega)]; exact p5) hp2 (by rw [jgi_ne (by omega)]; exact j7) hm hj (by omega) ⟨by omega, by omega⟩).1 (by omega)]
              exact cfin (by omega) (by omega) (by rw [jgi_ne (by omega), jgi_ne (by omega)]; exact j7)
            · rw [jgi_ne (by omega), jgi_ne (by omega), jgi_ne (by omega)]; exact p5
            · rw [jgi_ne (by omega), jgi_ne (by omega), jgi_ne (by omega), s5.1 _ _ _ (by unfold KY KR; omega)]; exact i36
            · rw [jgi_ne (by omega), jgi_ne (by omega)]; exact jgi_eq
            · rw [jgi_ne (by omega)]; exact jgi_eq
          · obtain ⟨w4, go, s4, q8, T4, t4, i45⟩ := mpre w hT hk h8
            obtain ⟨w5, e5, s5, a5, q5, t5⟩ := (m_arg (f := 19997 + 1 + 1) T4 t4 q8 hj (i := 1) (o := o) (by omega) (by omega)).2.1 (by omega) k1
            have s6 : pSame (fun κ i k => κ = 45 ∧ i = 0 ∧ k = o + 2) w5 (jsi w5 45 0 (o + 2) (-1000000)) := pSame.jsi ⟨rfl, rfl, rfl⟩
            refine ⟨jsi w5 45 0 (o + 2) (-1000000), go _ (e5.trans ?_), (s4.trans (s5.mono (Ka 1 (by omega) (by omega)))).trans (s6.mono fun κ i k y => Or.inr (Or.inr ⟨y.1, y.2.1, by omega⟩)), ?_, t5.a s6 (fun κ i k y => Or.inl y.1), ?_, ?_, jgi_eq⟩
            · rw [(m_arg (T4.a s5) t5 q5 hj (by omega) (by omega)).1 (by omega)]
              exact mfin
            · rw [jgi_ne (by omega)]; exact q5
            · rw [jgi_ne (by omega), s5.1 _ _ _ (by unfold KMa KTk; omega)]; exact i45
            · rw [jgi_ne (by omega)]; exact a5
        · have c2 : nOf j = 2 := by omega
          generalize hP2 : tE gD P (tS P (tE gS P p1)) = p2 at hp2
          by_cases k2 : tK P (tE gS P p2) = 2
          · have hp3 : tE gD P (tS P (tE gS P p2)) ≤ P.1 := tE_le (tS_le (tK2 k2).1)
            refine ⟨.inr (j, tV P (tE gS P p1), tV P (tE gS P p2), tE gD P (tS P (tE gS P p2))), ⟨hj, hp3⟩, fun w w0 hT hL hp h7 hu => ?_, fun w hT hk h8 => ?_⟩
            · obtain ⟨w4, go, s4, u4, p4, T4, i7, i36⟩ := cpre w w0 hT hL hp h7 hu
              obtain ⟨w5, e5, s5, p5⟩ := (c_arg (f := 19997 + 1 + 1) (kk := fun (c52 : Nat) (c53 : Nat) (w49 : j_St) => jlt (jgi w49 7 t 2) fun v54 => jlt (jsi w49 7 t 2 (v54 + 1)) fun w55 => if c52 ≤ 16 ∧ c53 ≤ 5460 then some ((Sum.inr () : Nat ⊕ Unit), w55) else none) (c25 := 12) (c26 := 5424) T4 p4 hp1 i7 hm hj (i := 0) (by omega) ⟨by omega, by omega⟩).2.1 (by omega) k1
              rw [hP2] at p5
              have T5 := T4.l (s5.mono fun κ i k y => y.l (w0 := w4))
              have s6 : pSame (fun κ i k => κ = 37) w5 (jsi w5 37 t (2 * m + 0) (tV P (tE gS P p1))) := pSame.jsi rfl
              have j7 : jgi w5 7 t 2 = nI m := by rw [s5.1 _ _ _ (by unfold KY KR; omega)]; exact i7
              obtain ⟨w7, e7, s7, p7⟩ := (c_arg (f := 19997 + 1) (kk := fun (c52 : Nat) (c53 : Nat) (w49 : j_St) => jlt (jgi w49 7 t 2) fun v54 => jlt (jsi w49 7 t 2 (v54 + 1)) fun w55 => if c52 ≤ 16 ∧ c53 ≤ 5460 then some ((Sum.inr () : Nat ⊕ Unit), w55) else none) (c25 := 12 + 1) (c26 := 5424 + 7) (p := p2) (T5.same s6 ⟨by omega, fun k => by omega⟩) (by rw [jgi_ne (by omega)]; exact p5) hp2 (by rw [jgi_ne (by omega)]; exact j7) hm hj (i := 1) (by omega) ⟨by omega, by omega⟩).2.1 (by omega) k2
              refine ⟨jsi (jsi w7 37 t (2 * m + 1) (tV P (tE gS P p2))) 7 t 2 (nI (m + 1)), go _ (e5.trans (e7.trans ?_)), ((((s4.trans (s5.mono fun κ i k y => Or.inl y.l)).trans (pSame.jsi (K37 0 (by omega) w0))).trans (s7.mono fun κ i k y => Or.inl y.l)).trans (pSame.jsi (K37 1 (by omega) w0))).trans (pSame.jsi (K7 w0)), (u4.trans (KY.up s5)).trans ((show cUp w5 w7 from cUp.trans (w1 := jsi w5 37 t (2 * m + 0) (tV P (tE gS P p1))) ⟨Nat.le_refl _, Nat.le_refl _⟩ (KY.up s7)).trans ⟨Nat.le_refl _, Nat.le_refl _⟩), ?_, jgi_eq, ?_, ?_, ?_⟩
              · exact cfin (by omega) (by omega) (by rw [jgi_ne (by omega), s7.1 _ _ _ (by unfold KY KR; omega), jgi_ne (by omega)]; exact j7)
              · rw [jgi_ne (by omega), jgi_ne (by omega)]; exact p7
              · rw [jgi_ne (by omega), jgi_ne (by omega), s7.1 _ _ _ (by unfold KY KR; omega), jgi_ne (by omega), s5.1 _ _ _ (by unfold KY KR; omega)]; exact i36
              · rw [jgi_ne (by omega), jgi_ne (by omega), s7.1 _ _ _ (by unfold KY KR; omega)]; exact jgi_eq
              · rw [jgi_ne (by omega)]; exact jgi_eq
            · obtain ⟨w4, go, s4, q8, T4, t4, i45⟩ := mpre w hT hk h8
              obtain ⟨w5, e5, s5, a5, q5, t5⟩ := (m_arg (f := 19997 + 1 + 1) T4 t4 q8 hj (i := 1) (o := o) (by omega) (by omega)).2.1 (by omega) k1
              rw [hP2] at t5
              obtain ⟨w6, e6, s6, a6, q6, t6⟩ := (m_arg (f := 19997 + 1) (T4.a s5) t5 q5 hj (i := 2) (o := o) (by omega) (by omega)).2.1 (by omega) k2
              refine ⟨w6, go _ (e5.trans (e6.trans mfin)), (s4.trans (s5.mono (Ka 1 (by omega) (by omega)))).trans (s6.mono (Ka 2 (by omega) (by omega))), q6, t6, ?_, ?_, a6⟩
              · rw [s6.1 _ _ _ (by unfold KMa KTk; omega), s5.1 _ _ _ (by unfold KMa KTk; omega)]; exact i45
              · rw [s6.1 _ _ _ (by unfold KMa KTk; omega)]; exact a5
          · have hs2 : tE gS P p2 ≤ P.1 := tE_le hp2
            refine ⟨.inl (tE gS P p2), hs2, fun w w0 hT hL hp h7 hu => ?_, fun w hT hk h8 => ?_⟩
            · obtain ⟨w4, go, s4, u4, p4, T4, i7, i36⟩ := cpre w w0 hT hL hp h7 hu
              obtain ⟨w5, e5, s5, p5⟩ := (c_arg (f := 19997 + 1 + 1) (kk := fun (c52 : Nat) (c53 : Nat) (w49 : j_St) => jlt (jgi w49 7 t 2) fun v54 => jlt (jsi w49 7 t 2 (v54 + 1)) fun w55 => if c52 ≤ 16 ∧ c53 ≤ 5460 then some ((Sum.inr () : Nat ⊕ Unit), w55) else none) (c25 := 12) (c26 := 5424) T4 p4 hp1 i7 hm hj (i := 0) (by omega) ⟨by omega, by omega⟩).2.1 (by omega) k1
              rw [hP2] at p5
              have T5 := T4.l (s5.mono fun κ i k y => y.l (w0 := w4))
              have s6 : pSame (fun κ i k => κ = 37) w5 (jsi w5 37 t (2 * m + 0) (tV P (tE gS P p1))) := pSame.jsi rfl
              have j7 : jgi w5 7 t 2 = nI m := by rw [s5.1 _ _ _ (by unfold KY KR; omega)]; exact i7
              obtain ⟨mm, w7, e7, s7, p7⟩ := (c_arg (f := 19997 + 1) (kk := fun (c52 : Nat) (c53 : Nat) (w49 : j_St) => jlt (jgi w49 7 t 2) fun v54 => jlt (jsi w49 7 t 2 (v54 + 1)) fun w55 => if c52 ≤ 16 ∧ c53 ≤ 5460 then some ((Sum.inr () : Nat ⊕ Unit), w55) else none) (c25 := 12 + 1) (c26 := 5424 + 7) (p := p2) (T5.same s6 ⟨by omega, fun k => by omega⟩) (by rw [jgi_ne (by omega)]; exact p5) hp2 (by rw [jgi_ne (by omega)]; exact j7) hm hj (i := 1) (by omega) ⟨by omega, by omega⟩).2.2 (by omega) k2
              exact ⟨mm, w7, go _ (e5.trans e7), ((s4.trans (s5.mono fun κ i k y => Or.inl y.l)).trans (pSame.jsi (K37 0 (by omega) w0))).trans (s7.mono fun κ i k y => Or.inl y.l), (u4.trans (KY.up s5)).trans (show cUp w5 w7 from cUp.trans (w1 := jsi w5 37 t (2 * m + 0) (tV P (tE gS P p1))) ⟨Nat.le_refl _, Nat.le_refl _⟩ (KY.up s7)), p7⟩
            · obtain ⟨w4, go, s4, q8, T4, t4, i45⟩ := mpre w hT hk h8
              obtain ⟨w5, e5, s5, a5, q5, t5⟩ := (m_arg (f := 19997 + 1 + 1) T4 t4 q8 hj (i := 1) (o := o) (by omega) (by omega)).2.1 (by omega) k1
              rw [hP2] at t5
              obtain ⟨w6, e6, s6, q6⟩ := (m_arg (f := 19997 + 1) (T4.a s5) t5 q5 hj (i := 2) (o := o) (by omega) (by omega)).2.2 (by omega) k2
              exact ⟨w6, go _ (e5.trans (e6.trans mfin)), (s4.trans (s5.mono (Ka 1 (by omega) (by omega)))).trans (s6.mono (Ka 2 (by omega) (by omega))), q6⟩
      · have hs1 : tE gS P p1 ≤ P.1 := tE_le hp1
        refine ⟨.inl (tE gS P p1), hs1, fun w w0 hT hL hp h7 hu => ?_, fun w hT hk h8 => ?_⟩
        · obtain ⟨w4, go, s4, u4, p4, T4, i7, i36⟩ := cpre w w0 hT hL hp h7 hu
          obtain ⟨mm, w5, e5, s5, p5⟩ := (c_arg (f := 19997 + 1 + 1) (kk := fun (c52 : Nat) (c53 : Nat) (w49 : j_St) => jlt (jgi w49 7 t 2) fun v54 => jlt (jsi w49 7 t 2 (v54 + 1)) fun w55 => if c52 ≤ 16 ∧ c53 ≤ 5460 then some ((Sum.inr () : Nat ⊕ Unit), w55) else none) (c25 := 12) (c26 := 5424) T4 p4 hp1 i7 hm hj (i := 0) (by omega) ⟨by omega, by omega⟩).2.2 (by omega) k1
          exact ⟨mm, w5, go _ e5, s4.trans (s5.mono fun κ i k y => Or.inl y.l), u4.trans (KY.up s5), p5⟩
        · obtain ⟨w4, go, s4, q8, T4, t4, i45⟩ := mpre w hT hk h8
          obtain ⟨w5, e5, s5, q5⟩ := (m_arg (f := 19997 + 1 + 1) T4 t4 q8 hj (i := 1) (o := o) (by omega) (by omega)).2.2 (by omega) k1
          obtain ⟨w6, e6, s6, q6⟩ := m_arg4 (f := 19997 + 1) (e := tE gS P p1) (by omega) q5 hj (i := 2) (o := o) (by omega) (by omega)
          exact ⟨w6, go _ (e5.trans (e6.trans mfin)), (s4.trans (s5.mono (Ka 1 (by omega) (by omega)))).trans (s6.mono (Ka 2 (by omega) (by omega))), q6⟩
end STEP3
