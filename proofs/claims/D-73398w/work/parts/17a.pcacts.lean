/-! the pure law: the component acts -/
section CACTS
variable {w w' : j_St} {A : pA} {X : pX}
def pNote (T : pT) (v0 v1 v2 : Int32) : pT := (T.1, T.2.1, T.2.2.1, (if T.2.2.2.1 = 60 then 59 else T.2.2.2.1) + 1,
  up (up (up (if T.2.2.2.1 = 60 then (fun k => T.2.2.2.2 (k + 3)) else T.2.2.2.2) (3 * (if T.2.2.2.1 = 60 then 59 else T.2.2.2.1)) v0) (3 * (if T.2.2.2.1 = 60 then 59 else T.2.2.2.1) + 1) v1) (3 * (if T.2.2.2.1 = 60 then 59 else T.2.2.2.1) + 2) v2)
theorem pNote_wf {T : pT} (h : wfT T) {v0 v1 v2 : Int32} : wfT (pNote T v0 v1 v2) := by
  obtain ⟨t1, t2, t3, t4, t5⟩ := h
  refine ⟨t1, t2, t3, t4, ?_⟩
  show (if T.2.2.2.1 = 60 then 59 else T.2.2.2.1) + 1 ≤ 60
  split <;> omega
def KF (i κ j k : Nat) : Prop := ((κ = 32 ∨ κ = 4) ∧ j = 2 * i + 1) ∨ (κ = 5 ∧ j = i ∧ (k = 2 ∨ k = 3)) ∨ (κ = 33 ∧ j = i)
/-- a state becomes another one -/
theorem c_becomes8 {i j : Nat} {T : pT} (h : pRS w j T) (hT : T.2.2.2.1 ≤ 60) (hij : i ≠ j) : ∃ w', f_X8_becomes i j w = some ((), w') ∧ pSame (KF i) w w' ∧ pRS w' i T := by
  obtain ⟨r1, r2, r3, r4⟩ := h
  obtain ⟨w1, e1, g1, n1, z1⟩ := c_sees r1 r2 hij
  have m1 : jgi w1 5 j 3 = nI T.2.2.2.1 := by rw [g1.1 _ _ _ (by unfold KE; omega)]; exact r3
  have e3 : (3 : Int32) * nI T.2.2.2.1 = nI (3 * T.2.2.2.1) := nI_mul 3 _
  have hc : 0 ≤ (0 : Int32).toInt ∧ 0 ≤ (0 : Int32).toInt ∧ 0 ≤ (nI (3 * T.2.2.2.1)).toInt ∧ (0 : Int32).toInt + (nI (3 * T.2.2.2.1)).toInt ≤ (180 : Int) ∧ (0 : Int32).toInt + (nI (3 * T.2.2.2.1)).toInt ≤ (180 : Int) := by
    rw [toI0, nI_toInt (by omega)]
    omega
  refine ⟨jsi (jas w1 33 i (va_cpy (w1.1 33 j) (w1.1 33 i) 0 0 (3 * T.2.2.2.1))) 5 i 3 (nI T.2.2.2.1), ?_, ((g1.mono fun κ j k y => ?_).trans (jas_same fun k => Or.inr (Or.inr ⟨rfl, rfl⟩))).trans (pSame.jsi (Or.inr (Or.inl ⟨rfl, rfl, Or.inr rfl⟩))), ?_, ?_, jgi_eq, fun k hk => ?_⟩
  · rw [f_X8_becomes, e1, jcb_s2, jlt_eq, m1, e3, if_pos hc, jlt_eq, jcp_as, toI0, nI_toInt (by omega), jlt_eq, jas_ne (by omega), m1, jlt_eq]
    rfl
  · unfold KE at y
    unfold KF
    omega
  · exact (n1.same (K := fun κ _ _ => κ = 33) (jas_same fun _ => rfl) (fun k => ⟨by omega, by omega⟩)).same (K := fun κ _ _ => κ = 5) (pSame.jsi rfl) (fun k => ⟨by omega, by omega⟩)
  · rw [jgi_ne (by omega), jas_ne (by omega)]; exact z1
  · rw [jgi_ne (by omega), jas_get, cpy0_in hk]
    show jgi w1 33 j k = _
    rw [g1.1 _ _ _ (by unfold KE; omega)]
    exact r4 k hk
def setT (A : pA) (T : pT) : pA := (A.1, A.2.1, (A.2.2.1.1, T), A.2.2.2)
/-- now is another one -/
theorem RelC.set {T : pT} (h : RelC A w) (hX : aX A = some X) {K : Nat → Nat → Nat → Prop} (g : pSame K w w') (hK : ∀ κ i k, K κ i k → KQ w κ i k ∨ ((κ = 4 ∨ κ = 32) ∧ i = 1) ∨ ((κ = 5 ∨ κ = 33) ∧ i = 0)) (r : pRise w w') (p0 : WfP 0 w') (p1 : WfP 1 w') (hT : pRS w' 0 T) : RelC (setT A T) w' := by
  obtain ⟨h1, h2, h3, h4, h5, h6, h7, -, -, h10⟩ := h
  have nk : ∀ κ i k, ¬ KQ w κ i k → ¬ ((κ = 4 ∨ κ = 32) ∧ i = 1) → ¬ ((κ = 5 ∨ κ = 33) ∧ i = 0) → ¬ K κ i k := fun κ i k a b c z => by
    rcases hK κ i k z with y | y | y
    · exact a y
    · exact b y
    · exact c y
  -- the rest, as it was
  have G : pSame (fun κ i k => KQ w κ i k ∨ ((κ = 4 ∨ κ = 32) ∧ i = 1) ∨ ((κ = 5 ∨ κ = 33) ∧ i = 0)) w w' := g.mono hK
  have ri : ∀ κ i k, ¬ KQ w κ i k → ¬ ((κ = 4 ∨ κ = 32) ∧ i = 1) → ¬ ((κ = 5 ∨ κ = 33) ∧ i = 0) → jgi w' κ i k = jgi w κ i k := fun κ i k a b c => g.1 _ _ _ (nk _ _ _ a b c)
  have rr : ∀ κ i k, ¬ KQ w κ i k → ¬ ((κ = 4 ∨ κ = 32) ∧ i = 1) → ¬ ((κ = 5 ∨ κ = 33) ∧ i = 0) → jgr w' κ i k = jgr w κ i k := fun κ i k a b c => g.2.2.1 _ _ _ (nk _ _ _ a b c)
  have rn : ∀ κ i, ¬ KQ w κ i 0 → ¬ ((κ = 4 ∨ κ = 32) ∧ i = 1) → ¬ ((κ = 5 ∨ κ = 33) ∧ i = 0) → jgn w' κ i = jgn w κ i := fun κ i a b c => g.2.2.2 _ _ (nk _ _ _ a b c)
  refine ⟨⟨?_, fun k hk => ?_⟩, ⟨?_, fun j hj => ?_⟩, ?_, ⟨?_, fun e => ?_⟩, ?_, ⟨?_, ?_⟩, ?_, p0, p1, by have := r.1; omega⟩
  · rw [ri _ _ _ (by unfold KQ KS KN; omega) (by omega) (by omega)]; exact h1.1
  · rw [ri _ _ _ (by unfold KQ KS KN; omega) (by omega) (by omega)]; exact h1.2 k hk
  · rw [ri _ _ _ (by unfold KQ KS KN; omega) (by omega) (by omega)]; exact h2.1
  · obtain ⟨q, a1, a2, a3, a4⟩ := h2.2 j hj
    refine ⟨q, ?_, by have := r.2.2.1; omega, ?_, fun i hi => ?_⟩
    · rw [rr _ _ _ (by unfold KQ KS KN; omega) (by omega) (by omega)]; exact a1
    · rw [ri _ _ _ (by unfold KQ KS KN; omega) (by omega) (by omega)]; exact a3
    · rw [ri 36 _ _ (by unfold KQ KS KN; omega) (by omega) (by omega), ri 37 _ _ (by unfold KQ KS KN; omega) (by omega) (by omega), ri 37 _ _ (by unfold KQ KS KN; omega) (by omega) (by omega)]; exact a4 i hi
  · unfold cTrc at h3 ⊢
    rw [hX] at h3
    rw [show aX (setT A T) = some X from hX]
    obtain ⟨⟨t, a1, a2, a3, a4⟩, -⟩ := h3
    refine ⟨⟨t, ?_, a2.same g (fun k => ⟨nk _ _ _ (by unfold KQ KS KN; omega) (by omega) (by omega), nk _ _ _ (by unfold KQ KS KN; omega) (by omega) (by omega)⟩), by have := r.2.1; omega, fun l hl => ?_⟩, hT⟩
    · rw [rr _ _ _ (by unfold KQ KS KN; omega) (by omega) (by omega)]; exact a1
    · obtain ⟨q, b1, b, b2, b3, b4, b5, b6, b7⟩ := a4 l hl
      refine ⟨q, ?_, b, ?_, ?_, ?_, fun i hi => ?_, by have := r.2.2.2.1; omega, by have := r.2.2.2.2; omega⟩
      · rw [rr _ _ _ (by unfold KQ KS KN; omega) (by omega) (by omega)]; exact b1
      · rw [rr _ _ _ (by unfold KQ KS KN; omega) (by omega) (by omega)]; exact b2
      · rw [ri _ _ _ (by unfold KQ KS KN; omega) (by omega) (by omega)]; exact b3
      · rw [rn _ _ (by unfold KQ KS KN; omega) (by omega) (by omega)]; exact b4
      · rw [ri _ _ _ (by unfold KQ KS KN; omega) (by omega) (by omega)]; exact b5 i hi
  · rw [ri _ _ _ (by unfold KQ KS KN; omega) (by omega) (by omega)]; exact h4.1
  · exact (h4.2 e).same g (fun k => ⟨nk _ _ _ (by unfold KQ KS KN; omega) (by omega) (by omega), nk _ _ _ (by unfold KQ KS KN; omega) (by omega) (by omega), nk _ _ _ (by unfold KQ KS KN; omega) (by omega) (by omega), nk _ _ _ (by unfold KQ KS KN; omega) (by omega) (by omega)⟩)
  · obtain ⟨a1, ua, a2, a3, a4, a5⟩ := h5
    have rd : ∀ k, jgr w' 23 0 k = jgr w 23 0 k := fun k => rr _ _ _ (by unfold KQ KS KN; omega) (by omega) (by omega)
    refine ⟨by rw [ri _ _ _ (by unfold KQ KS KN; omega) (by omega) (by omega)]; exact a1, ua, by rw [ri _ _ _ (by unfold KQ KS KN; omega) (by omega) (by omega)]; exact a2, a3, fun k b hk e => ?_, fun j hj => ?_⟩
    · rw [rd] at e
      obtain ⟨b1, b2, b3⟩ := a4 k b hk e
      exact ⟨b1, by have := r.1; omega, fun k' hk' e' => b3 k' hk' (by rw [← rd]; exact e')⟩
    · obtain ⟨b, b1, b2⟩ := a5 j hj
      obtain ⟨c1, c2, -⟩ := a4 _ b (Nat.mod_lt _ (by decide)) b1
      exact ⟨b, by rw [rd]; exact b1, b2.same g (fun k => ⟨nk _ _ _ (by unfold KQ KS KN; omega) (by omega) (by omega), nk _ _ _ (by unfold KQ KS KN; omega) (by omega) (by omega), nk _ _ _ (by unfold KQ KS KN; omega) (by omega) (by omega), nk _ _ _ (by unfold KQ KS KN; omega) (by omega) (by omega)⟩)⟩
  · rw [ri _ _ _ (by unfold KQ KS KN; omega) (by omega) (by omega)]; exact h6.1
  · rw [ri _ _ _ (by unfold KQ KS KN; omega) (by omega) (by omega)]; exact h6.2
  · exact h7.same g (fun κ i k hk => nk _ _ _ (by unfold KQ KS KN; omega) (by omega) (by omega))
/-- no counter is touched -/
theorem pRise_of {K : Nat → Nat → Nat → Prop} (g : pSame K w w') (hK : ∀ κ, 100 ≤ κ → ¬ K κ 0 0) : pRise w w' := by
  refine ⟨?_, ?_, ?_, ?_, ?_⟩
  all_goals exact Nat.le_of_eq (g.2.2.2 _ _ (hK _ (by decide))).symm
def KNo (κ i k : Nat) : Prop := (κ = 33 ∧ i = 0) ∨ (κ = 5 ∧ i = 0 ∧ k = 3)
/-- a note is made -/
theorem c_notes {T : pT} (h : pRS w 0 T) (hT : wfT T) {v0 v1 v2 : Int32} : ∃ w', f_X8_notes 0 v0 v1 v2 w = some ((), w') ∧ pSame KNo w w' ∧ pRS w' 0 (pNote T v0 v1 v2) := by
  obtain ⟨t1, t2, t3, t4, t5⟩ := hT
  obtain ⟨r1, r2, r3, r4⟩ := h
  -- the tail, from a state that holds m notes, less than 60
  have tail : ∀ (u : j_St) (m : Nat) (nt : Nat → Int32), m < 60 → pCn u 1 (sI T.1) T.2.1 → jgi u 5 0 2 = nI T.2.2.1 → jgi u 5 0 3 = nI m → (∀ k, k < 3 * m → jgi u 33 0 k = nt k) → ∃ w', (jlt (jgi u 5 0 3) fun v9 => jbd (3 * v9) 180 fun a11 => jlt (jsi u 33 0 a11 v0) fun w10 => jlt (jgi w10 5 0 3) fun v13 => jbd ((3 * v13) + 1) 180 fun a15 => jlt (jsi w10 33 0 a15 v1) fun w14 => jlt (jgi w14 5 0 3) fun v17 => jbd ((3 * v17) + 2) 180 fun a19 => jlt (jsi w14 33 0 a19 v2) fun w18 => jlt (jgi w18 5 0 3) fun v20 => jlt (jsi w18 5 0 3 (v20 + 1)) fun w21 => some ((), w21)) = some ((), w') ∧ pSame KNo u w' ∧ pRS w' 0 (T.1, T.2.1, T.2.2.1, m + 1, up (up (up nt (3 * m) v0) (3 * m + 1) v1) (3 * m + 2) v2) := fun u m nt hm n1 z1 m1 hnt => by
    have e3 : (3 : Int32) * nI m = nI (3 * m) := nI_mul 3 m
    have e4 : nI (3 * m) + 2 = nI (3 * m + 2) := nI_add _ 2
    refine ⟨jsi (jsi (jsi (jsi u 33 0 (3 * m) v0) 33 0 (3 * m + 1) v1) 33 0 (3 * m + 2) v2) 5 0 3 (nI (m + 1)), ?_, (((pSame.jsi (by unfold KNo; omega)).trans (pSame.jsi (by unfold KNo; omega))).trans (pSame.jsi (by unfold KNo; omega))).trans (pSame.jsi (by unfold KNo; omega)), ?_, ?_, jgi_eq, fun k hk => ?_⟩
    · rw [jlt_eq, m1, e3, jbd_nI (by omega) (by decide), jlt_eq, jlt_eq, jgi_ne (by omega), m1, e3, nI_1, jbd_nI (by omega) (by decide), jlt_eq, jlt_eq, jgi_ne (by omega), jgi_ne (by omega), m1, e3, e4, jbd_nI (by omega) (by decide), jlt_eq, jlt_eq, jgi_ne (by omega), jgi_ne (by omega), jgi_ne (by omega), m1, jlt_eq, nI_1]
    · exact n1.same (K := KNo) ((((pSame.jsi (by unfold KNo; omega)).trans (pSame.jsi (by unfold KNo; omega))).trans (pSame.jsi (by unfold KNo; omega))).trans (pSame.jsi (by unfold KNo; omega))) (fun k => ⟨by unfold KNo; omega, by unfold KNo; omega⟩)
    · rw [jgi_ne (by omega), jgi_ne (by omega), jgi_ne (by omega), jgi_ne (by omega)]; exact z1
    · have hk : k < 3 * (m + 1) := hk
      show jgi _ 33 0 k = up (up (up nt (3 * m) v0) (3 * m + 1) v1) (3 * m + 2) v2 k
      rw [jgi_ne (by omega)]
      unfold up
      by_cases c2 : k = 3 * m + 2
      · rw [c2, jgi_eq, if_pos rfl]
      · rw [jgi_ne (by omega), if_neg c2]
        by_cases c1 : k = 3 * m + 1
        · rw [c1, jgi_eq, if_pos rfl]
        · rw [jgi_ne (by omega), if_neg c1]
          by_cases c0 : k = 3 * m
          · rw [c0, jgi_eq, if_pos rfl]
          · rw [jgi_ne (by omega), if_neg c0]
            exact hnt k (by omega)
  by_cases c : T.2.2.2.1 = 60
  · have hc : 0 ≤ (3 : Int32).toInt ∧ 0 ≤ (0 : Int32).toInt ∧ 0 ≤ (177 : Int32).toInt ∧ (3 : Int32).toInt + (177 : Int32).toInt ≤ (180 : Int) ∧ (0 : Int32).toInt + (177 : Int32).toInt ≤ (180 : Int) := by decide
    have g1 : pSame KNo w (jsi (jcp w 33 0 (3 : Int32).toInt.toNat 33 0 (0 : Int32).toInt.toNat (177 : Int32).toInt.toNat) 5 0 3 (nI 59)) := (jas_same (g := va_cpy (w.1 33 0) (w.1 33 0) 3 0 177) fun k => by unfold KNo; omega).trans (pSame.jsi (by unfold KNo; omega))
    have m5 : jgi (jcp w 33 0 (3 : Int32).toInt.toNat 33 0 (0 : Int32).toInt.toNat (177 : Int32).toInt.toNat) 5 0 3 = nI 60 := by
      rw [jcp_as, jas_ne (by omega), r3, c]
    obtain ⟨w', e', g', p'⟩ := tail (jsi (jcp w 33 0 (3 : Int32).toInt.toNat 33 0 (0 : Int32).toInt.toNat (177 : Int32).toInt.toNat) 5 0 3 (nI 59)) 59 (fun k => T.2.2.2.2 (k + 3)) (by decide) (r1.same g1 (fun k => ⟨by unfold KNo; omega, by unfold KNo; omega⟩)) (by rw [jgi_ne (by omega), jcp_as, jas_ne (by omega)]; exact r2) jgi_eq (fun k hk => by
      rw [jgi_ne (by omega), jcp_as, jas_get]
      show va_cpy (w.1 33 0) (w.1 33 0) 3 0 177 k = _
      rw [pk_cpy_in (Nat.zero_le _) (by omega), show 3 + (k - 0) = k + 3 by omega]
      exact r4 (k + 3) (by omega))
    refine ⟨w', ?_, g1.trans g', ?_⟩
    · rw [f_X8_notes, jlt_eq, r3, c, jlt_eq, if_pos (by decide), if_pos hc, jlt_eq, jlt_eq, m5, show nI 60 - 1 = nI 59 by decide, jlt_eq]
      exact e'
    · unfold pNote
      simp only [c, if_true]
      exact p'
  · obtain ⟨w', e', g', p'⟩ := tail w T.2.2.2.1 T.2.2.2.2 (by omega) r1 r2 r3 r4
    refine ⟨w', ?_, g', ?_⟩
    · rw [f_X8_notes, jlt_eq, r3, jlt_eq, if_neg (show ¬ nI T.2.2.2.1 = 60 from fun e => c ((nI_eq (b := 60) (by omega) (by decide)).mp e))]
      exact e'
    · unfold pNote
      simp only [c, if_false]
      exact p'
end CACTS
