/-! the pure law: an act of the component -/
section CACT
variable {w w' : j_St} {A : pA} {X : pX}
/-- what stands after an act -/
def actT (T : pT) (q : Nat) (a b : Int32) : pT := pNote (dDo q a b T).1 (nI q) (if q ≤ 3 then 0 else a) (nI (cK (dDo q a b T).1.1 (dDo q a b T).1.2.1 (dDo q a b T).1.2.2.1))
def actA (A : pA) (q : Nat) (a b : Int32) : pA := setU (setT A (actT (aT A) q a b)) (min 40 (aU A + 1)) (hsPush A (aT A))
theorem dDo_log {q : Nat} {a b : Int32} {T : pT} : (dDo q a b T).1.2.2.2 = T.2.2.2 := by
  unfold dDo
  repeat' split
  all_goals rfl
theorem actA_X {q : Nat} {a b : Int32} : aX (actA A q a b) = aX A := rfl
theorem actA_wf (hA : wfA A) (hX : aX A = some X) {q : Nat} (hq : q < 10) {a b : Int32} (hy : dWhy q a b (aT A).2.1 = -1) : wfA (actA A q a b) := by
  obtain ⟨h1, h2, h3, h4, h5, h6, h7⟩ := hA
  obtain ⟨hwX, hT⟩ := h4 X hX
  refine ⟨h1, h2, fun e => ?_, fun Y e => ⟨(h4 Y e).1, pNote_wf (dDo_wf hT hy hq)⟩, h5, ?_, fun j hj => ?_⟩
  · have e : aX A = none := e
    rw [hX] at e
    cases e
  · show min 40 (aU A + 1) ≤ 40
    omega
  · have hj : j < min 40 (aU A + 1) := hj
    show wfT (hsPush A (aT A) j)
    unfold hsPush
    split
    · exact hT
    · exact h7 _ (by omega)
theorem c_numbersOf {q : Nat} (hq : q < 10) : ∃ v, f_X1_numbersOf (nI q) w = some (v, w) ∧ (v = 0 ↔ q ≤ 3) := by
  rcases (show q = 0 ∨ q = 1 ∨ q = 2 ∨ q = 3 ∨ q = 4 ∨ q = 5 ∨ q = 6 ∨ q = 7 ∨ q = 8 ∨ q = 9 by omega) with rfl | rfl | rfl | rfl | rfl | rfl | rfl | rfl | rfl | rfl
  · exact ⟨0, rfl, by decide⟩
  · exact ⟨0, rfl, by decide⟩
  · exact ⟨0, rfl, by decide⟩
  · exact ⟨0, rfl, by decide⟩
  · exact ⟨1, rfl, by decide⟩
  · exact ⟨1, rfl, by decide⟩
  · exact ⟨2, rfl, by decide⟩
  · exact ⟨2, rfl, by decide⟩
  · exact ⟨1, rfl, by decide⟩
  · exact ⟨2, rfl, by decide⟩
theorem c_before (hC : RelC A w) (hA : wfA A) (hX : aX A = some X) : ∃ w', f_X8_becomes 3 0 w = some ((), w') ∧ cOK w w' ∧ pRS w' 3 (aT A) ∧ pLg w w' := by
  obtain ⟨w1, e1, g1, p1⟩ := c_becomes8 (i := 3) (hC.now hX) (hA.x hX).2.2.2.2.2 (by decide)
  exact ⟨w1, e1, cOK_E2 hC g1 (fun κ i k y => by unfold KF at y; omega), p1, g1.2.1 _ _ _ (by unfold KF; omega), fun k => g1.2.2.1 _ _ _ (by unfold KF; omega)⟩
theorem c_keptK (hC : RelC A w) (hA : wfA A) (hX : aX A = some X) : ∃ w', f_X8_kept 0 w = some (nI (cK (aT A).1 (aT A).2.1 (aT A).2.2.1), w') ∧ cOK w w' ∧ pSame (KP 0) w w' := by
  obtain ⟨hwX, w1, w2, w3, w4, w5⟩ := hA.x hX
  obtain ⟨r1, r2, -, -⟩ := hC.now hX
  obtain ⟨w', e, g1, g2, g3⟩ := c_of (Or.inl rfl) hC r1 w1 w3 w4
  refine ⟨w', ?_, g1, g2⟩
  rw [f_X8_kept, jlt_eq, r2]
  rw [e, jcb_s2, jlt_eq, g3.2.2.1]
/-- AN ACT OF THE COMPONENT -/
theorem c_acts_T (hC : RelC A w) (hA : wfA A) (hX : aX A = some X) {q : Nat} (hq : q < 10) {a b : Int32} (hy : dWhy q a b (aT A).2.1 = -1) : ∃ w', f_X1_acts (nI q) a b w = some (-1, w') ∧ RelC (actA A q a b) w' ∧ pSame KXC w w' ∧ jgi w' 5 0 4 = (dDo q a b (aT A)).2 ∧ pLg w w' := by
  obtain ⟨hwX, hT⟩ := hA.x hX
  have hT' := hT
  obtain ⟨t1, t2, t3, t4, t5⟩ := hT'
  have hu := hA.2.2.2.2.2.1
  obtain ⟨w1, e1, o1, p1, x1⟩ := c_before hC hA hX
  have hC1 := hC.ok o1
  obtain ⟨r1, r2, r3, r4⟩ := hC1.now hX
  obtain ⟨w2, e2, d2⟩ := c_deed_T (i := 0) r1 r2 t1 t3 t4 hC1.2.2.2.2.2.2.2.1 (nm := (aT A).2.2.2.1) (nt := (aT A).2.2.2.2) hq hy
  have d2 : cDone 0 w1 w2 (dDo q a b (aT A)).1.1 (dDo q a b (aT A)).1.2.1 (dDo q a b (aT A)).1.2.2.1 (dDo q a b (aT A)).2 := d2
  obtain ⟨g2, n2, z2, an2, W2⟩ := d2
  have hT2 := dDo_wf hT hy hq
  have lg := dDo_log (q := q) (a := a) (b := b) (T := aT A)
  have rs2 : pRS w2 0 (dDo q a b (aT A)).1 := ⟨n2, z2, by rw [g2.1 _ _ _ (by unfold KD KP; omega), lg]; exact r3, fun k hk => by rw [lg] at hk ⊢; rw [g2.1 _ _ _ (by unfold KD KP; omega)]; exact r4 k hk⟩
  have W12 : WfP 1 w2 := hC1.2.2.2.2.2.2.2.2.1.same g2 (fun κ i k x _ y => by unfold KP at x; unfold KD KP at y; omega)
  have hC2 : RelC (setT A (dDo q a b (aT A)).1) w2 := hC1.set hX g2 (fun κ i k y => by
    unfold KD at y
    rcases y with y | y | y
    · exact Or.inl (Or.inl (by unfold KP at y; unfold KS; omega))
    · rcases y.2 with z | z
      · exact Or.inl (Or.inl (Or.inr (Or.inl ⟨y.1, Or.inl z⟩)))
      · exact Or.inr (Or.inl ⟨y.1, by omega⟩)
    · exact Or.inr (Or.inr ⟨Or.inl y.1, y.2.1⟩)) (pRise_of g2 (fun κ hκ => by unfold KD KP; omega)) W2 W12 rs2
  have rs3 : pRS w2 3 (aT A) := p1.same g2 (fun k => ⟨by unfold KD KP; omega, by unfold KD KP; omega, by unfold KD KP; omega, by unfold KD KP; omega⟩)
  obtain ⟨w3, e3, hC3, g3, an3, x3⟩ := c_push (A := setT A (dDo q a b (aT A)).1) hC2 hu rs3 hT (kk := fun w58 => jcb (f_X1_numbersOf (nI q) w58) fun v60 w61 => jlt (fun (v63 : Int32) (w64 : j_St) => jcb (f_X8_kept 0 w64) fun v68 w69 => jcb (f_X8_notes 0 (nI q) v63 v68 w69) fun _ w72 => some ((-1), w72)) fun K122 => if v60 = 0 then K122 0 w61 else K122 a w61)
  have hA3 : wfA (setU (setT A (dDo q a b (aT A)).1) (min 40 (aU (setT A (dDo q a b (aT A)).1) + 1)) (hsPush (setT A (dDo q a b (aT A)).1) (aT A))) := by
    obtain ⟨h1, h2, h3, h4, h5, h6, h7⟩ := hA
    refine ⟨h1, h2, fun e => ?_, fun Y e => ⟨(h4 Y e).1, hT2⟩, h5, ?_, fun j hj => ?_⟩
    · have e : aX A = none := e
      rw [hX] at e
      cases e
    · show min 40 (aU A + 1) ≤ 40
      omega
    · have hj : j < min 40 (aU A + 1) := hj
      show wfT (if j = 0 then aT A else aHs A (j - 1))
      split
      · exact hT
      · exact h7 _ (by omega)
  have hX3 : aX (setU (setT A (dDo q a b (aT A)).1) (min 40 (aU (setT A (dDo q a b (aT A)).1) + 1)) (hsPush (setT A (dDo q a b (aT A)).1) (aT A))) = some X := hX
  obtain ⟨w4, e4, o4, k4⟩ := c_keptK hC3 hA3 hX3
  have hC4 := hC3.ok o4
  obtain ⟨w5, e5, g5, p5⟩ := c_notes (v0 := nI q) (v1 := if q ≤ 3 then 0 else a) (v2 := nI (cK (dDo q a b (aT A)).1.1 (dDo q a b (aT A)).1.2.1 (dDo q a b (aT A)).1.2.2.1)) (hC4.now hX3) hT2
  have lowK : ∀ κ i k, KNo κ i k → κ ≠ 2 ∧ κ ≠ 3 ∧ ¬ (27 ≤ κ ∧ κ ≤ 31) := fun κ i k y => by unfold KNo at y; omega
  have hC5 := hC4.set hX3 g5 (fun κ i k y => Or.inr (Or.inr (by unfold KNo at y; omega))) (pRise_of g5 (fun κ hκ => by unfold KNo; omega)) (hC4.2.2.2.2.2.2.2.1.low g5 lowK) (hC4.2.2.2.2.2.2.2.2.1.low g5 lowK) p5
  refine ⟨w5, ?_, hC5, (((o1.xc.trans (g2.mono fun κ i k y => by unfold KD KP at y; unfold KXC; omega)).trans g3).trans o4.xc).trans (g5.mono fun κ i k y => by unfold KNo at y; unfold KXC; omega), ?_, ?_⟩
  · obtain ⟨v, ev, hv⟩ := c_numbersOf (w := w3) hq
    rw [f_X1_acts, e1, jcb_s2, e2, jcb_s2, if_pos rfl]
    refine e3.trans ?_
    rw [ev, jcb_s2, jlt_eq]
    have fin : ∀ u : Int32, u = (if q ≤ 3 then 0 else a) → (jcb (f_X8_kept 0 w3) fun v68 w69 => jcb (f_X8_notes 0 (nI q) u v68 w69) fun _ w72 => some (((-1) : Int32), w72)) = some (-1, w5) := fun u hu => by
      rw [e4, jcb_s2, hu]
      show jcb (f_X8_notes 0 (nI q) (if q ≤ 3 then 0 else a) (nI (cK (dDo q a b (aT A)).1.1 (dDo q a b (aT A)).1.2.1 (dDo q a b (aT A)).1.2.2.1)) w4) _ = _
      rw [e5, jcb_s2]
    by_cases c : q ≤ 3
    · rw [if_pos (hv.mpr c)]
      exact fin 0 (by rw [if_pos c])
    · rw [if_neg (fun z => c (hv.mp z))]
      exact fin a (by rw [if_neg c])
  · rw [g5.1 _ _ _ (by unfold KNo; omega), o4.1.1 _ _ _ (by unfold KQ KS KN; have := hC3.2.2.2.2.2.2.2.2.2; omega), an3]
    exact an2
  · exact ⟨by rw [g5.2.1 _ _ _ (by unfold KNo; omega), k4.2.1 _ _ _ (by unfold KP; omega), x3.1, g2.2.1 _ _ _ (by unfold KD KP; omega), x1.1], fun k => by rw [g5.2.2.1 _ _ _ (by unfold KNo; omega), k4.2.2.1 _ _ _ (by unfold KP; omega), x3.2, g2.2.2.1 _ _ _ (by unfold KD KP; omega), x1.2]⟩
theorem c_acts_F (hC : RelC A w) (hA : wfA A) (hX : aX A = some X) {q : Nat} (hq : q < 10) {a b : Int32} (hy : dWhy q a b (aT A).2.1 ≠ -1) : ∃ w', f_X1_acts (nI q) a b w = some (dWhy q a b (aT A).2.1, w') ∧ cOK w w' := by
  obtain ⟨w1, e1, o1, p1, -⟩ := c_before hC hA hX
  refine ⟨w1, ?_, o1⟩
  rw [f_X1_acts, e1, jcb_s2, c_deed_F (i := 0) ((hC.ok o1).now hX).1 hq hy, jcb_s2, if_neg hy]
end CACT
