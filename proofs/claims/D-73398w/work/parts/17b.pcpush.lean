/-! the pure law: what was is held, in the component; it acts -/
section CPUSH
variable {w w' : j_St} {A : pA} {X : pX}
/-- the long that is drawn from and the scripts' cells stay -/
def pLg (w w' : j_St) : Prop := jgl w' 0 0 20 = jgl w 0 0 20 ∧ ∀ k, jgr w' 22 0 k = jgr w 22 0 k
def setU (A : pA) (u : Nat) (hs : Nat → pT) : pA := (A.1, A.2.1, A.2.2.1, A.2.2.2.1, (u, hs), A.2.2.2.2.2)
/-- what is held is another one -/
theorem RelC.und {u : Nat} {hs : Nat → pT} (h : RelC A w) {K : Nat → Nat → Nat → Prop} (g : pSame K w w') (hK : ∀ κ i k, K κ i k → KQ w κ i k ∨ (κ = 23 ∨ (κ = 0 ∧ (k = 18 ∨ k = 19))) ∨ ((κ = 5 ∨ κ = 33) ∧ 4 ≤ i) ∨ ((κ = 4 ∨ κ = 32) ∧ 9 ≤ i)) (r : pRise w w') (p0 : WfP 0 w') (p1 : WfP 1 w') (hu : cUnd (setU A u hs) w') : RelC (setU A u hs) w' := by
  obtain ⟨h1, h2, h3, h4, h5, h6, h7, -, -, h10⟩ := h
  have nk : ∀ κ i k, ¬ KQ w κ i k → ¬ (κ = 23 ∨ (κ = 0 ∧ (k = 18 ∨ k = 19))) → ¬ ((κ = 5 ∨ κ = 33) ∧ 4 ≤ i) → ¬ ((κ = 4 ∨ κ = 32) ∧ 9 ≤ i) → ¬ K κ i k := fun κ i k a b c d z => by
    rcases hK κ i k z with y | y | y | y
    · exact a y
    · exact b y
    · exact c y
    · exact d y
  refine ⟨⟨?_, fun k hk => ?_⟩, ⟨?_, fun j hj => ?_⟩, ?_, ⟨?_, fun e => ?_⟩, hu, ⟨?_, ?_⟩, ?_, p0, p1, by have := r.1; omega⟩
  · rw [g.1 _ _ _ (nk _ _ _ (by unfold KQ KS KN; omega) (by omega) (by omega) (by omega))]; exact h1.1
  · rw [g.1 _ _ _ (nk _ _ _ (by unfold KQ KS KN; omega) (by omega) (by omega) (by omega))]; exact h1.2 k hk
  · rw [g.1 _ _ _ (nk _ _ _ (by unfold KQ KS KN; omega) (by omega) (by omega) (by omega))]; exact h2.1
  · obtain ⟨q, a1, a2, a3, a4⟩ := h2.2 j hj
    refine ⟨q, ?_, by have := r.2.2.1; omega, ?_, fun i hi => ?_⟩
    · rw [g.2.2.1 _ _ _ (nk _ _ _ (by unfold KQ KS KN; omega) (by omega) (by omega) (by omega))]; exact a1
    · rw [g.1 _ _ _ (nk _ _ _ (by unfold KQ KS KN; omega) (by omega) (by omega) (by omega))]; exact a3
    · rw [g.1 36 _ _ (nk _ _ _ (by unfold KQ KS KN; omega) (by omega) (by omega) (by omega)), g.1 37 _ _ (nk _ _ _ (by unfold KQ KS KN; omega) (by omega) (by omega) (by omega)), g.1 37 _ _ (nk _ _ _ (by unfold KQ KS KN; omega) (by omega) (by omega) (by omega))]; exact a4 i hi
  · unfold cTrc at h3 ⊢
    rw [show aX (setU A u hs) = aX A from rfl]
    cases hX : aX A with
    | none =>
      rw [hX] at h3
      simp only [] at h3 ⊢
      rw [g.2.2.1 _ _ _ (nk _ _ _ (by unfold KQ KS KN; omega) (by omega) (by omega) (by omega))]; exact h3
    | some X =>
      rw [hX] at h3
      obtain ⟨⟨t, a1, a2, a3, a4⟩, a5⟩ := h3
      refine ⟨⟨t, ?_, a2.same g (fun k => ⟨nk _ _ _ (by unfold KQ KS KN; omega) (by omega) (by omega) (by omega), nk _ _ _ (by unfold KQ KS KN; omega) (by omega) (by omega) (by omega)⟩), by have := r.2.1; omega, fun l hl => ?_⟩, a5.same g (fun k => ⟨nk _ _ _ (by unfold KQ KS KN; omega) (by omega) (by omega) (by omega), nk _ _ _ (by unfold KQ KS KN; omega) (by omega) (by omega) (by omega), nk _ _ _ (by unfold KQ KS KN; omega) (by omega) (by omega) (by omega), nk _ _ _ (by unfold KQ KS KN; omega) (by omega) (by omega) (by omega)⟩)⟩
      · rw [g.2.2.1 _ _ _ (nk _ _ _ (by unfold KQ KS KN; omega) (by omega) (by omega) (by omega))]; exact a1
      · obtain ⟨q, b1, b, b2, b3, b4, b5, b6, b7⟩ := a4 l hl
        refine ⟨q, ?_, b, ?_, ?_, ?_, fun i hi => ?_, by have := r.2.2.2.1; omega, by have := r.2.2.2.2; omega⟩
        · rw [g.2.2.1 _ _ _ (nk _ _ _ (by unfold KQ KS KN; omega) (by omega) (by omega) (by omega))]; exact b1
        · rw [g.2.2.1 _ _ _ (nk _ _ _ (by unfold KQ KS KN; omega) (by omega) (by omega) (by omega))]; exact b2
        · rw [g.1 _ _ _ (nk _ _ _ (by unfold KQ KS KN; omega) (by omega) (by omega) (by omega))]; exact b3
        · rw [g.2.2.2 _ _ (nk _ _ _ (by unfold KQ KS KN; omega) (by omega) (by omega) (by omega))]; exact b4
        · rw [g.1 _ _ _ (nk _ _ _ (by unfold KQ KS KN; omega) (by omega) (by omega) (by omega))]; exact b5 i hi
  · rw [g.1 _ _ _ (nk _ _ _ (by unfold KQ KS KN; omega) (by omega) (by omega) (by omega))]; exact h4.1
  · exact (h4.2 e).same g (fun k => ⟨nk _ _ _ (by unfold KQ KS KN; omega) (by omega) (by omega) (by omega), nk _ _ _ (by unfold KQ KS KN; omega) (by omega) (by omega) (by omega), nk _ _ _ (by unfold KQ KS KN; omega) (by omega) (by omega) (by omega), nk _ _ _ (by unfold KQ KS KN; omega) (by omega) (by omega) (by omega)⟩)
  · rw [g.1 _ _ _ (nk _ _ _ (by unfold KQ KS KN; omega) (by omega) (by omega) (by omega))]; exact h6.1
  · rw [g.1 _ _ _ (nk _ _ _ (by unfold KQ KS KN; omega) (by omega) (by omega) (by omega))]; exact h6.2
  · exact h7.same g (fun κ i k hk => nk _ _ _ (by unfold KQ KS KN; omega) (by omega) (by omega) (by omega))
theorem setU_self : setU A (aU A) (aHs A) = A := rfl
/-- a new state -/
def KI (n κ i k : Nat) : Prop := ((κ = 5 ∨ κ = 33) ∧ i = n) ∨ ((κ = 4 ∨ κ = 32) ∧ i = 2 * n + 1) ∨ (κ = 105 ∧ i = 0)
theorem c_new {n : Nat} : ∃ w', f_X8_init n (jnw (jbump w 5) 5 n 0) = some ((), w') ∧ pSame (KI n) w w' ∧ jgn w' 105 0 = jgn w 105 0 + 1 := by
  refine ⟨_, rfl, ?_, ?_⟩
  · exact ((((((((jbump_same (Or.inr (Or.inr ⟨rfl, rfl⟩))).trans (jnw_same fun k => Or.inl ⟨Or.inl rfl, rfl⟩)).trans (pSame.jsr (Or.inl ⟨Or.inl rfl, rfl⟩))).trans (jnw_same fun k => Or.inr (Or.inl ⟨Or.inl rfl, rfl⟩))).trans (jnw_same fun k => Or.inr (Or.inl ⟨Or.inr rfl, rfl⟩))).trans (pSame.jsr (Or.inr (Or.inl ⟨Or.inl rfl, rfl⟩)))).trans (pSame.jsr (Or.inl ⟨Or.inl rfl, rfl⟩))).trans (jnw_same fun k => Or.inl ⟨Or.inr rfl, rfl⟩)).trans (pSame.jsr (Or.inl ⟨Or.inl rfl, rfl⟩))
  · simp [jgn, jsr, jnw, jbump]
theorem WfP.low {i0 : Nat} (h : WfP i0 w) {K : Nat → Nat → Nat → Prop} (g : pSame K w w') (hK : ∀ κ i k, K κ i k → κ ≠ 2 ∧ κ ≠ 3 ∧ ¬ (27 ≤ κ ∧ κ ≤ 31)) : WfP i0 w' := h.same g (fun κ i k a _ b => by have := hK _ _ _ b; unfold KP at a; omega)
def hsPush (A : pA) (T : pT) : Nat → pT := fun j => if j = 0 then T else aHs A (j - 1)
theorem jmin40 {u : Nat} (h : u ≤ 40) : jmin 40 (nI u + 1) = nI (min 40 (u + 1)) := by
  rw [nI_1, show (40 : Int32) = nI 40 from rfl, jmin_nI (by decide) (by omega)]
theorem mod40 {x : Nat} (h : x < 80) : nI x - nI x / 40 * 40 = nI (x % 40) := by
  have hd : ∀ y : Fin 80, nI y.val - nI y.val / 40 * 40 = nI (y.val % 40) := by decide +kernel
  exact hd ⟨x, h⟩
/-- the state that stands there takes what was -/
theorem c_rest (hC : RelC A w) (hu : aU A ≤ 40) {T : pT} (h3 : pRS w 3 T) (hT : wfT T) {ua b : Nat} (hua : jgi w 0 0 19 = nI ua) (hua4 : ua < 40) (hb : jgr w 23 0 ua = some b)
    {kk : j_St → Option (Int32 × j_St)} : ∃ w', (jlt (jgi w 0 0 19) fun v43 => jbd v43 40 fun a44 => jlt (jgr w 23 0 a44) fun v45 => job v45 fun y48 => jcb (f_X8_becomes y48 3 w) fun _ w51 => jlt (jgi w51 0 0 19) fun v53 => jlt (v53 + 1) fun v55 => jlt 40 fun v54 => if v54 = 0 then none else jlt (jsi w51 0 0 19 (v55 - v55 / v54 * v54)) fun w56 => jlt (jgi w56 0 0 18) fun v57 => jlt (jsi w56 0 0 18 (jmin 40 (v57 + 1))) fun w58 => kk w58) = kk w' ∧ RelC (setU A (min 40 (aU A + 1)) (hsPush A T)) w' ∧ pSame KXC w w' ∧ jgi w' 5 0 4 = jgi w 5 0 4 ∧ pLg w w' := by
  have hC' := hC
  obtain ⟨h1, h2, h3', h4, ⟨c1, ua', c2, c3, c4, c5⟩, h6, h7, q0, q1, h10⟩ := hC'
  have eua : ua' = ua := by
    rw [hua] at c2
    exact ((nI_eq (by omega) (by omega)).mp c2).symm
  subst eua
  obtain ⟨b1, b2, b3⟩ := c4 ua' b hua4 hb
  obtain ⟨w1, e1, g1, p1⟩ := c_becomes8 (i := b) h3 hT.2.2.2.2 (by omega)
  have i1 : jgi w1 0 0 19 = nI ua' := by rw [g1.1 _ _ _ (by unfold KF; omega)]; exact hua
  have i2 : jgi w1 0 0 18 = nI (aU A) := by rw [g1.1 _ _ _ (by unfold KF; omega)]; exact c1
  have g2 : pSame (fun κ i k => KF b κ i k ∨ (κ = 0 ∧ (k = 18 ∨ k = 19))) w (jsi (jsi w1 0 0 19 (nI ((ua' + 1) % 40))) 0 0 18 (nI (min 40 (aU A + 1)))) := ((g1.mono fun κ i k y => Or.inl y).trans (pSame.jsi (Or.inr ⟨rfl, Or.inr rfl⟩))).trans (pSame.jsi (Or.inr ⟨rfl, Or.inl rfl⟩))
  have rd : ∀ k, jgr (jsi (jsi w1 0 0 19 (nI ((ua' + 1) % 40))) 0 0 18 (nI (min 40 (aU A + 1)))) 23 0 k = jgr w 23 0 k := fun k => g2.2.2.1 _ _ _ (by unfold KF; omega)
  have lowK : ∀ κ i k, KF b κ i k ∨ (κ = 0 ∧ (k = 18 ∨ k = 19)) → κ ≠ 2 ∧ κ ≠ 3 ∧ ¬ (27 ≤ κ ∧ κ ≤ 31) := fun κ i k y => by unfold KF at y; omega
  refine ⟨jsi (jsi w1 0 0 19 (nI ((ua' + 1) % 40))) 0 0 18 (nI (min 40 (aU A + 1))), ?_, ?_, g2.mono fun κ i k y => by unfold KF at y; unfold KXC; omega, g2.1 _ _ _ (by unfold KF; omega), g2.2.1 _ _ _ (by unfold KF; omega), fun k => g2.2.2.1 _ _ _ (by unfold KF; omega)⟩
  · rw [jlt_eq, hua, jbd_nI hua4 (by decide), jlt_eq, hb, job_s2, e1, jcb_s2, jlt_eq, i1, jlt_eq, nI_1, jlt_eq, if_neg (by decide), mod40 (by omega), jlt_eq, jlt_eq, jgi_ne (by omega), i2, jmin40 hu, jlt_eq]
  · refine hC.und g2 (fun κ i k y => ?_) (pRise_of g2 (fun κ hκ => by unfold KF; omega)) (q0.low g2 lowK) (q1.low g2 lowK) ?_
    · unfold KF at y
      rcases y with (y | y | y) | y
      · exact Or.inr (Or.inr (Or.inr ⟨by omega, by omega⟩))
      · exact Or.inr (Or.inr (Or.inl ⟨Or.inl y.1, by omega⟩))
      · exact Or.inr (Or.inr (Or.inl ⟨Or.inr y.1, by omega⟩))
      · exact Or.inr (Or.inl (Or.inr y))
    · refine ⟨jgi_eq, (ua' + 1) % 40, by rw [jgi_ne (by omega), jgi_eq], Nat.mod_lt _ (by decide), fun k b' hk e => ?_, fun j hj => ?_⟩
      · rw [rd] at e
        obtain ⟨d1, d2, d3⟩ := c4 k b' hk e
        exact ⟨d1, by rw [g2.2.2.2 _ _ (by unfold KF; omega)]; exact d2, fun k' hk' e' => d3 k' hk' (by rw [← rd]; exact e')⟩
      · have hj : j < min 40 (aU A + 1) := hj
        show ∃ b, jgr _ 23 0 (((ua' + 1) % 40 + 39 - j) % 40) = some b ∧ pRS _ b (hsPush A T j)
        by_cases j0 : j = 0
        · subst j0
          refine ⟨b, ?_, ?_⟩
          · rw [rd, show ((ua' + 1) % 40 + 39 - 0) % 40 = ua' by omega]
            exact hb
          · exact p1.same (K := fun κ _ _ => κ = 0) ((pSame.jsi rfl).trans (pSame.jsi rfl)) (fun k => ⟨by omega, by omega, by omega, by omega⟩)
        · have hj2 : j - 1 < aU A := by omega
          obtain ⟨b', e', p'⟩ := c5 (j - 1) hj2
          have ix : ((ua' + 1) % 40 + 39 - j) % 40 = (ua' + 39 - (j - 1)) % 40 := by omega
          have ne : b' ≠ b := fun z => by
            have := b3 _ (Nat.mod_lt (ua' + 39 - (j - 1)) (by decide)) (by rw [← z]; exact e')
            omega
          refine ⟨b', by rw [rd, ix]; exact e', ?_⟩
          unfold hsPush
          rw [if_neg j0]
          obtain ⟨d1, d2, -⟩ := c4 _ b' (Nat.mod_lt _ (by decide)) e'
          exact p'.same g2 (fun k => ⟨by unfold KF; omega, by unfold KF; omega, by unfold KF; omega, by unfold KF; omega⟩)
/-- what was is held -/
theorem c_push (hC : RelC A w) (hu : aU A ≤ 40) {T : pT} (h3 : pRS w 3 T) (hT : wfT T) {kk : j_St → Option (Int32 × j_St)} : ∃ w', (jlt (jgi w 0 0 19) fun v11 => jbd v11 40 fun a12 => jlt (jgr w 23 0 a12) fun v13 => jlt (fun (w39 : j_St) => jlt (jgi w39 0 0 19) fun v43 => jbd v43 40 fun a44 => jlt (jgr w39 23 0 a44) fun v45 => job v45 fun y48 => jcb (f_X8_becomes y48 3 w39) fun _ w51 => jlt (jgi w51 0 0 19) fun v53 => jlt (v53 + 1) fun v55 => jlt 40 fun v54 => if v54 = 0 then none else jlt (jsi w51 0 0 19 (v55 - v55 / v54 * v54)) fun w56 => jlt (jgi w56 0 0 18) fun v57 => jlt (jsi w56 0 0 18 (jmin 40 (v57 + 1))) fun w58 => kk w58) fun K61 => jcs v13 (jlt (jgi w 0 0 19) fun v18 => jlt (jgn w 105 0) fun n19 => jlt (jbump w 5) fun w21 => jlt (jnw w21 5 n19 0) fun w29 => jcb (f_X8_init n19 w29) fun _ w32 => jbd v18 40 fun a38 => jlt (jsr w32 23 0 a38 (some n19)) fun w37 => K61 w37) fun y15 => K61 w) = kk w' ∧ RelC (setU A (min 40 (aU A + 1)) (hsPush A T)) w' ∧ pSame KXC w w' ∧ jgi w' 5 0 4 = jgi w 5 0 4 ∧ pLg w w' := by
  have hC' := hC
  obtain ⟨h1, h2, h3', h4, ⟨c1, ua, c2, c3, c4, c5⟩, h6, h7, q0, q1, h10⟩ := hC'
  cases hb : jgr w 23 0 ua with
  | some b =>
    obtain ⟨w', e, r⟩ := c_rest hC hu h3 hT c2 c3 hb (kk := kk)
    refine ⟨w', ?_, r⟩
    refine Eq.trans ?_ e
    rw [jlt_eq, c2, jbd_nI c3 (by decide), jlt_eq, hb, jlt_eq, jcs_s2]
    dsimp only
    rw [c2]
  | none =>
    obtain ⟨w1, e1, g1, n1⟩ := c_new (w := w) (n := jgn w 105 0)
    have g2 : pSame (fun κ i k => KI (jgn w 105 0) κ i k ∨ κ = 23) w (jsr w1 23 0 ua (some (jgn w 105 0))) := (g1.mono fun κ i k y => Or.inl y).trans (pSame.jsr (Or.inr rfl))
    have rdu : jgr (jsr w1 23 0 ua (some (jgn w 105 0))) 23 0 ua = some (jgn w 105 0) := if_pos ⟨rfl, rfl, rfl⟩
    have rdn : ∀ k, k ≠ ua → jgr (jsr w1 23 0 ua (some (jgn w 105 0))) 23 0 k = jgr w 23 0 k := fun k hk => by
      rw [show jgr (jsr w1 23 0 ua (some (jgn w 105 0))) 23 0 k = jgr w1 23 0 k from if_neg (by omega), g1.2.2.1 _ _ _ (by unfold KI; omega)]
    have lowK : ∀ κ i k, KI (jgn w 105 0) κ i k ∨ κ = 23 → κ ≠ 2 ∧ κ ≠ 3 ∧ ¬ (27 ≤ κ ∧ κ ≤ 31) := fun κ i k y => by unfold KI at y; omega
    have n2 : jgn (jsr w1 23 0 ua (some (jgn w 105 0))) 105 0 = jgn w 105 0 + 1 := n1
    have rise : pRise w (jsr w1 23 0 ua (some (jgn w 105 0))) := ⟨by omega, Nat.le_of_eq (g2.2.2.2 _ _ (by unfold KI; omega)).symm, Nat.le_of_eq (g2.2.2.2 _ _ (by unfold KI; omega)).symm, Nat.le_of_eq (g2.2.2.2 _ _ (by unfold KI; omega)).symm, Nat.le_of_eq (g2.2.2.2 _ _ (by unfold KI; omega)).symm⟩
    have hC2 : RelC A (jsr w1 23 0 ua (some (jgn w 105 0))) := by
      have := hC.und (u := aU A) (hs := aHs A) g2 (fun κ i k y => by
        unfold KI at y
        rcases y with (y | y | y) | y
        · exact Or.inr (Or.inr (Or.inl ⟨y.1, by omega⟩))
        · exact Or.inr (Or.inr (Or.inr ⟨y.1, by omega⟩))
        · exact Or.inl (Or.inr (Or.inl (by omega)))
        · exact Or.inr (Or.inl (Or.inl y))) rise (q0.low g2 lowK) (q1.low g2 lowK) (by
        refine ⟨by rw [g2.1 _ _ _ (by unfold KI; omega)]; exact c1, ua, by rw [g2.1 _ _ _ (by unfold KI; omega)]; exact c2, c3, fun k b' hk e => ?_, fun j hj => ?_⟩
        · by_cases ek : k = ua
          · rw [ek, rdu] at e
            cases e
            refine ⟨h10, by omega, fun k' hk' e' => ?_⟩
            apply Classical.byContradiction
            intro hne
            rw [ek] at hne
            rw [rdn k' hne] at e'
            have := (c4 k' _ hk' e').2.1
            omega
          · rw [rdn k ek] at e
            obtain ⟨d1, d2, d3⟩ := c4 k b' hk e
            refine ⟨d1, by omega, fun k' hk' e' => ?_⟩
            by_cases ek' : k' = ua
            · rw [ek', rdu] at e'
              cases e'
              omega
            · rw [rdn k' ek'] at e'
              exact d3 k' hk' e'
        · obtain ⟨b', e', p'⟩ := c5 j hj
          obtain ⟨d1, d2, -⟩ := c4 _ b' (Nat.mod_lt _ (by decide)) e'
          refine ⟨b', ?_, p'.same g2 (fun k => ⟨by unfold KI; omega, by unfold KI; omega, by unfold KI; omega, by unfold KI; omega⟩)⟩
          rw [rdn _ (fun z => by rw [z, hb] at e'; cases e')]
          exact e')
      exact this
    have h32 : pRS (jsr w1 23 0 ua (some (jgn w 105 0))) 3 T := h3.same g2 (fun k => ⟨by unfold KI; omega, by unfold KI; omega, by unfold KI; omega, by unfold KI; omega⟩)
    obtain ⟨w', e, r1, r2, r3, r4⟩ := c_rest hC2 hu h32 hT (by rw [g2.1 _ _ _ (by unfold KI; omega)]; exact c2) c3 rdu (kk := kk)
    refine ⟨w', ?_, r1, (g2.mono fun κ i k y => ?_).trans r2, by rw [r3, g2.1 _ _ _ (by unfold KI; omega)], by rw [r4.1, g2.2.1 _ _ _ (by unfold KI; omega)], fun k => by rw [r4.2, g2.2.2.1 _ _ _ (by unfold KI; omega)]⟩
    · refine Eq.trans ?_ e
      rw [jlt_eq, c2, jbd_nI c3 (by decide), jlt_eq, hb, jlt_eq, jcs_n2, jlt_eq, jlt_eq, jlt_eq, jlt_eq, e1, jcb_s2, jbd_nI c3 (by decide), jlt_eq]
    · unfold KI at y
      unfold KXC
      omega
end CPUSH
