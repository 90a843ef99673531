/-! the pure law: the best of all peaks, sums of all -/
section BEST
variable {w w' : j_St} {A : pA} {X : pX} {s : Nat → Nat} {n z : Nat}
def pBt (v : Nat → Option Nat) (k : Nat) (b : Option Nat) : Option Nat := match v k with
  | none => b
  | some x => match b with
    | none => some k
    | some j => if x ≤ (v j).getD 0 then some j else some k
theorem pBt_I {v : Nat → Option Nat} {m : Nat} {b : Option Nat} (h : ∀ j, b = some j → j < m ∧ (v j).isSome = true) : ∀ j, pBt v m b = some j → j < m + 1 ∧ (v j).isSome = true := by
  intro j e
  unfold pBt at e
  cases hv : v m with
  | none => rw [hv] at e; have := h j e; exact ⟨by omega, this.2⟩
  | some x =>
    rw [hv] at e
    cases b with
    | none => cases e; exact ⟨by omega, by rw [hv]; rfl⟩
    | some i =>
      simp only [] at e
      have := h i rfl
      split at e
      · cases e; exact ⟨by omega, this.2⟩
      · cases e; exact ⟨by omega, by rw [hv]; rfl⟩
theorem c_best {i1 N : Nat} {v : Nat → Option Nat} (hN : N ≤ 48) (hm : jgi w 2 0 5 = nI N) (hv : ∀ k, k < N → f_Rat_of i1 (nI k) w = some (pOI (v k), w)) (hb : ∀ k x, k < N → v k = some x → x < 2 ^ 31) : f_X1_best i1 w = some (pOI (pIt (pBt v) N 0 none), w) := by
  refine pIt_is (F := fun f m b => f_X1_best_L4 i1 f (pOI b) (nI m) w) (step := pBt v) (I := fun m b => ∀ j, b = some j → j < m ∧ (v j).isSome = true) (N := N) (G := fun b => some (pOI b, w)) (fun f m b hm' hI => ?_) (fun m b _ hI => pBt_I hI) (fun f b hI => ?_) N jFU 0 none (by omega) (jFU_gt (by omega)) (fun j e => by cases e)
  · show f_X1_best_L4 i1 (f + 1) (pOI b) (nI m) w = f_X1_best_L4 i1 f (pOI (pBt v m b)) (nI (m + 1)) w
    rw [f_X1_best_L4]
    have r := hv m hm'
    unfold pBt
    cases e : v m with
    | none =>
      rw [e] at r
      have m1 : (pOI none = (-1 : Int32)) = True := eq_true rfl
      simp (disch := omega) only [↓jlt_e2, hm, le_F, if_false, r, jcb_s2, m1, if_true, nI_1]
    | some x =>
      rw [e] at r
      have hx := hb m x hm' e
      cases b with
      | none =>
        have m1 : (pOI none = (-1 : Int32)) = True := eq_true rfl
        simp (disch := omega) only [↓jlt_e2, hm, le_F, if_false, r, jcb_s2, pOI_s, m1_F, m1, if_true, nI_1]
      | some j =>
        obtain ⟨hj, hs⟩ := hI j rfl
        cases ej : v j with
        | none => rw [ej] at hs; cases hs
        | some y =>
          have rj := hv j (by omega)
          rw [ej] at rj
          have hy := hb j y (by omega) ej
          by_cases c : x ≤ y
          · have c' : x ≤ (some y).getD 0 := c
            simp (disch := omega) only [↓jlt_e2, hm, le_F, if_false, r, rj, jcb_s2, pOI_s, m1_F, le_T, if_true, nI_1, ej, c']
          · have c' : ¬ x ≤ (some y).getD 0 := c
            simp (disch := omega) only [↓jlt_e2, hm, le_F, if_false, r, rj, jcb_s2, pOI_s, m1_F, nI_1, ej, c']
  · show f_X1_best_L4 i1 (f + 1) (pOI b) (nI N) w = _
    rw [f_X1_best_L4, jlt_eq, hm, if_pos ((nI_leI (by omega) (by omega)).mpr (Nat.le_refl _))]
theorem m_tallestOf (hn : pMn w (sI s) n (nI z)) (hP : pMP w s n z) (h0 : 0 < n) (hs : ∀ k, k < n → s k ≤ 999) {p1 : Int32} {cond : Nat → Bool} (hc : ∀ k, k < cM s n → ∀ (K : Int32 → j_St → Option (Int32 × j_St)), (jlt K fun K43 => if p1 = (-1) then if nI k ≤ 0 then K43 0 w else K43 1 w else jcb (f_X9_generationOf (nI k) w) fun v5 w6 => if v5 = p1 then K43 1 w6 else K43 0 w6) = K (if cond k = true then 1 else 0) w) : f_X9_tallestOf p1 w = some (pOI (pIt (pBt (fun k => if cond k = true then some (s (cP s n k)) else none)) (cM s n) 0 none), w) := by
  obtain ⟨g1, g2⟩ := cM48 hn h0
  refine pIt_is (F := fun f m b => f_X9_tallestOf_L4 p1 f (pOI b) (nI m) w) (step := pBt (fun k => if cond k = true then some (s (cP s n k)) else none)) (I := fun m b => ∀ j, b = some j → j < m ∧ (if cond j = true then some (s (cP s n j)) else none).isSome = true) (N := cM s n) (G := fun b => some (pOI b, w)) (fun f m b hm' hI => ?_) (fun m b _ hI => pBt_I hI) (fun f b hI => ?_) (cM s n) jFU 0 none (by omega) (jFU_gt (by omega)) (fun j e => by cases e)
  · show f_X9_tallestOf_L4 p1 (f + 1) (pOI b) (nI m) w = f_X9_tallestOf_L4 p1 f (pOI (pBt _ m b)) (nI (m + 1)) w
    rw [f_X9_tallestOf_L4, jlt_eq, hP.1, if_neg (fun z => by have := (nI_leI (by omega) (by omega)).mp z; omega)]
    refine (hc m hm' _).trans ?_
    have hh := mq_height hn hP h0 hm'
    have hx := hs _ (cP_lt h0 hm')
    have oo : ((1 : Int32) = 0) = False := eq_false (by decide)
    unfold pBt
    by_cases c : cond m = true
    · cases b with
      | none =>
        have m1 : (pOI none = (-1 : Int32)) = True := eq_true rfl
        simp (disch := omega) only [c, if_true, ↓jlt_e2, oo, if_false, m1, nI_1, pOI_s]
      | some j =>
        obtain ⟨hj, hs'⟩ := hI j rfl
        have cj : cond j = true := by
          apply Classical.byContradiction
          intro q
          rw [if_neg q] at hs'
          cases hs'
        have hhj := mq_height hn hP h0 (show j < cM s n by omega)
        have hy := hs _ (cP_lt h0 (show j < cM s n by omega))
        by_cases d : s (cP s n m) ≤ s (cP s n j)
        · have d' : s (cP s n m) ≤ (some (s (cP s n j))).getD 0 := d
          simp (disch := omega) only [c, cj, if_true, ↓jlt_e2, oo, if_false, pOI_s, m1_F, hh, hhj, jcb_s2, le_T, nI_1, d']
        · have d' : ¬ s (cP s n m) ≤ (some (s (cP s n j))).getD 0 := d
          simp (disch := omega) only [c, cj, if_true, ↓jlt_e2, oo, if_false, pOI_s, m1_F, hh, hhj, jcb_s2, le_F, nI_1, d']
    · simp (disch := omega) only [c, if_false, ↓jlt_e2, if_true, nI_1, Bool.false_eq_true]
  · show f_X9_tallestOf_L4 p1 (f + 1) (pOI b) (nI (cM s n)) w = _
    rw [f_X9_tallestOf_L4, jlt_eq, hP.1, if_pos ((nI_leI (by omega) (by omega)).mpr (Nat.le_refl _))]
/-- a rater is made -/
def K14 (κ i k : Nat) : Prop := κ = 14 ∨ κ = 114
theorem jbump_same {κ : Nat} {K : Nat → Nat → Nat → Prop} (h : K (100 + κ) 0 0) : pSame K w (jbump w κ) := ⟨fun _ _ _ _ => rfl, fun _ _ _ _ => rfl, fun _ _ _ _ => rfl, fun κ' i' z => by
  show (if κ' = 100 + κ ∧ i' = 0 then _ else _) = _
  rw [if_neg (fun e => z (by obtain ⟨rfl, rfl⟩ := e; exact h))]
  rfl⟩
theorem jnw_same {κ i n : Nat} {K : Nat → Nat → Nat → Prop} (h : ∀ k, K κ i k) : pSame K w (jnw w κ i n) := by
  have ne : ∀ κ' i' k, ¬ K κ' i' k → ¬ (κ' = κ ∧ i' = i) := fun κ' i' k z e => z (by obtain ⟨rfl, rfl⟩ := e; exact h k)
  refine ⟨fun κ' i' k z => ?_, fun κ' i' k z => ?_, fun κ' i' k z => ?_, fun κ' i' z => ?_⟩
  · exact if_neg (ne _ _ _ z)
  · exact if_neg (ne _ _ _ z)
  · exact if_neg (ne _ _ _ z)
  · exact if_neg (ne _ _ _ z)
theorem jb6_same : pSame K14 w (jb6 w) := by
  have one : ∀ w, pSame K14 w (jbump w 14) := fun w => jbump_same (Or.inr rfl)
  unfold jb6
  exact (((((one _).trans (one _)).trans (one _)).trans (one _)).trans (one _)).trans (one _)
theorem jm1_same {i : Nat} : pSame K14 w (jm1 w 14 i) := by
  unfold jm1
  exact (jnw_same fun k => Or.inl rfl).trans (pSame.jsr (Or.inl rfl))
theorem jm2_same {i : Nat} {v : Int32} : pSame K14 w (jm2 w i v) := by
  unfold jm2
  exact jm1_same.trans (pSame.jsi (Or.inl rfl))
theorem cOK_14 (hC : RelC A w) (g : pSame K14 w w') : cOK w w' := by
  refine ⟨g.mono fun κ i k z => ?_, ⟨?_, ?_, ?_, ?_, ?_⟩, hC.2.2.2.2.2.2.2.1.same g fun κ i k a _ b => ?_, hC.2.2.2.2.2.2.2.2.1.same g fun κ i k a _ b => ?_⟩
  · unfold K14 at z
    unfold KQ
    omega
  · exact Nat.le_of_eq (g.2.2.2 _ _ (by unfold K14; omega)).symm
  · exact Nat.le_of_eq (g.2.2.2 _ _ (by unfold K14; omega)).symm
  · exact Nat.le_of_eq (g.2.2.2 _ _ (by unfold K14; omega)).symm
  · exact Nat.le_of_eq (g.2.2.2 _ _ (by unfold K14; omega)).symm
  · exact Nat.le_of_eq (g.2.2.2 _ _ (by unfold K14; omega)).symm
  · unfold KP at a
    unfold K14 at b
    omega
  · unfold KP at a
    unfold K14 at b
    omega
theorem c_rat (hC : RelC A w) (hX : aX A = some X) (hP : pCP w 0 1 (aT A).1 (aT A).2.1 (aT A).2.2.1) (g : pSame K14 w w') : cOK w w' ∧ pCP w' 0 1 (aT A).1 (aT A).2.1 (aT A).2.2.1 ∧ pCn w' 1 (sI (aT A).1) (aT A).2.1 := ⟨cOK_14 hC g, hP.same g (fun κ i k z => by unfold K14; omega), ((hC.ok (cOK_14 hC g)).now hX).1⟩
def cSolo (s : Nat → Nat) (n : Nat) : Option Nat := pIt (pBt (fun k => if (!decide (k = 0)) = true then some (s (cP s n k)) else none)) (cM s n) 0 none
def cTall (s : Nat → Nat) (n g : Nat) : Option Nat := pIt (pBt (fun k => if decide (cGe s n k = g) = true then some (s (cP s n k)) else none)) (cM s n) 0 none
theorem pBt_none {v : Nat → Option Nat} : ∀ c m, (∀ j, m ≤ j → j < m + c → v j = none) → pIt (pBt v) c m none = none := by
  intro c
  induction c with
  | zero => intro m _; rfl
  | succ c ih =>
    intro m h
    show pIt (pBt v) c (m + 1) (pBt v m none) = none
    unfold pBt
    rw [h m (Nat.le_refl _) (by omega)]
    exact ih (m + 1) (fun j a b => h j (by omega) (by omega))
/-- solo -/
theorem q_solo (hA : wfA A) : pQry A f_X1_solo f_X9_solo := by
  cases hX : aX A with
  | none =>
    refine pQry_of (r := -1) (fun w hC => ⟨w, ?_, hC.self⟩) (fun w hM => ⟨w, ?_, hM.self⟩)
    · rw [f_X1_solo, jlt_eq, hC.x0 hX, jlt_eq, jcs_n2]
    · rw [f_X9_solo, jlt_eq, (hM.x0 hX).1, if_pos rfl]
  | some X =>
    obtain ⟨hwX, t1, t2, t3, t4, t5⟩ := hA.x hX
    have hcm := cM_le (s := (aT A).1) t1
    have hcm0 := cM_pos (s := (aT A).1) t1
    refine pQry_of (r := pOI (cSolo (aT A).1 (aT A).2.1)) (fun w hC => ?_) (fun w hM => ?_)
    · obtain ⟨t, ht, -⟩ := hC.xt hX
      obtain ⟨w1, e1, o1, p1⟩ := c_found hC hA hX
      by_cases c1 : cM (aT A).1 (aT A).2.1 = 1
      · refine ⟨w1, ?_, o1⟩
        have r : cSolo (aT A).1 (aT A).2.1 = none := by
          unfold cSolo
          refine pBt_none _ _ fun j _ hj => ?_
          have : j = 0 := by omega
          rw [this]
          rfl
        rw [f_X1_solo, jlt_eq, ht, jlt_eq, jcs_s2, e1, jcb_s2, jlt_eq, p1.2.1, c1, if_pos (by decide), r]
        rfl
      · obtain ⟨o2, p2, n2⟩ := c_rat (hC.ok o1) hX p1 (jb6_same.trans (jm1_same (i := 6 * jgn w1 114 0 + 0)))
        refine ⟨_, ?_, o1.trans o2⟩
        rw [f_X1_solo, jlt_eq, ht, jlt_eq, jcs_s2, e1, jcb_s2, jlt_eq, p1.2.1, if_neg (show ¬ nI (cM (aT A).1 (aT A).2.1) = 1 from fun e => c1 ((nI_eq (b := 1) (by omega) (by decide)).mp e)), jlt_eq, jlt_eq, jlt_eq]
        generalize jm1 (jb6 w1) 14 (6 * jgn w1 114 0 + 0) = w2 at o2 p2 n2
        rw [c_best (N := cM (aT A).1 (aT A).2.1) (v := fun k => if (!decide (k = 0)) = true then some ((aT A).1 (cP (aT A).1 (aT A).2.1 k)) else none) (by omega) p2.2.1 (fun k hk => ?_) (fun k x hk e => ?_), jcb_s2]
        · rfl
        · rw [f_Rat_of, if_pos (by omega), f_X1_heightBut]
          by_cases k0 : k = 0
          · subst k0
            rw [if_pos (by decide)]
            rfl
          · rw [if_neg (nI_ne0 (by omega) (by omega)), jbd_nI (by omega) (by decide), jlt_eq, cq_row p2 hk, job_s2, jlt_eq, cq_1 p2 t1 hk]
            simp [k0, pOI]
        · have := t3 _ (cP_lt t1 hk)
          split at e
          · cases e; omega
          · cases e
    · obtain ⟨w1, e1, o1, hn1, p1, ll1⟩ := m_found hM hA hX
      refine ⟨w1, ?_, o1⟩
      rw [f_X9_solo, jlt_eq, (hM.xt hX).1, if_neg n10, e1, jcb_s2, m_tallestOf hn1 p1 t1 t3 (cond := fun k => !decide (k = 0)) (fun k hk K => ?_), jcb_s2]
      · rfl
      · rw [jlt_eq, if_pos rfl]
        by_cases k0 : k = 0
        · subst k0
          rw [if_pos (by decide)]
          rfl
        · rw [if_neg (nI_nle (by omega) (by omega))]
          simp [k0]
/-- tallest -/
theorem q_tallest (hA : wfA A) (x : Int32) : pQry A (f_X1_tallest x) (f_X9_tallest x) := by
  cases hX : aX A with
  | none =>
    refine pQry_of (r := -1) (fun w hC => ⟨w, ?_, hC.self⟩) (fun w hM => ⟨w, ?_, hM.self⟩)
    · rw [f_X1_tallest, jlt_eq, hC.x0 hX, jcs_n2]
    · rw [f_X9_tallest, jlt_eq, (hM.x0 hX).1, if_pos rfl]
  | some X =>
    obtain ⟨hwX, t1, t2, t3, t4, t5⟩ := hA.x hX
    have hcm := cM_le (s := (aT A).1) t1
    have hcm0 := cM_pos (s := (aT A).1) t1
    have gl : ∀ k, cGe (aT A).1 (aT A).2.1 k ≤ 48 := fun k => pGen_le _ _
    have cc : ∀ (v : Nat → Option Nat), (∀ k, k < cM (aT A).1 (aT A).2.1 → v k = if nI (cGe (aT A).1 (aT A).2.1 k) = x then some ((aT A).1 (cP (aT A).1 (aT A).2.1 k)) else none) → ∀ w, RelC A w → ∃ w', f_X1_tallest x w = some (pOI (pIt (pBt v) (cM (aT A).1 (aT A).2.1) 0 none), w') ∧ cOK w w' := fun v hv w hC => by
      obtain ⟨t, ht, -⟩ := hC.xt hX
      obtain ⟨w1, e1, o1, p1⟩ := c_found hC hA hX
      obtain ⟨o2, p2, n2⟩ := c_rat (hC.ok o1) hX p1 (jb6_same.trans (jm2_same (i := 6 * jgn w1 114 0 + 1) (v := x)))
      refine ⟨_, ?_, o1.trans o2⟩
      have pv : jgi (jm2 (jb6 w1) (6 * jgn w1 114 0 + 1) x) 14 (6 * jgn w1 114 0 + 1) 1 = x := jgi_eq
      rw [f_X1_tallest, jlt_eq, ht, jcs_s2, e1, jcb_s2, jlt_eq, p1.2.1, if_neg (nI_ne0 (by omega) (by omega)), jlt_eq, jlt_eq, jlt_eq]
      generalize hi : 6 * jgn w1 114 0 + 1 = i at *
      generalize jm2 (jb6 w1) i x = w2 at o2 p2 n2 pv
      rw [c_best (N := cM (aT A).1 (aT A).2.1) (v := v) (by omega) p2.2.1 (fun k hk => ?_) (fun k x hk e => ?_), jcb_s2]
      · rw [f_Rat_of, if_neg (by omega), if_pos (by omega), pv, f_X1_lambda_tallest_2, cq_gen n2 p2 t1 hk, jcb_s2, hv k hk]
        by_cases c : nI (cGe (aT A).1 (aT A).2.1 k) = x
        · rw [if_pos c, if_pos c, jbd_nI (by omega) (by decide), jlt_eq, cq_row p2 hk, job_s2, jlt_eq, cq_1 p2 t1 hk]
          rfl
        · rw [if_neg c, if_neg c]
          rfl
      · have := t3 _ (cP_lt t1 hk)
        rw [hv k hk] at e
        split at e
        · cases e; omega
        · cases e
    by_cases hx : (0 : Int32) ≤ x
    · have h0 : ¬ x < 0 := Int32.not_lt.mpr hx
      obtain ⟨g, hg, rfl⟩ := nI_of h0
      refine pQry_of (r := pOI (cTall (aT A).1 (aT A).2.1 g)) (fun w hC => ?_) (fun w hM => ?_)
      · refine cc _ (fun k hk => ?_) w hC
        have := gl k
        by_cases c : cGe (aT A).1 (aT A).2.1 k = g
        · rw [if_pos (show nI (cGe (aT A).1 (aT A).2.1 k) = nI g by rw [c])]
          simp only [c, decide_true, if_true]
        · rw [if_neg (fun e => c ((nI_eq (by omega) hg).mp e))]
          simp only [c, decide_false, if_false, Bool.false_eq_true]
      · obtain ⟨w1, e1, o1, hn1, p1, ll1⟩ := m_found hM hA hX
        refine ⟨w1, ?_, o1⟩
        rw [f_X9_tallest, jlt_eq, (hM.xt hX).1, if_neg n10, if_pos hx, e1, jcb_s2, m_tallestOf hn1 p1 t1 t3 (cond := fun k => decide (cGe (aT A).1 (aT A).2.1 k = g)) (fun k hk K => ?_), jcb_s2]
        · rfl
        · have := gl k
          rw [jlt_eq, if_neg (nI_ne1 hg), mq_gen hn1 p1 t1 hk, jcb_s2]
          by_cases c : cGe (aT A).1 (aT A).2.1 k = g
          · rw [if_pos (show nI (cGe (aT A).1 (aT A).2.1 k) = nI g by rw [c])]
            simp only [c, decide_true, if_true]
          · rw [if_neg (fun e => c ((nI_eq (by omega) hg).mp e))]
            simp only [c, decide_false, if_false, Bool.false_eq_true]
    · refine pQry_of (r := -1) (fun w hC => ?_) (fun w hM => ⟨w, ?_, hM.self⟩)
      · have := cc (fun _ => none) (fun k hk => ?_) w hC
        · rw [pBt_none _ _ (fun _ _ _ => rfl)] at this
          exact this
        · have := gl k
          rw [if_neg]
          intro e
          rw [← e] at hx
          exact hx (nI_pos' (by omega))
      · rw [f_X9_tallest, jlt_eq, (hM.xt hX).1, if_neg n10, if_neg hx]
end BEST
