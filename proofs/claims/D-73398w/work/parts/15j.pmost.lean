/-! the pure law: most -/
section MOST
variable {w w' : j_St} {A : pA} {X : pX} {s : Nat → Nat} {n z : Nat}
/-- something of all kept ones added up; of all; the last generation; the widest -/
def cAdd (s : Nat → Nat) (n z : Nat) (v : Nat → Nat) : Nat := pIt (fun k x => x + if k < cK s n z then v k else 0) (cM s n) 0 0
def cLs (s : Nat → Nat) (n : Nat) : Nat := pIt (fun k x => x + cL s n k) (cM s n) 0 0
def cGs (s : Nat → Nat) (n : Nat) : Nat := pIt (fun k x => max x (cGe s n k)) (cM s n) 0 0
def cWs (s : Nat → Nat) (n z : Nat) : Nat := pIt (fun k b => if cWi s n k ≤ cWi s n b then b else k) (cK s n z - 1) 1 0
theorem c_sumR {i1 : Nat} {v : Nat → Nat} (hn : n ≤ 48) (h0 : 0 < n) (hP : pCP w 0 1 s n z) (hv : ∀ k, k < cM s n → k < cK s n z → f_Rat_of i1 (nI k) w = some (nI (v k), w)) : f_X1_sum i1 1 w = some (nI (cAdd s n z v), w) := by
  have hcm := cM_le (s := s) h0
  refine pIt_is' (F := fun f m x => f_X1_sum_L5 i1 1 f (nI x) (nI m) w) (step := fun k x => x + if k < cK s n z then v k else 0) (N := cM s n) (G := fun x => some (nI x, w)) (fun f m x hm => ?_) (fun f x => ?_) (cM s n) jFU 0 0 (by omega) (jFU_gt (by omega))
  · show f_X1_sum_L5 i1 1 (f + 1) (nI x) (nI m) w = f_X1_sum_L5 i1 1 f (nI (x + if m < cK s n z then v m else 0)) (nI (m + 1)) w
    have six := cq_6 hP hm
    have row := cq_row hP hm
    have m2 := hP.2.1
    have oo : ((1 : Int32) = 0) = False := eq_false (by decide)
    have z0 : nI x + 0 = nI (x + 0) := nI_add x 0
    rw [f_X1_sum_L5]
    by_cases c : m < cK s n z
    · rw [if_pos c] at six
      have r := hv m hm c
      simp (disch := omega) only [↓jlt_e2, m2, le_F, if_false, oo, jbd_nI, row, job_s2, six, r, jcb_s2, nI_add, nI_1, c, if_true]
    · rw [if_neg c] at six
      simp (disch := omega) only [↓jlt_e2, m2, le_F, if_false, oo, jbd_nI, row, job_s2, six, if_true, z0, nI_1, c]
  · show f_X1_sum_L5 i1 1 (f + 1) (nI x) (nI (cM s n)) w = _
    rw [f_X1_sum_L5, jlt_eq, hP.2.1, if_pos ((nI_leI (by omega) (by omega)).mpr (Nat.le_refl _))]
theorem m_added {p1 : Int32} {v : Nat → Nat} (hn : n ≤ 48) (h0 : 0 < n) (hP : pMP w s n z) (hv : ∀ k, k < cM s n → f_X9_ofPeak (nI k) p1 w = some (nI (v k), w)) : f_X9_added p1 w = some (nI (pIt (fun k x => x + v k) (cM s n) 0 0), w) := by
  have hcm := cM_le (s := s) h0
  refine pIt_is' (F := fun f m x => f_X9_added_L4 p1 f (nI x) (nI m) w) (step := fun k x => x + v k) (N := cM s n) (G := fun x => some (nI x, w)) (fun f m x hm => ?_) (fun f x => ?_) (cM s n) jFU 0 0 (by omega) (jFU_gt (by omega))
  · show f_X9_added_L4 p1 (f + 1) (nI x) (nI m) w = f_X9_added_L4 p1 f (nI (x + v m)) (nI (m + 1)) w
    rw [f_X9_added_L4, jlt_eq, hP.1, if_neg (fun z => by have := (nI_leI (by omega) (by omega)).mp z; omega), hv m hm, jcb_s2, jlt_eq, jlt_eq, nI_1, nI_add]
  · show f_X9_added_L4 p1 (f + 1) (nI x) (nI (cM s n)) w = _
    rw [f_X9_added_L4, jlt_eq, hP.1, if_pos ((nI_leI (by omega) (by omega)).mpr (Nat.le_refl _))]
theorem c_lives (hC : pCn w 1 (sI s) n) (h0 : 0 < n) (hs : ∀ k, k < n → s k ≤ 999) (hP : pCP w 0 1 s n z) : f_X3_sum_k2 0 w = some (nI (cLs s n), w) := by
  have hcm := cM_le (s := s) h0
  have hn := hC.2.2
  refine pIt_is' (F := fun f m x => f_X3_sum_k2_L4 0 f (nI x) (nI m) w) (step := fun k x => x + cL s n k) (N := cM s n) (G := fun x => some (nI x, w)) (fun f m x hm => ?_) (fun f x => ?_) (cM s n) jFU 0 0 (by omega) (jFU_gt (by omega))
  · show f_X3_sum_k2_L4 0 (f + 1) (nI x) (nI m) w = f_X3_sum_k2_L4 0 f (nI (x + cL s n m)) (nI (m + 1)) w
    rw [f_X3_sum_k2_L4, f_X5_many, jlt_eq, hP.2.1, jcb_s2, if_neg (fun z => by have := (nI_leI (by omega) (by omega)).mp z; omega), f_X5_at, jbd_nI (by omega) (by decide), jlt_eq, cq_row hP hm, job_s2, cq_pers hP h0 hs hm, jcb_s2, jcb_s2, jlt_eq, jlt_eq, nI_1, nI_add]
  · show f_X3_sum_k2_L4 0 (f + 1) (nI x) (nI (cM s n)) w = _
    rw [f_X3_sum_k2_L4, f_X5_many, jlt_eq, hP.2.1, jcb_s2, if_pos ((nI_leI (by omega) (by omega)).mpr (Nat.le_refl _))]
theorem cGs_b : ∀ (c m x : Nat), x ≤ 48 → pIt (fun k x => max x (cGe s n k)) c m x ≤ 48 := by
  intro c
  induction c with
  | zero => intro m x h; exact h
  | succ c ih =>
    intro m x h
    have : cGe s n m ≤ 48 := pGen_le _ _
    exact ih (m + 1) _ (show max x (cGe s n m) ≤ 48 by omega)
theorem c_gens (hC : pCn w 1 (sI s) n) (h0 : 0 < n) (hP : pCP w 0 1 s n z) : f_X1_generations w = some (nI (cGs s n), w) := by
  have hcm := cM_le (s := s) h0
  have hn := hC.2.2
  refine pIt_is (F := fun f m x => f_X1_generations_L4 f (nI x) (nI m) w) (step := fun k x => max x (cGe s n k)) (I := fun _ x => x ≤ 48) (N := cM s n) (G := fun x => some (nI x, w)) (fun f m x hm hx => ?_) (fun m x _ hx => by have : cGe s n m ≤ 48 := pGen_le _ _; show max x (cGe s n m) ≤ 48; omega) (fun f x _ => ?_) (cM s n) jFU 0 0 (by omega) (jFU_gt (by omega)) (by omega)
  · have : cGe s n m ≤ 48 := pGen_le _ _
    show f_X1_generations_L4 (f + 1) (nI x) (nI m) w = f_X1_generations_L4 f (nI (max x (cGe s n m))) (nI (m + 1)) w
    rw [f_X1_generations_L4, jlt_eq, hP.2.1, if_neg (fun z => by have := (nI_leI (by omega) (by omega)).mp z; omega), cq_gen hC hP h0 hm, jcb_s2, jlt_eq, jlt_eq, nI_1, jmax_nI (by omega) (by omega)]
  · show f_X1_generations_L4 (f + 1) (nI x) (nI (cM s n)) w = _
    rw [f_X1_generations_L4, jlt_eq, hP.2.1, if_pos ((nI_leI (by omega) (by omega)).mpr (Nat.le_refl _))]
theorem m_gens (hM : pMn w (sI s) n (nI z)) (h0 : 0 < n) (hP : pMP w s n z) : f_X9_lastGeneration w = some (nI (cGs s n), w) := by
  have hcm := cM_le (s := s) h0
  have hn := hM.2.2.2
  refine pIt_is (F := fun f m x => f_X9_lastGeneration_L4 f (nI x) (nI m) w) (step := fun k x => max x (cGe s n k)) (I := fun _ x => x ≤ 48) (N := cM s n) (G := fun x => some (nI x, w)) (fun f m x hm hx => ?_) (fun m x _ hx => by have : cGe s n m ≤ 48 := pGen_le _ _; show max x (cGe s n m) ≤ 48; omega) (fun f x _ => ?_) (cM s n) jFU 0 0 (by omega) (jFU_gt (by omega)) (by omega)
  · have : cGe s n m ≤ 48 := pGen_le _ _
    show f_X9_lastGeneration_L4 (f + 1) (nI x) (nI m) w = f_X9_lastGeneration_L4 f (nI (max x (cGe s n m))) (nI (m + 1)) w
    rw [f_X9_lastGeneration_L4, jlt_eq, hP.1, if_neg (fun z => by have := (nI_leI (by omega) (by omega)).mp z; omega), mq_gen hM hP h0 hm, jcb_s2, jlt_eq, jlt_eq, nI_1, jmax_nI (by omega) (by omega)]
  · show f_X9_lastGeneration_L4 (f + 1) (nI x) (nI (cM s n)) w = _
    rw [f_X9_lastGeneration_L4, jlt_eq, hP.1, if_pos ((nI_leI (by omega) (by omega)).mpr (Nat.le_refl _))]
theorem cWi_le (h0 : 0 < n) {k : Nat} (hk : k < cM s n) : cWi s n k ≤ n := by
  have hp := cP_lt (s := s) h0 hk
  have h1 := pCnt_le (b := fun j => decide (cHw s n k ≤ s (cP s n k - 1 - j))) (cP s n k) 0
  have h2 := pCnt_le (b := fun j => decide (cHw s n k ≤ s j)) (n - (cP s n k + 1)) (cP s n k + 1)
  unfold cWi
  omega
theorem m_widest (hM : pMn w (sI s) n (nI z)) (h0 : 0 < n) (hs : ∀ k, k < n → s k ≤ 999) (hP : pMP w s n z) : f_X9_widest w = some (nI (cWs s n z), w) := by
  have hcm := cM_le (s := s) h0
  have hck := cK_le (s := s) (n := n) (z := z)
  have hk0 := cK_pos (s := s) (z := z) h0
  have hn := hM.2.2.2
  refine pIt_is (F := fun f m b => f_X9_widest_L4 f (nI b) (nI m) w) (step := fun k b => if cWi s n k ≤ cWi s n b then b else k) (I := fun _ b => b < cM s n) (N := cK s n z) (G := fun b => some (nI b, w)) (fun f m b hm hb => ?_) (fun m b hm hb => ?_) (fun f b _ => ?_) (cK s n z - 1) jFU 1 0 (by omega) (jFU_gt (by omega)) (by omega)
  · have w1 := cWi_le (s := s) h0 (show m < cM s n by omega)
    have w2 := cWi_le (s := s) h0 hb
    show f_X9_widest_L4 (f + 1) (nI b) (nI m) w = f_X9_widest_L4 f (nI (if cWi s n m ≤ cWi s n b then b else m)) (nI (m + 1)) w
    rw [f_X9_widest_L4, jlt_eq, hP.2.1, if_neg (fun z => by have := (nI_leI (by omega) (by omega)).mp z; omega), mq_width hM hP h0 hs (by omega), jcb_s2, mq_width hM hP h0 hs hb, jcb_s2, jlt_eq]
    by_cases c : cWi s n m ≤ cWi s n b
    · rw [if_pos ((nI_leI (by omega) (by omega)).mpr c), if_pos c]
      dsimp only
      rw [jlt_eq, nI_1]
    · rw [if_neg (fun z => c ((nI_leI (by omega) (by omega)).mp z)), if_neg c]
      dsimp only
      rw [jlt_eq, nI_1]
  · show (if cWi s n m ≤ cWi s n b then b else m) < cM s n
    split <;> omega
  · show f_X9_widest_L4 (f + 1) (nI b) (nI (cK s n z)) w = _
    rw [f_X9_widest_L4, jlt_eq, hP.2.1, if_pos ((nI_leI (by omega) (by omega)).mpr (Nat.le_refl _))]
/-- the widest, by the best of all -/
theorem cWs_best (h0 : 0 < n) : pIt (pBt (fun k => if k < cK s n z then some (cWi s n k) else none)) (cM s n) 0 none = some (cWs s n z) := by
  have hck := cK_le (s := s) (n := n) (z := z)
  have hk0 := cK_pos (s := s) (z := z) h0
  have run : ∀ (c m b : Nat), m + c ≤ cK s n z → b < cK s n z → pIt (pBt (fun k => if k < cK s n z then some (cWi s n k) else none)) c m (some b) = some (pIt (fun k b => if cWi s n k ≤ cWi s n b then b else k) c m b) ∧ pIt (fun k b => if cWi s n k ≤ cWi s n b then b else k) c m b < cK s n z := by
    intro c
    induction c with
    | zero => intro m b _ hb; exact ⟨rfl, hb⟩
    | succ c ih =>
      intro m b hm hb
      have e : pBt (fun k => if k < cK s n z then some (cWi s n k) else none) m (some b) = some (if cWi s n m ≤ cWi s n b then b else m) := by
        unfold pBt
        simp only [show m < cK s n z by omega, hb, if_true, Option.getD_some]
        split <;> rfl
      show pIt _ c (m + 1) (pBt _ m (some b)) = some (pIt _ c (m + 1) _) ∧ _
      rw [e]
      exact ih (m + 1) _ (by omega) (by split <;> omega)
  have skip : ∀ (c m : Nat) (b : Option Nat), cK s n z ≤ m → pIt (pBt (fun k => if k < cK s n z then some (cWi s n k) else none)) c m b = b := by
    intro c
    induction c with
    | zero => intro m b _; rfl
    | succ c ih =>
      intro m b hm
      have e : pBt (fun k => if k < cK s n z then some (cWi s n k) else none) m b = b := by
        unfold pBt
        simp only [show ¬ m < cK s n z by omega, if_false]
      show pIt _ c (m + 1) (pBt _ m b) = b
      rw [e]
      exact ih (m + 1) b (by omega)
  have split_ : ∀ (st : Nat → Option Nat → Option Nat) (c d m : Nat) (b : Option Nat), pIt st (c + d) m b = pIt st d (m + c) (pIt st c m b) := by
    intro st c
    induction c with
    | zero => intro d m b; rw [Nat.zero_add]; rfl
    | succ c ih =>
      intro d m b
      rw [show c + 1 + d = (c + d) + 1 by omega]
      show pIt st (c + d) (m + 1) (st m b) = _
      rw [ih, show m + 1 + c = m + (c + 1) by omega]
      rfl
  obtain ⟨d, hd⟩ : ∃ d, cM s n = (1 + (cK s n z - 1)) + d := ⟨cM s n - cK s n z, by omega⟩
  rw [hd, split_, split_, skip _ _ _ (by omega)]
  have e1 : pIt (pBt (fun k => if k < cK s n z then some (cWi s n k) else none)) 1 0 none = some 0 := by
    simp only [pIt, pBt, hk0, if_true]
  rw [e1]
  exact (run (cK s n z - 1) (0 + 1) 0 (by omega) hk0).1
/-- most -/
theorem q_most (hA : wfA A) (x : Int32) : pQry A (f_X1_most x) (f_X9_most x) := by
  cases hX : aX A with
  | none =>
    refine pQry_of (r := -1000000) (fun w hC => ⟨w, ?_, hC.self⟩) (fun w hM => ⟨w, ?_, hM.self⟩)
    · rw [f_X1_most, jlt_eq, hC.x0 hX, jcs_n2]
    · rw [f_X9_most, jlt_eq, (hM.x0 hX).1, if_pos rfl]
  | some X =>
    obtain ⟨hwX, t1, t2, t3, t4, t5⟩ := hA.x hX
    have hcm := cM_le (s := (aT A).1) t1
    have hcm0 := cM_pos (s := (aT A).1) t1
    have hck := cK_le (s := (aT A).1) (n := (aT A).2.1) (z := (aT A).2.2.1)
    have cc : ∀ w, RelC A w → ∃ w1, cOK w w1 ∧ RelC A w1 ∧ pCP w1 0 1 (aT A).1 (aT A).2.1 (aT A).2.2.1 ∧ pCn w1 1 (sI (aT A).1) (aT A).2.1 ∧ f_X1_most x w = (if x = 0 then jcb (f_X1_sum (6 * jgn w1 114 0 + 2) 1 (jm1 (jb6 w1) 14 (6 * jgn w1 114 0 + 2))) fun v18 w19 => some (v18, w19) else if x = 1 then jcb (f_X3_sum_k2 0 w1) fun v22 w23 => some (v22, w23) else if x = 2 then jcb (f_X1_sum (6 * jgn w1 114 0 + 3) 1 (jm1 (jb6 w1) 14 (6 * jgn w1 114 0 + 3))) fun v33 w34 => some (v33, w34) else if x = 3 then jcb (f_X1_sum (6 * jgn w1 114 0 + 4) 1 (jm1 (jb6 w1) 14 (6 * jgn w1 114 0 + 4))) fun v44 w45 => some (v44, w45) else if x = 4 then jcb (f_X1_generations w1) fun v47 w48 => some (v47, w48) else if x = 5 then jcb (f_X1_lines 1 w1) fun v50 w51 => some (v50, w51) else if x = 6 then jcb (f_X1_best (6 * jgn w1 114 0 + 5) (jm1 (jb6 w1) 14 (6 * jgn w1 114 0 + 5))) fun v61 w62 => some (v61, w62) else if x = 7 then jcb (f_X3_greatest_k4 1 w1) fun v66 w67 => some (v66, w67) else some ((-1000000), w1)) := fun w hC => by
      obtain ⟨t, ht, -⟩ := hC.xt hX
      obtain ⟨w1, e1, o1, p1⟩ := c_found hC hA hX
      refine ⟨w1, o1, hC.ok o1, p1, ((hC.ok o1).now hX).1, ?_⟩
      rw [f_X1_most, jlt_eq, ht, jcs_s2, e1, jcb_s2, jlt_eq, p1.2.1, if_neg (nI_ne0 (by omega) (by omega))]
      simp only [jlt_e2]
    have mm : ∀ w, RelM A w → qAt x 8 → ∃ w1, mOK w w1 ∧ RelM A w1 ∧ pMP w1 (aT A).1 (aT A).2.1 (aT A).2.2.1 ∧ pMn w1 (sI (aT A).1) (aT A).2.1 (nI (aT A).2.2.1) ∧ f_X9_most x w = (if x = 4 then jcb (f_X9_lastGeneration w1) fun v8 w9 => some (v8, w9) else if x = 5 then jcb (f_X9_matched w1) fun v11 w12 => some (v11, w12) else if x = 6 then jcb (f_X9_widest w1) fun v14 w15 => some (v14, w15) else if x = 7 then jcb (f_X9_greatest w1) fun v17 w18 => some (v17, w18) else jcb (f_X9_added x w1) fun v20 w21 => some (v20, w21)) := fun w hM hq => by
      obtain ⟨w1, e1, o1, hn1, p1, ll1⟩ := m_found hM hA hX
      refine ⟨w1, o1, hM.ok o1, p1, hn1, ?_⟩
      rw [f_X9_most, jlt_eq, (hM.xt hX).1, if_neg n10, mIn_T hq (by decide) (by decide), jcb_s2, if_neg n10, e1, jcb_s2]
    have kq : ∀ w1, pMP w1 (aT A).1 (aT A).2.1 (aT A).2.2.1 → ∀ k, k < cM (aT A).1 (aT A).2.1 → ∀ (v : Nat) (o : Option (Int32 × j_St)), o = some (nI v, w1) → (jcb (f_X9_isKept (nI k) w1) fun v1 w2 => if v1 = 0 then some (0, w2) else jcb o fun v4 w5 => some (v4, w5)) = some (nI (if k < cK (aT A).1 (aT A).2.1 (aT A).2.2.1 then v else 0), w1) := fun w1 p1 k hk v o ho => by
      rw [mq_isKept p1 t1 t2 hk, jcb_s2]
      by_cases c : k < cK (aT A).1 (aT A).2.1 (aT A).2.2.1
      · rw [if_pos c, if_pos c, if_neg n10, ho, jcb_s2]
      · rw [if_neg c, if_neg c, if_pos rfl]
        rfl
    have qx : ∀ k, k < 8 → x = nI k → qAt x 8 := fun k hk e => ⟨k, hk, e⟩
    by_cases h0 : x = 0
    · refine pQry_of (r := nI (cAdd (aT A).1 (aT A).2.1 (aT A).2.2.1 (cP (aT A).1 (aT A).2.1))) (fun w hC => ?_) (fun w hM => ?_)
      · obtain ⟨w1, o1, hC1, p1, n1, e⟩ := cc w hC
        obtain ⟨o2, p2, n2⟩ := c_rat hC1 hX p1 (jb6_same.trans (jm1_same (i := 6 * jgn w1 114 0 + 2)))
        refine ⟨_, ?_, o1.trans o2⟩
        rw [e, if_pos h0]
        generalize jm1 (jb6 w1) 14 (6 * jgn w1 114 0 + 2) = w2 at o2 p2 n2
        rw [c_sumR t2 t1 p2 (fun k hk _ => ?_), jcb_s2]
        rw [f_Rat_of, if_neg (by omega), if_neg (by omega), if_pos (by omega), f_X1_lambda_most_3, jbd_nI (by omega) (by decide), jlt_eq, cq_row p2 hk, job_s2, jlt_eq, cq_0 p2 t1 hk]
      · obtain ⟨w1, o1, hM1, p1, n1, e⟩ := mm w hM (qx 0 (by decide) h0)
        refine ⟨w1, ?_, o1⟩
        rw [e, if_neg (by rw [h0]; decide), if_neg (by rw [h0]; decide), if_neg (by rw [h0]; decide), if_neg (by rw [h0]; decide), m_added t2 t1 p1 (v := fun k => if k < cK (aT A).1 (aT A).2.1 (aT A).2.2.1 then cP (aT A).1 (aT A).2.1 k else 0) (fun k hk => ?_), jcb_s2]
        · rfl
        · rw [f_X9_ofPeak, if_pos h0, mq_isKept p1 t1 t2 hk, jcb_s2]
          have := kq w1 p1 k hk _ _ (mq_placeOf n1 p1 t1 hk)
          rw [mq_isKept p1 t1 t2 hk, jcb_s2] at this
          exact this
    by_cases h1 : x = 1
    · refine pQry_of (r := nI (cLs (aT A).1 (aT A).2.1)) (fun w hC => ?_) (fun w hM => ?_)
      · obtain ⟨w1, o1, hC1, p1, n1, e⟩ := cc w hC
        exact ⟨w1, by rw [e, if_neg h0, if_pos h1, c_lives n1 t1 t3 p1, jcb_s2], o1⟩
      · obtain ⟨w1, o1, hM1, p1, n1, e⟩ := mm w hM (qx 1 (by decide) h1)
        refine ⟨w1, ?_, o1⟩
        rw [e, if_neg (by rw [h1]; decide), if_neg (by rw [h1]; decide), if_neg (by rw [h1]; decide), if_neg (by rw [h1]; decide), m_added t2 t1 p1 (v := cL (aT A).1 (aT A).2.1) (fun k hk => ?_), jcb_s2]
        · rfl
        · rw [f_X9_ofPeak, if_neg h0, if_pos h1, mq_life n1 p1 t1 t3 hk, jcb_s2]
    by_cases h2 : x = 2
    · refine pQry_of (r := nI (cAdd (aT A).1 (aT A).2.1 (aT A).2.2.1 (cL (aT A).1 (aT A).2.1))) (fun w hC => ?_) (fun w hM => ?_)
      · obtain ⟨w1, o1, hC1, p1, n1, e⟩ := cc w hC
        obtain ⟨o2, p2, n2⟩ := c_rat hC1 hX p1 (jb6_same.trans (jm1_same (i := 6 * jgn w1 114 0 + 3)))
        refine ⟨_, ?_, o1.trans o2⟩
        rw [e, if_neg h0, if_neg h1, if_pos h2]
        generalize jm1 (jb6 w1) 14 (6 * jgn w1 114 0 + 3) = w2 at o2 p2 n2
        rw [c_sumR t2 t1 p2 (fun k hk _ => ?_), jcb_s2]
        rw [f_Rat_of, if_neg (by omega), if_neg (by omega), if_neg (by omega), if_pos (by omega), f_X1_lambda_most_4, f_X5_at, jbd_nI (by omega) (by decide), jlt_eq, cq_row p2 hk, job_s2, cq_pers p2 t1 t3 hk, jcb_s2, jcb_s2]
      · obtain ⟨w1, o1, hM1, p1, n1, e⟩ := mm w hM (qx 2 (by decide) h2)
        refine ⟨w1, ?_, o1⟩
        rw [e, if_neg (by rw [h2]; decide), if_neg (by rw [h2]; decide), if_neg (by rw [h2]; decide), if_neg (by rw [h2]; decide), m_added t2 t1 p1 (v := fun k => if k < cK (aT A).1 (aT A).2.1 (aT A).2.2.1 then cL (aT A).1 (aT A).2.1 k else 0) (fun k hk => ?_), jcb_s2]
        · rfl
        · rw [f_X9_ofPeak, if_neg h0, if_neg h1, if_pos h2, mq_isKept p1 t1 t2 hk, jcb_s2]
          have := kq w1 p1 k hk _ _ (mq_life n1 p1 t1 t3 hk)
          rw [mq_isKept p1 t1 t2 hk, jcb_s2] at this
          exact this
    by_cases h3 : x = 3
    · refine pQry_of (r := nI (cAdd (aT A).1 (aT A).2.1 (aT A).2.2.1 (cAr (aT A).1 (aT A).2.1 (aT A).2.2.1))) (fun w hC => ?_) (fun w hM => ?_)
      · obtain ⟨w1, o1, hC1, p1, n1, e⟩ := cc w hC
        obtain ⟨o2, p2, n2⟩ := c_rat hC1 hX p1 (jb6_same.trans (jm1_same (i := 6 * jgn w1 114 0 + 4)))
        refine ⟨_, ?_, o1.trans o2⟩
        rw [e, if_neg h0, if_neg h1, if_neg h2, if_pos h3]
        generalize jm1 (jb6 w1) 14 (6 * jgn w1 114 0 + 4) = w2 at o2 p2 n2
        rw [c_sumR t2 t1 p2 (fun k hk _ => ?_), jcb_s2]
        rw [f_Rat_of, if_neg (by omega), if_neg (by omega), if_neg (by omega), if_neg (by omega), if_pos (by omega), f_X1_lambda_most_5, cq_area n2 p2 t1 t3 hk, jcb_s2]
      · obtain ⟨w1, o1, hM1, p1, n1, e⟩ := mm w hM (qx 3 (by decide) h3)
        refine ⟨w1, ?_, o1⟩
        rw [e, if_neg (by rw [h3]; decide), if_neg (by rw [h3]; decide), if_neg (by rw [h3]; decide), if_neg (by rw [h3]; decide), m_added t2 t1 p1 (v := fun k => if k < cK (aT A).1 (aT A).2.1 (aT A).2.2.1 then cAr (aT A).1 (aT A).2.1 (aT A).2.2.1 k else 0) (fun k hk => ?_), jcb_s2]
        · rfl
        · rw [f_X9_ofPeak, if_neg h0, if_neg h1, if_neg h2, mq_isKept p1 t1 t2 hk, jcb_s2]
          have := kq w1 p1 k hk _ _ (mq_area n1 p1 t1 t3 hk)
          rw [mq_isKept p1 t1 t2 hk, jcb_s2] at this
          exact this
    by_cases h4 : x = 4
    · refine pQry_of (r := nI (cGs (aT A).1 (aT A).2.1)) (fun w hC => ?_) (fun w hM => ?_)
      · obtain ⟨w1, o1, hC1, p1, n1, e⟩ := cc w hC
        exact ⟨w1, by rw [e, if_neg h0, if_neg h1, if_neg h2, if_neg h3, if_pos h4, c_gens n1 t1 p1, jcb_s2], o1⟩
      · obtain ⟨w1, o1, hM1, p1, n1, e⟩ := mm w hM (qx 4 (by decide) h4)
        exact ⟨w1, by rw [e, if_pos h4, m_gens n1 t1 p1, jcb_s2], o1⟩
    by_cases h5 : x = 5
    · refine pQry_of (r := cBits (cTb X (aT A)) X.2.1) (fun w hC => ?_) (fun w hM => ?_)
      · obtain ⟨w1, o1, hC1, p1, n1, e⟩ := cc w hC
        obtain ⟨w2, e2, o2⟩ := c_lines hC1 hA hX (x := 1) true rfl
        refine ⟨w2, ?_, o1.trans o2⟩
        rw [e, if_neg h0, if_neg h1, if_neg h2, if_neg h3, if_neg h4, if_pos h5, e2, jcb_s2]
        have : (fun l => cTb X (aT A) l == true) = cTb X (aT A) := by
          funext l
          cases cTb X (aT A) l <;> rfl
        rw [this]
      · obtain ⟨w1, o1, hM1, p1, n1, e⟩ := mm w hM (qx 5 (by decide) h5)
        obtain ⟨w2, e2, o2⟩ := m_matched hM1 hA hX
        exact ⟨w2, by rw [e, if_neg h4, if_pos h5, e2, jcb_s2], o1.trans o2⟩
    by_cases h6 : x = 6
    · refine pQry_of (r := nI (cWs (aT A).1 (aT A).2.1 (aT A).2.2.1)) (fun w hC => ?_) (fun w hM => ?_)
      · obtain ⟨w1, o1, hC1, p1, n1, e⟩ := cc w hC
        obtain ⟨o2, p2, n2⟩ := c_rat hC1 hX p1 (jb6_same.trans (jm1_same (i := 6 * jgn w1 114 0 + 5)))
        refine ⟨_, ?_, o1.trans o2⟩
        rw [e, if_neg h0, if_neg h1, if_neg h2, if_neg h3, if_neg h4, if_neg h5, if_pos h6]
        generalize jm1 (jb6 w1) 14 (6 * jgn w1 114 0 + 5) = w2 at o2 p2 n2
        rw [c_best (N := cM (aT A).1 (aT A).2.1) (v := fun k => if k < cK (aT A).1 (aT A).2.1 (aT A).2.2.1 then some (cWi (aT A).1 (aT A).2.1 k) else none) (by omega) p2.2.1 (fun k hk => ?_) (fun k x hk e => ?_), jcb_s2, cWs_best t1]
        · rfl
        · rw [f_Rat_of, if_neg (by omega), if_neg (by omega), if_neg (by omega), if_neg (by omega), if_neg (by omega), if_pos (by omega), f_X1_lambda_most_6, jbd_nI (by omega) (by decide), jlt_eq, cq_row p2 hk, job_s2, jlt_eq, cq_6 p2 hk]
          by_cases c : k < cK (aT A).1 (aT A).2.1 (aT A).2.2.1
          · rw [if_pos c, if_neg n10, cq_width n2 p2 t1 t3 hk, jcb_s2]
            simp only [c, if_true]
            rfl
          · rw [if_neg c, if_pos rfl]
            simp only [c, if_false]
            rfl
        · have := cWi_le (s := (aT A).1) t1 hk
          split at e
          · cases e; omega
          · cases e
      · obtain ⟨w1, o1, hM1, p1, n1, e⟩ := mm w hM (qx 6 (by decide) h6)
        exact ⟨w1, by rw [e, if_neg h4, if_neg h5, if_pos h6, m_widest n1 t1 t3 p1, jcb_s2], o1⟩
    by_cases h7 : x = 7
    · refine pQry_of (r := nI (cMax (aT A).1 (aT A).2.1)) (fun w hC => ?_) (fun w hM => ?_)
      · obtain ⟨w1, o1, hC1, p1, n1, e⟩ := cc w hC
        exact ⟨w1, by rw [e, if_neg h0, if_neg h1, if_neg h2, if_neg h3, if_neg h4, if_neg h5, if_neg h6, if_pos h7, c_max n1 t1 t3, jcb_s2], o1⟩
      · obtain ⟨w1, o1, hM1, p1, n1, e⟩ := mm w hM (qx 7 (by decide) h7)
        exact ⟨w1, by rw [e, if_neg h4, if_neg h5, if_neg h6, if_pos h7, m_max n1 t3, jcb_s2], o1⟩
    refine pQry_of (r := -1000000) (fun w hC => ?_) (fun w hM => ⟨w, ?_, hM.self⟩)
    · obtain ⟨w1, o1, hC1, p1, n1, e⟩ := cc w hC
      exact ⟨w1, by rw [e, if_neg h0, if_neg h1, if_neg h2, if_neg h3, if_neg h4, if_neg h5, if_neg h6, if_neg h7], o1⟩
    · have hq : ¬ qAt x 8 := fun ⟨k, hk, e⟩ => by
        rcases (show k = 0 ∨ k = 1 ∨ k = 2 ∨ k = 3 ∨ k = 4 ∨ k = 5 ∨ k = 6 ∨ k = 7 by omega) with rfl | rfl | rfl | rfl | rfl | rfl | rfl | rfl
        · exact h0 e
        · exact h1 e
        · exact h2 e
        · exact h3 e
        · exact h4 e
        · exact h5 e
        · exact h6 e
        · exact h7 e
      rw [f_X9_most, jlt_eq, (hM.xt hX).1, if_neg n10, mIn_F hq (by decide) (by decide), jcb_s2, if_pos rfl]
end MOST
