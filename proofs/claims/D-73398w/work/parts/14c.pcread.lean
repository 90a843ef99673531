/-! the pure law: what the component reads of its peaks -/
section CQ
variable {w : j_St} {s : Nat → Nat} {n z i0 i1 : Nat}
theorem cq_row (hP : pCP w i0 i1 s n z) {k : Nat} (hk : k < cM s n) : jgr w 27 i0 k = some (48 * i0 + cW s n k) := hP.2.2.2.1 k hk
theorem cq_0 (hP : pCP w i0 i1 s n z) (h0 : 0 < n) {k : Nat} (hk : k < cM s n) : jgi w 3 (48 * i0 + cW s n k) 0 = nI (cP s n k) := (hP.2.2.2.2.1 _ (cW_lt h0 hk)).1
theorem cq_1 (hP : pCP w i0 i1 s n z) (h0 : 0 < n) {k : Nat} (hk : k < cM s n) : jgi w 3 (48 * i0 + cW s n k) 1 = nI (s (cP s n k)) := (hP.2.2.2.2.1 _ (cW_lt h0 hk)).2.1
theorem cq_2 (hP : pCP w i0 i1 s n z) (h0 : 0 < n) {k : Nat} (hk : k < cM s n) : jgi w 3 (48 * i0 + cW s n k) 2 = pOI (cVa s n (cW s n k)) := (hP.2.2.2.2.1 _ (cW_lt h0 hk)).2.2.1
theorem cq_3 (hP : pCP w i0 i1 s n z) (h0 : 0 < n) {k : Nat} (hk : k < cM s n) : jgi w 3 (48 * i0 + cW s n k) 3 = nI (cD s n k) := (hP.2.2.2.2.1 _ (cW_lt h0 hk)).2.2.2.1
theorem cq_5 (hP : pCP w i0 i1 s n z) (h0 : 0 < n) {k : Nat} (hk : k < cM s n) : jgr w 3 (48 * i0 + cW s n k) 5 = pQ i0 (cPa s n (cW s n k)) := (hP.2.2.2.2.1 _ (cW_lt h0 hk)).2.2.2.2
theorem cq_6 (hP : pCP w i0 i1 s n z) {k : Nat} (hk : k < cM s n) : jgi w 3 (48 * i0 + cW s n k) 6 = if k < cK s n z then 1 else 0 := by
  rw [hP.2.2.2.2.2 k hk]
  unfold pB
  by_cases h : k < cK s n z
  · simp [h]
  · simp [h]
theorem cq_pers (hP : pCP w i0 i1 s n z) (h0 : 0 < n) (hs : ∀ k, k < n → s k ≤ 999) {k : Nat} (hk : k < cM s n) : f_X6_persistence (48 * i0 + cW s n k) w = some (nI (cL s n k), w) := by
  rw [f_X6_persistence, jlt_eq, cq_1 hP h0 hk, jlt_eq, cq_3 hP h0 hk, nI_sub (cD_le hs h0 hk)]
  rfl
theorem cM48c (hC : pCn w i1 (sI s) n) (h0 : 0 < n) : n ≤ 48 ∧ cM s n ≤ n := ⟨hC.2.2, cM_le h0⟩
theorem cNum_P (h0 : 0 < n) {k : Nat} (hk : k < cM s n) : cNum s n (cP s n k) = some k := pFd_one (Nat.zero_le _) (by omega) (by simp) fun j _ hj hb => by
  apply Classical.byContradiction
  intro hne
  exact cP_ne h0 (show j < cM s n by omega) hk hne (by simpa using hb)
theorem cNum_s {p k : Nat} (h : cNum s n p = some k) : k < cM s n ∧ cP s n k = p := by
  obtain ⟨-, g2, g3, -⟩ := pFd_some h
  exact ⟨by omega, by simpa using g3⟩
theorem cq_numAt (hC : pCn w i1 (sI s) n) (hP : pCP w i0 i1 s n z) (h0 : 0 < n) {p : Nat} (hp : p < 2 ^ 31) : f_X5_numberAt i0 (nI p) w = some (pOI (cNum s n p), w) := by
  obtain ⟨g1, g2⟩ := cM48c hC h0
  refine pFd_is (F := fun f k => f_X5_numberAt_L2 i0 (nI p) f (nI k) w) (N := cM s n) (G := fun r => some (pOI r, w)) (fun f k hk => ?_) (fun f => ?_) (cM s n) jFU 0 (by omega) (jFU_gt (by omega))
  · have hpk := cP_lt (s := s) h0 hk
    show f_X5_numberAt_L2 i0 (nI p) (f + 1) (nI k) w = _
    rw [f_X5_numberAt_L2]
    simp (disch := omega) only [↓jlt_e2, hP.2.1, le_F, if_false, jbd_nI, cq_row hP hk, job_s2, cq_0 hP h0 hk, eq_E, nI_1, decide_eq_true_eq, pOI_s]
  · show f_X5_numberAt_L2 i0 (nI p) (f + 1) (nI (cM s n)) w = _
    rw [f_X5_numberAt_L2, jlt_eq, hP.2.1, if_pos ((nI_leI (by omega) (by omega)).mpr (Nat.le_refl _))]
    rfl
/-- whether a kept one stands at a place -/
def pKq (s : Nat → Nat) (n z q : Nat) : Bool := match cNum s n q with
  | none => false
  | some k => decide (k < cK s n z)
theorem pKq_iff (h0 : 0 < n) {q : Nat} : pKq s n z q = true ↔ ∃ k, k < cK s n z ∧ cP s n k = q := by
  have hle := cK_le (s := s) (n := n) (z := z)
  unfold pKq
  constructor
  · intro h
    cases e : cNum s n q with
    | none => rw [e] at h; cases h
    | some k =>
      rw [e] at h
      exact ⟨k, by simpa using h, (cNum_s e).2⟩
  · intro ⟨k, hk, e⟩
    rw [← e, cNum_P h0 (by omega)]
    simpa using hk
theorem cq_nb_s (hC : pCn w i1 (sI s) n) (hP : pCP w i0 i1 s n z) (h0 : 0 < n) {p2 : Int32} {kk : Int32 → j_St → Option (Option Nat × j_St)} {f q : Nat} (hq : q < n) : f_X5_neighbor_L7 i0 p2 kk (f + 1) (nI q) w = if pKq s n z q = true then kk (pOI (cNum s n q)) w else f_X5_neighbor_L7 i0 p2 kk f (nI q + p2) w := by
  obtain ⟨g1, g2⟩ := cM48c hC h0
  have hn := cq_numAt hC hP h0 (p := q) (by omega)
  rw [f_X5_neighbor_L7]
  simp (disch := omega) only [nI_neg, if_false, ↓jlt_e2, hP.1, job_s2, hC.1, le_F, hn, jcb_s2]
  unfold pKq
  cases e : cNum s n q with
  | none =>
    simp only [pOI_n, if_true, Bool.false_eq_true, if_false]
  | some k =>
    obtain ⟨c1, c2⟩ := cNum_s e
    have six := cq_6 hP c1
    by_cases h : k < cK s n z
    · have oo : ((1 : Int32) = 0) = False := eq_false (by decide)
      simp (disch := omega) only [pOI_s, m1_F, if_false, jbd_nI, cq_row hP c1, job_s2, six, h, if_true, oo, decide_true]
    · simp (disch := omega) only [pOI_s, m1_F, if_false, jbd_nI, cq_row hP c1, job_s2, six, h, if_true, decide_false, Bool.false_eq_true]
theorem cq_neighbor (hC : pCn w i1 (sI s) n) (hP : pCP w i0 i1 s n z) (h0 : 0 < n) {k : Nat} (hk : k < cM s n) {rt : Bool} : f_X5_neighbor i0 (some (48 * i0 + cW s n k)) (if rt = true then 1 else -1) w = some ((cNb s n z (cP s n k) rt).map (fun j => 48 * i0 + cW s n j), w) := by
  obtain ⟨g1, g2⟩ := cM48c hC h0
  have hp := cP_lt (s := s) h0 hk
  have hle := cK_le (s := s) (n := n) (z := z)
  rw [f_X5_neighbor, job_s2, jlt_eq, cq_0 hP h0 hk, jlt_eq]
  have fin : ∀ q, q < n → pKq s n z q = true → (jbd (pOI (cNum s n q)) 48 fun a27 => jlt (jgr w 27 i0 a27) fun v28 => some (v28, w)) = some ((cNum s n q).map (fun j => 48 * i0 + cW s n j), w) := fun q hq hb => by
    unfold pKq at hb
    cases e : cNum s n q with
    | none => rw [e] at hb; cases hb
    | some j =>
      obtain ⟨c1, c2⟩ := cNum_s e
      rw [pOI_s, jbd_nI (by omega) (by decide), jlt_eq, cq_row hP c1]
      rfl
  cases rt with
  | true =>
    rw [if_pos rfl, nI_1]
    have := pFd_is (F := fun f q => f_X5_neighbor_L7 i0 1 (fun (v24 : Int32) (w25 : j_St) => jbd v24 48 fun a27 => jlt (jgr w25 27 i0 a27) fun v28 => some (v28, w25)) f (nI q) w) (b := pKq s n z) (N := n) (G := fun r => match r with
        | none => some (none, w)
        | some q => jbd (pOI (cNum s n q)) 48 fun a27 => jlt (jgr w 27 i0 a27) fun v28 => some (v28, w)) (fun f q hq => ?_) (fun f => ?_) (n - (cP s n k + 1)) jFU (cP s n k + 1) (by omega) (jFU_gt (by omega))
    · refine this.trans ?_
      cases e : pFd (pKq s n z) (n - (cP s n k + 1)) (cP s n k + 1) with
      | none =>
        have hno := pFd_none e
        rw [cNb_no (k := 0) (fun j hj => ?_)]
        · rfl
        · have hj2 := cP_lt (s := s) h0 (show j < cM s n by omega)
          unfold pBsd
          simp only [if_true, decide_eq_false_iff_not]
          intro hlt
          have := hno (cP s n j) (by omega) (by omega)
          rw [(pKq_iff h0).mpr ⟨j, hj, rfl⟩] at this
          cases this
      | some q =>
        obtain ⟨a1, a2, a3, a4⟩ := pFd_some e
        obtain ⟨j, hj, ej⟩ := (pKq_iff h0).mp a3
        simp only []
        rw [fin q (by omega) a3, ← ej, cNum_P h0 (by omega)]
        rw [cNb_one h0 hj (by simp [pBsd]; omega) (fun i hi hb => ?_)]
        unfold pBsd at hb
        simp only [if_true, decide_eq_true_eq] at hb
        rw [pDi_r (by omega), pDi_r (by omega)]
        apply Classical.byContradiction
        intro hlt
        have := a4 (cP s n i) (by omega) (by omega)
        rw [(pKq_iff h0).mpr ⟨i, hi, rfl⟩] at this
        cases this
    · show f_X5_neighbor_L7 i0 1 _ (f + 1) (nI q) w = _
      rw [cq_nb_s hC hP h0 hq, nI_1]
    · show f_X5_neighbor_L7 i0 1 _ (f + 1) (nI n) w = _
      rw [f_X5_neighbor_L7]
      simp (disch := omega) only [nI_neg, if_false, ↓jlt_e2, hP.1, job_s2, hC.1, le_T, if_true]
  | false =>
    rw [if_neg (by decide)]
    have := pFd_is (F := fun f m => f_X5_neighbor_L7 i0 (-1) (fun (v24 : Int32) (w25 : j_St) => jbd v24 48 fun a27 => jlt (jgr w25 27 i0 a27) fun v28 => some (v28, w25)) f (nI (cP s n k - m) + (-1)) w) (b := fun m => pKq s n z (cP s n k - 1 - m)) (N := cP s n k) (G := fun r => match r with
        | none => some (none, w)
        | some m => jbd (pOI (cNum s n (cP s n k - 1 - m))) 48 fun a27 => jlt (jgr w 27 i0 a27) fun v28 => some (v28, w)) (fun f m hm => ?_) (fun f => ?_) (cP s n k) jFU 0 (by omega) (jFU_gt (by omega))
    · refine this.trans ?_
      cases e : pFd (fun m => pKq s n z (cP s n k - 1 - m)) (cP s n k) 0 with
      | none =>
        have hno := pFd_none e
        rw [cNb_no (k := 0) (fun j hj => ?_)]
        · rfl
        · unfold pBsd
          simp only [Bool.false_eq_true, if_false, decide_eq_false_iff_not]
          intro hlt
          have := hno (cP s n k - 1 - cP s n j) (by omega) (by omega)
          rw [show cP s n k - 1 - (cP s n k - 1 - cP s n j) = cP s n j by omega, (pKq_iff h0).mpr ⟨j, hj, rfl⟩] at this
          cases this
      | some m =>
        obtain ⟨a1, a2, a3, a4⟩ := pFd_some e
        obtain ⟨j, hj, ej⟩ := (pKq_iff h0).mp a3
        simp only []
        rw [fin _ (by omega) a3, ← ej, cNum_P h0 (by omega)]
        rw [cNb_one h0 hj (by simp [pBsd]; omega) (fun i hi hb => ?_)]
        unfold pBsd at hb
        simp only [Bool.false_eq_true, if_false, decide_eq_true_eq] at hb
        rw [pDi_l (by omega), pDi_l (by omega)]
        apply Classical.byContradiction
        intro hlt
        have := a4 (cP s n k - 1 - cP s n i) (by omega) (by omega)
        rw [show cP s n k - 1 - (cP s n k - 1 - cP s n i) = cP s n i by omega, (pKq_iff h0).mpr ⟨i, hi, rfl⟩] at this
        cases this
    · show f_X5_neighbor_L7 i0 (-1) _ (f + 1) (nI (cP s n k - m) + (-1)) w = _
      rw [nI_m1' (by omega), show cP s n k - m - 1 = cP s n k - 1 - m by omega, cq_nb_s hC hP h0 (by omega), show cP s n k - (m + 1) = cP s n k - 1 - m by omega]
    · show f_X5_neighbor_L7 i0 (-1) _ (f + 1) (nI (cP s n k - cP s n k) + (-1)) w = _
      rw [Nat.sub_self, show nI 0 + (-1) = (-1 : Int32) by decide, f_X5_neighbor_L7, if_pos (by decide)]
theorem cq_low (hC : pCn w i1 (sI s) n) (hs : ∀ k, k < n → s k ≤ 999) {fr to : Nat} (h1 : fr < to) (h2 : to < n) : f_X7_lowest i1 (nI fr) (nI to) w = some (nI (cLow s fr to), w) := by
  have hn := hC.2.2
  rw [f_X7_lowest, jlt_eq, nI_1, jlt_eq, show nI fr + 2 = nI (fr + 2) from nI_add fr 2]
  refine pIt_is (F := fun f m b => f_X7_lowest_L9 i1 (nI to) f (nI b) (nI m) w) (step := pLo s) (I := fun m b => fr + 2 ≤ m ∧ b < n) (N := max to (fr + 2)) (G := fun b => some (nI b, w)) (fun f m b hm hI => ?_) (fun m b hm hI => ?_) (fun f b hI => ?_) (to - (fr + 2)) jFU (fr + 2) (fr + 1) (by omega) (jFU_gt (by omega)) ⟨by omega, by omega⟩
  · obtain ⟨i1', i2⟩ := hI
    have hm2 : m < to := by omega
    have b1 := hs m (by omega)
    have b2 := hs b i2
    show f_X7_lowest_L9 i1 (nI to) (f + 1) (nI b) (nI m) w = f_X7_lowest_L9 i1 (nI to) f (nI (pLo s m b)) (nI (m + 1)) w
    rw [f_X7_lowest_L9]
    simp (disch := omega) only [le_F, if_false, jbd_nI, ↓jlt_e2, hC.2.1 m (by omega), hC.2.1 b i2, sI_e, le_E, nI_1, pLo]
    by_cases c : s b ≤ s m
    · simp only [c, if_true]
    · simp only [c, if_false]
  · unfold pLo
    split <;> omega
  · show f_X7_lowest_L9 i1 (nI to) (f + 1) (nI b) (nI (max to (fr + 2))) w = some (nI b, w)
    rw [f_X7_lowest_L9, if_pos ((nI_leI (by omega) (by omega)).mpr (by omega))]
theorem cq_first (hC : pCn w i1 (sI s) n) (hP : pCP w i0 i1 s n z) (h0 : 0 < n) (hs : ∀ k, k < n → s k ≤ 999) {k : Nat} (hk : k < cM s n) : f_X5_first i0 (nI k) w = some (nI (cFi s n z k), w) := by
  obtain ⟨g1, g2⟩ := cM48c hC h0
  have hp := cP_lt (s := s) h0 hk
  have hb := cq_neighbor hC hP h0 hk (rt := false)
  rw [if_neg (by decide)] at hb
  rw [f_X5_first, jbd_nI (by omega) (by decide), jlt_eq, cq_row hP hk, hb, jcb_s2]
  unfold cFi
  cases e : cNb s n z (cP s n k) false with
  | none => rfl
  | some j =>
    obtain ⟨c1, c2⟩ := cNb_lt e
    simp only [pBsd, Bool.false_eq_true, if_false, decide_eq_true_eq] at c2
    rw [Option.map_some, jcs_s2, jlt_eq, hP.1, jlt_eq, cq_0 hP h0 c1, jbd_nI (by omega) (by decide), jlt_eq, cq_row hP hk, job_s2, jlt_eq, cq_0 hP h0 hk, job_s2, cq_low hC hs c2 hp, jcb_s2]
theorem cq_last (hC : pCn w i1 (sI s) n) (hP : pCP w i0 i1 s n z) (h0 : 0 < n) (hs : ∀ k, k < n → s k ≤ 999) {k : Nat} (hk : k < cM s n) : f_X5_last i0 (nI k) w = some (nI (cLa s n z k), w) := by
  obtain ⟨g1, g2⟩ := cM48c hC h0
  have hp := cP_lt (s := s) h0 hk
  have hb := cq_neighbor hC hP h0 hk (rt := true)
  rw [if_pos rfl] at hb
  rw [f_X5_last, jbd_nI (by omega) (by decide), jlt_eq, cq_row hP hk, hb, jcb_s2]
  unfold cLa
  cases e : cNb s n z (cP s n k) true with
  | none => rw [Option.map_none, jcs_n2, jlt_eq, hP.1, job_s2, jlt_eq, hC.1, nI_m1 h0]
  | some j =>
    obtain ⟨c1, c2⟩ := cNb_lt e
    simp only [pBsd, if_true, decide_eq_true_eq] at c2
    have := cLow_b (s := s) c2
    rw [Option.map_some, jcs_s2, jlt_eq, hP.1, jbd_nI (by omega) (by decide), jlt_eq, cq_row hP hk, job_s2, jlt_eq, cq_0 hP h0 hk, jlt_eq, cq_0 hP h0 c1, job_s2, cq_low hC hs c2 (cP_lt h0 c1), jcb_s2, nI_m1 (by omega)]
theorem cq_area (hC : pCn w i1 (sI s) n) (hP : pCP w i0 i1 s n z) (h0 : 0 < n) (hs : ∀ k, k < n → s k ≤ 999) {k : Nat} (hk : k < cM s n) : f_X5_area i0 (nI k) w = some (nI (cAr s n z k), w) := by
  obtain ⟨g1, g2⟩ := cM48c hC h0
  have hp := cP_lt (s := s) h0 hk
  obtain ⟨l1, l2⟩ := cLa_ge (s := s) (z := z) h0 hk
  have l3 := cFi_le (s := s) (z := z) h0 hk
  have hd := cD_le hs h0 hk
  have hs1 := hs _ hp
  have hl := cq_last hC hP h0 hs hk
  rw [f_X5_area, cq_first hC hP h0 hs hk, jcb_s2]
  unfold cAr
  refine pIt_is' (F := fun f m x => f_X5_area_L8 i0 (nI k) f (nI x) (nI m) w) (N := cLa s n z k + 1) (G := fun x => some (nI x, w)) (fun f m x hm => ?_) (fun f x => ?_) _ jFU _ 0 (by omega) (jFU_gt (by omega))
  · have b1 := hs m (by omega)
    show f_X5_area_L8 i0 (nI k) (f + 1) (nI x) (nI m) w = f_X5_area_L8 i0 (nI k) f (nI (x + (s m - cD s n k))) (nI (m + 1)) w
    rw [f_X5_area_L8, hl, jcb_s2]
    simp (disch := omega) only [lt_F, if_false, jbd_nI, ↓jlt_e2, hP.1, job_s2, hC.2.1 m (by omega), cq_row hP hk, cq_3 hP h0 hk, sI_e, nI_1, jmax0_sub, nI_add]
  · show f_X5_area_L8 i0 (nI k) (f + 1) (nI x) (nI (cLa s n z k + 1)) w = some (nI x, w)
    rw [f_X5_area_L8, hl, jcb_s2, if_pos ((nI_ltI (by omega) (by omega)).mpr (by omega))]
theorem cq_width (hC : pCn w i1 (sI s) n) (hP : pCP w i0 i1 s n z) (h0 : 0 < n) (hs : ∀ k, k < n → s k ≤ 999) {k : Nat} (hk : k < cM s n) : f_X5_width i0 (nI k) w = some (nI (cWi s n k), w) := by
  obtain ⟨g1, g2⟩ := cM48c hC h0
  have hp := cP_lt (s := s) h0 hk
  have hd := cD_le hs h0 hk
  have hs1 := hs _ hp
  have hl := cL_le hs h0 hk
  have hle : cL s n k / 2 ≤ s (cP s n k) := by have := cL_is (s := s) (n := n) (k := k); omega
  have hh : cHw s n k ≤ 999 := by unfold cHw; omega
  rw [f_X5_width, jlt_eq, hP.1, jbd_nI (by omega) (by decide), jlt_eq, cq_row hP hk, job_s2, jlt_eq, cq_0 hP h0 hk, jbd_nI (by omega) (by decide), jlt_eq, cq_row hP hk, job_s2, jlt_eq, cq_1 hP h0 hk, jbd_nI (by omega) (by decide), jlt_eq, cq_row hP hk, job_s2, cq_pers hP h0 hs hk, jcb_s2, job_s2, nI_half hl, nI_sub hle]
  have hr : ∀ x, f_X3_run_k4_L38 i1 (nI (cHw s n k)) jFU (nI x) (nI (cP s n k + 1)) w = some (nI (x + pCnt (fun j => decide (cHw s n k ≤ s j)) (n - (cP s n k + 1)) (cP s n k + 1)), w) := fun x => by
    refine pCnt_is (F := fun f m x => f_X3_run_k4_L38 i1 (nI (cHw s n k)) f (nI x) (nI m) w) (N := n) (G := fun x => some (nI x, w)) (fun f m x hm => ?_) (fun f x => ?_) _ jFU _ x (by omega) (jFU_gt (by omega))
    · have b1 := hs m hm
      show f_X3_run_k4_L38 i1 (nI (cHw s n k)) (f + 1) (nI x) (nI m) w = _
      rw [f_X3_run_k4_L38, sp_cmany hC, jcb_s2]
      simp (disch := omega) only [le_F, if_false, ↓jlt_e2, sp_cat hC hm, jcb_s2, sI_e, lt_E, nI_1, decide_eq_true_eq]
      by_cases c : cHw s n k ≤ s m
      · have c' : ¬ s m < cHw s n k := by omega
        simp only [c, c', if_true, if_false]
      · have c' : s m < cHw s n k := by omega
        simp only [c, c', if_true, if_false]
    · show f_X3_run_k4_L38 i1 (nI (cHw s n k)) (f + 1) (nI x) (nI n) w = some (nI x, w)
      rw [f_X3_run_k4_L38, sp_cmany hC, jcb_s2, if_pos ((nI_leI (by omega) (by omega)).mpr (Nat.le_refl _))]
  have hr2 := hr (1 + pCnt (fun j => decide (cHw s n k ≤ s (cP s n k - 1 - j))) (cP s n k) 0)
  rw [f_X3_run_k4, jlt_eq]
  have idx : ∀ j, j < cP s n k → nI (cP s n k - j) - 1 = nI (cP s n k - 1 - j) := fun j hj => by rw [nI_m1 (by omega)]; congr 1; omega
  have hL := pCnt_is (F := fun f m x => f_X3_run_k4_L7 i1 (nI (cHw s n k)) (fun (v10 : Int32) (w11 : j_St) => jlt (nI (cP s n k) + 1) fun v12 => f_X3_run_k4_L38 i1 (nI (cHw s n k)) jFU v10 v12 w11) f (nI x) (nI (cP s n k - m) - 1) w) (b := fun j => decide (cHw s n k ≤ s (cP s n k - 1 - j))) (N := cP s n k) (G := fun x => f_X3_run_k4_L38 i1 (nI (cHw s n k)) jFU (nI x) (nI (cP s n k + 1)) w) (fun f m x hm => ?_) (fun f x => ?_) (cP s n k) jFU 0 1 (by omega) (jFU_gt (by omega))
  · rw [hr2] at hL
    have hL' : f_X3_run_k4_L7 i1 (nI (cHw s n k)) (fun (v10 : Int32) (w11 : j_St) => jlt (nI (cP s n k) + 1) fun v12 => f_X3_run_k4_L38 i1 (nI (cHw s n k)) jFU v10 v12 w11) jFU 1 (nI (cP s n k) - 1) w = _ := hL
    show jcb (f_X3_run_k4_L7 i1 (nI (cHw s n k)) (fun (v10 : Int32) (w11 : j_St) => jlt (nI (cP s n k) + 1) fun v12 => f_X3_run_k4_L38 i1 (nI (cHw s n k)) jFU v10 v12 w11) jFU 1 (nI (cP s n k) - 1) w) _ = _
    rw [hL', jcb_s2]
    rfl
  · have hi : cP s n k - 1 - m < n := by omega
    have b1 := hs _ hi
    show f_X3_run_k4_L7 i1 (nI (cHw s n k)) _ (f + 1) (nI x) (nI (cP s n k - m) - 1) w = _
    have i2 : nI (cP s n k - 1 - m) + (-1) = nI (cP s n k - (m + 1)) - 1 := by
      rw [show cP s n k - (m + 1) = cP s n k - 1 - m by omega, Int32.sub_eq_add_neg]
    rw [idx m hm, f_X3_run_k4_L7]
    simp (disch := omega) only [nI_neg, if_false, ↓jlt_e2, sp_cat hC hi, jcb_s2, sI_e, lt_E, nI_1, decide_eq_true_eq, i2]
    by_cases c : cHw s n k ≤ s (cP s n k - 1 - m)
    · have c' : ¬ s (cP s n k - 1 - m) < cHw s n k := by omega
      simp only [c, c', if_true, if_false]
    · have c' : s (cP s n k - 1 - m) < cHw s n k := by omega
      simp only [c, c', if_true, if_false]
  · show f_X3_run_k4_L7 i1 (nI (cHw s n k)) _ (f + 1) (nI x) (nI (cP s n k - cP s n k) - 1) w = _
    rw [Nat.sub_self, nI_00, f_X3_run_k4_L7, if_pos (by decide), jlt_eq, nI_1]
theorem cq_gen_L (hC : pCn w i1 (sI s) n) (hP : pCP w i0 i1 s n z) (h0 : 0 < n) {c f g : Nat} (hc : c < cM s n) (hf : c < f) (hg : c < g) {x : Nat} : f_X5_generation_L12 f (nI x) (pQ i0 (cPa s n c)) w = some (nI (x + pGen (cPa s n) g c), w) := by
  obtain ⟨g1, g2⟩ := cM48c hC h0
  induction c using Nat.strongRecOn generalizing f g x with
  | _ c ih =>
    obtain ⟨f, rfl⟩ : ∃ f', f = f' + 1 := ⟨f - 1, by omega⟩
    obtain ⟨g, rfl⟩ : ∃ f', g = f' + 1 := ⟨g - 1, by omega⟩
    unfold pGen
    by_cases e : c = 0
    · subst e
      rw [cPa_0 h0]
      rw [f_X5_generation_L12, pQ_none, jcs_n2]
      rfl
    · obtain ⟨p, l, -, -, h3, h4⟩ := cVa_s (s := s) h0 (by omega) hc
      rw [h3]
      have h5 := (hP.2.2.2.2.1 l (by omega)).2.2.2.2
      rw [f_X5_generation_L12, pQ_some, jcs_s2, jlt_eq, nI_1, jlt_eq, h5, ih l h4 (by omega) (g := g) (by omega) (by omega)]
      simp only []
      rw [show x + 1 + pGen (cPa s n) g l = x + (pGen (cPa s n) g l + 1) by omega]
theorem cq_gen (hC : pCn w i1 (sI s) n) (hP : pCP w i0 i1 s n z) (h0 : 0 < n) {k : Nat} (hk : k < cM s n) : f_X5_generation i0 (nI k) w = some (nI (cGe s n k), w) := by
  obtain ⟨g1, g2⟩ := cM48c hC h0
  have hw := cW_lt (s := s) h0 hk
  rw [f_X5_generation, jbd_nI (by omega) (by decide), jlt_eq, cq_row hP hk, job_s2, jlt_eq, cq_5 hP h0 hk]
  have := cq_gen_L hC hP h0 (x := 0) hw (f := jFU) (g := 48) (jFU_gt (by omega)) (by omega)
  rw [Nat.zero_add] at this
  exact this
theorem cq_numOf (hC : pCn w i1 (sI s) n) (hP : pCP w i0 i1 s n z) (h0 : 0 < n) {k : Nat} (hk : k < cM s n) : f_X5_numberOf i0 (some (48 * i0 + cW s n k)) w = some (nI k, w) := by
  obtain ⟨g1, g2⟩ := cM48c hC h0
  have := pFd_is (F := fun f j => f_X5_numberOf_L2 i0 (some (48 * i0 + cW s n k)) f (nI j) w) (b := fun j => decide (cW s n j = cW s n k)) (N := cM s n) (G := fun r => some (pOI r, w)) (fun f j hj => ?_) (fun f => ?_) (cM s n) jFU 0 (by omega) (jFU_gt (by omega))
  · refine this.trans ?_
    rw [pFd_one (k := k) (Nat.zero_le _) (by omega) (by simp) (fun j _ hj hb => ?_)]
    · rfl
    · apply Classical.byContradiction
      intro hne
      exact cW_ne h0 (show j < cM s n by omega) hk hne (by simpa using hb)
  · show f_X5_numberOf_L2 i0 (some (48 * i0 + cW s n k)) (f + 1) (nI j) w = _
    have e : (some (48 * i0 + cW s n j) = some (48 * i0 + cW s n k)) = (cW s n j = cW s n k) := propext ⟨fun e => by have := Option.some.inj e; omega, fun e => by rw [e]⟩
    rw [f_X5_numberOf_L2]
    simp (disch := omega) only [↓jlt_e2, hP.2.1, le_F, if_false, jbd_nI, cq_row hP hj, e, nI_1, decide_eq_true_eq, pOI_s]
  · show f_X5_numberOf_L2 i0 (some (48 * i0 + cW s n k)) (f + 1) (nI (cM s n)) w = _
    rw [f_X5_numberOf_L2, jlt_eq, hP.2.1, if_pos ((nI_leI (by omega) (by omega)).mpr (Nat.le_refl _))]
    rfl
end CQ
