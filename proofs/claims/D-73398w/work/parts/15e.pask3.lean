/-! the pure law: what is asked of peaks, basins, lines -/
section ASK3
variable {w w' : j_St} {A : pA} {X : pX}
theorem WfP.sameT {i0 j : Nat} (h : WfP i0 w) (g : pSame (KT j) w w') : WfP i0 w' := by
  obtain ⟨od, r, pl, va, de, pa, be, cm, ca, he, kt, kp, ⟨h1, h2, h3, h5⟩, hb⟩ := h
  have gi : ∀ κ i k, κ < 30 → jgi w' κ i k = jgi w κ i k := fun κ i k a => g.1 κ i k (by unfold KT; omega)
  have gr : ∀ κ i k, κ < 30 → jgr w' κ i k = jgr w κ i k := fun κ i k a => g.2.2.1 κ i k (by unfold KT; omega)
  refine ⟨od, r, pl, va, de, pa, be, cm, ca, he, kt, kp, ⟨fun c hc => ?_, fun k => ?_, ?_, ?_⟩, hb⟩
  · rw [gi 3 _ 0 (by decide), gi 3 _ 1 (by decide), gi 3 _ 2 (by decide), gi 3 _ 3 (by decide), gi 3 _ 4 (by decide), gi 3 _ 6 (by decide), gr 3 _ 5 (by decide)]
    exact h1 c hc
  · rw [gi 29 _ k (by decide), gr 27 _ k (by decide), gr 28 _ k (by decide)]
    exact h2 k
  · rw [gi 2 _ 5 (by decide)]; exact h3
  · rw [gi 2 _ 6 (by decide)]; exact h5
theorem cOK_T {j : Nat} (hC : RelC A w) (g : pSame (KT j) w w') : cOK w w' := cOK_of g (fun κ i k z => by unfold KT at z; unfold KS; omega) (hC.2.2.2.2.2.2.2.1.sameT g) (hC.2.2.2.2.2.2.2.2.1.sameT g)
theorem c_isKept (hC : RelC A w) (hA : wfA A) (hX : aX A = some X) (x : Int32) : ∃ w', cOK w w' ∧ pCP w' 0 1 (aT A).1 (aT A).2.1 (aT A).2.2.1 ∧ (qAt x (cK (aT A).1 (aT A).2.1 (aT A).2.2.1) → f_X1_isKept x w = some (1, w')) ∧ (¬ qAt x (cK (aT A).1 (aT A).2.1 (aT A).2.2.1) → f_X1_isKept x w = some (0, w')) := by
  obtain ⟨hwX, t1, t2, t3, t4, t5⟩ := hA.x hX
  obtain ⟨t, ht, -⟩ := hC.xt hX
  obtain ⟨w', e, o, p⟩ := c_found hC hA hX
  have hcm := cM_le (s := (aT A).1) t1
  have hck := cK_le (s := (aT A).1) (n := (aT A).2.1) (z := (aT A).2.2.1)
  refine ⟨w', o, p, fun h => ?_, fun h => ?_⟩
  · obtain ⟨k, hk, rfl⟩ := h
    have six := cq_6 p (show k < cM (aT A).1 (aT A).2.1 by omega)
    rw [if_pos hk] at six
    rw [f_X1_isKept, jlt_eq, ht, jcs_s2, e, jcb_s2, jlt_eq, p.2.1, cIn_T ⟨k, by omega, rfl⟩ (by omega) rfl rfl, jcb_s2, if_neg n10, jbd_nI (by omega) (by decide), jlt_eq, cq_row p (by omega), job_s2, jlt_eq, six, if_neg n10]
  · rw [f_X1_isKept, jlt_eq, ht, jcs_s2, e, jcb_s2, jlt_eq, p.2.1]
    by_cases h2 : qAt x (cM (aT A).1 (aT A).2.1)
    · obtain ⟨k, hk, rfl⟩ := h2
      have six := cq_6 p hk
      rw [if_neg (fun z => h ⟨k, z, rfl⟩)] at six
      rw [cIn_T ⟨k, by omega, rfl⟩ (by omega) rfl rfl, jcb_s2, if_neg n10, jbd_nI (by omega) (by decide), jlt_eq, cq_row p hk, job_s2, jlt_eq, six, if_pos rfl]
    · rw [cIn_F h2 (by omega) rfl rfl, jcb_s2, if_pos rfl]
theorem m_isPeak (hM : RelM A w) (hA : wfA A) (hX : aX A = some X) (x : Int32) : ∃ w', mOK w w' ∧ pMP w' (aT A).1 (aT A).2.1 (aT A).2.2.1 ∧ pMn w' (sI (aT A).1) (aT A).2.1 (nI (aT A).2.2.1) ∧ pMl w' (sI X.1) X.2.1 (nI X.2.2.1) 0 (aT A).1 (aT A).2.1 (aT A).2.2.1 ∧ (qAt x (cM (aT A).1 (aT A).2.1) → f_X9_isPeak x w = some (1, w')) ∧ (¬ qAt x (cM (aT A).1 (aT A).2.1) → f_X9_isPeak x w = some (0, w')) := by
  obtain ⟨hwX, t1, t2, t3, t4, t5⟩ := hA.x hX
  obtain ⟨w', e, o, hn, p, l⟩ := m_found hM hA hX
  have hcm := cM_le (s := (aT A).1) t1
  refine ⟨w', o, p, hn, l, fun h => ?_, fun h => ?_⟩
  · rw [f_X9_isPeak, jlt_eq, (hM.xt hX).1, if_neg n10, e, jcb_s2, jlt_eq, p.1, mIn_T h (by omega) rfl, jcb_s2, if_pos (Or.inr rfl)]
  · rw [f_X9_isPeak, jlt_eq, (hM.xt hX).1, if_neg n10, e, jcb_s2, jlt_eq, p.1, mIn_F h (by omega) rfl, jcb_s2, if_pos (Or.inl rfl)]
/-- basin -/
theorem q_basin (hA : wfA A) (x y : Int32) : pQry A (f_X1_basin x y) (f_X9_basin x y) := by
  cases hX : aX A with
  | none =>
    refine pQry_of (r := -1) (fun w hC => ⟨w, ?_, hC.self⟩) (fun w hM => ⟨w, ?_, hM.self⟩)
    · rw [f_X1_basin, f_X1_isKept, jlt_eq, hC.x0 hX, jcs_n2, jcb_s2, if_pos rfl]
    · rw [f_X9_basin, f_X9_isPeak, jlt_eq, (hM.x0 hX).1, if_pos rfl, jcb_s2, if_pos rfl]
  | some X =>
    obtain ⟨hwX, t1, t2, t3, t4, t5⟩ := hA.x hX
    have hcm := cM_le (s := (aT A).1) t1
    have hck := cK_le (s := (aT A).1) (n := (aT A).2.1) (z := (aT A).2.2.1)
    by_cases h : qAt x (cK (aT A).1 (aT A).2.1 (aT A).2.2.1)
    · have h' := h
      obtain ⟨k, hk, rfl⟩ := h
      have hkm : k < cM (aT A).1 (aT A).2.1 := by omega
      have cc : ∀ w, RelC A w → ∃ w', cOK w w' ∧ pCP w' 0 1 (aT A).1 (aT A).2.1 (aT A).2.2.1 ∧ pCn w' 1 (sI (aT A).1) (aT A).2.1 ∧ f_X1_basin (nI k) y w = (if y = 0 then jcb (f_X5_first 0 (nI k) w') fun v5 w6 => some (v5, w6) else if y = 1 then jcb (f_X5_last 0 (nI k) w') fun v9 w10 => some (v9, w10) else if y = 2 then jcb (f_X5_area 0 (nI k) w') fun v13 w14 => some (v13, w14) else if y = 3 then jcb (f_X5_width 0 (nI k) w') fun v17 w18 => some (v17, w18) else some ((-1), w')) := fun w hC => by
        obtain ⟨w', o, p, e, -⟩ := c_isKept hC hA hX (nI k)
        refine ⟨w', o, p, ((hC.ok o).now hX).1, ?_⟩
        rw [f_X1_basin, e h', jcb_s2, if_neg n10]
      have mm : ∀ w, RelM A w → ∃ w', mOK w w' ∧ pMP w' (aT A).1 (aT A).2.1 (aT A).2.2.1 ∧ pMn w' (sI (aT A).1) (aT A).2.1 (nI (aT A).2.2.1) ∧ f_X9_basin (nI k) y w = (jcb (f_X9_in y 0 3 w') fun v7 w8 => if v7 = 0 then some ((-1), w8) else if y = 0 then jcb (f_X9_firstOf (nI k) w8) fun v19 w20 => some (v19, w20) else if y = 1 then jcb (f_X9_lastOf (nI k) w8) fun v16 w17 => some (v16, w17) else if y = 2 then jcb (f_X9_areaOf (nI k) w8) fun v13 w14 => some (v13, w14) else jcb (f_X9_widthOf (nI k) w8) fun v10 w11 => some (v10, w11)) := fun w hM => by
        obtain ⟨w', o, p, hn, -, e, -⟩ := m_isPeak hM hA hX (nI k)
        refine ⟨w', o, p, hn, ?_⟩
        have kq := mq_isKept p t1 t2 hkm
        rw [if_pos hk] at kq
        rw [f_X9_basin, e ⟨k, hkm, rfl⟩, jcb_s2, if_neg n10, kq, jcb_s2, if_neg n10]
      by_cases y0 : y = 0
      · refine pQry_of (r := nI (cFi (aT A).1 (aT A).2.1 (aT A).2.2.1 k)) (fun w hC => ?_) (fun w hM => ?_)
        · obtain ⟨w', o, p, hn, e⟩ := cc w hC
          exact ⟨w', by rw [e, if_pos y0, cq_first hn p t1 t3 hkm, jcb_s2], o⟩
        · obtain ⟨w', o, p, hn, e⟩ := mm w hM
          exact ⟨w', by rw [e, mIn_T (n := 4) ⟨0, by decide, y0⟩ (by decide) (by decide), jcb_s2, if_neg n10, if_pos y0, mq_first hn p t1 t3 hkm, jcb_s2], o⟩
      by_cases y1 : y = 1
      · refine pQry_of (r := nI (cLa (aT A).1 (aT A).2.1 (aT A).2.2.1 k)) (fun w hC => ?_) (fun w hM => ?_)
        · obtain ⟨w', o, p, hn, e⟩ := cc w hC
          exact ⟨w', by rw [e, if_neg y0, if_pos y1, cq_last hn p t1 t3 hkm, jcb_s2], o⟩
        · obtain ⟨w', o, p, hn, e⟩ := mm w hM
          exact ⟨w', by rw [e, mIn_T (n := 4) ⟨1, by decide, y1⟩ (by decide) (by decide), jcb_s2, if_neg n10, if_neg y0, if_pos y1, mq_last hn p t1 t3 hkm, jcb_s2], o⟩
      by_cases y2 : y = 2
      · refine pQry_of (r := nI (cAr (aT A).1 (aT A).2.1 (aT A).2.2.1 k)) (fun w hC => ?_) (fun w hM => ?_)
        · obtain ⟨w', o, p, hn, e⟩ := cc w hC
          exact ⟨w', by rw [e, if_neg y0, if_neg y1, if_pos y2, cq_area hn p t1 t3 hkm, jcb_s2], o⟩
        · obtain ⟨w', o, p, hn, e⟩ := mm w hM
          exact ⟨w', by rw [e, mIn_T (n := 4) ⟨2, by decide, y2⟩ (by decide) (by decide), jcb_s2, if_neg n10, if_neg y0, if_neg y1, if_pos y2, mq_area hn p t1 t3 hkm, jcb_s2], o⟩
      by_cases y3 : y = 3
      · refine pQry_of (r := nI (cWi (aT A).1 (aT A).2.1 k)) (fun w hC => ?_) (fun w hM => ?_)
        · obtain ⟨w', o, p, hn, e⟩ := cc w hC
          exact ⟨w', by rw [e, if_neg y0, if_neg y1, if_neg y2, if_pos y3, cq_width hn p t1 t3 hkm, jcb_s2], o⟩
        · obtain ⟨w', o, p, hn, e⟩ := mm w hM
          exact ⟨w', by rw [e, mIn_T (n := 4) ⟨3, by decide, y3⟩ (by decide) (by decide), jcb_s2, if_neg n10, if_neg y0, if_neg y1, if_neg y2, mq_width hn p t1 t3 hkm, jcb_s2], o⟩
      refine pQry_of (r := -1) (fun w hC => ?_) (fun w hM => ?_)
      · obtain ⟨w', o, p, hn, e⟩ := cc w hC
        exact ⟨w', by rw [e, if_neg y0, if_neg y1, if_neg y2, if_neg y3], o⟩
      · obtain ⟨w', o, p, hn, e⟩ := mm w hM
        have hq : ¬ qAt y 4 := fun ⟨k, hk, e⟩ => by
          rcases (show k = 0 ∨ k = 1 ∨ k = 2 ∨ k = 3 by omega) with rfl | rfl | rfl | rfl
          · exact y0 e
          · exact y1 e
          · exact y2 e
          · exact y3 e
        exact ⟨w', by rw [e, mIn_F hq (by decide) (by decide), jcb_s2, if_pos rfl], o⟩
    · refine pQry_of (r := -1) (fun w hC => ?_) (fun w hM => ?_)
      · obtain ⟨w', o, p, -, e⟩ := c_isKept hC hA hX x
        exact ⟨w', by rw [f_X1_basin, e h, jcb_s2, if_pos rfl], o⟩
      · obtain ⟨w', o, p, hn, -, e1, e2⟩ := m_isPeak hM hA hX x
        refine ⟨w', ?_, o⟩
        by_cases h2 : qAt x (cM (aT A).1 (aT A).2.1)
        · have h2' := h2
          obtain ⟨k, hk, rfl⟩ := h2
          have kq := mq_isKept p t1 t2 hk
          rw [if_neg (fun z => h ⟨k, z, rfl⟩)] at kq
          rw [f_X9_basin, e1 h2', jcb_s2, if_neg n10, kq, jcb_s2, if_pos rfl]
        · rw [f_X9_basin, e2 h2, jcb_s2, if_pos rfl]
/-- at -/
def pIb (s : Nat → Nat) (n z p k : Nat) : Bool := decide (k < cK s n z) && (decide (cFi s n z k ≤ p) && decide (p ≤ cLa s n z k))
theorem q_at (hA : wfA A) (x y : Int32) : pQry A (f_X1_at x y) (f_X9_at x y) := by
  cases hX : aX A with
  | none =>
    refine pQry_of (r := -1) (fun w hC => ⟨w, ?_, hC.self⟩) (fun w hM => ⟨w, ?_, hM.self⟩)
    · rw [f_X1_at, jlt_eq, hC.x0 hX, jcs_n2]
    · rw [f_X9_at, m_isPlace_0 (hM.x0 hX).1, jcb_s2, if_pos rfl]
  | some X =>
    obtain ⟨hwX, t1, t2, t3, t4, t5⟩ := hA.x hX
    have hcm := cM_le (s := (aT A).1) t1
    have hck := cK_le (s := (aT A).1) (n := (aT A).2.1) (z := (aT A).2.2.1)
    by_cases h : qAt x (aT A).2.1
    · by_cases hy : qAt y 2
      · have h' := h
        obtain ⟨p, hp, rfl⟩ := h
        have hy' := hy
        obtain ⟨j, hj, rfl⟩ := hy
        have cc : ∀ w, RelC A w → ∃ w', cOK w w' ∧ pCP w' 0 1 (aT A).1 (aT A).2.1 (aT A).2.2.1 ∧ pCn w' 1 (sI (aT A).1) (aT A).2.1 ∧ f_X1_at (nI p) (nI j) w = (if nI j = 0 then jcb (f_X5_numberAt 0 (nI p) w') fun v37 w38 => some (v37, w38) else f_X1_at_L48 (nI p) jFU 0 w') := fun w hC => by
          obtain ⟨t, ht, -⟩ := hC.xt hX
          obtain ⟨w', e, o, pp⟩ := c_found hC hA hX
          refine ⟨w', o, pp, ((hC.ok o).now hX).1, ?_⟩
          rw [f_X1_at, jlt_eq, ht, jcs_s2, c_isPlace_T (hC.now hX).1 h', jcb_s2, if_neg n10, cIn_T hy' (by decide) rfl (by decide), jcb_s2, if_neg n10, e, jcb_s2]
        have mm : ∀ w, RelM A w → ∃ w', mOK w w' ∧ pMP w' (aT A).1 (aT A).2.1 (aT A).2.2.1 ∧ pMn w' (sI (aT A).1) (aT A).2.1 (nI (aT A).2.2.1) ∧ f_X9_at (nI p) (nI j) w = f_X9_at_L25 (nI p) (nI j) jFU 0 w' := fun w hM => by
          obtain ⟨w', e, o, hn, pp, -⟩ := m_found hM hA hX
          refine ⟨w', o, pp, hn, ?_⟩
          rw [f_X9_at, m_isPlace_T (hM.xt hX).1 (hM.mn hA hX) h', jcb_s2, if_neg n10, mIn_T hy' (by decide) (by decide), jcb_s2, if_neg n10, e, jcb_s2]
        by_cases j0 : j = 0
        · have j0' : (nI j = 0) = True := by rw [j0]; exact eq_true rfl
          refine pQry_of (r := pOI (cNum (aT A).1 (aT A).2.1 p)) (fun w hC => ?_) (fun w hM => ?_)
          · obtain ⟨w', o, pp, hn, e⟩ := cc w hC
            exact ⟨w', by rw [e, if_pos (by rw [j0']; trivial), cq_numAt hn pp t1 (by omega), jcb_s2], o⟩
          · obtain ⟨w', o, pp, hn, e⟩ := mm w hM
            refine ⟨w', ?_, o⟩
            rw [e]
            refine pFd_is (F := fun f k => f_X9_at_L25 (nI p) (nI j) f (nI k) w') (N := cM (aT A).1 (aT A).2.1) (G := fun r => some (pOI r, w')) (fun f k hk => ?_) (fun f => ?_) (cM (aT A).1 (aT A).2.1) jFU 0 (by omega) (jFU_gt (by omega))
            · have hpk := cP_lt (s := (aT A).1) t1 hk
              have oo : ((1 : Int32) = 0) = False := eq_false (by decide)
              have zz : ((0 : Int32) = 0) = True := eq_true rfl
              show f_X9_at_L25 (nI p) (nI j) (f + 1) (nI k) w' = _
              rw [f_X9_at_L25]
              by_cases c : cP (aT A).1 (aT A).2.1 k = p
              · have c' : (nI (cP (aT A).1 (aT A).2.1 k) = nI p) = True := by rw [c]; exact eq_true rfl
                simp (disch := omega) only [↓jlt_e2, pp.1, le_F, if_false, j0', if_true, mq_placeOf hn pp t1 hk, jcb_s2, c', oo, c, decide_true, pOI_s]
              · have c' : (nI (cP (aT A).1 (aT A).2.1 k) = nI p) = False := by rw [eq_E (by omega) (by omega)]; exact eq_false c
                simp (disch := omega) only [↓jlt_e2, pp.1, le_F, if_false, j0', if_true, mq_placeOf hn pp t1 hk, jcb_s2, c', zz, c, decide_false, nI_1, Bool.false_eq_true]
            · show f_X9_at_L25 (nI p) (nI j) (f + 1) (nI (cM (aT A).1 (aT A).2.1)) w' = _
              rw [f_X9_at_L25, jlt_eq, pp.1, if_pos ((nI_leI (by omega) (by omega)).mpr (Nat.le_refl _))]
              rfl
        · have j0' : (nI j = 0) = False := eq_false (nI_ne0 (by omega) (by omega))
          refine pQry_of (r := pOI (pFd (pIb (aT A).1 (aT A).2.1 (aT A).2.2.1 p) (cM (aT A).1 (aT A).2.1) 0)) (fun w hC => ?_) (fun w hM => ?_)
          · obtain ⟨w', o, pp, hn, e⟩ := cc w hC
            refine ⟨w', ?_, o⟩
            rw [e, if_neg (by rw [j0']; exact id)]
            refine pFd_is (F := fun f k => f_X1_at_L48 (nI p) f (nI k) w') (N := cM (aT A).1 (aT A).2.1) (G := fun r => some (pOI r, w')) (fun f k hk => ?_) (fun f => ?_) (cM (aT A).1 (aT A).2.1) jFU 0 (by omega) (jFU_gt (by omega))
            · have l1 := cFi_le (z := (aT A).2.2.1) t1 hk
              have l2 := cLa_ge (z := (aT A).2.2.1) t1 hk
              have six := cq_6 pp hk
              have oo : ((1 : Int32) = 0) = False := eq_false (by decide)
              have m2 := pp.2.1
              have row := cq_row pp hk
              rw [Nat.mul_zero, Nat.zero_add] at row six
              show f_X1_at_L48 (nI p) (f + 1) (nI k) w' = _
              rw [f_X1_at_L48]
              by_cases c : k < cK (aT A).1 (aT A).2.1 (aT A).2.2.1
              · rw [if_pos c] at six
                simp (disch := omega) only [↓jlt_e2, m2, le_F, if_false, jbd_nI, row, job_s2, six, oo, cq_first hn pp t1 t3 hk, cq_last hn pp t1 t3 hk, jcb_s2]
                rw [sp_isIn (l := nI (cFi (aT A).1 (aT A).2.1 (aT A).2.2.1 k)) (h := nI (cLa (aT A).1 (aT A).2.1 (aT A).2.2.1 k)) rfl rfl, jcb_s2]
                by_cases d : cFi (aT A).1 (aT A).2.1 (aT A).2.2.1 k ≤ p ∧ p ≤ cLa (aT A).1 (aT A).2.1 (aT A).2.2.1 k
                · have b : pIb (aT A).1 (aT A).2.1 (aT A).2.2.1 p k = true := by simp [pIb, c, d]
                  rw [if_pos (show nI (cFi (aT A).1 (aT A).2.1 (aT A).2.2.1 k) ≤ nI p ∧ nI p ≤ nI (cLa (aT A).1 (aT A).2.1 (aT A).2.2.1 k) from ⟨(nI_leI (by omega) (by omega)).mpr d.1, (nI_leI (by omega) (by omega)).mpr d.2⟩), if_neg n10, if_pos b, pOI_s]
                · have b : ¬ pIb (aT A).1 (aT A).2.1 (aT A).2.2.1 p k = true := by simp [pIb, c]; omega
                  rw [if_neg (show ¬ (nI (cFi (aT A).1 (aT A).2.1 (aT A).2.2.1 k) ≤ nI p ∧ nI p ≤ nI (cLa (aT A).1 (aT A).2.1 (aT A).2.2.1 k)) from fun z => d ⟨(nI_leI (by omega) (by omega)).mp z.1, (nI_leI (by omega) (by omega)).mp z.2⟩), if_pos rfl, if_neg b, nI_1]
              · rw [if_neg c] at six
                have b : (pIb (aT A).1 (aT A).2.1 (aT A).2.2.1 p k = true) = False := eq_false (by simp [pIb, c])
                simp (disch := omega) only [↓jlt_e2, m2, le_F, if_false, jbd_nI, row, job_s2, six, if_true, b, nI_1]
            · show f_X1_at_L48 (nI p) (f + 1) (nI (cM (aT A).1 (aT A).2.1)) w' = _
              rw [f_X1_at_L48, jlt_eq, pp.2.1, if_pos ((nI_leI (by omega) (by omega)).mpr (Nat.le_refl _))]
              rfl
          · obtain ⟨w', o, pp, hn, e⟩ := mm w hM
            refine ⟨w', ?_, o⟩
            rw [e]
            refine pFd_is (F := fun f k => f_X9_at_L25 (nI p) (nI j) f (nI k) w') (N := cM (aT A).1 (aT A).2.1) (G := fun r => some (pOI r, w')) (fun f k hk => ?_) (fun f => ?_) (cM (aT A).1 (aT A).2.1) jFU 0 (by omega) (jFU_gt (by omega))
            · have l1 := cFi_le (z := (aT A).2.2.1) t1 hk
              have l2 := cLa_ge (z := (aT A).2.2.1) t1 hk
              have kq := mq_isKept pp t1 t2 hk
              have oo : ((1 : Int32) = 0) = False := eq_false (by decide)
              have zz : ((0 : Int32) = 0) = True := eq_true rfl
              show f_X9_at_L25 (nI p) (nI j) (f + 1) (nI k) w' = _
              rw [f_X9_at_L25]
              by_cases c : k < cK (aT A).1 (aT A).2.1 (aT A).2.2.1
              · rw [if_pos c] at kq
                by_cases d : cFi (aT A).1 (aT A).2.1 (aT A).2.2.1 k ≤ p ∧ p ≤ cLa (aT A).1 (aT A).2.1 (aT A).2.2.1 k
                · have b : pIb (aT A).1 (aT A).2.1 (aT A).2.2.1 p k = true := by simp [pIb, c, d]
                  have q : (nI (cFi (aT A).1 (aT A).2.1 (aT A).2.2.1 k) ≤ nI p ∧ nI p ≤ nI (cLa (aT A).1 (aT A).2.1 (aT A).2.2.1 k)) = True := eq_true ⟨(nI_leI (by omega) (by omega)).mpr d.1, (nI_leI (by omega) (by omega)).mpr d.2⟩
                  simp (disch := omega) only [↓jlt_e2, pp.1, le_F, if_false, j0', kq, jcb_s2, oo, mq_first hn pp t1 t3 hk, mq_last hn pp t1 t3 hk, sp_in, q, if_true, b, pOI_s]
                · have b : (pIb (aT A).1 (aT A).2.1 (aT A).2.2.1 p k = true) = False := eq_false (by simp [pIb, c]; omega)
                  have q : (nI (cFi (aT A).1 (aT A).2.1 (aT A).2.2.1 k) ≤ nI p ∧ nI p ≤ nI (cLa (aT A).1 (aT A).2.1 (aT A).2.2.1 k)) = False := eq_false fun z => d ⟨(nI_leI (by omega) (by omega)).mp z.1, (nI_leI (by omega) (by omega)).mp z.2⟩
                  simp (disch := omega) only [↓jlt_e2, pp.1, le_F, if_false, j0', kq, jcb_s2, oo, mq_first hn pp t1 t3 hk, mq_last hn pp t1 t3 hk, sp_in, q, if_true, b, nI_1]
              · rw [if_neg c] at kq
                have b : (pIb (aT A).1 (aT A).2.1 (aT A).2.2.1 p k = true) = False := eq_false (by simp [pIb, c])
                simp (disch := omega) only [↓jlt_e2, pp.1, le_F, if_false, j0', kq, jcb_s2, if_true, b, nI_1]
            · show f_X9_at_L25 (nI p) (nI j) (f + 1) (nI (cM (aT A).1 (aT A).2.1)) w' = _
              rw [f_X9_at_L25, jlt_eq, pp.1, if_pos ((nI_leI (by omega) (by omega)).mpr (Nat.le_refl _))]
              rfl
      · refine pQry_of (r := -1) (fun w hC => ⟨w, ?_, hC.self⟩) (fun w hM => ⟨w, ?_, hM.self⟩)
        · obtain ⟨t, ht, -⟩ := hC.xt hX
          rw [f_X1_at, jlt_eq, ht, jcs_s2, c_isPlace_T (hC.now hX).1 h, jcb_s2, if_neg n10, cIn_F hy (by decide) rfl (by decide), jcb_s2, if_pos rfl]
        · rw [f_X9_at, m_isPlace_T (hM.xt hX).1 (hM.mn hA hX) h, jcb_s2, if_neg n10, mIn_F hy (by decide) (by decide), jcb_s2, if_pos rfl]
    · refine pQry_of (r := -1) (fun w hC => ⟨w, ?_, hC.self⟩) (fun w hM => ⟨w, ?_, hM.self⟩)
      · obtain ⟨t, ht, -⟩ := hC.xt hX
        rw [f_X1_at, jlt_eq, ht, jcs_s2, c_isPlace_F (hC.now hX).1 h, jcb_s2, if_pos rfl]
      · rw [f_X9_at, m_isPlace_F (hM.xt hX).1 (hM.mn hA hX) h, jcb_s2, if_pos rfl]
/-- the component's lines, matched where peaks are -/
theorem pSl_P {n k : Nat} {s : Nat → Nat} (h0 : 0 < n) (hn : n ≤ 48) (hk : k < cM s n) : pSl (nI (cP s n k) + 0) := by
  have := cP_lt (s := s) h0 hk
  rw [show nI (cP s n k) + 0 = nI (cP s n k) from nI_add _ 0]
  exact pSl_nI (by omega)
theorem c_matched (hC : RelC A w) (hA : wfA A) (hX : aX A = some X) (hP : pCP w 0 1 (aT A).1 (aT A).2.1 (aT A).2.2.1) {t : Nat} (ht : jgr w 0 0 7 = some t) : ∃ w', f_X5_matches 0 t 0 w = some (nI (cMa (sI X.1) X.2.1 (nI X.2.2.1) 0 (aT A).1 (aT A).2.1 (aT A).2.2.1).2.2, w') ∧ cOK w w' ∧ pCP w' 0 1 (aT A).1 (aT A).2.1 (aT A).2.2.1 ∧ (∀ k, k < cM (aT A).1 (aT A).2.1 → jgi w' 31 0 k = pOI ((cMa (sI X.1) X.2.1 (nI X.2.2.1) 0 (aT A).1 (aT A).2.1 (aT A).2.2.1).1 k)) ∧ ∀ l, l < X.2.1 → jgi w' 30 0 l = pOI ((cMa (sI X.1) X.2.1 (nI X.2.2.1) 0 (aT A).1 (aT A).2.1 (aT A).2.2.1).2.1 l) := by
  obtain ⟨hwX, t1, t2, t3, t4, t5⟩ := hA.x hX
  obtain ⟨t', ht', hx, -⟩ := hC.xt hX
  have : t' = t := Option.some.inj (ht'.symm.trans ht)
  subst this
  obtain ⟨w', e, g, a1, a2⟩ := cq_matches hx hP t1 t2 (by_ := 0) (fun k hk => pSl_P t1 t2 hk)
  exact ⟨w', e, cOK_T hC g, hP.same g (fun κ i k z => by unfold KT; omega), a1, a2⟩
theorem c_strLen {q n : Nat} {c : Nat → Nat} (h : pStr w q n c) : f_J3_length_k15 q w = some (nI n, w) := by
  obtain ⟨b, h1, h2, h3, -⟩ := h
  have sh : ∀ x : Int32, x >>> ((0 : Int32) &&& 31) = x := fun x => by
    rw [show ((0 : Int32) &&& 31) = 0 from by decide]
    exact Int32.shiftRight_zero
  rw [f_J3_length_k15, jlt_eq, h1, job_s2, f_J3_coder_k15, if_neg n10, jlt_eq, h2, if_pos (by decide), jcb_s2, sh, h3]
  rfl
/-- line -/
theorem q_line (hA : wfA A) (x y : Int32) : pQry A (f_X1_line x y) (f_X9_line x y) := by
  cases hX : aX A with
  | none =>
    refine pQry_of (r := -1) (fun w hC => ⟨w, ?_, hC.self⟩) (fun w hM => ⟨w, ?_, hM.self⟩)
    · rw [f_X1_line, jlt_eq, hC.x0 hX, jcs_n2]
    · rw [f_X9_line, jlt_eq, (hM.x0 hX).1, if_pos rfl]
  | some X =>
    obtain ⟨⟨l1, l2, l3, l4⟩, t1, t2, t3, t4, t5⟩ := hA.x hX
    by_cases h : qAt x X.2.1
    · by_cases hy : qAt y 3
      · have h' := h
        obtain ⟨l, hl, rfl⟩ := h
        have hy' := hy
        obtain ⟨j, hj, rfl⟩ := hy
        have cc : ∀ w, RelC A w → ∃ t, jgr w 0 0 7 = some t ∧ pXc w t X ∧ f_X1_line (nI l) (nI j) w = (if nI j = 0 then jlt (jgr w 0 0 7) fun v44 => job v44 fun y46 => jbd (nI l) 8 fun a49 => jlt (jgi w 35 y46 a49) fun v50 => some (v50, w) else if nI j = 2 then jlt (jgr w 0 0 7) fun v31 => job v31 fun y33 => jbd (nI l) 8 fun a36 => jlt (jgr w 34 y33 a36) fun v37 => job v37 fun y39 => jcb (f_J3_length_k15 y39 w) fun v41 w42 => some (v41, w42) else jcb (f_X1_found w) fun _ w17 => jlt (jgr w17 0 0 7) fun v20 => job v20 fun y22 => jcb (f_X5_matches 0 y22 0 w17) fun v24 w25 => jbd (nI l) 8 fun a29 => jlt (jgi w25 30 0 a29) fun v30 => some (v30, w25)) := fun w hC => by
          obtain ⟨t, ht, hx⟩ := hC.xt hX
          refine ⟨t, ht, hx, ?_⟩
          rw [f_X1_line, jlt_eq, ht, jcs_s2, jlt_eq, job_s2, jlt_eq, hx.1.1, cIn_T h' (by omega) rfl rfl, jcb_s2, if_neg n10, cIn_T hy' (by decide) rfl (by decide), jcb_s2, if_neg n10, ht]
        have mm : ∀ w, RelM A w → ∃ w', mOK w w' ∧ pMl w' (sI X.1) X.2.1 (nI X.2.2.1) 0 (aT A).1 (aT A).2.1 (aT A).2.2.1 ∧ RelM A w' ∧ f_X9_line (nI l) (nI j) w = (if nI j = 0 then jbd (nI l) 8 fun a19 => jlt (jgi w' 49 0 a19) fun v20 => some (v20, w') else if nI j = 1 then jbd (nI l) 8 fun a16 => jlt (jgi w' 60 0 a16) fun v17 => some (v17, w') else jbd (nI l) 8 fun a13 => jlt (jgi w' 50 0 a13) fun v14 => some (v14, w')) := fun w hM => by
          obtain ⟨w', e, o, hn, pp, ll⟩ := m_found hM hA hX
          refine ⟨w', o, ll, hM.ok o, ?_⟩
          rw [f_X9_line, jlt_eq, (hM.xt hX).1, if_neg n10, jlt_eq, (hM.xt hX).2.1.1, mIn_T h' (by omega) rfl, jcb_s2, if_neg n10, mIn_T hy' (by decide) (by decide), jcb_s2, if_neg n10, e, jcb_s2]
        rcases (show j = 0 ∨ j = 1 ∨ j = 2 by omega) with rfl | rfl | rfl
        · refine pQry_of (r := nI (X.1 l)) (fun w hC => ?_) (fun w hM => ?_)
          · obtain ⟨t, ht, hx, e⟩ := cc w hC
            exact ⟨w, by rw [e, if_pos (by decide), jlt_eq, ht, job_s2, jbd_nI (by omega) (by decide), jlt_eq, hx.1.2.2.1 l hl]; rfl, hC.self⟩
          · obtain ⟨w', o, ll, r, e⟩ := mm w hM
            exact ⟨w', by rw [e, if_pos (by decide), jbd_nI (by omega) (by decide), jlt_eq, (r.xt hX).2.1.2.2.1 l hl]; rfl, o⟩
        · refine pQry_of (r := pOI ((cMa (sI X.1) X.2.1 (nI X.2.2.1) 0 (aT A).1 (aT A).2.1 (aT A).2.2.1).2.1 l)) (fun w hC => ?_) (fun w hM => ?_)
          · obtain ⟨t, ht, hx, e⟩ := cc w hC
            obtain ⟨w1, e1, o1, p1⟩ := c_found hC hA hX
            have hC1 := hC.ok o1
            obtain ⟨t', ht', -⟩ := hC1.xt hX
            obtain ⟨w2, e2, o2, -, -, a2⟩ := c_matched hC1 hA hX p1 ht'
            exact ⟨w2, by rw [e, if_neg (by decide), if_neg (by decide), e1, jcb_s2, jlt_eq, ht', job_s2, e2, jcb_s2, jbd_nI (by omega) (by decide), jlt_eq, a2 l hl], o1.trans o2⟩
          · obtain ⟨w', o, ll, r, e⟩ := mm w hM
            exact ⟨w', by rw [e, if_neg (by decide), if_pos (by decide), jbd_nI (by omega) (by decide), jlt_eq, ll.2.2 l (by omega)], o⟩
        · refine pQry_of (r := nI (X.2.2.2.1 l)) (fun w hC => ?_) (fun w hM => ?_)
          · obtain ⟨t, ht, hx, e⟩ := cc w hC
            obtain ⟨q, hq, hs⟩ := hx.2.2 l hl
            exact ⟨w, by rw [e, if_neg (by decide), if_pos (by decide), jlt_eq, ht, job_s2, jbd_nI (by omega) (by decide), jlt_eq, hq, job_s2, c_strLen hs, jcb_s2], hC.self⟩
          · obtain ⟨w', o, ll, r, e⟩ := mm w hM
            exact ⟨w', by rw [e, if_neg (by decide), if_neg (by decide), jbd_nI (by omega) (by decide), jlt_eq, ((r.xt hX).2.2.1 l hl).1], o⟩
      · refine pQry_of (r := -1) (fun w hC => ⟨w, ?_, hC.self⟩) (fun w hM => ⟨w, ?_, hM.self⟩)
        · obtain ⟨t, ht, hx⟩ := hC.xt hX
          rw [f_X1_line, jlt_eq, ht, jcs_s2, jlt_eq, job_s2, jlt_eq, hx.1.1, cIn_T h (by omega) rfl rfl, jcb_s2, if_neg n10, cIn_F hy (by decide) rfl (by decide), jcb_s2, if_pos rfl]
        · rw [f_X9_line, jlt_eq, (hM.xt hX).1, if_neg n10, jlt_eq, (hM.xt hX).2.1.1, mIn_T h (by omega) rfl, jcb_s2, if_neg n10, mIn_F hy (by decide) (by decide), jcb_s2, if_pos rfl]
    · refine pQry_of (r := -1) (fun w hC => ⟨w, ?_, hC.self⟩) (fun w hM => ⟨w, ?_, hM.self⟩)
      · obtain ⟨t, ht, hx⟩ := hC.xt hX
        rw [f_X1_line, jlt_eq, ht, jcs_s2, jlt_eq, job_s2, jlt_eq, hx.1.1, cIn_F h (by omega) rfl rfl, jcb_s2, if_pos rfl]
      · rw [f_X9_line, jlt_eq, (hM.xt hX).1, if_neg n10, jlt_eq, (hM.xt hX).2.1.1, mIn_F h (by omega) rfl, jcb_s2, if_pos rfl]
end ASK3
