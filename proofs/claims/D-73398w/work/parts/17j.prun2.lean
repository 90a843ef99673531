/-! the pure law: run -/
section RUN2
variable {w w' : j_St} {A A' : pA} {X : pX}
theorem cOK_KD2 (hC : RelC A w) (g : pSame (KD 2) w w') (p0 : WfP 0 w') : cOK w w' := by
  refine cOK_of g (fun κ i k y => ?_) p0 (hC.2.2.2.2.2.2.2.2.1.same g (fun κ i k x _ y => by unfold KP at x; unfold KD KP at y; omega))
  unfold KD KP at y
  unfold KS
  rcases y with y | y | y
  · exact Or.inl (by omega)
  · exact Or.inr (Or.inl ⟨y.1, by omega⟩)
  · exact Or.inr (Or.inr ⟨Or.inl y.1, by omega⟩)
theorem p_run (hA : wfA A) (hX : aX A = some X) {j : Nat} (hj : j < aSm A) {y : Nat} (hy : y < 2) : pQry A (f_X1_run (nI j) (nI y)) (f_X9_run (nI j) (nI y)) := by
  have hsm := hA.2.1.1
  obtain ⟨m1, m2, m3⟩ := hA.2.1.2 j hj
  obtain ⟨hwX, t1, t2, t3, t4, t5⟩ := hA.x hX
  have hj' : qAt (nI j) (aSm A) := ⟨j, hj, rfl⟩
  have hy' : qAt (nI y) 2 := ⟨y, hy, rfl⟩
  obtain ⟨s', n', z', r, hr, b1, b2, b3, b4, cs, ms⟩ := run_all (j := j) (by omega) m2 m3 (aSc A j).1 0 (aT A).1 (aT A).2.1 (aT A).2.2.1 (by omega) t1 t2 t3 t4
  refine pQry_of2 (r := if y = 1 then nI (cK s' n' z') else if r = (aSc A j).1 then -1 else nI r) (fun w hC => ?_) (fun w hM => ?_)
  · obtain ⟨t, ht, -⟩ := hC.xt hX
    obtain ⟨q, hq, hS⟩ := hC.2.1.2 j hj
    obtain ⟨w1, e1, o1, n1, z1⟩ := c_try hC hA hX
    have hC1 := hC.ok o1
    have hq1 : jgr w1 22 0 j = some q := by rw [o1.1.2.2.1 _ _ _ (by unfold KQ KS KN; omega)]; exact hq
    obtain ⟨w2, e2, g2, n2, z2, W2⟩ := cs jFU w1 q (fun (v39 : Int32) (w40 : j_St) => if nI y = 1 then jcb (f_X8_kept 2 w40) fun v45 w46 => some (v45, w46) else job (some q) fun y41 => jlt (jgi w40 7 y41 2) fun v43 => if v39 = v43 then some ((-1), w40) else some (v39, w40)) (jFU_gt (by omega)) (hC1.scr hj hq1) n1 z1 hC1.2.2.2.2.2.2.2.1
    have o2 := cOK_KD2 hC1 g2 W2
    have go : ∀ w3 res, (if nI y = 1 then jcb (f_X8_kept 2 w2) fun v45 w46 => some (v45, w46) else job (some q) fun y41 => jlt (jgi w2 7 y41 2) fun v43 => if nI r = v43 then some ((-1), w2) else some (nI r, w2)) = some (res, w3) → f_X1_run (nI j) (nI y) w = some (res, w3) := fun w3 res e3 => by
      rw [f_X1_run, c_isScript_T hC hA hj', jcb_s2, if_neg n10, jlt_eq, ht, jcs_s2, cIn_T hy' (by decide) rfl (by decide), jcb_s2, if_neg n10, jbd_nI (by omega) (by decide), jlt_eq, hq, e1, jcb_s2]
      exact e2.trans e3
    rcases (show y = 0 ∨ y = 1 by omega) with rfl | rfl
    · have hC2 := hC1.ok o2
      have hq2 : jgr w2 22 0 j = some q := by rw [o2.1.2.2.1 _ _ _ (by unfold KQ KS KN; omega)]; exact hq1
      refine ⟨w2, go w2 _ ?_, o1.trans o2⟩
      rw [if_neg (by decide), job_s2, jlt_eq, (hC2.scr hj hq2).2.1, if_neg (show ¬ (0 : Nat) = 1 by decide)]
      by_cases c : r = (aSc A j).1
      · rw [c, if_pos rfl, if_pos rfl]
      · rw [if_neg (fun z => c ((nI_eq (by omega) (by omega)).mp z)), if_neg c]
    · obtain ⟨w3, e3, g3, W3⟩ := c_keptI (i := 2) n2 z2 b1 b3 b4 W2
      have o3 : cOK w2 w3 := cOK_KD2 (hC1.ok o2) (g3.mono fun κ i k y => Or.inl y) W3
      refine ⟨w3, go w3 _ ?_, (o1.trans o2).trans o3⟩
      rw [if_pos (by decide), e3, jcb_s2, if_pos rfl]
  · obtain ⟨x1, x2, x3, x4⟩ := hM.xt hX
    obtain ⟨ga, ea, ha⟩ := m_putAside (w := w)
    have s1 : pSame (fun κ i k => κ = 64 ∧ i = 0) w (jas w 64 0 ga) := jas_same fun k => ⟨rfl, rfl⟩
    have d64 : ∀ k, k < 50 → jgi (jas w 64 0 ga) 64 0 k = jgi w 47 0 k := fun k hk => by rw [jas_get]; exact ha k hk
    generalize jas w 64 0 ga = w1 at ea s1 d64
    have n1 : pMn w1 (sI (aT A).1) (aT A).2.1 (nI (aT A).2.2.1) := (hM.mn hA hX).same s1 (fun k => by omega)
    have L1 : pLn w1 (sI X.1) X.2.1 (nI X.2.2.1) := x2.same s1 (fun k => by omega) ⟨by omega, by omega⟩
    have W1 : WfA w1 := hM.2.2.2.2.2.2.same s1 (fun κ i k a b => by unfold KA at a; omega)
    obtain ⟨r1, r2⟩ := hM.2.1.2 j hj
    obtain ⟨w2, e2, d2⟩ := ms jFU w1 (sI X.1) X.2.1 (nI X.2.2.1) (jFU_gt (by omega)) ⟨by rw [s1.1 _ _ _ (by omega)]; exact r1, fun i hi => by rw [s1.1 _ _ _ (by omega)]; exact r2 i hi⟩ (by rw [s1.1 _ _ _ (by omega)]; exact x1) n1 L1 W1
    obtain ⟨g2, p2, k2, W2⟩ := id d2
    obtain ⟨w3, e3, d3⟩ := m_keptT p2 (d2.lns L1) W2 b1 b3 b4
    obtain ⟨g3, p3, k3, W3⟩ := id d3
    obtain ⟨gb, eb, hb1, hb2⟩ := m_bringBack (w := w3)
    have s4 : pSame (fun κ i k => κ = 47 ∧ i = 0) w3 (jas w3 47 0 gb) := jas_same fun k => ⟨rfl, rfl⟩
    have r47 : ∀ k, jgi (jas w3 47 0 gb) 47 0 k = jgi w 47 0 k := fun k => by
      rw [jas_get]
      by_cases c : k < 50
      · rw [hb1 k c, g3.1 _ _ _ (by unfold KMD KA; omega), g2.1 _ _ _ (by unfold KMD KA; omega), d64 k c]
      · rw [hb2 k (by omega), k3 k (by omega), k2 k (by omega), s1.1 _ _ _ (by omega)]
    generalize jas w3 47 0 gb = w4 at eb s4 r47
    have W4 : WfA w4 := W3.same s4 (fun κ i k a b => by unfold KA at a; omega)
    have sub : ∀ κ i k, KMD κ i k → KM47 κ i k := fun κ i k y => by
      unfold KMD at y
      rcases y with y | y
      · exact Or.inl (Or.inl y)
      · unfold KM47 KMQ
        omega
    have gall : pSame KM47 w w4 := (((s1.mono (K' := KM47) fun κ i k y => by unfold KM47 KMQ; omega).trans (g2.mono sub)).trans (g3.mono sub)).trans (s4.mono (K' := KM47) fun κ i k y => by unfold KM47; omega)
    have hM4 := hM.same47 gall r47 W4
    refine ⟨w4, ?_, hM4, gall.mono fun κ i k y => y.xm⟩
    have e2' : f_X9_goSteps (nI j) 0 w1 = some (nI r, w2) := e2
    rw [f_X9_run, m_isScript_T hM hA hj', jcb_s2, if_neg n10, jlt_eq, x1, if_neg n10, mIn_T hy' (by decide) (by decide), jcb_s2, if_neg n10, ea, jcb_s2, e2', jcb_s2, e3, jcb_s2, eb, jcb_s2]
    rcases (show y = 0 ∨ y = 1 by omega) with rfl | rfl
    · rw [if_neg (by decide), jbd_nI (by omega) (by decide), jlt_eq, (hM4.2.1.2 j hj).1, if_neg (show ¬ (0 : Nat) = 1 by decide)]
      by_cases c : r = (aSc A j).1
      · rw [c, if_pos rfl, if_pos rfl]
      · rw [if_neg (fun z => c ((nI_eq (by omega) (by omega)).mp z)), if_neg c]
    · rw [if_pos (by decide), if_pos rfl]
theorem o_run (hA : wfA A) (x y : Int32) : pOp A (f_X1_run x y) (f_X9_run x y) := by
  refine pQry.op hA ?_
  have hsm := hA.2.1.1
  by_cases h : qAt x (aSm A)
  · have h' := h
    obtain ⟨j, hj, rfl⟩ := h
    cases hX : aX A with
    | none =>
      refine pQry_of (r := -1000000) (fun w hC => ⟨w, ?_, hC.self⟩) (fun w hM => ⟨w, ?_, hM.self⟩)
      · rw [f_X1_run, c_isScript_T hC hA h', jcb_s2, if_neg n10, jlt_eq, hC.x0 hX, jcs_n2]
      · rw [f_X9_run, m_isScript_T hM hA h', jcb_s2, if_neg n10, jlt_eq, (hM.x0 hX).1, if_pos rfl]
    | some X =>
      by_cases h2 : qAt y 2
      · obtain ⟨u, hu, rfl⟩ := h2
        exact p_run hA hX hj hu
      · refine pQry_of (r := -1000000) (fun w hC => ⟨w, ?_, hC.self⟩) (fun w hM => ⟨w, ?_, hM.self⟩)
        · obtain ⟨t, ht, -⟩ := hC.xt hX
          rw [f_X1_run, c_isScript_T hC hA h', jcb_s2, if_neg n10, jlt_eq, ht, jcs_s2, cIn_F h2 (by decide) rfl (by decide), jcb_s2, if_pos rfl]
        · rw [f_X9_run, m_isScript_T hM hA h', jcb_s2, if_neg n10, jlt_eq, (hM.xt hX).1, if_neg n10, mIn_F h2 (by decide) (by decide), jcb_s2, if_pos rfl]
  · refine pQry_of (r := -1000000) (fun w hC => ⟨w, ?_, hC.self⟩) (fun w hM => ⟨w, ?_, hM.self⟩)
    · rw [f_X1_run, c_isScript_F hC hA h, jcb_s2, if_pos rfl]
    · rw [f_X9_run, m_isScript_F hM hA h, jcb_s2, if_pos rfl]
end RUN2
