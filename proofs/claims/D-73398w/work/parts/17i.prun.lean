/-! the pure law: scripts are performed, and run -/
section RUN
variable {w w' : j_St} {A A' : pA} {X : pX}
theorem pScG (hA : wfA A) {j : Nat} (hj : j < aSm A) {m : Nat} (hm : m < (aSc A j).1) : ∃ q, q < 10 ∧ (aSc A j).2 (3 * m) = nI q := (hA.2.1.2 j hj).2.2 m hm
theorem c_num {q : Nat} {S : Nat × (Nat → Int32)} (h : pSc w q S) {m : Nat} (hm : m < S.1) (h12 : S.1 ≤ 12) : jgi w 36 q m = S.2 (3 * m) ∧ f_X13_number q (nI m) 0 w = some (S.2 (3 * m + 1), w) ∧ f_X13_number q (nI m) 1 w = some (S.2 (3 * m + 2), w) := by
  obtain ⟨r1, r2, r3⟩ := h.2.2 m hm
  refine ⟨r1, ?_, ?_⟩
  · rw [f_X13_number, show (2 : Int32) * nI m + 0 = nI (2 * m) by rw [show (2 : Int32) * nI m = nI 2 * nI m from rfl, nI_mul, show (0 : Int32) = nI 0 from rfl, nI_add]; rfl, jbd_nI (by omega) (by decide), jlt_eq, r2]
  · rw [f_X13_number, show (2 : Int32) * nI m + 1 = nI (2 * m + 1) by rw [show (2 : Int32) * nI m = nI 2 * nI m from rfl, nI_mul, nI_1], jbd_nI (by omega) (by decide), jlt_eq, r3]
theorem m_ix {j m : Nat} : (3 : Int32) * (12 * nI j + nI m) = nI (36 * j + 3 * m) := by
  rw [show (3 : Int32) * (12 * nI j + nI m) = nI 3 * (nI 12 * nI j + nI m) from rfl, nI_mul, nI_add, nI_mul]
  congr 1
  omega
theorem RelC.scr (hC : RelC A w) {j q : Nat} (hj : j < aSm A) (hq : jgr w 22 0 j = some q) : pSc w q (aSc A j) := by
  obtain ⟨q', a1, a2⟩ := hC.2.1.2 j hj
  rw [hq] at a1
  cases a1
  exact a2
theorem steps_all {j : Nat} (hj4 : j < 4) : ∀ (c m : Nat) (A : pA), j < aSm A → m + c = (aSc A j).1 → wfA A → aX A = some X → ∃ A' r, wfA A' ∧ aX A' = some X ∧
    (∀ f w q, c < f → RelC A w → jgr w 22 0 j = some q → ∃ w', f_X1_perform_L26 (some q) f (nI m) (4 * m) (236 * m) w = some (r, w') ∧ RelC A' w' ∧ pSame KXC w w') ∧
    ∀ f w, c < f → RelM A w → ∃ w', f_X9_goSteps_L2 (nI j) 1 (fun (w45 : j_St) => jbd (nI j) 5 fun a47 => jlt (jgi w45 46 0 a47) fun v48 => some (v48, w45)) f (nI m) w = some (r, w') ∧ RelM A' w' ∧ pSame KXM w w' := by
  intro c
  induction c with
  | zero =>
    intro m A hj hm hA hX
    obtain ⟨m1, m2, -⟩ := hA.2.1.2 j hj
    have hm : m = (aSc A j).1 := by omega
    refine ⟨A, nI m, hA, hX, fun f w q hf hC hq => ?_, fun f w hf hM => ?_⟩
    · obtain ⟨f, rfl⟩ : ∃ f', f = f' + 1 := ⟨f - 1, by omega⟩
      obtain ⟨s1, s2, s3⟩ := hC.scr hj hq
      exact ⟨w, by rw [f_X1_perform_L26, job_s2, jlt_eq, s2, ← hm, if_pos (Int32.le_refl _), if_pos ⟨by omega, by omega⟩], hC, pSame.refl⟩
    · obtain ⟨f, rfl⟩ : ∃ f', f = f' + 1 := ⟨f - 1, by omega⟩
      obtain ⟨s1, s2⟩ := hM.2.1.2 j hj
      exact ⟨w, by rw [f_X9_goSteps_L2, jbd_nI (by omega) (by decide), jlt_eq, s1, ← hm, if_pos (Int32.le_refl _), jbd_nI (by omega) (by decide), jlt_eq, s1, ← hm], hM, pSame.refl⟩
  | succ c ih =>
    intro m A hj hm hA hX
    obtain ⟨m1, m2, -⟩ := hA.2.1.2 j hj
    have hml : m < (aSc A j).1 := by omega
    have ng : ¬ nI (aSc A j).1 ≤ nI m := fun z => by have := (nI_leI (a := (aSc A j).1) (b := m) (by omega) (by omega)).mp z; omega
    obtain ⟨o, ho, hqo⟩ := pScG hA hj hml
    by_cases hy : dWhy o ((aSc A j).2 (3 * m + 1)) ((aSc A j).2 (3 * m + 2)) (aT A).2.1 = -1
    · obtain ⟨A2, r, hA2, hX2, cs, ms⟩ := ih (m + 1) (actA A o ((aSc A j).2 (3 * m + 1)) ((aSc A j).2 (3 * m + 2))) hj (show m + 1 + c = (aSc A j).1 by omega) (actA_wf hA hX ho hy) (actA_X.trans hX)
      refine ⟨A2, r, hA2, hX2, fun f w q hf hC hq => ?_, fun f w hf hM => ?_⟩
      · obtain ⟨f, rfl⟩ : ∃ f', f = f' + 1 := ⟨f - 1, by omega⟩
        have hs := hC.scr hj hq
        obtain ⟨n1, n2, n3⟩ := c_num hs hml m2
        obtain ⟨w1, e1, r1, g1, -, l1⟩ := c_acts_T hC hA hX ho hy
        obtain ⟨w2, e2, r2, g2⟩ := cs f w1 q (by omega) r1 (by rw [l1.2]; exact hq)
        refine ⟨w2, ?_, r2, g1.trans g2⟩
        rw [f_X1_perform_L26, job_s2, jlt_eq, hs.2.1, if_neg ng, jbd_nI (by omega) (by decide), jlt_eq, n1, if_pos ⟨by omega, by omega⟩, n2, jcb_s2, if_pos ⟨by omega, by omega⟩, n3, jcb_s2, if_pos ⟨by omega, by omega⟩, hqo, e1, jcb_s2, if_pos rfl, jlt_eq, nI_1]
        exact e2
      · obtain ⟨f, rfl⟩ : ∃ f', f = f' + 1 := ⟨f - 1, by omega⟩
        obtain ⟨s1, s2⟩ := hM.2.1.2 j hj
        obtain ⟨w1, e1, r1, g1, -⟩ := m_act hM hA hX ho hy
        obtain ⟨w2, e2, r2, g2⟩ := ms f w1 (by omega) r1
        refine ⟨w2, ?_, r2, g1.trans g2⟩
        have b0 := s2 (3 * m) (by omega)
        have b1 := s2 (3 * m + 1) (by omega)
        have b2 := s2 (3 * m + 2) (by omega)
        rw [f_X9_goSteps_L2, jbd_nI (by omega) (by decide), jlt_eq, s1, if_neg ng, m_ix, jlt_eq, jbd_nI (by omega) (by decide), jlt_eq, b0, nI_1, jbd_nI (by omega) (by decide), jlt_eq, show 36 * j + 3 * m + 1 = 36 * j + (3 * m + 1) by omega, b1, show nI (36 * j + 3 * m) + 2 = nI (36 * j + (3 * m + 2)) from nI_add _ 2, jbd_nI (by omega) (by decide), jlt_eq, b2, hqo, m_why (hM.xt hX).1 (hM.mn hA hX) ho, jcb_s2, if_pos hy, jlt_eq]
        dsimp only
        rw [if_neg n10, jbd_nI (by omega) (by decide), jlt_eq, b0, jbd_nI (by omega) (by decide), jlt_eq, b1, jbd_nI (by omega) (by decide), jlt_eq, b2, hqo, e1, jcb_s2, jlt_eq, nI_1]
        exact e2
    · refine ⟨A, nI m, hA, hX, fun f w q hf hC hq => ?_, fun f w hf hM => ?_⟩
      · obtain ⟨f, rfl⟩ : ∃ f', f = f' + 1 := ⟨f - 1, by omega⟩
        have hs := hC.scr hj hq
        obtain ⟨n1, n2, n3⟩ := c_num hs hml m2
        obtain ⟨w1, e1, o1⟩ := c_acts_F hC hA hX ho hy
        refine ⟨w1, ?_, hC.ok o1, o1.xc⟩
        rw [f_X1_perform_L26, job_s2, jlt_eq, hs.2.1, if_neg ng, jbd_nI (by omega) (by decide), jlt_eq, n1, if_pos ⟨by omega, by omega⟩, n2, jcb_s2, if_pos ⟨by omega, by omega⟩, n3, jcb_s2, if_pos ⟨by omega, by omega⟩, hqo, e1, jcb_s2, if_neg hy, if_pos ⟨by omega, by omega⟩]
      · obtain ⟨f, rfl⟩ : ∃ f', f = f' + 1 := ⟨f - 1, by omega⟩
        obtain ⟨s1, s2⟩ := hM.2.1.2 j hj
        refine ⟨w, ?_, hM, pSame.refl⟩
        have b0 := s2 (3 * m) (by omega)
        have b1 := s2 (3 * m + 1) (by omega)
        have b2 := s2 (3 * m + 2) (by omega)
        rw [f_X9_goSteps_L2, jbd_nI (by omega) (by decide), jlt_eq, s1, if_neg ng, m_ix, jlt_eq, jbd_nI (by omega) (by decide), jlt_eq, b0, nI_1, jbd_nI (by omega) (by decide), jlt_eq, show 36 * j + 3 * m + 1 = 36 * j + (3 * m + 1) by omega, b1, show nI (36 * j + 3 * m) + 2 = nI (36 * j + (3 * m + 2)) from nI_add _ 2, jbd_nI (by omega) (by decide), jlt_eq, b2, hqo, m_why (hM.xt hX).1 (hM.mn hA hX) ho, jcb_s2, if_neg hy]
theorem o_perform (hA : wfA A) (x : Int32) : pOp A (f_X1_perform x) (f_X9_perform x) := by
  have hsm := hA.2.1.1
  by_cases h : qAt x (aSm A)
  · have h' := h
    obtain ⟨j, hj, rfl⟩ := h
    cases hX : aX A with
    | none =>
      refine (pQry_of (r := -1) (fun w hC => ⟨w, ?_, hC.self⟩) (fun w hM => ⟨w, ?_, hM.self⟩)).op hA
      · rw [f_X1_perform, c_isScript_T hC hA h', jcb_s2, if_neg n10, jlt_eq, hC.x0 hX, jcs_n2]
      · rw [f_X9_perform, m_isScript_T hM hA h', jcb_s2, if_neg n10, jlt_eq, (hM.x0 hX).1, if_pos rfl]
    | some X =>
      obtain ⟨A2, r, hA2, hX2, cs, ms⟩ := steps_all (X := X) (j := j) (by omega) (aSc A j).1 0 A hj (by omega) hA hX
      have m2 := (hA.2.1.2 j hj).2.1
      refine pOp_of (A' := A2) (r := r) hA2 (fun w hC => ?_) (fun w hM => ?_)
      · obtain ⟨t, ht, -⟩ := hC.xt hX
        obtain ⟨q, hq, -⟩ := hC.2.1.2 j hj
        obtain ⟨w1, e1, r1, g1⟩ := cs jFU w q (jFU_gt (by omega)) hC hq
        refine ⟨w1, ?_, r1, g1⟩
        rw [f_X1_perform, c_isScript_T hC hA h', jcb_s2, if_neg n10, jlt_eq, ht, jcs_s2, jbd_nI (by omega) (by decide), jlt_eq, hq]
        exact e1
      · obtain ⟨w1, e1, r1, g1⟩ := ms jFU w (jFU_gt (by omega)) hM
        refine ⟨w1, ?_, r1, g1⟩
        rw [f_X9_perform, m_isScript_T hM hA h', jcb_s2, if_neg n10, jlt_eq, (hM.xt hX).1, if_neg n10, f_X9_goSteps]
        have e1' : f_X9_goSteps_L2 (nI j) 1 (fun (w45 : j_St) => jbd (nI j) 5 fun a47 => jlt (jgi w45 46 0 a47) fun v48 => some (v48, w45)) jFU 0 w = some (r, w1) := e1
        rw [e1', jcb_s2]
  · refine (pQry_of (r := -1) (fun w hC => ⟨w, ?_, hC.self⟩) (fun w hM => ⟨w, ?_, hM.self⟩)).op hA
    · rw [f_X1_perform, c_isScript_F hC hA h, jcb_s2, if_pos rfl]
    · rw [f_X9_perform, m_isScript_F hM hA h, jcb_s2, if_pos rfl]
/-- a script is run upon a trial -/
theorem run_all {j : Nat} (hj4 : j < 4) {S : Nat × (Nat → Int32)} (h12 : S.1 ≤ 12) (hS : ∀ i, i < S.1 → ∃ q, q < 10 ∧ S.2 (3 * i) = nI q) : ∀ (c m : Nat) (s : Nat → Nat) (n z : Nat), m + c = S.1 → 0 < n → n ≤ 48 → (∀ k, k < n → s k ≤ 999) → z ≤ 999 → ∃ (s' : Nat → Nat) (n' z' : Nat) (r : Nat), r < 13 ∧ 0 < n' ∧ n' ≤ 48 ∧ (∀ k, k < n' → s' k ≤ 999) ∧ z' ≤ 999 ∧
    (∀ f w q (kk : Int32 → j_St → Option (Int32 × j_St)), c < f → pSc w q S → pCn w 5 (sI s) n → jgi w 5 2 2 = nI z → WfP 0 w → ∃ w', f_X1_run_L49 (some q) kk f (nI m) w = kk (nI r) w' ∧ pSame (KD 2) w w' ∧ pCn w' 5 (sI s') n' ∧ jgi w' 5 2 2 = nI z' ∧ WfP 0 w') ∧
    ∀ f w (lp : Nat → Int32) (ln : Nat) (rc : Int32), c < f → (jgi w 46 0 j = nI S.1 ∧ ∀ i, i < 3 * S.1 → jgi w 45 0 (36 * j + i) = S.2 i) → jgi w 1 0 29 = 1 → pMn w (sI s) n (nI z) → pLn w lp ln rc → WfA w → ∃ w', f_X9_goSteps_L2 (nI j) 0 (fun (w45 : j_St) => jbd (nI j) 5 fun a47 => jlt (jgi w45 46 0 a47) fun v48 => some (v48, w45)) f (nI m) w = some (nI r, w') ∧ mDone w w' s' n' z' := by
  intro c
  induction c with
  | zero =>
    intro m s n z hm h0 h48 hs hz9
    have hm : m = S.1 := by omega
    refine ⟨s, n, z, m, by omega, h0, h48, hs, hz9, fun f w q kk hf hq hn hz hW => ?_, fun f w lp ln rc hf hR h29 hn hL hW => ?_⟩
    · obtain ⟨f, rfl⟩ : ∃ f', f = f' + 1 := ⟨f - 1, by omega⟩
      exact ⟨w, by rw [f_X1_run_L49, job_s2, jlt_eq, hq.2.1, ← hm, if_pos (Int32.le_refl _)], pSame.refl, hn, hz, hW⟩
    · obtain ⟨f, rfl⟩ : ∃ f', f = f' + 1 := ⟨f - 1, by omega⟩
      exact ⟨w, by rw [f_X9_goSteps_L2, jbd_nI (by omega) (by decide), jlt_eq, hR.1, ← hm, if_pos (Int32.le_refl _), jbd_nI (by omega) (by decide), jlt_eq, hR.1, ← hm], pSame.refl, hn, fun k _ => rfl, hW⟩
  | succ c ih =>
    intro m s n z hm h0 h48 hs hz9
    have hml : m < S.1 := by omega
    have ng : ¬ nI S.1 ≤ nI m := fun y => by have := (nI_leI (a := S.1) (b := m) (by omega) (by omega)).mp y; omega
    obtain ⟨o, ho, hqo⟩ := hS m hml
    by_cases hy : dWhy o (S.2 (3 * m + 1)) (S.2 (3 * m + 2)) n = -1
    · have wT := dDo_wf (T := (s, n, z, 0, fun _ => 0)) ⟨h0, h48, hs, hz9, Nat.zero_le _⟩ hy ho
      obtain ⟨t1, t2, t3, t4, -⟩ := wT
      obtain ⟨s', n', z', r, hr, b1, b2, b3, b4, cs, ms⟩ := ih (m + 1) _ _ _ (by omega) t1 t2 t3 t4
      refine ⟨s', n', z', r, hr, b1, b2, b3, b4, fun f w q kk hf hq hn hz hW => ?_, fun f w lp ln rc hf hR h29 hn hL hW => ?_⟩
      · obtain ⟨f, rfl⟩ : ∃ f', f = f' + 1 := ⟨f - 1, by omega⟩
        obtain ⟨n1, n2, n3⟩ := c_num hq hml h12
        obtain ⟨w1, e1, g1, p1, z1, -, W1⟩ := c_deed_T (i := 2) hn hz h0 hs hz9 hW (nm := 0) (nt := fun _ => 0) ho hy
        have hq1 : pSc w1 q S := ⟨by rw [g1.2.2.2 _ _ (by unfold KD KP; omega)]; exact hq.1, by rw [g1.1 _ _ _ (by unfold KD KP; omega)]; exact hq.2.1, fun i hi => by rw [g1.1 36 _ _ (by unfold KD KP; omega), g1.1 37 _ _ (by unfold KD KP; omega), g1.1 37 _ _ (by unfold KD KP; omega)]; exact hq.2.2 i hi⟩
        obtain ⟨w2, e2, g2, p2, z2, W2⟩ := cs f w1 q kk (by omega) hq1 p1 z1 W1
        refine ⟨w2, ?_, g1.trans g2, p2, z2, W2⟩
        rw [f_X1_run_L49, job_s2, jlt_eq, hq.2.1, if_neg ng, jbd_nI (by omega) (by decide), jlt_eq, n1, n2, jcb_s2, n3, jcb_s2, hqo, e1, jcb_s2, if_pos rfl, jlt_eq, nI_1]
        exact e2
      · obtain ⟨f, rfl⟩ : ∃ f', f = f' + 1 := ⟨f - 1, by omega⟩
        obtain ⟨w1, e1, d1⟩ := m_deed hn hL hW h0 hs hz9 (nm := 0) (nt := fun _ => 0) ho hy
        obtain ⟨g1, p1, k1, W1⟩ := id d1
        obtain ⟨w2, e2, d2⟩ := ms f w1 lp ln rc (by omega) ⟨by rw [g1.1 _ _ _ (by unfold KMD KA; omega)]; exact hR.1, fun i hi => by rw [g1.1 _ _ _ (by unfold KMD KA; omega)]; exact hR.2 i hi⟩ (by rw [g1.1 _ _ _ (by unfold KMD KA; omega)]; exact h29) p1 (d1.lns hL) W1
        refine ⟨w2, ?_, d1.trans (t := s) d2⟩
        have b0 := hR.2 (3 * m) (by omega)
        have b1 := hR.2 (3 * m + 1) (by omega)
        have b2 := hR.2 (3 * m + 2) (by omega)
        rw [f_X9_goSteps_L2, jbd_nI (by omega) (by decide), jlt_eq, hR.1, if_neg ng, m_ix, jlt_eq, jbd_nI (by omega) (by decide), jlt_eq, b0, nI_1, jbd_nI (by omega) (by decide), jlt_eq, show 36 * j + 3 * m + 1 = 36 * j + (3 * m + 1) by omega, b1, show nI (36 * j + 3 * m) + 2 = nI (36 * j + (3 * m + 2)) from nI_add _ 2, jbd_nI (by omega) (by decide), jlt_eq, b2, hqo, m_why h29 hn ho, jcb_s2, if_pos hy, jlt_eq]
        dsimp only
        rw [if_pos rfl, jbd_nI (by omega) (by decide), jlt_eq, b0, jbd_nI (by omega) (by decide), jlt_eq, b1, jbd_nI (by omega) (by decide), jlt_eq, b2, hqo, e1, jcb_s2, jlt_eq, nI_1]
        exact e2
    · refine ⟨s, n, z, m, by omega, h0, h48, hs, hz9, fun f w q kk hf hq hn hz hW => ?_, fun f w lp ln rc hf hR h29 hn hL hW => ?_⟩
      · obtain ⟨f, rfl⟩ : ∃ f', f = f' + 1 := ⟨f - 1, by omega⟩
        obtain ⟨n1, n2, n3⟩ := c_num hq hml h12
        refine ⟨w, ?_, pSame.refl, hn, hz, hW⟩
        rw [f_X1_run_L49, job_s2, jlt_eq, hq.2.1, if_neg ng, jbd_nI (by omega) (by decide), jlt_eq, n1, n2, jcb_s2, n3, jcb_s2, hqo, c_deed_F (i := 2) hn ho hy, jcb_s2, if_neg hy]
      · obtain ⟨f, rfl⟩ : ∃ f', f = f' + 1 := ⟨f - 1, by omega⟩
        refine ⟨w, ?_, pSame.refl, hn, fun k _ => rfl, hW⟩
        have b0 := hR.2 (3 * m) (by omega)
        have b1 := hR.2 (3 * m + 1) (by omega)
        have b2 := hR.2 (3 * m + 2) (by omega)
        rw [f_X9_goSteps_L2, jbd_nI (by omega) (by decide), jlt_eq, hR.1, if_neg ng, m_ix, jlt_eq, jbd_nI (by omega) (by decide), jlt_eq, b0, nI_1, jbd_nI (by omega) (by decide), jlt_eq, show 36 * j + 3 * m + 1 = 36 * j + (3 * m + 1) by omega, b1, show nI (36 * j + 3 * m) + 2 = nI (36 * j + (3 * m + 2)) from nI_add _ 2, jbd_nI (by omega) (by decide), jlt_eq, b2, hqo, m_why h29 hn ho, jcb_s2, if_neg hy]
end RUN
