/-! the pure law: what is asked, second part -/
section ASK2
variable {w w' : j_St} {A : pA} {X : pX}
def cSum (s : Nat → Nat) (n : Nat) : Nat := pIt (fun m x => x + s m) n 0 0
def cMax (s : Nat → Nat) (n : Nat) : Nat := pIt (fun m x => max x (s m)) n 0 0
theorem c_sum {i1 : Nat} {s : Nat → Nat} {n : Nat} (h : pCn w i1 (sI s) n) : f_X3_sum_k4 i1 w = some (nI (cSum s n), w) := by
  have hn := h.2.2
  refine pIt_is' (F := fun f m x => f_X3_sum_k4_L4 i1 f (nI x) (nI m) w) (N := n) (G := fun x => some (nI x, w)) (fun f m x hm => ?_) (fun f x => ?_) n jFU 0 0 (by omega) (jFU_gt (by omega))
  · show f_X3_sum_k4_L4 i1 (f + 1) (nI x) (nI m) w = f_X3_sum_k4_L4 i1 f (nI (x + s m)) (nI (m + 1)) w
    rw [f_X3_sum_k4_L4, sp_cmany h, jcb_s2, if_neg (fun z => by have := (nI_leI (by omega) (by omega)).mp z; omega), sp_cat h hm, jcb_s2, jlt_eq, jlt_eq, nI_1, sI_e, nI_add]
  · show f_X3_sum_k4_L4 i1 (f + 1) (nI x) (nI n) w = _
    rw [f_X3_sum_k4_L4, sp_cmany h, jcb_s2, if_pos ((nI_leI (by omega) (by omega)).mpr (Nat.le_refl _))]
theorem m_sum {s : Nat → Nat} {n : Nat} {z : Int32} (h : pMn w (sI s) n z) : f_X9_sumOf w = some (nI (cSum s n), w) := by
  have hn := h.2.2.2
  refine pIt_is' (F := fun f m x => f_X9_sumOf_L4 f (nI x) (nI m) w) (N := n) (G := fun x => some (nI x, w)) (fun f m x hm => ?_) (fun f x => ?_) n jFU 0 0 (by omega) (jFU_gt (by omega))
  · show f_X9_sumOf_L4 (f + 1) (nI x) (nI m) w = f_X9_sumOf_L4 f (nI (x + s m)) (nI (m + 1)) w
    rw [f_X9_sumOf_L4, sp_many h, jcb_s2, if_neg (fun z => by have := (nI_leI (by omega) (by omega)).mp z; omega), jbd_nI (by omega) (by decide), jlt_eq, h.2.2.1 m hm, jlt_eq, jlt_eq, nI_1, sI_e, nI_add]
  · show f_X9_sumOf_L4 (f + 1) (nI x) (nI n) w = _
    rw [f_X9_sumOf_L4, sp_many h, jcb_s2, if_pos ((nI_leI (by omega) (by omega)).mpr (Nat.le_refl _))]
theorem pMax_b {s : Nat → Nat} {n : Nat} (hs : ∀ k, k < n → s k ≤ 999) : ∀ (c m x : Nat), m + c = n → x ≤ 999 → pIt (fun m x => max x (s m)) c m x ≤ 999 := by
  intro c
  induction c with
  | zero => intro m x _ h; exact h
  | succ c ih =>
    intro m x hm h
    have := hs m (by omega)
    exact ih (m + 1) _ (by omega) (show max x (s m) ≤ 999 by omega)
theorem c_max {i1 : Nat} {s : Nat → Nat} {n : Nat} (h : pCn w i1 (sI s) n) (h0 : 0 < n) (hs : ∀ k, k < n → s k ≤ 999) : f_X3_greatest_k4 i1 w = some (nI (cMax s n), w) := by
  have hn := h.2.2
  have hs0 := hs 0 h0
  rw [f_X3_greatest_k4, show (0 : Int32) = nI 0 from rfl, sp_cat h h0, jcb_s2]
  have := pIt_is (F := fun f m x => f_X3_greatest_k4_L10 i1 f (nI x) (nI m) w) (step := fun m x => max x (s m)) (I := fun _ x => x ≤ 999) (N := n) (G := fun x => some (nI x, w)) (fun f m x hm hx => ?_) (fun m x hm hx => by have := hs m hm; show max x (s m) ≤ 999; omega) (fun f x hx => ?_) (n - 1) jFU 1 (s 0) (by omega) (jFU_gt (by omega)) hs0
  · have e : cMax s n = pIt (fun m x => max x (s m)) (n - 1) 1 (s 0) := by
      unfold cMax
      obtain ⟨k, rfl⟩ : ∃ k, n = k + 1 := ⟨n - 1, by omega⟩
      show pIt _ k 1 (max 0 (s 0)) = _
      rw [Nat.zero_max]
      rfl
    rw [e]
    exact this
  · have := hs m hm
    show f_X3_greatest_k4_L10 i1 (f + 1) (nI x) (nI m) w = f_X3_greatest_k4_L10 i1 f (nI (max x (s m))) (nI (m + 1)) w
    rw [f_X3_greatest_k4_L10, sp_cmany h, jcb_s2, if_neg (fun z => by have := (nI_leI (by omega) (by omega)).mp z; omega), sp_cat h hm, jcb_s2, jlt_eq, jlt_eq, nI_1, sI_e, jmax_nI (by omega) (by omega)]
  · show f_X3_greatest_k4_L10 i1 (f + 1) (nI x) (nI n) w = _
    rw [f_X3_greatest_k4_L10, sp_cmany h, jcb_s2, if_pos ((nI_leI (by omega) (by omega)).mpr (Nat.le_refl _))]
theorem m_max {s : Nat → Nat} {n : Nat} {z : Int32} (h : pMn w (sI s) n z) (hs : ∀ k, k < n → s k ≤ 999) : f_X9_greatest w = some (nI (cMax s n), w) := by
  have hn := h.2.2.2
  refine pIt_is (F := fun f m x => f_X9_greatest_L4 f (nI x) (nI m) w) (step := fun m x => max x (s m)) (I := fun _ x => x ≤ 999) (N := n) (G := fun x => some (nI x, w)) (fun f m x hm hx => ?_) (fun m x hm hx => by have := hs m hm; show max x (s m) ≤ 999; omega) (fun f x hx => ?_) n jFU 0 0 (by omega) (jFU_gt (by omega)) (by omega)
  · have := hs m hm
    show f_X9_greatest_L4 (f + 1) (nI x) (nI m) w = f_X9_greatest_L4 f (nI (max x (s m))) (nI (m + 1)) w
    rw [f_X9_greatest_L4, sp_many h, jcb_s2, if_neg (fun z => by have := (nI_leI (by omega) (by omega)).mp z; omega), jbd_nI (by omega) (by decide), jlt_eq, h.2.2.1 m hm, jlt_eq, jlt_eq, nI_1, sI_e, jmax_nI (by omega) (by omega)]
  · show f_X9_greatest_L4 (f + 1) (nI x) (nI n) w = _
    rw [f_X9_greatest_L4, sp_many h, jcb_s2, if_pos ((nI_leI (by omega) (by omega)).mpr (Nat.le_refl _))]
theorem c_min {i1 : Nat} {s : Nat → Nat} {n : Nat} (h : pCn w i1 (sI s) n) (h0 : 0 < n) (hs : ∀ k, k < n → s k ≤ 999) : f_X3_least_k4 i1 w = some (nI (cMin s n), w) := by
  rw [sp_cleast h h0, show sI s 0 = nI (s 0) from rfl, pLst_nI hs _ _ _ (by omega) (hs 0 h0)]
  rfl
theorem m_min {s : Nat → Nat} {n : Nat} {z : Int32} (h : pMn w (sI s) n z) (h0 : 0 < n) (hs : ∀ k, k < n → s k ≤ 999) : f_X9_least w = some (nI (cMin s n), w) := by
  rw [sp_least h h0, show sI s 0 = nI (s 0) from rfl, pLst_nI hs _ _ _ (by omega) (hs 0 h0)]
  rfl
/-- rule -/
theorem q_rule (hA : wfA A) (x : Int32) : pQry A (f_X1_rule x) (f_X9_rule x) := by
  cases hX : aX A with
  | none =>
    refine pQry_of (r := -1) (fun w hC => ⟨w, ?_, hC.self⟩) (fun w hM => ⟨w, ?_, hM.self⟩)
    · rw [f_X1_rule, jlt_eq, hC.x0 hX, jcs_n2]
    · rw [f_X9_rule, jlt_eq, (hM.x0 hX).1, if_pos rfl]
  | some X =>
    obtain ⟨hwX, t1, t2, t3, t4, t5⟩ := hA.x hX
    have mm : ∀ w, RelM A w → qAt x 8 → ∃ w', mOK w w' ∧ f_X9_rule x w = (if x = 0 then jcb (f_X9_many w') fun v8 w9 => some (v8, w9) else if x = 1 then jbd 49 231 fun a12 => jlt (jgi w' 47 0 a12) fun v13 => some (v13, w') else if x = 2 then jlt (jgi w' 1 0 28) fun v14 => some (v14, w') else if x = 3 then jlt (jgi w' 1 0 27) fun v15 => some (v15, w') else if x = 4 then jlt (jgi w' 1 0 35) fun v16 => some (v16, w') else if x = 5 then jlt (jgi w' 1 0 38) fun v17 => some (v17, w') else if x = 6 then jcb (f_X9_least w') fun v18 w19 => some (v18, w19) else jcb (f_X9_sumOf w') fun v21 w22 => some (v21, w22)) ∧ RelM A w' ∧ pMP w' (aT A).1 (aT A).2.1 (aT A).2.2.1 := fun w hM hq => by
      obtain ⟨w', e, g1, g2, g3, g4⟩ := m_found hM hA hX
      refine ⟨w', g1, ?_, hM.ok g1, g3⟩
      rw [f_X9_rule, jlt_eq, (hM.xt hX).1, if_neg n10, mIn_T hq (by decide) (by decide), jcb_s2, if_neg n10, e, jcb_s2]
    have cc : ∀ w, RelC A w → f_X1_rule x w = (if x = 0 then jlt (jgi w 4 1 1) fun v7 => some (v7, w) else if x = 1 then jlt (jgi w 5 0 2) fun v9 => some (v9, w) else if x = 2 then jlt (jgr w 0 0 7) fun v10 => job v10 fun y12 => jlt (jgi w 6 y12 5) fun v14 => some (v14, w) else if x = 3 then jlt (jgr w 0 0 7) fun v15 => job v15 fun y17 => jlt (jgi w 6 y17 3) fun v19 => some (v19, w) else if x = 4 then jcb (f_X1_found w) fun _ w21 => jlt (jgi w21 2 0 5) fun v24 => some (v24, w21) else if x = 5 then jcb (f_X8_kept 0 w) fun v26 w27 => some (v26, w27) else if x = 6 then jcb (f_X3_least_k4 1 w) fun v31 w32 => some (v31, w32) else if x = 7 then jcb (f_X3_sum_k4 1 w) fun v36 w37 => some (v36, w37) else some ((-1), w)) := fun w hC => by
      obtain ⟨t, ht, -⟩ := hC.xt hX
      rw [f_X1_rule, jlt_eq, ht, jcs_s2]
    by_cases h0 : x = 0
    · refine pQry_of (r := nI (aT A).2.1) (fun w hC => ⟨w, ?_, hC.self⟩) (fun w hM => ?_)
      · rw [cc w hC, if_pos h0, jlt_eq]
        exact congrArg (fun v => some (v, w)) (hC.now hX).1.1
      · obtain ⟨w', o, e, r, p⟩ := mm w hM ⟨0, by decide, h0⟩
        exact ⟨w', by rw [e, if_pos h0, sp_many (r.mn hA hX), jcb_s2], o⟩
    by_cases h1 : x = 1
    · refine pQry_of (r := nI (aT A).2.2.1) (fun w hC => ⟨w, ?_, hC.self⟩) (fun w hM => ?_)
      · rw [cc w hC, if_neg h0, if_pos h1, jlt_eq, (hC.now hX).2.1]
      · obtain ⟨w', o, e, r, p⟩ := mm w hM ⟨1, by decide, h1⟩
        exact ⟨w', by rw [e, if_neg h0, if_pos h1, jbd_k49 (by decide) (by decide), jlt_eq, (r.mn hA hX).2.1], o⟩
    by_cases h2 : x = 2
    · refine pQry_of (r := nI X.2.2.1) (fun w hC => ⟨w, ?_, hC.self⟩) (fun w hM => ?_)
      · obtain ⟨t, ht, hx⟩ := hC.xt hX
        rw [cc w hC, if_neg h0, if_neg h1, if_pos h2, jlt_eq, ht, job_s2, jlt_eq, hx.1.2.1]
      · obtain ⟨w', o, e, r, p⟩ := mm w hM ⟨2, by decide, h2⟩
        exact ⟨w', by rw [e, if_neg h0, if_neg h1, if_pos h2, jlt_eq, (r.xt hX).2.1.2.1], o⟩
    by_cases h3 : x = 3
    · refine pQry_of (r := nI X.2.1) (fun w hC => ⟨w, ?_, hC.self⟩) (fun w hM => ?_)
      · obtain ⟨t, ht, hx⟩ := hC.xt hX
        rw [cc w hC, if_neg h0, if_neg h1, if_neg h2, if_pos h3, jlt_eq, ht, job_s2, jlt_eq, hx.1.1]
      · obtain ⟨w', o, e, r, p⟩ := mm w hM ⟨3, by decide, h3⟩
        exact ⟨w', by rw [e, if_neg h0, if_neg h1, if_neg h2, if_pos h3, jlt_eq, (r.xt hX).2.1.1], o⟩
    by_cases h4 : x = 4
    · refine pQry_of (r := nI (cM (aT A).1 (aT A).2.1)) (fun w hC => ?_) (fun w hM => ?_)
      · obtain ⟨w', e, o, p⟩ := c_found hC hA hX
        exact ⟨w', by rw [cc w hC, if_neg h0, if_neg h1, if_neg h2, if_neg h3, if_pos h4, e, jcb_s2, jlt_eq, p.2.1], o⟩
      · obtain ⟨w', o, e, r, p⟩ := mm w hM ⟨4, by decide, h4⟩
        exact ⟨w', by rw [e, if_neg h0, if_neg h1, if_neg h2, if_neg h3, if_pos h4, jlt_eq, p.1], o⟩
    by_cases h5 : x = 5
    · refine pQry_of (r := nI (cK (aT A).1 (aT A).2.1 (aT A).2.2.1)) (fun w hC => ?_) (fun w hM => ?_)
      · obtain ⟨w', e, o⟩ := c_kept hC hA hX
        exact ⟨w', by rw [cc w hC, if_neg h0, if_neg h1, if_neg h2, if_neg h3, if_neg h4, if_pos h5, e, jcb_s2], o⟩
      · obtain ⟨w', o, e, r, p⟩ := mm w hM ⟨5, by decide, h5⟩
        exact ⟨w', by rw [e, if_neg h0, if_neg h1, if_neg h2, if_neg h3, if_neg h4, if_pos h5, jlt_eq, p.2.1], o⟩
    by_cases h6 : x = 6
    · refine pQry_of (r := nI (cMin (aT A).1 (aT A).2.1)) (fun w hC => ⟨w, ?_, hC.self⟩) (fun w hM => ?_)
      · have hn := (hC.now hX).1
        rw [cc w hC, if_neg h0, if_neg h1, if_neg h2, if_neg h3, if_neg h4, if_neg h5, if_pos h6, c_min (i1 := 1) hn t1 t3, jcb_s2]
      · obtain ⟨w', o, e, r, p⟩ := mm w hM ⟨6, by decide, h6⟩
        exact ⟨w', by rw [e, if_neg h0, if_neg h1, if_neg h2, if_neg h3, if_neg h4, if_neg h5, if_pos h6, m_min (r.mn hA hX) t1 t3, jcb_s2], o⟩
    by_cases h7 : x = 7
    · refine pQry_of (r := nI (cSum (aT A).1 (aT A).2.1)) (fun w hC => ⟨w, ?_, hC.self⟩) (fun w hM => ?_)
      · have hn := (hC.now hX).1
        rw [cc w hC, if_neg h0, if_neg h1, if_neg h2, if_neg h3, if_neg h4, if_neg h5, if_neg h6, if_pos h7, c_sum (i1 := 1) hn, jcb_s2]
      · obtain ⟨w', o, e, r, p⟩ := mm w hM ⟨7, by decide, h7⟩
        exact ⟨w', by rw [e, if_neg h0, if_neg h1, if_neg h2, if_neg h3, if_neg h4, if_neg h5, if_neg h6, m_sum (r.mn hA hX), jcb_s2], o⟩
    refine pQry_of (r := -1) (fun w hC => ⟨w, ?_, hC.self⟩) (fun w hM => ⟨w, ?_, hM.self⟩)
    · rw [cc w hC, if_neg h0, if_neg h1, if_neg h2, if_neg h3, if_neg h4, if_neg h5, if_neg h6, if_neg h7]
    · have hq : ¬ qAt x 8 := fun ⟨k, hk, e⟩ => by
        rcases (show k = 0 ∨ k = 1 ∨ k = 2 ∨ k = 3 ∨ k = 4 ∨ k = 5 ∨ k = 6 ∨ k = 7 by omega) with rfl | rfl | rfl | rfl | rfl | rfl | rfl | rfl
        · exact h0 e
        · exact h1 e
        · exact h2 e
        · exact h3 e
        · exact h4 e
        · exact h5 e
        · exact h6 e
        · exact h7 e
      rw [f_X9_rule, jlt_eq, (hM.xt hX).1, if_neg n10, mIn_F hq (by decide) (by decide), jcb_s2, if_pos rfl]
/-- noiseFor -/
theorem rng1_iff {x : Int32} {n : Nat} (hn : n < 2 ^ 31) : (1 ≤ x ∧ x ≤ nI n) ↔ ∃ k, 1 ≤ k ∧ k ≤ n ∧ x = nI k := by
  constructor
  · intro ⟨h1, h2⟩
    have h1' := Int32.le_iff_toInt_le.mp h1
    rw [show (1 : Int32).toInt = 1 from rfl] at h1'
    have h0 : ¬ x < 0 := fun z => by rw [Int32.lt_iff_toInt_lt, show (0 : Int32).toInt = 0 from rfl] at z; omega
    obtain ⟨k, hk, e⟩ := nI_of h0
    rw [e] at h2 h1'
    rw [nI_toInt hk] at h1'
    exact ⟨k, by omega, (nI_leI hk hn).mp h2, e⟩
  · intro ⟨k, h1, h2, e⟩
    rw [e]
    exact ⟨(nI_leI (a := 1) (by decide) (by omega)).mpr h1, (nI_leI (by omega) hn).mpr h2⟩
theorem q_noiseFor (hA : wfA A) (x : Int32) : pQry A (f_X1_noiseFor x) (f_X9_noiseFor x) := by
  cases hX : aX A with
  | none =>
    refine pQry_of (r := -1) (fun w hC => ⟨w, ?_, hC.self⟩) (fun w hM => ⟨w, ?_, hM.self⟩)
    · rw [f_X1_noiseFor, jlt_eq, hC.x0 hX, jcs_n2]
    · rw [f_X9_noiseFor, jlt_eq, (hM.x0 hX).1, if_pos rfl]
  | some X =>
    obtain ⟨hwX, t1, t2, t3, t4, t5⟩ := hA.x hX
    by_cases h : (1 : Int32) ≤ x ∧ x ≤ nI 48
    · obtain ⟨k, k1, k2, rfl⟩ := (rng1_iff (by decide)).mp h
      have cT : (1 ≤ nI k ∧ nI k ≤ (48 : Int32)) := h
      have hcm := cM_le (s := (aT A).1) t1
      refine pQry_of (r := if k < cM (aT A).1 (aT A).2.1 then nI (cL (aT A).1 (aT A).2.1 k) else 0) (fun w hC => ?_) (fun w hM => ?_)
      · obtain ⟨t, ht, -⟩ := hC.xt hX
        obtain ⟨w', e, o, p⟩ := c_found hC hA hX
        refine ⟨w', ?_, o⟩
        rw [f_X1_noiseFor, jlt_eq, ht, jcs_s2, sp_isIn (l := 1) (h := 48) (l' := 1) (h' := 48) rfl rfl, if_pos cT, jcb_s2, if_neg n10, e, jcb_s2, jlt_eq, p.2.1]
        by_cases c : k < cM (aT A).1 (aT A).2.1
        · rw [if_neg (fun z => by have := (nI_leI (by omega) (by omega)).mp z; omega), jbd_nI (by omega) (by decide), jlt_eq, cq_row p c, job_s2, cq_pers p t1 t3 c, jcb_s2, if_pos c]
        · rw [if_pos ((nI_leI (by omega) (by omega)).mpr (by omega)), if_neg c]
      · obtain ⟨w', e, o, hn, p, -⟩ := m_found hM hA hX
        refine ⟨w', ?_, o⟩
        rw [f_X9_noiseFor, jlt_eq, (hM.xt hX).1, if_neg n10, sp_in, if_pos cT, jcb_s2, if_neg n10, e, jcb_s2, jlt_eq, p.1]
        by_cases c : k < cM (aT A).1 (aT A).2.1
        · rw [if_neg (fun z => by have := (nI_leI (by omega) (by omega)).mp z; omega), mq_life hn p t1 t3 c, jcb_s2, if_pos c]
        · rw [if_pos ((nI_leI (by omega) (by omega)).mpr (by omega)), if_neg c]
    · refine pQry_of (r := -1) (fun w hC => ⟨w, ?_, hC.self⟩) (fun w hM => ⟨w, ?_, hM.self⟩)
      · obtain ⟨t, ht, -⟩ := hC.xt hX
        rw [f_X1_noiseFor, jlt_eq, ht, jcs_s2, sp_isIn (l := 1) (h := 48) (l' := 1) (h' := 48) rfl rfl, if_neg (show ¬ ((1 : Int32) ≤ x ∧ x ≤ 48) from h), jcb_s2, if_pos rfl]
      · rw [f_X9_noiseFor, jlt_eq, (hM.xt hX).1, if_neg n10, sp_in, if_neg (show ¬ ((1 : Int32) ≤ x ∧ x ≤ 48) from h), jcb_s2, if_pos rfl]
/-- pieces -/
def pPc (s : Nat → Nat) (h m x : Nat) : Nat := if h ≤ s m ∧ (m = 0 ∨ s (m - 1) < h) then x + 1 else x
theorem q_pieces (hA : wfA A) (x : Int32) : pQry A (f_X1_pieces x) (f_X9_pieces x) := by
  cases hX : aX A with
  | none =>
    refine pQry_of (r := -1) (fun w hC => ⟨w, ?_, hC.self⟩) (fun w hM => ⟨w, ?_, hM.self⟩)
    · rw [f_X1_pieces, jlt_eq, hC.x0 hX, jcs_n2]
    · rw [f_X9_pieces, jlt_eq, (hM.x0 hX).1, if_pos rfl]
  | some X =>
    obtain ⟨hwX, t1, t2, t3, t4, t5⟩ := hA.x hX
    by_cases h : qAt x 1000
    · have h' := h
      obtain ⟨k, hk, rfl⟩ := h
      have z0 : ∀ y, nI y + 0 = nI y := fun y => nI_add y 0
      refine pQry_of (r := nI (pIt (pPc (aT A).1 k) (aT A).2.1 0 0)) (fun w hC => ⟨w, ?_, hC.self⟩) (fun w hM => ⟨w, ?_, hM.self⟩)
      · obtain ⟨t, ht, -⟩ := hC.xt hX
        have hn : pCn w 1 (sI (aT A).1) (aT A).2.1 := (hC.now hX).1
        rw [f_X1_pieces, jlt_eq, ht, jcs_s2, cIn_T h' (by decide) rfl (by decide), jcb_s2, if_neg n10]
        refine pIt_is' (F := fun f m x => f_X1_pieces_L25 (nI k) f (nI x) (nI m) w) (N := (aT A).2.1) (G := fun x => some (nI x, w)) (fun f m x hm => ?_) (fun f x => ?_) (aT A).2.1 jFU 0 0 (by omega) (jFU_gt (by omega))
        · have b1 := t3 m hm
          show f_X1_pieces_L25 (nI k) (f + 1) (nI x) (nI m) w = f_X1_pieces_L25 (nI k) f (nI (pPc (aT A).1 k m x)) (nI (m + 1)) w
          rw [f_X1_pieces_L25]
          by_cases c1 : (aT A).1 m < k
          · have r : pPc (aT A).1 k m x = x := by unfold pPc; rw [if_neg (by omega)]
            simp (disch := omega) only [↓jlt_e2, hn.1, le_F, if_false, jbd_nI, hn.2.1 m hm, sI_e, lt_T, if_true, z0, nI_1, r]
          · by_cases c2 : m = 0
            · have r : pPc (aT A).1 k m x = x + 1 := by unfold pPc; rw [if_pos (by omega)]
              have e0 : (nI m = 0) = True := by rw [c2]; exact eq_true rfl
              simp (disch := omega) only [↓jlt_e2, hn.1, le_F, if_false, jbd_nI, hn.2.1 m hm, sI_e, lt_F, if_true, e0, nI_1, r]
            · have e0 : (nI m = 0) = False := eq_false (nI_ne0 (by omega) (by omega))
              have b2 := t3 (m - 1) (by omega)
              by_cases c3 : (aT A).1 (m - 1) < k
              · have r : pPc (aT A).1 k m x = x + 1 := by unfold pPc; rw [if_pos (by omega)]
                simp (disch := omega) only [↓jlt_e2, hn.1, le_F, if_false, jbd_nI, hn.2.1 m hm, hn.2.1 (m - 1) (by omega), sI_e, lt_F, if_true, e0, nI_m1, nI_1, r]
              · have r : pPc (aT A).1 k m x = x := by unfold pPc; rw [if_neg (by omega)]
                simp (disch := omega) only [↓jlt_e2, hn.1, le_F, if_false, jbd_nI, hn.2.1 m hm, hn.2.1 (m - 1) (by omega), sI_e, lt_F, le_T, if_true, e0, nI_m1, nI_1, z0, r]
        · show f_X1_pieces_L25 (nI k) (f + 1) (nI x) (nI (aT A).2.1) w = _
          rw [f_X1_pieces_L25, jlt_eq, hn.1, if_pos ((nI_leI (by omega) (by omega)).mpr (Nat.le_refl _))]
      · have hn := hM.mn hA hX
        rw [f_X9_pieces, jlt_eq, (hM.xt hX).1, if_neg n10, mIn_T h' (by decide) (by decide), jcb_s2, if_neg n10]
        refine pIt_is' (F := fun f m x => f_X9_pieces_L24 (nI k) f (nI x) (nI m) w) (N := (aT A).2.1) (G := fun x => some (nI x, w)) (fun f m x hm => ?_) (fun f x => ?_) (aT A).2.1 jFU 0 0 (by omega) (jFU_gt (by omega))
        · have b1 := t3 m hm
          show f_X9_pieces_L24 (nI k) (f + 1) (nI x) (nI m) w = f_X9_pieces_L24 (nI k) f (nI (pPc (aT A).1 k m x)) (nI (m + 1)) w
          rw [f_X9_pieces_L24, sp_many hn, jcb_s2]
          by_cases c1 : (aT A).1 m < k
          · have r : pPc (aT A).1 k m x = x := by unfold pPc; rw [if_neg (by omega)]
            simp (disch := omega) only [↓jlt_e2, le_F, if_false, jbd_nI, hn.2.2.1 m hm, sI_e, lt_T, if_true, z0, nI_1, r]
          · by_cases c2 : m = 0
            · have r : pPc (aT A).1 k m x = x + 1 := by unfold pPc; rw [if_pos (by omega)]
              have e0 : (nI m = 0) = True := by rw [c2]; exact eq_true rfl
              simp (disch := omega) only [↓jlt_e2, le_F, if_false, jbd_nI, hn.2.2.1 m hm, sI_e, lt_F, if_true, e0, nI_1, r]
            · have e0 : (nI m = 0) = False := eq_false (nI_ne0 (by omega) (by omega))
              have b2 := t3 (m - 1) (by omega)
              by_cases c3 : (aT A).1 (m - 1) < k
              · have r : pPc (aT A).1 k m x = x + 1 := by unfold pPc; rw [if_pos (by omega)]
                simp (disch := omega) only [↓jlt_e2, le_F, if_false, jbd_nI, hn.2.2.1 m hm, hn.2.2.1 (m - 1) (by omega), sI_e, lt_F, if_true, e0, nI_m1, nI_1, r]
              · have r : pPc (aT A).1 k m x = x := by unfold pPc; rw [if_neg (by omega)]
                simp (disch := omega) only [↓jlt_e2, le_F, if_false, jbd_nI, hn.2.2.1 m hm, hn.2.2.1 (m - 1) (by omega), sI_e, lt_F, le_T, if_true, e0, nI_m1, nI_1, z0, r]
        · show f_X9_pieces_L24 (nI k) (f + 1) (nI x) (nI (aT A).2.1) w = _
          rw [f_X9_pieces_L24, sp_many hn, jcb_s2, if_pos ((nI_leI (by omega) (by omega)).mpr (Nat.le_refl _))]
    · refine pQry_of (r := -1) (fun w hC => ⟨w, ?_, hC.self⟩) (fun w hM => ⟨w, ?_, hM.self⟩)
      · obtain ⟨t, ht, -⟩ := hC.xt hX
        rw [f_X1_pieces, jlt_eq, ht, jcs_s2, cIn_F h (by decide) rfl (by decide), jcb_s2, if_pos rfl]
      · rw [f_X9_pieces, jlt_eq, (hM.xt hX).1, if_neg n10, mIn_F h (by decide) (by decide), jcb_s2, if_pos rfl]
end ASK2
