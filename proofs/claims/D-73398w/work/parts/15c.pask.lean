/-! the pure law: what is asked, first part -/
/-- component and model answer alike; nothing that lasts is changed -/
def pQry (A : pA) (f g : j_St → Option (Int32 × j_St)) : Prop := ∀ w, RelC A w → RelM A w → ∃ r w1 w2, f w = some (r, w1) ∧ g w1 = some (r, w2) ∧ cOK w w1 ∧ RelM A w2 ∧ pSame KXM w1 w2
section ASK
variable {w w' : j_St} {A : pA} {X : pX} {f g : j_St → Option (Int32 × j_St)}
theorem RelM.xc (h : RelM A w) (k : pSame KXC w w') : RelM A w' := h.same k (fun _ _ _ z => Or.inr z) (h.2.2.2.2.2.2.same k fun κ i k z y => by
  unfold KA at z
  unfold KXC at y
  omega)
theorem pQry_of2 {r : Int32} (hc : ∀ w, RelC A w → ∃ w', f w = some (r, w') ∧ cOK w w') (hm : ∀ w, RelM A w → ∃ w', g w = some (r, w') ∧ RelM A w' ∧ pSame KXM w w') : pQry A f g := fun w hC hM => by
  obtain ⟨w1, e1, o1⟩ := hc w hC
  obtain ⟨w2, e2, o2, o3⟩ := hm w1 (hM.xc o1.xc)
  exact ⟨r, w1, w2, e1, e2, o1, o2, o3⟩
theorem pQry_of {r : Int32} (hc : ∀ w, RelC A w → ∃ w', f w = some (r, w') ∧ cOK w w') (hm : ∀ w, RelM A w → ∃ w', g w = some (r, w') ∧ mOK w w') : pQry A f g := fun w hC hM => by
  obtain ⟨w1, e1, o1⟩ := hc w hC
  obtain ⟨w2, e2, o2⟩ := hm w1 (hM.xc o1.xc)
  exact ⟨r, w1, w2, e1, e2, o1, (hM.xc o1.xc).ok o2, o2.xm⟩
theorem cIn_T {x : Int32} {n : Nat} {l' h' : Int64} (hq : qAt x n) (hn : n < 2 ^ 31) (hl : l' = 0) (hh : h' = (nI n - 1).toInt64) : f_X1_isIn x.toInt64 l' h' w = some (1, w) := by
  rw [sp_isIn (l := 0) (h := nI n - 1) hl hh, if_pos ((rng_iff hn).mpr hq)]
theorem cIn_F {x : Int32} {n : Nat} {l' h' : Int64} (hq : ¬ qAt x n) (hn : n < 2 ^ 31) (hl : l' = 0) (hh : h' = (nI n - 1).toInt64) : f_X1_isIn x.toInt64 l' h' w = some (0, w) := by
  rw [sp_isIn (l := 0) (h := nI n - 1) hl hh, if_neg (fun z => hq ((rng_iff hn).mp z))]
theorem mIn_T {x h' : Int32} {n : Nat} (hq : qAt x n) (hn : n < 2 ^ 31) (hh : h' = nI n - 1) : f_X9_in x 0 h' w = some (1, w) := by
  rw [sp_in, hh, if_pos ((rng_iff hn).mpr hq)]
theorem mIn_F {x h' : Int32} {n : Nat} (hq : ¬ qAt x n) (hn : n < 2 ^ 31) (hh : h' = nI n - 1) : f_X9_in x 0 h' w = some (0, w) := by
  rw [sp_in, hh, if_neg (fun z => hq ((rng_iff hn).mp z))]
theorem n10 : ¬ ((1 : Int32) = 0) := by decide
theorem c_isPlace_T {i0 n : Nat} {a : Nat → Int32} {x : Int32} (h : pCn w (2 * i0 + 1) a n) (hq : qAt x n) : f_X8_isPlace i0 x w = some (1, w) := by
  have hn := h.2.2
  rw [f_X8_isPlace, jlt_eq, h.1, cIn_T hq (by omega) rfl rfl, jcb_s2, if_pos (Or.inr rfl)]
theorem c_isPlace_F {i0 n : Nat} {a : Nat → Int32} {x : Int32} (h : pCn w (2 * i0 + 1) a n) (hq : ¬ qAt x n) : f_X8_isPlace i0 x w = some (0, w) := by
  have hn := h.2.2
  rw [f_X8_isPlace, jlt_eq, h.1, cIn_F hq (by omega) rfl rfl, jcb_s2, if_pos (Or.inl rfl)]
theorem m_isPlace_T {n : Nat} {a : Nat → Int32} {z x : Int32} (h1 : jgi w 1 0 29 = 1) (h : pMn w a n z) (hq : qAt x n) : f_X9_isPlace x w = some (1, w) := by
  have hn := h.2.2.2
  rw [f_X9_isPlace, jlt_eq, h1, if_neg n10, sp_many h, jcb_s2, mIn_T hq (by omega) rfl, jcb_s2, if_neg n10]
theorem m_isPlace_F {n : Nat} {a : Nat → Int32} {z x : Int32} (h1 : jgi w 1 0 29 = 1) (h : pMn w a n z) (hq : ¬ qAt x n) : f_X9_isPlace x w = some (0, w) := by
  have hn := h.2.2.2
  rw [f_X9_isPlace, jlt_eq, h1, if_neg n10, sp_many h, jcb_s2, mIn_F hq (by omega) rfl, jcb_s2, if_pos rfl]
theorem m_isPlace_0 {x : Int32} (h1 : jgi w 1 0 29 = 0) : f_X9_isPlace x w = some (0, w) := by
  rw [f_X9_isPlace, jlt_eq, h1, if_pos rfl]
theorem nI_mul (a b : Nat) : nI a * nI b = nI (a * b) := by
  unfold nI
  exact (Int32.ofNat_mul a b).symm
theorem RelM.mn (h : RelM A w) (hA : wfA A) (hX : aX A = some X) : pMn w (sI (aT A).1) (aT A).2.1 (nI (aT A).2.2.1) := pRR_Mn (h.xt hX).2.2.2 (hA.x hX).2
/-- status -/
theorem q_status (x : Int32) : pQry A (f_X1_status x) (f_X9_status x) := by
  by_cases h : qAt x 2
  · obtain ⟨k, hk, rfl⟩ := h
    refine pQry_of (r := if k = 0 then aR0 A else aR1 A) (fun w hC => ⟨w, ?_, hC.self⟩) (fun w hM => ⟨w, ?_, hM.self⟩)
    · rw [f_X1_status, cIn_T ⟨k, hk, rfl⟩ (by decide) rfl (by decide), jcb_s2, if_neg n10, jbd_nI hk (by decide), jlt_eq]
      rcases (show k = 0 ∨ k = 1 by omega) with rfl | rfl
      · rw [hC.2.2.2.2.2.1.1]; rfl
      · rw [hC.2.2.2.2.2.1.2]; rfl
    · rw [f_X9_status, mIn_T ⟨k, hk, rfl⟩ (by decide) (by decide), jcb_s2, if_neg n10, jbd_nI hk (by decide), jlt_eq]
      rcases (show k = 0 ∨ k = 1 by omega) with rfl | rfl
      · rw [hM.2.2.2.2.2.1.1]; rfl
      · rw [hM.2.2.2.2.2.1.2]; rfl
  · refine pQry_of (r := -1) (fun w hC => ⟨w, ?_, hC.self⟩) (fun w hM => ⟨w, ?_, hM.self⟩)
    · rw [f_X1_status, cIn_F h (by decide) rfl (by decide), jcb_s2, if_pos rfl]
    · rw [f_X9_status, mIn_F h (by decide) (by decide), jcb_s2, if_pos rfl]
/-- log -/
theorem q_log (hA : wfA A) (x y : Int32) : pQry A (f_X1_log x y) (f_X9_log x y) := by
  cases hX : aX A with
  | none =>
    refine pQry_of (r := -1000000) (fun w hC => ⟨w, ?_, hC.self⟩) (fun w hM => ⟨w, ?_, hM.self⟩)
    · rw [f_X1_log, jlt_eq, hC.x0 hX, jcs_n2]
    · rw [f_X9_log, jbd_k50 (by decide) (by decide), jlt_eq, (hM.x0 hX).2.2, mIn_F (n := 0) (h' := 0 - 1) (fun ⟨k, hk, _⟩ => by omega) (by decide) rfl, jcb_s2, if_pos rfl]
  | some X =>
    obtain ⟨hwX, t1, t2, t3, t4, t5⟩ := hA.x hX
    by_cases h : qAt x (aT A).2.2.2.1
    · obtain ⟨i, hi, rfl⟩ := h
      have e1 : nI (aT A).2.2.2.1 - 1 - nI i = nI ((aT A).2.2.2.1 - 1 - i) := by rw [nI_m1 (by omega), nI_sub (by omega)]
      by_cases h2 : qAt y 3
      · obtain ⟨j, hj, rfl⟩ := h2
        refine pQry_of (r := (aT A).2.2.2.2 (3 * ((aT A).2.2.2.1 - 1 - i) + j)) (fun w hC => ⟨w, ?_, hC.self⟩) (fun w hM => ⟨w, ?_, hM.self⟩)
        · obtain ⟨t, ht, -⟩ := hC.xt hX
          obtain ⟨r1, r2, r3, r4⟩ := hC.now hX
          rw [f_X1_log, jlt_eq, ht, jcs_s2, jlt_eq, r3, cIn_T ⟨i, hi, rfl⟩ (by omega) rfl rfl, jcb_s2, if_neg n10, cIn_T ⟨j, hj, rfl⟩ (by decide) rfl (by decide), jcb_s2, if_neg n10, jlt_eq, r3, e1, show (3 : Int32) = nI 3 from rfl, nI_mul, nI_add, jbd_nI (by omega) (by decide), jlt_eq, r4 _ (by omega)]
        · obtain ⟨r1, r2, r3, r4, r5, r6, r7, r8⟩ := hM.xt hX
          rw [Nat.zero_add] at r6
          rw [f_X9_log, jbd_k50 (by decide) (by decide), jlt_eq, r6, mIn_T ⟨i, hi, rfl⟩ (by omega) rfl, jcb_s2, if_neg n10, mIn_T ⟨j, hj, rfl⟩ (by decide) (by decide), jcb_s2, if_neg n10, jbd_k50 (by decide) (by decide), jlt_eq, r6, e1, show (3 : Int32) = nI 3 from rfl, show (51 : Int32) = nI 51 from rfl, nI_mul, nI_add, nI_add, jbd_nI (by omega) (by decide), jlt_eq]
          have := r8 (3 * ((aT A).2.2.2.1 - 1 - i) + j) (by omega)
          rw [show 0 + 51 + (3 * ((aT A).2.2.2.1 - 1 - i) + j) = 51 + 3 * ((aT A).2.2.2.1 - 1 - i) + j by omega] at this
          rw [this]
      · refine pQry_of (r := -1000000) (fun w hC => ⟨w, ?_, hC.self⟩) (fun w hM => ⟨w, ?_, hM.self⟩)
        · obtain ⟨t, ht, -⟩ := hC.xt hX
          obtain ⟨r1, r2, r3, r4⟩ := hC.now hX
          rw [f_X1_log, jlt_eq, ht, jcs_s2, jlt_eq, r3, cIn_T ⟨i, hi, rfl⟩ (by omega) rfl rfl, jcb_s2, if_neg n10, cIn_F h2 (by decide) rfl (by decide), jcb_s2, if_pos rfl]
        · obtain ⟨r1, r2, r3, r4, r5, r6, r7, r8⟩ := hM.xt hX
          rw [Nat.zero_add] at r6
          rw [f_X9_log, jbd_k50 (by decide) (by decide), jlt_eq, r6, mIn_T ⟨i, hi, rfl⟩ (by omega) rfl, jcb_s2, if_neg n10, mIn_F h2 (by decide) (by decide), jcb_s2, if_pos rfl]
    · refine pQry_of (r := -1000000) (fun w hC => ⟨w, ?_, hC.self⟩) (fun w hM => ⟨w, ?_, hM.self⟩)
      · obtain ⟨t, ht, -⟩ := hC.xt hX
        obtain ⟨r1, r2, r3, r4⟩ := hC.now hX
        rw [f_X1_log, jlt_eq, ht, jcs_s2, jlt_eq, r3, cIn_F h (by omega) rfl rfl, jcb_s2, if_pos rfl]
      · obtain ⟨r1, r2, r3, r4, r5, r6, r7, r8⟩ := hM.xt hX
        rw [Nat.zero_add] at r6
        rw [f_X9_log, jbd_k50 (by decide) (by decide), jlt_eq, r6, mIn_F h (by omega) rfl, jcb_s2, if_pos rfl]
/-- held -/
theorem q_held (hA : wfA A) (x : Int32) : pQry A (f_X1_held x) (f_X9_held x) := by
  have many : ∀ w, RelM A w → f_X9_many w = some (match aX A with
      | none => 0
      | some _ => nI (aT A).2.1, w) := fun w hM => by
    cases hX : aX A with
    | none => rw [f_X9_many, jbd_k48 (by decide) (by decide), jlt_eq, (hM.x0 hX).2.1]
    | some X => rw [sp_many (hM.mn hA hX)]
  have lg : ∀ w, RelM A w → jgi w 47 0 50 = match aX A with
      | none => 0
      | some _ => nI (aT A).2.2.2.1 := fun w hM => by
    cases hX : aX A with
    | none => exact (hM.x0 hX).2.2
    | some X =>
      have := (hM.xt hX).2.2.2.2.2.1
      rw [Nat.zero_add] at this
      exact this
  by_cases h0 : x = 0
  · refine pQry_of (r := match aX A with
      | none => 0
      | some _ => nI (aT A).2.1) (fun w hC => ⟨w, ?_, hC.self⟩) (fun w hM => ⟨w, ?_, hM.self⟩)
    · rw [f_X1_held, if_pos h0, jlt_eq]
      cases hX : aX A with
      | none => rw [hC.x0 hX, jcs_n2]
      | some X =>
        obtain ⟨t, ht, -⟩ := hC.xt hX
        have := (hC.now hX).1.1
        rw [ht, jcs_s2, jlt_eq]
        exact congrArg (fun v => some (v, w)) this
    · rw [f_X9_held, if_pos h0, many w hM, jcb_s2]
  by_cases h1 : x = 1
  · refine pQry_of (r := nI (aSm A)) (fun w hC => ⟨w, ?_, hC.self⟩) (fun w hM => ⟨w, ?_, hM.self⟩)
    · rw [f_X1_held, if_neg h0, if_pos h1, jlt_eq, hC.2.1.1]
    · rw [f_X9_held, if_neg h0, if_pos h1, jlt_eq, hM.2.1.1]
  by_cases h2 : x = 2
  · refine pQry_of (r := nI (aTl A)) (fun w hC => ⟨w, ?_, hC.self⟩) (fun w hM => ⟨w, ?_, hM.self⟩)
    · rw [f_X1_held, if_neg h0, if_neg h1, if_pos h2, jlt_eq, hC.1.1]
    · rw [f_X9_held, if_neg h0, if_neg h1, if_pos h2, jlt_eq, hM.1.1]
  by_cases h3 : x = 3
  · refine pQry_of (r := match aX A with
      | none => 0
      | some _ => nI (aT A).2.2.2.1) (fun w hC => ⟨w, ?_, hC.self⟩) (fun w hM => ⟨w, ?_, hM.self⟩)
    · rw [f_X1_held, if_neg h0, if_neg h1, if_neg h2, if_pos h3, jlt_eq]
      cases hX : aX A with
      | none => rw [hC.x0 hX, jcs_n2]
      | some X =>
        obtain ⟨t, ht, -⟩ := hC.xt hX
        rw [ht, jcs_s2, jlt_eq, (hC.now hX).2.2.1]
    · rw [f_X9_held, if_neg h0, if_neg h1, if_neg h2, if_pos h3, jbd_k50 (by decide) (by decide), jlt_eq, lg w hM]
  by_cases h4 : x = 4
  · refine pQry_of (r := nI (aU A)) (fun w hC => ⟨w, ?_, hC.self⟩) (fun w hM => ⟨w, ?_, hM.self⟩)
    · rw [f_X1_held, if_neg h0, if_neg h1, if_neg h2, if_neg h3, if_pos h4, jlt_eq, hC.2.2.2.2.1.1]
    · rw [f_X9_held, if_neg h0, if_neg h1, if_neg h2, if_neg h3, if_pos h4, jlt_eq, hM.2.2.2.2.1.1]
  refine pQry_of (r := -1000000) (fun w hC => ⟨w, ?_, hC.self⟩) (fun w hM => ⟨w, ?_, hM.self⟩)
  · rw [f_X1_held, if_neg h0, if_neg h1, if_neg h2, if_neg h3, if_neg h4]
  · rw [f_X9_held, if_neg h0, if_neg h1, if_neg h2, if_neg h3, if_neg h4]
/-- sample -/
theorem q_sample (hA : wfA A) (x : Int32) : pQry A (f_X1_sample x) (f_X9_sample x) := by
  cases hX : aX A with
  | none =>
    refine pQry_of (r := -1) (fun w hC => ⟨w, ?_, hC.self⟩) (fun w hM => ⟨w, ?_, hM.self⟩)
    · rw [f_X1_sample, jlt_eq, hC.x0 hX, jcs_n2]
    · rw [f_X9_sample, m_isPlace_0 (hM.x0 hX).1, jcb_s2, if_pos rfl]
  | some X =>
    obtain ⟨hwX, t1, t2, t3, t4, t5⟩ := hA.x hX
    by_cases h : qAt x (aT A).2.1
    · have h' := h
      obtain ⟨i, hi, rfl⟩ := h
      refine pQry_of (r := nI ((aT A).1 i)) (fun w hC => ⟨w, ?_, hC.self⟩) (fun w hM => ⟨w, ?_, hM.self⟩)
      · obtain ⟨t, ht, -⟩ := hC.xt hX
        have hn := (hC.now hX).1
        rw [f_X1_sample, jlt_eq, ht, jcs_s2, c_isPlace_T hn h', jcb_s2, if_neg n10, jbd_nI (by omega) (by decide), jlt_eq]
        exact congrArg (fun v => some (v, w)) (hn.2.1 i hi)
      · have hn := hM.mn hA hX
        rw [f_X9_sample, m_isPlace_T (hM.xt hX).1 hn h', jcb_s2, if_neg n10, jbd_nI (by omega) (by decide), jlt_eq, hn.2.2.1 i hi]
        rfl
    · refine pQry_of (r := -1) (fun w hC => ⟨w, ?_, hC.self⟩) (fun w hM => ⟨w, ?_, hM.self⟩)
      · obtain ⟨t, ht, -⟩ := hC.xt hX
        rw [f_X1_sample, jlt_eq, ht, jcs_s2, c_isPlace_F (hC.now hX).1 h, jcb_s2, if_pos rfl]
      · rw [f_X9_sample, m_isPlace_F (hM.xt hX).1 (hM.mn hA hX) h, jcb_s2, if_pos rfl]
end ASK
