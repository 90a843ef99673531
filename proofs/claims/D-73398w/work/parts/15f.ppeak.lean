/-! the pure law: a peak is asked -/
section ASK4
variable {w w' : j_St} {A : pA} {X : pX} {s : Nat → Nat} {n z : Nat}
theorem pMP.same {K : Nat → Nat → Nat → Prop} (h : pMP w s n z) (g : pSame K w w') (hK : ∀ κ i k, KA κ i k → ¬ K κ i k) : pMP w' s n z := by
  obtain ⟨p1, p2, p3, p4, p5⟩ := h
  have rd : ∀ κ i k, KA κ i k → jgi w' κ i k = jgi w κ i k := fun κ i k hk => g.1 κ i k (hK κ i k hk)
  refine ⟨?_, ?_, fun k hk => ?_, fun k hk => ?_, fun c hc => ?_⟩
  · rw [rd _ _ _ (by unfold KA; omega)]; exact p1
  · rw [rd _ _ _ (by unfold KA; omega)]; exact p2
  · rw [rd _ _ _ (by unfold KA; omega)]; exact p3 k hk
  · rw [rd _ _ _ (by unfold KA; omega)]; exact p4 k hk
  · rw [rd 52 _ _ (by unfold KA; omega), rd 53 _ _ (by unfold KA; omega), rd 54 _ _ (by unfold KA; omega), rd 55 _ _ (by unfold KA; omega)]; exact p5 c hc
theorem pMn.same {K : Nat → Nat → Nat → Prop} {a : Nat → Int32} {z : Int32} (h : pMn w a n z) (g : pSame K w w') (hK : ∀ k, ¬ K 47 0 k) : pMn w' a n z := by
  obtain ⟨h1, h2, h3, h4⟩ := h
  refine ⟨?_, ?_, fun k hk => ?_, h4⟩
  · rw [g.1 _ _ _ (hK _)]; exact h1
  · rw [g.1 _ _ _ (hK _)]; exact h2
  · rw [g.1 _ _ _ (hK _)]; exact h3 k hk
theorem pMl.same {K : Nat → Nat → Nat → Prop} {lp : Nat → Int32} {ln : Nat} {rc by_ : Int32} (h : pMl w lp ln rc by_ s n z) (g : pSame K w w') (hK : ∀ κ i k, KA κ i k → ¬ K κ i k) : pMl w' lp ln rc by_ s n z := by
  obtain ⟨p1, p2, p3⟩ := h
  have rd : ∀ κ i k, KA κ i k → jgi w' κ i k = jgi w κ i k := fun κ i k hk => g.1 κ i k (hK κ i k hk)
  refine ⟨?_, fun k hk => ?_, fun l hl => ?_⟩
  · rw [rd _ _ _ (by unfold KA; omega)]; exact p1
  · rw [rd _ _ _ (by unfold KA; omega)]; exact p2 k hk
  · rw [rd _ _ _ (by unfold KA; omega)]; exact p3 l hl
/-- the number of one that came as the l-th -/
def cNo (s : Nat → Nat) (n : Nat) (c : Option Nat) : Option Nat := match c with
  | none => none
  | some l => pFd (fun j => decide (cW s n j = l)) (cM s n) 0
theorem cNo_W (h0 : 0 < n) {k : Nat} (hk : k < cM s n) : cNo s n (some (cW s n k)) = some k := pFd_one (Nat.zero_le _) (by omega) (by simp) (fun j _ hj hb => by
  apply Classical.byContradiction
  intro hne
  exact cW_ne h0 (show j < cM s n by omega) hk hne (by simpa using hb))
/-- what is told of a peak -/
def cTell (X : pX) (T : pT) (k j : Nat) : Int32 :=
  if j = 0 then nI (cP T.1 T.2.1 k) else if j = 1 then nI (T.1 (cP T.1 T.2.1 k)) else if j = 2 then pOI (cVa T.1 T.2.1 (cW T.1 T.2.1 k)) else if j = 3 then nI (cD T.1 T.2.1 k) else if j = 4 then nI (cL T.1 T.2.1 k)
  else if j = 5 then pOI (cNo T.1 T.2.1 (cPa T.1 T.2.1 (cW T.1 T.2.1 k))) else if j = 6 then (if k < cK T.1 T.2.1 T.2.2.1 then 1 else 0) else if j = 7 then nI (cGe T.1 T.2.1 k)
  else pOI ((cMa (sI X.1) X.2.1 (nI X.2.2.1) 0 T.1 T.2.1 T.2.2.1).1 k)
theorem cPa_lt (h0 : 0 < n) {c l : Nat} (hc : c < cM s n) (e : cPa s n c = some l) : l < cM s n := by
  by_cases c0 : c = 0
  · subst c0
    rw [cPa_0 h0] at e
    cases e
  · obtain ⟨p, l', -, -, h3, h4⟩ := cVa_s (s := s) h0 (by omega) hc
    rw [e] at h3
    cases h3
    omega
theorem c_peak_T (hC : RelC A w) (hA : wfA A) (hX : aX A = some X) {k j : Nat} (hk : k < cM (aT A).1 (aT A).2.1) (hj : j < 9) : ∃ w', f_X1_peak (nI k) (nI j) w = some (.inr (cTell X (aT A) k j), w') ∧ cOK w w' := by
  obtain ⟨hwX, t1, t2, t3, t4, t5⟩ := hA.x hX
  have hcm := cM_le (s := (aT A).1) t1
  obtain ⟨t, ht, -⟩ := hC.xt hX
  obtain ⟨w1, e1, o1, p1⟩ := c_found hC hA hX
  have hC1 := hC.ok o1
  have hn1 := (hC1.now hX).1
  have hn1 : pCn w1 1 (sI (aT A).1) (aT A).2.1 := hn1
  have row := cq_row p1 hk
  have base : ∀ r : Int32, (∃ w', (if nI j = 0 then jlt (jgi w1 3 (48 * 0 + cW (aT A).1 (aT A).2.1 k) 0) fun v23 => some ((Sum.inr v23 : Nat ⊕ Int32), w1) else if nI j = 1 then jlt (jgi w1 3 (48 * 0 + cW (aT A).1 (aT A).2.1 k) 1) fun v26 => some (.inr v26, w1) else if nI j = 2 then jlt (jgi w1 3 (48 * 0 + cW (aT A).1 (aT A).2.1 k) 2) fun v29 => some (.inr v29, w1) else if nI j = 3 then jlt (jgi w1 3 (48 * 0 + cW (aT A).1 (aT A).2.1 k) 3) fun v32 => some (.inr v32, w1) else if nI j = 4 then jcb (f_X6_persistence (48 * 0 + cW (aT A).1 (aT A).2.1 k) w1) fun v35 w36 => some (.inr v35, w36) else if nI j = 5 then jlt (jgr w1 3 (48 * 0 + cW (aT A).1 (aT A).2.1 k) 5) fun v40 => jcs v40 (some (.inr (-1), w1)) fun y42 => jlt (jgr w1 3 (48 * 0 + cW (aT A).1 (aT A).2.1 k) 5) fun v45 => jcb (f_X5_numberOf 0 v45 w1) fun v47 w48 => some (.inr v47, w48) else if nI j = 6 then jlt (jgi w1 3 (48 * 0 + cW (aT A).1 (aT A).2.1 k) 6) fun v52 => if v52 = 0 then some (.inr 0, w1) else some (.inr 1, w1) else if nI j = 7 then jcb (f_X5_generation 0 (nI k) w1) fun v54 w55 => some (.inr v54, w55) else jcb (f_X1_matchOf 0 (nI k) w1) fun v58 w59 => some (.inr v58, w59)) = some (.inr r, w') ∧ cOK w1 w') → ∃ w', f_X1_peak (nI k) (nI j) w = some (.inr r, w') ∧ cOK w w' := fun r ⟨w', e, o⟩ => by
    refine ⟨w', ?_, o1.trans o⟩
    rw [f_X1_peak, jlt_eq, ht, jlt_eq, jcs_s2, e1, jcb_s2, jlt_eq, p1.2.1, cIn_T ⟨k, hk, rfl⟩ (by omega) rfl rfl, jcb_s2, if_neg n10, cIn_T (n := 9) ⟨j, hj, rfl⟩ (by decide) rfl (by decide), jcb_s2, if_neg n10, jbd_nI (by omega) (by decide), jlt_eq, row]
    simp only [job_s2]
    exact e
  refine base _ ?_
  rcases (show j = 0 ∨ j = 1 ∨ j = 2 ∨ j = 3 ∨ j = 4 ∨ j = 5 ∨ j = 6 ∨ j = 7 ∨ j = 8 by omega) with rfl | rfl | rfl | rfl | rfl | rfl | rfl | rfl | rfl
  · exact ⟨w1, by rw [if_pos (by decide), jlt_eq, cq_0 p1 t1 hk]; rfl, hC1.self⟩
  · exact ⟨w1, by rw [if_neg (by decide), if_pos (by decide), jlt_eq, cq_1 p1 t1 hk]; rfl, hC1.self⟩
  · exact ⟨w1, by rw [if_neg (by decide), if_neg (by decide), if_pos (by decide), jlt_eq, cq_2 p1 t1 hk]; rfl, hC1.self⟩
  · exact ⟨w1, by rw [if_neg (by decide), if_neg (by decide), if_neg (by decide), if_pos (by decide), jlt_eq, cq_3 p1 t1 hk]; rfl, hC1.self⟩
  · exact ⟨w1, by rw [if_neg (by decide), if_neg (by decide), if_neg (by decide), if_neg (by decide), if_pos (by decide), cq_pers p1 t1 t3 hk, jcb_s2]; rfl, hC1.self⟩
  · refine ⟨w1, ?_, hC1.self⟩
    rw [if_neg (by decide), if_neg (by decide), if_neg (by decide), if_neg (by decide), if_neg (by decide), if_pos (by decide), jlt_eq, cq_5 p1 t1 hk]
    show _ = some (Sum.inr (pOI (cNo (aT A).1 (aT A).2.1 (cPa (aT A).1 (aT A).2.1 (cW (aT A).1 (aT A).2.1 k)))), w1)
    cases e : cPa (aT A).1 (aT A).2.1 (cW (aT A).1 (aT A).2.1 k) with
    | none => rfl
    | some l =>
      obtain ⟨j', hj', el⟩ := cW_sur (s := (aT A).1) t1 (cPa_lt t1 (cW_lt t1 hk) e)
      rw [← el, pQ_some, jcs_s2, jlt_eq, cq_numOf hn1 p1 t1 hj', jcb_s2, cNo_W t1 hj']
      rfl
  · refine ⟨w1, ?_, hC1.self⟩
    rw [if_neg (by decide), if_neg (by decide), if_neg (by decide), if_neg (by decide), if_neg (by decide), if_neg (by decide), if_pos (by decide), jlt_eq, cq_6 p1 hk]
    show _ = some (Sum.inr (if k < cK (aT A).1 (aT A).2.1 (aT A).2.2.1 then (1 : Int32) else 0), w1)
    by_cases c : k < cK (aT A).1 (aT A).2.1 (aT A).2.2.1
    · rw [if_pos c, if_neg n10]
    · rw [if_neg c, if_pos rfl]
  · exact ⟨w1, by rw [if_neg (by decide), if_neg (by decide), if_neg (by decide), if_neg (by decide), if_neg (by decide), if_neg (by decide), if_neg (by decide), if_pos (by decide), cq_gen hn1 p1 t1 hk, jcb_s2]; rfl, hC1.self⟩
  · obtain ⟨t', ht', -⟩ := hC1.xt hX
    obtain ⟨w2, e2, o2, -, a1, -⟩ := c_matched hC1 hA hX p1 ht'
    refine ⟨w2, ?_, o2⟩
    rw [if_neg (by decide), if_neg (by decide), if_neg (by decide), if_neg (by decide), if_neg (by decide), if_neg (by decide), if_neg (by decide), if_neg (by decide), f_X1_matchOf, jlt_eq, ht', job_s2, e2, jcb_s2, jbd_nI (by omega) (by decide), jlt_eq, a1 k hk, jcb_s2]
    rfl
theorem c_peak_F (hC : RelC A w) (hA : wfA A) {x y : Int32} (h : ∀ X, aX A = some X → ¬ (qAt x (cM (aT A).1 (aT A).2.1) ∧ qAt y 9)) : ∃ w', f_X1_peak x y w = some (.inl 0, w') ∧ cOK w w' := by
  cases hX : aX A with
  | none => exact ⟨w, by rw [f_X1_peak, jlt_eq, hC.x0 hX, jlt_eq, jcs_n2], hC.self⟩
  | some X =>
    obtain ⟨hwX, t1, t2, t3, t4, t5⟩ := hA.x hX
    have hcm := cM_le (s := (aT A).1) t1
    obtain ⟨t, ht, -⟩ := hC.xt hX
    obtain ⟨w1, e1, o1, p1⟩ := c_found hC hA hX
    refine ⟨w1, ?_, o1⟩
    rw [f_X1_peak, jlt_eq, ht, jlt_eq, jcs_s2, e1, jcb_s2, jlt_eq, p1.2.1]
    by_cases hx : qAt x (cM (aT A).1 (aT A).2.1)
    · have hy : ¬ qAt y 9 := fun z => h X hX ⟨hx, z⟩
      rw [cIn_T hx (by omega) rfl rfl, jcb_s2, if_neg n10, cIn_F hy (by decide) rfl (by decide), jcb_s2, if_pos rfl]
    · rw [cIn_F hx (by omega) rfl rfl, jcb_s2, if_pos rfl]
def K10 (κ i k : Nat) : Prop := κ = 1 ∧ i = 0 ∧ k = 0
theorem m_thrown {v : Int32} (hw : WfA w) : mOK w (jsi w 1 0 0 v) ∧ pSame K10 w (jsi w 1 0 0 v) := by
  have g : pSame K10 w (jsi w 1 0 0 v) := pSame.jsi ⟨rfl, rfl, rfl⟩
  refine ⟨⟨g.mono fun κ i k z => ?_, hw.same g fun κ i k a b => ?_⟩, g⟩
  · unfold K10 at z
    unfold KMQ
    omega
  · unfold KA at a
    unfold K10 at b
    omega
theorem m_peak_T (hM : RelM A w) (hA : wfA A) (hX : aX A = some X) {k j : Nat} (hk : k < cM (aT A).1 (aT A).2.1) (hj : j < 9) : ∃ w', f_X9_peak (nI k) (nI j) w = some (cTell X (aT A) k j, w') ∧ mOK w w' ∧ jgi w' 1 0 0 = 0 := by
  obtain ⟨⟨l1, l2, l3, l4⟩, t1, t2, t3, t4, t5⟩ := hA.x hX
  have hcm := cM_le (s := (aT A).1) t1
  obtain ⟨w1, o1, p1, hn1, ll1, e1, -⟩ := m_isPeak hM hA hX (nI k)
  obtain ⟨o2, g2⟩ := m_thrown (v := 0) (hM.ok o1).2.2.2.2.2.2
  have p2 := p1.same g2 (fun κ i k a b => by unfold KA at a; unfold K10 at b; omega)
  have ll2 := ll1.same g2 (fun κ i k a b => by unfold KA at a; unfold K10 at b; omega)
  have hn2 := hn1.same g2 (fun k b => by unfold K10 at b; omega)
  have th : jgi (jsi w1 1 0 0 0) 1 0 0 = 0 := jgi_eq
  have hw := cW_lt (s := (aT A).1) t1 hk
  have row := p2.2.2.1 k hk
  have cp := p2.2.2.2.2 _ hw
  have base : ∀ r : Int32, ((if nI j = 0 then jbd (nI (cW (aT A).1 (aT A).2.1 k)) 48 fun a16 => jlt (jgi (jsi w1 1 0 0 0) 52 0 a16) fun v17 => some (v17, (jsi w1 1 0 0 0)) else if nI j = 1 then jcb (f_X9_height (nI k) (jsi w1 1 0 0 0)) fun v18 w19 => some (v18, w19) else if nI j = 2 then jbd (nI (cW (aT A).1 (aT A).2.1 k)) 48 fun a22 => jlt (jgi (jsi w1 1 0 0 0) 53 0 a22) fun v23 => some (v23, (jsi w1 1 0 0 0)) else if nI j = 3 then jbd (nI (cW (aT A).1 (aT A).2.1 k)) 48 fun a25 => jlt (jgi (jsi w1 1 0 0 0) 54 0 a25) fun v26 => some (v26, (jsi w1 1 0 0 0)) else if nI j = 4 then jcb (f_X9_life (nI k) (jsi w1 1 0 0 0)) fun v27 w28 => some (v27, w28) else if nI j = 5 then jbd (nI (cW (aT A).1 (aT A).2.1 k)) 48 fun a31 => jlt (jgi (jsi w1 1 0 0 0) 55 0 a31) fun v32 => if v32 = (-1) then some ((-1), (jsi w1 1 0 0 0)) else jbd (nI (cW (aT A).1 (aT A).2.1 k)) 48 fun a35 => jlt (jgi (jsi w1 1 0 0 0) 55 0 a35) fun v36 => jbd v36 48 fun a37 => jlt (jgi (jsi w1 1 0 0 0) 58 0 a37) fun v38 => some (v38, (jsi w1 1 0 0 0)) else if nI j = 6 then jcb (f_X9_isKept (nI k) (jsi w1 1 0 0 0)) fun v39 w40 => if v39 = 0 then some (0, w40) else some (1, w40) else if nI j = 7 then jcb (f_X9_generationOf (nI k) (jsi w1 1 0 0 0)) fun v42 w43 => some (v42, w43) else jbd (nI k) 48 fun a46 => jlt (jgi (jsi w1 1 0 0 0) 59 0 a46) fun v47 => some (v47, (jsi w1 1 0 0 0))) = some (r, jsi w1 1 0 0 0)) → ∃ w', f_X9_peak (nI k) (nI j) w = some (r, w') ∧ mOK w w' ∧ jgi w' 1 0 0 = 0 := fun r e => by
    refine ⟨jsi w1 1 0 0 0, ?_, o1.trans o2, th⟩
    rw [f_X9_peak, e1 ⟨k, hk, rfl⟩, jcb_s2, jlt_eq, jlt_eq, if_neg n10, mIn_T (n := 9) ⟨j, hj, rfl⟩ (by decide) (by decide), jcb_s2, if_neg n10]
    dsimp only
    rw [jlt_eq, jlt_eq, th, if_neg (by decide), jbd_nI (by omega) (by decide), jlt_eq, row]
    exact e
  refine base _ ?_
  clear base
  generalize jsi w1 1 0 0 0 = w2 at *
  obtain ⟨c1, c2, c3, c4⟩ := cp
  rcases (show j = 0 ∨ j = 1 ∨ j = 2 ∨ j = 3 ∨ j = 4 ∨ j = 5 ∨ j = 6 ∨ j = 7 ∨ j = 8 by omega) with rfl | rfl | rfl | rfl | rfl | rfl | rfl | rfl | rfl
  · rw [if_pos (by decide), jbd_nI (by omega) (by decide), jlt_eq, c1]; rfl
  · rw [if_neg (by decide), if_pos (by decide), mq_height hn2 p2 t1 hk, jcb_s2]; rfl
  · rw [if_neg (by decide), if_neg (by decide), if_pos (by decide), jbd_nI (by omega) (by decide), jlt_eq, c2]; rfl
  · rw [if_neg (by decide), if_neg (by decide), if_neg (by decide), if_pos (by decide), jbd_nI (by omega) (by decide), jlt_eq, c3]; rfl
  · rw [if_neg (by decide), if_neg (by decide), if_neg (by decide), if_neg (by decide), if_pos (by decide), mq_life hn2 p2 t1 t3 hk, jcb_s2]; rfl
  · rw [if_neg (by decide), if_neg (by decide), if_neg (by decide), if_neg (by decide), if_neg (by decide), if_pos (by decide), jbd_nI (by omega) (by decide), jlt_eq, c4]
    show _ = some (pOI (cNo (aT A).1 (aT A).2.1 (cPa (aT A).1 (aT A).2.1 (cW (aT A).1 (aT A).2.1 k))), w2)
    cases e : cPa (aT A).1 (aT A).2.1 (cW (aT A).1 (aT A).2.1 k) with
    | none => rw [pOI_n, if_pos rfl]; rfl
    | some l =>
      have hl := cPa_lt t1 hw e
      obtain ⟨j', hj', el⟩ := cW_sur (s := (aT A).1) t1 hl
      rw [e] at c4
      rw [pOI_s, if_neg (nI_ne1 (by omega)), jbd_nI (by omega) (by decide), jlt_eq, c4, pOI_s, jbd_nI (by omega) (by decide), jlt_eq, ← el, cNo_W t1 hj', p2.2.2.2.1 j' hj']
      rfl
  · rw [if_neg (by decide), if_neg (by decide), if_neg (by decide), if_neg (by decide), if_neg (by decide), if_neg (by decide), if_pos (by decide), mq_isKept p2 t1 t2 hk, jcb_s2]
    show _ = some ((if k < cK (aT A).1 (aT A).2.1 (aT A).2.2.1 then (1 : Int32) else 0), w2)
    by_cases c : k < cK (aT A).1 (aT A).2.1 (aT A).2.2.1
    · rw [if_pos c, if_neg n10]
    · rw [if_neg c, if_pos rfl]
  · rw [if_neg (by decide), if_neg (by decide), if_neg (by decide), if_neg (by decide), if_neg (by decide), if_neg (by decide), if_neg (by decide), if_pos (by decide), mq_gen hn2 p2 t1 hk, jcb_s2]; rfl
  · rw [if_neg (by decide), if_neg (by decide), if_neg (by decide), if_neg (by decide), if_neg (by decide), if_neg (by decide), if_neg (by decide), if_neg (by decide), jbd_nI (by omega) (by decide), jlt_eq, ll2.2.1 k hk]
    rfl
theorem m_peak_F (hM : RelM A w) (hA : wfA A) {x y : Int32} (h : ∀ X, aX A = some X → ¬ (qAt x (cM (aT A).1 (aT A).2.1) ∧ qAt y 9)) : ∃ w', f_X9_peak x y w = some (0, w') ∧ mOK w w' ∧ jgi w' 1 0 0 = 1 := by
  cases hX : aX A with
  | none =>
    obtain ⟨o2, -⟩ := m_thrown (w := w) (v := 1) hM.2.2.2.2.2.2
    refine ⟨_, ?_, o2, jgi_eq⟩
    rw [f_X9_peak, f_X9_isPeak, jlt_eq, (hM.x0 hX).1, if_pos rfl, jcb_s2, jlt_eq, jlt_eq, if_pos rfl]
    dsimp only
    rw [jlt_eq, jlt_eq, jgi_eq, if_pos rfl]
  | some X =>
    obtain ⟨w1, o1, p1, hn1, ll1, e1, e1'⟩ := m_isPeak hM hA hX x
    obtain ⟨o2, -⟩ := m_thrown (v := 1) (hM.ok o1).2.2.2.2.2.2
    refine ⟨_, ?_, o1.trans o2, jgi_eq⟩
    by_cases hx : qAt x (cM (aT A).1 (aT A).2.1)
    · have hy : ¬ qAt y 9 := fun z => h X hX ⟨hx, z⟩
      rw [f_X9_peak, e1 hx, jcb_s2, jlt_eq, jlt_eq, if_neg n10, mIn_F hy (by decide) (by decide), jcb_s2, if_pos rfl]
      dsimp only
      rw [jlt_eq, jlt_eq, jgi_eq, if_pos rfl]
    · rw [f_X9_peak, e1' hx, jcb_s2, jlt_eq, jlt_eq, if_pos rfl]
      dsimp only
      rw [jlt_eq, jlt_eq, jgi_eq, if_pos rfl]
def K38 (κ i k : Nat) : Prop := κ = 38 ∧ i = 0
/-- peak -/
theorem q_peak (hA : wfA A) (x y : Int32) (hC : RelC A w) (hM : RelM A w) : ∃ t v w1 w2, f_X0_peak x y 0 w = some (t, w1) ∧ f_X9_peak x y w1 = some (v, w2) ∧ jgi w2 1 0 0 = t ∧ (t = 0 → jgl w2 38 0 0 = v.toInt64) ∧ (∃ u, cOK w u ∧ pSame K38 u w1) ∧ mOK w1 w2 := by
  by_cases h : ∀ X, aX A = some X → ¬ (qAt x (cM (aT A).1 (aT A).2.1) ∧ qAt y 9)
  · obtain ⟨w1, e1, o1⟩ := c_peak_F hC hA h
    obtain ⟨w2, e2, o2, th⟩ := m_peak_F (hM.xc o1.xc) hA h
    refine ⟨1, 0, w1, w2, ?_, e2, th, fun z => absurd z (by decide), ⟨w1, o1, pSame.refl⟩, o2⟩
    rw [f_X0_peak, e1]
    rfl
  · obtain ⟨X, hX, hq⟩ : ∃ X, aX A = some X ∧ (qAt x (cM (aT A).1 (aT A).2.1) ∧ qAt y 9) := by
      apply Classical.byContradiction
      intro z
      exact h fun X hX q => z ⟨X, hX, q⟩
    obtain ⟨⟨k, hk, rfl⟩, ⟨j, hj, rfl⟩⟩ := hq
    obtain ⟨w1, e1, o1⟩ := c_peak_T hC hA hX hk hj
    have g : pSame K38 w1 (jsl w1 38 0 0 (cTell X (aT A) k j).toInt64) := pSame.jsl ⟨rfl, rfl⟩
    have hM1 := hM.xc o1.xc
    have hM2 : RelM A (jsl w1 38 0 0 (cTell X (aT A) k j).toInt64) := ⟨hM1.1, hM1.2.1, by
      have := hM1.2.2.1
      unfold mTrc at this ⊢
      cases e : aX A with
      | none => rw [e] at this; exact this
      | some Y =>
        rw [e] at this
        refine ⟨this.1, this.2.1, fun l hl => ⟨(this.2.2.1 l hl).1, ?_⟩, this.2.2.2⟩
        rw [g.2.1 _ _ _ (by unfold K38; omega)]
        exact (this.2.2.1 l hl).2, hM1.2.2.2.1, hM1.2.2.2.2.1, hM1.2.2.2.2.2.1, hM1.2.2.2.2.2.2.same g fun κ i k a b => by unfold KA at a; unfold K38 at b; omega⟩
    obtain ⟨w2, e2, o2, th⟩ := m_peak_T hM2 hA hX hk hj
    refine ⟨0, cTell X (aT A) k j, _, w2, ?_, e2, th, fun _ => ?_, ⟨w1, o1, g⟩, o2⟩
    · rw [f_X0_peak, e1]
      show (jbd 0 1 fun a => jlt (jsl w1 38 0 a (cTell X (aT A) k j).toInt64) fun w2 => some ((0 : Int32), w2)) = _
      rw [jbd_k0 (by decide) (by decide), jlt_eq]
    · rw [o2.1.2.1 _ _ _ (by unfold KMQ KA; omega)]
      exact jgl_jsl.trans (if_pos ⟨rfl, rfl, rfl⟩)
end ASK4
