/-! the pure law: an act of the model -/
section MACT
variable {w w' : j_St} {A : pA} {X : pX}
/-- now, and what is held, are others -/
theorem RelM.upd {T : pT} {u : Nat} {hs : Nat → pT} (h : RelM A w) (hX : aX A = some X) {K : Nat → Nat → Nat → Prop} (g : pSame K w w') (hK : ∀ κ i k, K κ i k → KMQ κ i k ∨ (κ = 47 ∨ κ = 62 ∨ (κ = 1 ∧ k = 44))) (hT : pRR w' 47 0 T) (hu : mUnd (setU A u hs) w') (p0 : WfA w') : RelM (setU (setT A T) u hs) w' := by
  obtain ⟨h1, h2, h3, h4, h5, h6, h7⟩ := h
  have nK : ∀ κ i k, ¬ KMQ κ i k → ¬ (κ = 47 ∨ κ = 62 ∨ (κ = 1 ∧ k = 44)) → ¬ K κ i k := fun κ i k a b z => by
    rcases hK κ i k z with y | y
    · exact a y
    · exact b y
  have r45 : ∀ k, jgi w' 45 0 k = jgi w 45 0 k := fun k => g.1 _ _ _ (nK _ _ _ (by unfold KMQ KA; omega) (by omega))
  have r46 : ∀ k, jgi w' 46 0 k = jgi w 46 0 k := fun k => g.1 _ _ _ (nK _ _ _ (by unfold KMQ KA; omega) (by omega))
  have r50 : ∀ k, jgi w' 50 0 k = jgi w 50 0 k := fun k => g.1 _ _ _ (nK _ _ _ (by unfold KMQ KA; omega) (by omega))
  have r51 : ∀ k, jgl w' 51 0 k = jgl w 51 0 k := fun k => g.2.1 _ _ _ (nK _ _ _ (by unfold KMQ KA; omega) (by omega))
  refine ⟨⟨?_, fun k hk => ?_⟩, ⟨?_, fun j hj => ?_⟩, ?_, ⟨?_, fun e => ?_⟩, hu, ⟨?_, ?_⟩, p0⟩
  · rw [g.1 _ _ _ (nK _ _ _ (by unfold KMQ KA; omega) (by omega))]; exact h1.1
  · rw [g.1 _ _ _ (nK _ _ _ (by unfold KMQ KA; omega) (by omega))]; exact h1.2 k hk
  · rw [g.1 _ _ _ (nK _ _ _ (by unfold KMQ KA; omega) (by omega))]; exact h2.1
  · obtain ⟨a1, a2⟩ := h2.2 j hj
    exact ⟨by rw [r46]; exact a1, fun i hi => by rw [r45]; exact a2 i hi⟩
  · unfold mTrc at h3 ⊢
    rw [hX] at h3
    rw [show aX (setU (setT A T) u hs) = some X from hX]
    obtain ⟨a1, a2, a3, a4⟩ := h3
    refine ⟨?_, a2.same g (fun k => nK _ _ _ (by unfold KMQ KA; omega) (by omega)) ⟨nK _ _ _ (by unfold KMQ KA; omega) (by omega), nK _ _ _ (by unfold KMQ KA; omega) (by omega)⟩, fun l hl => by rw [r50, r51]; exact a3 l hl, hT⟩
    rw [g.1 1 _ _ (nK _ _ _ (by unfold KMQ KA; omega) (by omega))]; exact a1
  · rw [g.1 _ _ _ (nK _ _ _ (by unfold KMQ KA; omega) (by omega))]; exact h4.1
  · exact (h4.2 e).same g (fun k => nK _ _ _ (by unfold KMQ KA; omega) (by omega))
  · rw [g.1 _ _ _ (nK _ _ _ (by unfold KMQ KA; omega) (by omega))]; exact h6.1
  · rw [g.1 _ _ _ (nK _ _ _ (by unfold KMQ KA; omega) (by omega))]; exact h6.2
theorem pRR_copy {κ κ' o o' : Nat} {T : pT} (h : pRR w κ o T) (hT : wfT T) (hc : ∀ k, k < 231 → jgi w' κ' 0 (o' + k) = jgi w κ 0 (o + k)) : pRR w' κ' o' T := by
  obtain ⟨h1, h2, h3, h4, h5⟩ := h
  obtain ⟨t1, t2, t3, t4, t5⟩ := hT
  refine ⟨?_, ?_, ?_, fun k hk => ?_, fun k hk => ?_⟩
  · rw [hc 48 (by decide)]; exact h1
  · rw [hc 49 (by decide)]; exact h2
  · rw [hc 50 (by decide)]; exact h3
  · rw [hc k (by omega)]; exact h4 k hk
  · rw [Nat.add_assoc, hc (51 + k) (by omega), ← Nat.add_assoc]; exact h5 k hk
theorem pIt_fillo {o : Nat} {g G : Nat → Int32} : ∀ (c m : Nat), ∀ k, pIt (fun m (f : Nat → Int32) => up f (o + m) (G m)) c m g k = if o + m ≤ k ∧ k < o + m + c then G (k - o) else g k := by
  intro c
  induction c generalizing g with
  | zero => intro m k; show g k = _; rw [if_neg (by omega)]
  | succ c ih =>
    intro m k
    show pIt _ c (m + 1) (up g (o + m) (G m)) k = _
    rw [ih]
    by_cases e : k = o + m
    · subst e
      rw [if_neg (by omega), up_same, if_pos (by omega), Nat.add_sub_cancel_left]
    · rw [up_ne e]
      by_cases c1 : o + (m + 1) ≤ k ∧ k < o + (m + 1) + c
      · rw [if_pos c1, if_pos (by omega)]
      · rw [if_neg c1, if_neg (by omega)]
def KH (κ i k : Nat) : Prop := (κ = 62 ∧ i = 0) ∨ (κ = 1 ∧ i = 0 ∧ k = 44)
/-- the row is laid behind u others -/
theorem m_keep54 {u : Nat} (hu : u < 40) (h44 : jgi w 1 0 44 = nI u) : ∃ g, f_X9_keep_L54 (fun (w25 : j_St) => jlt (jgi w25 1 0 44) fun v26 => jlt (jsi w25 1 0 44 (v26 + 1)) fun w27 => some ((), w27)) jFU 0 w = some ((), jsi (jas w 62 0 g) 1 0 44 (nI (u + 1))) ∧ ∀ k, g k = if 231 * u ≤ k ∧ k < 231 * u + 231 then jgi w 47 0 (k - 231 * u) else jgi w 62 0 k := by
  refine ⟨pIt (fun m (f : Nat → Int32) => up f (231 * u + m) (jgi w 47 0 m)) 231 0 (jgi w 62 0), ?_, fun k => by rw [pIt_fillo (o := 231 * u) (G := fun m => jgi w 47 0 m)]; rfl⟩
  have := pIt_is' (F := fun f m (g : Nat → Int32) => f_X9_keep_L54 (fun (w25 : j_St) => jlt (jgi w25 1 0 44) fun v26 => jlt (jsi w25 1 0 44 (v26 + 1)) fun w27 => some ((), w27)) f (nI m) (jas w 62 0 g)) (step := fun m f => up f (231 * u + m) (jgi w 47 0 m)) (N := 231) (G := fun g => some ((), jsi (jas w 62 0 g) 1 0 44 (nI (u + 1)))) (fun f m g hm => ?_) (fun f g => ?_) 231 jFU 0 (jgi w 62 0) (by omega) (jFU_gt (by omega))
  · refine Eq.trans ?_ this
    show _ = f_X9_keep_L54 _ jFU (nI 0) (jas w 62 0 (jgi w 62 0))
    rw [jas_self]
    rfl
  · show f_X9_keep_L54 _ (f + 1) (nI m) (jas w 62 0 g) = f_X9_keep_L54 _ f (nI (m + 1)) (jas w 62 0 (up g (231 * u + m) (jgi w 47 0 m)))
    rw [f_X9_keep_L54, if_neg (show ¬ (231 : Int32) ≤ nI m from fun z => by have := (nI_leI (a := 231) (b := m) (by omega) (by omega)).mp z; omega), jlt_eq, jas_ne (by omega), h44, jbd_nI (by omega) (by decide), jlt_eq, jas_ne (by omega), show (231 : Int32) * nI u + nI m = nI (231 * u + m) by rw [show (231 : Int32) * nI u = nI 231 * nI u from rfl, nI_mul, nI_add], jbd_nI (by omega) (by decide), jlt_eq, jas_set, jlt_eq, nI_1]
  · show f_X9_keep_L54 _ (f + 1) (nI 231) (jas w 62 0 g) = _
    rw [f_X9_keep_L54, if_pos (by decide), jlt_eq, jas_ne (by omega), h44, jlt_eq, nI_1]
theorem m_keep13 {kk : j_St → Option (Unit × j_St)} : ∃ g, f_X9_keep_L13 kk jFU 231 w = kk (jas w 62 0 g) ∧ ∀ k, k < 9009 → g k = jgi w 62 0 (k + 231) := by
  refine ⟨pIt (fun m (f : Nat → Int32) => up f m (jgi w 62 0 (m + 231))) 9009 0 (jgi w 62 0), ?_, fun k hk => by rw [pIt_fill (G := fun m => jgi w 62 0 (m + 231)), if_pos (by omega)]⟩
  have := pIt_is (F := fun f m (g : Nat → Int32) => f_X9_keep_L13 kk f (nI (231 + m)) (jas w 62 0 g)) (step := fun m f => up f m (jgi w 62 0 (m + 231))) (I := fun m g => ∀ k, m ≤ k → g k = jgi w 62 0 k) (N := 9009) (G := fun g => kk (jas w 62 0 g)) (fun f m g hm hI => ?_) (fun m g hm hI k hk => by rw [up_ne (by omega)]; exact hI k (by omega)) (fun f g _ => ?_) 9009 jFU 0 (jgi w 62 0) (by omega) (jFU_gt (by omega)) (fun k _ => rfl)
  · refine Eq.trans ?_ this
    show _ = f_X9_keep_L13 kk jFU (nI (231 + 0)) (jas w 62 0 (jgi w 62 0))
    rw [jas_self]
    rfl
  · show f_X9_keep_L13 kk (f + 1) (nI (231 + m)) (jas w 62 0 g) = f_X9_keep_L13 kk f (nI (231 + (m + 1))) (jas w 62 0 (up g m (jgi w 62 0 (m + 231))))
    rw [f_X9_keep_L13, if_neg (show ¬ (9240 : Int32) ≤ nI (231 + m) from fun z => by have := (nI_leI (a := 9240) (b := 231 + m) (by omega) (by omega)).mp z; omega), jbd_nI (by omega) (by decide), jlt_eq, jas_get, hI _ (by omega), show nI (231 + m) - 231 = nI m by rw [show (231 : Int32) = nI 231 from rfl, nI_sub (by omega), Nat.add_sub_cancel_left], jbd_nI (by omega) (by decide), jlt_eq, jas_set, jlt_eq, nI_1, Nat.add_comm 231 m]
    rw [show m + 231 + 1 = 231 + (m + 1) by omega]
  · show f_X9_keep_L13 kk (f + 1) (nI (231 + 9009)) (jas w 62 0 g) = _
    rw [f_X9_keep_L13, if_pos (by decide)]
theorem m_keep {T : pT} (hT : wfT T) (h47 : pRR w 47 0 T) (hM : mUnd A w) (hu : aU A ≤ 40) (hw : ∀ j, j < aU A → wfT (aHs A j)) : ∃ w', f_X9_keep w = some ((), w') ∧ pSame KH w w' ∧ mUnd (setU A (min 40 (aU A + 1)) (hsPush A T)) w' := by
  obtain ⟨m1, m2⟩ := hM
  by_cases c : aU A = 40
  · obtain ⟨g1, e1, h1⟩ := m_keep13 (w := w) (kk := fun (w11 : j_St) => jlt (jgi w11 1 0 44) fun v12 => jlt (jsi w11 1 0 44 (v12 - 1)) fun w13 => f_X9_keep_L54 (fun (w25 : j_St) => jlt (jgi w25 1 0 44) fun v26 => jlt (jsi w25 1 0 44 (v26 + 1)) fun w27 => some ((), w27)) jFU 0 w13)
    have s1 : pSame KH w (jsi (jas w 62 0 g1) 1 0 44 (nI 39)) := (jas_same fun k => Or.inl ⟨rfl, rfl⟩).trans (pSame.jsi (Or.inr ⟨rfl, rfl, rfl⟩))
    obtain ⟨g2, e2, h2⟩ := m_keep54 (w := jsi (jas w 62 0 g1) 1 0 44 (nI 39)) (u := 39) (by decide) jgi_eq
    have r62 : ∀ k, jgi (jsi (jas w 62 0 g1) 1 0 44 (nI 39)) 62 0 k = g1 k := fun k => by rw [jgi_ne (by omega), jas_get]
    have r47 : ∀ k, jgi (jsi (jas w 62 0 g1) 1 0 44 (nI 39)) 47 0 k = jgi w 47 0 k := fun k => by rw [jgi_ne (by omega), jas_ne (by omega)]
    have f62 : ∀ k, jgi (jsi (jas (jsi (jas w 62 0 g1) 1 0 44 (nI 39)) 62 0 g2) 1 0 44 (nI (39 + 1))) 62 0 k = g2 k := fun k => by rw [jgi_ne (by omega), jas_get]
    refine ⟨jsi (jas (jsi (jas w 62 0 g1) 1 0 44 (nI 39)) 62 0 g2) 1 0 44 (nI (39 + 1)), ?_, (s1.trans (jas_same fun k => Or.inl ⟨rfl, rfl⟩)).trans (pSame.jsi (Or.inr ⟨rfl, rfl, rfl⟩)), ?_, fun j hj => ?_⟩
    · rw [f_X9_keep, jlt_eq, m1, c, jlt_eq, if_pos (by decide)]
      refine e1.trans ?_
      rw [jlt_eq, jas_ne (by omega), m1, c, show nI 40 - 1 = nI 39 by decide, jlt_eq]
      exact e2
    · show jgi _ 1 0 44 = nI (min 40 (aU A + 1))
      rw [jgi_eq, show min 40 (aU A + 1) = 39 + 1 by omega]
    · have hj : j < min 40 (aU A + 1) := hj
      show pRR _ 62 (231 * (min 40 (aU A + 1) - 1 - j)) (hsPush A T j)
      have u40 : min 40 (aU A + 1) = 40 := by omega
      rw [u40]
      unfold hsPush
      by_cases j0 : j = 0
      · rw [if_pos j0]
        refine pRR_copy h47 hT fun k hk => ?_
        rw [f62, h2, if_pos (by omega), r47]
        exact congrArg (jgi w 47 0) (by omega)
      · rw [if_neg j0]
        refine pRR_copy (m2 (j - 1) (by omega)) (hw _ (by omega)) fun k hk => ?_
        rw [f62, h2, if_neg (by omega), r62, h1 _ (by omega)]
        exact congrArg (jgi w 62 0) (by omega)
  · obtain ⟨g2, e2, h2⟩ := m_keep54 (w := w) (u := aU A) (by omega) m1
    have f62 : ∀ k, jgi (jsi (jas w 62 0 g2) 1 0 44 (nI (aU A + 1))) 62 0 k = g2 k := fun k => by rw [jgi_ne (by omega), jas_get]
    refine ⟨jsi (jas w 62 0 g2) 1 0 44 (nI (aU A + 1)), ?_, (jas_same fun k => Or.inl ⟨rfl, rfl⟩).trans (pSame.jsi (Or.inr ⟨rfl, rfl, rfl⟩)), ?_, fun j hj => ?_⟩
    · rw [f_X9_keep, jlt_eq, m1, jlt_eq, if_neg (show ¬ nI (aU A) = 40 from fun e => c ((nI_eq (b := 40) (by omega) (by decide)).mp e))]
      exact e2
    · show jgi _ 1 0 44 = nI (min 40 (aU A + 1))
      rw [jgi_eq, show min 40 (aU A + 1) = aU A + 1 by omega]
    · have hj : j < min 40 (aU A + 1) := hj
      show pRR _ 62 (231 * (min 40 (aU A + 1) - 1 - j)) (hsPush A T j)
      have u40 : min 40 (aU A + 1) = aU A + 1 := by omega
      rw [u40]
      unfold hsPush
      by_cases j0 : j = 0
      · rw [if_pos j0]
        refine pRR_copy h47 hT fun k hk => ?_
        rw [f62, h2, if_pos (by omega)]
        exact congrArg (jgi w 47 0) (by omega)
      · rw [if_neg j0]
        refine pRR_copy (m2 (j - 1) (by omega)) (hw _ (by omega)) fun k hk => ?_
        rw [f62, h2, if_neg (by omega)]
        exact congrArg (jgi w 62 0) (by omega)
/-- a note is made -/
def KNm (κ i k : Nat) : Prop := KMD κ i k
theorem m_note {lp : Nat → Int32} {ln : Nat} {rc : Int32} {T : pT} (h : pRR w 47 0 T) (hT : wfT T) (hL : pLn w lp ln rc) (hA : WfA w) {v0 v1 : Int32} : ∃ w', f_X9_note v0 v1 w = some ((), w') ∧ pSame KMD w w' ∧ pRR w' 47 0 (pNote T v0 v1 (nI (cK T.1 T.2.1 T.2.2.1))) ∧ WfA w' := by
  have hMn := pRR_Mn h hT
  obtain ⟨t1, t2, t3, t4, t5⟩ := hT
  obtain ⟨h1, h2, h3, h4, h5⟩ := h
  rw [Nat.zero_add] at h1 h2 h3
  have tail : ∀ (u : j_St) (m : Nat) (nt : Nat → Int32), m < 60 → pMn u (sI T.1) T.2.1 (nI T.2.2.1) → pLn u lp ln rc → WfA u → jgi u 47 0 50 = nI m → (∀ k, k < 3 * m → jgi u 47 0 (51 + k) = nt k) → ∃ w', (jbd 50 231 fun a21 => jlt (jgi u 47 0 a21) fun v22 => jlt (51 + (3 * v22)) fun v23 => jbd v23 231 fun a26 => jlt (jsi u 47 0 a26 v0) fun w25 => jbd (v23 + 1) 231 fun a29 => jlt (jsi w25 47 0 a29 v1) fun w28 => jcb (f_X9_keptNow w28) fun v31 w32 => jbd (v23 + 2) 231 fun a35 => jlt (jsi w32 47 0 a35 v31) fun w34 => jbd 50 231 fun a37 => jlt (jgi w34 47 0 a37) fun v38 => jbd 50 231 fun a40 => jlt (jsi w34 47 0 a40 (v38 + 1)) fun w39 => some ((), w39)) = some ((), w') ∧ pSame KMD u w' ∧ pRR w' 47 0 (T.1, T.2.1, T.2.2.1, m + 1, up (up (up nt (3 * m) v0) (3 * m + 1) v1) (3 * m + 2) (nI (cK T.1 T.2.1 T.2.2.1))) ∧ WfA w' := fun u m nt hm n1 L1 A1 m1 hnt => by
    have e3 : (51 : Int32) + 3 * nI m = nI (51 + 3 * m) := by
      rw [show (3 : Int32) * nI m = nI (3 * m) from nI_mul 3 m]
      exact nI_add 51 _
    have e4 : nI (51 + 3 * m) + 2 = nI (51 + 3 * m + 2) := nI_add _ 2
    have gA : pSame (fun κ i k => κ = 47 ∧ i = 0 ∧ 51 ≤ k) u (jsi (jsi u 47 0 (51 + 3 * m) v0) 47 0 (51 + 3 * m + 1) v1) := (pSame.jsi (by omega)).trans (pSame.jsi (by omega))
    have n2 : pMn (jsi (jsi u 47 0 (51 + 3 * m) v0) 47 0 (51 + 3 * m + 1) v1) (sI T.1) T.2.1 (nI T.2.2.1) := ⟨by rw [gA.1 _ _ _ (by omega)]; exact n1.1, by rw [gA.1 _ _ _ (by omega)]; exact n1.2.1, fun k hk => by rw [gA.1 _ _ _ (by omega)]; exact n1.2.2.1 k hk, t2⟩
    obtain ⟨w2, e2, d1, d2, d3, d4⟩ := m_keptT n2 (L1.same gA (fun k => by omega) ⟨by omega, by omega⟩) (A1.same gA (fun κ i k a b => by unfold KA at a; omega)) t1 t3 t4
    have i50 : jgi w2 47 0 50 = nI m := by rw [d3 50 (by omega), gA.1 _ _ _ (by omega)]; exact m1
    have gB : pSame (fun κ i k => κ = 47 ∧ i = 0 ∧ 50 ≤ k) w2 (jsi (jsi w2 47 0 (51 + 3 * m + 2) (nI (cK T.1 T.2.1 T.2.2.1))) 47 0 50 (nI (m + 1))) := (pSame.jsi (by omega)).trans (pSame.jsi (by omega))
    refine ⟨jsi (jsi w2 47 0 (51 + 3 * m + 2) (nI (cK T.1 T.2.1 T.2.2.1))) 47 0 50 (nI (m + 1)), ?_, ((gA.mono fun κ i k y => Or.inr ⟨Or.inr y.1, y.2.1⟩).trans d1).trans (gB.mono fun κ i k y => Or.inr ⟨Or.inr y.1, y.2.1⟩), ⟨?_, ?_, ?_, fun k hk => ?_, fun k hk => ?_⟩, d4.same gB (fun κ i k a b => by unfold KA at a; omega)⟩
    · rw [jbd_k50 (by decide) (by decide), jlt_eq, m1, jlt_eq, e3, jbd_nI (by omega) (by decide), jlt_eq, nI_1, jbd_nI (by omega) (by decide), jlt_eq, e2, jcb_s2, e4, jbd_nI (by omega) (by decide), jlt_eq, jbd_k50 (by decide) (by decide), jlt_eq, jgi_ne (by omega), i50, jbd_k50 (by decide) (by decide), jlt_eq, nI_1]
    · show jgi _ 47 0 (0 + 48) = _
      rw [gB.1 _ _ _ (by omega)]; exact d2.1
    · show jgi _ 47 0 (0 + 49) = _
      rw [gB.1 _ _ _ (by omega)]; exact d2.2.1
    · exact jgi_eq
    · rw [gB.1 _ _ _ (by have hk : k < T.2.1 := hk; omega), Nat.zero_add]; exact d2.2.2.1 k hk
    · have hk : k < 3 * (m + 1) := hk
      rw [Nat.zero_add, jgi_ne (by omega)]
      show jgi _ 47 0 (51 + k) = up (up (up nt (3 * m) v0) (3 * m + 1) v1) (3 * m + 2) _ k
      unfold up
      by_cases c2 : k = 3 * m + 2
      · rw [c2, show 51 + (3 * m + 2) = 51 + 3 * m + 2 by omega, jgi_eq, if_pos rfl]
      · rw [jgi_ne (by omega), d3 _ (by omega), if_neg c2]
        by_cases c1 : k = 3 * m + 1
        · rw [c1, show 51 + (3 * m + 1) = 51 + 3 * m + 1 by omega, jgi_eq, if_pos rfl]
        · rw [jgi_ne (by omega), if_neg c1]
          by_cases c0 : k = 3 * m
          · rw [c0, jgi_eq, if_pos rfl]
          · rw [jgi_ne (by omega), if_neg c0]
            exact hnt k (by omega)
  by_cases c : T.2.2.2.1 = 60
  · have L14 : ∀ kk : j_St → Option (Unit × j_St), ∃ g, f_X9_note_L14 kk jFU 3 w = kk (jas w 47 0 g) ∧ ∀ k, g k = if 51 ≤ k ∧ k < 51 + 177 then jgi w 47 0 (k + 3) else jgi w 47 0 k := fun kk => by
      refine ⟨pIt (fun m (f : Nat → Int32) => up f (51 + m) (jgi w 47 0 (51 + m + 3))) 177 0 (jgi w 47 0), ?_, fun k => by
        rw [pIt_fillo (o := 51) (G := fun m => jgi w 47 0 (51 + m + 3))]
        by_cases q : 51 ≤ k ∧ k < 51 + 177
        · rw [if_pos (by omega), if_pos q]
          congr 1
          omega
        · rw [if_neg (by omega), if_neg q]⟩
      have := pIt_is (F := fun f m (g : Nat → Int32) => f_X9_note_L14 kk f (nI (3 + m)) (jas w 47 0 g)) (step := fun m f => up f (51 + m) (jgi w 47 0 (51 + m + 3))) (I := fun m g => ∀ k, 51 + m ≤ k → g k = jgi w 47 0 k) (N := 177) (G := fun g => kk (jas w 47 0 g)) (fun f m g hm hI => ?_) (fun m g hm hI k hk => by rw [up_ne (by omega)]; exact hI k (by omega)) (fun f g _ => ?_) 177 jFU 0 (jgi w 47 0) (by omega) (jFU_gt (by omega)) (fun k _ => rfl)
      · refine Eq.trans ?_ this
        show _ = f_X9_note_L14 kk jFU (nI (3 + 0)) (jas w 47 0 (jgi w 47 0))
        rw [jas_self]
        rfl
      · have a1 : (51 : Int32) + nI (3 + m) = nI (51 + m + 3) := by rw [show (51 : Int32) = nI 51 from rfl, nI_add]; congr 1 <;> omega
        have a2 : nI (51 + m + 3) - 3 = nI (51 + m) := by rw [show (3 : Int32) = nI 3 from rfl, nI_sub (by omega)]; congr 1 <;> omega
        show f_X9_note_L14 kk (f + 1) (nI (3 + m)) (jas w 47 0 g) = f_X9_note_L14 kk f (nI (3 + (m + 1))) _
        rw [f_X9_note_L14, if_neg (show ¬ (180 : Int32) ≤ nI (3 + m) from fun z => by have := (nI_leI (a := 180) (b := 3 + m) (by omega) (by omega)).mp z; omega), a1, jbd_nI (by omega) (by decide), jlt_eq, jas_get, hI _ (by omega), a2, jbd_nI (by omega) (by decide), jlt_eq, jas_set, jlt_eq, nI_1]
        rfl
      · show f_X9_note_L14 kk (f + 1) (nI (3 + 177)) (jas w 47 0 g) = _
        rw [f_X9_note_L14, if_pos (by decide)]
    obtain ⟨g, eL, hg⟩ := L14 (fun (w13 : j_St) => jbd 50 231 fun a15 => jlt (jgi w13 47 0 a15) fun v16 => jbd 50 231 fun a18 => jlt (jsi w13 47 0 a18 (v16 - 1)) fun w17 => jbd 50 231 fun a21 => jlt (jgi w17 47 0 a21) fun v22 => jlt (51 + (3 * v22)) fun v23 => jbd v23 231 fun a26 => jlt (jsi w17 47 0 a26 v0) fun w25 => jbd (v23 + 1) 231 fun a29 => jlt (jsi w25 47 0 a29 v1) fun w28 => jcb (f_X9_keptNow w28) fun v31 w32 => jbd (v23 + 2) 231 fun a35 => jlt (jsi w32 47 0 a35 v31) fun w34 => jbd 50 231 fun a37 => jlt (jgi w34 47 0 a37) fun v38 => jbd 50 231 fun a40 => jlt (jsi w34 47 0 a40 (v38 + 1)) fun w39 => some ((), w39))
    have g1 : pSame (fun κ i k => κ = 47 ∧ i = 0) w (jsi (jas w 47 0 g) 47 0 50 (nI 59)) := (jas_same fun k => ⟨rfl, rfl⟩).trans (pSame.jsi ⟨rfl, rfl⟩)
    obtain ⟨w', e', g', p', A'⟩ := tail (jsi (jas w 47 0 g) 47 0 50 (nI 59)) 59 (fun k => T.2.2.2.2 (k + 3)) (by decide) ⟨by rw [jgi_ne (by omega), jas_get, hg, if_neg (by omega)]; exact hMn.1, by rw [jgi_ne (by omega), jas_get, hg, if_neg (by omega)]; exact hMn.2.1, fun k hk => by rw [jgi_ne (by omega), jas_get, hg, if_neg (by omega)]; exact hMn.2.2.1 k hk, t2⟩ (hL.same g1 (fun k => by omega) ⟨by omega, by omega⟩) (hA.same g1 (fun κ i k a b => by unfold KA at a; omega)) jgi_eq (fun k hk => by
      rw [jgi_ne (by omega), jas_get, hg, if_pos (by omega)]
      have := h5 (k + 3) (by omega)
      rw [show 0 + 51 + (k + 3) = 51 + k + 3 by omega] at this
      exact this)
    refine ⟨w', ?_, (g1.mono fun κ i k y => Or.inr ⟨Or.inr y.1, y.2⟩).trans g', ?_, A'⟩
    · rw [f_X9_note, jbd_k50 (by decide) (by decide), jlt_eq, h3, c, jlt_eq, if_pos (by decide)]
      refine eL.trans ?_
      rw [jbd_k50 (by decide) (by decide), jlt_eq, jas_get, hg, if_neg (by decide), h3, c, show nI 60 - 1 = nI 59 by decide, jbd_k50 (by decide) (by decide), jlt_eq]
      exact e'
    · unfold pNote
      simp only [c, if_true]
      exact p'
  · obtain ⟨w', e', g', p', A'⟩ := tail w T.2.2.2.1 T.2.2.2.2 (by omega) hMn hL hA h3 (fun k hk => by
      have := h5 k hk
      rw [Nat.zero_add] at this
      exact this)
    refine ⟨w', ?_, g', ?_, A'⟩
    · rw [f_X9_note, jbd_k50 (by decide) (by decide), jlt_eq, h3, jlt_eq, if_neg (show ¬ nI T.2.2.2.1 = 60 from fun e => c ((nI_eq (b := 60) (by omega) (by decide)).mp e))]
      exact e'
    · unfold pNote
      simp only [c, if_false]
      exact p'
/-- AN ACT OF THE MODEL -/
theorem m_act (hM : RelM A w) (hA : wfA A) (hX : aX A = some X) {q : Nat} (hq : q < 10) {a b : Int32} (hy : dWhy q a b (aT A).2.1 = -1) : ∃ w', f_X9_act (nI q) a b w = some ((dDo q a b (aT A)).2, w') ∧ RelM (actA A q a b) w' ∧ pSame KXM w w' ∧ jgl w' 1 0 45 = jgl w 1 0 45 := by
  obtain ⟨hwX, hT⟩ := hA.x hX
  have hT' := hT
  obtain ⟨t1, t2, t3, t4, t5⟩ := hT'
  obtain ⟨x1, x2, x3, x4⟩ := hM.xt hX
  obtain ⟨w1, e1, g1, u1⟩ := m_keep hT x4 hM.2.2.2.2.1 hA.2.2.2.2.2.1 hA.2.2.2.2.2.2
  have n1 : pMn w1 (sI (aT A).1) (aT A).2.1 (nI (aT A).2.2.1) := (hM.mn hA hX).same g1 (fun k => by unfold KH; omega)
  have L1 := x2.same g1 (fun k => by unfold KH; omega) ⟨by unfold KH; omega, by unfold KH; omega⟩
  have A1 := hM.2.2.2.2.2.2.same g1 (fun κ i k a b => by unfold KA at a; unfold KH at b; omega)
  obtain ⟨w2, e2, d2⟩ := m_deed (nm := (aT A).2.2.2.1) (nt := (aT A).2.2.2.2) n1 L1 A1 t1 t3 t4 hq hy
  have d2 : mDone w1 w2 (dDo q a b (aT A)).1.1 (dDo q a b (aT A)).1.2.1 (dDo q a b (aT A)).1.2.2.1 := d2
  have e2 : f_X9_doNow (nI q) a b w1 = some ((dDo q a b (aT A)).2, w2) := e2
  have L2 := d2.lns L1
  obtain ⟨g2, n2, r2, A2⟩ := d2
  have hT2 := dDo_wf hT hy hq
  have lg := dDo_log (q := q) (a := a) (b := b) (T := aT A)
  have rr2 : pRR w2 47 0 (dDo q a b (aT A)).1 := by
    obtain ⟨y1, y2, y3, y4, y5⟩ := x4
    refine ⟨by rw [Nat.zero_add]; exact n2.1, by rw [Nat.zero_add]; exact n2.2.1, ?_, fun k hk => by rw [Nat.zero_add]; exact n2.2.2.1 k hk, fun k hk => ?_⟩
    · rw [r2 _ (by omega), g1.1 _ _ _ (by unfold KH; omega), lg]; exact y3
    · rw [lg] at hk ⊢
      rw [r2 _ (by omega), g1.1 _ _ _ (by unfold KH; omega)]; exact y5 k hk
  obtain ⟨w3, e3, g3, rr3, A3⟩ := m_note (v0 := nI q) (v1 := if q ≤ 3 then 0 else a) rr2 hT2 L2 A2
  have u3 : mUnd (setU A (min 40 (aU A + 1)) (hsPush A (aT A))) w3 := by
    obtain ⟨y1, y2⟩ := u1
    refine ⟨by rw [g3.1 _ _ _ (by unfold KMD KA; omega), g2.1 _ _ _ (by unfold KMD KA; omega)]; exact y1, fun j hj => ?_⟩
    exact ((y2 j hj).same g2 (fun k => by unfold KMD KA; omega)).same g3 (fun k => by unfold KMD KA; omega)
  have gAll : pSame (fun κ i k => KH κ i k ∨ KMD κ i k) w w3 := ((g1.mono fun κ i k y => Or.inl y).trans (g2.mono fun κ i k y => Or.inr y)).trans (g3.mono fun κ i k y => Or.inr y)
  refine ⟨w3, ?_, hM.upd hX gAll (fun κ i k y => ?_) rr3 u3 A3, gAll.mono fun κ i k y => ?_, gAll.2.1 _ _ _ (by unfold KH KMD KA; omega)⟩
  · rw [f_X9_act, e1, jcb_s2, e2, jcb_s2, jlt_eq]
    by_cases c : q ≤ 3
    · rw [if_pos c] at e3
      rw [if_neg (show ¬ (3 : Int32) < nI q from fun z => by have := (nI_ltI (a := 3) (b := q) (by omega) (by omega)).mp z; omega)]
      dsimp only
      rw [e3, jcb_s2]
    · rw [if_neg c] at e3
      rw [if_pos (show (3 : Int32) < nI q from (nI_ltI (a := 3) (b := q) (by omega) (by omega)).mpr (by omega))]
      dsimp only
      rw [e3, jcb_s2]
  · rcases y with y | y
    · unfold KH at y
      exact Or.inr (by omega)
    · unfold KMD at y
      rcases y with y | y
      · exact Or.inl (Or.inl y)
      · rcases y.1 with z | z
        · exact Or.inl (Or.inr (Or.inl z))
        · exact Or.inr (Or.inl z)
  · unfold KH KMD KA at y
    unfold KXM
    omega
end MACT
