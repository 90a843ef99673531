/-! the pure law: undo, image, back, end; the acts by their names -/
section BACK
variable {w w' : j_St} {A A' : pA} {X : pX}
theorem jcb_id {α : Type} {o : Option (α × j_St)} : (jcb o fun v w => some (v, w)) = o := by
  cases o with
  | none => rfl
  | some p => rfl
theorem pOp.ext {f g f' g' : j_St → Option (Int32 × j_St)} (h : pOp A f g) (e1 : ∀ w, f' w = f w) (e2 : ∀ w, g' w = g w) : pOp A f' g' := fun w hC hM => by
  obtain ⟨r, w1, w2, A', a, b, c⟩ := h w hC hM
  exact ⟨r, w1, w2, A', by rw [e1]; exact a, by rw [e2]; exact b, c⟩
theorem o_smooth (hA : wfA A) : pOp A f_X1_smooth f_X9_smooth := (p_act hA (q := 0) (by decide) 0 0).ext (fun w => jcb_id) (fun w => jcb_id)
theorem o_median (hA : wfA A) : pOp A f_X1_median f_X9_median := (p_act hA (q := 1) (by decide) 0 0).ext (fun w => jcb_id) (fun w => jcb_id)
theorem o_flat (hA : wfA A) : pOp A f_X1_flat f_X9_flat := (p_act hA (q := 2) (by decide) 0 0).ext (fun w => jcb_id) (fun w => jcb_id)
theorem o_turn (hA : wfA A) : pOp A f_X1_turn f_X9_turn := (p_act hA (q := 3) (by decide) 0 0).ext (fun w => jcb_id) (fun w => jcb_id)
theorem o_clip (hA : wfA A) (x : Int32) : pOp A (f_X1_clip x) (f_X9_clip x) := (p_act hA (q := 4) (by decide) x 0).ext (fun w => jcb_id) (fun w => jcb_id)
theorem o_lift (hA : wfA A) (x : Int32) : pOp A (f_X1_lift x) (f_X9_lift x) := (p_act hA (q := 5) (by decide) x 0).ext (fun w => jcb_id) (fun w => jcb_id)
theorem o_scale (hA : wfA A) (x y : Int32) : pOp A (f_X1_scale x y) (f_X9_scale x y) := (p_act hA (q := 6) (by decide) x y).ext (fun w => jcb_id) (fun w => jcb_id)
theorem o_set (hA : wfA A) (x y : Int32) : pOp A (f_X1_set x y) (f_X9_set x y) := (p_act hA (q := 7) (by decide) x y).ext (fun w => jcb_id) (fun w => jcb_id)
theorem o_noise (hA : wfA A) (x : Int32) : pOp A (f_X1_noise x) (f_X9_noise x) := (p_act hA (q := 8) (by decide) x 0).ext (fun w => jcb_id) (fun w => jcb_id)
theorem o_cut (hA : wfA A) (x y : Int32) : pOp A (f_X1_cut x y) (f_X9_cut x y) := (p_act hA (q := 9) (by decide) x y).ext (fun w => jcb_id) (fun w => jcb_id)
/-! end -/
def endA (A : pA) (n : Nat) : pA := ((n, A.1.2), A.2)
theorem o_end (hA : wfA A) (x : Int32) : pOp A (f_X1_end x) (f_X9_end x) := by
  have tl := hA.1.1
  by_cases h : 0 ≤ x ∧ x ≤ nI (aTl A)
  · obtain ⟨k, hk, rfl⟩ : ∃ k, k ≤ aTl A ∧ x = nI k := by
      obtain ⟨k, hk, e⟩ := nI_of (Int32.not_lt.mpr h.1)
      refine ⟨k, ?_, e⟩
      rw [e] at h
      exact (nI_leI hk (by omega)).mp h.2
    refine pOp_of (A' := endA A k) (r := 1) ⟨⟨by show k ≤ 400; omega, fun j hj => hA.1.2 j (by have hj : j < k := hj; omega)⟩, hA.2⟩ (fun w hC => ?_) (fun w hM => ?_)
    · obtain ⟨h1, h2, h3, h4, h5, h6, h7, p0, p1, h10⟩ := hC
      have g : pSame (fun κ i k => κ = 0 ∧ k = 3) w (jsi w 0 0 3 (nI k)) := pSame.jsi ⟨rfl, rfl⟩
      refine ⟨jsi w 0 0 3 (nI k), ?_, ⟨⟨jgi_eq, fun j hj => ?_⟩, h2.sm g (by omega) (fun k => by omega) (fun κ q k a b => by omega) (Nat.le_refl _), h3.sm g (by omega) (fun κ q k a b => by omega) (fun q k a => by omega) (fun q k a => by omega) (fun k => by omega) (Nat.le_refl _) (Nat.le_refl _) (Nat.le_refl _), h4.sm g (by omega) (fun k => by omega), h5.sm g (by omega) (fun k => by omega) (fun b k a c => by omega) (Nat.le_refl _), h6.sm g (by omega), h7.same g (fun κ i k hk => by omega), p0.low g (fun κ i k y => by omega), p1.low g (fun κ i k y => by omega), h10⟩, g.mono fun κ i k y => by unfold KXC; omega⟩
      · rw [f_X1_end, if_neg (nI_pos (by omega)), jlt_eq, h1.1, if_pos h.2, jlt_eq]
      · have hj : j < k := hj
        rw [jgi_ne (by omega)]
        exact h1.2 j (by omega)
    · obtain ⟨h1, h2, h3, h4, h5, h6, p0⟩ := hM
      have g : pSame (fun κ i k => κ = 1 ∧ k = 2) w (jsi w 1 0 2 (nI k)) := pSame.jsi ⟨rfl, rfl⟩
      refine ⟨jsi w 1 0 2 (nI k), ?_, ⟨⟨jgi_eq, fun j hj => ?_⟩, h2.sm hA g (by omega) (fun k a => by omega) (fun k a => by omega), h3.sm g (by omega) (fun k => by omega), h4.sm g (by omega) (fun k => by omega), h5.sm g (by omega) (fun k => by omega), h6.sm g (by omega), p0.same g (fun κ i k a b => by unfold KA at a; omega)⟩, g.mono fun κ i k y => by unfold KXM; omega⟩
      · rw [f_X9_end, jlt_eq, h1.1, sp_in, if_pos h, jcb_s2, if_neg n10, jlt_eq]
      · have hj : j < k := hj
        rw [jgi_ne (by omega)]
        exact h1.2 j (by omega)
  · refine (pQry_of (r := 0) (fun w hC => ⟨w, ?_, hC.self⟩) (fun w hM => ⟨w, ?_, hM.self⟩)).op hA
    · rw [f_X1_end]
      by_cases c : x < 0
      · rw [if_pos c]
      · rw [if_neg c, jlt_eq, hC.1.1, if_neg (fun z => h ⟨Int32.not_lt.mp c, z⟩)]
    · rw [f_X9_end, jlt_eq, hM.1.1, sp_in, if_neg h, jcb_s2, if_pos rfl]
/-! undo -/
def undoA (A : pA) : pA := setU (setT A (aHs A 0)) (aU A - 1) (fun j => aHs A (j + 1))
theorem undoA_wf (hA : wfA A) (hu : 0 < aU A) : wfA (undoA A) := by
  obtain ⟨h1, h2, h3, h4, h5, h6, h7⟩ := hA
  refine ⟨h1, h2, fun e => ?_, fun Y e => ⟨(h4 Y e).1, h7 0 hu⟩, h5, ?_, fun j hj => ?_⟩
  · have := (h3 e).1
    omega
  · show aU A - 1 ≤ 40
    omega
  · have hj : j < aU A - 1 := hj
    exact h7 (j + 1) (by omega)
theorem mod40b {x : Nat} (h : x < 40) : nI x + 40 - 1 - (nI x + 40 - 1) / 40 * 40 = nI ((x + 39) % 40) := by
  have hd : ∀ y : Fin 40, nI y.val + 40 - 1 - (nI y.val + 40 - 1) / 40 * 40 = nI ((y.val + 39) % 40) := by decide +kernel
  exact hd ⟨x, h⟩
theorem aX_some (hA : wfA A) (hu : 0 < aU A) : ∃ X, aX A = some X := by
  cases e : aX A with
  | none => have := (hA.2.2.1 e).1; omega
  | some X => exact ⟨X, rfl⟩
theorem c_undo (hC : RelC A w) (hA : wfA A) (hu : 0 < aU A) : ∃ w', f_X1_undo w = some (nI (aU A - 1), w') ∧ RelC (undoA A) w' ∧ pSame KXC w w' := by
  obtain ⟨X, hX⟩ := aX_some hA hu
  have u40 := hA.2.2.2.2.2.1
  have hC' := hC
  obtain ⟨h1, h2, h3, h4, ⟨c1, ua, c2, c3, c4, c5⟩, h6, h7, q0, q1, h10⟩ := hC'
  obtain ⟨b, hb, pb⟩ := c5 0 hu
  rw [Nat.sub_zero] at hb
  obtain ⟨b1, b2, b3⟩ := c4 _ b (Nat.mod_lt _ (by decide)) hb
  have g1 : pSame (fun κ i k => κ = 0 ∧ (k = 18 ∨ k = 19)) w (jsi (jsi w 0 0 18 (nI (aU A - 1))) 0 0 19 (nI ((ua + 39) % 40))) := (pSame.jsi ⟨rfl, Or.inl rfl⟩).trans (pSame.jsi ⟨rfl, Or.inr rfl⟩)
  have rd : ∀ k, jgr (jsi (jsi w 0 0 18 (nI (aU A - 1))) 0 0 19 (nI ((ua + 39) % 40))) 23 0 k = jgr w 23 0 k := fun k => rfl
  have hC1 : RelC (setU A (aU A - 1) (fun j => aHs A (j + 1))) (jsi (jsi w 0 0 18 (nI (aU A - 1))) 0 0 19 (nI ((ua + 39) % 40))) := by
    refine hC.und g1 (fun κ i k y => Or.inr (Or.inl (Or.inr y))) ⟨Nat.le_refl _, Nat.le_refl _, Nat.le_refl _, Nat.le_refl _, Nat.le_refl _⟩ (q0.low g1 fun κ i k y => by omega) (q1.low g1 fun κ i k y => by omega) ⟨by rw [jgi_ne (by omega), jgi_eq]; rfl, (ua + 39) % 40, jgi_eq, Nat.mod_lt _ (by decide), fun k b hk e => ?_, fun j hj => ?_⟩
    · exact c4 k b hk e
    · have hj : j < aU A - 1 := hj
      obtain ⟨b', e', p'⟩ := c5 (j + 1) (by omega)
      refine ⟨b', ?_, p'.same g1 (fun k => ⟨by omega, by omega, by omega, by omega⟩)⟩
      rw [rd, show ((ua + 39) % 40 + 39 - j) % 40 = (ua + 39 - (j + 1)) % 40 by omega]
      exact e'
  have pb1 : pRS (jsi (jsi w 0 0 18 (nI (aU A - 1))) 0 0 19 (nI ((ua + 39) % 40))) b (aHs A 0) := pb.same g1 (fun k => ⟨by omega, by omega, by omega, by omega⟩)
  obtain ⟨w2, e2, g2, p2⟩ := c_becomes8 (i := 0) pb1 (hA.2.2.2.2.2.2 0 hu).2.2.2.2 (by omega)
  have lowK : ∀ κ i k, KF 0 κ i k → κ ≠ 2 ∧ κ ≠ 3 ∧ ¬ (27 ≤ κ ∧ κ ≤ 31) := fun κ i k y => by unfold KF at y; omega
  have hC2 := hC1.set (T := aHs A 0) (X := X) hX g2 (fun κ i k y => Or.inr (by unfold KF at y; omega)) (pRise_of g2 (fun κ hκ => by unfold KF; omega)) (hC1.2.2.2.2.2.2.2.1.low g2 lowK) (hC1.2.2.2.2.2.2.2.2.1.low g2 lowK) p2
  refine ⟨w2, ?_, hC2, (g1.mono fun κ i k y => by unfold KXC; omega).trans (g2.mono fun κ i k y => by unfold KF at y; unfold KXC; omega)⟩
  have i18 : jgi (jsi w 0 0 18 (nI (aU A - 1))) 0 0 19 = nI ua := by rw [jgi_ne (by omega)]; exact c2
  rw [f_X1_undo, jlt_eq, c1, if_neg (nI_ne0 hu (by omega)), jlt_eq, jlt_eq, nI_m1 hu, jlt_eq, i18, jlt_eq, jlt_eq, if_neg (by decide), mod40b c3, jlt_eq, jlt_eq, jgi_eq, jbd_nI (Nat.mod_lt _ (by decide)) (by decide), jlt_eq, rd, hb, job_s2, e2, jcb_s2, jlt_eq, g2.1 _ _ _ (by unfold KF; omega), jgi_ne (by omega), jgi_eq]
theorem m_undo (hM : RelM A w) (hA : wfA A) (hu : 0 < aU A) : ∃ w', f_X9_undo w = some (nI (aU A - 1), w') ∧ RelM (undoA A) w' ∧ pSame KXM w w' := by
  obtain ⟨X, hX⟩ := aX_some hA hu
  have u40 := hA.2.2.2.2.2.1
  obtain ⟨m1, m2⟩ := hM.2.2.2.2.1
  have hr := m2 0 hu
  have L : ∃ g, f_X9_undo_L21 jFU 0 (jsi w 1 0 44 (nI (aU A - 1))) = some (nI (aU A - 1), jas (jsi w 1 0 44 (nI (aU A - 1))) 47 0 g) ∧ ∀ k, g k = if k < 231 then jgi w 62 0 (231 * (aU A - 1) + k) else jgi (jsi w 1 0 44 (nI (aU A - 1))) 47 0 k := by
    refine fill_loop (w := jsi w 1 0 44 (nI (aU A - 1))) (κ := 47) (i0 := 0) (N := 231) (G := fun k => jgi w 62 0 (231 * (aU A - 1) + k)) (L := fun f v w => f_X9_undo_L21 f v w) (kk := fun w => some (nI (aU A - 1), w)) (fun f m g hm _ => ?_) (fun f g => ?_) (by decide)
    · show f_X9_undo_L21 (f + 1) (nI m) _ = _
      rw [f_X9_undo_L21, if_neg (show ¬ (231 : Int32) ≤ nI m from fun z => by have := (nI_leI (a := 231) (b := m) (by omega) (by omega)).mp z; omega), jlt_eq, jas_ne (by omega), jgi_eq, show (231 : Int32) * nI (aU A - 1) + nI m = nI (231 * (aU A - 1) + m) by rw [show (231 : Int32) * nI (aU A - 1) = nI 231 * nI (aU A - 1) from rfl, nI_mul, nI_add], jbd_nI (by omega) (by decide), jlt_eq, jas_ne (by omega), jgi_ne (by omega), jbd_nI (by omega) (by decide), jlt_eq, jas_set, jlt_eq, nI_1]
    · show f_X9_undo_L21 (f + 1) (nI 231) _ = _
      rw [f_X9_undo_L21, if_pos (by decide), jlt_eq, jas_ne (by omega), jgi_eq]
  obtain ⟨g, eL, hg⟩ := L
  have gA : pSame (fun κ i k => κ = 47 ∨ (κ = 1 ∧ k = 44)) w (jas (jsi w 1 0 44 (nI (aU A - 1))) 47 0 g) := (pSame.jsi (Or.inr ⟨rfl, rfl⟩)).trans (jas_same fun k => Or.inl rfl)
  have rr : pRR (jas (jsi w 1 0 44 (nI (aU A - 1))) 47 0 g) 47 0 (aHs A 0) := pRR_copy hr (hA.2.2.2.2.2.2 0 hu) fun k hk => by
    rw [Nat.zero_add, jas_get, hg, if_pos hk, Nat.sub_zero]
  refine ⟨_, ?_, hM.upd hX gA (fun κ i k y => Or.inr (by omega)) rr ⟨?_, fun j hj => ?_⟩ (hM.2.2.2.2.2.2.same gA fun κ i k a b => by unfold KA at a; omega), gA.mono fun κ i k y => by unfold KXM; omega⟩
  · rw [f_X9_undo, jlt_eq, m1, if_neg (nI_ne0 hu (by omega)), jlt_eq, jlt_eq, nI_m1 hu]
    exact eL
  · rw [jas_ne (by omega), jgi_eq]; rfl
  · have hj : j < aU A - 1 := hj
    have := m2 (j + 1) (by omega)
    show pRR _ 62 (231 * (aU A - 1 - 1 - j)) (aHs A (j + 1))
    rw [show aU A - 1 - 1 - j = aU A - 1 - (j + 1) by omega]
    exact this.same gA (fun k => by omega)
theorem o_undo (hA : wfA A) : pOp A f_X1_undo f_X9_undo := by
  by_cases hu : 0 < aU A
  · exact pOp_of (undoA_wf hA hu) (fun w hC => c_undo hC hA hu) (fun w hM => m_undo hM hA hu)
  · have u0 : aU A = 0 := by omega
    refine (pQry_of (r := -1) (fun w hC => ⟨w, ?_, hC.self⟩) (fun w hM => ⟨w, ?_, hM.self⟩)).op hA
    · rw [f_X1_undo, jlt_eq, hC.2.2.2.2.1.1, u0, if_pos (by decide)]
    · rw [f_X9_undo, jlt_eq, hM.2.2.2.2.1.1, u0, if_pos (by decide)]
end BACK
