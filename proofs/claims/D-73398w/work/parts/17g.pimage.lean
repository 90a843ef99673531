/-! the pure law: image and back -/
section IMAGE
variable {w w' : j_St} {A A' : pA} {X : pX}
def imgA (A : pA) : pA := (A.1, A.2.1, A.2.2.1, (true, aT A), A.2.2.2.2)
def backA (A : pA) : pA := setU (setT A (aIm A)) 0 (aHs A)
theorem imgA_wf (hA : wfA A) (hX : aX A = some X) : wfA (imgA A) := by
  obtain ⟨h1, h2, h3, h4, h5, h6, h7⟩ := hA
  exact ⟨h1, h2, fun e => (Option.some_ne_none X (hX.symm.trans e)).elim, h4, fun _ => (h4 X hX).2, h6, h7⟩
theorem backA_wf (hA : wfA A) (hi : aHi A = true) : wfA (backA A) := by
  obtain ⟨h1, h2, h3, h4, h5, h6, h7⟩ := hA
  refine ⟨h1, h2, fun e => ?_, fun Y e => ⟨(h4 Y e).1, h5 hi⟩, h5, Nat.zero_le _, fun j hj => (Nat.not_lt_zero _ hj).elim⟩
  have := (h3 e).2
  rw [this] at hi
  exact Bool.noConfusion hi
theorem c_image (hC : RelC A w) (hA : wfA A) (hX : aX A = some X) : ∃ w', f_X1_image w = some (nI (cK (aT A).1 (aT A).2.1 (aT A).2.2.1), w') ∧ RelC (imgA A) w' ∧ pSame KXC w w' := by
  obtain ⟨t, ht, -⟩ := hC.xt hX
  obtain ⟨w1, e1, g1, p1⟩ := c_becomes8 (i := 1) (hC.now hX) (hA.x hX).2.2.2.2.2 (by omega)
  have g : pSame (fun κ i k => KF 1 κ i k ∨ (κ = 0 ∧ k = 21)) w (jsi w1 0 0 21 1) := (g1.mono fun κ i k y => Or.inl y).trans (pSame.jsi (Or.inr ⟨rfl, rfl⟩))
  have n : ∀ κ, 100 ≤ κ → jgn (jsi w1 0 0 21 1) κ 0 = jgn w κ 0 := fun κ hκ => g.2.2.2 _ _ (by unfold KF; omega)
  have lo : ∀ κ i k, (KF 1 κ i k ∨ (κ = 0 ∧ k = 21)) → κ ≠ 2 ∧ κ ≠ 3 ∧ ¬ (27 ≤ κ ∧ κ ≤ 31) := fun κ i k y => by unfold KF at y; omega
  obtain ⟨h1, h2, h3, h4, h5, h6, h7, q0, q1, h10⟩ := id hC
  have hC1 : RelC (imgA A) (jsi w1 0 0 21 1) := ⟨h1.sm g (by unfold KF; omega) (fun k => by unfold KF; omega), h2.sm g (by unfold KF; omega) (fun k => by unfold KF; omega) (fun κ q k a b => by unfold KF; omega) (Nat.le_of_eq (n _ (by decide)).symm),
    h3.sm g (by unfold KF; omega) (fun κ q k a b => by unfold KF; omega) (fun q k a => by unfold KF; omega) (fun q k a => by unfold KF; omega) (fun k => by unfold KF; omega) (Nat.le_of_eq (n _ (by decide)).symm) (Nat.le_of_eq (n _ (by decide)).symm) (Nat.le_of_eq (n _ (by decide)).symm),
    ⟨jgi_eq, fun _ => p1.same (K := fun κ i k => κ = 0) (pSame.jsi rfl) (fun k => ⟨by omega, by omega, by omega, by omega⟩)⟩,
    h5.sm g (by unfold KF; omega) (fun k => by unfold KF; omega) (fun b k a c => by unfold KF; omega) (Nat.le_of_eq (n _ (by decide)).symm), h6.sm g (by unfold KF; omega), h7.same g (fun κ i k hk => by unfold KF; omega), q0.low g lo, q1.low g lo, by rw [n _ (by decide)]; exact h10⟩
  obtain ⟨w2, e2, o2⟩ := c_kept (X := X) hC1 (imgA_wf hA hX) hX
  refine ⟨w2, ?_, hC1.ok o2, (g.mono fun κ i k y => by unfold KF at y; unfold KXC; omega).trans o2.xc⟩
  rw [f_X1_image, jlt_eq, ht, jcs_s2, e1, jcb_s2, jlt_eq, e2, jcb_s2]
  rfl
theorem m_image (hM : RelM A w) (hA : wfA A) (hX : aX A = some X) : ∃ w', f_X9_image w = some (nI (cK (aT A).1 (aT A).2.1 (aT A).2.2.1), w') ∧ RelM (imgA A) w' ∧ pSame KXM w w' := by
  obtain ⟨x1, x2, x3, x4⟩ := hM.xt hX
  obtain ⟨g, eL, hg⟩ := fill_loop (w := w) (κ := 63) (i0 := 0) (N := 231) (G := fun k => jgi w 47 0 k) (L := fun f v w => f_X9_image_L11 (fun (w11 : j_St) => jlt (jsi w11 1 0 47 1) fun w12 => jcb (f_X9_keptNow w12) fun v13 w14 => some (v13, w14)) f v w) (kk := fun (w11 : j_St) => jlt (jsi w11 1 0 47 1) fun w12 => jcb (f_X9_keptNow w12) fun v13 w14 => some (v13, w14)) (fun f m g hm _ => by
      show f_X9_image_L11 _ (f + 1) (nI m) _ = _
      rw [f_X9_image_L11, if_neg (show ¬ (231 : Int32) ≤ nI m from fun z => by have := (nI_leI (a := 231) (b := m) (by omega) (by omega)).mp z; omega), jbd_nI (by omega) (by decide), jlt_eq, jas_ne (by omega), jbd_nI (by omega) (by decide), jlt_eq, jas_set, jlt_eq, nI_1]) (fun f g => by
      show f_X9_image_L11 _ (f + 1) (nI 231) _ = _
      rw [f_X9_image_L11, if_pos (by decide)]) (by decide)
  have gA : pSame (fun κ i k => κ = 63 ∨ (κ = 1 ∧ k = 47)) w (jsi (jas w 63 0 g) 1 0 47 1) := (jas_same fun k => Or.inl rfl).trans (pSame.jsi (Or.inr ⟨rfl, rfl⟩))
  have rr : pRR (jsi (jas w 63 0 g) 1 0 47 1) 63 0 (aT A) := pRR_copy x4 (hA.x hX).2 fun k hk => by
    rw [Nat.zero_add, jgi_ne (by omega), jas_get, hg, if_pos hk]
  obtain ⟨h1, h2, h3, h4, h5, h6, p0⟩ := id hM
  have hM1 : RelM (imgA A) (jsi (jas w 63 0 g) 1 0 47 1) := ⟨h1.sm gA (by omega) (fun k => by omega), h2.sm hA gA (by omega) (fun k a => by omega) (fun k a => by omega), h3.sm gA (by omega) (fun k => by omega), ⟨jgi_eq, fun _ => rr⟩, h5.sm gA (by omega) (fun k => by omega), h6.sm gA (by omega), p0.same gA (fun κ i k a b => by unfold KA at a; omega)⟩
  obtain ⟨w2, e2, o2⟩ := m_kept (X := X) hM1 (imgA_wf hA hX) hX
  refine ⟨w2, ?_, hM1.ok o2, (gA.mono fun κ i k y => by unfold KXM; omega).trans o2.xm⟩
  rw [f_X9_image, jlt_eq, x1, if_neg (by decide)]
  refine eL.trans ?_
  rw [jlt_eq, e2, jcb_s2]
  rfl
theorem o_image (hA : wfA A) : pOp A f_X1_image f_X9_image := by
  cases hX : aX A with
  | some X => exact pOp_of (imgA_wf hA hX) (fun w hC => c_image hC hA hX) (fun w hM => m_image hM hA hX)
  | none =>
    refine (pQry_of (r := -1) (fun w hC => ⟨w, ?_, hC.self⟩) (fun w hM => ⟨w, ?_, hM.self⟩)).op hA
    · rw [f_X1_image, jlt_eq, hC.x0 hX, jcs_n2]
    · rw [f_X9_image, jlt_eq, (hM.x0 hX).1, if_pos rfl]
theorem aX_hi (hA : wfA A) (hi : aHi A = true) : ∃ X, aX A = some X := by
  cases e : aX A with
  | none =>
    have := (hA.2.2.1 e).2
    rw [this] at hi
    exact Bool.noConfusion hi
  | some X => exact ⟨X, rfl⟩
theorem c_back (hC : RelC A w) (hA : wfA A) (hi : aHi A = true) : ∃ w', f_X1_back w = some (nI (cK (aIm A).1 (aIm A).2.1 (aIm A).2.2.1), w') ∧ RelC (backA A) w' ∧ pSame KXC w w' := by
  obtain ⟨X, hX⟩ := aX_hi hA hi
  have i21 := hC.2.2.2.1.1
  obtain ⟨w1, e1, g1, p1⟩ := c_becomes8 (i := 0) (hC.2.2.2.1.2 hi) (hA.2.2.2.2.1 hi).2.2.2.2 (by omega)
  have lo : ∀ κ i k, KF 0 κ i k → κ ≠ 2 ∧ κ ≠ 3 ∧ ¬ (27 ≤ κ ∧ κ ≤ 31) := fun κ i k y => by unfold KF at y; omega
  have hC1 := hC.set (T := aIm A) (X := X) hX g1 (fun κ i k y => Or.inr (by unfold KF at y; omega)) (pRise_of g1 (fun κ hκ => by unfold KF; omega)) (hC.2.2.2.2.2.2.2.1.low g1 lo) (hC.2.2.2.2.2.2.2.2.1.low g1 lo) p1
  have g2 : pSame (fun κ i k => κ = 0 ∧ k = 18) w1 (jsi w1 0 0 18 0) := pSame.jsi ⟨rfl, rfl⟩
  obtain ⟨c1, ua, c2, c3, c4, c5⟩ := hC1.2.2.2.2.1
  have hC2 : RelC (backA A) (jsi w1 0 0 18 0) := by
    refine hC1.und (u := 0) (hs := aHs A) g2 (fun κ i k y => Or.inr (Or.inl (Or.inr (by omega)))) ⟨Nat.le_refl _, Nat.le_refl _, Nat.le_refl _, Nat.le_refl _, Nat.le_refl _⟩ (hC1.2.2.2.2.2.2.2.1.low g2 fun κ i k y => by omega) (hC1.2.2.2.2.2.2.2.2.1.low g2 fun κ i k y => by omega) ⟨jgi_eq, ua, by rw [jgi_ne (by omega)]; exact c2, c3, fun k b hk e => c4 k b hk e, fun j hj => (Nat.not_lt_zero _ hj).elim⟩
  obtain ⟨w2, e2, o2⟩ := c_kept (X := X) hC2 (backA_wf hA hi) hX
  refine ⟨w2, ?_, hC2.ok o2, ((g1.mono fun κ i k y => by unfold KF at y; unfold KXC; omega).trans (g2.mono fun κ i k y => by unfold KXC; omega)).trans o2.xc⟩
  rw [f_X1_back, jlt_eq, i21, hi, if_neg (by decide), e1, jcb_s2, jlt_eq, e2, jcb_s2]
  rfl
theorem m_back (hM : RelM A w) (hA : wfA A) (hi : aHi A = true) : ∃ w', f_X9_back w = some (nI (cK (aIm A).1 (aIm A).2.1 (aIm A).2.2.1), w') ∧ RelM (backA A) w' ∧ pSame KXM w w' := by
  obtain ⟨X, hX⟩ := aX_hi hA hi
  obtain ⟨i47, hi2⟩ := hM.2.2.2.1
  obtain ⟨g, eL, hg⟩ := fill_loop (w := w) (κ := 47) (i0 := 0) (N := 231) (G := fun k => jgi w 63 0 k) (L := fun f v w => f_X9_back_L11 (fun (w11 : j_St) => jlt (jsi w11 1 0 44 0) fun w12 => jcb (f_X9_keptNow w12) fun v13 w14 => some (v13, w14)) f v w) (kk := fun (w11 : j_St) => jlt (jsi w11 1 0 44 0) fun w12 => jcb (f_X9_keptNow w12) fun v13 w14 => some (v13, w14)) (fun f m g hm _ => by
      show f_X9_back_L11 _ (f + 1) (nI m) _ = _
      rw [f_X9_back_L11, if_neg (show ¬ (231 : Int32) ≤ nI m from fun z => by have := (nI_leI (a := 231) (b := m) (by omega) (by omega)).mp z; omega), jbd_nI (by omega) (by decide), jlt_eq, jas_ne (by omega), jbd_nI (by omega) (by decide), jlt_eq, jas_set, jlt_eq, nI_1]) (fun f g => by
      show f_X9_back_L11 _ (f + 1) (nI 231) _ = _
      rw [f_X9_back_L11, if_pos (by decide)]) (by decide)
  have gA : pSame (fun κ i k => κ = 47 ∨ (κ = 1 ∧ k = 44)) w (jsi (jas w 47 0 g) 1 0 44 0) := (jas_same fun k => Or.inl rfl).trans (pSame.jsi (Or.inr ⟨rfl, rfl⟩))
  have rr : pRR (jsi (jas w 47 0 g) 1 0 44 0) 47 0 (aIm A) := pRR_copy (hi2 hi) (hA.2.2.2.2.1 hi) fun k hk => by
    rw [Nat.zero_add, jgi_ne (by omega), jas_get, hg, if_pos hk]
  have hM1 : RelM (backA A) (jsi (jas w 47 0 g) 1 0 44 0) := hM.upd (u := 0) (hs := aHs A) hX gA (fun κ i k y => Or.inr (by omega)) rr ⟨jgi_eq, fun j hj => (Nat.not_lt_zero _ hj).elim⟩ (hM.2.2.2.2.2.2.same gA fun κ i k a b => by unfold KA at a; omega)
  obtain ⟨w2, e2, o2⟩ := m_kept (X := X) hM1 (backA_wf hA hi) hX
  refine ⟨w2, ?_, hM1.ok o2, (gA.mono fun κ i k y => by unfold KXM; omega).trans o2.xm⟩
  rw [f_X9_back, jlt_eq, i47, hi, if_neg (by decide)]
  refine eL.trans ?_
  rw [jlt_eq, e2, jcb_s2]
  rfl
theorem o_back (hA : wfA A) : pOp A f_X1_back f_X9_back := by
  cases hi : aHi A with
  | true => exact pOp_of (backA_wf hA hi) (fun w hC => c_back hC hA hi) (fun w hM => m_back hM hA hi)
  | false =>
    refine (pQry_of (r := -1) (fun w hC => ⟨w, ?_, hC.self⟩) (fun w hM => ⟨w, ?_, hM.self⟩)).op hA
    · rw [f_X1_back, jlt_eq, hC.2.2.2.1.1, hi, if_pos (show pB false = 0 from rfl)]
    · rw [f_X9_back, jlt_eq, hM.2.2.2.1.1, hi, if_pos (show pB false = 0 from rfl)]
end IMAGE
