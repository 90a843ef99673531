/-! the pure law: what stays, piece by piece; an operation of both -/
section OPS
variable {w w' : j_St} {A A' : pA} {X : pX} {K : Nat → Nat → Nat → Prop}
theorem cTape.sm (h : cTape A w) (g : pSame K w w') (k1 : ¬ K 0 0 3) (k2 : ∀ k, ¬ K 20 0 k) : cTape A w' := ⟨by rw [g.1 _ _ _ k1]; exact h.1, fun k hk => by rw [g.1 _ _ _ (k2 k)]; exact h.2 k hk⟩
theorem cScr.sm (h : cScr A w) (g : pSame K w w') (k1 : ¬ K 0 0 6) (k2 : ∀ k, ¬ K 22 0 k) (k3 : ∀ κ q k, (κ = 7 ∨ κ = 36 ∨ κ = 37) → q < jgn w 107 0 → ¬ K κ q k) (r : jgn w 107 0 ≤ jgn w' 107 0) : cScr A w' := by
  refine ⟨by rw [g.1 _ _ _ k1]; exact h.1, fun j hj => ?_⟩
  obtain ⟨q, a1, a2, a3, a4⟩ := h.2 j hj
  refine ⟨q, by rw [g.2.2.1 _ _ _ (k2 _)]; exact a1, by omega, by rw [g.1 _ _ _ (k3 _ _ _ (by omega) a2)]; exact a3, fun i hi => ?_⟩
  rw [g.1 36 _ _ (k3 _ _ _ (by omega) a2), g.1 37 _ _ (k3 _ _ _ (by omega) a2), g.1 37 _ _ (k3 _ _ _ (by omega) a2)]
  exact a4 i hi
theorem pXc.sm {t : Nat} (h : pXc w t X) (g : pSame K w w') (k1 : ∀ κ t k, (κ = 6 ∨ κ = 34 ∨ κ = 35) → t < jgn w 106 0 → ¬ K κ t k) (k2 : ∀ q k, q < jgn w 115 0 → ¬ K 15 q k) (k3 : ∀ b k, b < jgn w 170 0 → ¬ K 70 b k) (r1 : jgn w 106 0 ≤ jgn w' 106 0) (r2 : jgn w 115 0 ≤ jgn w' 115 0) (r3 : jgn w 170 0 ≤ jgn w' 170 0) : pXc w' t X := by
  obtain ⟨a2, a3, a4⟩ := h
  refine ⟨a2.same g (fun k => ⟨k1 _ _ _ (by omega) a3, k1 _ _ _ (by omega) a3⟩), by omega, fun l hl => ?_⟩
  obtain ⟨q, b1, b, b2, b3, b4, b5, b6, b7⟩ := a4 l hl
  exact ⟨q, by rw [g.2.2.1 _ _ _ (k1 _ _ _ (by omega) a3)]; exact b1, b, by rw [g.2.2.1 _ _ _ (k2 _ _ b6)]; exact b2, by rw [g.1 _ _ _ (k2 _ _ b6)]; exact b3, by rw [g.2.2.2 _ _ (k3 _ _ b7)]; exact b4, fun i hi => by rw [g.1 _ _ _ (k3 _ _ b7)]; exact b5 i hi, by omega, by omega⟩
theorem cTrc.sm (h : cTrc A w) (g : pSame K w w') (k0 : ¬ K 0 0 7) (k1 : ∀ κ t k, (κ = 6 ∨ κ = 34 ∨ κ = 35) → t < jgn w 106 0 → ¬ K κ t k) (k2 : ∀ q k, q < jgn w 115 0 → ¬ K 15 q k) (k3 : ∀ b k, b < jgn w 170 0 → ¬ K 70 b k) (k4 : ∀ k, ¬ K 4 1 k ∧ ¬ K 32 1 k ∧ ¬ K 5 0 k ∧ ¬ K 33 0 k) (r1 : jgn w 106 0 ≤ jgn w' 106 0) (r2 : jgn w 115 0 ≤ jgn w' 115 0) (r3 : jgn w 170 0 ≤ jgn w' 170 0) : cTrc A w' := by
  unfold cTrc at h ⊢
  cases hX : aX A with
  | none =>
    rw [hX] at h
    simp only [] at h ⊢
    rw [g.2.2.1 _ _ _ k0]; exact h
  | some X =>
    rw [hX] at h
    obtain ⟨⟨t, a1, a2⟩, a3⟩ := h
    exact ⟨⟨t, by rw [g.2.2.1 _ _ _ k0]; exact a1, a2.sm g k1 k2 k3 r1 r2 r3⟩, a3.same g k4⟩
theorem cImg.sm (h : cImg A w) (g : pSame K w w') (k0 : ¬ K 0 0 21) (k1 : ∀ k, ¬ K 4 3 k ∧ ¬ K 32 3 k ∧ ¬ K 5 1 k ∧ ¬ K 33 1 k) : cImg A w' := ⟨by rw [g.1 _ _ _ k0]; exact h.1, fun e => (h.2 e).same g k1⟩
theorem cUnd.sm (h : cUnd A w) (g : pSame K w w') (k0 : ¬ K 0 0 18 ∧ ¬ K 0 0 19) (k1 : ∀ k, ¬ K 23 0 k) (k2 : ∀ b k, 4 ≤ b → b < jgn w 105 0 → ¬ K 4 (2 * b + 1) k ∧ ¬ K 32 (2 * b + 1) k ∧ ¬ K 5 b k ∧ ¬ K 33 b k) (r : jgn w 105 0 ≤ jgn w' 105 0) : cUnd A w' := by
  obtain ⟨a1, ua, a2, a3, a4, a5⟩ := h
  refine ⟨by rw [g.1 _ _ _ k0.1]; exact a1, ua, by rw [g.1 _ _ _ k0.2]; exact a2, a3, fun k b hk e => ?_, fun j hj => ?_⟩
  · rw [g.2.2.1 _ _ _ (k1 _)] at e
    obtain ⟨b1, b2, b3⟩ := a4 k b hk e
    exact ⟨b1, by omega, fun k' hk' e' => b3 k' hk' (by rw [← g.2.2.1 _ _ _ (k1 k')]; exact e')⟩
  · obtain ⟨b, b1, b2⟩ := a5 j hj
    obtain ⟨c1, c2, -⟩ := a4 _ b (Nat.mod_lt _ (by decide)) b1
    exact ⟨b, by rw [g.2.2.1 _ _ _ (k1 _)]; exact b1, b2.same g (fun k => k2 b k c1 c2)⟩
theorem cRef.sm (h : cRef A w) (g : pSame K w w') (k0 : ¬ K 21 0 0 ∧ ¬ K 21 0 1) : cRef A w' := ⟨by rw [g.1 _ _ _ k0.1]; exact h.1, by rw [g.1 _ _ _ k0.2]; exact h.2⟩
theorem mTape.sm (h : mTape A w) (g : pSame K w w') (k1 : ¬ K 1 0 2) (k2 : ∀ k, ¬ K 40 0 k) : mTape A w' := ⟨by rw [g.1 _ _ _ k1]; exact h.1, fun k hk => by rw [g.1 _ _ _ (k2 k)]; exact h.2 k hk⟩
theorem mScr.sm (h : mScr A w) (hA : wfA A) (g : pSame K w w') (k1 : ¬ K 1 0 21) (k2 : ∀ k, k < aSm A → ¬ K 46 0 k) (k3 : ∀ k, k < 36 * aSm A → ¬ K 45 0 k) : mScr A w' := by
  refine ⟨by rw [g.1 _ _ _ k1]; exact h.1, fun j hj => ?_⟩
  obtain ⟨a1, a2⟩ := h.2 j hj
  obtain ⟨b1, b2, -⟩ := hA.2.1.2 j hj
  exact ⟨by rw [g.1 _ _ _ (k2 _ hj)]; exact a1, fun i hi => by rw [g.1 _ _ _ (k3 _ (by omega))]; exact a2 i hi⟩
theorem mTrc.sm (h : mTrc A w) (g : pSame K w w') (k0 : ¬ K 1 0 29 ∧ ¬ K 1 0 27 ∧ ¬ K 1 0 28) (k1 : ∀ k, ¬ K 47 0 k ∧ ¬ K 49 0 k ∧ ¬ K 50 0 k ∧ ¬ K 51 0 k) : mTrc A w' := by
  unfold mTrc at h ⊢
  cases hX : aX A with
  | none =>
    rw [hX] at h
    simp only [] at h ⊢
    rw [g.1 _ _ _ k0.1, g.1 _ _ _ (k1 48).1, g.1 _ _ _ (k1 50).1]; exact h
  | some X =>
    rw [hX] at h
    obtain ⟨a1, a2, a3, a4⟩ := h
    exact ⟨by rw [g.1 _ _ _ k0.1]; exact a1, a2.same g (fun k => (k1 k).2.1) k0.2, fun l hl => by rw [g.1 _ _ _ (k1 l).2.2.1, g.2.1 _ _ _ (k1 l).2.2.2]; exact a3 l hl, a4.same g (fun k => (k1 k).1)⟩
theorem mImg.sm (h : mImg A w) (g : pSame K w w') (k0 : ¬ K 1 0 47) (k1 : ∀ k, ¬ K 63 0 k) : mImg A w' := ⟨by rw [g.1 _ _ _ k0]; exact h.1, fun e => (h.2 e).same g k1⟩
theorem mUnd.sm (h : mUnd A w) (g : pSame K w w') (k0 : ¬ K 1 0 44) (k1 : ∀ k, ¬ K 62 0 k) : mUnd A w' := ⟨by rw [g.1 _ _ _ k0]; exact h.1, fun j hj => (h.2 j hj).same g k1⟩
theorem mRef.sm (h : mRef A w) (g : pSame K w w') (k0 : ¬ K 48 0 0 ∧ ¬ K 48 0 1) : mRef A w' := ⟨by rw [g.1 _ _ _ k0.1]; exact h.1, by rw [g.1 _ _ _ k0.2]; exact h.2⟩
/-- the model's cells are not the component's -/
theorem RelC.xm (h : RelC A w) (g : pSame KXM w w') : RelC A w' := by
  obtain ⟨h1, h2, h3, h4, h5, h6, h7, p0, p1, h10⟩ := h
  have n : ∀ κ, 100 ≤ κ → jgn w' κ 0 = jgn w κ 0 := fun κ hκ => g.2.2.2 _ _ (by unfold KXM; omega)
  have lo : ∀ κ i k, KXM κ i k → κ ≠ 2 ∧ κ ≠ 3 ∧ ¬ (27 ≤ κ ∧ κ ≤ 31) := fun κ i k y => by unfold KXM at y; omega
  exact ⟨h1.sm g (by unfold KXM; omega) (fun k => by unfold KXM; omega), h2.sm g (by unfold KXM; omega) (fun k => by unfold KXM; omega) (fun κ q k a b => by unfold KXM; omega) (Nat.le_of_eq (n _ (by decide)).symm), h3.sm g (by unfold KXM; omega) (fun κ q k a b => by unfold KXM; omega) (fun q k a => by unfold KXM; omega) (fun q k a => by unfold KXM; omega) (fun k => by unfold KXM; omega) (Nat.le_of_eq (n _ (by decide)).symm) (Nat.le_of_eq (n _ (by decide)).symm) (Nat.le_of_eq (n _ (by decide)).symm), h4.sm g (by unfold KXM; omega) (fun k => by unfold KXM; omega), h5.sm g (by unfold KXM; omega) (fun k => by unfold KXM; omega) (fun b k a c => by unfold KXM; omega) (Nat.le_of_eq (n _ (by decide)).symm), h6.sm g (by unfold KXM; omega), h7.same g (fun κ i k hk => by unfold KXM; omega), p0.low g lo, p1.low g lo, by rw [n _ (by decide)]; exact h10⟩
/-- an operation of both: they answer alike and stand for the same then -/
def KAll (κ i k : Nat) : Prop := KXC κ i k ∨ KXM κ i k
def pOp (A : pA) (f g : j_St → Option (Int32 × j_St)) : Prop := ∀ w, RelC A w → RelM A w → ∃ r w1 w2 A', f w = some (r, w1) ∧ g w1 = some (r, w2) ∧ wfA A' ∧ RelC A' w2 ∧ RelM A' w2 ∧ pSame KAll w w1 ∧ pSame KAll w1 w2
theorem pOp_of {f g : j_St → Option (Int32 × j_St)} {r : Int32} (hA' : wfA A') (hc : ∀ w, RelC A w → ∃ w', f w = some (r, w') ∧ RelC A' w' ∧ pSame KXC w w') (hm : ∀ w, RelM A w → ∃ w', g w = some (r, w') ∧ RelM A' w' ∧ pSame KXM w w') : pOp A f g := fun w hC hM => by
  obtain ⟨w1, e1, c1, s1⟩ := hc w hC
  obtain ⟨w2, e2, c2, s2⟩ := hm w1 (hM.xc s1)
  exact ⟨r, w1, w2, A', e1, e2, hA', c1.xm s2, c2, s1.mono fun _ _ _ y => Or.inl y, s2.mono fun _ _ _ y => Or.inr y⟩
theorem pQry.op {f g : j_St → Option (Int32 × j_St)} (hA : wfA A) (h : pQry A f g) : pOp A f g := fun w hC hM => by
  obtain ⟨r, w1, w2, e1, e2, o1, m2, s2⟩ := h w hC hM
  exact ⟨r, w1, w2, A, e1, e2, hA, (hC.ok o1).xm s2, m2, o1.xc.mono fun _ _ _ y => Or.inl y, s2.mono fun _ _ _ y => Or.inr y⟩
/-! acts -/
def refA (A : pA) (k : Nat) : pA := (A.1, A.2.1, A.2.2.1, A.2.2.2.1, A.2.2.2.2.1, (if k = 0 then aR0 A + 1 else aR0 A), (if k = 0 then aR1 A else aR1 A + 1))
theorem c_ref {k : Nat} (hk : k < 2) (hC : RelC A w) : ∃ w', (jbd (nI k) 2 fun a16 => jlt (jgi w 21 0 a16) fun v17 => jbd (nI k) 2 fun a19 => jlt (jsi w 21 0 a19 (v17 + 1)) fun w18 => some (((-1) : Int32), w18)) = some (-1, w') ∧ RelC (refA A k) w' ∧ pSame KXC w w' := by
  obtain ⟨h1, h2, h3, h4, h5, h6, h7, p0, p1, h10⟩ := hC
  have g : pSame (fun κ _ _ => κ = 21) w (jsi w 21 0 k (jgi w 21 0 k + 1)) := pSame.jsi rfl
  have n : ∀ κ, 100 ≤ κ → jgn (jsi w 21 0 k (jgi w 21 0 k + 1)) κ 0 = jgn w κ 0 := fun κ hκ => rfl
  refine ⟨jsi w 21 0 k (jgi w 21 0 k + 1), by rw [jbd_nI hk (by decide), jlt_eq, jbd_nI hk (by decide), jlt_eq], ⟨h1.sm g (by omega) (fun k => by omega), h2.sm g (by omega) (fun k => by omega) (fun κ q k a b => by omega) (Nat.le_refl _), h3.sm g (by omega) (fun κ q k a b => by omega) (fun q k a => by omega) (fun q k a => by omega) (fun k => by omega) (Nat.le_refl _) (Nat.le_refl _) (Nat.le_refl _), h4.sm g (by omega) (fun k => by omega), h5.sm g (by omega) (fun k => by omega) (fun b k a c => by omega) (Nat.le_refl _), ?_, h7.same g (fun κ i k hk => by omega), p0.low g (fun κ i k y => by omega), p1.low g (fun κ i k y => by omega), h10⟩, g.mono fun κ i k y => by unfold KXC; omega⟩
  unfold cRef refA
  rcases (show k = 0 ∨ k = 1 by omega) with rfl | rfl
  · exact ⟨by rw [jgi_eq, h6.1]; rfl, by rw [jgi_ne (by omega)]; exact h6.2⟩
  · exact ⟨by rw [jgi_ne (by omega)]; exact h6.1, by rw [jgi_eq, h6.2]; rfl⟩
theorem m_ref {k : Nat} (hk : k < 2) (hA : wfA A) (hM : RelM A w) : ∃ w', (jbd (nI k) 2 fun a8 => jlt (jgi w 48 0 a8) fun v9 => jbd (nI k) 2 fun a11 => jlt (jsi w 48 0 a11 (v9 + 1)) fun w10 => some (((-1) : Int32), w10)) = some (-1, w') ∧ RelM (refA A k) w' ∧ pSame KXM w w' := by
  obtain ⟨h1, h2, h3, h4, h5, h6, p0⟩ := hM
  have g : pSame (fun κ _ _ => κ = 48) w (jsi w 48 0 k (jgi w 48 0 k + 1)) := pSame.jsi rfl
  refine ⟨jsi w 48 0 k (jgi w 48 0 k + 1), by rw [jbd_nI hk (by decide), jlt_eq, jbd_nI hk (by decide), jlt_eq], ⟨h1.sm g (by omega) (fun k => by omega), h2.sm hA g (by omega) (fun k a => by omega) (fun k a => by omega), h3.sm g (by omega) (fun k => by omega), h4.sm g (by omega) (fun k => by omega), h5.sm g (by omega) (fun k => by omega), ?_, p0.same g (fun κ i k a b => by unfold KA at a; omega)⟩, g.mono fun κ i k y => by unfold KXM; omega⟩
  unfold mRef refA
  rcases (show k = 0 ∨ k = 1 by omega) with rfl | rfl
  · exact ⟨by rw [jgi_eq, h6.1]; rfl, by rw [jgi_ne (by omega)]; exact h6.2⟩
  · exact ⟨by rw [jgi_ne (by omega)]; exact h6.1, by rw [jgi_eq, h6.2]; rfl⟩
theorem refA_wf {k : Nat} (h : wfA A) : wfA (refA A k) := h
theorem dWhy_01 {q : Nat} {a b : Int32} {n : Nat} (h : dWhy q a b n ≠ -1) : ∃ k, k < 2 ∧ dWhy q a b n = nI k := by
  unfold dWhy at h ⊢
  repeat' split
  all_goals first
    | exact ⟨0, by decide, rfl⟩
    | exact ⟨1, by decide, rfl⟩
    | (exfalso; apply h; simp_all; done)
    | skip
  all_goals (exfalso; apply h; repeat (first | rw [if_pos ‹_›] | rw [if_neg ‹_›]))
theorem p_act (hA : wfA A) {q : Nat} (hq : q < 10) (a b : Int32) : pOp A (f_X1_act (nI q) a b) (f_X9_hand (nI q) a b) := by
  cases hX : aX A with
  | none =>
    refine pOp_of (A' := refA A 0) (r := -1) (refA_wf hA) (fun w hC => ?_) (fun w hM => ?_)
    · obtain ⟨w', e, r⟩ := c_ref (k := 0) (by decide) hC
      refine ⟨w', ?_, r⟩
      rw [f_X1_act, jlt_eq, hC.x0 hX, jlt_eq, jcs_n2]
      dsimp only
      rw [if_neg (by decide)]
      exact e
    · obtain ⟨w', e, r⟩ := m_ref (k := 0) (by decide) hA hM
      refine ⟨w', ?_, r⟩
      rw [f_X9_hand, f_X9_whyNot, jlt_eq, (hM.x0 hX).1, if_pos rfl, jcb_s2, if_neg (by decide)]
      exact e
  | some X =>
    by_cases hy : dWhy q a b (aT A).2.1 = -1
    · refine pOp_of (A' := actA A q a b) (r := (dDo q a b (aT A)).2) (actA_wf hA hX hq hy) (fun w hC => ?_) (fun w hM => ?_)
      · obtain ⟨t, ht, -⟩ := hC.xt hX
        obtain ⟨w', e, r, s, an, -⟩ := c_acts_T hC hA hX hq hy
        exact ⟨w', by
          rw [f_X1_act, jlt_eq, ht, jlt_eq, jcs_s2, e, jcb_s2]
          dsimp only
          rw [if_pos rfl, jlt_eq, an], r, s⟩
      · obtain ⟨w', e, r, s, -⟩ := m_act hM hA hX hq hy
        exact ⟨w', by rw [f_X9_hand, m_why (hM.xt hX).1 (hM.mn hA hX) hq, jcb_s2, if_pos hy, e, jcb_s2], r, s⟩
    · obtain ⟨k, hk, ek⟩ := dWhy_01 hy
      refine pOp_of (A' := refA A k) (r := -1) (refA_wf hA) (fun w hC => ?_) (fun w hM => ?_)
      · obtain ⟨t, ht, -⟩ := hC.xt hX
        obtain ⟨w1, e1, o1⟩ := c_acts_F hC hA hX hq hy
        obtain ⟨w', e, r, s⟩ := c_ref hk (hC.ok o1)
        refine ⟨w', ?_, r, o1.xc.trans s⟩
        rw [f_X1_act, jlt_eq, ht, jlt_eq, jcs_s2, e1, jcb_s2]
        dsimp only
        rw [if_neg hy, ek]
        exact e
      · obtain ⟨w', e, r⟩ := m_ref hk hA hM
        refine ⟨w', ?_, r⟩
        rw [f_X9_hand, m_why (hM.xt hX).1 (hM.mn hA hX) hq, jcb_s2, if_neg hy, ek]
        exact e
end OPS
