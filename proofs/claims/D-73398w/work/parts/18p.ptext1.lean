/-! the pure law: a script is taken in -/
section TEXT1
variable {w w' w0 : j_St} {A : pA} {X : pX}
def scrA (A : pA) (S : Nat × (Nat → Int32)) : pA := ((0, aTb A), (aSm A + 1, up (aSc A) (aSm A) S), A.2.2)
theorem scrA_wf (hA : wfA A) {S : Nat × (Nat → Int32)} (h : aSm A < 4) (hS : 1 ≤ S.1 ∧ S.1 ≤ 12 ∧ ∀ i, i < S.1 → ∃ q, q < 10 ∧ S.2 (3 * i) = nI q) : wfA (scrA A S) := by
  obtain ⟨h1, h2, h3⟩ := hA
  refine ⟨⟨Nat.zero_le _, fun k hk => absurd hk (Nat.not_lt_zero _)⟩, ⟨?_, fun j hj => ?_⟩, h3⟩
  · show aSm A + 1 ≤ 4
    omega
  · have hj : j < aSm A + 1 := hj
    show 1 ≤ (up (aSc A) (aSm A) S j).1 ∧ (up (aSc A) (aSm A) S j).1 ≤ 12 ∧ ∀ i, i < (up (aSc A) (aSm A) S j).1 → ∃ q, q < 10 ∧ (up (aSc A) (aSm A) S j).2 (3 * i) = nI q
    by_cases e : j = aSm A
    · rw [e, up_same]; exact hS
    · rw [up_ne e]; exact h2.2 j (by omega)
theorem c_takeScr (hC : RelC A w) {k t : Nat} {f : Nat → Int32} (h9 : jgr w 0 0 9 = some t) (hS : pSc w t (k, f)) (h : aSm A < 4) : RelC (scrA A (k, f)) (jsi (jsr (jsi w 0 0 3 0) 22 0 (aSm A) (some t)) 0 0 6 (nI (aSm A + 1))) := by
  have g : pSame (fun κ i k => (κ = 0 ∧ (k = 3 ∨ k = 6)) ∨ κ = 22) w (jsi (jsr (jsi w 0 0 3 0) 22 0 (aSm A) (some t)) 0 0 6 (nI (aSm A + 1))) := ((pSame.jsi (by omega)).trans (pSame.jsr (by omega))).trans (pSame.jsi (by omega))
  have n : ∀ κ, 100 ≤ κ → jgn (jsi (jsr (jsi w 0 0 3 0) 22 0 (aSm A) (some t)) 0 0 6 (nI (aSm A + 1))) κ 0 = jgn w κ 0 := fun κ _ => rfl
  obtain ⟨h1, h2, h3, h4, h5, h6, h7, p0, p1, h10⟩ := hC
  have mv : ∀ q S, pSc w q S → pSc (jsi (jsr (jsi w 0 0 3 0) 22 0 (aSm A) (some t)) 0 0 6 (nI (aSm A + 1))) q S := fun q S z => ⟨z.1, by rw [g.1 _ _ _ (by omega)]; exact z.2.1, fun i hi => by rw [g.1 36 _ _ (by omega), g.1 37 _ _ (by omega), g.1 37 _ _ (by omega)]; exact z.2.2 i hi⟩
  have z3 : jgi (jsi (jsr (jsi w 0 0 3 0) 22 0 (aSm A) (some t)) 0 0 6 (nI (aSm A + 1))) 0 0 3 = 0 := by
    rw [jgi_ne (by omega)]
    exact (jgi_eq (w := w) (κ := 0) (i := 0) (k := 3) (v := 0))
  refine ⟨⟨z3, fun k hk => absurd hk (Nat.not_lt_zero _)⟩, ⟨jgi_eq, fun j hj => ?_⟩, h3.sm g (by omega) (fun κ q k a b => by omega) (fun q k a => by omega) (fun q k a => by omega) (fun k => by omega) (Nat.le_refl _) (Nat.le_refl _) (Nat.le_refl _), h4.sm g (by omega) (fun k => by omega), h5.sm g (by omega) (fun k => by omega) (fun b k a c => by omega) (Nat.le_refl _), h6.sm g (by omega), h7.same g (fun κ i k hk => by omega), p0.low g (fun κ i k y => by omega), p1.low g (fun κ i k y => by omega), h10⟩
  have hj : j < aSm A + 1 := hj
  show ∃ q, jgr (jsr (jsi w 0 0 3 0) 22 0 (aSm A) (some t)) 22 0 j = some q ∧ pSc _ q (up (aSc A) (aSm A) (k, f) j)
  by_cases e : j = aSm A
  · rw [e, up_same]
    exact ⟨t, jgr_same, mv t _ hS⟩
  · obtain ⟨q, a1, a2⟩ := h2.2 j (by omega)
    rw [up_ne e]
    exact ⟨q, by rw [jgr_other (by omega)]; exact a1, mv q _ a2⟩
theorem m_takeScr (hM : RelM A w) (hA : wfA A) {k : Nat} {f : Nat → Int32} (hS : mRow w (aSm A) k f) (h : aSm A < 4) (hk : k ≤ 12) : RelM (scrA A (k, f)) (jsi (jsi w 1 0 2 0) 1 0 21 (nI (aSm A + 1))) := by
  have g : pSame (fun κ i k => κ = 1 ∧ (k = 2 ∨ k = 21)) w (jsi (jsi w 1 0 2 0) 1 0 21 (nI (aSm A + 1))) := (pSame.jsi (by omega)).trans (pSame.jsi (by omega))
  obtain ⟨h1, h2, h3, h4, h5, h6, p0⟩ := hM
  refine ⟨⟨by rw [jgi_ne (by omega)]; exact jgi_eq, fun k hk => absurd hk (Nat.not_lt_zero _)⟩, ⟨jgi_eq, fun j hj => ?_⟩, h3.sm g (by omega) (fun k => by omega), h4.sm g (by omega) (fun k => by omega), h5.sm g (by omega) (fun k => by omega), h6.sm g (by omega), p0.same g (fun κ i k a b => by unfold KA at a; omega)⟩
  have hj : j < aSm A + 1 := hj
  show jgi _ 46 0 j = nI (up (aSc A) (aSm A) (k, f) j).1 ∧ ∀ i, i < 3 * (up (aSc A) (aSm A) (k, f) j).1 → jgi _ 45 0 (36 * j + i) = (up (aSc A) (aSm A) (k, f) j).2 i
  by_cases e : j = aSm A
  · rw [e, up_same]
    exact ⟨by rw [g.1 _ _ _ (by omega)]; exact hS.1, fun i hi => by rw [g.1 _ _ _ (by omega)]; exact hS.2 i hi⟩
  · rw [up_ne e]
    obtain ⟨a1, a2⟩ := h2.2 j (by omega)
    exact ⟨by rw [g.1 _ _ _ (by omega)]; exact a1, fun i hi => by rw [g.1 _ _ _ (by omega)]; exact a2 i hi⟩
theorem o_text1 (hA : wfA A) : pOp A (f_X1_text 1) (f_X9_text 1) := fun w hC hM => by
  have tl := hA.1.1
  have s4 := hA.2.1.1
  have ec : ∀ w, f_X1_text 1 w = (if jgi w 0 0 6 = 4 then some ((-1), w) else jcb (f_X1_fault 1 w) fun v8 w9 => if v8 = (-1) then jlt (jsi w9 0 0 3 0) fun w14 => jlt (jgi w14 0 0 6) fun v32 => jlt (jgr w14 0 0 9) fun v33 => jbd v32 4 fun a36 => jlt (jsr w14 22 0 a36 v33) fun w35 => jlt (jgi w35 0 0 6) fun v37 => jlt (jsi w35 0 0 6 (v37 + 1)) fun w38 => jlt (jgi w38 0 0 6) fun v39 => some (v39 - 1, w38) else some ((-1), w9)) := fun w => by
    rw [f_X1_text, sp_isIn (l := 0) (h := 1) (l' := 0) (h' := 1) (by decide) (by decide), if_pos (by decide), jcb_s2, if_neg n10, jlt_eq, if_pos rfl, jlt_eq]
    rfl
  have em : ∀ w, f_X9_text 1 w = (if 4 ≤ jgi w 1 0 21 then some ((-1), w) else jcb (f_X9_readScript (jgi w 1 0 21) w) fun v11 w12 => if v11 = (-1) then jlt (jsi w12 1 0 2 0) fun w14 => jlt (jgi w14 1 0 21) fun v15 => jlt (jsi w14 1 0 21 (v15 + 1)) fun w16 => jlt (jgi w16 1 0 21) fun v17 => some (v17 - 1, w16) else some ((-1), w12)) := fun w => by
    rw [f_X9_text, jlt_eq, if_neg n10]
    dsimp only
    rw [if_pos rfl, jlt_eq]
    rfl
  by_cases c : aSm A = 4
  · refine ⟨-1, w, w, A, ?_, ?_, hA, hC, hM, pSame.refl, pSame.refl⟩
    · rw [ec, hC.2.1.1, if_pos (by rw [c]; rfl)]
    · rw [em, hM.2.1.1, if_pos (by rw [c]; decide)]
  · obtain ⟨R, wf, hc, hm⟩ := script_both (P := A.1) (n := jgn w 108 0) (t := jgn w 107 0) (sl := aSm A) tl hA.1.2 (by omega) 11 0 0 (fun _ => 0) rfl (Nat.zero_le _) (fun i hi => by omega)
    obtain ⟨w1, e1, o1, r1⟩ := c_readScript hC hA rfl rfl hc
    have hC1 := hC.ok o1
    have ec1 := ec w
    rw [hC.2.1.1, if_neg (show ¬ nI (aSm A) = 4 from fun z => c ((nI_eq (b := 4) (by omega) (by omega)).mp z)), e1, jcb_s2] at ec1
    have nm : ∀ v, RelM A v → ¬ (4 : Int32) ≤ jgi v 1 0 21 := fun v hv z => by
      rw [hv.2.1.1] at z
      have := (nI_leI (a := 4) (by omega) (by omega)).mp z
      omega
    cases R with
    | inl e =>
      have ne : ¬ srA (.inl e) = -1 := nI_ne1 (show e < 2 ^ 31 from by have q : e ≤ aTl A := wf; omega)
      rw [if_neg ne] at ec1
      have hM1 := hM.xc o1.xc
      obtain ⟨w2, e2, m2, s2, -⟩ := m_readScript hM1 hA (by omega) (Nat.le_refl _) hm
      refine ⟨-1, w1, w2, A, ec1, ?_, hA, hC1.xm (s2.mono fun κ i k y => y.xm), m2, o1.xc.mono fun κ i k y => Or.inl y, s2.mono fun κ i k y => Or.inr y.xm⟩
      rw [em, if_neg (nm w1 hM1), hM1.2.1.1, e2, jcb_s2, if_neg ne]
    | inr x =>
      obtain ⟨k, f⟩ := x
      obtain ⟨q1, q2⟩ := r1
      have lt : aSm A < 4 := by omega
      have i6 : jgi (jsi w1 0 0 3 0) 0 0 6 = nI (aSm A) := by rw [jgi_ne (by omega)]; exact hC1.2.1.1
      have i9 : jgr (jsi w1 0 0 3 0) 0 0 9 = some (jgn w 107 0) := q1
      rw [if_pos (show srA (.inr (k, f)) = -1 from rfl), jlt_eq, jlt_eq, i6, jlt_eq, i9, jbd_nI lt (by decide), jlt_eq, jlt_eq, show jgi (jsr (jsi w1 0 0 3 0) 22 0 (aSm A) (some (jgn w 107 0))) 0 0 6 = nI (aSm A) from i6, jlt_eq, nI_1, jlt_eq, jgi_eq, nI_m1 (by omega), Nat.add_sub_cancel] at ec1
      have C2 := c_takeScr hC1 q1 q2 lt
      have sC : pSame KXC w (jsi (jsr (jsi w1 0 0 3 0) 22 0 (aSm A) (some (jgn w 107 0))) 0 0 6 (nI (aSm A + 1))) := ((o1.xc.trans (pSame.jsi (Or.inl rfl))).trans (pSame.jsr (by unfold KXC; omega))).trans (pSame.jsi (Or.inl rfl))
      generalize jsi (jsr (jsi w1 0 0 3 0) 22 0 (aSm A) (some (jgn w 107 0))) 0 0 6 (nI (aSm A + 1)) = w3 at ec1 C2 sC
      have hM3 := hM.xc sC
      obtain ⟨w4, e4, m4, s4', r4⟩ := m_readScript hM3 hA (by omega) (Nat.le_refl _) hm
      have i21 : jgi (jsi w4 1 0 2 0) 1 0 21 = nI (aSm A) := by rw [jgi_ne (by omega)]; exact m4.2.1.1
      have M2 := m_takeScr m4 hA r4 lt wf.2.1
      have sM : pSame KXM w3 (jsi (jsi w4 1 0 2 0) 1 0 21 (nI (aSm A + 1))) := ((s4'.mono fun κ i k y => y.xm).trans (pSame.jsi (Or.inl rfl))).trans (pSame.jsi (Or.inl rfl))
      refine ⟨nI (aSm A), w3, _, scrA A (k, f), ec1, ?_, scrA_wf hA lt wf, C2.xm sM, M2, sC.mono fun κ i k y => Or.inl y, sM.mono fun κ i k y => Or.inr y⟩
      rw [em, if_neg (nm w3 hM3), hM3.2.1.1, e4, jcb_s2, if_pos (show srA (.inr (k, f)) = -1 from rfl), jlt_eq, jlt_eq, i21, nI_1, jlt_eq, jlt_eq, jgi_eq, nI_m1 (by omega), Nat.add_sub_cancel]
end TEXT1
