/-! the pure law: faults of scripts, scripts that are taken in -/
section FAULT
variable {w w' w0 : j_St} {A : pA} {X : pX}
theorem jgr_same {κ i k : Nat} {v : Option Nat} : jgr (jsr w κ i k v) κ i k = v := by
  unfold jgr jsr ju3
  exact if_pos ⟨rfl, rfl, rfl⟩
theorem jgr_other {κ i k κ' i' k' : Nat} {v : Option Nat} (h : ¬ (κ' = κ ∧ i' = i ∧ k' = k)) : jgr (jsr w κ i k v) κ' i' k' = jgr w κ' i' k' := by
  unfold jgr jsr ju3
  exact if_neg h
def srA (R : pSR) : Int32 := match R with
  | .inl e => nI e
  | .inr _ => -1
theorem RelC.tp (h : RelC A w) (hA : wfA A) : TpC A.1 w := ⟨h.1.1, h.1.2, hA.1.1, hA.1.2⟩
theorem RelM.tp (h : RelM A w) (hA : wfA A) : TpM A.1 w := ⟨h.1.1, h.1.2, hA.1.1, hA.1.2⟩
/-- what the reading of a script may touch, from its start -/
theorem KScr.q {n t : Nat} (ht : jgn w0 107 0 ≤ t) {κ i k : Nat} (h : KScr n t w0 κ i k) : KQ w0 κ i k := by
  unfold KScr KL KR at h
  unfold KQ KN
  rcases h with (h | h | h | h | h | h) | h | h
  · exact Or.inr (Or.inl (Or.inl h.1))
  · exact Or.inr (Or.inl (Or.inr (Or.inl h)))
  · exact Or.inr (Or.inl (Or.inr (Or.inr (Or.inr (Or.inl h)))))
  · exact Or.inr (Or.inl (Or.inr (Or.inr (Or.inr (Or.inr (Or.inl (by omega)))))))
  · exact Or.inr (Or.inr (Or.inr (Or.inr (Or.inr (Or.inr (Or.inl h))))))
  · exact Or.inr (Or.inr (Or.inr (Or.inr (Or.inr (Or.inr (Or.inr h))))))
  · exact Or.inr (Or.inr (Or.inr (Or.inr (Or.inr (Or.inl ⟨by omega, by omega⟩)))))
  · exact Or.inr (Or.inr (Or.inr (Or.inr (Or.inr (Or.inl ⟨by omega, by omega⟩)))))
theorem c_readScript (hC : RelC A w) (hA : wfA A) {R : pSR} {n t : Nat} (hn : n = jgn w 108 0) (ht : t = jgn w 107 0) (hR : ∀ f w w0, 11 + 1 < f → TpC A.1 w → cLit w → jgi w 8 n 0 = nI 0 → cRow w t 0 (fun _ => 0) → cUp w0 w → CScr n t w0 w (f_X10_script_L10 n t (cK9 n) f 1 (3 + 17 * 0) (39 + 5467 * 0) w) R) : ∃ w1, f_X1_fault 1 w = some (srA R, w1) ∧ cOK w w1 ∧ match R with
    | .inl _ => True
    | .inr (k, f) => jgr w1 0 0 9 = some t ∧ pSc w1 t (k, f) := by
  have K0 : ∀ κ i k, (κ = 8 ∨ 100 ≤ κ ∨ ((κ = 7 ∨ κ = 36 ∨ κ = 37) ∧ i = t) ∨ (κ = 0 ∧ k = 9)) → KQ w κ i k := fun κ i k h => by
    unfold KQ KN
    rcases h with h | h | h | h
    · exact Or.inr (Or.inl (Or.inl h))
    · exact Or.inr (Or.inl (Or.inr (Or.inr (Or.inr (Or.inr (Or.inl h))))))
    · exact Or.inr (Or.inr (Or.inr (Or.inr (Or.inr (Or.inl ⟨by omega, by omega⟩)))))
    · exact Or.inr (Or.inl (Or.inr (Or.inr (Or.inr (Or.inr (Or.inr (Or.inl ⟨h.1, by omega⟩)))))))
  -- the start
  have sA : pSame (fun κ i k => κ = 8 ∨ 100 ≤ κ ∨ ((κ = 7 ∨ κ = 36 ∨ κ = 37) ∧ i = t)) w (jsr (jnw (jsr (jnw (jnw (jbump (jsr (jnw (jbump w 8) 8 n 0) 8 n 1 (some 0)) 7) 7 t 0) 36 t 0) 7 t 0 (some t)) 37 t 0) 7 t 1 (some t)) := ((((((((bump_same (K := fun κ i k => κ = 8 ∨ 100 ≤ κ ∨ ((κ = 7 ∨ κ = 36 ∨ κ = 37) ∧ i = t)) (by omega)).trans (jnw_same (fun k => by omega))).trans (pSame.jsr (by omega))).trans (bump_same (by omega))).trans (jnw_same (fun k => by omega))).trans (jnw_same (fun k => by omega))).trans (pSame.jsr (by omega))).trans (jnw_same (fun k => by omega))).trans (pSame.jsr (by omega))
  have b107 : jgn (jsr (jnw (jsr (jnw (jnw (jbump (jsr (jnw (jbump w 8) 8 n 0) 8 n 1 (some 0)) 7) 7 t 0) 36 t 0) 7 t 0 (some t)) 37 t 0) 7 t 1 (some t)) 107 0 = t + 1 := by
    show jgn (jnw (jsr (jnw (jnw (jbump (jsr (jnw (jbump w 8) 8 n 0) 8 n 1 (some 0)) 7) 7 t 0) 36 t 0) 7 t 0 (some t)) 37 t 0) 107 0 = _
    rw [jgn_jnw, if_neg (by omega)]
    show jgn (jnw (jnw (jbump (jsr (jnw (jbump w 8) 8 n 0) 8 n 1 (some 0)) 7) 7 t 0) 36 t 0) 107 0 = _
    rw [jgn_jnw, if_neg (by omega), jgn_jnw, if_neg (by omega), jgn_bump, if_pos ⟨rfl, rfl⟩]
    show jgn (jnw (jbump w 8) 8 n 0) 107 0 + 1 = _
    rw [jgn_jnw, if_neg (by omega), jgn_bump, if_neg (by omega), ht]
  have b115 : jgn (jsr (jnw (jsr (jnw (jnw (jbump (jsr (jnw (jbump w 8) 8 n 0) 8 n 1 (some 0)) 7) 7 t 0) 36 t 0) 7 t 0 (some t)) 37 t 0) 7 t 1 (some t)) 115 0 = jgn w 115 0 := by
    show jgn (jnw (jsr (jnw (jnw (jbump (jsr (jnw (jbump w 8) 8 n 0) 8 n 1 (some 0)) 7) 7 t 0) 36 t 0) 7 t 0 (some t)) 37 t 0) 115 0 = _
    rw [jgn_jnw, if_neg (by omega)]
    show jgn (jnw (jnw (jbump (jsr (jnw (jbump w 8) 8 n 0) 8 n 1 (some 0)) 7) 7 t 0) 36 t 0) 115 0 = _
    rw [jgn_jnw, if_neg (by omega), jgn_jnw, if_neg (by omega), jgn_bump, if_neg (by omega)]
    show jgn (jnw (jbump w 8) 8 n 0) 115 0 = _
    rw [jgn_jnw, if_neg (by omega), jgn_bump, if_neg (by omega)]
  have bO : ∀ κ, κ = 170 ∨ κ = 105 ∨ κ = 106 → jgn (jsr (jnw (jsr (jnw (jnw (jbump (jsr (jnw (jbump w 8) 8 n 0) 8 n 1 (some 0)) 7) 7 t 0) 36 t 0) 7 t 0 (some t)) 37 t 0) 7 t 1 (some t)) κ 0 = jgn w κ 0 := fun κ hκ => by
    show jgn (jnw (jsr (jnw (jnw (jbump (jsr (jnw (jbump w 8) 8 n 0) 8 n 1 (some 0)) 7) 7 t 0) 36 t 0) 7 t 0 (some t)) 37 t 0) κ 0 = _
    rw [jgn_jnw, if_neg (by omega)]
    show jgn (jnw (jnw (jbump (jsr (jnw (jbump w 8) 8 n 0) 8 n 1 (some 0)) 7) 7 t 0) 36 t 0) κ 0 = _
    rw [jgn_jnw, if_neg (by omega), jgn_jnw, if_neg (by omega), jgn_bump, if_neg (by omega)]
    show jgn (jnw (jbump w 8) 8 n 0) κ 0 = _
    rw [jgn_jnw, if_neg (by omega), jgn_bump, if_neg (by omega)]
  have r8 : jgi (jsr (jnw (jsr (jnw (jnw (jbump (jsr (jnw (jbump w 8) 8 n 0) 8 n 1 (some 0)) 7) 7 t 0) 36 t 0) 7 t 0 (some t)) 37 t 0) 7 t 1 (some t)) 8 n 0 = nI 0 := by
    show jgi (jnw (jsr (jnw (jnw (jbump (jsr (jnw (jbump w 8) 8 n 0) 8 n 1 (some 0)) 7) 7 t 0) 36 t 0) 7 t 0 (some t)) 37 t 0) 8 n 0 = _
    rw [jgi_jnw, if_neg (by omega)]
    show jgi (jnw (jnw (jbump (jsr (jnw (jbump w 8) 8 n 0) 8 n 1 (some 0)) 7) 7 t 0) 36 t 0) 8 n 0 = _
    rw [jgi_jnw, if_neg (by omega), jgi_jnw, if_neg (by omega), jgi_bump]
    show jgi (jnw (jbump w 8) 8 n 0) 8 n 0 = _
    rw [jgi_jnw, if_pos ⟨rfl, rfl⟩]
    rfl
  have r7 : jgi (jsr (jnw (jsr (jnw (jnw (jbump (jsr (jnw (jbump w 8) 8 n 0) 8 n 1 (some 0)) 7) 7 t 0) 36 t 0) 7 t 0 (some t)) 37 t 0) 7 t 1 (some t)) 7 t 2 = nI 0 := by
    show jgi (jnw (jsr (jnw (jnw (jbump (jsr (jnw (jbump w 8) 8 n 0) 8 n 1 (some 0)) 7) 7 t 0) 36 t 0) 7 t 0 (some t)) 37 t 0) 7 t 2 = _
    rw [jgi_jnw, if_neg (by omega)]
    show jgi (jnw (jnw (jbump (jsr (jnw (jbump w 8) 8 n 0) 8 n 1 (some 0)) 7) 7 t 0) 36 t 0) 7 t 2 = _
    rw [jgi_jnw, if_neg (by omega), jgi_jnw, if_pos ⟨rfl, rfl⟩]
    rfl
  have st1 : f_X1_fault 1 w = jch (f_X10_script_L10 n t (cK9 n) jFU 1 (3 + 17 * 0) (39 + 5467 * 0) (jsr (jnw (jsr (jnw (jnw (jbump (jsr (jnw (jbump w 8) 8 n 0) 8 n 1 (some 0)) 7) 7 t 0) 36 t 0) 7 t 0 (some t)) 37 t 0) 7 t 1 (some t))) (fun n26 w27 => jlt (jgi w27 9 n26 6) fun v32 => some (v32, w27)) fun v19 w20 => jlt (jsr w20 0 0 9 (some v19)) fun w25 => some ((-1), w25) := by
    have t107 : jgn (jsr (jnw (jbump w 8) 8 n 0) 8 n 1 (some 0)) 107 0 = t := by
      show jgn (jnw (jbump w 8) 8 n 0) 107 0 = _
      rw [jgn_jnw, if_neg (by omega), jgn_bump, if_neg (by omega), ht]
    rw [f_X1_fault, sp_isIn (l := 0) (h := 1) (l' := 0) (h' := 1) (by decide) (by decide), if_pos (by decide), jcb_s2, if_neg n10, jlt_eq, ← hn, jlt_eq, jlt_eq, f_X10_init, jlt_eq, jcb_s2, if_neg n10, f_X10_script, jlt_eq, t107, jlt_eq, jlt_eq, f_X13_init, jlt_eq, jlt_eq, jlt_eq, jlt_eq, jcb_s2]
    rfl
  generalize jsr (jnw (jsr (jnw (jnw (jbump (jsr (jnw (jbump w 8) 8 n 0) 8 n 1 (some 0)) 7) 7 t 0) 36 t 0) 7 t 0 (some t)) 37 t 0) 7 t 1 (some t) = w1 at sA b107 b115 bO r8 r7 st1
  have sQ : pSame (KQ w) w w1 := sA.mono fun κ i k y => K0 κ i k (by omega)
  have T1 : TpC A.1 w1 := (hC.tp hA).same sA ⟨by omega, fun k => by omega⟩
  have L1 : cLit w1 := hC.2.2.2.2.2.2.1.same sA (fun κ i k h => by omega)
  have u1 : cUp w w1 := ⟨Nat.le_of_eq b115.symm, Nat.le_of_eq (bO 170 (Or.inl rfl)).symm⟩
  have hc := hR jFU w1 w (jFU_gt (by omega)) T1 L1 r8 ⟨r7, fun i hi => by omega⟩ u1
  have kt : jgn w 107 0 ≤ t := by omega
  have lowS : ∀ κ i k, KScr n t w κ i k → κ ≠ 2 ∧ κ ≠ 3 ∧ ¬ (27 ≤ κ ∧ κ ≤ 31) := fun κ i k y => by unfold KScr KL KR at y; omega
  have wf1 : WfP 0 w1 := hC.2.2.2.2.2.2.2.1.low sA (fun κ i k y => by omega)
  have wf2 : WfP 1 w1 := hC.2.2.2.2.2.2.2.2.1.low sA (fun κ i k y => by omega)
  have rise : ∀ w2, pSame (KScr n t w) w1 w2 → cUp w1 w2 → pRise w w2 := fun w2 s2 u2 => by
    have e : ∀ κ, κ = 105 ∨ κ = 106 ∨ κ = 107 → jgn w2 κ 0 = jgn w1 κ 0 := fun κ hκ => s2.2.2.2 _ _ (by unfold KScr KL KR; omega)
    have a := bO 105 (Or.inr (Or.inl rfl))
    have b := bO 106 (Or.inr (Or.inr rfl))
    have c := bO 170 (Or.inl rfl)
    exact ⟨by rw [e 105 (by omega)]; omega, by rw [e 106 (by omega)]; omega, by rw [e 107 (by omega)]; omega, by have := u2.1; omega, by have := u2.2; omega⟩
  cases R with
  | inl e =>
    obtain ⟨mm, w2, e2, s2, u2, r2⟩ := hc
    refine ⟨w2, ?_, ⟨sQ.trans (s2.mono fun κ i k y => y.q kt), rise w2 s2 u2, wf1.low s2 lowS, wf2.low s2 lowS⟩, trivial⟩
    rw [st1, e2]
    show some (jgi w2 9 mm 6, w2) = some (nI e, w2)
    rw [r2]
  | inr x =>
    obtain ⟨k, f⟩ := x
    obtain ⟨w2, e2, s2, u2, r2⟩ := hc
    have s3 : pSame (fun κ i k => κ = 0 ∧ k = 9) w2 (jsr w2 0 0 9 (some t)) := pSame.jsr ⟨rfl, rfl⟩
    have n107 : jgn w2 107 0 = t + 1 := by rw [s2.2.2.2 _ _ (by unfold KScr KL KR; omega)]; exact b107
    refine ⟨jsr w2 0 0 9 (some t), ?_, ⟨(sQ.trans (s2.mono fun κ i k y => y.q kt)).trans (s3.mono fun κ i k y => K0 κ i k (by omega)), rise w2 s2 u2, (wf1.low s2 lowS).low s3 (fun κ i k y => by omega), (wf2.low s2 lowS).low s3 (fun κ i k y => by omega)⟩, jgr_same, ?_, r2.1, r2.2⟩
    · rw [st1, e2]
      rfl
    · show t < jgn w2 107 0
      omega
/-- the model's -/
theorem m_readScript (hM : RelM A w) (hA : wfA A) {R : pSR} {sl : Nat} (hsl : sl < 5) (hs : aSm A ≤ sl) (hR : ∀ f w, 11 + 1 < f → TpM A.1 w → TkM A.1 w (tE gS A.1 0) → jgi w 1 0 8 = -1 → mRow w sl 0 (fun _ => 0) → MScr sl w (f_X9_readScript_L13 (nI sl) mK9 f 1 w) R) : ∃ w1, f_X9_readScript (nI sl) w = some (srA R, w1) ∧ RelM A w1 ∧ pSame (KMsc sl) w w1 ∧ match R with
    | .inl _ => True
    | .inr (k, f) => mRow w1 sl k f := by
  have T0 := hM.tp hA
  have s1 : pSame (KMsc sl) w (jsi (jsi w 1 0 3 0) 1 0 8 (-1)) := (pSame.jsi (Or.inl ⟨rfl, rfl, by omega⟩)).trans (pSame.jsi (Or.inr (Or.inl ⟨rfl, rfl, rfl⟩)))
  have T1 : TpM A.1 (jsi (jsi w 1 0 3 0) 1 0 8 (-1)) := T0.same s1 ⟨by unfold KMsc KTk; omega, fun k => by unfold KMsc KTk; omega⟩
  obtain ⟨w2, e2, s2, t2⟩ := m_next T1 (p := 0) (by rw [jgi_ne (by omega)]; exact jgi_eq) (Nat.zero_le _)
  have q8 : jgi w2 1 0 8 = -1 := by rw [s2.1 _ _ _ (by unfold KTk; omega)]; exact jgi_eq
  have s3 : pSame (fun κ i k => κ = 46 ∧ i = 0 ∧ k = sl) w2 (jsi w2 46 0 sl 0) := pSame.jsi ⟨rfl, rfl, rfl⟩
  have L3 : pSame (KMsc sl) w (jsi w2 46 0 sl 0) := (s1.trans (s2.mono fun κ i k y => Or.inl y)).trans (s3.mono fun κ i k y => Or.inr (Or.inr (Or.inr y)))
  have h := hR jFU (jsi w2 46 0 sl 0) (jFU_gt (by omega)) ((T1.tk s2).same s3 ⟨by omega, fun k => by omega⟩) (t2.a s3 (fun κ i k y => Or.inr (Or.inl y.1))) (by rw [jgi_ne (by omega)]; exact q8) ⟨jgi_eq, fun i hi => by omega⟩
  have st1 : f_X9_readScript (nI sl) w = f_X9_readScript_L13 (nI sl) mK9 jFU 1 (jsi w2 46 0 sl 0) := by
    rw [f_X9_readScript, f_X9_begins, jlt_eq, jlt_eq, e2, jcb_s2, jcb_s2, jbd_nI hsl (by decide), jlt_eq]
    rfl
  have keep : ∀ w1, pSame (KMsc sl) w w1 → RelM A w1 := fun w1 g => by
    obtain ⟨h1, h2, h3, h4, h5, h6, p0⟩ := hM
    exact ⟨h1.sm g (by unfold KMsc KTk; omega) (fun k => by unfold KMsc KTk; omega), h2.sm hA g (by unfold KMsc KTk; omega) (fun k a => by unfold KMsc KTk; omega) (fun k a => by unfold KMsc KTk; omega), h3.sm g (by unfold KMsc KTk; omega) (fun k => by unfold KMsc KTk; omega), h4.sm g (by unfold KMsc KTk; omega) (fun k => by unfold KMsc KTk; omega), h5.sm g (by unfold KMsc KTk; omega) (fun k => by unfold KMsc KTk; omega), h6.sm g (by unfold KMsc KTk; omega), p0.same g (fun κ i k a b => by unfold KA at a; unfold KMsc KTk at b; omega)⟩
  cases R with
  | inl e =>
    obtain ⟨w4, e4, s4⟩ := h
    exact ⟨w4, st1.trans e4, keep w4 (L3.trans s4), L3.trans s4, trivial⟩
  | inr x =>
    obtain ⟨w4, e4, s4, r4⟩ := h
    exact ⟨w4, st1.trans e4, keep w4 (L3.trans s4), L3.trans s4, r4⟩
theorem KMsc.xm {sl κ i k : Nat} (h : KMsc sl κ i k) : KXM κ i k := by
  unfold KMsc KTk at h
  unfold KXM
  omega
theorem o_fault1 (hA : wfA A) : pOp A (f_X1_fault 1) (f_X9_fault 1) := fun w hC hM => by
  have tl := hA.1.1
  obtain ⟨R, wf, hc, hm⟩ := script_both (P := A.1) (n := jgn w 108 0) (t := jgn w 107 0) (sl := 4) tl hA.1.2 (by decide) 11 0 0 (fun _ => 0) rfl (Nat.zero_le _) (fun i hi => by omega)
  obtain ⟨w1, e1, o1, -⟩ := c_readScript hC hA rfl rfl hc
  obtain ⟨w2, e2, m2, s2, -⟩ := m_readScript (hM.xc o1.xc) hA (by decide) hA.2.1.1 hm
  refine ⟨srA R, w1, w2, A, e1, ?_, hA, (hC.ok o1).xm (s2.mono fun κ i k y => y.xm), m2, o1.xc.mono fun κ i k y => Or.inl y, s2.mono fun κ i k y => Or.inr y.xm⟩
  rw [f_X9_fault, if_neg n10, if_pos rfl]
  have e2 : f_X9_readScript 4 w1 = some (srA R, w2) := e2
  rw [e2, jcb_s2]
end FAULT
