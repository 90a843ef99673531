/-! the pure law: a whole script, by both -/
section SCRIPT2
variable {w w' w0 : j_St} {P : pP} {n t sl : Nat}
def cK9 (n : Nat) : Nat → Nat → j_St → Option ((Nat ⊕ Nat) × j_St) := fun (c52 : Nat) (c53 : Nat) (w49 : j_St) => jlt (jgn w49 109 0) fun n54 => jlt (jbump w49 9) fun w56 => if c52 + 1 ≤ 300 ∧ c53 + 7 ≤ 70000 then jlt (jnw w56 9 n54 0) fun w61 => jlt (jgi w61 8 n 0) fun v64 => if c52 + 1 + 0 ≤ 300 ∧ c53 + 7 + 0 ≤ 70000 then jcb (f_X12_init n54 v64 w61) fun _ w66 => if c52 + 1 + 0 ≤ 300 ∧ c53 + 7 + 0 ≤ 70000 then some (.inl n54, w66) else none else none else none
def mK9 : j_St → Option (Int32 × j_St) := fun (w31 : j_St) => jlt (jgi w31 1 0 8) fun v32 => if v32 = (-1) then jlt (jgi w31 1 0 4) fun v34 => if v34 = 0 then jlt (jgi w31 1 0 8) fun v35 => some (v35, w31) else jcb (f_X9_bad w31) fun _ w37 => jlt (jgi w37 1 0 8) fun v39 => some (v39, w37) else jlt (jgi w31 1 0 8) fun v33 => some (v33, w31)
theorem cK9_is {p c1 c2 : Nat} (h : c1 + 1 ≤ 300 ∧ c2 + 7 ≤ 70000) (hp : jgi w 8 n 0 = nI p) : ∃ mm w', cK9 n c1 c2 w = some (.inl mm, w') ∧ pSame (KY n) w w' ∧ jgi w' 9 mm 6 = nI p := by
  have r8 : jgi (jnw (jbump w 9) 9 (jgn w 109 0) 0) 8 n 0 = nI p := by rw [jgi_jnw, if_neg (by omega), jgi_bump]; exact hp
  refine ⟨jgn w 109 0, _, ?_, wr_same, jgi_eq⟩
  rw [cK9, jlt_eq, jlt_eq, if_pos h, jlt_eq, jlt_eq, r8, if_pos h, c_wrong, jcb_s2, if_pos h]
theorem mK9_f {e : Nat} (he : e ≤ 400) (h8 : jgi w 1 0 8 = nI e) : mK9 w = some (nI e, w) := by
  rw [mK9, jlt_eq, h8, if_neg (nI_ne1 (by omega)), jlt_eq]
theorem mK9_t {st : Nat} (h8 : jgi w 1 0 8 = -1) (hk : TkM P w st) : mK9 w = if tK P st = 0 then some (-1, w) else some (nI st, jsi w 1 0 8 (nI st)) := by
  have := tK_le (P := P) st
  rw [mK9, jlt_eq, h8, if_pos rfl, jlt_eq, hk.2.2.2.1]
  by_cases c : tK P st = 0
  · rw [if_pos (show nI (tK P st) = 0 by rw [c]; rfl), if_pos c, jlt_eq]
  · rw [if_neg (nI_ne0 (by omega) (by omega)), if_neg c, m_bad h8, jcb_s2, jlt_eq, jgi_eq, hk.1]
theorem script_both (hL4 : P.1 ≤ 400) (hP : ∀ k, k < P.1 → 1 ≤ P.2 k ∧ P.2 k ≤ 255) (hsl : sl < 5) : ∀ (cnt m p : Nat) (S : Nat → Int32), m + cnt = 11 → p ≤ P.1 → (∀ i, i < m → ∃ q, q < 10 ∧ S (3 * i) = nI q) → ∃ R, wfSR P R ∧
    (∀ f w w0, cnt + 1 < f → TpC P w → cLit w → jgi w 8 n 0 = nI p → cRow w t m S → cUp w0 w → CScr n t w0 w (f_X10_script_L10 n t (cK9 n) f 1 (3 + 17 * m) (39 + 5467 * m) w) R) ∧
    ∀ f w, cnt + 1 < f → TpM P w → TkM P w (tE gS P p) → jgi w 1 0 8 = -1 → mRow w sl m S → MScr sl w (f_X9_readScript_L13 (nI sl) mK9 f 1 w) R := by
  have mx : ∀ m : Nat, (3 : Int32) * (12 * nI sl + nI m) = nI (36 * sl + 3 * m) := fun m => m_ix
  have main : ∀ (cnt m p : Nat) (S : Nat → Int32), m + cnt = 11 → p ≤ P.1 → (∀ i, i < m → ∃ q, q < 10 ∧ S (3 * i) = nI q) → (∀ p' S', 0 < cnt → p' ≤ P.1 → (∀ i, i < m + 1 → ∃ q, q < 10 ∧ S' (3 * i) = nI q) → ∃ R, wfSR P R ∧
    (∀ f w w0, cnt < f → TpC P w → cLit w → jgi w 8 n 0 = nI p' → cRow w t (m + 1) S' → cUp w0 w → CScr n t w0 w (f_X10_script_L10 n t (cK9 n) f 1 (3 + 17 * (m + 1)) (39 + 5467 * (m + 1)) w) R) ∧
    ∀ f w, cnt < f → TpM P w → TkM P w (tE gS P p') → jgi w 1 0 8 = -1 → mRow w sl (m + 1) S' → MScr sl w (f_X9_readScript_L13 (nI sl) mK9 f 1 w) R) → ∃ R, wfSR P R ∧
    (∀ f w w0, cnt + 1 < f → TpC P w → cLit w → jgi w 8 n 0 = nI p → cRow w t m S → cUp w0 w → CScr n t w0 w (f_X10_script_L10 n t (cK9 n) f 1 (3 + 17 * m) (39 + 5467 * m) w) R) ∧
    ∀ f w, cnt + 1 < f → TpM P w → TkM P w (tE gS P p) → jgi w 1 0 8 = -1 → mRow w sl m S → MScr sl w (f_X9_readScript_L13 (nI sl) mK9 f 1 w) R := by
    intro cnt m p S hm hp hS ih
    obtain ⟨R1, wf1, cst, mst⟩ := step_both (n := n) (t := t) (m := m) (o := 36 * sl + 3 * m) (p := p) hL4 hp (by omega) (by omega)
    have ub : ∀ κ i k, KMs (36 * sl + 3 * m) κ i k → KMsc sl κ i k := fun κ i k y => by
      rcases y with y | y | y
      · exact Or.inl y
      · exact Or.inr (Or.inl y)
      · exact Or.inr (Or.inr (Or.inl ⟨y.1, y.2.1, by omega, by omega⟩))
    have K46 : KMsc sl 46 0 sl := Or.inr (Or.inr (Or.inr ⟨rfl, rfl, rfl⟩))
    have K8 : KMsc sl 1 0 8 := Or.inr (Or.inl ⟨rfl, rfl, rfl⟩)
    -- the model, a step on
    have mgo : ∀ f w w1, mRow w sl m S → f_X9_readStep (nI (36 * sl + 3 * m)) w = some ((), w1) → jgi w1 46 0 sl = nI m → f_X9_readScript_L13 (nI sl) mK9 (f + 1) 1 w = (jlt (jgi (jsi w1 46 0 sl (nI (m + 1))) 1 0 8) fun v20 => jlt (fun (v26 : Int32) (w27 : j_St) => if v26 = 0 then f_X9_readScript_L13 (nI sl) mK9 f v26 w27 else jcb (f_X9_next w27) fun _ w29 => f_X9_readScript_L13 (nI sl) mK9 f v26 w29) fun K76 => jlt (fun (w25 : j_St) => K76 0 w25) fun K75 => if v20 = (-1) then jlt (jgi (jsi w1 46 0 sl (nI (m + 1))) 1 0 4) fun v21 => if v21 = 3 then jbd (nI sl) 5 fun a23 => jlt (jgi (jsi w1 46 0 sl (nI (m + 1))) 46 0 a23) fun v24 => if 12 ≤ v24 then K75 (jsi w1 46 0 sl (nI (m + 1))) else K76 1 (jsi w1 46 0 sl (nI (m + 1))) else K75 (jsi w1 46 0 sl (nI (m + 1))) else K75 (jsi w1 46 0 sl (nI (m + 1)))) := fun f w w1 hr e h46 => by
      rw [f_X9_readScript_L13, if_neg n10, jbd_nI hsl (by decide), jlt_eq, hr.1, mx, e, jcb_s2, jbd_nI hsl (by decide), jlt_eq, h46, jbd_nI hsl (by decide), jlt_eq, nI_1]
    have mend : ∀ f w, f_X9_readScript_L13 (nI sl) mK9 (f + 1) 0 w = mK9 w := fun f w => by rw [f_X9_readScript_L13, if_pos rfl]
    -- the component, a step on
    cases R1 with
    | inl e =>
      have he : e ≤ P.1 := wf1
      refine ⟨.inl e, he, fun f w w0 hf hT hL hp8 hr hu => ?_, fun f w hf hT hk h8 hr => ?_⟩
      · obtain ⟨f, rfl⟩ : ∃ f', f = f' + 1 := ⟨f - 1, by omega⟩
        obtain ⟨mm, w1, e1, s1, u1, r1⟩ := cst w w0 hT hL hp8 hr.1 hu
        refine ⟨mm, w1, ?_, s1.mono fun κ i k y => y.s, u1, r1⟩
        rw [f_X10_script_L10, if_neg n10, if_pos ⟨by omega, by omega⟩, e1, jcx_e]
      · obtain ⟨f, rfl⟩ : ∃ f', f = f' + 1 + 1 := ⟨f - 2, by omega⟩
        obtain ⟨w1, e1, s1, r1⟩ := mst w hT hk h8
        have h46 : jgi w1 46 0 sl = nI m := by rw [s1.1 _ _ _ (by unfold KMs KTk; omega)]; exact hr.1
        have t8 : jgi (jsi w1 46 0 sl (nI (m + 1))) 1 0 8 = nI e := by rw [jgi_ne (by omega)]; exact r1
        refine ⟨jsi w1 46 0 sl (nI (m + 1)), ?_, (s1.mono ub).trans (pSame.jsi K46)⟩
        rw [mgo _ w w1 hr e1 h46, jlt_eq, t8, jlt_eq, jlt_eq, if_neg (nI_ne1 (by omega))]
        dsimp only
        rw [if_pos rfl, mend]
        exact mK9_f (by omega) t8
    | inr x =>
      obtain ⟨q, a, b, p'⟩ := x
      obtain ⟨hq, hp'⟩ : q < 10 ∧ p' ≤ P.1 := wf1
      have hst : tE gS P p' ≤ P.1 := tE_le hp'
      -- the rows then
      have up3 : ∀ k, k < 3 * m → up (up (up S (3 * m) (nI q)) (3 * m + 1) a) (3 * m + 2) b k = S k := fun k hk => by
        rw [up_ne (by omega), up_ne (by omega), up_ne (by omega)]
      have rowC : ∀ w0 w w1, cRow w t m S → pSame (KSc n t m w0) w w1 → jgi w1 7 t 2 = nI (m + 1) → jgi w1 36 t m = nI q → jgi w1 37 t (2 * m) = a → jgi w1 37 t (2 * m + 1) = b → cRow w1 t (m + 1) (up (up (up S (3 * m) (nI q)) (3 * m + 1) a) (3 * m + 2) b) := fun w0 w w1 hr s h7 i1 i2 i3 => by
        refine ⟨h7, fun i hi => ?_⟩
        by_cases e : i = m
        · subst e
          refine ⟨?_, ?_, ?_⟩
          · rw [up_ne (by omega), up_ne (by omega), up_same]; exact i1
          · rw [up_ne (by omega), up_same]; exact i2
          · rw [up_same]; exact i3
        · obtain ⟨r1, r2, r3⟩ := hr.2 i (by omega)
          rw [up3 _ (by omega), up3 _ (by omega), up3 _ (by omega)]
          exact ⟨by rw [s.1 _ _ _ (by unfold KSc KL KR; omega)]; exact r1, by rw [s.1 _ _ _ (by unfold KSc KL KR; omega)]; exact r2, by rw [s.1 _ _ _ (by unfold KSc KL KR; omega)]; exact r3⟩
      have rowM : ∀ w w1, mRow w sl m S → pSame (KMs (36 * sl + 3 * m)) w w1 → jgi w1 45 0 (36 * sl + 3 * m) = nI q → jgi w1 45 0 (36 * sl + 3 * m + 1) = a → jgi w1 45 0 (36 * sl + 3 * m + 2) = b → mRow (jsi w1 46 0 sl (nI (m + 1))) sl (m + 1) (up (up (up S (3 * m) (nI q)) (3 * m + 1) a) (3 * m + 2) b) := fun w w1 hr s i1 i2 i3 => by
        refine ⟨jgi_eq, fun i hi => ?_⟩
        rw [jgi_ne (by omega)]
        rcases (show i = 3 * m ∨ i = 3 * m + 1 ∨ i = 3 * m + 2 ∨ i < 3 * m by omega) with e | e | e | e
        · rw [e, up_ne (by omega), up_ne (by omega), up_same]; exact i1
        · rw [e, up_ne (by omega), up_same]; exact i2
        · rw [e, up_same]; exact i3
        · rw [up_ne (by omega), up_ne (by omega), up_ne (by omega), s.1 _ _ _ (by unfold KMs KTk; omega)]
          exact hr.2 i e
      have wfS : ∀ i, i < m + 1 → ∃ q', q' < 10 ∧ (up (up (up S (3 * m) (nI q)) (3 * m + 1) a) (3 * m + 2) b) (3 * i) = nI q' := fun i hi => by
        by_cases e : i = m
        · subst e
          exact ⟨q, hq, by rw [up_ne (by omega), up_ne (by omega), up_same]⟩
        · obtain ⟨q', h1, h2⟩ := hS i (by omega)
          exact ⟨q', h1, by rw [up_ne (by omega), up_ne (by omega), up_ne (by omega)]; exact h2⟩
      generalize up (up (up S (3 * m) (nI q)) (3 * m + 1) a) (3 * m + 2) b = S' at rowC rowM wfS
      -- component: after the step
      have cgo : ∀ f w w0, TpC P w → cLit w → jgi w 8 n 0 = nI p → cRow w t m S → cUp w0 w → ∃ w2, (∀ res, (jlt (fun (c40 : Nat) (c41 : Nat) (w37 : j_St) => if c40 + 1 ≤ 300 ∧ c41 + 7 ≤ 70000 then jcx (f_X10_goesOn n w37) fun v42 w43 => f_X10_script_L10 n t (cK9 n) f v42 (c40 + 1) (c41 + 7) w43 else none) fun K49 => if bt P (tE gS P p') = 59 then jlt (jgi w2 7 t 2) fun v36 => if v36 = 12 then cK9 n (3 + 17 * m + 16) (39 + 5467 * m + 5460) w2 else K49 (3 + 17 * m + 16) (39 + 5467 * m + 5460) w2 else K49 (3 + 17 * m + 16) (39 + 5467 * m + 5460) w2) = res → f_X10_script_L10 n t (cK9 n) (f + 1) 1 (3 + 17 * m) (39 + 5467 * m) w = res) ∧ pSame (KScr n t w0) w w2 ∧ cUp w w2 ∧ jgi w2 8 n 0 = nI (tE gS P p') ∧ TpC P w2 ∧ cLit w2 ∧ cRow w2 t (m + 1) S' := fun f w w0 hT hL hp8 hr hu => by
        obtain ⟨w1, e1, s1, u1, p1, i7, i1, i2, i3⟩ := cst w w0 hT hL hp8 hr.1 hu
        have L1 : pSame (KScr n t w0) w w1 := s1.mono fun κ i k y => y.s
        obtain ⟨w2, e2, s2, p2⟩ := c_peek (hT.s L1) p1 hp'
        have r1 := rowC w0 w w1 hr s1 i7 i1 i2 i3
        have L2 : pSame (KScr n t w0) w w2 := L1.trans (s2.mono fun κ i k y => Or.inl (Or.inl y))
        refine ⟨w2, fun res hres => ?_, L2, u1.trans ⟨Nat.le_of_eq (s2.2.2.2 _ _ (by unfold KR; omega)).symm, Nat.le_of_eq (s2.2.2.2 _ _ (by unfold KR; omega)).symm⟩, p2, hT.s L2, hL.s L2, ?_⟩
        · rw [f_X10_script_L10, if_neg n10, if_pos ⟨by omega, by omega⟩, e1, jcx_s, if_pos ⟨by omega, by omega⟩, e2, jcb_s2]
          exact hres
        · refine ⟨by rw [s2.1 _ _ _ (by unfold KR; omega)]; exact r1.1, fun i hi => ?_⟩
          rw [s2.1 36 _ _ (by unfold KR; omega), s2.1 37 _ _ (by unfold KR; omega), s2.1 37 _ _ (by unfold KR; omega)]
          exact r1.2 i hi
      have b59 := bt_59 hP (st := tE gS P p')
      -- model: after the step
      have mgo2 : ∀ f w, TpM P w → TkM P w (tE gS P p) → jgi w 1 0 8 = -1 → mRow w sl m S → ∃ w2, (∀ res, (jlt (fun (v26 : Int32) (w27 : j_St) => if v26 = 0 then f_X9_readScript_L13 (nI sl) mK9 f v26 w27 else jcb (f_X9_next w27) fun _ w29 => f_X9_readScript_L13 (nI sl) mK9 f v26 w29) fun K76 => jlt (fun (w25 : j_St) => K76 0 w25) fun K75 => if nI (tK P (tE gS P p')) = 3 then jbd (nI sl) 5 fun a23 => jlt (jgi w2 46 0 a23) fun v24 => if 12 ≤ v24 then K75 w2 else K76 1 w2 else K75 w2) = res → f_X9_readScript_L13 (nI sl) mK9 (f + 1) 1 w = res) ∧ pSame (KMsc sl) w w2 ∧ jgi w2 1 0 8 = -1 ∧ TpM P w2 ∧ TkM P w2 (tE gS P p') ∧ mRow w2 sl (m + 1) S' := fun f w hT hk h8 hr => by
        obtain ⟨w1, e1, s1, q8, t1, i1, i2, i3⟩ := mst w hT hk h8
        have h46 : jgi w1 46 0 sl = nI m := by rw [s1.1 _ _ _ (by unfold KMs KTk; omega)]; exact hr.1
        have s2 : pSame (fun κ i k => κ = 46) w1 (jsi w1 46 0 sl (nI (m + 1))) := pSame.jsi rfl
        have t2 : TkM P (jsi w1 46 0 sl (nI (m + 1))) (tE gS P p') := t1.a s2 (fun κ i k y => Or.inr (Or.inl y))
        have t8 : jgi (jsi w1 46 0 sl (nI (m + 1))) 1 0 8 = -1 := by rw [jgi_ne (by omega)]; exact q8
        refine ⟨jsi w1 46 0 sl (nI (m + 1)), fun res hres => ?_, (s1.mono ub).trans (pSame.jsi K46), t8, (hT.ms s1).same s2 ⟨by omega, fun k => by omega⟩, t2, rowM w w1 hr s1 i1 i2 i3⟩
        rw [mgo _ w w1 hr e1 h46, jlt_eq, t8, ← hres]
        simp only [jlt_eq, if_true, t2.2.2.2.1]
      have k4 := tK_le (P := P) (tE gS P p')
      by_cases k3 : tK P (tE gS P p') = 3
      · by_cases c12 : m = 11
        · -- too many
          refine ⟨.inl (tE gS P p'), hst, fun f w w0 hf hT hL hp8 hr hu => ?_, fun f w hf hT hk h8 hr => ?_⟩
          · obtain ⟨f, rfl⟩ : ∃ f', f = f' + 1 := ⟨f - 1, by omega⟩
            obtain ⟨w2, go, L2, u2, p2, T2, Li2, r2⟩ := cgo f w w0 hT hL hp8 hr hu
            obtain ⟨mm, w3, e3, s3, r3⟩ := cK9_is (n := n) (w := w2) (c1 := 3 + 17 * m + 16) (c2 := 39 + 5467 * m + 5460) ⟨by omega, by omega⟩ p2
            refine ⟨mm, w3, go _ ?_, L2.trans (s3.mono fun κ i k y => Or.inl y.l), u2.trans (KY.up s3), r3⟩
            rw [jlt_eq, if_pos (b59.mpr k3), jlt_eq, r2.1, if_pos (show nI (m + 1) = 12 by rw [c12]; rfl)]
            exact e3
          · obtain ⟨f, rfl⟩ : ∃ f', f = f' + 1 + 1 := ⟨f - 2, by omega⟩
            obtain ⟨w2, go, s2, q8, T2, t2, r2⟩ := mgo2 (f + 1) w hT hk h8 hr
            refine ⟨jsi w2 1 0 8 (nI (tE gS P p')), go _ ?_, s2.trans (pSame.jsi K8)⟩
            rw [jlt_eq, jlt_eq, if_pos (show nI (tK P (tE gS P p')) = 3 by rw [k3]; rfl), jbd_nI hsl (by decide), jlt_eq, r2.1, if_pos (show (12 : Int32) ≤ nI (m + 1) by rw [c12]; decide)]
            dsimp only
            rw [if_pos rfl, mend, mK9_t q8 t2, if_neg (by omega)]
        · -- on
          have l3 : tE gS P p' < P.1 := Classical.byContradiction fun z => by
            unfold tK at k3
            rw [if_neg z] at k3
            omega
          obtain ⟨R, wfR, cR, mR⟩ := ih (tE gS P p' + 1) S' (by omega) (by omega) wfS
          refine ⟨R, wfR, fun f w w0 hf hT hL hp8 hr hu => ?_, fun f w hf hT hk h8 hr => ?_⟩
          · obtain ⟨f, rfl⟩ : ∃ f', f = f' + 1 := ⟨f - 1, by omega⟩
            obtain ⟨w2, go, L2, u2, p2, T2, Li2, r2⟩ := cgo f w w0 hT hL hp8 hr hu
            obtain ⟨w3, e3, s3, p3⟩ := (c_goesOn T2 p2 hst).2.1 (by rw [tE_idem]; exact k3)
            rw [tE_idem] at p3
            have r3 : cRow w3 t (m + 1) S' := ⟨by rw [s3.1 _ _ _ (by unfold KY KR; omega)]; exact r2.1, fun i hi => by rw [s3.1 36 _ _ (by unfold KY KR; omega), s3.1 37 _ _ (by unfold KY KR; omega), s3.1 37 _ _ (by unfold KY KR; omega)]; exact r2.2 i hi⟩
            have L3 : pSame (KScr n t w0) w w3 := L2.trans (s3.mono fun κ i k y => Or.inl y.l)
            have := cR f w3 w0 (by omega) (hT.s L3) (hL.s L3) p3 r3 (hu.trans (u2.trans (KY.up s3)))
            have st1 : f_X10_script_L10 n t (cK9 n) (f + 1) 1 (3 + 17 * m) (39 + 5467 * m) w = f_X10_script_L10 n t (cK9 n) f 1 (3 + 17 * (m + 1)) (39 + 5467 * (m + 1)) w3 := go _ (by
              rw [jlt_eq, if_pos (b59.mpr k3), jlt_eq, r2.1, if_neg (show ¬ nI (m + 1) = 12 from fun z => by have := (nI_eq (b := 12) (by omega) (by omega)).mp z; omega)]
              dsimp only
              rw [if_pos ⟨by omega, by omega⟩, e3, jcx_s, show 3 + 17 * m + 16 + 1 = 3 + 17 * (m + 1) by omega, show 39 + 5467 * m + 5460 + 7 = 39 + 5467 * (m + 1) by omega])
            rw [st1]
            exact this.pre L3 (u2.trans (KY.up s3))
          · obtain ⟨f, rfl⟩ : ∃ f', f = f' + 1 := ⟨f - 1, by omega⟩
            obtain ⟨w2, go, s2, q8, T2, t2, r2⟩ := mgo2 f w hT hk h8 hr
            obtain ⟨w3, e3, s3, t3⟩ := m_next T2 (t2.2.2.2.2.2.2 k3) (by omega)
            have r3 : mRow w3 sl (m + 1) S' := ⟨by rw [s3.1 _ _ _ (by unfold KTk; omega)]; exact r2.1, fun i hi => by rw [s3.1 _ _ _ (by unfold KTk; omega)]; exact r2.2 i hi⟩
            have L3 : pSame (KMsc sl) w w3 := s2.trans (s3.mono fun κ i k y => Or.inl y)
            have := mR f w3 (by omega) (T2.tk s3) t3 (by rw [s3.1 _ _ _ (by unfold KTk; omega)]; exact q8) r3
            have st1 : f_X9_readScript_L13 (nI sl) mK9 (f + 1) 1 w = f_X9_readScript_L13 (nI sl) mK9 f 1 w3 := go _ (by
              rw [jlt_eq, jlt_eq, if_pos (show nI (tK P (tE gS P p')) = 3 by rw [k3]; rfl), jbd_nI hsl (by decide), jlt_eq, r2.1, if_neg (show ¬ (12 : Int32) ≤ nI (m + 1) from fun z => by have := (nI_leI (a := 12) (by omega) (by omega)).mp z; omega)]
              dsimp only
              rw [if_neg n10, e3, jcb_s2])
            rw [st1]
            exact this.pre L3
      · have n59 : ¬ bt P (tE gS P p') = 59 := fun z => k3 (b59.mp z)
        have n3 : ¬ nI (tK P (tE gS P p')) = 3 := fun z => k3 ((nI_eq (b := 3) (by omega) (by omega)).mp z)
        by_cases k0 : tK P (tE gS P p') = 0
        · -- the end
          refine ⟨.inr (m + 1, S'), ⟨by omega, by omega, wfS⟩, fun f w w0 hf hT hL hp8 hr hu => ?_, fun f w hf hT hk h8 hr => ?_⟩
          · obtain ⟨f, rfl⟩ : ∃ f', f = f' + 1 + 1 := ⟨f - 2, by omega⟩
            obtain ⟨w2, go, L2, u2, p2, T2, Li2, r2⟩ := cgo (f + 1) w w0 hT hL hp8 hr hu
            obtain ⟨w3, e3, s3, p3⟩ := (c_goesOn T2 p2 hst).1 (by rw [tE_idem]; exact k0)
            refine ⟨w3, go _ ?_, L2.trans (s3.mono fun κ i k y => Or.inl y.l), u2.trans (KY.up s3), by rw [s3.1 _ _ _ (by unfold KY KR; omega)]; exact r2.1, fun i hi => by rw [s3.1 36 _ _ (by unfold KY KR; omega), s3.1 37 _ _ (by unfold KY KR; omega), s3.1 37 _ _ (by unfold KY KR; omega)]; exact r2.2 i hi⟩
            rw [jlt_eq, if_neg n59]
            dsimp only
            rw [if_pos ⟨by omega, by omega⟩, e3, jcx_s, f_X10_script_L10, if_pos rfl, if_pos ⟨by omega, by omega⟩]
          · obtain ⟨f, rfl⟩ : ∃ f', f = f' + 1 + 1 := ⟨f - 2, by omega⟩
            obtain ⟨w2, go, s2, q8, T2, t2, r2⟩ := mgo2 (f + 1) w hT hk h8 hr
            refine ⟨w2, go _ ?_, s2, r2⟩
            rw [jlt_eq, jlt_eq, if_neg n3]
            dsimp only
            rw [if_pos rfl, mend, mK9_t q8 t2, if_pos k0]
        · refine ⟨.inl (tE gS P p'), hst, fun f w w0 hf hT hL hp8 hr hu => ?_, fun f w hf hT hk h8 hr => ?_⟩
          · obtain ⟨f, rfl⟩ : ∃ f', f = f' + 1 := ⟨f - 1, by omega⟩
            obtain ⟨w2, go, L2, u2, p2, T2, Li2, r2⟩ := cgo f w w0 hT hL hp8 hr hu
            obtain ⟨mm, w3, e3, s3, r3⟩ := (c_goesOn T2 p2 hst).2.2 (by rw [tE_idem]; exact k0) (by rw [tE_idem]; exact k3)
            rw [tE_idem] at r3
            refine ⟨mm, w3, go _ ?_, L2.trans (s3.mono fun κ i k y => Or.inl y.l), u2.trans (KY.up s3), r3⟩
            rw [jlt_eq, if_neg n59]
            dsimp only
            rw [if_pos ⟨by omega, by omega⟩, e3, jcx_e]
          · obtain ⟨f, rfl⟩ : ∃ f', f = f' + 1 + 1 := ⟨f - 2, by omega⟩
            obtain ⟨w2, go, s2, q8, T2, t2, r2⟩ := mgo2 (f + 1) w hT hk h8 hr
            refine ⟨jsi w2 1 0 8 (nI (tE gS P p')), go _ ?_, s2.trans (pSame.jsi K8)⟩
            rw [jlt_eq, jlt_eq, if_neg n3]
            dsimp only
            rw [if_pos rfl, mend, mK9_t q8 t2, if_neg k0]
  intro cnt
  induction cnt with
  | zero => exact fun m p S hm hp hS => main 0 m p S hm hp hS (fun _ _ z => absurd z (by omega))
  | succ cnt ih =>
    intro m p S hm hp hS
    refine main (cnt + 1) m p S hm hp hS (fun p' S' _ hp' hS' => ?_)
    exact ih (m + 1) p' S' (by omega) hp' hS'
end SCRIPT2
