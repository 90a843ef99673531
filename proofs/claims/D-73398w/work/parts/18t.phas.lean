/-! the pure law: has the trace such a line -/
section HAS
variable {w w' w0 wB : j_St} {P : pP} {n t m k g : Nat} {c : Nat → Nat}
theorem pSB.st (h : pSB wB w m k g c) (s : pSame (KSt w) w w') (hr : jgn w 170 0 ≤ jgn w' 170 0) : pSB wB w' m k g c := by
  obtain ⟨b, h1, h2, h3, h4, h5, h6, h7, h8⟩ := h
  exact ⟨b, by rw [s.2.2.1 _ _ _ (by unfold KSt; omega)]; exact h1, by rw [s.1 _ _ _ (by unfold KSt; omega)]; exact h2, by rw [s.1 _ _ _ (by unfold KSt; omega)]; exact h3, h4, by omega, by rw [s.2.2.2 _ _ (by unfold KSt; omega)]; exact h6, h7, fun i hi => by rw [s.1 _ _ _ (by unfold KSt; omega)]; exact h8 i hi⟩
theorem pStr.st {q : Nat} (h : pStr w q k c) (s : pSame (KSt w) w w') (h1' : jgn w 115 0 ≤ jgn w' 115 0) (h2' : jgn w 170 0 ≤ jgn w' 170 0) : pStr w' q k c := by
  obtain ⟨b, b1, b2, b3, b4, b5, b6⟩ := h
  exact ⟨b, by rw [s.2.2.1 _ _ _ (by unfold KSt; omega)]; exact b1, by rw [s.1 _ _ _ (by unfold KSt; omega)]; exact b2, by rw [s.2.2.2 _ _ (by unfold KSt; omega)]; exact b3, fun i hi => by rw [s.1 _ _ _ (by unfold KSt; omega)]; exact b4 i hi, by omega, by omega⟩
/-- the names so far -/
def cNm (w : j_St) (t l : Nat) (len : Nat → Nat) (let' : Nat → Nat → Nat) : Prop := ∀ j, j < l → ∃ q, jgr w 34 t j = some q ∧ pStr w q (len j) (fun i => 96 + let' j i)
theorem cNm.st {l : Nat} {len : Nat → Nat} {le : Nat → Nat → Nat} (h : cNm w t l len le) (s : pSame (KSt w) w w') (h1 : jgn w 115 0 ≤ jgn w' 115 0) (h2 : jgn w 170 0 ≤ jgn w' 170 0) : cNm w' t l len le := fun j hj => by
  obtain ⟨q, a, b⟩ := h j hj
  exact ⟨q, by rw [s.2.2.1 _ _ _ (by unfold KSt; omega)]; exact a, b.st s h1 h2⟩
/-- one of those names -/
def isNm (l : Nat) (len : Nat → Nat) (le : Nat → Nat → Nat) (k : Nat) (c : Nat → Nat) : Prop := ∃ j, j < l ∧ len j = k ∧ ∀ i, i < k → 96 + le j i = c i
theorem c_has {ln : Nat} {len : Nat → Nat} {le : Nat → Nat → Nat} (hl : ln ≤ 8) (hg : g ≤ 5) (hc : ∀ i, i < k → c i < 128) (hk : k < 10000) (hn : ∀ j, j < ln → len j < 10000 ∧ ∀ i, i < len j → 96 + le j i < 128) : ∀ (cnt l f : Nat) (w : j_St), l + cnt = ln → cnt < f → pSB wB w m k g c → jgi w 6 t 3 = nI ln → cNm w t ln len le → ¬ isNm l len le k c → cUp w0 w → (isNm ln len le k c → ∃ w', f_X11_has_L2 t m f (nI l) (2 * l) (604 * l) w = some (1, w') ∧ pSame (KL n w0) w w' ∧ cUp w w' ∧ pSB wB w' m k g c ∧ cNm w' t ln len le ∧ ∀ i k, jgi w' 8 i k = jgi w 8 i k) ∧ (¬ isNm ln len le k c → ∃ w', f_X11_has_L2 t m f (nI l) (2 * l) (604 * l) w = some (0, w') ∧ pSame (KL n w0) w w' ∧ cUp w w' ∧ pSB wB w' m k g c ∧ cNm w' t ln len le ∧ ∀ i k, jgi w' 8 i k = jgi w 8 i k) := by
  intro cnt
  induction cnt with
  | zero =>
    intro l f w hm hf hB h3 hN hno hu
    obtain ⟨f, rfl⟩ : ∃ f', f = f' + 1 := ⟨f - 1, by omega⟩
    have e : l = ln := by omega
    rw [e] at hno
    refine ⟨fun z => absurd z hno, fun _ => ⟨w, ?_, pSame.refl, cUp.rfl', hB, hN, fun _ _ => rfl⟩⟩
    rw [f_X11_has_L2, jlt_eq, h3, e, if_pos (Int32.le_refl _), if_pos ⟨by omega, by omega⟩]
  | succ cnt ih =>
    intro l f w hm hf hB h3 hN hno hu
    obtain ⟨f, rfl⟩ : ∃ f', f = f' + 1 := ⟨f - 1, by omega⟩
    obtain ⟨q, hq, hs⟩ := hN l (by omega)
    obtain ⟨w1, e1, s1, p1, z2, z3, n1, n2⟩ := sb_str hB hg hc
    have B1 := hB.st s1 (by omega)
    have N1 := hN.st s1 (by omega) (by omega)
    have hs1 := hs.st s1 (by omega) (by omega)
    have L1 : pSame (KL n w0) w w1 := s1.mono fun κ i k y => y.l hu
    have u1 : cUp w w1 := ⟨by omega, by omega⟩
    have e8 : ∀ i k, jgi w1 8 i k = jgi w 8 i k := fun i k => s1.1 _ _ _ (by unfold KSt; omega)
    have ne : q ≠ jgn w 115 0 := by
      obtain ⟨b, -, -, -, -, b5, -⟩ := hs
      omega
    obtain ⟨t1, t2⟩ := c_eq15 hs1 p1 ne (hn l (by omega)).1 hk (hn l (by omega)).2 hc
    have st : ∀ res r, f_J3_equals_a15 q (jgn w 115 0) w1 = some (r, w1) → (if r = 0 then jlt (nI l + 1) fun v26 => f_X11_has_L2 t m f v26 (2 * l + 2) (604 * l + 604) w1 else if 2 * l + 2 ≤ 16 ∧ 604 * l + 604 ≤ 4832 then some (1, w1) else none) = res → f_X11_has_L2 t m (f + 1) (nI l) (2 * l) (604 * l) w = res := fun res r er hres => by
      rw [f_X11_has_L2, jlt_eq, h3, if_neg (fun z => by have := (nI_leI (by omega) (by omega)).mp z; omega), jbd_nI (by omega) (by decide), jlt_eq, hq, if_pos ⟨by omega, by omega⟩, e1, jcb_s2, job_s2, if_pos ⟨by omega, by omega⟩, er, jcb_s2]
      exact hres
    by_cases d : len l = k ∧ ∀ i, i < len l → 96 + le l i = c i
    · have yes : isNm ln len le k c := ⟨l, by omega, d.1, fun i hi => d.2 i (by omega)⟩
      refine ⟨fun _ => ⟨w1, st _ 1 (t1 d) ?_, L1, u1, B1, N1, e8⟩, fun z => absurd yes z⟩
      rw [if_neg n10, if_pos ⟨by omega, by omega⟩]
    · have h := ih (l + 1) f w1 (by omega) (by omega) B1 (by rw [s1.1 _ _ _ (by unfold KSt; omega)]; exact h3) N1 (fun z => by
        obtain ⟨j, a, b, e⟩ := z
        rcases Nat.lt_or_ge j l with y | y
        · exact hno ⟨j, y, b, e⟩
        · have : j = l := by omega
          subst this
          exact d ⟨b, fun i hi => e i (by omega)⟩) (hu.trans u1)
      have go : ∀ res, f_X11_has_L2 t m f (nI (l + 1)) (2 * (l + 1)) (604 * (l + 1)) w1 = res → f_X11_has_L2 t m (f + 1) (nI l) (2 * l) (604 * l) w = res := fun res hres => st _ 0 (t2 d) (by
        rw [if_pos rfl, jlt_eq, nI_1, show 2 * l + 2 = 2 * (l + 1) by omega, show 604 * l + 604 = 604 * (l + 1) by omega]
        exact hres)
      refine ⟨fun z => ?_, fun z => ?_⟩
      · obtain ⟨w2, e2, s2, u2, B2, N2, f8⟩ := h.1 z
        exact ⟨w2, go _ e2, L1.trans s2, u1.trans u2, B2, N2, fun i k => (f8 i k).trans (e8 i k)⟩
      · obtain ⟨w2, e2, s2, u2, B2, N2, f8⟩ := h.2 z
        exact ⟨w2, go _ e2, L1.trans s2, u1.trans u2, B2, N2, fun i k => (f8 i k).trans (e8 i k)⟩
end HAS
