/-! the pure law: the component reads a word, makes text of it, hashes it, compares it -/
section WORD
variable {w w' w0 : j_St} {P : pP} {n m : Nat} {c : Nat → Nat}
theorem pSB.same {k g : Nat} {K : Nat → Nat → Nat → Prop} (h : pSB w0 w m k g c) (s : pSame K w w') (h16 : ∀ k, ¬ K 16 m k) (h70 : ∀ b k, jgn w0 170 0 ≤ b → ¬ K 70 b k) (hr : jgn w 170 0 ≤ jgn w' 170 0) : pSB w0 w' m k g c := by
  obtain ⟨b, h1, h2, h3, h4, h5, h6, h7, h8⟩ := h
  exact ⟨b, by rw [s.2.2.1 _ _ _ (h16 0)]; exact h1, by rw [s.1 _ _ _ (h16 1)]; exact h2, by rw [s.1 _ _ _ (h16 3)]; exact h3, h4, by omega, by rw [s.2.2.2 _ _ (h70 b 0 h4)]; exact h6, h7, fun i hi => by rw [s.1 _ _ _ (h70 b i h4)]; exact h8 i hi⟩
/-- what the reading of a word may touch -/
def KWd (n : Nat) (w0 : j_St) (κ i k : Nat) : Prop := KR n κ i k ∨ KBu w0 κ i k
theorem c_wordL {st : Nat} : ∀ p f w g, st ≤ p → P.1 - p < f → TpC P w → jgi w 8 n 0 = nI p → p ≤ P.1 → pSB w0 w m (p - st) g (fun i => P.2 (st + i)) → g ≤ 5 → jgn w0 170 0 ≤ jgn w 170 0 → (∀ i, st ≤ i → i < p → gL (P.2 i) = true) →
    ∃ g' w', f_X10_word_L13 n m f (2 + g) (20 + 600 * g) w = some (m, w') ∧ pSame (KWd n w0) w w' ∧ jgi w' 8 n 0 = nI (tE gL P p) ∧ pSB w0 w' m (tE gL P p - st) g' (fun i => P.2 (st + i)) ∧ g' ≤ 5 ∧ jgn w 170 0 ≤ jgn w' 170 0 := by
  refine tE_ind (P := P) (g := gL) (motive := fun p => ∀ f w g, st ≤ p → P.1 - p < f → TpC P w → jgi w 8 n 0 = nI p → p ≤ P.1 → pSB w0 w m (p - st) g (fun i => P.2 (st + i)) → g ≤ 5 → jgn w0 170 0 ≤ jgn w 170 0 → (∀ i, st ≤ i → i < p → gL (P.2 i) = true) → ∃ g' w', f_X10_word_L13 n m f (2 + g) (20 + 600 * g) w = some (m, w') ∧ pSame (KWd n w0) w w' ∧ jgi w' 8 n 0 = nI (tE gL P p) ∧ pSB w0 w' m (tE gL P p - st) g' (fun i => P.2 (st + i)) ∧ g' ≤ 5 ∧ jgn w 170 0 ≤ jgn w' 170 0) (fun p h hg ih => ?_) (fun p h => ?_)
  · intro f w g hs hf hT hp h4 hB hg5 hr hl
    obtain ⟨f, rfl⟩ : ∃ f', f = f' + 1 := ⟨f - 1, by omega⟩
    have hL := hT.2.2.1
    have hb := gL_iff.mp hg
    have ck : P.2 (st + (p - st)) = P.2 p := by rw [Nat.add_sub_cancel' hs]
    obtain ⟨ch1, -, -⟩ := chr_is (b := P.2 p) (by omega)
    have q5 := capa_le hg5
    have hkg : p - st ≤ capa g := by obtain ⟨b, -, -, -, -, -, -, h7, -⟩ := hB; exact h7
    have fin : ∀ g1 w1, g1 ≤ 5 → pSame (KBu w0) w w1 → pSB w0 w1 m (p - st + 1) g1 (fun i => P.2 (st + i)) → jgn w 170 0 ≤ jgn w1 170 0 → ∃ g' w', (jlt (jgi w1 8 n 0) fun v41 => jlt (jsi w1 8 n 0 (v41 + 1)) fun w42 => f_X10_word_L13 n m f (2 + g1) (20 + 600 * g1) w42) = some (m, w') ∧ pSame (KWd n w0) w w' ∧ jgi w' 8 n 0 = nI (tE gL P p) ∧ pSB w0 w' m (tE gL P p - st) g' (fun i => P.2 (st + i)) ∧ g' ≤ 5 ∧ jgn w 170 0 ≤ jgn w' 170 0 := fun g1 w1 hg1 s1 B1 r1 => by
      have p1 : jgi w1 8 n 0 = nI p := by rw [s1.1 _ _ _ (by unfold KBu; omega)]; exact hp
      have s2 : pSame (KR n) w1 (jsi w1 8 n 0 (nI (p + 1))) := pSame.jsi ⟨rfl, rfl, rfl⟩
      have B2 : pSB w0 (jsi w1 8 n 0 (nI (p + 1))) m (p + 1 - st) g1 (fun i => P.2 (st + i)) := by
        rw [show p + 1 - st = p - st + 1 by omega]
        exact B1.same s2 (fun k => by unfold KR; omega) (fun b k _ => by unfold KR; omega) (Nat.le_refl _)
      have T1 : TpC P w1 := hT.same s1 ⟨by unfold KBu; omega, fun k => by unfold KBu; omega⟩
      obtain ⟨g', w', e, s, pp, B, hg', r⟩ := ih f (jsi w1 8 n 0 (nI (p + 1))) g1 (by omega) (by omega) (T1.rd s2) jgi_eq (by omega) B2 hg1 (Nat.le_trans hr r1) (fun i hi hj => by
        rcases Nat.lt_or_ge i p with z | z
        · exact hl i hi z
        · rw [show i = p by omega]; exact hg)
      refine ⟨g', w', ?_, ((s1.mono fun κ i k y => Or.inr y).trans (s2.mono fun κ i k y => Or.inl y)).trans s, by rw [tE_T h hg]; exact pp, by rw [tE_T h hg]; exact B, hg', Nat.le_trans r1 r⟩
      rw [jlt_eq, p1, jlt_eq, nI_1]
      exact e
    have start : ∀ res, (if (f_J2_append_n m (nI (P.2 p)) w).isSome = true then if 2 + g + 0 ≤ 10 ∧ 20 + 600 * g + 0 ≤ 4820 then jcb (f_J2_append_n m (nI (P.2 p)) w) fun v34 w35 => jlt (jgi w35 8 n 0) fun v41 => jlt (jsi w35 8 n 0 (v41 + 1)) fun w42 => f_X10_word_L13 n m f (2 + g + 0) (20 + 600 * g + 0) w42 else none else if 2 + g + 1 ≤ 10 ∧ 20 + 600 * g + 600 ≤ 4820 then jcb (f_J2_append m (nI (P.2 p)) w) fun v43 w44 => jlt (jgi w44 8 n 0) fun v50 => jlt (jsi w44 8 n 0 (v50 + 1)) fun w51 => f_X10_word_L13 n m f (2 + g + 1) (20 + 600 * g + 600) w51 else none) = res → f_X10_word_L13 n m (f + 1) (2 + g) (20 + 600 * g) w = res := fun res hres => by
      rw [f_X10_word_L13, if_pos ⟨by omega, by omega⟩, c_isL hT hp (by omega), jcb_s2, if_pos (c := p < P.1 ∧ gL (P.2 p) = true) ⟨h, hg⟩, if_neg n10, jlt_eq, hp, jbd_nI (by omega) (by decide), jlt_eq, hT.2.1 p h, ch1]
      exact hres
    by_cases q : p - st < capa g
    · obtain ⟨w1, e1, s1, B1, r1⟩ := sb_n hB hg5 q (show P.2 (st + (p - st)) < 128 by omega)
      rw [ck] at e1
      obtain ⟨g', w', e, r⟩ := fin g w1 hg5 s1 B1 (Nat.le_of_eq r1.symm)
      refine ⟨g', w', start _ ?_, r⟩
      rw [e1, if_pos (show (some (m, w1)).isSome = true from rfl), if_pos ⟨by omega, by omega⟩, jcb_s2]
      exact e
    · have hk : p - st = capa g := by omega
      have g4 : g ≤ 4 := by
        rcases (show g ≤ 4 ∨ g = 5 by omega) with z | z
        · exact z
        · have : capa 5 = 574 := by decide
          rw [z] at hk
          omega
      obtain ⟨w1, e1, s1, B1, r1⟩ := sb_grow hB g4 hk (fun i hi => by
        show P.2 (st + i) < 128
        rcases Nat.lt_or_ge (st + i) p with z | z
        · have := gL_iff.mp (hl (st + i) (by omega) z)
          omega
        · rw [show st + i = p by omega]
          omega) hr
      rw [ck] at e1
      obtain ⟨g', w', e, r⟩ := fin (g + 1) w1 (by omega) s1 B1 r1
      refine ⟨g', w', start _ ?_, r⟩
      rw [sb_none hB hg5 hk, if_neg (by decide), if_pos ⟨by omega, by omega⟩, e1, jcb_s2, show 2 + g + 1 = 2 + (g + 1) by omega, show 20 + 600 * g + 600 = 20 + 600 * (g + 1) by omega]
      exact e
  · intro f w g hs hf hT hp h4 hB hg5 hr hl
    obtain ⟨f, rfl⟩ : ∃ f', f = f' + 1 := ⟨f - 1, by omega⟩
    have hL := hT.2.2.1
    rw [tE_F h]
    exact ⟨g, w, by rw [f_X10_word_L13, if_pos ⟨by omega, by omega⟩, c_isL hT hp (by omega), jcb_s2, if_neg h, if_pos rfl, if_pos ⟨by omega, by omega⟩], pSame.refl, hp, hB, hg5, Nat.le_refl _⟩
def KWo (n : Nat) (w0 : j_St) (κ i k : Nat) : Prop := KWd n w0 κ i k ∨ (κ = 116 ∧ i = 0)
/-- A WORD -/
theorem c_word (hT : TpC P w) {p : Nat} (hp : jgi w 8 n 0 = nI p) (h4 : p ≤ P.1) : ∃ g m w', f_X10_word n w = some (m, w') ∧ pSame (KWo n w) w w' ∧ jgi w' 8 n 0 = nI (tE gL P (tE gS P p)) ∧ pSB w w' m (tE gL P (tE gS P p) - tE gS P p) g (fun i => P.2 (tE gS P p + i)) ∧ g ≤ 5 ∧ jgn w 170 0 ≤ jgn w' 170 0 := by
  have hL := hT.2.2.1
  obtain ⟨w1, e1, s1, p1⟩ := c_peek hT hp h4
  have hst : tE gS P p ≤ P.1 := tE_le h4
  generalize tE gS P p = st at e1 p1 hst
  have hT1 := hT.rd s1
  have r1 : jgn w1 170 0 = jgn w 170 0 := s1.2.2.2 _ _ (by unfold KR; omega)
  have ei : f_J2_init (jgn w1 116 0) (jnw (jbump w1 16) 16 (jgn w1 116 0) 0) = some ((), jsi (jsr (jnw (jbump (jnw (jbump w1 16) 16 (jgn w1 116 0) 0) 70) 70 (jgn w 170 0) 16) 16 (jgn w1 116 0) 0 (some (jgn w 170 0))) 16 (jgn w1 116 0) 1 0) := by
    have t : jgn (jnw (jbump w1 16) 16 (jgn w1 116 0) 0) 170 0 = jgn w 170 0 := by rw [jgn_jnw, if_neg (by omega), jgn_bump, if_neg (by omega), r1]
    rw [f_J2_init, f_J1_init, if_neg n10, jlt_eq, t, jlt_eq, if_pos (by decide), jlt_eq, jlt_eq, jlt_eq, jcb_s2]
    rfl
  have K16 : ∀ i k, KWo n w 16 i k := fun i k => Or.inl (Or.inr (Or.inl rfl))
  have K116 : KWo n w (100 + 16) 0 0 := Or.inr ⟨rfl, rfl⟩
  have K170 : KWo n w (100 + 70) 0 0 := Or.inl (Or.inr (Or.inr (Or.inr ⟨rfl, rfl⟩)))
  have K70 : ∀ k, KWo n w 70 (jgn w 170 0) k := fun k => Or.inl (Or.inr (Or.inr (Or.inl ⟨rfl, Nat.le_refl _⟩)))
  have s2 : pSame (KWo n w) w (jsi (jsr (jnw (jbump (jnw (jbump w1 16) 16 (jgn w1 116 0) 0) 70) 70 (jgn w 170 0) 16) 16 (jgn w1 116 0) 0 (some (jgn w 170 0))) 16 (jgn w1 116 0) 1 0) := ((((((s1.mono (K' := KWo n w) fun κ i k y => Or.inl (Or.inl y)).trans (bump_same (K := KWo n w) K116)).trans (jnw_same (K := KWo n w) fun k => K16 _ k)).trans (bump_same (K := KWo n w) K170)).trans (jnw_same (K := KWo n w) K70)).trans (pSame.jsr (K16 _ _))).trans (pSame.jsi (K16 _ _))
  have r2 : jgn (jsi (jsr (jnw (jbump (jnw (jbump w1 16) 16 (jgn w1 116 0) 0) 70) 70 (jgn w 170 0) 16) 16 (jgn w1 116 0) 0 (some (jgn w 170 0))) 16 (jgn w1 116 0) 1 0) 170 0 = jgn w 170 0 + 1 := by
    show jgn (jnw (jbump (jnw (jbump w1 16) 16 (jgn w1 116 0) 0) 70) 70 (jgn w 170 0) 16) 170 0 = _
    rw [jgn_jnw, if_neg (by omega), jgn_bump, if_pos ⟨rfl, rfl⟩, jgn_jnw, if_neg (by omega), jgn_bump, if_neg (by omega), r1]
  have B2 : pSB w (jsi (jsr (jnw (jbump (jnw (jbump w1 16) 16 (jgn w1 116 0) 0) 70) 70 (jgn w 170 0) 16) 16 (jgn w1 116 0) 0 (some (jgn w 170 0))) 16 (jgn w1 116 0) 1 0) (jgn w1 116 0) (st - st) 0 (fun i => P.2 (st + i)) := by
    refine ⟨jgn w 170 0, if_pos ⟨rfl, rfl, rfl⟩, jgi_eq, ?_, Nat.le_refl _, by omega, ?_, by omega, fun i hi => by omega⟩
    · rw [jgi_ne (by omega)]
      show jgi (jnw (jbump (jnw (jbump w1 16) 16 (jgn w1 116 0) 0) 70) 70 (jgn w 170 0) 16) 16 (jgn w1 116 0) 3 = _
      rw [jgi_jnw, if_neg (by omega), jgi_bump, jgi_jnw, if_pos ⟨rfl, rfl⟩, Nat.sub_self]
      rfl
    · show jgn (jnw (jbump (jnw (jbump w1 16) 16 (jgn w1 116 0) 0) 70) 70 (jgn w 170 0) 16) 70 (jgn w 170 0) = _
      rw [jgn_jnw, if_pos ⟨rfl, rfl⟩]
      rfl
  have p2 : jgi (jsi (jsr (jnw (jbump (jnw (jbump w1 16) 16 (jgn w1 116 0) 0) 70) 70 (jgn w 170 0) 16) 16 (jgn w1 116 0) 0 (some (jgn w 170 0))) 16 (jgn w1 116 0) 1 0) 8 n 0 = nI st := by
    rw [jgi_ne (by omega)]
    show jgi (jnw (jbump (jnw (jbump w1 16) 16 (jgn w1 116 0) 0) 70) 70 (jgn w 170 0) 16) 8 n 0 = _
    rw [jgi_jnw, if_neg (by omega), jgi_bump, jgi_jnw, if_neg (by omega), jgi_bump]
    exact p1
  have eq0 : f_X10_word n w = f_X10_word_L13 n (jgn w1 116 0) jFU (2 + 0) (20 + 600 * 0) (jsi (jsr (jnw (jbump (jnw (jbump w1 16) 16 (jgn w1 116 0) 0) 70) 70 (jgn w 170 0) 16) 16 (jgn w1 116 0) 0 (some (jgn w 170 0))) 16 (jgn w1 116 0) 1 0) := by
    rw [f_X10_word, e1, jcb_s2, jlt_eq, jlt_eq, jlt_eq, ei, jcb_s2]
  generalize jsi (jsr (jnw (jbump (jnw (jbump w1 16) 16 (jgn w1 116 0) 0) 70) 70 (jgn w 170 0) 16) 16 (jgn w1 116 0) 0 (some (jgn w 170 0))) 16 (jgn w1 116 0) 1 0 = w2 at s2 r2 B2 p2 eq0
  have T2 : TpC P w2 := hT.same s2 ⟨by unfold KWo KWd KR KBu; omega, fun k => by unfold KWo KWd KR KBu; omega⟩
  obtain ⟨g', w3, e3, s3, p3, B3, hg3, r3⟩ := c_wordL (P := P) (n := n) (m := jgn w1 116 0) (w0 := w) (st := st) st jFU w2 0 (Nat.le_refl _) (jFU_gt (by omega)) T2 p2 hst B2 (by omega) (by omega) (fun i hi hj => by omega)
  exact ⟨g', _, w3, eq0.trans e3, s2.trans (s3.mono fun κ i k y => Or.inl y), p3, B3, hg3, by omega⟩
end WORD
