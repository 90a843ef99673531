/-! the pure law: the samples of a trace, both alike -/
section SAMP2
variable {w w' w0 : j_St} {P : pP} {n t p st : Nat}
theorem mKs_f {e : Nat} (he : e ≤ 400) (h8 : jgi w 1 0 8 = nI e) : mKs w = some ((), w) := by
  rw [mKs, jlt_eq, h8, if_neg (nI_ne1 (by omega))]
theorem mKs_t (h8 : jgi w 1 0 8 = -1) (hk : TkM P w st) : mKs w = if tK P st = 4 then some ((), jsi w 1 0 8 (nI st)) else some ((), w) := by
  have k4 := tK_le (P := P) st
  rw [mKs, jlt_eq, h8, if_pos rfl, jlt_eq, hk.2.2.2.1]
  by_cases c : tK P st = 4
  · rw [if_pos (show nI (tK P st) = 4 by rw [c]; rfl), m_bad h8, jcb_s2, hk.1, if_pos c]
  · rw [if_neg (show ¬ nI (tK P st) = 4 from fun z => c ((nI_eq (b := 4) (by omega) (by omega)).mp z)), if_neg c]
theorem mL7_0 {f : Nat} : f_X9_readSamples_L7 mKs (f + 1) 0 w = mKs w := by rw [f_X9_readSamples_L7, if_pos rfl]
/-- a sample that is one -/
theorem mL7_ok {f k : Nat} {s : Nat → Nat} (hT : TpM P w) (hk : TkM P w st) (h8 : jgi w 1 0 8 = -1) (hs : mSa w s k) (h48 : k < 48) (ho : nOk P false 999 st) : ∃ w', f_X9_readSamples_L7 mKs (f + 1) 1 w = f_X9_readSamples_L7 mKs f (if tK P (tE gS P (tE gD P (tS P st))) = 2 then 1 else 0) w' ∧ pSame KMq w w' ∧ jgi w' 1 0 8 = -1 ∧ TkM P w' (tE gS P (tE gD P (tS P st))) ∧ mSa w' (up s k (nv P (tS P st) (tN P st))) (k + 1) := by
  obtain ⟨w1, e1, s1, t1, g8⟩ := (m_number hT hk h8 (mx := 999) (by decide)).1 ho
  have e1 : f_X9_number 0 999 w = some (tV P st, w1) := e1
  have tv : tV P st = nI (nv P (tS P st) (tN P st)) := if_neg (ho.2.1 rfl)
  have k4 := tK_le (P := P) (tE gS P (tE gD P (tS P st)))
  have s2 : pSame (fun κ i k' => κ = 41 ∨ (κ = 1 ∧ k' = 15)) w1 (jsi (jsi w1 41 0 k (tV P st)) 1 0 15 (nI (k + 1))) := (pSame.jsi (Or.inl rfl)).trans (pSame.jsi (Or.inr ⟨rfl, rfl⟩))
  have i15 : jgi (jsi w1 41 0 k (tV P st)) 1 0 15 = nI k := by rw [jgi_ne (by omega), s1.1 _ _ _ (by unfold KTk; omega)]; exact hs.1
  have t2 : TkM P (jsi (jsi w1 41 0 k (tV P st)) 1 0 15 (nI (k + 1))) (tE gS P (tE gD P (tS P st))) := t1.same s2 (fun k' a => by omega)
  have q8 : jgi (jsi (jsi w1 41 0 k (tV P st)) 1 0 15 (nI (k + 1))) 1 0 8 = -1 := by rw [jgi_ne (by omega), jgi_ne (by omega)]; exact g8
  refine ⟨jsi (jsi w1 41 0 k (tV P st)) 1 0 15 (nI (k + 1)), ?_, (s1.mono fun κ i k y => Or.inl y).trans ((pSame.jsi (Or.inr (Or.inr ⟨rfl, rfl⟩))).trans (pSame.jsi (Or.inr (Or.inl ⟨rfl, rfl, Or.inr rfl⟩)))), q8, t2, jgi_eq, fun i hi => ?_⟩
  · rw [f_X9_readSamples_L7, if_neg n10, jlt_eq, hs.1, jlt_eq, if_neg (show ¬ nI k = 48 from fun z => by have := (nI_eq (b := 48) (by omega) (by omega)).mp z; omega), jlt_eq, e1, jcb_s2, jbd_nI h48 (by decide), jlt_eq, jlt_eq, i15, jlt_eq, nI_1]
    dsimp only
    rw [jlt_eq, q8, jlt_eq, jlt_eq, if_pos rfl, jlt_eq, t2.2.2.2.1]
    by_cases c : tK P (tE gS P (tE gD P (tS P st))) = 2
    · rw [if_pos (show nI (tK P (tE gS P (tE gD P (tS P st)))) = 2 by rw [c]; rfl), if_pos c]
    · rw [if_neg (show ¬ nI (tK P (tE gS P (tE gD P (tS P st)))) = 2 from fun z => c ((nI_eq (b := 2) (by omega) (by omega)).mp z)), if_neg c]
  · rw [jgi_ne (by omega)]
    by_cases e : i = k
    · rw [e, jgi_eq, up_same, tv]
    · rw [jgi_ne (by omega), up_ne e, s1.1 _ _ _ (by unfold KTk; omega)]
      exact hs.2 i (by omega)
/-- a sample that is none, or one too many -/
theorem mL7_no {f k : Nat} {s : Nat → Nat} (hT : TpM P w) (hk : TkM P w st) (h8 : jgi w 1 0 8 = -1) (hs : mSa w s k) (h48 : k ≤ 48) (ho : k = 48 ∨ ¬ nOk P false 999 st) : ∃ w', f_X9_readSamples_L7 mKs (f + 1 + 1) 1 w = some ((), w') ∧ pSame KMq w w' ∧ jgi w' 1 0 8 = nI st := by
  have hst := hk.2.1
  have hL := hT.2.2.1
  by_cases c : k = 48
  · refine ⟨jsi w 1 0 8 (nI st), ?_, pSame.jsi (Or.inr (Or.inl ⟨rfl, rfl, Or.inl rfl⟩)), jgi_eq⟩
    rw [f_X9_readSamples_L7, if_neg n10, jlt_eq, hs.1, jlt_eq, if_pos (show nI k = 48 by rw [c]; rfl), m_bad h8, jcb_s2, hk.1]
    try dsimp only
    rw [jlt_eq, jgi_eq, jlt_eq, jlt_eq, if_neg (nI_ne1 (by omega))]
    try dsimp only
    rw [mL7_0, mKs_f (e := st) (by omega) jgi_eq]
  · have e1 : f_X9_number 0 999 w = some (0, jsi w 1 0 8 (nI st)) := (m_number hT hk h8 (mx := 999) (by decide)).2 (ho.resolve_left c)
    have i15 : jgi (jsi (jsi w 1 0 8 (nI st)) 41 0 k 0) 1 0 15 = nI k := by rw [jgi_ne (by omega), jgi_ne (by omega)]; exact hs.1
    have q8 : jgi (jsi (jsi (jsi w 1 0 8 (nI st)) 41 0 k 0) 1 0 15 (nI (k + 1))) 1 0 8 = nI st := by rw [jgi_ne (by omega), jgi_ne (by omega), jgi_eq]
    refine ⟨jsi (jsi (jsi w 1 0 8 (nI st)) 41 0 k 0) 1 0 15 (nI (k + 1)), ?_, ((pSame.jsi (Or.inr (Or.inl ⟨rfl, rfl, Or.inl rfl⟩))).trans (pSame.jsi (Or.inr (Or.inr ⟨rfl, rfl⟩)))).trans (pSame.jsi (Or.inr (Or.inl ⟨rfl, rfl, Or.inr rfl⟩))), q8⟩
    rw [f_X9_readSamples_L7, if_neg n10, jlt_eq, hs.1, jlt_eq, if_neg (show ¬ nI k = 48 from fun z => by have := (nI_eq (b := 48) (by omega) (by omega)).mp z; omega), jlt_eq, e1, jcb_s2, jbd_nI (by omega) (by decide), jlt_eq, jlt_eq, i15, jlt_eq, nI_1]
    try dsimp only
    rw [jlt_eq, q8, jlt_eq, jlt_eq, if_neg (nI_ne1 (by omega))]
    try dsimp only
    rw [mL7_0, mKs_f (e := st) (by omega) q8]
/-- digits stand there -/
theorem dig_ok (hP : ∀ k, k < P.1 → 1 ≤ P.2 k ∧ P.2 k ≤ 255) (h : st < P.1 ∧ gD (P.2 st) = true) : (nOk P false 999 st ↔ tK P st = 2) ∧ (tK P st = 2 ∨ tK P st = 4) := by
  obtain ⟨h1, h2⟩ := h
  have hd := gD_iff.mp h2
  have nl : ¬ gL (P.2 st) = true := fun z => by have := gL_iff.mp z; omega
  have n45 : ¬ P.2 st = 45 := by omega
  constructor
  · exact ⟨fun z => z.1, fun z => ⟨z, fun _ => n45, by have := nv_lt (tK2 z).2.1; omega⟩⟩
  · unfold tK
    rw [if_pos h1, if_neg nl, if_pos (Or.inl h2)]
    split
    · exact Or.inl rfl
    · exact Or.inr rfl
theorem samp_both {i1 : Nat} (hL4 : P.1 ≤ 400) (hP : ∀ k, k < P.1 → 1 ≤ P.2 k ∧ P.2 k ≤ 255) : ∀ (cnt k p : Nat) (s : Nat → Nat), k + cnt = 48 → 1 ≤ k → p ≤ P.1 → tE gS P p = p → (∀ i, i < k → s i ≤ 999) → ∃ R, wfQR P R ∧
    (∀ f w w0, cnt < f → TpC P w → jgi w 8 n 0 = nI p → (jgi w 4 i1 1 = nI k ∧ ∀ i, i < k → jgi w 32 i1 i = nI (s i)) → cUp w0 w → CSa n i1 w0 w (f_X10_samples_L17 n i1 (cKs n) f k (7 * k) w) R) ∧
    ∀ f w, cnt + 2 < f → TpM P w → TkM P w p → jgi w 1 0 8 = -1 → mSa w s k → MSa P w (f_X9_readSamples_L7 mKs f (if tK P p = 2 then 1 else 0) w) R := by
  intro cnt
  induction cnt with
  | zero =>
    intro k p s hk h1 hp hi hs
    have k48 : k = 48 := by omega
    by_cases d : p < P.1 ∧ gD (P.2 p) = true
    · obtain ⟨d1, d2⟩ := dig_ok hP d
      refine ⟨.inl p, hp, fun f w w0 hf hT h8 hn hu => ?_, fun f w hf hT hT2 h8 hS => ?_⟩
      · obtain ⟨f, rfl⟩ : ∃ f', f = f' + 1 := ⟨f - 1, by omega⟩
        obtain ⟨mm, w1, e1, s1, r1⟩ := cKs_is (n := n) (w := w) (c1 := k) (c2 := 7 * k) ⟨by omega, by omega⟩ h8
        refine ⟨mm, w1, ?_, s1.mono fun κ i k y => Or.inl y.l, KY.up s1, r1⟩
        rw [f_X10_samples_L17, if_pos ⟨by omega, by omega⟩, c_isD hT h8 (by omega), jcb_s2, if_pos d, if_neg n10, jlt_eq, hn.1, if_pos (by rw [k48]; rfl)]
        exact e1
      · obtain ⟨f, rfl⟩ : ∃ f', f = f' + 1 + 1 := ⟨f - 2, by omega⟩
        rcases d2 with z | z
        · rw [if_pos z]
          exact mL7_no hT hT2 h8 hS (by omega) (Or.inl k48)
        · rw [if_neg (by omega), mL7_0, mKs_t h8 hT2, if_pos z]
          exact ⟨_, rfl, pSame.jsi (Or.inr (Or.inl ⟨rfl, rfl, Or.inl rfl⟩)), jgi_eq⟩
    · refine ⟨.inr (s, k, p), ⟨by omega, by omega, hs, hp, hi⟩, fun f w w0 hf hT h8 hn hu => ?_, fun f w hf hT hT2 h8 hS => ?_⟩
      · obtain ⟨f, rfl⟩ : ∃ f', f = f' + 1 := ⟨f - 1, by omega⟩
        exact ⟨w, by rw [f_X10_samples_L17, if_pos ⟨by omega, by omega⟩, c_isD hT h8 (by omega), jcb_s2, if_neg d, if_pos rfl, if_pos ⟨by omega, by omega⟩], pSame.refl, cUp.rfl', ⟨hn.1, hn.2, by omega⟩, h8⟩
      · obtain ⟨f, rfl⟩ : ∃ f', f = f' + 1 + 1 := ⟨f - 2, by omega⟩
        by_cases z : tK P p = 2
        · rw [if_pos z]
          obtain ⟨w1, e1, s1, r1⟩ := mL7_no (f := f) hT hT2 h8 hS (by omega) (Or.inl k48)
          exact ⟨w1, e1, s1, Or.inr ⟨by omega, by omega, r1⟩⟩
        · rw [if_neg z, mL7_0, mKs_t h8 hT2]
          by_cases y : tK P p = 4
          · rw [if_pos y]
            exact ⟨_, rfl, pSame.jsi (Or.inr (Or.inl ⟨rfl, rfl, Or.inl rfl⟩)), Or.inr ⟨by omega, by omega, jgi_eq⟩⟩
          · rw [if_neg y]
            exact ⟨w, rfl, pSame.refl, Or.inl ⟨h8, hT2, hS⟩⟩
  | succ cnt ih =>
    intro k p s hk h1 hp hi hs
    by_cases d : p < P.1 ∧ gD (P.2 p) = true
    · obtain ⟨d1, d2⟩ := dig_ok hP d
      by_cases z : tK P p = 2
      · have ho := d1.mpr z
        have n45 : ¬ P.2 p = 45 := ho.2.1 rfl
        have tv : tV P p = nI (nv P (tS P p) (tN P p)) := if_neg n45
        have he : tE gD P (tS P p) ≤ P.1 := tE_le (tS_le d.1)
        obtain ⟨R, wf, cR, mR⟩ := ih (k + 1) (tE gS P (tE gD P (tS P p))) (up s k (nv P (tS P p) (tN P p))) (by omega) (by omega) (tE_le he) tE_idem (fun i hi => by
          by_cases e : i = k
          · rw [e, up_same]; exact ho.2.2
          · rw [up_ne e]; exact hs i (by omega))
        refine ⟨R, wf, fun f w w0 hf hT h8 hn hu => ?_, fun f w hf hT hT2 h8 hS => ?_⟩
        · obtain ⟨f, rfl⟩ : ∃ f', f = f' + 1 := ⟨f - 1, by omega⟩
          obtain ⟨w1, e1, s1, p1⟩ := (c_number hT h8 hp false (mx := 999) (by decide)).1 (by rw [hi]; exact ho)
          rw [hi] at e1 p1
          have e1 : f_X10_number n 0 999 w = some (.inr (tV P p), w1) := e1
          rw [tv] at e1
          obtain ⟨w2, e2, s2, n2, v2⟩ := c_add (i1 := i1) (k := k) (x := nv P (tS P p) (tN P p)) (s := s) (w := w1) ⟨by rw [s1.1 _ _ _ (by unfold KY KR; omega)]; exact hn.1, fun i hi => by rw [s1.1 _ _ _ (by unfold KY KR; omega)]; exact hn.2 i hi⟩ (by omega)
          have L2 : pSame (KSa n i1 w0) w w2 := (s1.mono fun κ i k y => Or.inl y.l).trans (s2.mono fun κ i k y => Or.inr y)
          have u2 : cUp w w2 := (KY.up s1).trans ⟨Nat.le_of_eq (s2.2.2.2 _ _ (by omega)).symm, Nat.le_of_eq (s2.2.2.2 _ _ (by omega)).symm⟩
          obtain ⟨w3, e3, s3, p3⟩ := c_peek (hT.sa L2) (n := n) (p := tE gD P (tS P p)) (by rw [s2.1 _ _ _ (by omega)]; exact p1) he
          have L3 : pSame (KSa n i1 w0) w w3 := L2.trans (s3.mono fun κ i k y => Or.inl (Or.inl y))
          have u3 : cUp w w3 := u2.trans ⟨Nat.le_of_eq (s3.2.2.2 _ _ (by unfold KR; omega)).symm, Nat.le_of_eq (s3.2.2.2 _ _ (by unfold KR; omega)).symm⟩
          have h := cR f w3 w0 (by omega) (hT.sa L3) p3 ⟨by rw [s3.1 _ _ _ (by unfold KR; omega)]; exact n2, fun i hi => by rw [s3.1 _ _ _ (by unfold KR; omega)]; exact v2 i hi⟩ (hu.trans u3)
          have st1 : f_X10_samples_L17 n i1 (cKs n) (f + 1) k (7 * k) w = f_X10_samples_L17 n i1 (cKs n) f (k + 1) (7 * (k + 1)) w3 := by
            rw [f_X10_samples_L17, if_pos ⟨by omega, by omega⟩, c_isD hT h8 (by omega), jcb_s2, if_pos d, if_neg n10, jlt_eq, hn.1, if_neg (show ¬ nI k = 48 from fun y => by have := (nI_eq (b := 48) (by omega) (by omega)).mp y; omega), if_pos ⟨by omega, by omega⟩, e1, jcx_s, if_pos ⟨by omega, by omega⟩, e2, jcb_s2, if_pos ⟨by omega, by omega⟩, e3, jcb_s2, show 7 * k + 7 = 7 * (k + 1) by omega]
          rw [st1]
          cases R with
          | inl e =>
            obtain ⟨mm, w', a, b, c, d⟩ := h
            exact ⟨mm, w', a, L3.trans b, u3.trans c, d⟩
          | inr x =>
            obtain ⟨w', a, b, c, d⟩ := h
            exact ⟨w', a, L3.trans b, u3.trans c, d⟩
        · obtain ⟨f, rfl⟩ : ∃ f', f = f' + 1 := ⟨f - 1, by omega⟩
          obtain ⟨w1, e1, s1, g8, t1, m1⟩ := mL7_ok (f := f) hT hT2 h8 hS (by omega) ho
          have h := mR f w1 (by omega) (hT.q (K := KMq) s1) t1 g8 m1
          rw [if_pos z, e1]
          cases R with
          | inl e =>
            obtain ⟨w', a, b, c⟩ := h
            exact ⟨w', a, s1.trans b, c⟩
          | inr x =>
            obtain ⟨w', a, b, c⟩ := h
            exact ⟨w', a, s1.trans b, c⟩
      · have z4 : tK P p = 4 := d2.resolve_left z
        have no : ¬ nOk P false 999 p := fun y => z (d1.mp y)
        refine ⟨.inl p, hp, fun f w w0 hf hT h8 hn hu => ?_, fun f w hf hT hT2 h8 hS => ?_⟩
        · obtain ⟨f, rfl⟩ : ∃ f', f = f' + 1 := ⟨f - 1, by omega⟩
          obtain ⟨mm, w1, e1, s1, p1⟩ := (c_number hT h8 hp false (mx := 999) (by decide)).2 (by rw [hi]; exact no)
          rw [hi] at p1
          have e1 : f_X10_number n 0 999 w = some (.inl mm, w1) := e1
          refine ⟨mm, w1, ?_, s1.mono fun κ i k y => Or.inl y.l, KY.up s1, p1⟩
          rw [f_X10_samples_L17, if_pos ⟨by omega, by omega⟩, c_isD hT h8 (by omega), jcb_s2, if_pos d, if_neg n10, jlt_eq, hn.1, if_neg (show ¬ nI k = 48 from fun y => by have := (nI_eq (b := 48) (by omega) (by omega)).mp y; omega), if_pos ⟨by omega, by omega⟩, e1, jcx_e]
        · obtain ⟨f, rfl⟩ : ∃ f', f = f' + 1 := ⟨f - 1, by omega⟩
          rw [if_neg z, mL7_0, mKs_t h8 hT2, if_pos z4]
          exact ⟨_, rfl, pSame.jsi (Or.inr (Or.inl ⟨rfl, rfl, Or.inl rfl⟩)), jgi_eq⟩
    · refine ⟨.inr (s, k, p), ⟨by omega, by omega, hs, hp, hi⟩, fun f w w0 hf hT h8 hn hu => ?_, fun f w hf hT hT2 h8 hS => ?_⟩
      · obtain ⟨f, rfl⟩ : ∃ f', f = f' + 1 := ⟨f - 1, by omega⟩
        exact ⟨w, by rw [f_X10_samples_L17, if_pos ⟨by omega, by omega⟩, c_isD hT h8 (by omega), jcb_s2, if_neg d, if_pos rfl, if_pos ⟨by omega, by omega⟩], pSame.refl, cUp.rfl', ⟨hn.1, hn.2, by omega⟩, h8⟩
      · obtain ⟨f, rfl⟩ : ∃ f', f = f' + 1 + 1 := ⟨f - 2, by omega⟩
        by_cases z : tK P p = 2
        · have no : ¬ nOk P false 999 p := fun y => by
            have lt := (tK2 z).1
            have n45 := y.2.1 rfl
            have nd : ¬ gD (P.2 p) = true := fun q => d ⟨lt, q⟩
            unfold tK at z
            rw [if_pos lt] at z
            split at z
            · omega
            · rw [if_neg (fun q => q.elim nd n45)] at z
              split at z <;> omega
          rw [if_pos z]
          obtain ⟨w1, e1, s1, r1⟩ := mL7_no (f := f) hT hT2 h8 hS (by omega) (Or.inr no)
          exact ⟨w1, e1, s1, Or.inr ⟨by omega, by omega, r1⟩⟩
        · rw [if_neg z, mL7_0, mKs_t h8 hT2]
          by_cases y : tK P p = 4
          · rw [if_pos y]
            exact ⟨_, rfl, pSame.jsi (Or.inr (Or.inl ⟨rfl, rfl, Or.inl rfl⟩)), Or.inr ⟨by omega, by omega, jgi_eq⟩⟩
          · rw [if_neg y]
            exact ⟨w, rfl, pSame.refl, Or.inl ⟨h8, hT2, hS⟩⟩
end SAMP2
