/-! the pure law: the component flattens; a deed of the component -/
section CFLAT
variable {w w' w1 : j_St} {s : Nat → Nat} {n z i : Nat}
theorem pCnt_shift {b b' : Nat → Bool} {d : Nat} : ∀ c m, (∀ j, m ≤ j → j < m + c → b (j + d) = b' j) → pCnt b c (m + d) = pCnt b' c m := by
  intro c
  induction c with
  | zero => intro m _; rfl
  | succ c ih =>
    intro m h
    unfold pCnt
    rw [h m (Nat.le_refl _) (by omega), show m + d + 1 = m + 1 + d by omega, ih (m + 1) (fun j h1 h2 => h j (by omega) (by omega))]
/-- lowered leftwards, from the place on -/
theorem c_flat_left {y low P : Nat} (hP : P < n) (hn48 : n ≤ 48) (hlow : low ≤ 999) (hw : pCn w 0 (sI s) n) (hs : ∀ k, k < n → s k ≤ 999) (h3 : jgi w 3 y 3 = nI low) {kk : j_St → Option (Unit × j_St)} : ∀ (c f m : Nat) (g : Nat → Int32), m + c = P + 1 → c < f → ∃ g', f_X8_flattens_2_L5 i y kk f (nI (P + 1 - m) - 1) (jas w 32 (2 * i + 1) g) = kk (jas w 32 (2 * i + 1) g') ∧ ∀ q, g' q = if q + m ≤ P ∧ P - q < m + pCnt (fun j => decide (low < s (P - j))) c m then jmin (g q) (nI low) else g q := by
  intro c
  induction c with
  | zero =>
    intro f m g hm hf
    obtain ⟨f, rfl⟩ : ∃ f', f = f' + 1 := ⟨f - 1, by omega⟩
    refine ⟨g, ?_, fun q => by rw [if_neg (by omega)]⟩
    rw [show P + 1 - m = 0 by omega, nI_00, f_X8_flattens_2_L5, if_pos (by decide)]
  | succ c ih =>
    intro f m g hm hf
    obtain ⟨f, rfl⟩ : ∃ f', f = f' + 1 := ⟨f - 1, by omega⟩
    have n0 := pCn_as (I := 2 * i + 1) (g := g) hw (by omega)
    have b1 := hs (P - m) (by omega)
    have r3 : ∀ g, jgi (jas w 32 (2 * i + 1) g) 3 y 3 = nI low := fun g => by rw [jas_ne (by omega)]; exact h3
    have ix : nI (P + 1 - m) - 1 = nI (P - m) := by rw [nI_m1 (by omega)]; congr 1 <;> omega
    by_cases hc : low < s (P - m)
    · have hb : (fun j => decide (low < s (P - j))) m = true := by simpa using hc
      have cn : pCnt (fun j => decide (low < s (P - j))) (c + 1) m = pCnt (fun j => decide (low < s (P - j))) c (m + 1) + 1 := by
        rw [pCnt, if_pos hb]
      obtain ⟨g', e', hg'⟩ := ih f (m + 1) (up g (P - m) (jmin (g (P - m)) (nI low))) (by omega) (by omega)
      refine ⟨g', ?_, fun q => ?_⟩
      · rw [← e', ix, f_X8_flattens_2_L5, if_neg (nI_pos (by omega)), jbd_nI (by omega) (by decide), jlt_eq, n0.2.1 _ (by omega), jlt_eq, r3, sI_e, if_neg (fun z => by have := (nI_leI (by omega) (by omega)).mp z; omega), jlt_eq, f_X8_lowers, jbd_nI (by omega) (by decide), jlt_eq, jas_get, jbd_nI (by omega) (by decide), jlt_eq, jas_set, jcb_s2, jlt_eq, show nI (P - m) + (-1) = nI (P + 1 - (m + 1)) - 1 by rw [show P + 1 - (m + 1) = P - m by omega, Int32.sub_eq_add_neg]]
      · rw [hg' q, cn]
        by_cases e : q = P - m
        · subst e
          rw [up_same, if_neg (by omega), if_pos (by omega)]
        · rw [up_ne e]
          by_cases c1 : q + (m + 1) ≤ P ∧ P - q < m + 1 + pCnt (fun j => decide (low < s (P - j))) c (m + 1)
          · rw [if_pos c1, if_pos (by omega)]
          · rw [if_neg c1, if_neg (by omega)]
    · have hb : ¬ (fun j => decide (low < s (P - j))) m = true := by simpa using hc
      have cn : pCnt (fun j => decide (low < s (P - j))) (c + 1) m = 0 := by
        rw [pCnt, if_neg hb]
      refine ⟨g, ?_, fun q => by rw [cn, if_neg (by omega)]⟩
      rw [ix, f_X8_flattens_2_L5, if_neg (nI_pos (by omega)), jbd_nI (by omega) (by decide), jlt_eq, n0.2.1 _ (by omega), jlt_eq, r3, sI_e, if_pos ((nI_leI (by omega) (by omega)).mpr (by omega))]
theorem c_flat_right {y low : Nat} (hn48 : n ≤ 48) (hlow : low ≤ 999) (hw : pCn w 0 (sI s) n) (hs : ∀ k, k < n → s k ≤ 999) (h3 : jgi w 3 y 3 = nI low) : ∀ (c f m : Nat) (g : Nat → Int32), m + c = n → c < f → ∃ g', f_X8_flattens_2_L50 i y f (nI m) (jas w 32 (2 * i + 1) g) = some ((), jas w 32 (2 * i + 1) g') ∧ ∀ q, g' q = if m ≤ q ∧ q < m + pCnt (fun j => decide (low < s j)) c m then jmin (g q) (nI low) else g q := by
  intro c
  induction c with
  | zero =>
    intro f m g hm hf
    obtain ⟨f, rfl⟩ : ∃ f', f = f' + 1 := ⟨f - 1, by omega⟩
    have n0 := pCn_as (I := 2 * i + 1) (g := g) hw (by omega)
    refine ⟨g, ?_, fun q => by rw [pCnt, if_neg (by omega)]⟩
    rw [f_X8_flattens_2_L50, jlt_eq, n0.1, if_pos ((nI_leI (by omega) (by omega)).mpr (by omega))]
  | succ c ih =>
    intro f m g hm hf
    obtain ⟨f, rfl⟩ : ∃ f', f = f' + 1 := ⟨f - 1, by omega⟩
    have n0 := pCn_as (I := 2 * i + 1) (g := g) hw (by omega)
    have b1 := hs m (by omega)
    have r3 : ∀ g, jgi (jas w 32 (2 * i + 1) g) 3 y 3 = nI low := fun g => by rw [jas_ne (by omega)]; exact h3
    by_cases hc : low < s m
    · have hb : (fun j => decide (low < s j)) m = true := by simpa using hc
      have cn : pCnt (fun j => decide (low < s j)) (c + 1) m = pCnt (fun j => decide (low < s j)) c (m + 1) + 1 := by
        rw [pCnt, if_pos hb]
      obtain ⟨g', e', hg'⟩ := ih f (m + 1) (up g m (jmin (g m) (nI low))) (by omega) (by omega)
      refine ⟨g', ?_, fun q => ?_⟩
      · rw [← e', f_X8_flattens_2_L50, jlt_eq, n0.1, if_neg (fun z => by have := (nI_leI (by omega) (by omega)).mp z; omega), jbd_nI (by omega) (by decide), jlt_eq, n0.2.1 _ (by omega), jlt_eq, r3, sI_e, if_neg (fun z => by have := (nI_leI (by omega) (by omega)).mp z; omega), jlt_eq, f_X8_lowers, jbd_nI (by omega) (by decide), jlt_eq, jas_get, jbd_nI (by omega) (by decide), jlt_eq, jas_set, jcb_s2, jlt_eq, nI_1]
      · rw [hg' q, cn]
        by_cases e : q = m
        · subst e
          rw [up_same, if_neg (by omega), if_pos (by omega)]
        · rw [up_ne e]
          by_cases c1 : m + 1 ≤ q ∧ q < m + 1 + pCnt (fun j => decide (low < s j)) c (m + 1)
          · rw [if_pos c1, if_pos (by omega)]
          · rw [if_neg c1, if_neg (by omega)]
    · have hb : ¬ (fun j => decide (low < s j)) m = true := by simpa using hc
      have cn : pCnt (fun j => decide (low < s j)) (c + 1) m = 0 := by
        rw [pCnt, if_neg hb]
      refine ⟨g, ?_, fun q => by rw [cn, if_neg (by omega)]⟩
      rw [f_X8_flattens_2_L50, jlt_eq, n0.1, if_neg (fun z => by have := (nI_leI (by omega) (by omega)).mp z; omega), jbd_nI (by omega) (by decide), jlt_eq, n0.2.1 _ (by omega), jlt_eq, r3, sI_e, if_pos ((nI_leI (by omega) (by omega)).mpr (by omega))]
/-- one peak is flattened -/
theorem c_flat1 (hw : pCn w 0 (sI s) n) (hP : pCP w 0 0 s n z) (h0 : 0 < n) (hs : ∀ k, k < n → s k ≤ 999) {k : Nat} (hk : k < cM s n) {t : Nat → Nat} (ht : ∀ q, q < n → t q ≤ 999) {g : Nat → Int32} (hg : ∀ q, q < n → g q = nI (t q)) : ∃ g', f_X8_flattens_2 i (some (48 * 0 + cW s n k)) (jas w 32 (2 * i + 1) g) = some ((), jas w 32 (2 * i + 1) g') ∧ ∀ q, q < n → g' q = nI (dF1 s n (cP s n k) (cD s n k) t q) := by
  have hn48 := hw.2.2
  have hp := cP_lt (s := s) h0 hk
  have hd := cD_le hs h0 hk
  have hs1 := hs _ hp
  have r0 : ∀ g, jgi (jas w 32 (2 * i + 1) g) 3 (48 * 0 + cW s n k) 0 = nI (cP s n k) := fun g => by rw [jas_ne (by omega)]; exact cq_0 hP h0 hk
  obtain ⟨g2, e2, h2⟩ := c_flat_left (i := i) (kk := fun (w17 : j_St) => jlt (jgi w17 3 (48 * 0 + cW s n k) 0) fun v18 => jlt (v18 + 1) fun v19 => f_X8_flattens_2_L50 i (48 * 0 + cW s n k) jFU v19 w17) hp hn48 (show cD s n k ≤ 999 by omega) hw hs (cq_3 hP h0 hk) (cP s n k + 1) jFU 0 g (by omega) (jFU_gt (by omega))
  obtain ⟨g3, e3, h3⟩ := c_flat_right (i := i) hn48 (show cD s n k ≤ 999 by omega) hw hs (cq_3 hP h0 hk) (n - (cP s n k + 1)) jFU (cP s n k + 1) g2 (by omega) (jFU_gt (by omega))
  refine ⟨g3, ?_, fun q hq => ?_⟩
  · rw [f_X8_flattens_2, job_s2, jlt_eq, r0]
    rw [show cP s n k + 1 - 0 = cP s n k + 1 by omega, show nI (cP s n k + 1) - 1 = nI (cP s n k) from nI_pred _] at e2
    rw [e2, jlt_eq, r0, jlt_eq, nI_1, e3]
  · have ri : pCnt (fun j => decide (cD s n k < s j)) (n - (cP s n k + 1)) (cP s n k + 1) = dRi s n (cP s n k) (cD s n k) := rfl
    rw [h3 q, h2 q, hg q hq, ri]
    have tq := ht q hq
    have mn : jmin (nI (t q)) (nI (cD s n k)) = nI (min (t q) (cD s n k)) := jmin_nI (by omega) (by omega)
    have le := dLe_le (s := s) (p := cP s n k) (low := cD s n k)
    by_cases hc : cD s n k < s (cP s n k)
    · have cn : pCnt (fun j => decide (cD s n k < s (cP s n k - j))) (cP s n k + 1) 0 = dLe s (cP s n k) (cD s n k) + 1 := by
        rw [pCnt, if_pos (by simpa using hc), pCnt_shift (d := 1) (b' := fun j => decide (cD s n k < s (cP s n k - 1 - j))) (cP s n k) 0 (fun j _ _ => by rw [show cP s n k - (j + 1) = cP s n k - 1 - j by omega])]
        rfl
      rw [cn]
      unfold dF1
      by_cases a1 : cP s n k + 1 ≤ q ∧ q < cP s n k + 1 + dRi s n (cP s n k) (cD s n k)
      · have := dRi_T (s := s) (n := n) (p := cP s n k) (low := cD s n k) (q := q) (by omega) (by omega)
        rw [if_pos a1, if_neg (by omega), mn, if_pos (by omega)]
      · rw [if_neg a1]
        by_cases a2 : q + 0 ≤ cP s n k ∧ cP s n k - q < 0 + (dLe s (cP s n k) (cD s n k) + 1)
        · have lq : cD s n k < s q := by
            by_cases e : q = cP s n k
            · rw [e]; exact hc
            · exact dLe_T (s := s) (p := cP s n k) (low := cD s n k) (q := q) (by omega) (by omega)
          rw [if_pos a2, mn, if_pos (by omega)]
        · rw [if_neg a2, if_neg (by omega)]
    · have cn : pCnt (fun j => decide (cD s n k < s (cP s n k - j))) (cP s n k + 1) 0 = 0 := by
        rw [pCnt, if_neg (by simpa using hc)]
      obtain ⟨d1, d2⟩ := dLR_0 hs h0 hk (by omega)
      rw [cn, d2, if_neg (by omega), if_neg (by omega)]
      unfold dF1
      rw [d1, d2]
      by_cases e : q = cP s n k
      · rw [e] at *
        rw [if_neg (by omega)]
      · rw [if_neg (by omega)]
theorem c_flat_L (hw : pCn w 0 (sI s) n) (hP : pCP w 0 0 s n z) (h0 : 0 < n) (hs : ∀ k, k < n → s k ≤ 999) {kk : j_St → Option (Int32 × j_St)} : ∀ (c f k : Nat) (t : Nat → Nat) (g : Nat → Int32), k + c = cM s n → c < f → (∀ q, q < n → t q ≤ 999) → (∀ q, q < n → g q = nI (t q)) → ∃ g', f_X8_flattens_L38 i kk f (nI k) (jas w 32 (2 * i + 1) g) = kk (jas w 32 (2 * i + 1) g') ∧ ∀ q, q < n → g' q = nI (pIt (fun k t => if k < cK s n z then t else dF1 s n (cP s n k) (cD s n k) t) c k t q) := by
  have hn48 := hw.2.2
  have hcm := cM_le (s := s) h0
  intro c
  induction c with
  | zero =>
    intro f k t g hk hf ht hg
    obtain ⟨f, rfl⟩ : ∃ f', f = f' + 1 := ⟨f - 1, by omega⟩
    refine ⟨g, ?_, hg⟩
    rw [f_X8_flattens_L38, jlt_eq, jas_ne (by omega), hP.2.1, if_pos ((nI_leI (by omega) (by omega)).mpr (by omega))]
  | succ c ih =>
    intro f k t g hk hf ht hg
    obtain ⟨f, rfl⟩ : ∃ f', f = f' + 1 := ⟨f - 1, by omega⟩
    have hkm : k < cM s n := by omega
    have row : ∀ g, jgr (jas w 32 (2 * i + 1) g) 27 0 k = some (48 * 0 + cW s n k) := fun g => cq_row hP hkm
    have six : ∀ g, jgi (jas w 32 (2 * i + 1) g) 3 (48 * 0 + cW s n k) 6 = if k < cK s n z then 1 else 0 := fun g => by rw [jas_ne (by omega)]; exact cq_6 hP hkm
    by_cases hc : k < cK s n z
    · obtain ⟨g', e', h'⟩ := ih f (k + 1) t g (by omega) (by omega) ht hg
      refine ⟨g', ?_, fun q hq => ?_⟩
      · rw [← e', f_X8_flattens_L38, jlt_eq, jas_ne (by omega), hP.2.1, if_neg (fun z => by have := (nI_leI (by omega) (by omega)).mp z; omega), jbd_nI (by omega) (by decide), jlt_eq, row, job_s2, jlt_eq, six, if_pos hc, jlt_eq, if_neg n10]
        dsimp only
        rw [jlt_eq, nI_1]
      · rw [h' q hq]
        show _ = nI (pIt _ c (k + 1) (if k < cK s n z then t else _) q)
        rw [if_pos hc]
    · obtain ⟨g1, e1, h1⟩ := c_flat1 (i := i) hw hP h0 hs hkm ht hg
      obtain ⟨g', e', h'⟩ := ih f (k + 1) (dF1 s n (cP s n k) (cD s n k) t) g1 (by omega) (by omega) (dF1_le ht) h1
      refine ⟨g', ?_, fun q hq => ?_⟩
      · rw [← e', f_X8_flattens_L38, jlt_eq, jas_ne (by omega), hP.2.1, if_neg (fun z => by have := (nI_leI (by omega) (by omega)).mp z; omega), jbd_nI (by omega) (by decide), jlt_eq, row, job_s2, jlt_eq, six, if_neg hc, jlt_eq, if_pos rfl, jbd_nI (by omega) (by decide), jlt_eq, row, e1, jcb_s2]
        dsimp only
        rw [jlt_eq, nI_1]
      · rw [h' q hq]
        show _ = nI (pIt _ c (k + 1) (if k < cK s n z then t else _) q)
        rw [if_neg hc]
theorem dFl_is (h0 : 0 < n) : pIt (fun k t => if k < cK s n z then t else dF1 s n (cP s n k) (cD s n k) t) (cM s n) 0 s = dFl s n z := by
  have hck := cK_le (s := s) (n := n) (z := z)
  obtain ⟨d, hd⟩ : ∃ d, cM s n = cK s n z + d := ⟨cM s n - cK s n z, by omega⟩
  have e : pIt (fun k t => if k < cK s n z then t else dF1 s n (cP s n k) (cD s n k) t) (cK s n z) 0 s = s := by
    have aux : ∀ c m (t : Nat → Nat), m + c ≤ cK s n z → pIt (fun k t => if k < cK s n z then t else dF1 s n (cP s n k) (cD s n k) t) c m t = t := by
      intro c
      induction c with
      | zero => intro m t _; rfl
      | succ c ih =>
        intro m t h
        show pIt _ c (m + 1) (if m < cK s n z then t else _) = t
        rw [if_pos (by omega)]
        exact ih (m + 1) t (by omega)
    exact aux _ _ _ (by omega)
  unfold dFl
  rw [hd, pIt_split, e, Nat.zero_add, show cK s n z + d - cK s n z = d by omega]
  exact pIt_congr _ _ _ (fun j y h1 _ => by rw [if_neg (by omega)])
theorem c_flattens (hn : pCn w (2 * i + 1) (sI s) n) (hz : jgi w 5 i 2 = nI z) (h0 : 0 < n) (hs : ∀ k, k < n → s k ≤ 999) (hz9 : z ≤ 999) (hW : WfP 0 w) : ∃ w', f_X8_flattens i w = some (-1, w') ∧ cDone i w w' (dFl s n z) n z (nI (dFe s (dFl s n z) n)) := by
  have h48 := hn.2.2
  obtain ⟨w1, e1, g1, n1, m1⟩ := c_was hn
  have z1 : jgi w1 5 i 2 = nI z := by rw [g1.1 _ _ _ (by unfold KC; omega)]; exact hz
  obtain ⟨w2, e2, g2, p2, W2⟩ := sp_cof n1 h0 hs hz9 (hW.kc g1)
  have n2 := n1.same g2 (fun k => ⟨by unfold KP; omega, by unfold KP; omega⟩)
  have m2 := m1.same g2 (fun k => ⟨by unfold KP; omega, by unfold KP; omega⟩)
  obtain ⟨g, eL, hg⟩ := c_flat_L (i := i) (kk := fun (w34 : j_St) => jcb (f_X8_less i w34) fun v35 w36 => jcb (f_X8_done i v35 w36) fun v38 w39 => some (v38, w39)) n2 p2 h0 hs (cM s n) jFU 0 s (jgi w2 32 (2 * i + 1)) (by omega) (jFU_gt (by have := cM_le (s := s) h0; omega)) hs (fun q hq => m2.2.1 q hq)
  rw [jas_self] at eL
  rw [dFl_is h0] at hg
  have n3 := pCn_as (I := 2 * i + 1) (g := g) n2 (by omega)
  have m3 := pCn_fill (t := dFl s n z) m2 hg
  have hl := c_less n3 m3 hs (dFl_le hs)
  have z3 : jgi (jas w2 32 (2 * i + 1) g) 5 i 2 = nI z := by rw [jas_ne (by omega), g2.1 _ _ _ (by unfold KP; omega)]; exact z1
  obtain ⟨w4, e4, d4⟩ := c_done (i := i) (an := nI (dFe s (dFl s n z) n)) (((g1.mono fun _ _ _ => KC.d).trans (g2.mono fun κ i k y => Or.inl y)).trans jas_d) m3 z3 W2.as
  refine ⟨w4, ?_, d4⟩
  rw [f_X8_flattens, e1, jcb_s2, jlt_eq, z1, e2, jcb_s2]
  show f_X8_flattens_L38 i _ jFU (nI 0) w2 = _
  rw [eL, hl, jcb_s2, e4, jcb_s2]
/-- A DEED OF THE COMPONENT -/
theorem c_deed_T (hn : pCn w (2 * i + 1) (sI s) n) (hz : jgi w 5 i 2 = nI z) (h0 : 0 < n) (hs : ∀ k, k < n → s k ≤ 999) (hz9 : z ≤ 999) (hW : WfP 0 w) {nm : Nat} {nt : Nat → Int32} {q : Nat} (hq : q < 10) {a b : Int32} (hy : dWhy q a b n = -1) :
    ∃ w', f_X8_deed i (nI q) a b w = some (-1, w') ∧ cDone i w w' (dDo q a b (s, n, z, nm, nt)).1.1 (dDo q a b (s, n, z, nm, nt)).1.2.1 (dDo q a b (s, n, z, nm, nt)).1.2.2.1 (dDo q a b (s, n, z, nm, nt)).2 := by
  have h48 := hn.2.2
  have n11 : ¬ ((1 : Int32) = -1) := by decide
  have n01 : ¬ ((0 : Int32) = -1) := by decide
  rcases (show q = 0 ∨ q = 1 ∨ q = 2 ∨ q = 3 ∨ q = 4 ∨ q = 5 ∨ q = 6 ∨ q = 7 ∨ q = 8 ∨ q = 9 by omega) with rfl | rfl | rfl | rfl | rfl | rfl | rfl | rfl | rfl | rfl
  · obtain ⟨w', e, d⟩ := c_filters (i := i) (q := 0) (t := dSm s n) hn hz h0 hs hz9 hW (fun k hk => by
      have h1 := hs (k - 1) (by omega)
      have h2 := hs k hk
      have h3 := hs (min (n - 1) (k + 1)) (by omega)
      unfold dSm
      omega) (fun k w hk => by
      obtain ⟨f1, f2⟩ := f_quarter (hs (k - 1) (by omega)) (hs k hk) (hs (min (n - 1) (k + 1)) (by omega))
      rw [f_Filt_of, if_pos rfl, f_X1_quarter, f1, f2]
      rfl)
    exact ⟨w', by rw [f_X8_deed, if_pos (by decide), jbd_nI (by decide) (by decide), jlt_eq, e, jcb_s2], d⟩
  · obtain ⟨w', e, d⟩ := c_filters (i := i) (q := 1) (t := dMe s n) hn hz h0 hs hz9 hW (fun k hk => by
      have h1 := hs (k - 1) (by omega)
      have h2 := hs k hk
      have h3 := hs (min (n - 1) (k + 1)) (by omega)
      unfold dMe dMid
      omega) (fun k w hk => by
      rw [f_Filt_of, if_neg (by decide), if_pos rfl, f_X1_middle, f_X3_middle, jcb_s2, f_mid (hs (k - 1) (by omega)) (hs k hk) (hs (min (n - 1) (k + 1)) (by omega))]
      rfl)
    exact ⟨w', by rw [f_X8_deed, if_neg (by decide), if_pos (by decide), jbd_nI (by decide) (by decide), jlt_eq, e, jcb_s2], d⟩
  · obtain ⟨w', e, d⟩ := c_flattens hn hz h0 hs hz9 hW
    exact ⟨w', by rw [f_X8_deed, if_neg (by decide), if_neg (by decide), if_pos (by decide), e, jcb_s2], d⟩
  · obtain ⟨w', e, d⟩ := c_turns hn hz h0 hW
    exact ⟨w', by rw [f_X8_deed, if_neg (by decide), if_neg (by decide), if_neg (by decide), if_pos (by decide), e, jcb_s2], d⟩
  · unfold dWhy at hy
    rw [if_pos (Or.inl rfl)] at hy
    split at hy
    · rename_i hc
      obtain ⟨c, hc2, rfl⟩ := (lit_iff (m := 999) (n := 1000) (by decide) (by decide)).mp hc
      obtain ⟨w', e, d⟩ := c_clips hn hz h0 hs hW hc2
      refine ⟨w', by rw [f_X8_deed, if_neg (by decide), if_neg (by decide), if_neg (by decide), if_neg (by decide), if_pos (by decide), e, jcb_s2], ?_⟩
      show cDone i w w' (dCl s (dN (nI c))) n z (nI (dFe s (dCl s (dN (nI c))) n))
      rw [dN_nI (by omega)]
      exact d
    · exact absurd hy n11
  · unfold dWhy at hy
    rw [if_neg (by decide), if_pos rfl] at hy
    split at hy
    · rename_i hc
      obtain ⟨w', e, d⟩ := c_lifts hn hz h0 hs hW hc
      exact ⟨w', by rw [f_X8_deed, if_neg (by decide), if_neg (by decide), if_neg (by decide), if_neg (by decide), if_neg (by decide), if_pos (by decide), e, jcb_s2], d⟩
    · exact absurd hy n11
  · unfold dWhy at hy
    rw [if_neg (by decide), if_neg (by decide), if_pos rfl] at hy
    split at hy
    · rename_i hc
      obtain ⟨p, hp, rfl⟩ := (lit_iff (m := 99) (n := 100) (by decide) (by decide)).mp hc.1
      obtain ⟨v, v1, v2, rfl⟩ := (rng1_iff (n := 99) (by decide)).mp hc.2
      obtain ⟨w', e, d⟩ := c_scales hn hz h0 hs hW hp v1 v2
      refine ⟨w', by rw [f_X8_deed, if_neg (by decide), if_neg (by decide), if_neg (by decide), if_neg (by decide), if_neg (by decide), if_neg (by decide), if_pos (by decide), e, jcb_s2], ?_⟩
      show cDone i w w' (dSc s (dN (nI p)) (dN (nI v))) n z (nI (cMax (dSc s (dN (nI p)) (dN (nI v))) n))
      rw [dN_nI (by omega), dN_nI (by omega)]
      exact d
    · exact absurd hy n11
  · unfold dWhy at hy
    rw [if_neg (by decide), if_neg (by decide), if_neg (by decide), if_pos rfl] at hy
    split at hy
    · rename_i h1
      obtain ⟨p, hp, rfl⟩ := (rng_iff (by omega)).mp h1
      split at hy
      · rename_i h2
        obtain ⟨v, hv, rfl⟩ := (lit_iff (m := 999) (n := 1000) (by decide) (by decide)).mp h2
        obtain ⟨w', e, d⟩ := c_setsI hn hz hW hp hv
        refine ⟨w', by rw [f_X8_deed, if_neg (by decide), if_neg (by decide), if_neg (by decide), if_neg (by decide), if_neg (by decide), if_neg (by decide), if_neg (by decide), if_pos (by decide), e, jcb_s2], ?_⟩
        show cDone i w w' (up s (dN (nI p)) (dN (nI v))) n z (nI (s (dN (nI p))))
        rw [dN_nI (by omega), dN_nI (by omega)]
        exact d
      · exact absurd hy n11
    · exact absurd hy n01
  · unfold dWhy at hy
    rw [if_pos (Or.inr rfl)] at hy
    split at hy
    · rename_i h2
      obtain ⟨v, hv, rfl⟩ := (lit_iff (m := 999) (n := 1000) (by decide) (by decide)).mp h2
      obtain ⟨w', e, d⟩ := c_hushes hn hz hW hv
      refine ⟨w', by rw [f_X8_deed, if_neg (by decide), if_neg (by decide), if_neg (by decide), if_neg (by decide), if_neg (by decide), if_neg (by decide), if_neg (by decide), if_neg (by decide), if_pos (by decide), e, jcb_s2], ?_⟩
      show cDone i w w' s n (dN (nI v)) (nI z)
      rw [dN_nI (by omega)]
      exact d
    · exact absurd hy n11
  · unfold dWhy at hy
    rw [if_neg (by decide), if_neg (by decide), if_neg (by decide), if_neg (by decide), if_pos rfl] at hy
    split at hy
    · rename_i h1
      obtain ⟨p, hp, rfl⟩ := (rng_iff (by omega)).mp h1
      split at hy
      · rename_i h2
        rw [nI_sub (by omega)] at h2
        obtain ⟨m, m1, m2, rfl⟩ := (rng1_iff (by omega)).mp h2
        obtain ⟨w', e, d⟩ := c_cuts hn hz hW hp m1 m2
        refine ⟨w', by rw [f_X8_deed, if_neg (by decide), if_neg (by decide), if_neg (by decide), if_neg (by decide), if_neg (by decide), if_neg (by decide), if_neg (by decide), if_neg (by decide), if_neg (by decide), e, jcb_s2], ?_⟩
        show cDone i w w' (dCu s (dN (nI p))) (dN (nI m)) z (nI (n - dN (nI m)))
        rw [dN_nI (by omega), dN_nI (by omega)]
        exact d
      · exact absurd hy n11
    · exact absurd hy n01
theorem c_deed_F (hn : pCn w (2 * i + 1) (sI s) n) {q : Nat} (hq : q < 10) {a b : Int32} (hy : dWhy q a b n ≠ -1) : f_X8_deed i (nI q) a b w = some (dWhy q a b n, w) := by
  have h48 := hn.2.2
  rcases (show q = 0 ∨ q = 1 ∨ q = 2 ∨ q = 3 ∨ q = 4 ∨ q = 5 ∨ q = 6 ∨ q = 7 ∨ q = 8 ∨ q = 9 by omega) with rfl | rfl | rfl | rfl | rfl | rfl | rfl | rfl | rfl | rfl
  · exact absurd rfl hy
  · exact absurd rfl hy
  · exact absurd rfl hy
  · exact absurd rfl hy
  · unfold dWhy at hy ⊢
    rw [if_pos (Or.inl rfl)] at hy ⊢
    have hc : ¬ (0 ≤ a ∧ a ≤ 999) := fun z => hy (if_pos z)
    rw [if_neg hc, f_X8_deed, if_neg (by decide), if_neg (by decide), if_neg (by decide), if_neg (by decide), if_pos (by decide), f_X8_clips, sp_isIn (l := 0) (h := 999) (by decide) (by decide), if_neg hc, jcb_s2, if_pos rfl, jcb_s2]
  · unfold dWhy at hy ⊢
    rw [if_neg (by decide), if_pos rfl] at hy ⊢
    have hc : ¬ (-999 ≤ a ∧ a ≤ 999) := fun z => hy (if_pos z)
    rw [if_neg hc, f_X8_deed, if_neg (by decide), if_neg (by decide), if_neg (by decide), if_neg (by decide), if_neg (by decide), if_pos (by decide), f_X8_lifts, sp_isIn (l := -999) (h := 999) (by decide) (by decide), if_neg hc, jcb_s2, if_pos rfl, jcb_s2]
  · unfold dWhy at hy ⊢
    rw [if_neg (by decide), if_neg (by decide), if_pos rfl] at hy ⊢
    have hc : ¬ ((0 ≤ a ∧ a ≤ 99) ∧ (1 ≤ b ∧ b ≤ 99)) := fun z => hy (if_pos z)
    rw [if_neg hc, f_X8_deed, if_neg (by decide), if_neg (by decide), if_neg (by decide), if_neg (by decide), if_neg (by decide), if_neg (by decide), if_pos (by decide), f_X8_scales, sp_isIn (l := 0) (h := 99) (by decide) (by decide)]
    by_cases h1 : (0 ≤ a ∧ a ≤ 99)
    · have h2 : ¬ (1 ≤ b ∧ b ≤ 99) := fun z => hc ⟨h1, z⟩
      rw [if_pos h1, jcb_s2, if_neg n10, sp_isIn (l := 1) (h := 99) (by decide) (by decide), if_neg h2, jcb_s2, if_pos rfl, jcb_s2]
    · rw [if_neg h1, jcb_s2, if_pos rfl, jcb_s2]
  · unfold dWhy at hy ⊢
    rw [if_neg (by decide), if_neg (by decide), if_neg (by decide), if_pos rfl] at hy ⊢
    rw [f_X8_deed, if_neg (by decide), if_neg (by decide), if_neg (by decide), if_neg (by decide), if_neg (by decide), if_neg (by decide), if_neg (by decide), if_pos (by decide), f_X8_sets]
    by_cases h1 : 0 ≤ a ∧ a ≤ nI n - 1
    · rw [if_pos h1] at hy ⊢
      have h2 : ¬ (0 ≤ b ∧ b ≤ 999) := fun z => hy (if_pos z)
      rw [if_neg h2, c_isPlace_T hn ((rng_iff (by omega)).mp h1), jcb_s2, if_neg n10, sp_isIn (l := 0) (h := 999) (by decide) (by decide), if_neg h2, jcb_s2, if_pos rfl, jcb_s2]
    · rw [if_neg h1, c_isPlace_F hn (fun z => h1 ((rng_iff (by omega)).mpr z)), jcb_s2, if_pos rfl, jcb_s2]
  · unfold dWhy at hy ⊢
    rw [if_pos (Or.inr rfl)] at hy ⊢
    have hc : ¬ (0 ≤ a ∧ a ≤ 999) := fun z => hy (if_pos z)
    rw [if_neg hc, f_X8_deed, if_neg (by decide), if_neg (by decide), if_neg (by decide), if_neg (by decide), if_neg (by decide), if_neg (by decide), if_neg (by decide), if_neg (by decide), if_pos (by decide), f_X8_hushes, sp_isIn (l := 0) (h := 999) (by decide) (by decide), if_neg hc, jcb_s2, if_pos rfl, jcb_s2]
  · unfold dWhy at hy ⊢
    rw [if_neg (by decide), if_neg (by decide), if_neg (by decide), if_neg (by decide), if_pos rfl] at hy ⊢
    rw [f_X8_deed, if_neg (by decide), if_neg (by decide), if_neg (by decide), if_neg (by decide), if_neg (by decide), if_neg (by decide), if_neg (by decide), if_neg (by decide), if_neg (by decide), f_X8_cuts]
    by_cases h1 : 0 ≤ a ∧ a ≤ nI n - 1
    · rw [if_pos h1] at hy ⊢
      have h2 : ¬ (1 ≤ b ∧ b ≤ nI n - a) := fun z => hy (if_pos z)
      rw [if_neg h2, c_isPlace_T hn ((rng_iff (by omega)).mp h1), jcb_s2, if_neg n10, jlt_eq, hn.1, sp_isIn (l := 1) (h := nI n - a) (by decide) rfl, if_neg h2, jcb_s2, if_pos rfl, jcb_s2]
    · rw [if_neg h1, c_isPlace_F hn (fun z => h1 ((rng_iff (by omega)).mpr z)), jcb_s2, if_pos rfl, jcb_s2]
end CFLAT
