/-! the pure law: the component's deeds -/
section CDEED
variable {w w' w1 : j_St} {s : Nat → Nat} {n z i : Nat}
/-- an array is filled -/
theorem fill_loop {β : Type} {L : Nat → Int32 → j_St → β} {kk : j_St → β} {κ i0 N : Nat} {G : Nat → Int32} (h1 : ∀ f m g, m < N → (∀ k, m ≤ k → g k = jgi w κ i0 k) → L (f + 1) (nI m) (jas w κ i0 g) = L f (nI (m + 1)) (jas w κ i0 (up g m (G m)))) (h2 : ∀ f g, L (f + 1) (nI N) (jas w κ i0 g) = kk (jas w κ i0 g)) (hN : N < 19999) : ∃ g, L jFU 0 w = kk (jas w κ i0 g) ∧ ∀ k, g k = if k < N then G k else jgi w κ i0 k := by
  refine ⟨pIt (fun m (f : Nat → Int32) => up f m (G m)) N 0 (jgi w κ i0), ?_, fun k => by
    rw [pIt_fill]
    by_cases c : k < N
    · rw [if_pos (by omega), if_pos c]
    · rw [if_neg (by omega), if_neg c]⟩
  have := pIt_is (F := fun f m (g : Nat → Int32) => L f (nI m) (jas w κ i0 g)) (step := fun m f => up f m (G m)) (I := fun m g => ∀ k, m ≤ k → g k = jgi w κ i0 k) (N := N) (G := fun g => kk (jas w κ i0 g)) (fun f m g hm hI => h1 f m g hm hI) (fun m g hm hI k hk => by rw [up_ne (by omega)]; exact hI k (by omega)) (fun f g _ => h2 f g) N jFU 0 (jgi w κ i0) (by omega) (jFU_gt (by omega)) (fun k _ => rfl)
  refine Eq.trans ?_ this
  show L jFU 0 w = L jFU (nI 0) (jas w κ i0 (jgi w κ i0))
  rw [jas_self]
  rfl
def KD (i κ j k : Nat) : Prop := KP 0 κ j k ∨ ((κ = 4 ∨ κ = 32) ∧ (j = 0 ∨ j = 2 * i + 1)) ∨ (κ = 5 ∧ j = i ∧ (k = 2 ∨ k = 4))
/-- a deed is done -/
def cDone (i : Nat) (w w' : j_St) (s : Nat → Nat) (n z : Nat) (an : Int32) : Prop := pSame (KD i) w w' ∧ pCn w' (2 * i + 1) (sI s) n ∧ jgi w' 5 i 2 = nI z ∧ jgi w' 5 i 4 = an ∧ WfP 0 w'
theorem c_was (h : pCn w (2 * i + 1) (sI s) n) : ∃ w1, f_X7_becomes 0 (2 * i + 1) w = some ((), w1) ∧ pSame (KC 0) w w1 ∧ pCn w1 0 (sI s) n ∧ pCn w1 (2 * i + 1) (sI s) n := by
  obtain ⟨w1, e, g, n1⟩ := c_becomes7 (i := 0) h (by omega)
  exact ⟨w1, e, g, n1, h.same g (fun k => ⟨by unfold KC; omega, by unfold KC; omega⟩)⟩
theorem pCn_as {I j : Nat} {g : Nat → Int32} (h : pCn w j (sI s) n) (hj : I ≠ j) : pCn (jas w 32 I g) j (sI s) n := h.same (K := fun κ i _ => κ = 32 ∧ i = I) (jas_same fun _ => ⟨rfl, rfl⟩) (fun k => ⟨by omega, by omega⟩)
theorem pCn_fill {I : Nat} {t : Nat → Nat} {g : Nat → Int32} {a : Nat → Int32} (h : pCn w I a n) (hg : ∀ k, k < n → g k = nI (t k)) : pCn (jas w 32 I g) I (sI t) n := by
  obtain ⟨h1, h2, h3⟩ := h
  exact ⟨by rw [jas_ne (by omega)]; exact h1, fun k hk => by rw [jas_get]; exact hg k hk, h3⟩
/-- what is done is told -/
theorem c_done {t : Nat → Nat} {m y : Nat} {an : Int32} (g : pSame (KD i) w w') (hn : pCn w' (2 * i + 1) (sI t) m) (hz : jgi w' 5 i 2 = nI y) (hW : WfP 0 w') : ∃ w2, f_X8_done i an w' = some (-1, w2) ∧ cDone i w w2 t m y an := by
  refine ⟨jsi w' 5 i 4 an, by rw [f_X8_done, jlt_eq], g.trans (pSame.jsi (Or.inr (Or.inr ⟨rfl, rfl, Or.inr rfl⟩))), ?_, ?_, jgi_eq, ?_⟩
  · exact hn.same (K := fun κ _ _ => κ = 5) (pSame.jsi rfl) (fun k => ⟨by omega, by omega⟩)
  · rw [jgi_ne (by omega)]; exact hz
  · exact hW.same (K := fun κ _ _ => κ = 5) (pSame.jsi rfl) (fun κ i k a _ b => by unfold KP at a; omega)
theorem KC.d {κ j k : Nat} (h : KC 0 κ j k) : KD i κ j k := by
  unfold KC at h
  unfold KD
  rcases h with h | h
  · exact Or.inr (Or.inl ⟨Or.inr h.1, Or.inl h.2⟩)
  · exact Or.inr (Or.inl ⟨Or.inl h.1, Or.inl h.2.1⟩)
theorem jas_d {g : Nat → Int32} : pSame (KD i) w (jas w 32 (2 * i + 1) g) := jas_same fun k => Or.inr (Or.inl ⟨Or.inr rfl, Or.inr rfl⟩)
theorem WfP.kc (h : WfP 0 w) (g : pSame (KC 0) w w') : WfP 0 w' := h.same g (fun κ i k a _ b => by unfold KP at a; unfold KC at b; omega)
theorem WfP.as {g : Nat → Int32} {I : Nat} (h : WfP 0 w) : WfP 0 (jas w 32 I g) := h.same (K := fun κ _ _ => κ = 32) (jas_same fun _ => rfl) (fun κ i k a _ b => by unfold KP at a; omega)
theorem c_keptI (hn : pCn w (2 * i + 1) (sI s) n) (hz : jgi w 5 i 2 = nI z) (h0 : 0 < n) (hs : ∀ k, k < n → s k ≤ 999) (hz9 : z ≤ 999) (hW : WfP 0 w) : ∃ w', f_X8_kept i w = some (nI (cK s n z), w') ∧ pSame (KP 0) w w' ∧ WfP 0 w' := by
  obtain ⟨w', e, g, p, hW'⟩ := sp_cof hn h0 hs hz9 hW
  exact ⟨w', by rw [f_X8_kept, jlt_eq, hz, e, jcb_s2, jlt_eq, p.2.2.1], g, hW'⟩
/-- what stands beside, in what was -/
theorem c_nearL (h : pCn w 0 (sI s) n) {k : Nat} (hk : k < n) : f_X7_near 0 (nI k - 1) w = some (nI (s (k - 1)), w) := by
  have hn := h.2.2
  have e : jmax 0 (jmin (nI n - 1) (nI k - 1)) = nI (k - 1) := by
    rw [nI_m1 (by omega)]
    by_cases c : k = 0
    · subst c
      rw [nI_00, show (-1 : Int32) = (-1 : Int32) from rfl]
      unfold jmin
      have : (-1 : Int32) < nI (n - 1) := by
        rw [Int32.lt_iff_toInt_lt, nI_toInt (by omega), show (-1 : Int32).toInt = -1 from rfl]
        omega
      rw [if_pos this]
      rfl
    · rw [nI_m1 (by omega), jmin_nI (by omega) (by omega), show (0 : Int32) = nI 0 from rfl, jmax_nI (by omega) (by omega)]
      congr 1 <;> omega
  rw [f_X7_near, jlt_eq, h.1, e, jbd_nI (by omega) (by decide), jlt_eq, h.2.1 _ (by omega)]
  rfl
theorem c_nearR (h : pCn w 0 (sI s) n) {k : Nat} (hk : k < n) : f_X7_near 0 (nI k + 1) w = some (nI (s (min (n - 1) (k + 1))), w) := by
  have hn := h.2.2
  have e : jmax 0 (jmin (nI n - 1) (nI k + 1)) = nI (min (n - 1) (k + 1)) := by
    rw [nI_m1 (by omega), nI_1, jmin_nI (by omega) (by omega), show (0 : Int32) = nI 0 from rfl, jmax_nI (by omega) (by omega)]
    congr 1 <;> omega
  rw [f_X7_near, jlt_eq, h.1, e, jbd_nI (by omega) (by decide), jlt_eq, h.2.1 _ (by omega)]
  rfl
theorem f_quarter {a b c : Nat} (ha : a ≤ 999) (hb : b ≤ 999) (hc : c ≤ 999) : (nI a + (2 * nI b)) + nI c = nI (a + 2 * b + c) ∧ nI (a + 2 * b + c) / 4 = nI ((a + 2 * b + c) / 4) := by
  refine ⟨?_, ?_⟩
  · rw [show (2 : Int32) * nI b = nI 2 * nI b from rfl, nI_mul, nI_add, nI_add]
  · exact nI_div (y := 4) (by omega) (by decide) (by decide)
theorem f_mid {a b c : Nat} (ha : a ≤ 999) (hb : b ≤ 999) (hc : c ≤ 999) : jmax (jmin (nI a) (nI b)) (jmin (jmax (nI a) (nI b)) (nI c)) = nI (dMid a b c) := by
  rw [jmin_nI (by omega) (by omega), jmax_nI (by omega) (by omega), jmin_nI (by omega) (by omega), jmax_nI (by omega) (by omega)]
  rfl
/-- done by those beside -/
theorem c_filters (hn : pCn w (2 * i + 1) (sI s) n) (hz : jgi w 5 i 2 = nI z) (h0 : 0 < n) (hs : ∀ k, k < n → s k ≤ 999) (hz9 : z ≤ 999) (hW : WfP 0 w) {q : Nat} {t : Nat → Nat} (ht : ∀ k, k < n → t k ≤ 999)
    (hf : ∀ k w, k < n → f_Filt_of q (nI (s (k - 1))) (nI (s k)) (nI (s (min (n - 1) (k + 1)))) w = some (nI (t k), w)) : ∃ w', f_X8_filters i q w = some (-1, w') ∧ cDone i w w' t n z (nI (cK t n z)) := by
  have h48 := hn.2.2
  obtain ⟨w1, e1, g1, n1, m1⟩ := c_was hn
  obtain ⟨g, eL, hg⟩ := fill_loop (w := w1) (κ := 32) (i0 := 2 * i + 1) (N := n) (G := fun k => nI (t k)) (L := fun f v w => f_X8_filters_L16 i q (fun (w34 : j_St) => jcb (f_X8_kept i w34) fun v35 w36 => jcb (f_X8_done i v35 w36) fun v38 w39 => some (v38, w39)) f v w) (kk := fun (w34 : j_St) => jcb (f_X8_kept i w34) fun v35 w36 => jcb (f_X8_done i v35 w36) fun v38 w39 => some (v38, w39)) (fun f m g hm _ => by
      have n0 := pCn_as (I := 2 * i + 1) (g := g) n1 (by omega)
      have mm : jgi (jas w1 32 (2 * i + 1) g) 4 (2 * i + 1) 1 = nI n := by rw [jas_ne (by omega)]; exact m1.1
      show f_X8_filters_L16 i q _ (f + 1) (nI m) _ = _
      rw [f_X8_filters_L16, jlt_eq, mm, if_neg (fun z => by have := (nI_leI (by omega) (by omega)).mp z; omega), c_nearL n0 hm, jcb_s2, jbd_nI (by omega) (by decide), jlt_eq, n0.2.1 m hm, c_nearR n0 hm, jcb_s2, sI_e, hf m _ hm, jcb_s2, jbd_nI (by omega) (by decide), jlt_eq, jas_set, jlt_eq, nI_1]) (fun f g => by
      have mm : jgi (jas w1 32 (2 * i + 1) g) 4 (2 * i + 1) 1 = nI n := by rw [jas_ne (by omega)]; exact m1.1
      show f_X8_filters_L16 i q _ (f + 1) (nI n) _ = _
      rw [f_X8_filters_L16, jlt_eq, mm, if_pos ((nI_leI (by omega) (by omega)).mpr (Nat.le_refl _))]) (by omega)
  have n2 := pCn_fill (t := t) m1 (fun k hk => by rw [hg k, if_pos hk] : ∀ k, k < n → g k = nI (t k))
  have z2 : jgi (jas w1 32 (2 * i + 1) g) 5 i 2 = nI z := by rw [jas_ne (by omega), g1.1 _ _ _ (by unfold KC; omega)]; exact hz
  obtain ⟨w3, e3, g3, W3⟩ := c_keptI n2 z2 h0 ht hz9 (hW.kc g1).as
  obtain ⟨w4, e4, d4⟩ := c_done (i := i) (an := nI (cK t n z)) (((g1.mono fun _ _ _ => KC.d).trans jas_d).trans (g3.mono fun κ i k y => Or.inl y)) (n2.same g3 (fun k => ⟨by unfold KP; omega, by unfold KP; omega⟩)) (by rw [g3.1 _ _ _ (by unfold KP; omega)]; exact z2) W3
  refine ⟨w4, ?_, d4⟩
  rw [f_X8_filters, e1, jcb_s2, eL, e3, jcb_s2, e4, jcb_s2]
/-- done by numbers -/
theorem c_changes (hn : pCn w (2 * i + 1) (sI s) n) (h0 : 0 < n) {q : Nat} {t : Nat → Nat} {a b : Int32} (hf : ∀ k w, k < n → f_Chg_of q (nI (s k)) a b w = some (nI (t k), w)) : ∃ w1 g, f_X8_changes i q a b w = some ((), jas w1 32 (2 * i + 1) g) ∧ pSame (KC 0) w w1 ∧ pCn (jas w1 32 (2 * i + 1) g) 0 (sI s) n ∧ pCn (jas w1 32 (2 * i + 1) g) (2 * i + 1) (sI t) n := by
  have h48 := hn.2.2
  obtain ⟨w1, e1, g1, n1, m1⟩ := c_was hn
  obtain ⟨g, eL, hg⟩ := fill_loop (w := w1) (κ := 32) (i0 := 2 * i + 1) (N := n) (G := fun k => nI (t k)) (L := fun f v w => f_X8_changes_L17 i q a b f v w) (kk := fun w => some ((), w)) (fun f m g hm _ => by
      have n0 := pCn_as (I := 2 * i + 1) (g := g) n1 (by omega)
      have mm : jgi (jas w1 32 (2 * i + 1) g) 4 (2 * i + 1) 1 = nI n := by rw [jas_ne (by omega)]; exact m1.1
      show f_X8_changes_L17 i q a b (f + 1) (nI m) _ = _
      rw [f_X8_changes_L17, jlt_eq, mm, if_neg (fun z => by have := (nI_leI (by omega) (by omega)).mp z; omega), jbd_nI (by omega) (by decide), jlt_eq, n0.2.1 m hm, sI_e, hf m _ hm, jcb_s2, jbd_nI (by omega) (by decide), jlt_eq, jas_set, jlt_eq, nI_1]) (fun f g => by
      have mm : jgi (jas w1 32 (2 * i + 1) g) 4 (2 * i + 1) 1 = nI n := by rw [jas_ne (by omega)]; exact m1.1
      show f_X8_changes_L17 i q a b (f + 1) (nI n) _ = _
      rw [f_X8_changes_L17, jlt_eq, mm, if_pos ((nI_leI (by omega) (by omega)).mpr (Nat.le_refl _))]) (by omega)
  refine ⟨w1, g, by rw [f_X8_changes, e1, jcb_s2, eL], g1, pCn_as n1 (by omega), pCn_fill (t := t) m1 (fun k hk => by rw [hg k, if_pos hk])⟩
theorem c_less {t : Nat → Nat} (hw : pCn w 0 (sI s) n) (hn : pCn w (2 * i + 1) (sI t) n) (hs : ∀ k, k < n → s k ≤ 999) (ht : ∀ k, k < n → t k ≤ 999) : f_X8_less i w = some (nI (dFe s t n), w) := by
  have h48 := hn.2.2
  refine pIt_is' (F := fun f m x => f_X8_less_L4 i f (nI x) (nI m) w) (step := fun m x => x + if t m < s m then 1 else 0) (N := n) (G := fun x => some (nI x, w)) (fun f m x hm => ?_) (fun f x => ?_) n jFU 0 0 (by omega) (jFU_gt (by omega))
  · have b1 := hs m hm
    have b2 := ht m hm
    have z0 : nI x + 0 = nI (x + 0) := nI_add x 0
    show f_X8_less_L4 i (f + 1) (nI x) (nI m) w = f_X8_less_L4 i f (nI (x + if t m < s m then 1 else 0)) (nI (m + 1)) w
    rw [f_X8_less_L4]
    by_cases c : t m < s m
    · simp (disch := omega) only [↓jlt_e2, hn.1, le_F, if_false, jbd_nI, hn.2.1 m hm, hw.2.1 m hm, sI_e, c, if_true, nI_1]
    · simp (disch := omega) only [↓jlt_e2, hn.1, le_F, le_T, if_false, jbd_nI, hn.2.1 m hm, hw.2.1 m hm, sI_e, c, if_true, nI_1, z0]
  · show f_X8_less_L4 i (f + 1) (nI x) (nI n) w = _
    rw [f_X8_less_L4, jlt_eq, hn.1, if_pos ((nI_leI (by omega) (by omega)).mpr (Nat.le_refl _))]
/-- turned -/
theorem c_turns (hn : pCn w (2 * i + 1) (sI s) n) (hz : jgi w 5 i 2 = nI z) (h0 : 0 < n) (hW : WfP 0 w) : ∃ w', f_X8_turns i w = some (-1, w') ∧ cDone i w w' (dTu s n) n z (nI (dTu s n 0)) := by
  have h48 := hn.2.2
  obtain ⟨w1, e1, g1, n1, m1⟩ := c_was hn
  obtain ⟨g, eL, hg⟩ := fill_loop (w := w1) (κ := 32) (i0 := 2 * i + 1) (N := n) (G := fun k => nI (dTu s n k)) (L := fun f v w => f_X8_turns_L16 i (fun (w23 : j_St) => jbd 0 48 fun a26 => jlt (jgi w23 32 (2 * i + 1) a26) fun v27 => jcb (f_X8_done i v27 w23) fun v28 w29 => some (v28, w29)) f v w) (kk := fun (w23 : j_St) => jbd 0 48 fun a26 => jlt (jgi w23 32 (2 * i + 1) a26) fun v27 => jcb (f_X8_done i v27 w23) fun v28 w29 => some (v28, w29)) (fun f m g hm _ => by
      have n0 := pCn_as (I := 2 * i + 1) (g := g) n1 (by omega)
      have mm : jgi (jas w1 32 (2 * i + 1) g) 4 (2 * i + 1) 1 = nI n := by rw [jas_ne (by omega)]; exact m1.1
      show f_X8_turns_L16 i _ (f + 1) (nI m) _ = _
      rw [f_X8_turns_L16, jlt_eq, mm, if_neg (fun z => by have := (nI_leI (by omega) (by omega)).mp z; omega), jlt_eq, nI_m1 (by omega), nI_sub (by omega), jbd_nI (by omega) (by decide), jlt_eq, n0.2.1 _ (by omega), jbd_nI (by omega) (by decide), jlt_eq, jas_set, jlt_eq, nI_1]
      rfl) (fun f g => by
      have mm : jgi (jas w1 32 (2 * i + 1) g) 4 (2 * i + 1) 1 = nI n := by rw [jas_ne (by omega)]; exact m1.1
      show f_X8_turns_L16 i _ (f + 1) (nI n) _ = _
      rw [f_X8_turns_L16, jlt_eq, mm, if_pos ((nI_leI (by omega) (by omega)).mpr (Nat.le_refl _))]) (by omega)
  have n2 := pCn_fill (t := dTu s n) m1 (fun k hk => by rw [hg k, if_pos hk] : ∀ k, k < n → g k = nI (dTu s n k))
  have z2 : jgi (jas w1 32 (2 * i + 1) g) 5 i 2 = nI z := by rw [jas_ne (by omega), g1.1 _ _ _ (by unfold KC; omega)]; exact hz
  obtain ⟨w4, e4, d4⟩ := c_done (i := i) (an := nI (dTu s n 0)) ((g1.mono fun _ _ _ => KC.d).trans jas_d) n2 z2 (hW.kc g1).as
  refine ⟨w4, ?_, d4⟩
  rw [f_X8_turns, e1, jcb_s2, eL, jbd_k0 (by decide) (by decide), jlt_eq, n2.2.1 0 h0, sI_e, e4, jcb_s2]
theorem c_clips (hn : pCn w (2 * i + 1) (sI s) n) (hz : jgi w 5 i 2 = nI z) (h0 : 0 < n) (hs : ∀ k, k < n → s k ≤ 999) (hW : WfP 0 w) {c : Nat} (hc : c < 1000) : ∃ w', f_X8_clips i (nI c) w = some (-1, w') ∧ cDone i w w' (dCl s c) n z (nI (dFe s (dCl s c) n)) := by
  obtain ⟨w1, g, e1, g1, n1, m1⟩ := c_changes (q := 0) (a := nI c) (b := 1) (t := dCl s c) hn h0 (fun k w hk => by
    have := hs k hk
    rw [f_Chg_of, if_pos rfl, f_X1_lambda_new_0, jmin_nI (by omega) (by omega)]
    rfl)
  have hl := c_less n1 m1 hs (fun k hk => by have := hs k hk; show min (s k) c ≤ 999; omega)
  have z2 : jgi (jas w1 32 (2 * i + 1) g) 5 i 2 = nI z := by rw [jas_ne (by omega), g1.1 _ _ _ (by unfold KC; omega)]; exact hz
  obtain ⟨w4, e4, d4⟩ := c_done (i := i) (an := nI (dFe s (dCl s c) n)) ((g1.mono fun _ _ _ => KC.d).trans jas_d) m1 z2 (hW.kc g1).as
  refine ⟨w4, ?_, d4⟩
  rw [f_X8_clips, cIn_T (n := 1000) ⟨c, hc, rfl⟩ (by decide) rfl (by decide), jcb_s2, if_neg n10, jbd_k0 (by decide) (by decide), jlt_eq, e1, jcb_s2, hl, jcb_s2, e4, jcb_s2]
theorem f_between {x : Int32} {v : Nat} (h : ∀ (hx : True), x.toInt = (v : Int)) (hv : v < 2 ^ 31) : jmax 0 (jmin 999 x) = nI (min 999 v) := by
  have e : x = nI v := Int32.toInt_inj.mp (by rw [h trivial, nI_toInt hv])
  rw [e, show (999 : Int32) = nI 999 from rfl, jmin_nI (by decide) hv, show (0 : Int32) = nI 0 from rfl, jmax_nI (by decide) (by omega)]
  congr 1 <;> omega
theorem f_lift {x : Nat} {a : Int32} (hx : x ≤ 999) (ha : -999 ≤ a ∧ a ≤ 999) : jmax 0 (jmin 999 (nI x + a)) = nI ((max 0 (min 999 ((x : Int) + a.toInt))).toNat) := by
  have a1 := Int32.le_iff_toInt_le.mp ha.1
  have a2 := Int32.le_iff_toInt_le.mp ha.2
  rw [show (-999 : Int32).toInt = -999 by decide] at a1
  rw [show (999 : Int32).toInt = 999 by decide] at a2
  have e : (nI x + a).toInt = (x : Int) + a.toInt := by rw [pSl_add (pSl_nI (by omega)) ⟨by omega, by omega⟩, nI_toInt (by omega)]
  by_cases c : 0 ≤ (x : Int) + a.toInt
  · have := f_between (x := nI x + a) (v := ((x : Int) + a.toInt).toNat) (fun _ => by rw [e]; omega) (by omega)
    rw [this]
    congr 1 <;> omega
  · have l : nI x + a < 0 := by
      rw [Int32.lt_iff_toInt_lt, e, show (0 : Int32).toInt = 0 by decide]
      omega
    have l2 : nI x + a < 999 := Int32.lt_trans l (by decide)
    unfold jmin
    rw [if_pos l2]
    unfold jmax
    rw [if_neg (fun q => Int32.lt_irrefl (Int32.lt_trans l q))]
    rw [show (max 0 (min 999 ((x : Int) + a.toInt))).toNat = 0 by omega]
    rfl
theorem c_lifts (hn : pCn w (2 * i + 1) (sI s) n) (hz : jgi w 5 i 2 = nI z) (h0 : 0 < n) (hs : ∀ k, k < n → s k ≤ 999) (hW : WfP 0 w) {a : Int32} (ha : -999 ≤ a ∧ a ≤ 999) : ∃ w', f_X8_lifts i a w = some (-1, w') ∧ cDone i w w' (dLi s a.toInt) n z (nI (cMin (dLi s a.toInt) n)) := by
  obtain ⟨w1, g, e1, g1, n1, m1⟩ := c_changes (q := 1) (a := a) (b := 1) (t := dLi s a.toInt) hn h0 (fun k w hk => by
    rw [f_Chg_of, if_neg (by decide), if_pos rfl, f_X1_lifted, f_X1_between, jcb_s2, f_lift (hs k hk) ha]
    rfl)
  have hl := c_min m1 h0 (fun k hk => dLi_le)
  have z2 : jgi (jas w1 32 (2 * i + 1) g) 5 i 2 = nI z := by rw [jas_ne (by omega), g1.1 _ _ _ (by unfold KC; omega)]; exact hz
  obtain ⟨w4, e4, d4⟩ := c_done (i := i) (an := nI (cMin (dLi s a.toInt) n)) ((g1.mono fun _ _ _ => KC.d).trans jas_d) m1 z2 (hW.kc g1).as
  refine ⟨w4, ?_, d4⟩
  rw [f_X8_lifts, sp_isIn (l := -999) (h := 999) (by decide) (by decide), if_pos ha, jcb_s2, if_neg n10, jbd_k1 (by decide) (by decide), jlt_eq, e1, jcb_s2, hl, jcb_s2, e4, jcb_s2]
theorem f_scale {x p q : Nat} (hx : x ≤ 999) (hp : p ≤ 99) (hq : 1 ≤ q) (hq9 : q ≤ 99) : nI x * nI p / nI q = nI (x * p / q) ∧ x * p / q < 2 ^ 31 := by
  have h1 : x * p ≤ 999 * 99 := Nat.mul_le_mul hx hp
  have h2 : x * p / q ≤ x * p := Nat.div_le_self _ _
  refine ⟨?_, by omega⟩
  rw [nI_mul, nI_div (by omega) (by omega) (by omega)]
theorem c_scales (hn : pCn w (2 * i + 1) (sI s) n) (hz : jgi w 5 i 2 = nI z) (h0 : 0 < n) (hs : ∀ k, k < n → s k ≤ 999) (hW : WfP 0 w) {p q : Nat} (hp : p < 100) (hq : 1 ≤ q) (hq9 : q ≤ 99) : ∃ w', f_X8_scales i (nI p) (nI q) w = some (-1, w') ∧ cDone i w w' (dSc s p q) n z (nI (cMax (dSc s p q) n)) := by
  obtain ⟨w1, g, e1, g1, n1, m1⟩ := c_changes (q := 2) (a := nI p) (b := nI q) (t := dSc s p q) hn h0 (fun k w hk => by
    obtain ⟨f1, f2⟩ := f_scale (hs k hk) (show p ≤ 99 by omega) hq hq9
    rw [f_Chg_of, if_neg (by decide), if_neg (by decide), if_pos rfl, f_X1_lambda_new_1, if_neg (nI_ne0 (by omega) (by omega)), f_X1_between, jcb_s2, f1, f_between (v := s k * p / q) (fun _ => nI_toInt f2) f2]
    rfl)
  have hl := c_max m1 h0 (fun k hk => by show min 999 _ ≤ 999; omega)
  have z2 : jgi (jas w1 32 (2 * i + 1) g) 5 i 2 = nI z := by rw [jas_ne (by omega), g1.1 _ _ _ (by unfold KC; omega)]; exact hz
  obtain ⟨w4, e4, d4⟩ := c_done (i := i) (an := nI (cMax (dSc s p q) n)) ((g1.mono fun _ _ _ => KC.d).trans jas_d) m1 z2 (hW.kc g1).as
  have qc : ((1 : Int32) ≤ nI q ∧ nI q ≤ 99) := ⟨(nI_leI (a := 1) (by decide) (by omega)).mpr hq, (nI_leI (b := 99) (by omega) (by decide)).mpr hq9⟩
  refine ⟨w4, ?_, d4⟩
  rw [f_X8_scales, cIn_T (n := 100) ⟨p, hp, rfl⟩ (by decide) rfl (by decide), jcb_s2, if_neg n10, sp_isIn (l := 1) (h := 99) (by decide) (by decide), if_pos qc, jcb_s2, if_neg n10, jbd_k2 (by decide) (by decide), jlt_eq, e1, jcb_s2, hl, jcb_s2, e4, jcb_s2]
theorem c_setsI (hn : pCn w (2 * i + 1) (sI s) n) (hz : jgi w 5 i 2 = nI z) (hW : WfP 0 w) {p v : Nat} (hp : p < n) (hv : v < 1000) : ∃ w', f_X8_sets i (nI p) (nI v) w = some (-1, w') ∧ cDone i w w' (up s p v) n z (nI (s p)) := by
  have h48 := hn.2.2
  have e : jsi w 32 (2 * i + 1) p (nI v) = jas w 32 (2 * i + 1) (up (jgi w 32 (2 * i + 1)) p (nI v)) := by rw [← jas_set, jas_self]
  obtain ⟨w4, e4, d4⟩ := c_done (i := i) (an := nI (s p)) (w := w) (w' := jsi w 32 (2 * i + 1) p (nI v)) (pSame.jsi (Or.inr (Or.inl ⟨Or.inr rfl, Or.inr rfl⟩))) (pCn_set hn) (by rw [jgi_ne (by omega)]; exact hz) (by rw [e]; exact hW.as)
  refine ⟨w4, ?_, d4⟩
  rw [f_X8_sets, c_isPlace_T hn ⟨p, hp, rfl⟩, jcb_s2, if_neg n10, cIn_T (n := 1000) ⟨v, hv, rfl⟩ (by decide) rfl (by decide), jcb_s2, if_neg n10, jbd_nI (by omega) (by decide), jlt_eq, jbd_nI (by omega) (by decide), jlt_eq, hn.2.1 p hp, sI_e, e4, jcb_s2]
theorem c_hushes (hn : pCn w (2 * i + 1) (sI s) n) (hz : jgi w 5 i 2 = nI z) (hW : WfP 0 w) {v : Nat} (hv : v < 1000) : ∃ w', f_X8_hushes i (nI v) w = some (-1, w') ∧ cDone i w w' s n v (nI z) := by
  obtain ⟨w4, e4, d4⟩ := c_done (i := i) (an := nI z) (w := w) (w' := jsi w 5 i 2 (nI v)) (pSame.jsi (Or.inr (Or.inr ⟨rfl, rfl, Or.inl rfl⟩))) (hn.same (K := fun κ _ _ => κ = 5) (pSame.jsi rfl) (fun k => ⟨by omega, by omega⟩)) jgi_eq (hW.same (K := fun κ _ _ => κ = 5) (pSame.jsi rfl) (fun κ i k a _ b => by unfold KP at a; omega))
  refine ⟨w4, ?_, d4⟩
  rw [f_X8_hushes, cIn_T (n := 1000) ⟨v, hv, rfl⟩ (by decide) rfl (by decide), jcb_s2, if_neg n10, jlt_eq, hz, jlt_eq, e4, jcb_s2]
theorem c_cuts (hn : pCn w (2 * i + 1) (sI s) n) (hz : jgi w 5 i 2 = nI z) (hW : WfP 0 w) {p v : Nat} (hp : p < n) (hv : 1 ≤ v) (hpv : v ≤ n - p) : ∃ w', f_X8_cuts i (nI p) (nI v) w = some (-1, w') ∧ cDone i w w' (dCu s p) v z (nI (n - v)) := by
  have h48 := hn.2.2
  obtain ⟨w1, e1, g1, n1, m1⟩ := c_was hn
  have vc : ((1 : Int32) ≤ nI v ∧ nI v ≤ nI n - nI p) := by
    rw [nI_sub (by omega)]
    exact ⟨(nI_leI (a := 1) (by decide) (by omega)).mpr hv, (nI_leI (by omega) (by omega)).mpr hpv⟩
  have st : ∀ (g : Nat → Int32) (m : Nat), jsi (jsi (jsi (jas w1 32 (2 * i + 1) g) 4 (2 * i + 1) 1 (nI m)) 32 (2 * i + 1) m (nI (s (p + m)))) 4 (2 * i + 1) 1 (nI (m + 1)) = jsi (jas w1 32 (2 * i + 1) (up g m (nI (s (p + m))))) 4 (2 * i + 1) 1 (nI (m + 1)) := fun g m => by
    rw [jas_out (by omega), jas_set, jas_out (by omega), jas_out (by omega)]
    congr 1
    refine Prod.ext (funext fun x => funext fun y => funext fun j => ?_) rfl
    show jgi (jsi (jsi w1 4 (2 * i + 1) 1 (nI m)) 4 (2 * i + 1) 1 (nI (m + 1))) x y j = jgi (jsi w1 4 (2 * i + 1) 1 (nI (m + 1))) x y j
    by_cases c : x = 4 ∧ y = 2 * i + 1 ∧ j = 1
    · obtain ⟨rfl, rfl, rfl⟩ := c
      rw [jgi_eq, jgi_eq]
    · rw [jgi_ne c, jgi_ne c, jgi_ne c]
  have L : ∀ kk : j_St → Option (Int32 × j_St), ∃ g, f_X8_cuts_L55 i (nI p) (nI v) kk jFU (nI p) (jsi w1 4 (2 * i + 1) 1 0) = kk (jsi (jas w1 32 (2 * i + 1) g) 4 (2 * i + 1) 1 (nI v)) ∧ ∀ k, k < v → g k = nI (s (p + k)) := fun kk => by
    refine ⟨pIt (fun m (f : Nat → Int32) => up f m (nI (s (p + m)))) v 0 (jgi w1 32 (2 * i + 1)), ?_, fun k hk => by rw [pIt_fill (G := fun m => nI (s (p + m))), if_pos (by omega)]⟩
    have := pIt_is' (F := fun f m (g : Nat → Int32) => f_X8_cuts_L55 i (nI p) (nI v) kk f (nI (p + m)) (jsi (jas w1 32 (2 * i + 1) g) 4 (2 * i + 1) 1 (nI m))) (step := fun m f => up f m (nI (s (p + m)))) (N := v) (G := fun g => kk (jsi (jas w1 32 (2 * i + 1) g) 4 (2 * i + 1) 1 (nI v))) (fun f m g hm => ?_) (fun f g => ?_) v jFU 0 (jgi w1 32 (2 * i + 1)) (by omega) (jFU_gt (by omega))
    · refine Eq.trans ?_ this
      show _ = f_X8_cuts_L55 i (nI p) (nI v) kk jFU (nI (p + 0)) (jsi (jas w1 32 (2 * i + 1) (jgi w1 32 (2 * i + 1))) 4 (2 * i + 1) 1 (nI 0))
      rw [jas_self]
      rfl
    · have r0 : jgi (jsi (jas w1 32 (2 * i + 1) g) 4 (2 * i + 1) 1 (nI m)) 32 0 (p + m) = nI (s (p + m)) := by
        rw [jgi_ne (by omega), jas_ne (by omega)]
        exact n1.2.1 _ (by omega)
      show f_X8_cuts_L55 i (nI p) (nI v) kk (f + 1) (nI (p + m)) _ = f_X8_cuts_L55 i (nI p) (nI v) kk f (nI (p + (m + 1))) _
      rw [f_X8_cuts_L55, nI_add, if_neg (fun z => by have := (nI_leI (by omega) (by omega)).mp z; omega), jbd_nI (by omega) (by decide), jlt_eq, r0, f_X7_add, jlt_eq, jgi_eq, jbd_nI (by omega) (by decide), jlt_eq, jlt_eq, jgi_ne (by omega), jgi_eq, jlt_eq, nI_1, st, jcb_s2, jlt_eq, nI_1]
      rfl
    · show f_X8_cuts_L55 i (nI p) (nI v) kk (f + 1) (nI (p + v)) _ = _
      rw [f_X8_cuts_L55, nI_add, if_pos ((nI_leI (by omega) (by omega)).mpr (Nat.le_refl _))]
  obtain ⟨g, eL, hg⟩ := L (fun (w29 : j_St) => jlt (jgi w29 4 0 1) fun v32 => jcb (f_X8_done i (v32 - nI v) w29) fun v33 w34 => some (v33, w34))
  have m41 : jgi (jsi (jas w1 32 (2 * i + 1) g) 4 (2 * i + 1) 1 (nI v)) 4 0 1 = nI n := by
    rw [jgi_ne (by omega), jas_ne (by omega)]
    exact n1.1
  have n2 : pCn (jsi (jas w1 32 (2 * i + 1) g) 4 (2 * i + 1) 1 (nI v)) (2 * i + 1) (sI (dCu s p)) v := ⟨jgi_eq, fun k hk => by
    rw [jgi_ne (by omega), jas_get]
    exact hg k hk, by omega⟩
  have z2 : jgi (jsi (jas w1 32 (2 * i + 1) g) 4 (2 * i + 1) 1 (nI v)) 5 i 2 = nI z := by rw [jgi_ne (by omega), jas_ne (by omega), g1.1 _ _ _ (by unfold KC; omega)]; exact hz
  obtain ⟨w4, e4, d4⟩ := c_done (i := i) (an := nI (n - v)) (((g1.mono fun _ _ _ => KC.d).trans jas_d).trans (pSame.jsi (Or.inr (Or.inl ⟨Or.inl rfl, Or.inr rfl⟩)))) n2 z2 ((hW.kc g1).as.same (K := fun κ _ _ => κ = 4) (pSame.jsi rfl) (fun κ i k a _ b => by unfold KP at a; omega))
  refine ⟨w4, ?_, d4⟩
  rw [f_X8_cuts, c_isPlace_T hn ⟨p, hp, rfl⟩, jcb_s2, if_neg n10, jlt_eq, hn.1, sp_isIn (l := 1) (h := nI n - nI p) (by decide) rfl, if_pos vc, jcb_s2, if_neg n10, e1, jcb_s2, jlt_eq, eL, jlt_eq, m41, nI_sub (by omega), e4, jcb_s2]
end CDEED
