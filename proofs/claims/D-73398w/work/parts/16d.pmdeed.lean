/-! the pure law: the model's deeds -/
section MDEED
variable {w w' w1 : j_St} {s : Nat → Nat} {n z : Nat} {lp : Nat → Int32} {ln : Nat} {rc : Int32}
theorem fill_loop2 {β : Type} {L : Nat → Int32 → j_St → β} {kk : j_St → β} {κ i0 N : Nat} {G : Nat → Int32} (h1 : ∀ f m g, m < N → (∀ k, m ≤ k → g k = jgi w κ i0 k) → L (f + 1) (nI m) (jas w κ i0 g) = L f (nI (m + 1)) (jas w κ i0 (up g m (G m)))) (h2 : ∀ f g, (∀ k, N ≤ k → g k = jgi w κ i0 k) → L (f + 1) (nI N) (jas w κ i0 g) = kk (jas w κ i0 g)) (hN : N < 19999) : ∃ g, L jFU 0 w = kk (jas w κ i0 g) ∧ ∀ k, g k = if k < N then G k else jgi w κ i0 k := by
  refine ⟨pIt (fun m (f : Nat → Int32) => up f m (G m)) N 0 (jgi w κ i0), ?_, fun k => by
    rw [pIt_fill]
    by_cases c : k < N
    · rw [if_pos (by omega), if_pos c]
    · rw [if_neg (by omega), if_neg c]⟩
  have := pIt_is (F := fun f m (g : Nat → Int32) => L f (nI m) (jas w κ i0 g)) (step := fun m f => up f m (G m)) (I := fun m g => ∀ k, m ≤ k → g k = jgi w κ i0 k) (N := N) (G := fun g => kk (jas w κ i0 g)) (fun f m g hm hI => h1 f m g hm hI) (fun m g hm hI k hk => by rw [up_ne (by omega)]; exact hI k (by omega)) (fun f g hI => h2 f g hI) N jFU 0 (jgi w κ i0) (by omega) (jFU_gt (by omega)) (fun k _ => rfl)
  refine Eq.trans ?_ this
  show L jFU 0 w = L jFU (nI 0) (jas w κ i0 (jgi w κ i0))
  rw [jas_self]
  rfl
def KMD (κ i k : Nat) : Prop := KA κ i k ∨ ((κ = 61 ∨ κ = 47) ∧ i = 0)
def mDone (w w' : j_St) (s : Nat → Nat) (n z : Nat) : Prop := pSame KMD w w' ∧ pMn w' (sI s) n (nI z) ∧ (∀ k, 50 ≤ k → jgi w' 47 0 k = jgi w 47 0 k) ∧ WfA w'
theorem m_many48 (h : jgi w 47 0 48 = nI n) : f_X9_many w = some (nI n, w) := by
  rw [f_X9_many, jbd_k48 (by decide) (by decide), jlt_eq, h]
theorem m_was (hn : pMn w (sI s) n (nI z)) : ∃ g, f_X9_keepWas w = some ((), jas w 61 0 g) ∧ ∀ k, k < n → g k = nI (s k) := by
  have h48 := hn.2.2.2
  obtain ⟨g, e, hg⟩ := fill_loop (w := w) (κ := 61) (i0 := 0) (N := 48) (G := fun k => jgi w 47 0 k) (L := fun f v w => f_X9_keepWas_L2 f v w) (kk := fun w => some ((), w)) (fun f m g hm _ => by
      show f_X9_keepWas_L2 (f + 1) (nI m) _ = _
      rw [f_X9_keepWas_L2, if_neg (show ¬ (48 : Int32) ≤ nI m from fun z => by have := (nI_leI (a := 48) (b := m) (by omega) (by omega)).mp z; omega), jbd_nI (by omega) (by decide), jlt_eq, jas_ne (by omega), jbd_nI (by omega) (by decide), jlt_eq, jas_set, jlt_eq, nI_1]) (fun f g => by
      show f_X9_keepWas_L2 (f + 1) (nI 48) _ = _
      rw [f_X9_keepWas_L2, if_pos (by decide)]) (by omega)
  exact ⟨g, e, fun k hk => by rw [hg k, if_pos (by omega)]; exact hn.2.2.1 k hk⟩
theorem K61 {g : Nat → Int32} : pSame (fun κ i _ => κ = 61 ∧ i = 0) w (jas w 61 0 g) := jas_same fun _ => ⟨rfl, rfl⟩
theorem K47 {g : Nat → Int32} : pSame (fun κ i _ => κ = 47 ∧ i = 0) w (jas w 47 0 g) := jas_same fun _ => ⟨rfl, rfl⟩
theorem pMn_fill {t : Nat → Nat} {g : Nat → Int32} (hn : pMn w (sI s) n (nI z)) (hg : ∀ k, g k = if k < n then nI (t k) else jgi w 47 0 k) : pMn (jas w 47 0 g) (sI t) n (nI z) ∧ ∀ k, 50 ≤ k → jgi (jas w 47 0 g) 47 0 k = jgi w 47 0 k := by
  obtain ⟨h1, h2, h3, h4⟩ := hn
  refine ⟨⟨?_, ?_, fun k hk => ?_, h4⟩, fun k hk => ?_⟩
  · rw [jas_get, hg, if_neg (by omega)]; exact h1
  · rw [jas_get, hg, if_neg (by omega)]; exact h2
  · rw [jas_get, hg, if_pos hk]; rfl
  · rw [jas_get, hg, if_neg (by omega)]
theorem WfA.as {κ : Nat} {g : Nat → Int32} (h : WfA w) (hk : κ = 61 ∨ κ = 47) : WfA (jas w κ 0 g) := h.same (K := fun κ i _ => (κ = 61 ∨ κ = 47) ∧ i = 0) (jas_same fun _ => ⟨hk, rfl⟩) (fun κ i k a b => by unfold KA at a; omega)
theorem pLn.as {κ : Nat} {g : Nat → Int32} (h : pLn w lp ln rc) (hk : κ = 61 ∨ κ = 47) : pLn (jas w κ 0 g) lp ln rc := h.same (K := fun κ i _ => (κ = 61 ∨ κ = 47) ∧ i = 0) (jas_same fun _ => ⟨hk, rfl⟩) (fun k => by omega) ⟨by omega, by omega⟩
theorem pMn_61 {g : Nat → Int32} (h : pMn w (sI s) n (nI z)) : pMn (jas w 61 0 g) (sI s) n (nI z) := h.same K61 (fun k => by omega)
/-- a row is filled: what holds then -/
theorem mDone_fill {t : Nat → Nat} {g g' : Nat → Int32} (hn : pMn w (sI s) n (nI z)) (hA : WfA w) (hg : ∀ k, g' k = if k < n then nI (t k) else jgi (jas w 61 0 g) 47 0 k) : mDone w (jas (jas w 61 0 g) 47 0 g') t n z := by
  obtain ⟨a1, a2⟩ := pMn_fill (pMn_61 (g := g) hn) hg
  refine ⟨(K61.mono fun κ i k y => Or.inr ⟨Or.inl y.1, y.2⟩).trans (K47.mono fun κ i k y => Or.inr ⟨Or.inr y.1, y.2⟩), a1, fun k hk => ?_, (hA.as (Or.inl rfl)).as (Or.inr rfl)⟩
  rw [a2 k hk, jas_ne (by omega)]
theorem mDone_fill0 {t : Nat → Nat} {g' : Nat → Int32} (hn : pMn w (sI s) n (nI z)) (hA : WfA w) (hg : ∀ k, g' k = if k < n then nI (t k) else jgi w 47 0 k) : mDone w (jas w 47 0 g') t n z := by
  obtain ⟨a1, a2⟩ := pMn_fill hn hg
  exact ⟨K47.mono fun κ i k y => Or.inr ⟨Or.inr y.1, y.2⟩, a1, a2, hA.as (Or.inr rfl)⟩
theorem m_blends (hn : pMn w (sI s) n (nI z)) (hA : WfA w) (h0 : 0 < n) (hs : ∀ k, k < n → s k ≤ 999) {q : Nat} (hq : q < 2) : ∃ w', f_X9_blends (nI q) w = some ((), w') ∧ mDone w w' (if q = 0 then dSm s n else dMe s n) n z := by
  have h48 := hn.2.2.2
  obtain ⟨g61, e1, h61⟩ := m_was hn
  have m48 : ∀ (g : Nat → Int32), g 48 = jgi (jas w 61 0 g61) 47 0 48 → f_X9_many (jas (jas w 61 0 g61) 47 0 g) = some (nI n, jas (jas w 61 0 g61) 47 0 g) := fun g hg => m_many48 (by rw [jas_get, hg, jas_ne (by omega)]; exact hn.1)
  have r61 : ∀ g k, k < n → jgi (jas (jas w 61 0 g61) 47 0 g) 61 0 k = nI (s k) := fun g k hk => by rw [jas_ne (by omega), jas_get]; exact h61 k hk
  obtain ⟨g, eL, hg⟩ := fill_loop2 (w := jas w 61 0 g61) (κ := 47) (i0 := 0) (N := n) (G := fun k => nI ((if q = 0 then dSm s n else dMe s n) k)) (L := fun f v w => f_X9_blends_L6 (nI q) f v w) (kk := fun w => some ((), w)) (fun f m g hm hI => by
      have b1 := hs (m - 1) (by omega)
      have b2 := hs m hm
      have b3 := hs (min (n - 1) (m + 1)) (by omega)
      have i1 : jmax 0 (nI m - 1) = nI (m - 1) := by
        by_cases c : m = 0
        · subst c; rfl
        · rw [nI_m1 (by omega), show (0 : Int32) = nI 0 from rfl, jmax_nI (by omega) (by omega)]
          congr 1 <;> omega
      have i2 : jmin (nI n - 1) (nI m + 1) = nI (min (n - 1) (m + 1)) := by rw [nI_m1 (by omega), nI_1, jmin_nI (by omega) (by omega)]
      show f_X9_blends_L6 (nI q) (f + 1) (nI m) _ = _
      rw [f_X9_blends_L6, m48 g (hI 48 (by omega)), jcb_s2, if_neg (fun z => by have := (nI_leI (by omega) (by omega)).mp z; omega), i1, jbd_nI (by omega) (by decide), jlt_eq, r61 g _ (by omega), m48 g (hI 48 (by omega)), jcb_s2, i2, jbd_nI (by omega) (by decide), jlt_eq, r61 g _ (by omega), jlt_eq]
      rcases (show q = 0 ∨ q = 1 by omega) with rfl | rfl
      · obtain ⟨f1, f2⟩ := f_quarter b1 b2 b3
        rw [if_pos (by decide), jbd_nI (by omega) (by decide), jlt_eq, r61 g _ hm, f1, f2]
        dsimp only
        rw [jbd_nI (by omega) (by decide), jlt_eq, jas_set, jlt_eq, nI_1, if_pos rfl]
        rfl
      · rw [if_neg (by decide), jbd_nI (by omega) (by decide), jlt_eq, r61 g _ hm, f_X9_middle, jcb_s2, f_mid b1 b2 b3]
        dsimp only
        rw [jbd_nI (by omega) (by decide), jlt_eq, jas_set, jlt_eq, nI_1, if_neg (by decide)]
        rfl) (fun f g hI => by
      show f_X9_blends_L6 (nI q) (f + 1) (nI n) _ = _
      rw [f_X9_blends_L6, m48 g (hI 48 (by omega)), jcb_s2, if_pos ((nI_leI (by omega) (by omega)).mpr (Nat.le_refl _))]) (by omega)
  exact ⟨_, by rw [f_X9_blends, e1, jcb_s2, eL], mDone_fill hn hA hg⟩
theorem m_fell {t : Nat → Nat} (hn : pMn w (sI t) n (nI z)) (h61 : ∀ k, k < n → jgi w 61 0 k = nI (s k)) (hs : ∀ k, k < n → s k ≤ 999) (ht : ∀ k, k < n → t k ≤ 999) : f_X9_fell w = some (nI (dFe s t n), w) := by
  have h48 := hn.2.2.2
  refine pIt_is' (F := fun f m x => f_X9_fell_L4 f (nI x) (nI m) w) (step := fun m x => x + if t m < s m then 1 else 0) (N := n) (G := fun x => some (nI x, w)) (fun f m x hm => ?_) (fun f x => ?_) n jFU 0 0 (by omega) (jFU_gt (by omega))
  · have b1 := hs m hm
    have b2 := ht m hm
    have z0 : nI x + 0 = nI (x + 0) := nI_add x 0
    show f_X9_fell_L4 (f + 1) (nI x) (nI m) w = f_X9_fell_L4 f (nI (x + if t m < s m then 1 else 0)) (nI (m + 1)) w
    rw [f_X9_fell_L4, sp_many hn, jcb_s2]
    by_cases c : t m < s m
    · simp (disch := omega) only [↓jlt_e2, le_F, if_false, jbd_nI, hn.2.2.1 m hm, h61 m hm, sI_e, c, if_true, nI_1]
    · simp (disch := omega) only [↓jlt_e2, le_F, le_T, if_false, jbd_nI, hn.2.2.1 m hm, h61 m hm, sI_e, c, if_true, nI_1, z0]
  · show f_X9_fell_L4 (f + 1) (nI x) (nI n) w = _
    rw [f_X9_fell_L4, sp_many hn, jcb_s2, if_pos ((nI_leI (by omega) (by omega)).mpr (Nat.le_refl _))]
theorem m_turns (hn : pMn w (sI s) n (nI z)) (hA : WfA w) (h0 : 0 < n) : ∃ w', f_X9_turns w = some (nI (dTu s n 0), w') ∧ mDone w w' (dTu s n) n z := by
  have h48 := hn.2.2.2
  obtain ⟨g61, e1, h61⟩ := m_was hn
  have m48 : ∀ (g : Nat → Int32), g 48 = jgi (jas w 61 0 g61) 47 0 48 → f_X9_many (jas (jas w 61 0 g61) 47 0 g) = some (nI n, jas (jas w 61 0 g61) 47 0 g) := fun g hg => m_many48 (by rw [jas_get, hg, jas_ne (by omega)]; exact hn.1)
  have r61 : ∀ g k, k < n → jgi (jas (jas w 61 0 g61) 47 0 g) 61 0 k = nI (s k) := fun g k hk => by rw [jas_ne (by omega), jas_get]; exact h61 k hk
  obtain ⟨g, eL, hg⟩ := fill_loop2 (w := jas w 61 0 g61) (κ := 47) (i0 := 0) (N := n) (G := fun k => nI (dTu s n k)) (L := fun f v w => f_X9_turns_L6 (fun (w19 : j_St) => jbd 0 231 fun a21 => jlt (jgi w19 47 0 a21) fun v22 => some (v22, w19)) f v w) (kk := fun (w19 : j_St) => jbd 0 231 fun a21 => jlt (jgi w19 47 0 a21) fun v22 => some (v22, w19)) (fun f m g hm hI => by
      show f_X9_turns_L6 _ (f + 1) (nI m) _ = _
      rw [f_X9_turns_L6, m48 g (hI 48 (by omega)), jcb_s2, if_neg (fun z => by have := (nI_leI (by omega) (by omega)).mp z; omega), m48 g (hI 48 (by omega)), jcb_s2, nI_m1 (by omega), nI_sub (by omega), jbd_nI (by omega) (by decide), jlt_eq, r61 g _ (by omega), jbd_nI (by omega) (by decide), jlt_eq, jas_set, jlt_eq, nI_1]
      rfl) (fun f g hI => by
      show f_X9_turns_L6 _ (f + 1) (nI n) _ = _
      rw [f_X9_turns_L6, m48 g (hI 48 (by omega)), jcb_s2, if_pos ((nI_leI (by omega) (by omega)).mpr (Nat.le_refl _))]) (by omega)
  have d := mDone_fill (t := dTu s n) hn hA hg
  refine ⟨_, ?_, d⟩
  rw [f_X9_turns, e1, jcb_s2, eL, jbd_k0 (by decide) (by decide), jlt_eq, d.2.1.2.2.1 0 h0]
  rfl
theorem m_clips (hn : pMn w (sI s) n (nI z)) (hA : WfA w) (hs : ∀ k, k < n → s k ≤ 999) {c : Nat} (hc : c < 1000) : ∃ w', f_X9_clips (nI c) w = some (nI (dFe s (dCl s c) n), w') ∧ mDone w w' (dCl s c) n z := by
  have h48 := hn.2.2.2
  obtain ⟨g61, e1, h61⟩ := m_was hn
  have m48 : ∀ (g : Nat → Int32), g 48 = jgi (jas w 61 0 g61) 47 0 48 → f_X9_many (jas (jas w 61 0 g61) 47 0 g) = some (nI n, jas (jas w 61 0 g61) 47 0 g) := fun g hg => m_many48 (by rw [jas_get, hg, jas_ne (by omega)]; exact hn.1)
  obtain ⟨g, eL, hg⟩ := fill_loop2 (w := jas w 61 0 g61) (κ := 47) (i0 := 0) (N := n) (G := fun k => nI (dCl s c k)) (L := fun f v w => f_X9_clips_L6 (nI c) (fun (w16 : j_St) => jcb (f_X9_fell w16) fun v17 w18 => some (v17, w18)) f v w) (kk := fun (w16 : j_St) => jcb (f_X9_fell w16) fun v17 w18 => some (v17, w18)) (fun f m g hm hI => by
      have b1 := hs m hm
      have gm : g m = nI (s m) := by rw [hI m (Nat.le_refl _), jas_ne (by omega)]; exact hn.2.2.1 m hm
      show f_X9_clips_L6 (nI c) _ (f + 1) (nI m) _ = _
      rw [f_X9_clips_L6, m48 g (hI 48 (by omega)), jcb_s2, if_neg (fun z => by have := (nI_leI (by omega) (by omega)).mp z; omega), jbd_nI (by omega) (by decide), jlt_eq, jas_get, gm, jmin_nI (by omega) (by omega), jbd_nI (by omega) (by decide), jlt_eq, jas_set, jlt_eq, nI_1]
      rfl) (fun f g hI => by
      show f_X9_clips_L6 (nI c) _ (f + 1) (nI n) _ = _
      rw [f_X9_clips_L6, m48 g (hI 48 (by omega)), jcb_s2, if_pos ((nI_leI (by omega) (by omega)).mpr (Nat.le_refl _))]) (by omega)
  have d := mDone_fill (t := dCl s c) hn hA hg
  refine ⟨_, ?_, d⟩
  rw [f_X9_clips, e1, jcb_s2, eL, m_fell d.2.1 (fun k hk => by rw [jas_ne (by omega), jas_get]; exact h61 k hk) hs (fun k hk => by have := hs k hk; show min (s k) c ≤ 999; omega), jcb_s2]
theorem m_lifts (hn : pMn w (sI s) n (nI z)) (hA : WfA w) (h0 : 0 < n) (hs : ∀ k, k < n → s k ≤ 999) {a : Int32} (ha : -999 ≤ a ∧ a ≤ 999) : ∃ w', f_X9_lifts a w = some (nI (cMin (dLi s a.toInt) n), w') ∧ mDone w w' (dLi s a.toInt) n z := by
  have h48 := hn.2.2.2
  have m48 : ∀ (g : Nat → Int32), g 48 = jgi w 47 0 48 → f_X9_many (jas w 47 0 g) = some (nI n, jas w 47 0 g) := fun g hg => m_many48 (by rw [jas_get, hg]; exact hn.1)
  obtain ⟨g, eL, hg⟩ := fill_loop2 (w := w) (κ := 47) (i0 := 0) (N := n) (G := fun k => nI (dLi s a.toInt k)) (L := fun f v w => f_X9_lifts_L2 a (fun (w13 : j_St) => jcb (f_X9_least w13) fun v14 w15 => some (v14, w15)) f v w) (kk := fun (w13 : j_St) => jcb (f_X9_least w13) fun v14 w15 => some (v14, w15)) (fun f m g hm hI => by
      have b1 := hs m hm
      have gm : g m = nI (s m) := by rw [hI m (Nat.le_refl _)]; exact hn.2.2.1 m hm
      show f_X9_lifts_L2 a _ (f + 1) (nI m) _ = _
      rw [f_X9_lifts_L2, m48 g (hI 48 (by omega)), jcb_s2, if_neg (fun z => by have := (nI_leI (by omega) (by omega)).mp z; omega), jbd_nI (by omega) (by decide), jlt_eq, jas_get, gm, f_lift b1 ha, jbd_nI (by omega) (by decide), jlt_eq, jas_set, jlt_eq, nI_1]
      rfl) (fun f g hI => by
      show f_X9_lifts_L2 a _ (f + 1) (nI n) _ = _
      rw [f_X9_lifts_L2, m48 g (hI 48 (by omega)), jcb_s2, if_pos ((nI_leI (by omega) (by omega)).mpr (Nat.le_refl _))]) (by omega)
  have d := mDone_fill0 (t := dLi s a.toInt) hn hA hg
  refine ⟨_, ?_, d⟩
  rw [f_X9_lifts, eL, m_min d.2.1 h0 (fun k hk => dLi_le), jcb_s2]
theorem m_scales (hn : pMn w (sI s) n (nI z)) (hA : WfA w) (h0 : 0 < n) (hs : ∀ k, k < n → s k ≤ 999) {p q : Nat} (hp : p < 100) (hq : 1 ≤ q) (hq9 : q ≤ 99) : ∃ w', f_X9_scales (nI p) (nI q) w = some (nI (cMax (dSc s p q) n), w') ∧ mDone w w' (dSc s p q) n z := by
  have h48 := hn.2.2.2
  have m48 : ∀ (g : Nat → Int32), g 48 = jgi w 47 0 48 → f_X9_many (jas w 47 0 g) = some (nI n, jas w 47 0 g) := fun g hg => m_many48 (by rw [jas_get, hg]; exact hn.1)
  obtain ⟨g, eL, hg⟩ := fill_loop2 (w := w) (κ := 47) (i0 := 0) (N := n) (G := fun k => nI (dSc s p q k)) (L := fun f v w => f_X9_scales_L2 (nI p) (nI q) (fun (w13 : j_St) => jcb (f_X9_greatest w13) fun v14 w15 => some (v14, w15)) f v w) (kk := fun (w13 : j_St) => jcb (f_X9_greatest w13) fun v14 w15 => some (v14, w15)) (fun f m g hm hI => by
      have b1 := hs m hm
      have gm : g m = nI (s m) := by rw [hI m (Nat.le_refl _)]; exact hn.2.2.1 m hm
      obtain ⟨f1, f2⟩ := f_scale b1 (show p ≤ 99 by omega) hq hq9
      show f_X9_scales_L2 (nI p) (nI q) _ (f + 1) (nI m) _ = _
      rw [f_X9_scales_L2, m48 g (hI 48 (by omega)), jcb_s2, if_neg (fun z => by have := (nI_leI (by omega) (by omega)).mp z; omega), jbd_nI (by omega) (by decide), jlt_eq, jas_get, gm, if_neg (nI_ne0 (by omega) (by omega)), f1, show (999 : Int32) = nI 999 from rfl, jmin_nI (by decide) f2, jbd_nI (by omega) (by decide), jlt_eq, jas_set, jlt_eq, nI_1]
      rfl) (fun f g hI => by
      show f_X9_scales_L2 (nI p) (nI q) _ (f + 1) (nI n) _ = _
      rw [f_X9_scales_L2, m48 g (hI 48 (by omega)), jcb_s2, if_pos ((nI_leI (by omega) (by omega)).mpr (Nat.le_refl _))]) (by omega)
  have d := mDone_fill0 (t := dSc s p q) hn hA hg
  refine ⟨_, ?_, d⟩
  rw [f_X9_scales, eL, m_max d.2.1 (fun k hk => by show min 999 _ ≤ 999; omega), jcb_s2]
theorem m_setsD (hn : pMn w (sI s) n (nI z)) (hA : WfA w) {p v : Nat} (hp : p < n) : ∃ w', f_X9_sets (nI p) (nI v) w = some (nI (s p), w') ∧ mDone w w' (up s p v) n z := by
  have h48 := hn.2.2.2
  refine ⟨jsi w 47 0 p (nI v), ?_, pSame.jsi (Or.inr ⟨Or.inr rfl, rfl⟩), pMn_set hn hp, fun k hk => jgi_ne (by omega), hA.same (K := fun κ i _ => κ = 47 ∧ i = 0) (pSame.jsi ⟨rfl, rfl⟩) (fun κ i k a b => by unfold KA at a; omega)⟩
  rw [f_X9_sets, jbd_nI (by omega) (by decide), jlt_eq, jbd_nI (by omega) (by decide), jlt_eq, hn.2.2.1 p hp]
  rfl
theorem m_cuts (hn : pMn w (sI s) n (nI z)) (hA : WfA w) {p v : Nat} (hp : p < n) (hv : 1 ≤ v) (hpv : v ≤ n - p) : ∃ w', f_X9_cuts (nI p) (nI v) w = some (nI (n - v), w') ∧ mDone w w' (dCu s p) v z := by
  have h48 := hn.2.2.2
  obtain ⟨g61, e1, h61⟩ := m_was hn
  have r61 : ∀ g k, k < n → jgi (jas (jas w 61 0 g61) 47 0 g) 61 0 k = nI (s k) := fun g k hk => by rw [jas_ne (by omega), jas_get]; exact h61 k hk
  obtain ⟨g, eL, hg⟩ := fill_loop2 (w := jas w 61 0 g61) (κ := 47) (i0 := 0) (N := 48) (G := fun k => if k < v then nI (dCu s p k) else 0) (L := fun f u w => f_X9_cuts_L6 (nI p) (nI v) (fun (w15 : j_St) => jcb (f_X9_many w15) fun v16 w17 => jlt (v16 - nI v) fun v19 => jbd 48 231 fun a22 => jlt (jsi w17 47 0 a22 (nI v)) fun w21 => some (v19, w21)) f u w) (kk := fun (w15 : j_St) => jcb (f_X9_many w15) fun v16 w17 => jlt (v16 - nI v) fun v19 => jbd 48 231 fun a22 => jlt (jsi w17 47 0 a22 (nI v)) fun w21 => some (v19, w21)) (fun f m g hm hI => by
      show f_X9_cuts_L6 (nI p) (nI v) _ (f + 1) (nI m) _ = _
      rw [f_X9_cuts_L6, if_neg (show ¬ (48 : Int32) ≤ nI m from fun z => by have := (nI_leI (a := 48) (b := m) (by omega) (by omega)).mp z; omega), jlt_eq]
      by_cases c : m < v
      · rw [if_neg (fun z => by have := (nI_leI (by omega) (by omega)).mp z; omega), nI_add, jbd_nI (by omega) (by decide), jlt_eq, r61 g _ (by omega)]
        dsimp only
        rw [jbd_nI (by omega) (by decide), jlt_eq, jas_set, jlt_eq, nI_1, if_pos c]
        rfl
      · rw [if_pos ((nI_leI (by omega) (by omega)).mpr (by omega))]
        dsimp only
        rw [jbd_nI (by omega) (by decide), jlt_eq, jas_set, jlt_eq, nI_1, if_neg c]) (fun f g hI => by
      show f_X9_cuts_L6 (nI p) (nI v) _ (f + 1) (nI 48) _ = _
      rw [f_X9_cuts_L6, if_pos (by decide)]) (by omega)
  have g48 : g 48 = nI n := by rw [hg 48, if_neg (by decide), jas_ne (by omega)]; exact hn.1
  refine ⟨jsi (jas (jas w 61 0 g61) 47 0 g) 47 0 48 (nI v), ?_, ((K61.mono fun κ i k y => Or.inr ⟨Or.inl y.1, y.2⟩).trans (K47.mono fun κ i k y => Or.inr ⟨Or.inr y.1, y.2⟩)).trans (pSame.jsi (Or.inr ⟨Or.inr rfl, rfl⟩)), ⟨jgi_eq, ?_, fun k hk => ?_, by omega⟩, fun k hk => ?_, ((hA.as (Or.inl rfl)).as (Or.inr rfl)).same (K := fun κ i _ => κ = 47 ∧ i = 0) (pSame.jsi ⟨rfl, rfl⟩) (fun κ i k a b => by unfold KA at a; omega)⟩
  · rw [f_X9_cuts, e1, jcb_s2, eL, m_many48 (n := n) (by rw [jas_get]; exact g48), jcb_s2, jlt_eq, jbd_k48 (by decide) (by decide), jlt_eq, nI_sub (by omega)]
  · rw [jgi_ne (by omega), jas_get, hg, if_neg (by decide), jas_ne (by omega)]
    exact hn.2.1
  · rw [jgi_ne (by omega), jas_get, hg, if_pos (by omega), if_pos hk]
    rfl
  · rw [jgi_ne (by omega), jas_get, hg, if_neg (by omega), jas_ne (by omega)]
/-! flat -/
theorem m_flat_from {low P : Nat} (hP : P < n) (hn48 : n ≤ 48) (hlow : low ≤ 999) (h61 : ∀ k, k < n → jgi w 61 0 k = nI (s k)) (hs : ∀ k, k < n → s k ≤ 999) {kk : Int32 → j_St → Option (Int32 × j_St)} : ∀ (c f m : Nat), m + c = P → c < f → f_X9_flattens_L45 (nI low) kk f (nI (P - m)) w = kk (nI (P - (m + pCnt (fun j => decide (low < s (P - 1 - j))) c m))) w := by
  intro c
  induction c with
  | zero =>
    intro f m hm hf
    obtain ⟨f, rfl⟩ : ∃ f', f = f' + 1 := ⟨f - 1, by omega⟩
    rw [show P - m = 0 by omega, f_X9_flattens_L45, if_pos (by decide)]
    show kk (nI 0) w = kk (nI (P - (m + 0))) w
    rw [show P - (m + 0) = 0 by omega]
  | succ c ih =>
    intro f m hm hf
    obtain ⟨f, rfl⟩ : ∃ f', f = f' + 1 := ⟨f - 1, by omega⟩
    have b1 := hs (P - 1 - m) (by omega)
    rw [f_X9_flattens_L45, if_neg (nI_nle (by omega) (by omega)), nI_m1 (by omega), show P - m - 1 = P - 1 - m by omega, jbd_nI (by omega) (by decide), jlt_eq, h61 _ (by omega)]
    by_cases hc : low < s (P - 1 - m)
    · rw [if_neg (fun z => by have := (nI_leI (by omega) (by omega)).mp z; omega), jlt_eq, nI_m1' (by omega), show P - m - 1 = P - (m + 1) by omega, ih f (m + 1) (by omega) (by omega), pCnt, if_pos (by simpa using hc)]
      congr 2
      omega
    · rw [if_pos ((nI_leI (by omega) (by omega)).mpr (by omega)), pCnt, if_neg (by simpa using hc)]
      rfl
theorem m_flat_to {low : Nat} (hn48 : n ≤ 48) (hlow : low ≤ 999) (hm : jgi w 47 0 48 = nI n) (h61 : ∀ k, k < n → jgi w 61 0 k = nI (s k)) (hs : ∀ k, k < n → s k ≤ 999) {kk : Int32 → j_St → Option (Int32 × j_St)} : ∀ (c f q : Nat), q + 1 + c = n → c < f → f_X9_flattens_L69 (nI low) kk f (nI q) w = kk (nI (q + pCnt (fun j => decide (low < s j)) c (q + 1))) w := by
  intro c
  induction c with
  | zero =>
    intro f q hq hf
    obtain ⟨f, rfl⟩ : ∃ f', f = f' + 1 := ⟨f - 1, by omega⟩
    rw [f_X9_flattens_L69, m_many48 hm, jcb_s2, nI_m1 (by omega), if_pos ((nI_leI (by omega) (by omega)).mpr (by omega))]
    rfl
  | succ c ih =>
    intro f q hq hf
    obtain ⟨f, rfl⟩ : ∃ f', f = f' + 1 := ⟨f - 1, by omega⟩
    have b1 := hs (q + 1) (by omega)
    rw [f_X9_flattens_L69, m_many48 hm, jcb_s2, nI_m1 (by omega), if_neg (fun z => by have := (nI_leI (by omega) (by omega)).mp z; omega), nI_1, jbd_nI (by omega) (by decide), jlt_eq, h61 _ (by omega)]
    by_cases hc : low < s (q + 1)
    · rw [if_neg (fun z => by have := (nI_leI (by omega) (by omega)).mp z; omega), jlt_eq, ih f (q + 1) (by omega) (by omega), pCnt, if_pos (by simpa using hc)]
      congr 2
      omega
    · rw [if_pos ((nI_leI (by omega) (by omega)).mpr (by omega)), pCnt, if_neg (by simpa using hc)]
      rfl
theorem m_flat_do {low to : Nat} (hn48 : n ≤ 48) (hto : to < n) (hlow : low ≤ 999) (h61 : ∀ k, k < n → jgi w 61 0 k = nI (s k)) (hs : ∀ k, k < n → s k ≤ 999) {kk : j_St → Option (Int32 × j_St)} : ∀ (c f m : Nat) (g : Nat → Int32), m + c = to + 1 → c < f → ∃ g', f_X9_flattens_L103 (nI low) (nI to) kk f (nI m) (jas w 47 0 g) = kk (jas w 47 0 g') ∧ ∀ q, g' q = if m ≤ q ∧ q ≤ to ∧ low < s q then jmin (g q) (nI low) else g q := by
  intro c
  induction c with
  | zero =>
    intro f m g hm hf
    obtain ⟨f, rfl⟩ : ∃ f', f = f' + 1 := ⟨f - 1, by omega⟩
    refine ⟨g, ?_, fun q => by rw [if_neg (by omega)]⟩
    rw [f_X9_flattens_L103, if_pos ((nI_ltI (by omega) (by omega)).mpr (by omega))]
  | succ c ih =>
    intro f m g hm hf
    obtain ⟨f, rfl⟩ : ∃ f', f = f' + 1 := ⟨f - 1, by omega⟩
    have b1 := hs m (by omega)
    have r61 : jgi (jas w 47 0 g) 61 0 m = nI (s m) := by rw [jas_ne (by omega)]; exact h61 m (by omega)
    by_cases hc : low < s m
    · obtain ⟨g', e', hg'⟩ := ih f (m + 1) (up g m (jmin (g m) (nI low))) (by omega) (by omega)
      refine ⟨g', ?_, fun q => ?_⟩
      · rw [← e', f_X9_flattens_L103, if_neg (fun z => by have := (nI_ltI (by omega) (by omega)).mp z; omega), jbd_nI (by omega) (by decide), jlt_eq, r61, jlt_eq, if_neg (fun z => by have := (nI_leI (by omega) (by omega)).mp z; omega), jbd_nI (by omega) (by decide), jlt_eq, jas_get]
        dsimp only
        rw [jbd_nI (by omega) (by decide), jlt_eq, jas_set, jlt_eq, nI_1]
      · rw [hg' q]
        by_cases e : q = m
        · subst e
          rw [up_same, if_neg (by omega), if_pos (by omega)]
        · rw [up_ne e]
          by_cases c1 : m + 1 ≤ q ∧ q ≤ to ∧ low < s q
          · rw [if_pos c1, if_pos (by omega)]
          · rw [if_neg c1, if_neg (by omega)]
    · obtain ⟨g', e', hg'⟩ := ih f (m + 1) (up g m (g m)) (by omega) (by omega)
      refine ⟨g', ?_, fun q => ?_⟩
      · rw [← e', f_X9_flattens_L103, if_neg (fun z => by have := (nI_ltI (by omega) (by omega)).mp z; omega), jbd_nI (by omega) (by decide), jlt_eq, r61, jlt_eq, if_pos ((nI_leI (by omega) (by omega)).mpr (by omega)), jbd_nI (by omega) (by decide), jlt_eq, jas_get]
        dsimp only
        rw [jbd_nI (by omega) (by decide), jlt_eq, jas_set, jlt_eq, nI_1]
      · rw [hg' q, up_self]
        by_cases e : q = m
        · subst e
          rw [if_neg (by omega), if_neg (by omega)]
        · by_cases c1 : m + 1 ≤ q ∧ q ≤ to ∧ low < s q
          · rw [if_pos c1, if_pos (by omega)]
          · rw [if_neg c1, if_neg (by omega)]
theorem m_flat_L (hn : pMn w (sI s) n (nI z)) (hP : pMP w s n z) (h61 : ∀ k, k < n → jgi w 61 0 k = nI (s k)) (h0 : 0 < n) (hs : ∀ k, k < n → s k ≤ 999) {kk : j_St → Option (Int32 × j_St)} : ∀ (c f k : Nat) (t : Nat → Nat) (g : Nat → Int32), k + c = cM s n → c < f → (∀ q, q < n → t q ≤ 999) → (∀ q, g q = if q < n then nI (t q) else jgi w 47 0 q) → ∃ g', f_X9_flattens_L13 kk f (nI k) (jas w 47 0 g) = kk (jas w 47 0 g') ∧ ∀ q, g' q = if q < n then nI (pIt (fun k t => dF1 s n (cP s n k) (cD s n k) t) c k t q) else jgi w 47 0 q := by
  have hn48 := hn.2.2.2
  have hcm := cM_le (s := s) h0
  intro c
  induction c with
  | zero =>
    intro f k t g hk hf ht hg
    obtain ⟨f, rfl⟩ : ∃ f', f = f' + 1 := ⟨f - 1, by omega⟩
    refine ⟨g, ?_, hg⟩
    rw [f_X9_flattens_L13, jlt_eq, jas_ne (by omega), hP.1, if_pos ((nI_leI (by omega) (by omega)).mpr (by omega))]
  | succ c ih =>
    intro f k t g hk hf ht hg
    obtain ⟨f, rfl⟩ : ∃ f', f = f' + 1 := ⟨f - 1, by omega⟩
    have hkm : k < cM s n := by omega
    have hp := cP_lt (s := s) h0 hkm
    have hd := cD_le hs h0 hkm
    have hs1 := hs _ hp
    have hw := cW_lt (s := s) h0 hkm
    have hP' : ∀ g, pMP (jas w 47 0 g) s n z := fun g => hP.same (K := fun κ i _ => κ = 47 ∧ i = 0) K47 (fun κ i k a b => by unfold KA at a; omega)
    obtain ⟨hn', -⟩ := pMn_fill hn hg
    have hpl : f_X9_placeOf (nI k) (jas w 47 0 g) = some (nI (cP s n k), jas w 47 0 g) := by
      rw [f_X9_placeOf, jbd_nI (by omega) (by decide), jlt_eq, (hP' g).2.2.1 k hkm, jbd_nI (by omega) (by decide), jlt_eq, ((hP' g).2.2.2.2 _ hw).1]
      rfl
    have r61 : ∀ g k, k < n → jgi (jas w 47 0 g) 61 0 k = nI (s k) := fun g k hk => by rw [jas_ne (by omega)]; exact h61 k hk
    have m48 : jgi (jas w 47 0 g) 47 0 48 = nI n := hn'.1
    have le := dLe_le (s := s) (p := cP s n k) (low := cD s n k)
    have ri := dRi_le (s := s) (n := n) (p := cP s n k) (low := cD s n k) hp
    obtain ⟨g1, e1, hg1⟩ := m_flat_do (w := w) (low := cD s n k) (to := cP s n k + dRi s n (cP s n k) (cD s n k)) (kk := fun (w56 : j_St) => jlt (nI k + 1) fun v57 => f_X9_flattens_L13 kk f v57 w56) hn48 (by omega) (by omega) h61 hs (cP s n k + dRi s n (cP s n k) (cD s n k) + 1 - (cP s n k - dLe s (cP s n k) (cD s n k))) jFU (cP s n k - dLe s (cP s n k) (cD s n k)) g (by omega) (jFU_gt (by omega))
    obtain ⟨g', e', h'⟩ := ih f (k + 1) (dF1 s n (cP s n k) (cD s n k) t) g1 (by omega) (by omega) (dF1_le ht) (fun q => by
      rw [hg1 q, hg q]
      by_cases hq : q < n
      · have tq := ht q hq
        rw [if_pos hq, if_pos hq]
        unfold dF1
        by_cases c1 : cP s n k - dLe s (cP s n k) (cD s n k) ≤ q ∧ q ≤ cP s n k + dRi s n (cP s n k) (cD s n k) ∧ cD s n k < s q
        · rw [if_pos c1, if_pos c1, jmin_nI (by omega) (by omega)]
        · rw [if_neg c1, if_neg c1]
      · rw [if_neg hq, if_neg hq, if_neg (by omega)])
    refine ⟨g', ?_, h'⟩
    have hfrom := m_flat_from (w := jas w 47 0 g) (low := cD s n k) (P := cP s n k) hp hn48 (by omega) (r61 g) hs (kk := fun (v26 : Int32) (w27 : j_St) => f_X9_flattens_L69 (nI (cD s n k)) (fun (v37 : Int32) (w38 : j_St) => f_X9_flattens_L103 (nI (cD s n k)) v37 (fun (w56 : j_St) => jlt (nI k + 1) fun v57 => f_X9_flattens_L13 kk f v57 w56) jFU v26 w38) jFU (nI (cP s n k)) w27) (cP s n k) jFU 0 (by omega) (jFU_gt (by omega))
    have hto := m_flat_to (w := jas w 47 0 g) (low := cD s n k) hn48 (by omega) m48 (r61 g) hs (kk := fun (v37 : Int32) (w38 : j_St) => f_X9_flattens_L103 (nI (cD s n k)) v37 (fun (w56 : j_St) => jlt (nI k + 1) fun v57 => f_X9_flattens_L13 kk f v57 w56) jFU (nI (cP s n k - dLe s (cP s n k) (cD s n k))) w38) (n - (cP s n k + 1)) jFU (cP s n k) (by omega) (jFU_gt (by omega))
    have e0 : 0 + pCnt (fun j => decide (cD s n k < s (cP s n k - 1 - j))) (cP s n k) 0 = dLe s (cP s n k) (cD s n k) := by rw [Nat.zero_add]; rfl
    rw [e0, Nat.sub_zero] at hfrom
    have e2 : pCnt (fun j => decide (cD s n k < s j)) (n - (cP s n k + 1)) (cP s n k + 1) = dRi s n (cP s n k) (cD s n k) := rfl
    rw [e2] at hto
    rw [← e', f_X9_flattens_L13, jlt_eq, jas_ne (by omega), hP.1, if_neg (fun z => by have := (nI_leI (by omega) (by omega)).mp z; omega), jbd_nI (by omega) (by decide), jlt_eq, (hP' g).2.2.1 k hkm, jbd_nI (by omega) (by decide), jlt_eq, ((hP' g).2.2.2.2 _ hw).2.2.1, hpl, jcb_s2]
    refine hfrom.trans (hto.trans (e1.trans ?_))
    rw [jlt_eq, nI_1]
theorem m_flattens (hn : pMn w (sI s) n (nI z)) (hL : pLn w lp ln rc) (hA : WfA w) (h0 : 0 < n) (hs : ∀ k, k < n → s k ≤ 999) (hz9 : z ≤ 999) : ∃ w', f_X9_flattens w = some (nI (dFe s (dFl s n z) n), w') ∧ mDone w w' (dFl s n z) n z := by
  have h48 := hn.2.2.2
  have hcm := cM_le (s := s) h0
  have hck := cK_le (s := s) (n := n) (z := z)
  obtain ⟨w1, e1, g1, p1, l1, A1⟩ := sp_findsN hn hL h0 hs hz9 hA
  have n1 := hn.same g1 (fun k => by unfold KA; omega)
  obtain ⟨g61, e2, h61⟩ := m_was n1
  have n2 := pMn_61 (g := g61) n1
  have p2 : pMP (jas w1 61 0 g61) s n z := p1.same K61 (fun κ i k a b => by unfold KA at a; omega)
  have r61 : ∀ k, k < n → jgi (jas w1 61 0 g61) 61 0 k = nI (s k) := fun k hk => by rw [jas_get]; exact h61 k hk
  obtain ⟨g, eL, hg⟩ := m_flat_L (kk := fun (w58 : j_St) => jcb (f_X9_fell w58) fun v59 w60 => some (v59, w60)) n2 p2 r61 h0 hs (cM s n - cK s n z) jFU (cK s n z) s (jgi (jas w1 61 0 g61) 47 0) (by omega) (jFU_gt (by omega)) hs (fun q => by
    by_cases hq : q < n
    · rw [if_pos hq]; exact n2.2.2.1 q hq
    · rw [if_neg hq])
  rw [jas_self] at eL
  have d := mDone_fill (t := dFl s n z) n1 A1 hg
  obtain ⟨d1, d2, d3, d4⟩ := d
  refine ⟨_, ?_, (g1.mono fun κ i k y => Or.inl y).trans d1, d2, fun k hk => by rw [d3 k hk, g1.1 _ _ _ (by unfold KA; omega)], d4⟩
  rw [f_X9_flattens, e1, jcb_s2, e2, jcb_s2, jlt_eq, p2.2.1, eL, m_fell d2 (fun k hk => by rw [jas_ne (by omega)]; exact r61 k hk) hs (dFl_le hs), jcb_s2]
theorem m_keptT {t : Nat → Nat} (hn : pMn w (sI t) n (nI z)) (hL : pLn w lp ln rc) (hA : WfA w) (h0 : 0 < n) (hs : ∀ k, k < n → t k ≤ 999) (hz9 : z ≤ 999) : ∃ w', f_X9_keptNow w = some (nI (cK t n z), w') ∧ mDone w w' t n z := by
  obtain ⟨w1, e1, g1, p1, l1, A1⟩ := sp_findsN hn hL h0 hs hz9 hA
  refine ⟨w1, by rw [f_X9_keptNow, e1, jcb_s2, jlt_eq, p1.2.1], g1.mono fun κ i k y => Or.inl y, hn.same g1 (fun k => by unfold KA; omega), fun k hk => g1.1 _ _ _ (by unfold KA; omega), A1⟩
theorem mDone.trans {t u : Nat → Nat} {m y : Nat} (h : mDone w w' s n z) (g : mDone w' w1 u m y) : mDone w w1 u m y := ⟨h.1.trans g.1, g.2.1, fun k hk => (g.2.2.1 k hk).trans (h.2.2.1 k hk), g.2.2.2⟩
theorem mDone.lns (h : mDone w w' s n z) (hL : pLn w lp ln rc) : pLn w' lp ln rc := hL.same h.1 (fun k => by unfold KMD KA; omega) ⟨by unfold KMD KA; omega, by unfold KMD KA; omega⟩
/-- A DEED OF THE MODEL -/
theorem m_deed (hn : pMn w (sI s) n (nI z)) (hL : pLn w lp ln rc) (hA : WfA w) (h0 : 0 < n) (hs : ∀ k, k < n → s k ≤ 999) (hz9 : z ≤ 999) {nm : Nat} {nt : Nat → Int32} {q : Nat} (hq : q < 10) {a b : Int32} (hy : dWhy q a b n = -1) :
    ∃ w', f_X9_doNow (nI q) a b w = some ((dDo q a b (s, n, z, nm, nt)).2, w') ∧ mDone w w' (dDo q a b (s, n, z, nm, nt)).1.1 (dDo q a b (s, n, z, nm, nt)).1.2.1 (dDo q a b (s, n, z, nm, nt)).1.2.2.1 := by
  have h48 := hn.2.2.2
  have n11 : ¬ ((1 : Int32) = -1) := by decide
  have n01 : ¬ ((0 : Int32) = -1) := by decide
  have wf : wfT (s, n, z, 0, nt) := ⟨h0, h48, hs, hz9, Nat.zero_le _⟩
  rcases (show q = 0 ∨ q = 1 ∨ q = 2 ∨ q = 3 ∨ q = 4 ∨ q = 5 ∨ q = 6 ∨ q = 7 ∨ q = 8 ∨ q = 9 by omega) with rfl | rfl | rfl | rfl | rfl | rfl | rfl | rfl | rfl | rfl
  · obtain ⟨w1, e1, d1⟩ := m_blends hn hA h0 hs (q := 0) (by decide)
    rw [if_pos rfl] at d1
    obtain ⟨w2, e2, d2⟩ := m_keptT d1.2.1 (d1.lns hL) d1.2.2.2 h0 (dDo_wf (q := 0) (a := 0) (b := 0) wf rfl (by decide)).2.2.1 hz9
    refine ⟨w2, ?_, d1.trans (t := s) d2⟩
    rw [f_X9_doNow, if_pos (by decide), show (0 : Int32) = nI 0 from rfl, e1, jcb_s2, e2, jcb_s2]
    rfl
  · obtain ⟨w1, e1, d1⟩ := m_blends hn hA h0 hs (q := 1) (by decide)
    rw [if_neg (by decide)] at d1
    obtain ⟨w2, e2, d2⟩ := m_keptT d1.2.1 (d1.lns hL) d1.2.2.2 h0 (dDo_wf (q := 1) (a := 0) (b := 0) wf rfl (by decide)).2.2.1 hz9
    refine ⟨w2, ?_, d1.trans (t := s) d2⟩
    rw [f_X9_doNow, if_neg (by decide), if_pos (by decide), show (1 : Int32) = nI 1 from rfl, e1, jcb_s2, e2, jcb_s2]
    rfl
  · obtain ⟨w', e, d⟩ := m_flattens hn hL hA h0 hs hz9
    exact ⟨w', by rw [f_X9_doNow, if_neg (by decide), if_neg (by decide), if_pos (by decide), e, jcb_s2]; rfl, d⟩
  · obtain ⟨w', e, d⟩ := m_turns hn hA h0
    exact ⟨w', by rw [f_X9_doNow, if_neg (by decide), if_neg (by decide), if_neg (by decide), if_pos (by decide), e, jcb_s2]; rfl, d⟩
  · unfold dWhy at hy
    rw [if_pos (Or.inl rfl)] at hy
    split at hy
    · rename_i hc
      obtain ⟨c, hc2, rfl⟩ := (lit_iff (m := 999) (n := 1000) (by decide) (by decide)).mp hc
      obtain ⟨w', e, d⟩ := m_clips hn hA hs hc2
      refine ⟨w', ?_, ?_⟩
      · rw [f_X9_doNow, if_neg (by decide), if_neg (by decide), if_neg (by decide), if_neg (by decide), if_pos (by decide), e, jcb_s2]
        show _ = some (nI (dFe s (dCl s (dN (nI c))) n), w')
        rw [dN_nI (by omega)]
      · show mDone w w' (dCl s (dN (nI c))) n z
        rw [dN_nI (by omega)]
        exact d
    · exact absurd hy n11
  · unfold dWhy at hy
    rw [if_neg (by decide), if_pos rfl] at hy
    split at hy
    · rename_i hc
      obtain ⟨w', e, d⟩ := m_lifts hn hA h0 hs hc
      exact ⟨w', by rw [f_X9_doNow, if_neg (by decide), if_neg (by decide), if_neg (by decide), if_neg (by decide), if_neg (by decide), if_pos (by decide), e, jcb_s2]; rfl, d⟩
    · exact absurd hy n11
  · unfold dWhy at hy
    rw [if_neg (by decide), if_neg (by decide), if_pos rfl] at hy
    split at hy
    · rename_i hc
      obtain ⟨p, hp, rfl⟩ := (lit_iff (m := 99) (n := 100) (by decide) (by decide)).mp hc.1
      obtain ⟨v, v1, v2, rfl⟩ := (rng1_iff (n := 99) (by decide)).mp hc.2
      obtain ⟨w', e, d⟩ := m_scales hn hA h0 hs hp v1 v2
      refine ⟨w', ?_, ?_⟩
      · rw [f_X9_doNow, if_neg (by decide), if_neg (by decide), if_neg (by decide), if_neg (by decide), if_neg (by decide), if_neg (by decide), if_pos (by decide), e, jcb_s2]
        show _ = some (nI (cMax (dSc s (dN (nI p)) (dN (nI v))) n), w')
        rw [dN_nI (by omega), dN_nI (by omega)]
      · show mDone w w' (dSc s (dN (nI p)) (dN (nI v))) n z
        rw [dN_nI (by omega), dN_nI (by omega)]
        exact d
    · exact absurd hy n11
  · unfold dWhy at hy
    rw [if_neg (by decide), if_neg (by decide), if_neg (by decide), if_pos rfl] at hy
    split at hy
    · rename_i h1
      obtain ⟨p, hp, rfl⟩ := (rng_iff (by omega)).mp h1
      split at hy
      · rename_i h2
        obtain ⟨v, hv, rfl⟩ := (lit_iff (m := 999) (n := 1000) (by decide) (by decide)).mp h2
        obtain ⟨w', e, d⟩ := m_setsD (v := v) hn hA hp
        refine ⟨w', ?_, ?_⟩
        · rw [f_X9_doNow, if_neg (by decide), if_neg (by decide), if_neg (by decide), if_neg (by decide), if_neg (by decide), if_neg (by decide), if_neg (by decide), if_pos (by decide), e, jcb_s2]
          show _ = some (nI (s (dN (nI p))), w')
          rw [dN_nI (by omega)]
        · show mDone w w' (up s (dN (nI p)) (dN (nI v))) n z
          rw [dN_nI (by omega), dN_nI (by omega)]
          exact d
      · exact absurd hy n11
    · exact absurd hy n01
  · unfold dWhy at hy
    rw [if_pos (Or.inr rfl)] at hy
    split at hy
    · rename_i h2
      obtain ⟨v, hv, rfl⟩ := (lit_iff (m := 999) (n := 1000) (by decide) (by decide)).mp h2
      refine ⟨jsi w 47 0 49 (nI v), ?_, pSame.jsi (Or.inr ⟨Or.inr rfl, rfl⟩), ?_, fun k hk => jgi_ne (by omega), hA.same (K := fun κ i _ => κ = 47 ∧ i = 0) (pSame.jsi ⟨rfl, rfl⟩) (fun κ i k a b => by unfold KA at a; omega)⟩
      · rw [f_X9_doNow, if_neg (by decide), if_neg (by decide), if_neg (by decide), if_neg (by decide), if_neg (by decide), if_neg (by decide), if_neg (by decide), if_neg (by decide), if_pos (by decide), jbd_k49 (by decide) (by decide), jlt_eq, jbd_k49 (by decide) (by decide), jlt_eq, hn.2.1]
        rfl
      · show pMn _ (sI s) n (nI (dN (nI v)))
        rw [dN_nI (by omega)]
        exact ⟨by rw [jgi_ne (by omega)]; exact hn.1, jgi_eq, fun k hk => by rw [jgi_ne (by omega)]; exact hn.2.2.1 k hk, h48⟩
    · exact absurd hy n11
  · unfold dWhy at hy
    rw [if_neg (by decide), if_neg (by decide), if_neg (by decide), if_neg (by decide), if_pos rfl] at hy
    split at hy
    · rename_i h1
      obtain ⟨p, hp, rfl⟩ := (rng_iff (by omega)).mp h1
      split at hy
      · rename_i h2
        rw [nI_sub (by omega)] at h2
        obtain ⟨m, m1, m2, rfl⟩ := (rng1_iff (by omega)).mp h2
        obtain ⟨w', e, d⟩ := m_cuts hn hA hp m1 m2
        refine ⟨w', ?_, ?_⟩
        · rw [f_X9_doNow, if_neg (by decide), if_neg (by decide), if_neg (by decide), if_neg (by decide), if_neg (by decide), if_neg (by decide), if_neg (by decide), if_neg (by decide), if_neg (by decide), e, jcb_s2]
          show _ = some (nI (n - dN (nI m)), w')
          rw [dN_nI (by omega)]
        · show mDone w w' (dCu s (dN (nI p))) (dN (nI m)) z
          rw [dN_nI (by omega), dN_nI (by omega)]
          exact d
      · exact absurd hy n11
    · exact absurd hy n01
/-- why the model can't -/
theorem m_why (h1 : jgi w 1 0 29 = 1) (hn : pMn w (sI s) n (nI z)) {q : Nat} (hq : q < 10) {a b : Int32} : f_X9_whyNot (nI q) a b w = some (dWhy q a b n, w) := by
  have h48 := hn.2.2.2
  rw [f_X9_whyNot, jlt_eq, h1, if_neg n10]
  rcases (show q = 0 ∨ q = 1 ∨ q = 2 ∨ q = 3 ∨ q = 4 ∨ q = 5 ∨ q = 6 ∨ q = 7 ∨ q = 8 ∨ q = 9 by omega) with rfl | rfl | rfl | rfl | rfl | rfl | rfl | rfl | rfl | rfl
  · rfl
  · rfl
  · rfl
  · rfl
  · show _ = some ((if 0 ≤ a ∧ a ≤ 999 then -1 else 1), w)
    rw [if_pos (by decide), sp_in, jcb_s2]
    by_cases c : 0 ≤ a ∧ a ≤ 999
    · rw [if_pos c, if_pos c, if_neg n10]
    · rw [if_neg c, if_neg c, if_pos rfl]
  · show _ = some ((if -999 ≤ a ∧ a ≤ 999 then -1 else 1), w)
    rw [if_neg (by decide), if_pos (by decide), sp_in, jcb_s2]
    by_cases c : -999 ≤ a ∧ a ≤ 999
    · rw [if_pos c, if_pos c, if_neg n10]
    · rw [if_neg c, if_neg c, if_pos rfl]
  · show _ = some ((if (0 ≤ a ∧ a ≤ 99) ∧ (1 ≤ b ∧ b ≤ 99) then -1 else 1), w)
    rw [if_neg (by decide), if_neg (by decide), if_pos (by decide), sp_in, jcb_s2]
    by_cases c : 0 ≤ a ∧ a ≤ 99
    · rw [if_pos c, if_neg n10, sp_in, jcb_s2]
      by_cases d : 1 ≤ b ∧ b ≤ 99
      · rw [if_pos d, if_neg n10, if_pos ⟨c, d⟩]
      · rw [if_neg d, if_pos rfl, if_neg (fun z => d z.2)]
    · rw [if_neg c, if_pos rfl, if_neg (fun z => c z.1)]
  · show _ = some ((if 0 ≤ a ∧ a ≤ nI n - 1 then (if 0 ≤ b ∧ b ≤ 999 then -1 else 1) else 0), w)
    rw [if_neg (by decide), if_neg (by decide), if_neg (by decide), if_pos (by decide)]
    by_cases c : 0 ≤ a ∧ a ≤ nI n - 1
    · rw [if_pos c, m_isPlace_T h1 hn ((rng_iff (by omega)).mp c), jcb_s2, if_neg n10, sp_in, jcb_s2]
      by_cases d : 0 ≤ b ∧ b ≤ 999
      · rw [if_pos d, if_pos d, if_neg n10]
      · rw [if_neg d, if_neg d, if_pos rfl]
    · rw [if_neg c, m_isPlace_F h1 hn (fun z => c ((rng_iff (by omega)).mpr z)), jcb_s2, if_pos rfl]
  · show _ = some ((if 0 ≤ a ∧ a ≤ 999 then -1 else 1), w)
    rw [if_neg (by decide), if_neg (by decide), if_neg (by decide), if_neg (by decide), if_pos (by decide), sp_in, jcb_s2]
    by_cases c : 0 ≤ a ∧ a ≤ 999
    · rw [if_pos c, if_pos c, if_neg n10]
    · rw [if_neg c, if_neg c, if_pos rfl]
  · show _ = some ((if 0 ≤ a ∧ a ≤ nI n - 1 then (if 1 ≤ b ∧ b ≤ nI n - a then -1 else 1) else 0), w)
    rw [if_neg (by decide), if_neg (by decide), if_neg (by decide), if_neg (by decide), if_neg (by decide), if_pos (by decide)]
    by_cases c : 0 ≤ a ∧ a ≤ nI n - 1
    · rw [if_pos c, m_isPlace_T h1 hn ((rng_iff (by omega)).mp c), jcb_s2, if_neg n10, sp_many hn, jcb_s2, sp_in, jcb_s2]
      by_cases d : 1 ≤ b ∧ b ≤ nI n - a
      · rw [if_pos d, if_pos d, if_neg n10]
      · rw [if_neg d, if_neg d, if_pos rfl]
    · rw [if_neg c, m_isPlace_F h1 hn (fun z => c ((rng_iff (by omega)).mpr z)), jcb_s2, if_pos rfl]
end MDEED
