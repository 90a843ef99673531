/-! the pure law: a step of a script, read by both -/
section STEP
variable {w w' w0 : j_St} {P : pP} {n t m : Nat}
/-- what reading may touch, in the component -/
def KL (n : Nat) (w0 : j_St) (κ i k : Nat) : Prop := KR n κ i k ∨ κ = 9 ∨ κ = 16 ∨ (κ = 109 ∨ κ = 115 ∨ κ = 116 ∨ κ = 170) ∨ (κ = 15 ∧ jgn w0 115 0 ≤ i) ∨ (κ = 70 ∧ jgn w0 170 0 ≤ i)
/-- counters of texts and of their letters only rise -/
def cUp (w0 w : j_St) : Prop := jgn w0 115 0 ≤ jgn w 115 0 ∧ jgn w0 170 0 ≤ jgn w 170 0
theorem cUp.trans {w1 : j_St} (h : cUp w0 w1) (g : cUp w1 w) : cUp w0 w := ⟨Nat.le_trans h.1 g.1, Nat.le_trans h.2 g.2⟩
theorem KR.l {κ i k : Nat} (h : KR n κ i k) : KL n w0 κ i k := Or.inl h
theorem KWo.l (hu : cUp w0 w) {κ i k : Nat} (h : KWo n w κ i k) : KL n w0 κ i k := by
  obtain ⟨u1, u2⟩ := hu
  unfold KWo KWd KBu at h
  unfold KL
  rcases h with (h | h | h | h) | h
  · exact Or.inl h
  · exact Or.inr (Or.inr (Or.inl h))
  · exact Or.inr (Or.inr (Or.inr (Or.inr (Or.inr ⟨h.1, by omega⟩))))
  · exact Or.inr (Or.inr (Or.inr (Or.inl (by omega))))
  · exact Or.inr (Or.inr (Or.inr (Or.inl (by omega))))
theorem KSt.l (hu : cUp w0 w) {κ i k : Nat} (h : KSt w κ i k) : KL n w0 κ i k := by
  obtain ⟨u1, u2⟩ := hu
  unfold KSt at h
  unfold KL
  rcases h with h | h | h | h
  · exact Or.inr (Or.inr (Or.inr (Or.inl (by omega))))
  · exact Or.inr (Or.inr (Or.inr (Or.inl (by omega))))
  · exact Or.inr (Or.inr (Or.inr (Or.inr (Or.inl ⟨h.1, by omega⟩))))
  · exact Or.inr (Or.inr (Or.inr (Or.inr (Or.inr ⟨h.1, by omega⟩))))
theorem KY.l {κ i k : Nat} (h : KY n κ i k) : KL n w0 κ i k := by
  unfold KY at h
  rcases h with h | h | h
  · exact Or.inl h
  · exact Or.inr (Or.inl h)
  · exact Or.inr (Or.inr (Or.inr (Or.inl (by omega))))
theorem TpC.l (h : TpC P w) (s : pSame (KL n w0) w w') : TpC P w' := h.same s ⟨by unfold KL KR; omega, fun k => by unfold KL KR; omega⟩
theorem cLit.l (h : cLit w) (s : pSame (KL n w0) w w') : cLit w' := h.same s (fun κ i k hk => by unfold KL KR; omega)
/-- one that was wrong, in the reading -/
theorem c_throw {v : Int32} : ∃ w', (jcb (f_X12_init (jgn w 109 0) v (jnw (jbump w 9) 9 (jgn w 109 0) 0)) fun _ w15 => some ((Sum.inl (jgn w 109 0) : Nat ⊕ Unit), w15)) = some (.inl (jgn w 109 0), w') ∧ pSame (KY n) w w' ∧ jgi w' 9 (jgn w 109 0) 6 = v := ⟨_, by rw [c_wrong, jcb_s2], wr_same, jgi_eq⟩
theorem KY.up (s : pSame (KY n) w w') : cUp w w' := ⟨Nat.le_of_eq (s.2.2.2 _ _ (by unfold KY KR; omega)).symm, Nat.le_of_eq (s.2.2.2 _ _ (by unfold KY KR; omega)).symm⟩
theorem nv_lt {st : Nat} (h : tN P st ≤ 3) : nv P (tS P st) (tN P st) < 1000 := by
  have dig : ∀ i, i < tN P st → P.2 (tS P st + i) - 48 ≤ 9 := fun i hi => by
    have := gD_iff.mp (tE_in (g := gD) (P := P) (p := tS P st) (q := tS P st + i) (by omega) (by unfold tN at hi; omega)).2
    omega
  generalize tN P st = k at h dig
  rcases (show k = 0 ∨ k = 1 ∨ k = 2 ∨ k = 3 by omega) with rfl | rfl | rfl | rfl
  · show (0 : Nat) < 1000; omega
  · have d0 := dig 0 (by omega)
    rw [nv_s]
    show 10 * 0 + _ < 1000
    omega
  · have d0 := dig 0 (by omega)
    have d1 := dig 1 (by omega)
    rw [nv_s, nv_s]
    show 10 * (10 * 0 + _) + _ < 1000
    omega
  · have d0 := dig 0 (by omega)
    have d1 := dig 1 (by omega)
    have d2 := dig 2 (by omega)
    rw [nv_s, nv_s, nv_s]
    show 10 * (10 * (10 * 0 + _) + _) + _ < 1000
    omega
theorem tK2 {st : Nat} (h : tK P st = 2) : st < P.1 ∧ tN P st ≤ 3 ∧ 1 ≤ tN P st := by
  unfold tK at h
  by_cases c : st < P.1
  · rw [if_pos c] at h
    split at h
    · omega
    · split at h
      · split at h
        · rename_i z
          exact ⟨c, z.2, z.1⟩
        · omega
      · split at h <;> omega
  · rw [if_neg c] at h
    omega
theorem nOk_s {st : Nat} : nOk P true 999 st ↔ tK P st = 2 := by
  unfold nOk
  exact ⟨fun z => z.1, fun z => ⟨z, fun y => Bool.noConfusion y, by have := nv_lt (tK2 z).2.1; omega⟩⟩
theorem tS_le {st : Nat} (h : st < P.1) : tS P st ≤ P.1 := by unfold tS; split <;> omega
/-! the model's parts -/
theorem m_bad (h8 : jgi w 1 0 8 = -1) : f_X9_bad w = some ((), jsi w 1 0 8 (jgi w 1 0 5)) := by rw [f_X9_bad, jlt_eq, h8, if_pos rfl, jlt_eq, jlt_eq]
theorem m_bad2 {e : Nat} (he : e < 2 ^ 31) (h8 : jgi w 1 0 8 = nI e) : f_X9_bad w = some ((), jsi w 1 0 8 (nI e)) := by rw [f_X9_bad, jlt_eq, h8, if_neg (nI_ne1 he), jlt_eq, jlt_eq]
def nOf (j : Nat) : Nat := if j ≤ 3 then 0 else if j = 4 ∨ j = 5 ∨ j = 8 then 1 else 2
theorem nOf_c {j : Nat} (hj : j < 10) : f_X1_numbersOf (nI j) w = some (nI (nOf j), w) := by
  rcases (show j = 0 ∨ j = 1 ∨ j = 2 ∨ j = 3 ∨ j = 4 ∨ j = 5 ∨ j = 6 ∨ j = 7 ∨ j = 8 ∨ j = 9 by omega) with rfl | rfl | rfl | rfl | rfl | rfl | rfl | rfl | rfl | rfl <;> rfl
theorem nOf_m {j : Nat} (hj : j < 10) : f_X9_numbersOf (nI j) w = some (nI (nOf j), w) := by
  rcases (show j = 0 ∨ j = 1 ∨ j = 2 ∨ j = 3 ∨ j = 4 ∨ j = 5 ∨ j = 6 ∨ j = 7 ∨ j = 8 ∨ j = 9 by omega) with rfl | rfl | rfl | rfl | rfl | rfl | rfl | rfl | rfl | rfl <;> rfl
theorem nOf_le (j : Nat) : nOf j ≤ 2 := by unfold nOf; repeat' split
                                           all_goals omega
theorem kS_or (k : Nat) (c : Nat → Nat) : kS k c = -1 ∨ ∃ j, j < 10 ∧ kS k c = nI j := by
  by_cases h : ∃ j, j < 10 ∧ wQ k c (stB.getD (kI j) []) = true
  · obtain ⟨j, hj, z⟩ := h
    exact Or.inr ⟨j, hj, kS_is hj z⟩
  · exact Or.inl (kS_no fun j hj z => h ⟨j, hj, z⟩)
theorem m_wordOf {j : Nat} (hj : j < 10) : f_X9_wordOf (nI j) w = some (lN (lnV (kI j)), w) := by
  obtain ⟨a0, a1, a2, a3, a4, a5, a6, a7, a8, a9, a10, a11, a12⟩ := lnV_is
  rcases (show j = 0 ∨ j = 1 ∨ j = 2 ∨ j = 3 ∨ j = 4 ∨ j = 5 ∨ j = 6 ∨ j = 7 ∨ j = 8 ∨ j = 9 by omega) with rfl | rfl | rfl | rfl | rfl | rfl | rfl | rfl | rfl | rfl
  · rw [show kI 0 = 4 from rfl, a4]; rfl
  · rw [show kI 1 = 5 from rfl, a5]; rfl
  · rw [show kI 2 = 6 from rfl, a6]; rfl
  · rw [show kI 3 = 7 from rfl, a7]; rfl
  · rw [show kI 4 = 8 from rfl, a8]; rfl
  · rw [show kI 5 = 9 from rfl, a9]; rfl
  · rw [show kI 6 = 10 from rfl, a10]; rfl
  · rw [show kI 7 = 11 from rfl, a11]; rfl
  · rw [show kI 8 = 1 from rfl, a1]; rfl
  · rw [show kI 9 = 12 from rfl, a12]; rfl
theorem m_which {st : Nat} (h : TkM P w st) {kk : Int32 → j_St → Option (Unit × j_St)} : f_X9_readStep_L4 kk jFU (-1) 0 w = kk (kS (wl P st) (wc P st)) w := by
  have := pIt_is' (F := fun f m (v : Int32) => f_X9_readStep_L4 kk f v (nI m) w) (step := fun i v => if wQ (wl P st) (wc P st) (stB.getD (kI i) []) = true then nI i else v) (N := 10) (G := fun v => kk v w) (fun f m v hm => ?_) (fun f v => ?_) 10 jFU 0 (-1) (by omega) (jFU_gt (by omega))
  · exact this
  · show f_X9_readStep_L4 kk (f + 1) v (nI m) w = f_X9_readStep_L4 kk f (if wQ (wl P st) (wc P st) (stB.getD (kI m) []) = true then nI m else v) (nI (m + 1)) w
    rw [f_X9_readStep_L4, if_neg (show ¬ (10 : Int32) ≤ nI m from fun z => by have := (nI_leI (a := 10) (b := m) (by omega) (by omega)).mp z; omega), m_wordOf hm, jcb_s2, m_isWord h (kI_lt _), jcb_s2, jlt_eq]
    by_cases c : wQ (wl P st) (wc P st) (stB.getD (kI m) []) = true
    · rw [if_pos c, if_neg n10, if_pos c]
      dsimp only
      rw [jlt_eq, nI_1]
    · rw [if_neg c, if_pos rfl, if_neg c]
      dsimp only
      rw [jlt_eq, nI_1]
  · show f_X9_readStep_L4 kk (f + 1) v (nI 10) w = kk v w
    rw [f_X9_readStep_L4, if_pos (by decide)]
end STEP
