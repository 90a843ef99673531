/-! the pure law: ranges; what is found, in component and model -/
theorem sp_isIn {x l h : Int32} {l' h' : Int64} {w : j_St} (hl : l' = l.toInt64) (hh : h' = h.toInt64) : f_X1_isIn x.toInt64 l' h' w = some (if l ≤ x ∧ x ≤ h then 1 else 0, w) := by
  subst hl hh
  have lt : ∀ a b : Int32, a.toInt64 < b.toInt64 ↔ a < b := fun a b => by
    rw [Int64.lt_iff_toInt_lt, Int32.toInt_toInt64, Int32.toInt_toInt64, Int32.lt_iff_toInt_lt]
  have eq : ∀ a b : Int32, a.toInt64 = b.toInt64 ↔ a = b := fun a b => by
    rw [← Int64.toInt_inj, Int32.toInt_toInt64, Int32.toInt_toInt64, Int32.toInt_inj]
  have c1 : ∀ a b : Int32, (lg_cmp a.toInt64 b.toInt64 < 0) = (a < b) := fun a b => propext (by
    unfold lg_cmp
    by_cases g : b.toInt64 < a.toInt64
    · rw [if_pos g]
      have := (lt _ _).mp g
      exact ⟨fun z => absurd z (by decide), fun z => absurd (Int32.lt_trans z this) Int32.lt_irrefl⟩
    · rw [if_neg g]
      by_cases e : a.toInt64 = b.toInt64
      · rw [if_pos e, (eq _ _).mp e]
        exact ⟨fun z => absurd z (by decide), fun z => absurd z Int32.lt_irrefl⟩
      · rw [if_neg e]
        have g' : ¬ b < a := fun z => g ((lt _ _).mpr z)
        have e' : ¬ a = b := fun z => e ((eq _ _).mpr z)
        refine ⟨fun _ => ?_, fun _ => by decide⟩
        rw [Int32.lt_iff_toInt_lt] at g' ⊢
        rw [← Int32.toInt_inj] at e'
        omega)
  have c2 : ∀ a b : Int32, (0 < lg_cmp a.toInt64 b.toInt64) = (b < a) := fun a b => propext (by
    unfold lg_cmp
    by_cases g : b.toInt64 < a.toInt64
    · rw [if_pos g]
      exact ⟨fun _ => (lt _ _).mp g, fun _ => by decide⟩
    · rw [if_neg g]
      have g' : ¬ b < a := fun z => g ((lt _ _).mpr z)
      by_cases e : a.toInt64 = b.toInt64
      · rw [if_pos e]
        exact ⟨fun z => absurd z (by decide), fun z => absurd z g'⟩
      · rw [if_neg e]
        exact ⟨fun z => absurd z (by decide), fun z => absurd z g'⟩)
  unfold f_X1_isIn
  simp only [c1, c2]
  by_cases h1 : x < l
  · rw [if_pos h1, if_neg (fun z => Int32.not_lt.mpr z.1 h1)]
  · rw [if_neg h1]
    by_cases h2 : h < x
    · rw [if_pos h2, if_neg (fun z => Int32.not_lt.mpr z.2 h2)]
    · rw [if_neg h2, if_pos ⟨Int32.not_lt.mp h1, Int32.not_lt.mp h2⟩]
theorem nI_pr {n : Nat} (hn : n < 2 ^ 31) : (nI n - 1).toInt = (n : Int) - 1 := by
  rw [Int32.toInt_sub, nI_toInt hn]
  exact Int.bmod_eq_of_le (by rw [show (1 : Int32).toInt = 1 from rfl]; omega) (by rw [show (1 : Int32).toInt = 1 from rfl]; omega)
/-- a place among n -/
def qAt (x : Int32) (n : Nat) : Prop := ∃ k, k < n ∧ x = nI k
theorem rng_iff {x : Int32} {n : Nat} (hn : n < 2 ^ 31) : (0 ≤ x ∧ x ≤ nI n - 1) ↔ qAt x n := by
  rw [Int32.le_iff_toInt_le, Int32.le_iff_toInt_le, nI_pr hn, show (0 : Int32).toInt = 0 from rfl]
  constructor
  · intro ⟨h1, h2⟩
    have h0 : ¬ x < 0 := fun z => by rw [Int32.lt_iff_toInt_lt, show (0 : Int32).toInt = 0 from rfl] at z; omega
    obtain ⟨k, hk, e⟩ := nI_of h0
    rw [e, nI_toInt hk] at h2
    exact ⟨k, by omega, e⟩
  · intro ⟨k, hk, e⟩
    rw [e, nI_toInt (by omega)]
    omega
theorem rng_T {x : Int32} {n : Nat} (hn : n < 2 ^ 31) (h : qAt x n) : (0 ≤ x ∧ x ≤ nI n - 1) = True := eq_true ((rng_iff hn).mpr h)
theorem rng_F {x : Int32} {n : Nat} (hn : n < 2 ^ 31) (h : ¬ qAt x n) : (0 ≤ x ∧ x ≤ nI n - 1) = False := eq_false (fun z => h ((rng_iff hn).mp z))
theorem qAt_nI {k n : Nat} (hk : k < 2 ^ 31) (hn : n < 2 ^ 31) : qAt (nI k) n ↔ k < n := by
  constructor
  · intro ⟨j, hj, e⟩
    have := (nI_eq hk (by omega)).mp e
    omega
  · intro h
    exact ⟨k, h, rfl⟩
/-- in a range of literals -/
theorem lit_iff {x : Int32} {n : Nat} {m : Int32} (hm : m = nI n - 1) (hn : n < 2 ^ 31) : (0 ≤ x ∧ x ≤ m) ↔ qAt x n := by rw [hm]; exact rng_iff hn
/-- peaks are looked at, no more: component, model -/
def cOK (w w' : j_St) : Prop := pSame (KQ w) w w' ∧ pRise w w' ∧ WfP 0 w' ∧ WfP 1 w'
def mOK (w w' : j_St) : Prop := pSame KMQ w w' ∧ WfA w'
section OK
variable {w w' w'' : j_St} {A : pA} {X : pX}
theorem pRise.refl : pRise w w := ⟨Nat.le_refl _, Nat.le_refl _, Nat.le_refl _, Nat.le_refl _, Nat.le_refl _⟩
theorem pRise.trans (h : pRise w w') (g : pRise w' w'') : pRise w w'' := ⟨Nat.le_trans h.1 g.1, Nat.le_trans h.2.1 g.2.1, Nat.le_trans h.2.2.1 g.2.2.1, Nat.le_trans h.2.2.2.1 g.2.2.2.1, Nat.le_trans h.2.2.2.2 g.2.2.2.2⟩
theorem KQ.mono (h : pRise w w') {κ i k : Nat} (g : KQ w' κ i k) : KQ w κ i k := by
  obtain ⟨r1, r2, r3, r4, r5⟩ := h
  rcases g with g | g | g
  · exact Or.inl g
  · exact Or.inr (Or.inl g)
  · refine Or.inr (Or.inr ?_)
    rcases g with ⟨g, x⟩ | ⟨g, y, x⟩ | ⟨g, x⟩ | ⟨g, x⟩ | ⟨g, x⟩ | ⟨g, x⟩
    · exact Or.inl ⟨g, Nat.le_trans r1 x⟩
    · exact Or.inr (Or.inl ⟨g, y, by omega⟩)
    · exact Or.inr (Or.inr (Or.inl ⟨g, Nat.le_trans r2 x⟩))
    · exact Or.inr (Or.inr (Or.inr (Or.inl ⟨g, Nat.le_trans r3 x⟩)))
    · exact Or.inr (Or.inr (Or.inr (Or.inr (Or.inl ⟨g, Nat.le_trans r4 x⟩))))
    · exact Or.inr (Or.inr (Or.inr (Or.inr (Or.inr ⟨g, Nat.le_trans r5 x⟩))))
theorem cOK.trans (h : cOK w w') (g : cOK w' w'') : cOK w w'' := ⟨h.1.trans (g.1.mono fun κ i k z => KQ.mono h.2.1 z), h.2.1.trans g.2.1, g.2.2.1, g.2.2.2⟩
theorem mOK.trans (h : mOK w w') (g : mOK w' w'') : mOK w w'' := ⟨h.1.trans g.1, g.2⟩
theorem RelC.ok (h : RelC A w) (g : cOK w w') : RelC A w' := h.same g.1 g.2.1 g.2.2.1 g.2.2.2
theorem RelM.ok (h : RelM A w) (g : mOK w w') : RelM A w' := h.same g.1 (fun _ _ _ z => Or.inl z) g.2
theorem RelC.self (h : RelC A w) : cOK w w := ⟨pSame.refl, pRise.refl, h.2.2.2.2.2.2.2.1, h.2.2.2.2.2.2.2.2.1⟩
theorem RelM.self (h : RelM A w) : mOK w w := ⟨pSame.refl, h.2.2.2.2.2.2⟩
theorem KQ.xc {κ i k : Nat} (z : KQ w κ i k) : KXC κ i k := by
  rcases z with z | z | z
  · unfold KS at z
    unfold KXC
    omega
  · unfold KXC
    omega
  · unfold KN at z
    unfold KXC
    omega
theorem cOK.xc (g : cOK w w') : pSame KXC w w' := g.1.mono fun κ i k z => z.xc
theorem mOK.xm (g : mOK w w') : pSame KXM w w' := g.1.mono fun κ i k z => by
  unfold KMQ KA at z
  unfold KXM
  omega
theorem cOK_of {K : Nat → Nat → Nat → Prop} (g : pSame K w w') (hK : ∀ κ i k, K κ i k → KS κ i k) (p0 : WfP 0 w') (p1 : WfP 1 w') : cOK w w' := by
  have n : ∀ κ, 100 ≤ κ → jgn w' κ 0 = jgn w κ 0 := fun κ hκ => g.2.2.2 κ 0 fun z => by
    have := hK _ _ _ z
    unfold KS at this
    omega
  refine ⟨g.mono fun κ i k z => Or.inl (hK _ _ _ z), ⟨?_, ?_, ?_, ?_, ?_⟩, p0, p1⟩
  all_goals exact Nat.le_of_eq (n _ (by decide)).symm
theorem RelC.x0 (h : RelC A w) (hX : aX A = none) : jgr w 0 0 7 = none := by
  have := h.2.2.1
  unfold cTrc at this
  rw [hX] at this
  exact this
theorem RelC.xt (h : RelC A w) (hX : aX A = some X) : ∃ t, jgr w 0 0 7 = some t ∧ pXc w t X := by
  have := h.2.2.1
  unfold cTrc at this
  rw [hX] at this
  exact this.1
theorem RelC.now (h : RelC A w) (hX : aX A = some X) : pRS w 0 (aT A) := by
  have := h.2.2.1
  unfold cTrc at this
  rw [hX] at this
  exact this.2
theorem RelM.x0 (h : RelM A w) (hX : aX A = none) : jgi w 1 0 29 = 0 ∧ jgi w 47 0 48 = 0 ∧ jgi w 47 0 50 = 0 := by
  have := h.2.2.1
  unfold mTrc at this
  rw [hX] at this
  exact this
theorem RelM.xt (h : RelM A w) (hX : aX A = some X) : jgi w 1 0 29 = 1 ∧ pLn w (sI X.1) X.2.1 (nI X.2.2.1) ∧ (∀ l, l < X.2.1 → jgi w 50 0 l = nI (X.2.2.2.1 l) ∧ jgl w 51 0 l = lN (pWord (X.2.2.2.1 l) (X.2.2.2.2 l))) ∧ pRR w 47 0 (aT A) := by
  have := h.2.2.1
  unfold mTrc at this
  rw [hX] at this
  exact this
theorem wfA.x (h : wfA A) (hX : aX A = some X) : wfX X ∧ wfT (aT A) := h.2.2.2.1 X hX
theorem pRR_Mn {T : pT} (h : pRR w 47 0 T) (hw : wfT T) : pMn w (sI T.1) T.2.1 (nI T.2.2.1) := by
  obtain ⟨h1, h2, h3, h4, h5⟩ := h
  rw [Nat.zero_add] at h1 h2
  exact ⟨h1, h2, fun k hk => by have := h4 k hk; rw [Nat.zero_add] at this; exact this, hw.2.1⟩
/-- what the component finds, anew -/
theorem c_of {i0 : Nat} (hi : i0 = 0 ∨ i0 = 1) (hC : RelC A w) {i1 : Nat} {s : Nat → Nat} {n z : Nat} (h : pCn w i1 (sI s) n) (h0 : 0 < n) (hs : ∀ k, k < n → s k ≤ 999) (hz : z ≤ 999) : ∃ w', f_X5_of i0 i1 (nI z) w = some ((), w') ∧ cOK w w' ∧ pSame (KP i0) w w' ∧ pCP w' i0 i1 s n z := by
  have q0 : WfP 0 w := hC.2.2.2.2.2.2.2.1
  have q1 : WfP 1 w := hC.2.2.2.2.2.2.2.2.1
  rcases hi with rfl | rfl
  · obtain ⟨w', e, g1, g2, g3⟩ := sp_cof h h0 hs hz q0
    refine ⟨w', e, cOK_of g1 (fun κ i k z => ?_) g3 (q1.same g1 fun κ i k a b => ?_), g1, g2⟩
    · unfold KP at z
      unfold KS
      omega
    · unfold KP at *
      omega
  · obtain ⟨w', e, g1, g2, g3⟩ := sp_cof h h0 hs hz q1
    refine ⟨w', e, cOK_of g1 (fun κ i k z => ?_) (q0.same g1 fun κ i k a b => ?_) g3, g1, g2⟩
    · unfold KP at z
      unfold KS
      omega
    · unfold KP at *
      omega
theorem c_found (hC : RelC A w) (hA : wfA A) (hX : aX A = some X) : ∃ w', f_X1_found w = some ((), w') ∧ cOK w w' ∧ pCP w' 0 1 (aT A).1 (aT A).2.1 (aT A).2.2.1 := by
  obtain ⟨hwX, w1, w2, w3, w4, w5⟩ := hA.x hX
  obtain ⟨r1, r2, -, -⟩ := hC.now hX
  obtain ⟨w', e, g1, g2, g3⟩ := c_of (Or.inl rfl) hC r1 w1 w3 w4
  refine ⟨w', ?_, g1, g3⟩
  rw [f_X1_found, jlt_eq, r2]
  show jcb (f_X5_of 0 1 _ w) _ = _
  rw [e]
  rfl
theorem c_kept (hC : RelC A w) (hA : wfA A) (hX : aX A = some X) : ∃ w', f_X8_kept 0 w = some (nI (cK (aT A).1 (aT A).2.1 (aT A).2.2.1), w') ∧ cOK w w' := by
  obtain ⟨hwX, w1, w2, w3, w4, w5⟩ := hA.x hX
  obtain ⟨r1, r2, -, -⟩ := hC.now hX
  obtain ⟨w', e, g1, g2, g3⟩ := c_of (Or.inl rfl) hC r1 w1 w3 w4
  refine ⟨w', ?_, g1⟩
  rw [f_X8_kept, jlt_eq, r2]
  rw [e, jcb_s2, jlt_eq, g3.2.2.1]
/-- what the model finds, anew -/
theorem m_found (hM : RelM A w) (hA : wfA A) (hX : aX A = some X) : ∃ w', f_X9_finds w = some ((), w') ∧ mOK w w' ∧ pMn w' (sI (aT A).1) (aT A).2.1 (nI (aT A).2.2.1) ∧ pMP w' (aT A).1 (aT A).2.1 (aT A).2.2.1 ∧ pMl w' (sI X.1) X.2.1 (nI X.2.2.1) 0 (aT A).1 (aT A).2.1 (aT A).2.2.1 := by
  obtain ⟨hwX, w1, w2, w3, w4, w5⟩ := hA.x hX
  obtain ⟨r1, r2, r3, r4⟩ := hM.xt hX
  have hMn := pRR_Mn r4 (hA.x hX).2
  obtain ⟨w', e, g1, g2, g3, g4⟩ := sp_findsN hMn r2 w1 w3 w4 hM.2.2.2.2.2.2
  have ok : mOK w w' := ⟨g1.mono fun κ i k z => by unfold KMQ; exact Or.inl z, g4⟩
  exact ⟨w', e, ok, pRR_Mn ((hM.ok ok).xt hX).2.2.2 (hA.x hX).2, g2, g3⟩
theorem m_kept (hM : RelM A w) (hA : wfA A) (hX : aX A = some X) : ∃ w', f_X9_keptNow w = some (nI (cK (aT A).1 (aT A).2.1 (aT A).2.2.1), w') ∧ mOK w w' := by
  obtain ⟨w', e, g1, g2, g3, g4⟩ := m_found hM hA hX
  refine ⟨w', ?_, g1⟩
  rw [f_X9_keptNow, e, jcb_s2, jlt_eq, g3.2.1]
end OK
