/-! the pure law: deeds on samples, as such -/
section DEED
variable {s : Nat → Nat} {n z : Nat}
theorem nI_div {x y : Nat} (hx : x < 2 ^ 31) (hy : y < 2 ^ 31) (h0 : 0 < y) : nI x / nI y = nI (x / y) := by
  apply Int32.toInt_inj.mp
  have h1 : x / y ≤ x := Nat.div_le_self x y
  rw [Int32.toInt_div, nI_toInt hx, nI_toInt hy, nI_toInt (by omega)]
  rw [← Int.ofNat_tdiv]
  generalize x / y = d at h1
  exact Int.bmod_eq_of_le (by omega) (by omega)
def dN (x : Int32) : Nat := x.toInt.toNat
theorem dN_nI {k : Nat} (h : k < 2 ^ 31) : dN (nI k) = k := by
  unfold dN
  rw [nI_toInt h]
  rfl
def dMid (a b c : Nat) : Nat := max (min a b) (min (max a b) c)
def dSm (s : Nat → Nat) (n k : Nat) : Nat := (s (k - 1) + 2 * s k + s (min (n - 1) (k + 1))) / 4
def dMe (s : Nat → Nat) (n k : Nat) : Nat := dMid (s (k - 1)) (s k) (s (min (n - 1) (k + 1)))
def dCl (s : Nat → Nat) (c k : Nat) : Nat := min (s k) c
def dLi (s : Nat → Nat) (v : Int) (k : Nat) : Nat := (max 0 (min 999 ((s k : Int) + v))).toNat
def dSc (s : Nat → Nat) (p q k : Nat) : Nat := min 999 (s k * p / q)
def dTu (s : Nat → Nat) (n k : Nat) : Nat := s (n - 1 - k)
def dCu (s : Nat → Nat) (f k : Nat) : Nat := s (f + k)
/-- one peak is flattened: what stands beside its place above its death, one behind another -/
def dLe (s : Nat → Nat) (p low : Nat) : Nat := pCnt (fun j => decide (low < s (p - 1 - j))) p 0
def dRi (s : Nat → Nat) (n p low : Nat) : Nat := pCnt (fun j => decide (low < s j)) (n - (p + 1)) (p + 1)
def dF1 (s : Nat → Nat) (n p low : Nat) (t : Nat → Nat) (q : Nat) : Nat := if p - dLe s p low ≤ q ∧ q ≤ p + dRi s n p low ∧ low < s q then min (t q) low else t q
def dFl (s : Nat → Nat) (n z : Nat) : Nat → Nat := pIt (fun k t => dF1 s n (cP s n k) (cD s n k) t) (cM s n - cK s n z) (cK s n z) s
def dFe (s t : Nat → Nat) (n : Nat) : Nat := pIt (fun m x => x + if t m < s m then 1 else 0) n 0 0
def dDo (q : Nat) (a b : Int32) (T : pT) : pT × Int32 :=
  if q = 0 then ((dSm T.1 T.2.1, T.2), nI (cK (dSm T.1 T.2.1) T.2.1 T.2.2.1))
  else if q = 1 then ((dMe T.1 T.2.1, T.2), nI (cK (dMe T.1 T.2.1) T.2.1 T.2.2.1))
  else if q = 2 then ((dFl T.1 T.2.1 T.2.2.1, T.2), nI (dFe T.1 (dFl T.1 T.2.1 T.2.2.1) T.2.1))
  else if q = 3 then ((dTu T.1 T.2.1, T.2), nI (dTu T.1 T.2.1 0))
  else if q = 4 then ((dCl T.1 (dN a), T.2), nI (dFe T.1 (dCl T.1 (dN a)) T.2.1))
  else if q = 5 then ((dLi T.1 a.toInt, T.2), nI (cMin (dLi T.1 a.toInt) T.2.1))
  else if q = 6 then ((dSc T.1 (dN a) (dN b), T.2), nI (cMax (dSc T.1 (dN a) (dN b)) T.2.1))
  else if q = 7 then ((up T.1 (dN a) (dN b), T.2), nI (T.1 (dN a)))
  else if q = 8 then ((T.1, T.2.1, dN a, T.2.2.2), nI T.2.2.1)
  else ((dCu T.1 (dN a), dN b, T.2.2), nI (T.2.1 - dN b))
def dWhy (q : Nat) (a b : Int32) (n : Nat) : Int32 :=
  if q = 4 ∨ q = 8 then (if 0 ≤ a ∧ a ≤ 999 then -1 else 1)
  else if q = 5 then (if -999 ≤ a ∧ a ≤ 999 then -1 else 1)
  else if q = 6 then (if (0 ≤ a ∧ a ≤ 99) ∧ (1 ≤ b ∧ b ≤ 99) then -1 else 1)
  else if q = 7 then (if 0 ≤ a ∧ a ≤ nI n - 1 then (if 0 ≤ b ∧ b ≤ 999 then -1 else 1) else 0)
  else if q = 9 then (if 0 ≤ a ∧ a ≤ nI n - 1 then (if 1 ≤ b ∧ b ≤ nI n - a then -1 else 1) else 0)
  else -1
/-- beside a peak's place none stands higher -/
theorem cPl_nb (hs : ∀ k, k < n → s k ≤ 999) (h0 : 0 < n) {c q : Nat} (hc : c < cM s n) (hq : q < n) (h : q + 1 = cPl s n c ∨ q = cPl s n c + 1) : s q ≤ s (cPl s n c) := by
  have ho := cO_ord (a := sI s) (n := n)
  have key : ∀ c m (S : pS), m + c = n → pJ (sI s) n (cO (sI s) n) m S → (∀ d, d < S.2.2.2.2.2 → ∀ q, q < n → q + 1 = S.1 d ∨ q = S.1 d + 1 → pAh (sI s) (S.1 d) q = true) → ∀ d, d < (pLets (sI s) n (cO (sI s) n) c m S).2.2.2.2.2 → ∀ q, q < n → q + 1 = (pLets (sI s) n (cO (sI s) n) c m S).1 d ∨ q = (pLets (sI s) n (cO (sI s) n) c m S).1 d + 1 → pAh (sI s) ((pLets (sI s) n (cO (sI s) n) c m S).1 d) q = true := by
    intro c
    induction c with
    | zero => intro m S _ _ h; exact h
    | succ c ih =>
      intro m S hm hJ h
      have hmn : m < n := by omega
      refine ih (m + 1) _ (by omega) (pJ_s ho hmn hJ) ?_
      have hh1 := hJ.1
      obtain ⟨pl, va, de, pa, be, cm⟩ := S
      simp only [] at h hh1
      unfold pLS
      simp only []
      have hp := ho.1 m hmn
      cases hx : (if 0 < cO (sI s) n m then be (cO (sI s) n m - 1) else none) with
      | none =>
        cases hy : (if cO (sI s) n m + 1 < n then be (cO (sI s) n m + 1) else none) with
        | none =>
          intro d hd q hq hqd
          have hd : d < cm + 1 := hd
          by_cases e : d = cm
          · have e1 : up pl cm (cO (sI s) n m) d = cO (sI s) n m := by rw [e, up_same]
            have hqd : q + 1 = up pl cm (cO (sI s) n m) d ∨ q = up pl cm (cO (sI s) n m) d + 1 := hqd
            show pAh (sI s) (up pl cm (cO (sI s) n m) d) q = true
            rw [e1] at hqd ⊢
            have nb : be q = none := by
              rcases hqd with z | z
              · rw [if_pos (by omega)] at hx
                rw [show q = cO (sI s) n m - 1 by omega]; exact hx
              · rw [if_pos (by omega)] at hy
                rw [z]; exact hy
            obtain ⟨k, hk, ek⟩ := ho.2.1 q hq
            rw [← ek]
            refine ho.2.2 m k ?_ hk
            apply Classical.byContradiction
            intro hle
            rcases Nat.lt_or_eq_of_le (Nat.le_of_not_lt hle) with z | z
            · exact (hh1 q hq).mpr ⟨k, z, ek⟩ nb
            · rw [z] at ek
              omega
          · have hqd : q + 1 = up pl cm (cO (sI s) n m) d ∨ q = up pl cm (cO (sI s) n m) d + 1 := hqd
            show pAh (sI s) (up pl cm (cO (sI s) n m) d) q = true
            rw [up_ne e] at hqd ⊢
            exact h d (by omega) q hq hqd
        | some y => exact h
      | some x =>
        cases hy : (if cO (sI s) n m + 1 < n then be (cO (sI s) n m + 1) else none) with
        | none => exact h
        | some y =>
          simp only []
          split
          · exact h
          · exact h
  have := key n 0 (pS0.1, pS0.2.1, pS0.2.2.1, pS0.2.2.2.1, pBe0 n pS0.2.2.2.2.1, 0) (by omega) (pJ_0 (fun q hq => pBe0_lt hq) rfl) (fun d hd => by have hd : d < 0 := hd; omega) c hc q hq h
  exact sI_le hs (cPl_lt h0 hc) hq this
/-- one that does not live at all: nothing beside stands above it -/
theorem dLR_0 (hs : ∀ k, k < n → s k ≤ 999) (h0 : 0 < n) {k : Nat} (hk : k < cM s n) (h : s (cP s n k) ≤ cD s n k) : dLe s (cP s n k) (cD s n k) = 0 ∧ dRi s n (cP s n k) (cD s n k) = 0 := by
  have hp := cP_lt (s := s) h0 hk
  have nb := fun q hq hh => cPl_nb (s := s) hs h0 (cW_lt h0 hk) (q := q) hq hh
  constructor
  · unfold dLe
    cases e : cP s n k with
    | zero => rfl
    | succ p =>
      have := nb p (by omega) (Or.inl e.symm)
      unfold pCnt
      have e2 : p + 1 - 1 - 0 = p := by omega
      have : ¬ cD s n k < s p := by
        have h2 : s p ≤ s (cP s n k) := this
        omega
      rw [e2, if_neg (by simpa using this)]
  · unfold dRi
    cases e : n - (cP s n k + 1) with
    | zero => rfl
    | succ c =>
      have := nb (cP s n k + 1) (by omega) (Or.inr rfl)
      unfold pCnt
      have : ¬ cD s n k < s (cP s n k + 1) := by
        have h2 : s (cP s n k + 1) ≤ s (cP s n k) := this
        omega
      rw [if_neg (by simpa using this)]
theorem pCnt_T {b : Nat → Bool} : ∀ {c m j : Nat}, j < pCnt b c m → b (m + j) = true := by
  intro c
  induction c with
  | zero => intro m j h; exact absurd h (Nat.not_lt_zero _)
  | succ c ih =>
    intro m j h
    unfold pCnt at h
    by_cases e : b m = true
    · rw [if_pos e] at h
      cases j with
      | zero => exact e
      | succ j =>
        have := ih (m := m + 1) (j := j) (by omega)
        rw [show m + 1 + j = m + (j + 1) by omega] at this
        exact this
    · rw [if_neg e] at h
      omega
theorem dLe_le {p low : Nat} : dLe s p low ≤ p := pCnt_le _ _
theorem dRi_le {p low : Nat} (hp : p < n) : p + dRi s n p low < n := by
  have := pCnt_le (b := fun j => decide (low < s j)) (n - (p + 1)) (p + 1)
  unfold dRi
  omega
theorem dLe_T {p low q : Nat} (h1 : p - dLe s p low ≤ q) (h2 : q < p) : low < s q := by
  have := pCnt_T (b := fun j => decide (low < s (p - 1 - j))) (c := p) (m := 0) (j := p - 1 - q) (by
    have := dLe_le (s := s) (p := p) (low := low)
    show p - 1 - q < dLe s p low
    omega)
  simp only [decide_eq_true_eq] at this
  rw [show p - 1 - (0 + (p - 1 - q)) = q by omega] at this
  exact this
theorem dRi_T {p low q : Nat} (h1 : p < q) (h2 : q ≤ p + dRi s n p low) : low < s q := by
  have := pCnt_T (b := fun j => decide (low < s j)) (c := n - (p + 1)) (m := p + 1) (j := q - (p + 1)) (by
    show q - (p + 1) < dRi s n p low
    omega)
  simp only [decide_eq_true_eq] at this
  rw [show p + 1 + (q - (p + 1)) = q by omega] at this
  exact this
theorem dF1_le {p low : Nat} {t : Nat → Nat} (ht : ∀ k, k < n → t k ≤ 999) : ∀ k, k < n → dF1 s n p low t k ≤ 999 := fun k hk => by
  have := ht k hk
  unfold dF1
  split
  · omega
  · exact this
theorem dFl_le (hs : ∀ k, k < n → s k ≤ 999) : ∀ k, k < n → dFl s n z k ≤ 999 := by
  have : ∀ c m (t : Nat → Nat), (∀ k, k < n → t k ≤ 999) → ∀ k, k < n → pIt (fun k t => dF1 s n (cP s n k) (cD s n k) t) c m t k ≤ 999 := by
    intro c
    induction c with
    | zero => intro m t h; exact h
    | succ c ih => intro m t h; exact ih (m + 1) _ (dF1_le h)
  exact this _ _ s hs
theorem dLi_le {v : Int} {k : Nat} : dLi s v k ≤ 999 := by
  unfold dLi
  omega
theorem dDo_wf {q : Nat} {a b : Int32} {T : pT} (hT : wfT T) (hw : dWhy q a b T.2.1 = -1) (hq : q < 10) : wfT (dDo q a b T).1 := by
  obtain ⟨t1, t2, t3, t4, t5⟩ := hT
  have n11 : ¬ ((1 : Int32) = -1) := by decide
  have n01 : ¬ ((0 : Int32) = -1) := by decide
  rcases (show q = 0 ∨ q = 1 ∨ q = 2 ∨ q = 3 ∨ q = 4 ∨ q = 5 ∨ q = 6 ∨ q = 7 ∨ q = 8 ∨ q = 9 by omega) with rfl | rfl | rfl | rfl | rfl | rfl | rfl | rfl | rfl | rfl
  · refine ⟨t1, t2, fun k hk => ?_, t4, t5⟩
    have h1 := t3 (k - 1) (by have : k < T.2.1 := hk; omega)
    have h2 := t3 k hk
    have h3 := t3 (min (T.2.1 - 1) (k + 1)) (by omega)
    show (T.1 (k - 1) + 2 * T.1 k + T.1 (min (T.2.1 - 1) (k + 1))) / 4 ≤ 999
    omega
  · refine ⟨t1, t2, fun k hk => ?_, t4, t5⟩
    have h1 := t3 (k - 1) (by have : k < T.2.1 := hk; omega)
    have h2 := t3 k hk
    have h3 := t3 (min (T.2.1 - 1) (k + 1)) (by omega)
    show max (min (T.1 (k - 1)) (T.1 k)) (min (max (T.1 (k - 1)) (T.1 k)) (T.1 (min (T.2.1 - 1) (k + 1)))) ≤ 999
    omega
  · exact ⟨t1, t2, dFl_le t3, t4, t5⟩
  · refine ⟨t1, t2, fun k hk => ?_, t4, t5⟩
    exact t3 _ (by have : k < T.2.1 := hk; show T.2.1 - 1 - k < T.2.1; omega)
  · refine ⟨t1, t2, fun k hk => ?_, t4, t5⟩
    have := t3 k hk
    show min (T.1 k) _ ≤ 999
    omega
  · exact ⟨t1, t2, fun k hk => dLi_le, t4, t5⟩
  · refine ⟨t1, t2, fun k hk => ?_, t4, t5⟩
    show min 999 _ ≤ 999
    omega
  · unfold dWhy at hw
    simp only [show ¬ (7 = 4 ∨ 7 = 8) by decide, show ¬ (7 = 5) by decide, show ¬ (7 = 6) by decide, if_false, if_true] at hw
    split at hw
    · split at hw
      · rename_i h2
        obtain ⟨v, hv, rfl⟩ := (lit_iff (m := 999) (n := 1000) (by decide) (by decide)).mp h2
        refine ⟨t1, t2, ?_, t4, t5⟩
        show ∀ k, k < T.2.1 → up T.1 (dN a) (dN (nI v)) k ≤ 999
        rw [dN_nI (by omega)]
        intro k hk
        unfold up
        split
        · omega
        · exact t3 k hk
      · exact absurd hw n11
    · exact absurd hw n01
  · unfold dWhy at hw
    rw [if_pos (Or.inr rfl)] at hw
    split at hw
    · rename_i h2
      obtain ⟨v, hv, rfl⟩ := (lit_iff (m := 999) (n := 1000) (by decide) (by decide)).mp h2
      refine ⟨t1, t2, t3, ?_, t5⟩
      show dN (nI v) ≤ 999
      rw [dN_nI (by omega)]
      omega
    · exact absurd hw n11
  · unfold dWhy at hw
    simp only [show ¬ (9 = 4 ∨ 9 = 8) by decide, show ¬ (9 = 5) by decide, show ¬ (9 = 6) by decide, show ¬ (9 = 7) by decide, if_false, if_true] at hw
    split at hw
    · rename_i h1
      obtain ⟨p, hp, rfl⟩ := (rng_iff (by omega)).mp h1
      split at hw
      · rename_i h2
        rw [nI_sub (by omega)] at h2
        obtain ⟨m, m1, m2, rfl⟩ := (rng1_iff (by omega)).mp h2
        refine ⟨?_, ?_, ?_, t4, t5⟩
        · show 0 < dN (nI m)
          rw [dN_nI (by omega)]
          omega
        · show dN (nI m) ≤ 48
          rw [dN_nI (by omega)]
          omega
        · show ∀ k, k < dN (nI m) → T.1 (dN (nI p) + k) ≤ 999
          rw [dN_nI (by omega), dN_nI (by omega)]
          intro k hk
          exact t3 _ (by omega)
      · exact absurd hw n11
    · exact absurd hw n01
end DEED
